/-! the model: queries -/
set_option maxRecDepth 100000
set_option maxHeartbeats 4000000 in
theorem mX4_today (l : Launch) (G : Gt) (m0 : Nat) (sa : Nat) (oa : Nat) (pa : Nat) (la : Nat) (za : Nat) (na : Nat) (gu : Int32) (gt : Int32) (gw : Int32) (gd : Int32) (gm : Int32) (gr : Int32) (gh : Int32) (gv : Int32) (f : Nat → Int32) (B : Bk) (lf : Nat → Int32) (zf : Nat → Int32) (hM : MR f B) (hI : Inv B) : CT l G yX4_today cX4_today 1 (some .int) ({ frames := 1, cells := 0, slots := 0, locals := 12 } : Room) [.ref m0] [(m0, .inr (6, [.ref sa, .ref oa, .ref pa, .ref la, .ref za, .ref na, .int gu, .int gt, .int gw, .int gd, .int gm, .int gr, .int gh, .int gv])), (la, .inl (G.2 0, 200, .inl lf)), (za, .inl (G.2 0, 6, .inl zf))] (fun (A : Nat → Prop) (H : Heap) => roW G A H [(sa, .inl (G.2 0, 830, .inl f))]) (S := Int32 × (Nat → Int32) × (Nat → Int32) × Int32 × Int32 × Int32) (fun (u_ : Int32 × (Nat → Int32) × (Nat → Int32) × Int32 × Int32 × Int32) => some (.int u_.1)) (fun (u_ : Int32 × (Nat → Int32) × (Nat → Int32) × Int32 × Int32 × Int32) => ((q_today B).1 = 0 → u_.1 = (q_today B).2)) (fun (u_ : Int32 × (Nat → Int32) × (Nat → Int32) × Int32 × Int32 × Int32) => [(m0, .inr (6, [.ref sa, .ref oa, .ref pa, .ref la, .ref za, .ref na, .int gu, .int gt, .int gw, .int u_.2.2.2.1, .int u_.2.2.2.2.1, .int u_.2.2.2.2.2, .int (nI ((q_today B).1)), .int gv])), (la, .inl (G.2 0, 200, .inl u_.2.1)), (za, .inl (G.2 0, 6, .inl u_.2.2.1))]) (fun (u_ : Int32 × (Nat → Int32) × (Nat → Int32) × Int32 × Int32 × Int32) (H : Heap) => True) := by
  refine CT.of (by decide) (Nat.le_of_ble_eq_true rfl) ?_
  intro p e s m below meth c ls A H locs h9 hH0 hP hS
  obtain ⟨cf, hr, hlk, hnm, hKB, hE, -, hD, -, hA, hAw, hR0, hl⟩ := h9
  have hx := cf.1
  have hb := cf.2.1
  have hml := cf.2.2.1
  have hown : s.vm.findClass RX4 = some m.cls := cf.2.2.2.1
  have hts := cf.2.2.2.2
  have hK := hKB.1
  have hl : lv_has ls 1 [(0, .ref m0)] := hl
  have iN := iv_sN hI
  have iT := iv_tN hI
  have iD := iv_bD hI
  have iE := iv_bE hI
  have iW := iv_id hI
  refine lv_aload_n hx hb dX4_today_0 rfl (lv_at hl 0 rfl) ?_
  refine lv_iconst (v := nI 0) hx hb dX4_today_1 (by decide) ?_
  refine va_put (v := .int (nI 0)) (ty := .int) hx hb hts in_X4 tyX4 tyX4_ok nmX4 hown hK hP hD hS 0 rfl rfl 12 (by decide) (hts _ q1608) (fun _ h => h) rfl (by decide +kernel) rfl rfl (Nat.le_of_ble_eq_true rfl) dX4_today_2 (fun H locs (hP : va_P G.1 CL [(m0, .inr (6, [.ref sa, .ref oa, .ref pa, .ref la, .ref za, .ref na, .int gu, .int gt, .int gw, .int gd, .int gm, .int gr, .int (nI 0), .int gv])), (la, .inl (G.2 0, 200, .inl lf)), (za, .inl (G.2 0, 6, .inl zf))] H) (hD : va_D A [(m0, .inr (6, [.ref sa, .ref oa, .ref pa, .ref la, .ref za, .ref na, .int gu, .int gt, .int gw, .int gd, .int gm, .int gr, .int (nI 0), .int gv])), (la, .inl (G.2 0, 200, .inl lf)), (za, .inl (G.2 0, 6, .inl zf))]) hS => ?_)
  refine lv_aload_n hx hb dX4_today_5 rfl (lv_at hl 0 rfl) ?_
  refine va_get hx hb hts in_X4 hown hK hP 0 rfl rfl 0 (by decide) (hts _ q1596) (fun _ h => h) rfl dX4_today_6 ?_
  refine lv_iconst (v := nI 0) hx hb dX4_today_9 (by decide) ?_
  refine r_iald (v := nI (bD B)) hx hb hK (hR0.w hS) 0 0 rfl rfl (i := 0) (by omega) (by omega) (hM.today) dX4_today_10 ?_
  have hq9 : q_today B = (0, nI (bD B)) := by unfold q_today; rfl
  have hP : va_P G.1 CL [(m0, .inr (6, [.ref sa, .ref oa, .ref pa, .ref la, .ref za, .ref na, .int gu, .int gt, .int gw, .int gd, .int gm, .int gr, .int (nI ((q_today B).1)), .int gv])), (la, .inl (G.2 0, 200, .inl lf)), (za, .inl (G.2 0, 6, .inl zf))] H := by rw [hq9]; exact hP
  have hD : va_D A [(m0, .inr (6, [.ref sa, .ref oa, .ref pa, .ref la, .ref za, .ref na, .int gu, .int gt, .int gw, .int gd, .int gm, .int gr, .int (nI ((q_today B).1)), .int gv])), (la, .inl (G.2 0, 200, .inl lf)), (za, .inl (G.2 0, 6, .inl zf))] := by rw [hq9]; exact hD
  have hP9 : va_P G.1 CL [(m0, .inr (6, [.ref sa, .ref oa, .ref pa, .ref la, .ref za, .ref na, .int gu, .int gt, .int gw, .int gd, .int gm, .int gr, .int (nI ((q_today B).1)), .int gv])), (la, .inl (G.2 0, 200, .inl lf)), (za, .inl (G.2 0, 6, .inl zf))] H := hP.sub [0, 1, 2] rfl
  have hD9 : va_D A [(m0, .inr (6, [.ref sa, .ref oa, .ref pa, .ref la, .ref za, .ref na, .int gu, .int gt, .int gw, .int gd, .int gm, .int gr, .int (nI ((q_today B).1)), .int gv])), (la, .inl (G.2 0, 200, .inl lf)), (za, .inl (G.2 0, 6, .inl zf))] := hD.sub [0, 1, 2] (by decide) rfl
  exact end_i hx hb hr hlk (rfl) (qc_of ⟨nI (bD B), lf, zf, gd, gm, gr⟩ (v := some (.int (nI (bD B)))) (by rfl) (fun _ => by rw [hq9]) hP9 hD9 (trivial) hS) hS dX4_today_11 (show 0 ≤ 0 from by first | exact Nat.le_refl _ | decide | omega) (show 0 ≤ 0 from by first | exact Nat.le_refl _ | decide | omega)

set_option maxHeartbeats 4000000 in
theorem mX4_testCount (l : Launch) (G : Gt) (m0 : Nat) (sa : Nat) (oa : Nat) (pa : Nat) (la : Nat) (za : Nat) (na : Nat) (gu : Int32) (gt : Int32) (gw : Int32) (gd : Int32) (gm : Int32) (gr : Int32) (gh : Int32) (gv : Int32) (f : Nat → Int32) (B : Bk) (lf : Nat → Int32) (zf : Nat → Int32) (hM : MR f B) (hI : Inv B) : CT l G yX4_testCount cX4_testCount 1 (some .int) ({ frames := 1, cells := 0, slots := 0, locals := 12 } : Room) [.ref m0] [(m0, .inr (6, [.ref sa, .ref oa, .ref pa, .ref la, .ref za, .ref na, .int gu, .int gt, .int gw, .int gd, .int gm, .int gr, .int gh, .int gv])), (la, .inl (G.2 0, 200, .inl lf)), (za, .inl (G.2 0, 6, .inl zf))] (fun (A : Nat → Prop) (H : Heap) => roW G A H [(sa, .inl (G.2 0, 830, .inl f))]) (S := Int32 × (Nat → Int32) × (Nat → Int32) × Int32 × Int32 × Int32) (fun (u_ : Int32 × (Nat → Int32) × (Nat → Int32) × Int32 × Int32 × Int32) => some (.int u_.1)) (fun (u_ : Int32 × (Nat → Int32) × (Nat → Int32) × Int32 × Int32 × Int32) => ((q_testCount B).1 = 0 → u_.1 = (q_testCount B).2)) (fun (u_ : Int32 × (Nat → Int32) × (Nat → Int32) × Int32 × Int32 × Int32) => [(m0, .inr (6, [.ref sa, .ref oa, .ref pa, .ref la, .ref za, .ref na, .int gu, .int gt, .int gw, .int u_.2.2.2.1, .int u_.2.2.2.2.1, .int u_.2.2.2.2.2, .int (nI ((q_testCount B).1)), .int gv])), (la, .inl (G.2 0, 200, .inl u_.2.1)), (za, .inl (G.2 0, 6, .inl u_.2.2.1))]) (fun (u_ : Int32 × (Nat → Int32) × (Nat → Int32) × Int32 × Int32 × Int32) (H : Heap) => True) := by
  refine CT.of (by decide) (Nat.le_of_ble_eq_true rfl) ?_
  intro p e s m below meth c ls A H locs h9 hH0 hP hS
  obtain ⟨cf, hr, hlk, hnm, hKB, hE, -, hD, -, hA, hAw, hR0, hl⟩ := h9
  have hx := cf.1
  have hb := cf.2.1
  have hml := cf.2.2.1
  have hown : s.vm.findClass RX4 = some m.cls := cf.2.2.2.1
  have hts := cf.2.2.2.2
  have hK := hKB.1
  have hl : lv_has ls 1 [(0, .ref m0)] := hl
  have iN := iv_sN hI
  have iT := iv_tN hI
  have iD := iv_bD hI
  have iE := iv_bE hI
  have iW := iv_id hI
  refine lv_aload_n hx hb dX4_testCount_0 rfl (lv_at hl 0 rfl) ?_
  refine lv_iconst (v := nI 0) hx hb dX4_testCount_1 (by decide) ?_
  refine va_put (v := .int (nI 0)) (ty := .int) hx hb hts in_X4 tyX4 tyX4_ok nmX4 hown hK hP hD hS 0 rfl rfl 12 (by decide) (hts _ q1608) (fun _ h => h) rfl (by decide +kernel) rfl rfl (Nat.le_of_ble_eq_true rfl) dX4_testCount_2 (fun H locs (hP : va_P G.1 CL [(m0, .inr (6, [.ref sa, .ref oa, .ref pa, .ref la, .ref za, .ref na, .int gu, .int gt, .int gw, .int gd, .int gm, .int gr, .int (nI 0), .int gv])), (la, .inl (G.2 0, 200, .inl lf)), (za, .inl (G.2 0, 6, .inl zf))] H) (hD : va_D A [(m0, .inr (6, [.ref sa, .ref oa, .ref pa, .ref la, .ref za, .ref na, .int gu, .int gt, .int gw, .int gd, .int gm, .int gr, .int (nI 0), .int gv])), (la, .inl (G.2 0, 200, .inl lf)), (za, .inl (G.2 0, 6, .inl zf))]) hS => ?_)
  refine lv_aload_n hx hb dX4_testCount_5 rfl (lv_at hl 0 rfl) ?_
  refine va_get hx hb hts in_X4 hown hK hP 0 rfl rfl 0 (by decide) (hts _ q1596) (fun _ h => h) rfl dX4_testCount_6 ?_
  refine lv_iconst (v := nI 3) hx hb dX4_testCount_9 (by decide) ?_
  refine r_iald (v := nI (tN B)) hx hb hK (hR0.w hS) 0 0 rfl rfl (i := 3) (by omega) (by omega) (hM.tested) dX4_testCount_10 ?_
  have hq9 : q_testCount B = (0, nI (tN B)) := by unfold q_testCount; rfl
  have hP : va_P G.1 CL [(m0, .inr (6, [.ref sa, .ref oa, .ref pa, .ref la, .ref za, .ref na, .int gu, .int gt, .int gw, .int gd, .int gm, .int gr, .int (nI ((q_testCount B).1)), .int gv])), (la, .inl (G.2 0, 200, .inl lf)), (za, .inl (G.2 0, 6, .inl zf))] H := by rw [hq9]; exact hP
  have hD : va_D A [(m0, .inr (6, [.ref sa, .ref oa, .ref pa, .ref la, .ref za, .ref na, .int gu, .int gt, .int gw, .int gd, .int gm, .int gr, .int (nI ((q_testCount B).1)), .int gv])), (la, .inl (G.2 0, 200, .inl lf)), (za, .inl (G.2 0, 6, .inl zf))] := by rw [hq9]; exact hD
  have hP9 : va_P G.1 CL [(m0, .inr (6, [.ref sa, .ref oa, .ref pa, .ref la, .ref za, .ref na, .int gu, .int gt, .int gw, .int gd, .int gm, .int gr, .int (nI ((q_testCount B).1)), .int gv])), (la, .inl (G.2 0, 200, .inl lf)), (za, .inl (G.2 0, 6, .inl zf))] H := hP.sub [0, 1, 2] rfl
  have hD9 : va_D A [(m0, .inr (6, [.ref sa, .ref oa, .ref pa, .ref la, .ref za, .ref na, .int gu, .int gt, .int gw, .int gd, .int gm, .int gr, .int (nI ((q_testCount B).1)), .int gv])), (la, .inl (G.2 0, 200, .inl lf)), (za, .inl (G.2 0, 6, .inl zf))] := hD.sub [0, 1, 2] (by decide) rfl
  exact end_i hx hb hr hlk (rfl) (qc_of ⟨nI (tN B), lf, zf, gd, gm, gr⟩ (v := some (.int (nI (tN B)))) (by rfl) (fun _ => by rw [hq9]) hP9 hD9 (trivial) hS) hS dX4_testCount_11 (show 0 ≤ 0 from by first | exact Nat.le_refl _ | decide | omega) (show 0 ≤ 0 from by first | exact Nat.le_refl _ | decide | omega)

set_option maxHeartbeats 4000000 in
theorem mX4_sessionCount (l : Launch) (G : Gt) (m0 : Nat) (sa : Nat) (oa : Nat) (pa : Nat) (la : Nat) (za : Nat) (na : Nat) (gu : Int32) (gt : Int32) (gw : Int32) (gd : Int32) (gm : Int32) (gr : Int32) (gh : Int32) (gv : Int32) (f : Nat → Int32) (B : Bk) (lf : Nat → Int32) (zf : Nat → Int32) (hM : MR f B) (hI : Inv B) : CT l G yX4_sessionCount cX4_sessionCount 1 (some .int) ({ frames := 1, cells := 0, slots := 0, locals := 12 } : Room) [.ref m0] [(m0, .inr (6, [.ref sa, .ref oa, .ref pa, .ref la, .ref za, .ref na, .int gu, .int gt, .int gw, .int gd, .int gm, .int gr, .int gh, .int gv])), (la, .inl (G.2 0, 200, .inl lf)), (za, .inl (G.2 0, 6, .inl zf))] (fun (A : Nat → Prop) (H : Heap) => roW G A H [(sa, .inl (G.2 0, 830, .inl f))]) (S := Int32 × (Nat → Int32) × (Nat → Int32) × Int32 × Int32 × Int32) (fun (u_ : Int32 × (Nat → Int32) × (Nat → Int32) × Int32 × Int32 × Int32) => some (.int u_.1)) (fun (u_ : Int32 × (Nat → Int32) × (Nat → Int32) × Int32 × Int32 × Int32) => ((q_sessionCount B).1 = 0 → u_.1 = (q_sessionCount B).2)) (fun (u_ : Int32 × (Nat → Int32) × (Nat → Int32) × Int32 × Int32 × Int32) => [(m0, .inr (6, [.ref sa, .ref oa, .ref pa, .ref la, .ref za, .ref na, .int gu, .int gt, .int gw, .int u_.2.2.2.1, .int u_.2.2.2.2.1, .int u_.2.2.2.2.2, .int (nI ((q_sessionCount B).1)), .int gv])), (la, .inl (G.2 0, 200, .inl u_.2.1)), (za, .inl (G.2 0, 6, .inl u_.2.2.1))]) (fun (u_ : Int32 × (Nat → Int32) × (Nat → Int32) × Int32 × Int32 × Int32) (H : Heap) => True) := by
  refine CT.of (by decide) (Nat.le_of_ble_eq_true rfl) ?_
  intro p e s m below meth c ls A H locs h9 hH0 hP hS
  obtain ⟨cf, hr, hlk, hnm, hKB, hE, -, hD, -, hA, hAw, hR0, hl⟩ := h9
  have hx := cf.1
  have hb := cf.2.1
  have hml := cf.2.2.1
  have hown : s.vm.findClass RX4 = some m.cls := cf.2.2.2.1
  have hts := cf.2.2.2.2
  have hK := hKB.1
  have hl : lv_has ls 1 [(0, .ref m0)] := hl
  have iN := iv_sN hI
  have iT := iv_tN hI
  have iD := iv_bD hI
  have iE := iv_bE hI
  have iW := iv_id hI
  refine lv_aload_n hx hb dX4_sessionCount_0 rfl (lv_at hl 0 rfl) ?_
  refine lv_iconst (v := nI 0) hx hb dX4_sessionCount_1 (by decide) ?_
  refine va_put (v := .int (nI 0)) (ty := .int) hx hb hts in_X4 tyX4 tyX4_ok nmX4 hown hK hP hD hS 0 rfl rfl 12 (by decide) (hts _ q1608) (fun _ h => h) rfl (by decide +kernel) rfl rfl (Nat.le_of_ble_eq_true rfl) dX4_sessionCount_2 (fun H locs (hP : va_P G.1 CL [(m0, .inr (6, [.ref sa, .ref oa, .ref pa, .ref la, .ref za, .ref na, .int gu, .int gt, .int gw, .int gd, .int gm, .int gr, .int (nI 0), .int gv])), (la, .inl (G.2 0, 200, .inl lf)), (za, .inl (G.2 0, 6, .inl zf))] H) (hD : va_D A [(m0, .inr (6, [.ref sa, .ref oa, .ref pa, .ref la, .ref za, .ref na, .int gu, .int gt, .int gw, .int gd, .int gm, .int gr, .int (nI 0), .int gv])), (la, .inl (G.2 0, 200, .inl lf)), (za, .inl (G.2 0, 6, .inl zf))]) hS => ?_)
  refine lv_aload_n hx hb dX4_sessionCount_5 rfl (lv_at hl 0 rfl) ?_
  refine va_get hx hb hts in_X4 hown hK hP 0 rfl rfl 0 (by decide) (hts _ q1596) (fun _ h => h) rfl dX4_sessionCount_6 ?_
  refine lv_iconst (v := nI 2) hx hb dX4_sessionCount_9 (by decide) ?_
  refine r_iald (v := nI (sN B)) hx hb hK (hR0.w hS) 0 0 rfl rfl (i := 2) (by omega) (by omega) (hM.many) dX4_sessionCount_10 ?_
  have hq9 : q_sessionCount B = (0, nI (sN B)) := by unfold q_sessionCount; rfl
  have hP : va_P G.1 CL [(m0, .inr (6, [.ref sa, .ref oa, .ref pa, .ref la, .ref za, .ref na, .int gu, .int gt, .int gw, .int gd, .int gm, .int gr, .int (nI ((q_sessionCount B).1)), .int gv])), (la, .inl (G.2 0, 200, .inl lf)), (za, .inl (G.2 0, 6, .inl zf))] H := by rw [hq9]; exact hP
  have hD : va_D A [(m0, .inr (6, [.ref sa, .ref oa, .ref pa, .ref la, .ref za, .ref na, .int gu, .int gt, .int gw, .int gd, .int gm, .int gr, .int (nI ((q_sessionCount B).1)), .int gv])), (la, .inl (G.2 0, 200, .inl lf)), (za, .inl (G.2 0, 6, .inl zf))] := by rw [hq9]; exact hD
  have hP9 : va_P G.1 CL [(m0, .inr (6, [.ref sa, .ref oa, .ref pa, .ref la, .ref za, .ref na, .int gu, .int gt, .int gw, .int gd, .int gm, .int gr, .int (nI ((q_sessionCount B).1)), .int gv])), (la, .inl (G.2 0, 200, .inl lf)), (za, .inl (G.2 0, 6, .inl zf))] H := hP.sub [0, 1, 2] rfl
  have hD9 : va_D A [(m0, .inr (6, [.ref sa, .ref oa, .ref pa, .ref la, .ref za, .ref na, .int gu, .int gt, .int gw, .int gd, .int gm, .int gr, .int (nI ((q_sessionCount B).1)), .int gv])), (la, .inl (G.2 0, 200, .inl lf)), (za, .inl (G.2 0, 6, .inl zf))] := hD.sub [0, 1, 2] (by decide) rfl
  exact end_i hx hb hr hlk (rfl) (qc_of ⟨nI (sN B), lf, zf, gd, gm, gr⟩ (v := some (.int (nI (sN B)))) (by rfl) (fun _ => by rw [hq9]) hP9 hD9 (trivial) hS) hS dX4_sessionCount_11 (show 0 ≤ 0 from by first | exact Nat.le_refl _ | decide | omega) (show 0 ≤ 0 from by first | exact Nat.le_refl _ | decide | omega)

set_option maxHeartbeats 4000000 in
theorem mX4_thrown (l : Launch) (G : Gt) (m0 : Nat) (sa : Nat) (oa : Nat) (pa : Nat) (la : Nat) (za : Nat) (na : Nat) (gu : Int32) (gt : Int32) (gw : Int32) (gd : Int32) (gm : Int32) (gr : Int32) (gh : Int32) (gv : Int32) : CT l G yX4_thrown cX4_thrown 1 (some .int) ({ frames := 1, cells := 0, slots := 0, locals := 12 } : Room) [.ref m0] [] (fun (A : Nat → Prop) (H : Heap) => roW G A H [(m0, .inr (6, [.ref sa, .ref oa, .ref pa, .ref la, .ref za, .ref na, .int gu, .int gt, .int gw, .int gd, .int gm, .int gr, .int gh, .int gv]))]) (S := Unit) (fun (u_ : Unit) => some (.int gh)) (fun (u_ : Unit) => True) (fun (u_ : Unit) => []) (fun (u_ : Unit) (H : Heap) => True) := by
  refine CT.of (by decide) (Nat.le_of_ble_eq_true rfl) ?_
  intro p e s m below meth c ls A H locs h9 hH0 hP hS
  obtain ⟨cf, hr, hlk, hnm, hKB, hE, -, hD, -, hA, hAw, hR0, hl⟩ := h9
  have hx := cf.1
  have hb := cf.2.1
  have hml := cf.2.2.1
  have hown : s.vm.findClass RX4 = some m.cls := cf.2.2.2.1
  have hts := cf.2.2.2.2
  have hK := hKB.1
  have hl : lv_has ls 1 [(0, .ref m0)] := hl
  refine lv_aload_n hx hb dX4_thrown_0 rfl (lv_at hl 0 rfl) ?_
  refine va_get hx hb hts in_X4 hown hK (hR0.w hS) 0 rfl rfl 12 (by decide) (hts _ q1608) (fun _ h => h) rfl dX4_thrown_1 ?_
  have hP9 : va_P G.1 CL [] H := hP.sub [] rfl
  have hD9 : va_D A [] := hD.sub [] (by decide) rfl
  exact end_i hx hb hr hlk (rfl) (qc_of () (v := some (.int gh)) (by rfl) (trivial) hP9 hD9 (trivial) hS) hS dX4_thrown_4 (show 0 ≤ 0 from by first | exact Nat.le_refl _ | decide | omega) (show 0 ≤ 0 from by first | exact Nat.le_refl _ | decide | omega)

set_option maxHeartbeats 4000000 in
theorem mX4_thresholdOn (l : Launch) (G : Gt) (m0 : Nat) (sa : Nat) (oa : Nat) (pa : Nat) (la : Nat) (za : Nat) (na : Nat) (gu : Int32) (gt : Int32) (gw : Int32) (gd : Int32) (gm : Int32) (gr : Int32) (gh : Int32) (gv : Int32) (f : Nat → Int32) (B : Bk) (lf : Nat → Int32) (zf : Nat → Int32) (v : Int32) (hM : MR f B) (hI : Inv B) : CT l G yX4_thresholdOn cX4_thresholdOn 2 (some .int) ({ frames := 2, cells := 0, slots := 0, locals := 36 } : Room) [.ref m0, .int v] [(m0, .inr (6, [.ref sa, .ref oa, .ref pa, .ref la, .ref za, .ref na, .int gu, .int gt, .int gw, .int gd, .int gm, .int gr, .int gh, .int gv])), (la, .inl (G.2 0, 200, .inl lf)), (za, .inl (G.2 0, 6, .inl zf))] (fun (A : Nat → Prop) (H : Heap) => roW G A H [(sa, .inl (G.2 0, 830, .inl f))]) (S := Int32 × (Nat → Int32) × (Nat → Int32) × Int32 × Int32 × Int32) (fun (u_ : Int32 × (Nat → Int32) × (Nat → Int32) × Int32 × Int32 × Int32) => some (.int u_.1)) (fun (u_ : Int32 × (Nat → Int32) × (Nat → Int32) × Int32 × Int32 × Int32) => ((q_thr B v).1 = 0 → u_.1 = (q_thr B v).2)) (fun (u_ : Int32 × (Nat → Int32) × (Nat → Int32) × Int32 × Int32 × Int32) => [(m0, .inr (6, [.ref sa, .ref oa, .ref pa, .ref la, .ref za, .ref na, .int gu, .int gt, .int gw, .int u_.2.2.2.1, .int u_.2.2.2.2.1, .int u_.2.2.2.2.2, .int (nI ((q_thr B v).1)), .int gv])), (la, .inl (G.2 0, 200, .inl u_.2.1)), (za, .inl (G.2 0, 6, .inl u_.2.2.1))]) (fun (u_ : Int32 × (Nat → Int32) × (Nat → Int32) × Int32 × Int32 × Int32) (H : Heap) => True) := by
  refine CT.of (by decide) (Nat.le_of_ble_eq_true rfl) ?_
  intro p e s m below meth c ls A H locs h9 hH0 hP hS
  obtain ⟨cf, hr, hlk, hnm, hKB, hE, -, hD, -, hA, hAw, hR0, hl⟩ := h9
  have hx := cf.1
  have hb := cf.2.1
  have hml := cf.2.2.1
  have hown : s.vm.findClass RX4 = some m.cls := cf.2.2.2.1
  have hts := cf.2.2.2.2
  have hK := hKB.1
  have hl : lv_has ls 2 [(0, .ref m0), (1, .int v)] := hl
  have iN := iv_sN hI
  have iT := iv_tN hI
  have iD := iv_bD hI
  have iE := iv_bE hI
  have iW := iv_id hI
  refine lv_aload_n hx hb dX4_thresholdOn_0 rfl (lv_at hl 0 rfl) ?_
  refine lv_iload_n hx hb dX4_thresholdOn_1 rfl (lv_at hl 1 rfl) ?_
  refine lv_iconst (v := nI 0) hx hb dX4_thresholdOn_2 (by decide) ?_
  refine lv_sipush (v := nI 199) hx hb dX4_thresholdOn_3 (by decide) ?_
  have hF := hF_of (wc := []) hD hS hA [] rfl
  refine go_ct hS hP hD [] [0, 1, 2] hF rfl rfl (by decide) (by decide)
      (va_runS (As := [.int v, .int (nI 0), .int (nI 199)]) (rest := [.ref m0]) cf (mX4_isIn l G v (nI 0) (nI 199)  H.size) (va_cwS 3 hts (lw_S q1647 q1648 q58 q1649) rfl rfl rfl (by decide +kernel) ⟨Nat.le_of_ble_eq_true rfl, Nat.le_of_ble_eq_true rfl⟩) (preS_of hKB hE hS hF (va_P.sub hP [] rfl) ((va_D.sub hD [] (by decide) rfl).weaken (fun _ _ _ _ => trivial)) trivial) rfl rfl hl.1 rfl (lv_room (Nat.le_of_ble_eq_true rfl)) dX4_thresholdOn_6 ⟨show 0 + 0 ≤ 0 from by first | decide | omega, show 0 + 0 ≤ 0 from by first | decide | omega⟩)
      (fun u_ H locs hq hph (hP : va_P G.1 CL [(m0, .inr (6, [.ref sa, .ref oa, .ref pa, .ref la, .ref za, .ref na, .int gu, .int gt, .int gw, .int gd, .int gm, .int gr, .int gh, .int gv])), (la, .inl (G.2 0, 200, .inl lf)), (za, .inl (G.2 0, 6, .inl zf))] H) (hD : va_D A [(m0, .inr (6, [.ref sa, .ref oa, .ref pa, .ref la, .ref za, .ref na, .int gu, .int gt, .int gw, .int gd, .int gm, .int gr, .int gh, .int gv])), (la, .inl (G.2 0, 200, .inl lf)), (za, .inl (G.2 0, 6, .inl zf))]) hS hfz hfk => ?_)
  obtain ⟨b_171, rfl⟩ : ∃ z, z = u_ := ⟨_, rfl⟩
  have hP : va_P G.1 CL [(m0, .inr (6, [.ref sa, .ref oa, .ref pa, .ref la, .ref za, .ref na, .int gu, .int gt, .int gw, .int gd, .int gm, .int gr, .int gh, .int gv])), (la, .inl (G.2 0, 200, .inl lf)), (za, .inl (G.2 0, 6, .inl zf))] H := hP
  have hD : va_D A [(m0, .inr (6, [.ref sa, .ref oa, .ref pa, .ref la, .ref za, .ref na, .int gu, .int gt, .int gw, .int gd, .int gm, .int gr, .int gh, .int gv])), (la, .inl (G.2 0, 200, .inl lf)), (za, .inl (G.2 0, 6, .inl zf))] := hD
  have hq_172 : (b_171 = true ↔ (nI 0) ≤ v ∧ v ≤ (nI 199)) := hq
  refine W.eq (g2 := F0 m 9 ls [.int (bI b_171), .ref m0]) rfl ?_
  cases b_171
  · refine lv_ton (n := 0) rfl ?_
    have hir_173 : inR v 0 199 = none := inR_none (fun z => absurd (hq_172.mpr z) (by decide))
    refine n_if_ne (tgt := 16) hx hb (by omega) dX4_thresholdOn_9 (by decide) (fun c_174 => absurd c_174 (by omega)) (fun c_174 => ?_)
    refine lv_iconst (v := nI 1) hx hb dX4_thresholdOn_12 (by decide) ?_
    refine lv_goto (tgt := 17) hx hb dX4_thresholdOn_13 (by decide) ?_
    refine lv_iconst (v := nI 1) hx hb dX4_thresholdOn_17 (by decide) ?_
    have hF := hF_of (wc := [(m0, .inr (6, [.ref sa, .ref oa, .ref pa, .ref la, .ref za, .ref na, .int gu, .int gt, .int gw, .int gd, .int gm, .int gr, .int gh, .int gv]))]) hD hS hA [0] rfl
    refine go_ct hS hP hD [0] [1, 2] hF rfl rfl (by decide) (by decide)
        (va_runV (As := [.int (nI 1), .int (nI 1)]) (rest := []) cf (mX4_isThrown_t l G m0 sa oa pa la za na gu gt gw gd gm gr gh gv 1  H.size) (cwV 2 hts (lw_V q1650 q1652 qs20 q58 q1653) rfl rfl rfl (by decide +kernel) ⟨Nat.le_of_ble_eq_true rfl, Nat.le_of_ble_eq_true rfl⟩) (preV_of hKB hE hS hF (va_recv hK hP (ci := 6) (q0 := 0) rfl rfl) (va_P.sub hP [0] rfl) ((va_D.sub hD [0] (by decide) rfl).weaken (fun _ _ _ _ => trivial)) trivial) rfl rfl hl.1 rfl (lv_room (Nat.le_of_ble_eq_true rfl)) dX4_thresholdOn_18 ⟨show 0 + 0 ≤ 0 from by first | decide | omega, show 0 + 0 ≤ 0 from by first | decide | omega⟩)
        (fun u_ H locs hq hph (hP : va_P G.1 CL [(la, .inl (G.2 0, 200, .inl lf)), (za, .inl (G.2 0, 6, .inl zf)), (m0, .inr (6, [.ref sa, .ref oa, .ref pa, .ref la, .ref za, .ref na, .int gu, .int gt, .int gw, .int gd, .int gm, .int gr, .int (nI 1), .int gv]))] H) (hD : va_D A [(la, .inl (G.2 0, 200, .inl lf)), (za, .inl (G.2 0, 6, .inl zf)), (m0, .inr (6, [.ref sa, .ref oa, .ref pa, .ref la, .ref za, .ref na, .int gu, .int gt, .int gw, .int gd, .int gm, .int gr, .int (nI 1), .int gv]))]) hS hfz hfk => ?_)
    refine W.eq (g2 := F0 m 21 ls [.int (nI 1)]) rfl ?_
    refine n_if_eq (tgt := 28) hx hb (by omega) dX4_thresholdOn_21 (by decide) (fun c_175 => absurd c_175 (by omega)) (fun c_175 => ?_)
    refine lv_iconst (v := nI 0) hx hb dX4_thresholdOn_24 (by decide) ?_
    refine lv_goto (tgt := 33) hx hb dX4_thresholdOn_25 (by decide) ?_
    have hq9 : q_thr B v = (1, 0) := by unfold q_thr q1; rw [hir_173] <;> rfl
    have hP : va_P G.1 CL [(la, .inl (G.2 0, 200, .inl lf)), (za, .inl (G.2 0, 6, .inl zf)), (m0, .inr (6, [.ref sa, .ref oa, .ref pa, .ref la, .ref za, .ref na, .int gu, .int gt, .int gw, .int gd, .int gm, .int gr, .int (nI ((q_thr B v).1)), .int gv]))] H := by rw [hq9]; exact hP
    have hD : va_D A [(la, .inl (G.2 0, 200, .inl lf)), (za, .inl (G.2 0, 6, .inl zf)), (m0, .inr (6, [.ref sa, .ref oa, .ref pa, .ref la, .ref za, .ref na, .int gu, .int gt, .int gw, .int gd, .int gm, .int gr, .int (nI ((q_thr B v).1)), .int gv]))] := by rw [hq9]; exact hD
    have hP9 : va_P G.1 CL [(m0, .inr (6, [.ref sa, .ref oa, .ref pa, .ref la, .ref za, .ref na, .int gu, .int gt, .int gw, .int gd, .int gm, .int gr, .int (nI ((q_thr B v).1)), .int gv])), (la, .inl (G.2 0, 200, .inl lf)), (za, .inl (G.2 0, 6, .inl zf))] H := hP.sub [2, 0, 1] rfl
    have hD9 : va_D A [(m0, .inr (6, [.ref sa, .ref oa, .ref pa, .ref la, .ref za, .ref na, .int gu, .int gt, .int gw, .int gd, .int gm, .int gr, .int (nI ((q_thr B v).1)), .int gv])), (la, .inl (G.2 0, 200, .inl lf)), (za, .inl (G.2 0, 6, .inl zf))] := hD.sub [2, 0, 1] (by decide) rfl
    exact end_i hx hb hr hlk (rfl) (qc_of ⟨nI 0, lf, zf, gd, gm, gr⟩ (v := some (.int (nI 0))) (by rfl) (fun h => by rw [hq9] at h; exact absurd h (by decide)) hP9 hD9 (trivial) hS) hS dX4_thresholdOn_33 (show 0 ≤ 0 from by first | exact Nat.le_refl _ | decide | omega) (show 0 ≤ 0 from by first | exact Nat.le_refl _ | decide | omega)
  · refine lv_ton (n := 1) rfl ?_
    have hin_176 : nI 0 ≤ v ∧ v ≤ nI 199 := hq_172.mp rfl
    obtain ⟨d_177, hv_178, h_179, h_180⟩ := in_nat (lo := 0) (hi := 199) (by omega) (by omega) hin_176.1 hin_176.2
    have hir_181 : inR v 0 199 = some d_177 := inR_some hv_178 h_179 h_180 (by omega)
    have hl : lv_has ls 2 [(0, .ref m0), (1, .int (nI d_177))] := by
      have e9 : ((.int (nI d_177)) : Value) = .int v := by rw [hv_178]
      rw [e9]; exact hl
    refine n_if_ne (tgt := 16) hx hb (by omega) dX4_thresholdOn_9 (by decide) (fun c_182 => ?_) (fun c_182 => absurd c_182 (by omega))
    refine lv_iconst (v := nI 0) hx hb dX4_thresholdOn_16 (by decide) ?_
    refine lv_iconst (v := nI 1) hx hb dX4_thresholdOn_17 (by decide) ?_
    have hF := hF_of (wc := [(m0, .inr (6, [.ref sa, .ref oa, .ref pa, .ref la, .ref za, .ref na, .int gu, .int gt, .int gw, .int gd, .int gm, .int gr, .int gh, .int gv]))]) hD hS hA [0] rfl
    refine go_ct hS hP hD [0] [1, 2] hF rfl rfl (by decide) (by decide)
        (va_runV (As := [.int (nI 0), .int (nI 1)]) (rest := []) cf (mX4_isThrown_f l G m0 sa oa pa la za na gu gt gw gd gm gr gh gv 1  H.size) (cwV 2 hts (lw_V q1650 q1652 qs20 q58 q1653) rfl rfl rfl (by decide +kernel) ⟨Nat.le_of_ble_eq_true rfl, Nat.le_of_ble_eq_true rfl⟩) (preV_of hKB hE hS hF (va_recv hK hP (ci := 6) (q0 := 0) rfl rfl) (va_P.sub hP [0] rfl) ((va_D.sub hD [0] (by decide) rfl).weaken (fun _ _ _ _ => trivial)) trivial) rfl rfl hl.1 rfl (lv_room (Nat.le_of_ble_eq_true rfl)) dX4_thresholdOn_18 ⟨show 0 + 0 ≤ 0 from by first | decide | omega, show 0 + 0 ≤ 0 from by first | decide | omega⟩)
        (fun u_ H locs hq hph (hP : va_P G.1 CL [(la, .inl (G.2 0, 200, .inl lf)), (za, .inl (G.2 0, 6, .inl zf)), (m0, .inr (6, [.ref sa, .ref oa, .ref pa, .ref la, .ref za, .ref na, .int gu, .int gt, .int gw, .int gd, .int gm, .int gr, .int (nI 0), .int gv]))] H) (hD : va_D A [(la, .inl (G.2 0, 200, .inl lf)), (za, .inl (G.2 0, 6, .inl zf)), (m0, .inr (6, [.ref sa, .ref oa, .ref pa, .ref la, .ref za, .ref na, .int gu, .int gt, .int gw, .int gd, .int gm, .int gr, .int (nI 0), .int gv]))]) hS hfz hfk => ?_)
    refine W.eq (g2 := F0 m 21 ls [.int (nI 0)]) rfl ?_
    refine n_if_eq (tgt := 28) hx hb (by omega) dX4_thresholdOn_21 (by decide) (fun c_183 => ?_) (fun c_183 => absurd c_183 (by omega))
    refine lv_aload_n hx hb dX4_thresholdOn_28 rfl (lv_at hl 0 rfl) ?_
    refine lv_iload_n hx hb dX4_thresholdOn_29 rfl (lv_at hl 1 rfl) ?_
    have hF := hF_of (wc := []) hD hS hA [] rfl
    have hro_184 : va_P G.1 CL [(m0, .inr (6, [.ref sa, .ref oa, .ref pa, .ref la, .ref za, .ref na, .int gu, .int gt, .int gw, .int gd, .int gm, .int gr, .int (nI 0), .int gv])), (sa, .inl (G.2 0, 830, .inl f))] H := ((va_P.sub hP [2] rfl).app ((hR0.w hS).sub [0] rfl))
    refine go_ct hS hP hD [] [0, 1, 2] hF rfl rfl (by decide) (by decide)
        (va_runV (As := [.int (nI d_177)]) (rest := []) cf (mX4_threshold l G m0 sa oa pa la za na gu gt gw gd gm gr (nI 0) gv f B d_177 (show MR f B from by first | assumption | omega) (show Inv B from by first | assumption | omega) (show d_177 ≤ 2000 from by first | assumption | omega) H.size) (cwV 1 hts (lw_V q1695 q1697 qs29 q58 q1698) rfl rfl rfl (by decide +kernel) ⟨Nat.le_of_ble_eq_true rfl, Nat.le_of_ble_eq_true rfl⟩) (preV_of hKB hE hS hF (va_recv hK hP (ci := 6) (q0 := 2) rfl rfl) (va_P.sub hP [] rfl) ((va_D.sub hD [] (by decide) rfl).weaken (fun _ _ _ _ => trivial)) (roW.nil hro_184)) rfl rfl hl.1 rfl (lv_room (Nat.le_of_ble_eq_true rfl)) dX4_thresholdOn_30 ⟨show 0 + 0 ≤ 0 from by first | decide | omega, show 0 + 0 ≤ 0 from by first | decide | omega⟩)
        (fun u_ H locs hq hph (hP : va_P G.1 CL [(la, .inl (G.2 0, 200, .inl lf)), (za, .inl (G.2 0, 6, .inl zf)), (m0, .inr (6, [.ref sa, .ref oa, .ref pa, .ref la, .ref za, .ref na, .int gu, .int gt, .int gw, .int gd, .int gm, .int gr, .int (nI 0), .int gv]))] H) (hD : va_D A [(la, .inl (G.2 0, 200, .inl lf)), (za, .inl (G.2 0, 6, .inl zf)), (m0, .inr (6, [.ref sa, .ref oa, .ref pa, .ref la, .ref za, .ref na, .int gu, .int gt, .int gw, .int gd, .int gm, .int gr, .int (nI 0), .int gv]))]) hS hfz hfk => ?_)
    refine W.eq (g2 := F0 m 33 ls [.int (nI (thr B d_177))]) rfl ?_
    have hq9 : q_thr B v = (0, nI (thr B d_177)) := by unfold q_thr q1; rw [hir_181] <;> rfl
    have hP : va_P G.1 CL [(la, .inl (G.2 0, 200, .inl lf)), (za, .inl (G.2 0, 6, .inl zf)), (m0, .inr (6, [.ref sa, .ref oa, .ref pa, .ref la, .ref za, .ref na, .int gu, .int gt, .int gw, .int gd, .int gm, .int gr, .int (nI ((q_thr B v).1)), .int gv]))] H := by rw [hq9]; exact hP
    have hD : va_D A [(la, .inl (G.2 0, 200, .inl lf)), (za, .inl (G.2 0, 6, .inl zf)), (m0, .inr (6, [.ref sa, .ref oa, .ref pa, .ref la, .ref za, .ref na, .int gu, .int gt, .int gw, .int gd, .int gm, .int gr, .int (nI ((q_thr B v).1)), .int gv]))] := by rw [hq9]; exact hD
    have hP9 : va_P G.1 CL [(m0, .inr (6, [.ref sa, .ref oa, .ref pa, .ref la, .ref za, .ref na, .int gu, .int gt, .int gw, .int gd, .int gm, .int gr, .int (nI ((q_thr B v).1)), .int gv])), (la, .inl (G.2 0, 200, .inl lf)), (za, .inl (G.2 0, 6, .inl zf))] H := hP.sub [2, 0, 1] rfl
    have hD9 : va_D A [(m0, .inr (6, [.ref sa, .ref oa, .ref pa, .ref la, .ref za, .ref na, .int gu, .int gt, .int gw, .int gd, .int gm, .int gr, .int (nI ((q_thr B v).1)), .int gv])), (la, .inl (G.2 0, 200, .inl lf)), (za, .inl (G.2 0, 6, .inl zf))] := hD.sub [2, 0, 1] (by decide) rfl
    exact end_i hx hb hr hlk (rfl) (qc_of ⟨nI (thr B d_177), lf, zf, gd, gm, gr⟩ (v := some (.int (nI (thr B d_177)))) (by rfl) (fun _ => by rw [hq9]) hP9 hD9 (trivial) hS) hS dX4_thresholdOn_33 (show 0 ≤ 0 from by first | exact Nat.le_refl _ | decide | omega) (show 0 ≤ 0 from by first | exact Nat.le_refl _ | decide | omega)

set_option maxHeartbeats 4000000 in
theorem mX4_boundOf (l : Launch) (G : Gt) (m0 : Nat) (sa : Nat) (oa : Nat) (pa : Nat) (la : Nat) (za : Nat) (na : Nat) (gu : Int32) (gt : Int32) (gw : Int32) (gd : Int32) (gm : Int32) (gr : Int32) (gh : Int32) (gv : Int32) (f : Nat → Int32) (B : Bk) (lf : Nat → Int32) (zf : Nat → Int32) (v : Int32) (hM : MR f B) (hI : Inv B) : CT l G yX4_boundOf cX4_boundOf 2 (some .int) ({ frames := 2, cells := 0, slots := 0, locals := 34 } : Room) [.ref m0, .int v] [(m0, .inr (6, [.ref sa, .ref oa, .ref pa, .ref la, .ref za, .ref na, .int gu, .int gt, .int gw, .int gd, .int gm, .int gr, .int gh, .int gv])), (la, .inl (G.2 0, 200, .inl lf)), (za, .inl (G.2 0, 6, .inl zf))] (fun (A : Nat → Prop) (H : Heap) => roW G A H [(sa, .inl (G.2 0, 830, .inl f))]) (S := Int32 × (Nat → Int32) × (Nat → Int32) × Int32 × Int32 × Int32) (fun (u_ : Int32 × (Nat → Int32) × (Nat → Int32) × Int32 × Int32 × Int32) => some (.int u_.1)) (fun (u_ : Int32 × (Nat → Int32) × (Nat → Int32) × Int32 × Int32 × Int32) => ((q_bound B v).1 = 0 → u_.1 = (q_bound B v).2)) (fun (u_ : Int32 × (Nat → Int32) × (Nat → Int32) × Int32 × Int32 × Int32) => [(m0, .inr (6, [.ref sa, .ref oa, .ref pa, .ref la, .ref za, .ref na, .int gu, .int gt, .int gw, .int u_.2.2.2.1, .int u_.2.2.2.2.1, .int u_.2.2.2.2.2, .int (nI ((q_bound B v).1)), .int gv])), (la, .inl (G.2 0, 200, .inl u_.2.1)), (za, .inl (G.2 0, 6, .inl u_.2.2.1))]) (fun (u_ : Int32 × (Nat → Int32) × (Nat → Int32) × Int32 × Int32 × Int32) (H : Heap) => True) := by
  refine CT.of (by decide) (Nat.le_of_ble_eq_true rfl) ?_
  intro p e s m below meth c ls A H locs h9 hH0 hP hS
  obtain ⟨cf, hr, hlk, hnm, hKB, hE, -, hD, -, hA, hAw, hR0, hl⟩ := h9
  have hx := cf.1
  have hb := cf.2.1
  have hml := cf.2.2.1
  have hown : s.vm.findClass RX4 = some m.cls := cf.2.2.2.1
  have hts := cf.2.2.2.2
  have hK := hKB.1
  have hl : lv_has ls 2 [(0, .ref m0), (1, .int v)] := hl
  have iN := iv_sN hI
  have iT := iv_tN hI
  have iD := iv_bD hI
  have iE := iv_bE hI
  have iW := iv_id hI
  refine lv_aload_n hx hb dX4_boundOf_0 rfl (lv_at hl 0 rfl) ?_
  refine lv_iload_n hx hb dX4_boundOf_1 rfl (lv_at hl 1 rfl) ?_
  refine lv_iconst (v := nI 2) hx hb dX4_boundOf_2 (by decide) ?_
  refine lv_iconst (v := nI 5) hx hb dX4_boundOf_3 (by decide) ?_
  have hF := hF_of (wc := []) hD hS hA [] rfl
  refine go_ct hS hP hD [] [0, 1, 2] hF rfl rfl (by decide) (by decide)
      (va_runS (As := [.int v, .int (nI 2), .int (nI 5)]) (rest := [.ref m0]) cf (mX4_isIn l G v (nI 2) (nI 5)  H.size) (va_cwS 3 hts (lw_S q1647 q1648 q58 q1649) rfl rfl rfl (by decide +kernel) ⟨Nat.le_of_ble_eq_true rfl, Nat.le_of_ble_eq_true rfl⟩) (preS_of hKB hE hS hF (va_P.sub hP [] rfl) ((va_D.sub hD [] (by decide) rfl).weaken (fun _ _ _ _ => trivial)) trivial) rfl rfl hl.1 rfl (lv_room (Nat.le_of_ble_eq_true rfl)) dX4_boundOf_4 ⟨show 0 + 0 ≤ 0 from by first | decide | omega, show 0 + 0 ≤ 0 from by first | decide | omega⟩)
      (fun u_ H locs hq hph (hP : va_P G.1 CL [(m0, .inr (6, [.ref sa, .ref oa, .ref pa, .ref la, .ref za, .ref na, .int gu, .int gt, .int gw, .int gd, .int gm, .int gr, .int gh, .int gv])), (la, .inl (G.2 0, 200, .inl lf)), (za, .inl (G.2 0, 6, .inl zf))] H) (hD : va_D A [(m0, .inr (6, [.ref sa, .ref oa, .ref pa, .ref la, .ref za, .ref na, .int gu, .int gt, .int gw, .int gd, .int gm, .int gr, .int gh, .int gv])), (la, .inl (G.2 0, 200, .inl lf)), (za, .inl (G.2 0, 6, .inl zf))]) hS hfz hfk => ?_)
  obtain ⟨b_185, rfl⟩ : ∃ z, z = u_ := ⟨_, rfl⟩
  have hP : va_P G.1 CL [(m0, .inr (6, [.ref sa, .ref oa, .ref pa, .ref la, .ref za, .ref na, .int gu, .int gt, .int gw, .int gd, .int gm, .int gr, .int gh, .int gv])), (la, .inl (G.2 0, 200, .inl lf)), (za, .inl (G.2 0, 6, .inl zf))] H := hP
  have hD : va_D A [(m0, .inr (6, [.ref sa, .ref oa, .ref pa, .ref la, .ref za, .ref na, .int gu, .int gt, .int gw, .int gd, .int gm, .int gr, .int gh, .int gv])), (la, .inl (G.2 0, 200, .inl lf)), (za, .inl (G.2 0, 6, .inl zf))] := hD
  have hq_186 : (b_185 = true ↔ (nI 2) ≤ v ∧ v ≤ (nI 5)) := hq
  refine W.eq (g2 := F0 m 7 ls [.int (bI b_185), .ref m0]) rfl ?_
  cases b_185
  · refine lv_ton (n := 0) rfl ?_
    have hir_187 : inR v 2 5 = none := inR_none (fun z => absurd (hq_186.mpr z) (by decide))
    refine n_if_ne (tgt := 14) hx hb (by omega) dX4_boundOf_7 (by decide) (fun c_188 => absurd c_188 (by omega)) (fun c_188 => ?_)
    refine lv_iconst (v := nI 1) hx hb dX4_boundOf_10 (by decide) ?_
    refine lv_goto (tgt := 15) hx hb dX4_boundOf_11 (by decide) ?_
    refine lv_iconst (v := nI 1) hx hb dX4_boundOf_15 (by decide) ?_
    have hF := hF_of (wc := [(m0, .inr (6, [.ref sa, .ref oa, .ref pa, .ref la, .ref za, .ref na, .int gu, .int gt, .int gw, .int gd, .int gm, .int gr, .int gh, .int gv]))]) hD hS hA [0] rfl
    refine go_ct hS hP hD [0] [1, 2] hF rfl rfl (by decide) (by decide)
        (va_runV (As := [.int (nI 1), .int (nI 1)]) (rest := []) cf (mX4_isThrown_t l G m0 sa oa pa la za na gu gt gw gd gm gr gh gv 1  H.size) (cwV 2 hts (lw_V q1650 q1652 qs20 q58 q1653) rfl rfl rfl (by decide +kernel) ⟨Nat.le_of_ble_eq_true rfl, Nat.le_of_ble_eq_true rfl⟩) (preV_of hKB hE hS hF (va_recv hK hP (ci := 6) (q0 := 0) rfl rfl) (va_P.sub hP [0] rfl) ((va_D.sub hD [0] (by decide) rfl).weaken (fun _ _ _ _ => trivial)) trivial) rfl rfl hl.1 rfl (lv_room (Nat.le_of_ble_eq_true rfl)) dX4_boundOf_16 ⟨show 0 + 0 ≤ 0 from by first | decide | omega, show 0 + 0 ≤ 0 from by first | decide | omega⟩)
        (fun u_ H locs hq hph (hP : va_P G.1 CL [(la, .inl (G.2 0, 200, .inl lf)), (za, .inl (G.2 0, 6, .inl zf)), (m0, .inr (6, [.ref sa, .ref oa, .ref pa, .ref la, .ref za, .ref na, .int gu, .int gt, .int gw, .int gd, .int gm, .int gr, .int (nI 1), .int gv]))] H) (hD : va_D A [(la, .inl (G.2 0, 200, .inl lf)), (za, .inl (G.2 0, 6, .inl zf)), (m0, .inr (6, [.ref sa, .ref oa, .ref pa, .ref la, .ref za, .ref na, .int gu, .int gt, .int gw, .int gd, .int gm, .int gr, .int (nI 1), .int gv]))]) hS hfz hfk => ?_)
    refine W.eq (g2 := F0 m 19 ls [.int (nI 1)]) rfl ?_
    refine n_if_eq (tgt := 26) hx hb (by omega) dX4_boundOf_19 (by decide) (fun c_189 => absurd c_189 (by omega)) (fun c_189 => ?_)
    refine lv_iconst (v := nI 0) hx hb dX4_boundOf_22 (by decide) ?_
    refine lv_goto (tgt := 35) hx hb dX4_boundOf_23 (by decide) ?_
    have hq9 : q_bound B v = (1, 0) := by unfold q_bound q1; rw [hir_187] <;> rfl
    have hP : va_P G.1 CL [(la, .inl (G.2 0, 200, .inl lf)), (za, .inl (G.2 0, 6, .inl zf)), (m0, .inr (6, [.ref sa, .ref oa, .ref pa, .ref la, .ref za, .ref na, .int gu, .int gt, .int gw, .int gd, .int gm, .int gr, .int (nI ((q_bound B v).1)), .int gv]))] H := by rw [hq9]; exact hP
    have hD : va_D A [(la, .inl (G.2 0, 200, .inl lf)), (za, .inl (G.2 0, 6, .inl zf)), (m0, .inr (6, [.ref sa, .ref oa, .ref pa, .ref la, .ref za, .ref na, .int gu, .int gt, .int gw, .int gd, .int gm, .int gr, .int (nI ((q_bound B v).1)), .int gv]))] := by rw [hq9]; exact hD
    have hP9 : va_P G.1 CL [(m0, .inr (6, [.ref sa, .ref oa, .ref pa, .ref la, .ref za, .ref na, .int gu, .int gt, .int gw, .int gd, .int gm, .int gr, .int (nI ((q_bound B v).1)), .int gv])), (la, .inl (G.2 0, 200, .inl lf)), (za, .inl (G.2 0, 6, .inl zf))] H := hP.sub [2, 0, 1] rfl
    have hD9 : va_D A [(m0, .inr (6, [.ref sa, .ref oa, .ref pa, .ref la, .ref za, .ref na, .int gu, .int gt, .int gw, .int gd, .int gm, .int gr, .int (nI ((q_bound B v).1)), .int gv])), (la, .inl (G.2 0, 200, .inl lf)), (za, .inl (G.2 0, 6, .inl zf))] := hD.sub [2, 0, 1] (by decide) rfl
    exact end_i hx hb hr hlk (rfl) (qc_of ⟨nI 0, lf, zf, gd, gm, gr⟩ (v := some (.int (nI 0))) (by rfl) (fun h => by rw [hq9] at h; exact absurd h (by decide)) hP9 hD9 (trivial) hS) hS dX4_boundOf_35 (show 0 ≤ 0 from by first | exact Nat.le_refl _ | decide | omega) (show 0 ≤ 0 from by first | exact Nat.le_refl _ | decide | omega)
  · refine lv_ton (n := 1) rfl ?_
    have hin_190 : nI 2 ≤ v ∧ v ≤ nI 5 := hq_186.mp rfl
    obtain ⟨d_191, hv_192, h_193, h_194⟩ := in_nat (lo := 2) (hi := 5) (by omega) (by omega) hin_190.1 hin_190.2
    have hir_195 : inR v 2 5 = some d_191 := inR_some hv_192 h_193 h_194 (by omega)
    have hl : lv_has ls 2 [(0, .ref m0), (1, .int (nI d_191))] := by
      have e9 : ((.int (nI d_191)) : Value) = .int v := by rw [hv_192]
      rw [e9]; exact hl
    refine n_if_ne (tgt := 14) hx hb (by omega) dX4_boundOf_7 (by decide) (fun c_196 => ?_) (fun c_196 => absurd c_196 (by omega))
    refine lv_iconst (v := nI 0) hx hb dX4_boundOf_14 (by decide) ?_
    refine lv_iconst (v := nI 1) hx hb dX4_boundOf_15 (by decide) ?_
    have hF := hF_of (wc := [(m0, .inr (6, [.ref sa, .ref oa, .ref pa, .ref la, .ref za, .ref na, .int gu, .int gt, .int gw, .int gd, .int gm, .int gr, .int gh, .int gv]))]) hD hS hA [0] rfl
    refine go_ct hS hP hD [0] [1, 2] hF rfl rfl (by decide) (by decide)
        (va_runV (As := [.int (nI 0), .int (nI 1)]) (rest := []) cf (mX4_isThrown_f l G m0 sa oa pa la za na gu gt gw gd gm gr gh gv 1  H.size) (cwV 2 hts (lw_V q1650 q1652 qs20 q58 q1653) rfl rfl rfl (by decide +kernel) ⟨Nat.le_of_ble_eq_true rfl, Nat.le_of_ble_eq_true rfl⟩) (preV_of hKB hE hS hF (va_recv hK hP (ci := 6) (q0 := 0) rfl rfl) (va_P.sub hP [0] rfl) ((va_D.sub hD [0] (by decide) rfl).weaken (fun _ _ _ _ => trivial)) trivial) rfl rfl hl.1 rfl (lv_room (Nat.le_of_ble_eq_true rfl)) dX4_boundOf_16 ⟨show 0 + 0 ≤ 0 from by first | decide | omega, show 0 + 0 ≤ 0 from by first | decide | omega⟩)
        (fun u_ H locs hq hph (hP : va_P G.1 CL [(la, .inl (G.2 0, 200, .inl lf)), (za, .inl (G.2 0, 6, .inl zf)), (m0, .inr (6, [.ref sa, .ref oa, .ref pa, .ref la, .ref za, .ref na, .int gu, .int gt, .int gw, .int gd, .int gm, .int gr, .int (nI 0), .int gv]))] H) (hD : va_D A [(la, .inl (G.2 0, 200, .inl lf)), (za, .inl (G.2 0, 6, .inl zf)), (m0, .inr (6, [.ref sa, .ref oa, .ref pa, .ref la, .ref za, .ref na, .int gu, .int gt, .int gw, .int gd, .int gm, .int gr, .int (nI 0), .int gv]))]) hS hfz hfk => ?_)
    refine W.eq (g2 := F0 m 19 ls [.int (nI 0)]) rfl ?_
    refine n_if_eq (tgt := 26) hx hb (by omega) dX4_boundOf_19 (by decide) (fun c_197 => ?_) (fun c_197 => absurd c_197 (by omega))
    refine lv_aload_n hx hb dX4_boundOf_26 rfl (lv_at hl 0 rfl) ?_
    refine va_get hx hb hts in_X4 hown hK hP 2 rfl rfl 0 (by decide) (hts _ q1596) (fun _ h => h) rfl dX4_boundOf_27 ?_
    refine lv_bipush (v := nI 8) hx hb dX4_boundOf_30 (by decide) ?_
    refine lv_iload_n hx hb dX4_boundOf_32 rfl (lv_at hl 1 rfl) ?_
    refine lv_iadd hx hb dX4_boundOf_33 ?_
    refine lv_ton (n := d_191 + 8) (nadd (by omega)) ?_
    refine r_iald (v := nI (bB B d_191)) hx hb hK (hR0.w hS) 0 0 rfl rfl (i := d_191 + 8) (by omega) (by omega) (hM.bound (z := d_191) (by omega) (by omega)) dX4_boundOf_34 ?_
    have hq9 : q_bound B v = (0, nI (bB B d_191)) := by unfold q_bound q1; rw [hir_195] <;> rfl
    have hP : va_P G.1 CL [(la, .inl (G.2 0, 200, .inl lf)), (za, .inl (G.2 0, 6, .inl zf)), (m0, .inr (6, [.ref sa, .ref oa, .ref pa, .ref la, .ref za, .ref na, .int gu, .int gt, .int gw, .int gd, .int gm, .int gr, .int (nI ((q_bound B v).1)), .int gv]))] H := by rw [hq9]; exact hP
    have hD : va_D A [(la, .inl (G.2 0, 200, .inl lf)), (za, .inl (G.2 0, 6, .inl zf)), (m0, .inr (6, [.ref sa, .ref oa, .ref pa, .ref la, .ref za, .ref na, .int gu, .int gt, .int gw, .int gd, .int gm, .int gr, .int (nI ((q_bound B v).1)), .int gv]))] := by rw [hq9]; exact hD
    have hP9 : va_P G.1 CL [(m0, .inr (6, [.ref sa, .ref oa, .ref pa, .ref la, .ref za, .ref na, .int gu, .int gt, .int gw, .int gd, .int gm, .int gr, .int (nI ((q_bound B v).1)), .int gv])), (la, .inl (G.2 0, 200, .inl lf)), (za, .inl (G.2 0, 6, .inl zf))] H := hP.sub [2, 0, 1] rfl
    have hD9 : va_D A [(m0, .inr (6, [.ref sa, .ref oa, .ref pa, .ref la, .ref za, .ref na, .int gu, .int gt, .int gw, .int gd, .int gm, .int gr, .int (nI ((q_bound B v).1)), .int gv])), (la, .inl (G.2 0, 200, .inl lf)), (za, .inl (G.2 0, 6, .inl zf))] := hD.sub [2, 0, 1] (by decide) rfl
    exact end_i hx hb hr hlk (rfl) (qc_of ⟨nI (bB B d_191), lf, zf, gd, gm, gr⟩ (v := some (.int (nI (bB B d_191)))) (by rfl) (fun _ => by rw [hq9]) hP9 hD9 (trivial) hS) hS dX4_boundOf_35 (show 0 ≤ 0 from by first | exact Nat.le_refl _ | decide | omega) (show 0 ≤ 0 from by first | exact Nat.le_refl _ | decide | omega)

set_option maxHeartbeats 4000000 in
theorem mX4_weightOf (l : Launch) (G : Gt) (m0 : Nat) (sa : Nat) (oa : Nat) (pa : Nat) (la : Nat) (za : Nat) (na : Nat) (gu : Int32) (gt : Int32) (gw : Int32) (gd : Int32) (gm : Int32) (gr : Int32) (gh : Int32) (gv : Int32) (f : Nat → Int32) (B : Bk) (lf : Nat → Int32) (zf : Nat → Int32) (v : Int32) (hM : MR f B) (hI : Inv B) : CT l G yX4_weightOf cX4_weightOf 2 (some .int) ({ frames := 2, cells := 0, slots := 0, locals := 34 } : Room) [.ref m0, .int v] [(m0, .inr (6, [.ref sa, .ref oa, .ref pa, .ref la, .ref za, .ref na, .int gu, .int gt, .int gw, .int gd, .int gm, .int gr, .int gh, .int gv])), (la, .inl (G.2 0, 200, .inl lf)), (za, .inl (G.2 0, 6, .inl zf))] (fun (A : Nat → Prop) (H : Heap) => roW G A H [(sa, .inl (G.2 0, 830, .inl f))]) (S := Int32 × (Nat → Int32) × (Nat → Int32) × Int32 × Int32 × Int32) (fun (u_ : Int32 × (Nat → Int32) × (Nat → Int32) × Int32 × Int32 × Int32) => some (.int u_.1)) (fun (u_ : Int32 × (Nat → Int32) × (Nat → Int32) × Int32 × Int32 × Int32) => ((q_weight B v).1 = 0 → u_.1 = (q_weight B v).2)) (fun (u_ : Int32 × (Nat → Int32) × (Nat → Int32) × Int32 × Int32 × Int32) => [(m0, .inr (6, [.ref sa, .ref oa, .ref pa, .ref la, .ref za, .ref na, .int gu, .int gt, .int gw, .int u_.2.2.2.1, .int u_.2.2.2.2.1, .int u_.2.2.2.2.2, .int (nI ((q_weight B v).1)), .int gv])), (la, .inl (G.2 0, 200, .inl u_.2.1)), (za, .inl (G.2 0, 6, .inl u_.2.2.1))]) (fun (u_ : Int32 × (Nat → Int32) × (Nat → Int32) × Int32 × Int32 × Int32) (H : Heap) => True) := by
  refine CT.of (by decide) (Nat.le_of_ble_eq_true rfl) ?_
  intro p e s m below meth c ls A H locs h9 hH0 hP hS
  obtain ⟨cf, hr, hlk, hnm, hKB, hE, -, hD, -, hA, hAw, hR0, hl⟩ := h9
  have hx := cf.1
  have hb := cf.2.1
  have hml := cf.2.2.1
  have hown : s.vm.findClass RX4 = some m.cls := cf.2.2.2.1
  have hts := cf.2.2.2.2
  have hK := hKB.1
  have hl : lv_has ls 2 [(0, .ref m0), (1, .int v)] := hl
  have iN := iv_sN hI
  have iT := iv_tN hI
  have iD := iv_bD hI
  have iE := iv_bE hI
  have iW := iv_id hI
  refine lv_aload_n hx hb dX4_weightOf_0 rfl (lv_at hl 0 rfl) ?_
  refine lv_iload_n hx hb dX4_weightOf_1 rfl (lv_at hl 1 rfl) ?_
  refine lv_iconst (v := nI 1) hx hb dX4_weightOf_2 (by decide) ?_
  refine lv_iconst (v := nI 5) hx hb dX4_weightOf_3 (by decide) ?_
  have hF := hF_of (wc := []) hD hS hA [] rfl
  refine go_ct hS hP hD [] [0, 1, 2] hF rfl rfl (by decide) (by decide)
      (va_runS (As := [.int v, .int (nI 1), .int (nI 5)]) (rest := [.ref m0]) cf (mX4_isIn l G v (nI 1) (nI 5)  H.size) (va_cwS 3 hts (lw_S q1647 q1648 q58 q1649) rfl rfl rfl (by decide +kernel) ⟨Nat.le_of_ble_eq_true rfl, Nat.le_of_ble_eq_true rfl⟩) (preS_of hKB hE hS hF (va_P.sub hP [] rfl) ((va_D.sub hD [] (by decide) rfl).weaken (fun _ _ _ _ => trivial)) trivial) rfl rfl hl.1 rfl (lv_room (Nat.le_of_ble_eq_true rfl)) dX4_weightOf_4 ⟨show 0 + 0 ≤ 0 from by first | decide | omega, show 0 + 0 ≤ 0 from by first | decide | omega⟩)
      (fun u_ H locs hq hph (hP : va_P G.1 CL [(m0, .inr (6, [.ref sa, .ref oa, .ref pa, .ref la, .ref za, .ref na, .int gu, .int gt, .int gw, .int gd, .int gm, .int gr, .int gh, .int gv])), (la, .inl (G.2 0, 200, .inl lf)), (za, .inl (G.2 0, 6, .inl zf))] H) (hD : va_D A [(m0, .inr (6, [.ref sa, .ref oa, .ref pa, .ref la, .ref za, .ref na, .int gu, .int gt, .int gw, .int gd, .int gm, .int gr, .int gh, .int gv])), (la, .inl (G.2 0, 200, .inl lf)), (za, .inl (G.2 0, 6, .inl zf))]) hS hfz hfk => ?_)
  obtain ⟨b_198, rfl⟩ : ∃ z, z = u_ := ⟨_, rfl⟩
  have hP : va_P G.1 CL [(m0, .inr (6, [.ref sa, .ref oa, .ref pa, .ref la, .ref za, .ref na, .int gu, .int gt, .int gw, .int gd, .int gm, .int gr, .int gh, .int gv])), (la, .inl (G.2 0, 200, .inl lf)), (za, .inl (G.2 0, 6, .inl zf))] H := hP
  have hD : va_D A [(m0, .inr (6, [.ref sa, .ref oa, .ref pa, .ref la, .ref za, .ref na, .int gu, .int gt, .int gw, .int gd, .int gm, .int gr, .int gh, .int gv])), (la, .inl (G.2 0, 200, .inl lf)), (za, .inl (G.2 0, 6, .inl zf))] := hD
  have hq_199 : (b_198 = true ↔ (nI 1) ≤ v ∧ v ≤ (nI 5)) := hq
  refine W.eq (g2 := F0 m 7 ls [.int (bI b_198), .ref m0]) rfl ?_
  cases b_198
  · refine lv_ton (n := 0) rfl ?_
    have hir_200 : inR v 1 5 = none := inR_none (fun z => absurd (hq_199.mpr z) (by decide))
    refine n_if_ne (tgt := 14) hx hb (by omega) dX4_weightOf_7 (by decide) (fun c_201 => absurd c_201 (by omega)) (fun c_201 => ?_)
    refine lv_iconst (v := nI 1) hx hb dX4_weightOf_10 (by decide) ?_
    refine lv_goto (tgt := 15) hx hb dX4_weightOf_11 (by decide) ?_
    refine lv_iconst (v := nI 1) hx hb dX4_weightOf_15 (by decide) ?_
    have hF := hF_of (wc := [(m0, .inr (6, [.ref sa, .ref oa, .ref pa, .ref la, .ref za, .ref na, .int gu, .int gt, .int gw, .int gd, .int gm, .int gr, .int gh, .int gv]))]) hD hS hA [0] rfl
    refine go_ct hS hP hD [0] [1, 2] hF rfl rfl (by decide) (by decide)
        (va_runV (As := [.int (nI 1), .int (nI 1)]) (rest := []) cf (mX4_isThrown_t l G m0 sa oa pa la za na gu gt gw gd gm gr gh gv 1  H.size) (cwV 2 hts (lw_V q1650 q1652 qs20 q58 q1653) rfl rfl rfl (by decide +kernel) ⟨Nat.le_of_ble_eq_true rfl, Nat.le_of_ble_eq_true rfl⟩) (preV_of hKB hE hS hF (va_recv hK hP (ci := 6) (q0 := 0) rfl rfl) (va_P.sub hP [0] rfl) ((va_D.sub hD [0] (by decide) rfl).weaken (fun _ _ _ _ => trivial)) trivial) rfl rfl hl.1 rfl (lv_room (Nat.le_of_ble_eq_true rfl)) dX4_weightOf_16 ⟨show 0 + 0 ≤ 0 from by first | decide | omega, show 0 + 0 ≤ 0 from by first | decide | omega⟩)
        (fun u_ H locs hq hph (hP : va_P G.1 CL [(la, .inl (G.2 0, 200, .inl lf)), (za, .inl (G.2 0, 6, .inl zf)), (m0, .inr (6, [.ref sa, .ref oa, .ref pa, .ref la, .ref za, .ref na, .int gu, .int gt, .int gw, .int gd, .int gm, .int gr, .int (nI 1), .int gv]))] H) (hD : va_D A [(la, .inl (G.2 0, 200, .inl lf)), (za, .inl (G.2 0, 6, .inl zf)), (m0, .inr (6, [.ref sa, .ref oa, .ref pa, .ref la, .ref za, .ref na, .int gu, .int gt, .int gw, .int gd, .int gm, .int gr, .int (nI 1), .int gv]))]) hS hfz hfk => ?_)
    refine W.eq (g2 := F0 m 19 ls [.int (nI 1)]) rfl ?_
    refine n_if_eq (tgt := 26) hx hb (by omega) dX4_weightOf_19 (by decide) (fun c_202 => absurd c_202 (by omega)) (fun c_202 => ?_)
    refine lv_iconst (v := nI 0) hx hb dX4_weightOf_22 (by decide) ?_
    refine lv_goto (tgt := 35) hx hb dX4_weightOf_23 (by decide) ?_
    have hq9 : q_weight B v = (1, 0) := by unfold q_weight q1; rw [hir_200] <;> rfl
    have hP : va_P G.1 CL [(la, .inl (G.2 0, 200, .inl lf)), (za, .inl (G.2 0, 6, .inl zf)), (m0, .inr (6, [.ref sa, .ref oa, .ref pa, .ref la, .ref za, .ref na, .int gu, .int gt, .int gw, .int gd, .int gm, .int gr, .int (nI ((q_weight B v).1)), .int gv]))] H := by rw [hq9]; exact hP
    have hD : va_D A [(la, .inl (G.2 0, 200, .inl lf)), (za, .inl (G.2 0, 6, .inl zf)), (m0, .inr (6, [.ref sa, .ref oa, .ref pa, .ref la, .ref za, .ref na, .int gu, .int gt, .int gw, .int gd, .int gm, .int gr, .int (nI ((q_weight B v).1)), .int gv]))] := by rw [hq9]; exact hD
    have hP9 : va_P G.1 CL [(m0, .inr (6, [.ref sa, .ref oa, .ref pa, .ref la, .ref za, .ref na, .int gu, .int gt, .int gw, .int gd, .int gm, .int gr, .int (nI ((q_weight B v).1)), .int gv])), (la, .inl (G.2 0, 200, .inl lf)), (za, .inl (G.2 0, 6, .inl zf))] H := hP.sub [2, 0, 1] rfl
    have hD9 : va_D A [(m0, .inr (6, [.ref sa, .ref oa, .ref pa, .ref la, .ref za, .ref na, .int gu, .int gt, .int gw, .int gd, .int gm, .int gr, .int (nI ((q_weight B v).1)), .int gv])), (la, .inl (G.2 0, 200, .inl lf)), (za, .inl (G.2 0, 6, .inl zf))] := hD.sub [2, 0, 1] (by decide) rfl
    exact end_i hx hb hr hlk (rfl) (qc_of ⟨nI 0, lf, zf, gd, gm, gr⟩ (v := some (.int (nI 0))) (by rfl) (fun h => by rw [hq9] at h; exact absurd h (by decide)) hP9 hD9 (trivial) hS) hS dX4_weightOf_35 (show 0 ≤ 0 from by first | exact Nat.le_refl _ | decide | omega) (show 0 ≤ 0 from by first | exact Nat.le_refl _ | decide | omega)
  · refine lv_ton (n := 1) rfl ?_
    have hin_203 : nI 1 ≤ v ∧ v ≤ nI 5 := hq_199.mp rfl
    obtain ⟨d_204, hv_205, h_206, h_207⟩ := in_nat (lo := 1) (hi := 5) (by omega) (by omega) hin_203.1 hin_203.2
    have hir_208 : inR v 1 5 = some d_204 := inR_some hv_205 h_206 h_207 (by omega)
    have hl : lv_has ls 2 [(0, .ref m0), (1, .int (nI d_204))] := by
      have e9 : ((.int (nI d_204)) : Value) = .int v := by rw [hv_205]
      rw [e9]; exact hl
    refine n_if_ne (tgt := 14) hx hb (by omega) dX4_weightOf_7 (by decide) (fun c_209 => ?_) (fun c_209 => absurd c_209 (by omega))
    refine lv_iconst (v := nI 0) hx hb dX4_weightOf_14 (by decide) ?_
    refine lv_iconst (v := nI 1) hx hb dX4_weightOf_15 (by decide) ?_
    have hF := hF_of (wc := [(m0, .inr (6, [.ref sa, .ref oa, .ref pa, .ref la, .ref za, .ref na, .int gu, .int gt, .int gw, .int gd, .int gm, .int gr, .int gh, .int gv]))]) hD hS hA [0] rfl
    refine go_ct hS hP hD [0] [1, 2] hF rfl rfl (by decide) (by decide)
        (va_runV (As := [.int (nI 0), .int (nI 1)]) (rest := []) cf (mX4_isThrown_f l G m0 sa oa pa la za na gu gt gw gd gm gr gh gv 1  H.size) (cwV 2 hts (lw_V q1650 q1652 qs20 q58 q1653) rfl rfl rfl (by decide +kernel) ⟨Nat.le_of_ble_eq_true rfl, Nat.le_of_ble_eq_true rfl⟩) (preV_of hKB hE hS hF (va_recv hK hP (ci := 6) (q0 := 0) rfl rfl) (va_P.sub hP [0] rfl) ((va_D.sub hD [0] (by decide) rfl).weaken (fun _ _ _ _ => trivial)) trivial) rfl rfl hl.1 rfl (lv_room (Nat.le_of_ble_eq_true rfl)) dX4_weightOf_16 ⟨show 0 + 0 ≤ 0 from by first | decide | omega, show 0 + 0 ≤ 0 from by first | decide | omega⟩)
        (fun u_ H locs hq hph (hP : va_P G.1 CL [(la, .inl (G.2 0, 200, .inl lf)), (za, .inl (G.2 0, 6, .inl zf)), (m0, .inr (6, [.ref sa, .ref oa, .ref pa, .ref la, .ref za, .ref na, .int gu, .int gt, .int gw, .int gd, .int gm, .int gr, .int (nI 0), .int gv]))] H) (hD : va_D A [(la, .inl (G.2 0, 200, .inl lf)), (za, .inl (G.2 0, 6, .inl zf)), (m0, .inr (6, [.ref sa, .ref oa, .ref pa, .ref la, .ref za, .ref na, .int gu, .int gt, .int gw, .int gd, .int gm, .int gr, .int (nI 0), .int gv]))]) hS hfz hfk => ?_)
    refine W.eq (g2 := F0 m 19 ls [.int (nI 0)]) rfl ?_
    refine n_if_eq (tgt := 26) hx hb (by omega) dX4_weightOf_19 (by decide) (fun c_210 => ?_) (fun c_210 => absurd c_210 (by omega))
    refine lv_aload_n hx hb dX4_weightOf_26 rfl (lv_at hl 0 rfl) ?_
    refine va_get hx hb hts in_X4 hown hK hP 2 rfl rfl 0 (by decide) (hts _ q1596) (fun _ h => h) rfl dX4_weightOf_27 ?_
    refine lv_bipush (v := nI 14) hx hb dX4_weightOf_30 (by decide) ?_
    refine lv_iload_n hx hb dX4_weightOf_32 rfl (lv_at hl 1 rfl) ?_
    refine lv_iadd hx hb dX4_weightOf_33 ?_
    refine lv_ton (n := d_204 + 14) (nadd (by omega)) ?_
    refine r_iald (v := nI (bW B d_204)) hx hb hK (hR0.w hS) 0 0 rfl rfl (i := d_204 + 14) (by omega) (by omega) (hM.weight (z := d_204) (by omega) (by omega)) dX4_weightOf_34 ?_
    have hq9 : q_weight B v = (0, nI (bW B d_204)) := by unfold q_weight q1; rw [hir_208] <;> rfl
    have hP : va_P G.1 CL [(la, .inl (G.2 0, 200, .inl lf)), (za, .inl (G.2 0, 6, .inl zf)), (m0, .inr (6, [.ref sa, .ref oa, .ref pa, .ref la, .ref za, .ref na, .int gu, .int gt, .int gw, .int gd, .int gm, .int gr, .int (nI ((q_weight B v).1)), .int gv]))] H := by rw [hq9]; exact hP
    have hD : va_D A [(la, .inl (G.2 0, 200, .inl lf)), (za, .inl (G.2 0, 6, .inl zf)), (m0, .inr (6, [.ref sa, .ref oa, .ref pa, .ref la, .ref za, .ref na, .int gu, .int gt, .int gw, .int gd, .int gm, .int gr, .int (nI ((q_weight B v).1)), .int gv]))] := by rw [hq9]; exact hD
    have hP9 : va_P G.1 CL [(m0, .inr (6, [.ref sa, .ref oa, .ref pa, .ref la, .ref za, .ref na, .int gu, .int gt, .int gw, .int gd, .int gm, .int gr, .int (nI ((q_weight B v).1)), .int gv])), (la, .inl (G.2 0, 200, .inl lf)), (za, .inl (G.2 0, 6, .inl zf))] H := hP.sub [2, 0, 1] rfl
    have hD9 : va_D A [(m0, .inr (6, [.ref sa, .ref oa, .ref pa, .ref la, .ref za, .ref na, .int gu, .int gt, .int gw, .int gd, .int gm, .int gr, .int (nI ((q_weight B v).1)), .int gv])), (la, .inl (G.2 0, 200, .inl lf)), (za, .inl (G.2 0, 6, .inl zf))] := hD.sub [2, 0, 1] (by decide) rfl
    exact end_i hx hb hr hlk (rfl) (qc_of ⟨nI (bW B d_204), lf, zf, gd, gm, gr⟩ (v := some (.int (nI (bW B d_204)))) (by rfl) (fun _ => by rw [hq9]) hP9 hD9 (trivial) hS) hS dX4_weightOf_35 (show 0 ≤ 0 from by first | exact Nat.le_refl _ | decide | omega) (show 0 ≤ 0 from by first | exact Nat.le_refl _ | decide | omega)

set_option maxHeartbeats 4000000 in
theorem mX4_zoneOf (l : Launch) (G : Gt) (m0 : Nat) (sa : Nat) (oa : Nat) (pa : Nat) (la : Nat) (za : Nat) (na : Nat) (gu : Int32) (gt : Int32) (gw : Int32) (gd : Int32) (gm : Int32) (gr : Int32) (gh : Int32) (gv : Int32) (f : Nat → Int32) (B : Bk) (lf : Nat → Int32) (zf : Nat → Int32) (v : Int32) (w : Int32) (hM : MR f B) (hI : Inv B) : CT l G yX4_zoneOf cX4_zoneOf 3 (some .int) ({ frames := 3, cells := 0, slots := 0, locals := 61 } : Room) [.ref m0, .int v, .int w] [(m0, .inr (6, [.ref sa, .ref oa, .ref pa, .ref la, .ref za, .ref na, .int gu, .int gt, .int gw, .int gd, .int gm, .int gr, .int gh, .int gv])), (la, .inl (G.2 0, 200, .inl lf)), (za, .inl (G.2 0, 6, .inl zf))] (fun (A : Nat → Prop) (H : Heap) => roW G A H [(sa, .inl (G.2 0, 830, .inl f))]) (S := Int32 × (Nat → Int32) × (Nat → Int32) × Int32 × Int32 × Int32) (fun (u_ : Int32 × (Nat → Int32) × (Nat → Int32) × Int32 × Int32 × Int32) => some (.int u_.1)) (fun (u_ : Int32 × (Nat → Int32) × (Nat → Int32) × Int32 × Int32 × Int32) => ((q_zone B v w).1 = 0 → u_.1 = (q_zone B v w).2)) (fun (u_ : Int32 × (Nat → Int32) × (Nat → Int32) × Int32 × Int32 × Int32) => [(m0, .inr (6, [.ref sa, .ref oa, .ref pa, .ref la, .ref za, .ref na, .int gu, .int gt, .int gw, .int u_.2.2.2.1, .int u_.2.2.2.2.1, .int u_.2.2.2.2.2, .int (nI ((q_zone B v w).1)), .int gv])), (la, .inl (G.2 0, 200, .inl u_.2.1)), (za, .inl (G.2 0, 6, .inl u_.2.2.1))]) (fun (u_ : Int32 × (Nat → Int32) × (Nat → Int32) × Int32 × Int32 × Int32) (H : Heap) => True) := by
  refine CT.of (by decide) (Nat.le_of_ble_eq_true rfl) ?_
  intro p e s m below meth c ls A H locs h9 hH0 hP hS
  obtain ⟨cf, hr, hlk, hnm, hKB, hE, -, hD, -, hA, hAw, hR0, hl⟩ := h9
  have hx := cf.1
  have hb := cf.2.1
  have hml := cf.2.2.1
  have hown : s.vm.findClass RX4 = some m.cls := cf.2.2.2.1
  have hts := cf.2.2.2.2
  have hK := hKB.1
  have hl : lv_has ls 3 [(0, .ref m0), (1, .int v), (2, .int w)] := hl
  have iN := iv_sN hI
  have iT := iv_tN hI
  have iD := iv_bD hI
  have iE := iv_bE hI
  have iW := iv_id hI
  refine lv_aload_n hx hb dX4_zoneOf_0 rfl (lv_at hl 0 rfl) ?_
  refine lv_iload_n hx hb dX4_zoneOf_1 rfl (lv_at hl 1 rfl) ?_
  refine lv_iconst (v := nI 0) hx hb dX4_zoneOf_2 (by decide) ?_
  refine lv_sipush (v := nI 199) hx hb dX4_zoneOf_3 (by decide) ?_
  have hF := hF_of (wc := []) hD hS hA [] rfl
  refine go_ct hS hP hD [] [0, 1, 2] hF rfl rfl (by decide) (by decide)
      (va_runS (As := [.int v, .int (nI 0), .int (nI 199)]) (rest := [.ref m0]) cf (mX4_isIn l G v (nI 0) (nI 199)  H.size) (va_cwS 3 hts (lw_S q1647 q1648 q58 q1649) rfl rfl rfl (by decide +kernel) ⟨Nat.le_of_ble_eq_true rfl, Nat.le_of_ble_eq_true rfl⟩) (preS_of hKB hE hS hF (va_P.sub hP [] rfl) ((va_D.sub hD [] (by decide) rfl).weaken (fun _ _ _ _ => trivial)) trivial) rfl rfl hl.1 rfl (lv_room (Nat.le_of_ble_eq_true rfl)) dX4_zoneOf_6 ⟨show 0 + 0 ≤ 0 from by first | decide | omega, show 0 + 0 ≤ 0 from by first | decide | omega⟩)
      (fun u_ H locs hq hph (hP : va_P G.1 CL [(m0, .inr (6, [.ref sa, .ref oa, .ref pa, .ref la, .ref za, .ref na, .int gu, .int gt, .int gw, .int gd, .int gm, .int gr, .int gh, .int gv])), (la, .inl (G.2 0, 200, .inl lf)), (za, .inl (G.2 0, 6, .inl zf))] H) (hD : va_D A [(m0, .inr (6, [.ref sa, .ref oa, .ref pa, .ref la, .ref za, .ref na, .int gu, .int gt, .int gw, .int gd, .int gm, .int gr, .int gh, .int gv])), (la, .inl (G.2 0, 200, .inl lf)), (za, .inl (G.2 0, 6, .inl zf))]) hS hfz hfk => ?_)
  obtain ⟨b_211, rfl⟩ : ∃ z, z = u_ := ⟨_, rfl⟩
  have hP : va_P G.1 CL [(m0, .inr (6, [.ref sa, .ref oa, .ref pa, .ref la, .ref za, .ref na, .int gu, .int gt, .int gw, .int gd, .int gm, .int gr, .int gh, .int gv])), (la, .inl (G.2 0, 200, .inl lf)), (za, .inl (G.2 0, 6, .inl zf))] H := hP
  have hD : va_D A [(m0, .inr (6, [.ref sa, .ref oa, .ref pa, .ref la, .ref za, .ref na, .int gu, .int gt, .int gw, .int gd, .int gm, .int gr, .int gh, .int gv])), (la, .inl (G.2 0, 200, .inl lf)), (za, .inl (G.2 0, 6, .inl zf))] := hD
  have hq_212 : (b_211 = true ↔ (nI 0) ≤ v ∧ v ≤ (nI 199)) := hq
  refine W.eq (g2 := F0 m 9 ls [.int (bI b_211), .ref m0]) rfl ?_
  cases b_211
  · refine lv_ton (n := 0) rfl ?_
    have hir_213 : inR v 0 199 = none := inR_none (fun z => absurd (hq_212.mpr z) (by decide))
    refine n_if_eq (tgt := 23) hx hb (by omega) dX4_zoneOf_9 (by decide) (fun c_214 => ?_) (fun c_214 => absurd c_214 (by omega))
    refine lv_iconst (v := nI 1) hx hb dX4_zoneOf_23 (by decide) ?_
    refine lv_goto (tgt := 28) hx hb dX4_zoneOf_24 (by decide) ?_
    refine lv_iconst (v := nI 1) hx hb dX4_zoneOf_28 (by decide) ?_
    have hF := hF_of (wc := [(m0, .inr (6, [.ref sa, .ref oa, .ref pa, .ref la, .ref za, .ref na, .int gu, .int gt, .int gw, .int gd, .int gm, .int gr, .int gh, .int gv]))]) hD hS hA [0] rfl
    refine go_ct hS hP hD [0] [1, 2] hF rfl rfl (by decide) (by decide)
        (va_runV (As := [.int (nI 1), .int (nI 1)]) (rest := []) cf (mX4_isThrown_t l G m0 sa oa pa la za na gu gt gw gd gm gr gh gv 1  H.size) (cwV 2 hts (lw_V q1650 q1652 qs20 q58 q1653) rfl rfl rfl (by decide +kernel) ⟨Nat.le_of_ble_eq_true rfl, Nat.le_of_ble_eq_true rfl⟩) (preV_of hKB hE hS hF (va_recv hK hP (ci := 6) (q0 := 0) rfl rfl) (va_P.sub hP [0] rfl) ((va_D.sub hD [0] (by decide) rfl).weaken (fun _ _ _ _ => trivial)) trivial) rfl rfl hl.1 rfl (lv_room (Nat.le_of_ble_eq_true rfl)) dX4_zoneOf_29 ⟨show 0 + 0 ≤ 0 from by first | decide | omega, show 0 + 0 ≤ 0 from by first | decide | omega⟩)
        (fun u_ H locs hq hph (hP : va_P G.1 CL [(la, .inl (G.2 0, 200, .inl lf)), (za, .inl (G.2 0, 6, .inl zf)), (m0, .inr (6, [.ref sa, .ref oa, .ref pa, .ref la, .ref za, .ref na, .int gu, .int gt, .int gw, .int gd, .int gm, .int gr, .int (nI 1), .int gv]))] H) (hD : va_D A [(la, .inl (G.2 0, 200, .inl lf)), (za, .inl (G.2 0, 6, .inl zf)), (m0, .inr (6, [.ref sa, .ref oa, .ref pa, .ref la, .ref za, .ref na, .int gu, .int gt, .int gw, .int gd, .int gm, .int gr, .int (nI 1), .int gv]))]) hS hfz hfk => ?_)
    refine W.eq (g2 := F0 m 32 ls [.int (nI 1)]) rfl ?_
    refine n_if_eq (tgt := 39) hx hb (by omega) dX4_zoneOf_32 (by decide) (fun c_215 => absurd c_215 (by omega)) (fun c_215 => ?_)
    refine lv_iconst (v := nI 0) hx hb dX4_zoneOf_35 (by decide) ?_
    refine lv_goto (tgt := 45) hx hb dX4_zoneOf_36 (by decide) ?_
    have hq9 : q_zone B v w = (1, 0) := by unfold q_zone; rw [hir_213] <;> rfl
    have hP : va_P G.1 CL [(la, .inl (G.2 0, 200, .inl lf)), (za, .inl (G.2 0, 6, .inl zf)), (m0, .inr (6, [.ref sa, .ref oa, .ref pa, .ref la, .ref za, .ref na, .int gu, .int gt, .int gw, .int gd, .int gm, .int gr, .int (nI ((q_zone B v w).1)), .int gv]))] H := by rw [hq9]; exact hP
    have hD : va_D A [(la, .inl (G.2 0, 200, .inl lf)), (za, .inl (G.2 0, 6, .inl zf)), (m0, .inr (6, [.ref sa, .ref oa, .ref pa, .ref la, .ref za, .ref na, .int gu, .int gt, .int gw, .int gd, .int gm, .int gr, .int (nI ((q_zone B v w).1)), .int gv]))] := by rw [hq9]; exact hD
    have hP9 : va_P G.1 CL [(m0, .inr (6, [.ref sa, .ref oa, .ref pa, .ref la, .ref za, .ref na, .int gu, .int gt, .int gw, .int gd, .int gm, .int gr, .int (nI ((q_zone B v w).1)), .int gv])), (la, .inl (G.2 0, 200, .inl lf)), (za, .inl (G.2 0, 6, .inl zf))] H := hP.sub [2, 0, 1] rfl
    have hD9 : va_D A [(m0, .inr (6, [.ref sa, .ref oa, .ref pa, .ref la, .ref za, .ref na, .int gu, .int gt, .int gw, .int gd, .int gm, .int gr, .int (nI ((q_zone B v w).1)), .int gv])), (la, .inl (G.2 0, 200, .inl lf)), (za, .inl (G.2 0, 6, .inl zf))] := hD.sub [2, 0, 1] (by decide) rfl
    exact end_i hx hb hr hlk (rfl) (qc_of ⟨nI 0, lf, zf, gd, gm, gr⟩ (v := some (.int (nI 0))) (by rfl) (fun h => by rw [hq9] at h; exact absurd h (by decide)) hP9 hD9 (trivial) hS) hS dX4_zoneOf_45 (show 0 ≤ 0 from by first | exact Nat.le_refl _ | decide | omega) (show 0 ≤ 0 from by first | exact Nat.le_refl _ | decide | omega)
  · refine lv_ton (n := 1) rfl ?_
    have hin_216 : nI 0 ≤ v ∧ v ≤ nI 199 := hq_212.mp rfl
    obtain ⟨d_217, hv_218, h_219, h_220⟩ := in_nat (lo := 0) (hi := 199) (by omega) (by omega) hin_216.1 hin_216.2
    have hir_221 : inR v 0 199 = some d_217 := inR_some hv_218 h_219 h_220 (by omega)
    have hl : lv_has ls 3 [(0, .ref m0), (1, .int (nI d_217)), (2, .int w)] := by
      have e9 : ((.int (nI d_217)) : Value) = .int v := by rw [hv_218]
      rw [e9]; exact hl
    refine n_if_eq (tgt := 23) hx hb (by omega) dX4_zoneOf_9 (by decide) (fun c_222 => absurd c_222 (by omega)) (fun c_222 => ?_)
    refine lv_iload_n hx hb dX4_zoneOf_12 rfl (lv_at hl 2 rfl) ?_
    refine lv_iconst (v := nI 0) hx hb dX4_zoneOf_13 (by decide) ?_
    refine lv_sipush (v := nI 500) hx hb dX4_zoneOf_14 (by decide) ?_
    have hF := hF_of (wc := []) hD hS hA [] rfl
    refine go_ct hS hP hD [] [0, 1, 2] hF rfl rfl (by decide) (by decide)
        (va_runS (As := [.int w, .int (nI 0), .int (nI 500)]) (rest := [.ref m0]) cf (mX4_isIn l G w (nI 0) (nI 500)  H.size) (va_cwS 3 hts (lw_S q1647 q1648 q58 q1649) rfl rfl rfl (by decide +kernel) ⟨Nat.le_of_ble_eq_true rfl, Nat.le_of_ble_eq_true rfl⟩) (preS_of hKB hE hS hF (va_P.sub hP [] rfl) ((va_D.sub hD [] (by decide) rfl).weaken (fun _ _ _ _ => trivial)) trivial) rfl rfl hl.1 rfl (lv_room (Nat.le_of_ble_eq_true rfl)) dX4_zoneOf_17 ⟨show 0 + 0 ≤ 0 from by first | decide | omega, show 0 + 0 ≤ 0 from by first | decide | omega⟩)
        (fun u_ H locs hq hph (hP : va_P G.1 CL [(m0, .inr (6, [.ref sa, .ref oa, .ref pa, .ref la, .ref za, .ref na, .int gu, .int gt, .int gw, .int gd, .int gm, .int gr, .int gh, .int gv])), (la, .inl (G.2 0, 200, .inl lf)), (za, .inl (G.2 0, 6, .inl zf))] H) (hD : va_D A [(m0, .inr (6, [.ref sa, .ref oa, .ref pa, .ref la, .ref za, .ref na, .int gu, .int gt, .int gw, .int gd, .int gm, .int gr, .int gh, .int gv])), (la, .inl (G.2 0, 200, .inl lf)), (za, .inl (G.2 0, 6, .inl zf))]) hS hfz hfk => ?_)
    obtain ⟨b_223, rfl⟩ : ∃ z, z = u_ := ⟨_, rfl⟩
    have hP : va_P G.1 CL [(m0, .inr (6, [.ref sa, .ref oa, .ref pa, .ref la, .ref za, .ref na, .int gu, .int gt, .int gw, .int gd, .int gm, .int gr, .int gh, .int gv])), (la, .inl (G.2 0, 200, .inl lf)), (za, .inl (G.2 0, 6, .inl zf))] H := hP
    have hD : va_D A [(m0, .inr (6, [.ref sa, .ref oa, .ref pa, .ref la, .ref za, .ref na, .int gu, .int gt, .int gw, .int gd, .int gm, .int gr, .int gh, .int gv])), (la, .inl (G.2 0, 200, .inl lf)), (za, .inl (G.2 0, 6, .inl zf))] := hD
    have hq_224 : (b_223 = true ↔ (nI 0) ≤ w ∧ w ≤ (nI 500)) := hq
    refine W.eq (g2 := F0 m 20 ls [.int (bI b_223), .ref m0]) rfl ?_
    cases b_223
    · refine lv_ton (n := 0) rfl ?_
      have hir_225 : inR w 0 500 = none := inR_none (fun z => absurd (hq_224.mpr z) (by decide))
      refine n_if_ne (tgt := 27) hx hb (by omega) dX4_zoneOf_20 (by decide) (fun c_226 => absurd c_226 (by omega)) (fun c_226 => ?_)
      refine lv_iconst (v := nI 1) hx hb dX4_zoneOf_23 (by decide) ?_
      refine lv_goto (tgt := 28) hx hb dX4_zoneOf_24 (by decide) ?_
      refine lv_iconst (v := nI 1) hx hb dX4_zoneOf_28 (by decide) ?_
      have hF := hF_of (wc := [(m0, .inr (6, [.ref sa, .ref oa, .ref pa, .ref la, .ref za, .ref na, .int gu, .int gt, .int gw, .int gd, .int gm, .int gr, .int gh, .int gv]))]) hD hS hA [0] rfl
      refine go_ct hS hP hD [0] [1, 2] hF rfl rfl (by decide) (by decide)
          (va_runV (As := [.int (nI 1), .int (nI 1)]) (rest := []) cf (mX4_isThrown_t l G m0 sa oa pa la za na gu gt gw gd gm gr gh gv 1  H.size) (cwV 2 hts (lw_V q1650 q1652 qs20 q58 q1653) rfl rfl rfl (by decide +kernel) ⟨Nat.le_of_ble_eq_true rfl, Nat.le_of_ble_eq_true rfl⟩) (preV_of hKB hE hS hF (va_recv hK hP (ci := 6) (q0 := 0) rfl rfl) (va_P.sub hP [0] rfl) ((va_D.sub hD [0] (by decide) rfl).weaken (fun _ _ _ _ => trivial)) trivial) rfl rfl hl.1 rfl (lv_room (Nat.le_of_ble_eq_true rfl)) dX4_zoneOf_29 ⟨show 0 + 0 ≤ 0 from by first | decide | omega, show 0 + 0 ≤ 0 from by first | decide | omega⟩)
          (fun u_ H locs hq hph (hP : va_P G.1 CL [(la, .inl (G.2 0, 200, .inl lf)), (za, .inl (G.2 0, 6, .inl zf)), (m0, .inr (6, [.ref sa, .ref oa, .ref pa, .ref la, .ref za, .ref na, .int gu, .int gt, .int gw, .int gd, .int gm, .int gr, .int (nI 1), .int gv]))] H) (hD : va_D A [(la, .inl (G.2 0, 200, .inl lf)), (za, .inl (G.2 0, 6, .inl zf)), (m0, .inr (6, [.ref sa, .ref oa, .ref pa, .ref la, .ref za, .ref na, .int gu, .int gt, .int gw, .int gd, .int gm, .int gr, .int (nI 1), .int gv]))]) hS hfz hfk => ?_)
      refine W.eq (g2 := F0 m 32 ls [.int (nI 1)]) rfl ?_
      refine n_if_eq (tgt := 39) hx hb (by omega) dX4_zoneOf_32 (by decide) (fun c_227 => absurd c_227 (by omega)) (fun c_227 => ?_)
      refine lv_iconst (v := nI 0) hx hb dX4_zoneOf_35 (by decide) ?_
      refine lv_goto (tgt := 45) hx hb dX4_zoneOf_36 (by decide) ?_
      have hq9 : q_zone B v w = (1, 0) := by unfold q_zone; rw [hir_221, hir_225] <;> rfl
      have hP : va_P G.1 CL [(la, .inl (G.2 0, 200, .inl lf)), (za, .inl (G.2 0, 6, .inl zf)), (m0, .inr (6, [.ref sa, .ref oa, .ref pa, .ref la, .ref za, .ref na, .int gu, .int gt, .int gw, .int gd, .int gm, .int gr, .int (nI ((q_zone B v w).1)), .int gv]))] H := by rw [hq9]; exact hP
      have hD : va_D A [(la, .inl (G.2 0, 200, .inl lf)), (za, .inl (G.2 0, 6, .inl zf)), (m0, .inr (6, [.ref sa, .ref oa, .ref pa, .ref la, .ref za, .ref na, .int gu, .int gt, .int gw, .int gd, .int gm, .int gr, .int (nI ((q_zone B v w).1)), .int gv]))] := by rw [hq9]; exact hD
      have hP9 : va_P G.1 CL [(m0, .inr (6, [.ref sa, .ref oa, .ref pa, .ref la, .ref za, .ref na, .int gu, .int gt, .int gw, .int gd, .int gm, .int gr, .int (nI ((q_zone B v w).1)), .int gv])), (la, .inl (G.2 0, 200, .inl lf)), (za, .inl (G.2 0, 6, .inl zf))] H := hP.sub [2, 0, 1] rfl
      have hD9 : va_D A [(m0, .inr (6, [.ref sa, .ref oa, .ref pa, .ref la, .ref za, .ref na, .int gu, .int gt, .int gw, .int gd, .int gm, .int gr, .int (nI ((q_zone B v w).1)), .int gv])), (la, .inl (G.2 0, 200, .inl lf)), (za, .inl (G.2 0, 6, .inl zf))] := hD.sub [2, 0, 1] (by decide) rfl
      exact end_i hx hb hr hlk (rfl) (qc_of ⟨nI 0, lf, zf, gd, gm, gr⟩ (v := some (.int (nI 0))) (by rfl) (fun h => by rw [hq9] at h; exact absurd h (by decide)) hP9 hD9 (trivial) hS) hS dX4_zoneOf_45 (show 0 ≤ 0 from by first | exact Nat.le_refl _ | decide | omega) (show 0 ≤ 0 from by first | exact Nat.le_refl _ | decide | omega)
    · refine lv_ton (n := 1) rfl ?_
      have hin_228 : nI 0 ≤ w ∧ w ≤ nI 500 := hq_224.mp rfl
      obtain ⟨d_229, hv_230, h_231, h_232⟩ := in_nat (lo := 0) (hi := 500) (by omega) (by omega) hin_228.1 hin_228.2
      have hir_233 : inR w 0 500 = some d_229 := inR_some hv_230 h_231 h_232 (by omega)
      have hl : lv_has ls 3 [(0, .ref m0), (1, .int (nI d_217)), (2, .int (nI d_229))] := by
        have e9 : ((.int (nI d_229)) : Value) = .int w := by rw [hv_230]
        rw [e9]; exact hl
      refine n_if_ne (tgt := 27) hx hb (by omega) dX4_zoneOf_20 (by decide) (fun c_234 => ?_) (fun c_234 => absurd c_234 (by omega))
      refine lv_iconst (v := nI 0) hx hb dX4_zoneOf_27 (by decide) ?_
      refine lv_iconst (v := nI 1) hx hb dX4_zoneOf_28 (by decide) ?_
      have hF := hF_of (wc := [(m0, .inr (6, [.ref sa, .ref oa, .ref pa, .ref la, .ref za, .ref na, .int gu, .int gt, .int gw, .int gd, .int gm, .int gr, .int gh, .int gv]))]) hD hS hA [0] rfl
      refine go_ct hS hP hD [0] [1, 2] hF rfl rfl (by decide) (by decide)
          (va_runV (As := [.int (nI 0), .int (nI 1)]) (rest := []) cf (mX4_isThrown_f l G m0 sa oa pa la za na gu gt gw gd gm gr gh gv 1  H.size) (cwV 2 hts (lw_V q1650 q1652 qs20 q58 q1653) rfl rfl rfl (by decide +kernel) ⟨Nat.le_of_ble_eq_true rfl, Nat.le_of_ble_eq_true rfl⟩) (preV_of hKB hE hS hF (va_recv hK hP (ci := 6) (q0 := 0) rfl rfl) (va_P.sub hP [0] rfl) ((va_D.sub hD [0] (by decide) rfl).weaken (fun _ _ _ _ => trivial)) trivial) rfl rfl hl.1 rfl (lv_room (Nat.le_of_ble_eq_true rfl)) dX4_zoneOf_29 ⟨show 0 + 0 ≤ 0 from by first | decide | omega, show 0 + 0 ≤ 0 from by first | decide | omega⟩)
          (fun u_ H locs hq hph (hP : va_P G.1 CL [(la, .inl (G.2 0, 200, .inl lf)), (za, .inl (G.2 0, 6, .inl zf)), (m0, .inr (6, [.ref sa, .ref oa, .ref pa, .ref la, .ref za, .ref na, .int gu, .int gt, .int gw, .int gd, .int gm, .int gr, .int (nI 0), .int gv]))] H) (hD : va_D A [(la, .inl (G.2 0, 200, .inl lf)), (za, .inl (G.2 0, 6, .inl zf)), (m0, .inr (6, [.ref sa, .ref oa, .ref pa, .ref la, .ref za, .ref na, .int gu, .int gt, .int gw, .int gd, .int gm, .int gr, .int (nI 0), .int gv]))]) hS hfz hfk => ?_)
      refine W.eq (g2 := F0 m 32 ls [.int (nI 0)]) rfl ?_
      refine n_if_eq (tgt := 39) hx hb (by omega) dX4_zoneOf_32 (by decide) (fun c_235 => ?_) (fun c_235 => absurd c_235 (by omega))
      refine lv_aload_n hx hb dX4_zoneOf_39 rfl (lv_at hl 0 rfl) ?_
      refine lv_iload_n hx hb dX4_zoneOf_40 rfl (lv_at hl 1 rfl) ?_
      refine lv_iload_n hx hb dX4_zoneOf_41 rfl (lv_at hl 2 rfl) ?_
      have hF := hF_of (wc := []) hD hS hA [] rfl
      have hro_236 : va_P G.1 CL [(m0, .inr (6, [.ref sa, .ref oa, .ref pa, .ref la, .ref za, .ref na, .int gu, .int gt, .int gw, .int gd, .int gm, .int gr, .int (nI 0), .int gv])), (sa, .inl (G.2 0, 830, .inl f))] H := ((va_P.sub hP [2] rfl).app ((hR0.w hS).sub [0] rfl))
      refine go_ct hS hP hD [] [0, 1, 2] hF rfl rfl (by decide) (by decide)
          (va_runV (As := [.int (nI d_217), .int (nI d_229)]) (rest := []) cf (mX4_zone l G m0 sa oa pa la za na gu gt gw gd gm gr (nI 0) gv f B d_217 d_229 (show MR f B from by first | assumption | omega) (show Inv B from by first | assumption | omega) (show d_217 ≤ 2000 from by first | assumption | omega) (show d_229 ≤ 500 from by first | assumption | omega) H.size) (cwV 2 hts (lw_V q1691 q1693 qs28 q58 q1694) rfl rfl rfl (by decide +kernel) ⟨Nat.le_of_ble_eq_true rfl, Nat.le_of_ble_eq_true rfl⟩) (preV_of hKB hE hS hF (va_recv hK hP (ci := 6) (q0 := 2) rfl rfl) (va_P.sub hP [] rfl) ((va_D.sub hD [] (by decide) rfl).weaken (fun _ _ _ _ => trivial)) (roW.nil hro_236)) rfl rfl hl.1 rfl (lv_room (Nat.le_of_ble_eq_true rfl)) dX4_zoneOf_42 ⟨show 0 + 0 ≤ 0 from by first | decide | omega, show 0 + 0 ≤ 0 from by first | decide | omega⟩)
          (fun u_ H locs hq hph (hP : va_P G.1 CL [(la, .inl (G.2 0, 200, .inl lf)), (za, .inl (G.2 0, 6, .inl zf)), (m0, .inr (6, [.ref sa, .ref oa, .ref pa, .ref la, .ref za, .ref na, .int gu, .int gt, .int gw, .int gd, .int gm, .int gr, .int (nI 0), .int gv]))] H) (hD : va_D A [(la, .inl (G.2 0, 200, .inl lf)), (za, .inl (G.2 0, 6, .inl zf)), (m0, .inr (6, [.ref sa, .ref oa, .ref pa, .ref la, .ref za, .ref na, .int gu, .int gt, .int gw, .int gd, .int gm, .int gr, .int (nI 0), .int gv]))]) hS hfz hfk => ?_)
      refine W.eq (g2 := F0 m 45 ls [.int (nI (zoneX B d_217 d_229))]) rfl ?_
      have hq9 : q_zone B v w = (0, nI (zoneX B d_217 d_229)) := by unfold q_zone; rw [hir_221, hir_233] <;> rfl
      have hP : va_P G.1 CL [(la, .inl (G.2 0, 200, .inl lf)), (za, .inl (G.2 0, 6, .inl zf)), (m0, .inr (6, [.ref sa, .ref oa, .ref pa, .ref la, .ref za, .ref na, .int gu, .int gt, .int gw, .int gd, .int gm, .int gr, .int (nI ((q_zone B v w).1)), .int gv]))] H := by rw [hq9]; exact hP
      have hD : va_D A [(la, .inl (G.2 0, 200, .inl lf)), (za, .inl (G.2 0, 6, .inl zf)), (m0, .inr (6, [.ref sa, .ref oa, .ref pa, .ref la, .ref za, .ref na, .int gu, .int gt, .int gw, .int gd, .int gm, .int gr, .int (nI ((q_zone B v w).1)), .int gv]))] := by rw [hq9]; exact hD
      have hP9 : va_P G.1 CL [(m0, .inr (6, [.ref sa, .ref oa, .ref pa, .ref la, .ref za, .ref na, .int gu, .int gt, .int gw, .int gd, .int gm, .int gr, .int (nI ((q_zone B v w).1)), .int gv])), (la, .inl (G.2 0, 200, .inl lf)), (za, .inl (G.2 0, 6, .inl zf))] H := hP.sub [2, 0, 1] rfl
      have hD9 : va_D A [(m0, .inr (6, [.ref sa, .ref oa, .ref pa, .ref la, .ref za, .ref na, .int gu, .int gt, .int gw, .int gd, .int gm, .int gr, .int (nI ((q_zone B v w).1)), .int gv])), (la, .inl (G.2 0, 200, .inl lf)), (za, .inl (G.2 0, 6, .inl zf))] := hD.sub [2, 0, 1] (by decide) rfl
      exact end_i hx hb hr hlk (rfl) (qc_of ⟨nI (zoneX B d_217 d_229), lf, zf, gd, gm, gr⟩ (v := some (.int (nI (zoneX B d_217 d_229)))) (by rfl) (fun _ => by rw [hq9]) hP9 hD9 (trivial) hS) hS dX4_zoneOf_45 (show 0 ≤ 0 from by first | exact Nat.le_refl _ | decide | omega) (show 0 ≤ 0 from by first | exact Nat.le_refl _ | decide | omega)

set_option maxHeartbeats 4000000 in
theorem mX4_sessionAt (l : Launch) (G : Gt) (m0 : Nat) (sa : Nat) (oa : Nat) (pa : Nat) (la : Nat) (za : Nat) (na : Nat) (gu : Int32) (gt : Int32) (gw : Int32) (gd : Int32) (gm : Int32) (gr : Int32) (gh : Int32) (gv : Int32) (f : Nat → Int32) (B : Bk) (lf : Nat → Int32) (zf : Nat → Int32) (v : Int32) (hM : MR f B) (hI : Inv B) (hRk : RkOk B) : CT l G yX4_sessionAt cX4_sessionAt 2 (some .int) ({ frames := 3, cells := 0, slots := 0, locals := 59 } : Room) [.ref m0, .int v] [(m0, .inr (6, [.ref sa, .ref oa, .ref pa, .ref la, .ref za, .ref na, .int gu, .int gt, .int gw, .int gd, .int gm, .int gr, .int gh, .int gv])), (la, .inl (G.2 0, 200, .inl lf)), (za, .inl (G.2 0, 6, .inl zf))] (fun (A : Nat → Prop) (H : Heap) => roW G A H [(sa, .inl (G.2 0, 830, .inl f))]) (S := Int32 × (Nat → Int32) × (Nat → Int32) × Int32 × Int32 × Int32) (fun (u_ : Int32 × (Nat → Int32) × (Nat → Int32) × Int32 × Int32 × Int32) => some (.int u_.1)) (fun (u_ : Int32 × (Nat → Int32) × (Nat → Int32) × Int32 × Int32 × Int32) => ((q_sAt B v).1 = 0 → u_.1 = (q_sAt B v).2)) (fun (u_ : Int32 × (Nat → Int32) × (Nat → Int32) × Int32 × Int32 × Int32) => [(m0, .inr (6, [.ref sa, .ref oa, .ref pa, .ref la, .ref za, .ref na, .int gu, .int gt, .int gw, .int u_.2.2.2.1, .int u_.2.2.2.2.1, .int u_.2.2.2.2.2, .int (nI ((q_sAt B v).1)), .int gv])), (la, .inl (G.2 0, 200, .inl u_.2.1)), (za, .inl (G.2 0, 6, .inl u_.2.2.1))]) (fun (u_ : Int32 × (Nat → Int32) × (Nat → Int32) × Int32 × Int32 × Int32) (H : Heap) => True) := by
  refine CT.of (by decide) (Nat.le_of_ble_eq_true rfl) ?_
  intro p e s m below meth c ls A H locs h9 hH0 hP hS
  obtain ⟨cf, hr, hlk, hnm, hKB, hE, -, hD, -, hA, hAw, hR0, hl⟩ := h9
  have hx := cf.1
  have hb := cf.2.1
  have hml := cf.2.2.1
  have hown : s.vm.findClass RX4 = some m.cls := cf.2.2.2.1
  have hts := cf.2.2.2.2
  have hK := hKB.1
  have hl : lv_has ls 2 [(0, .ref m0), (1, .int v)] := hl
  have iN := iv_sN hI
  have iT := iv_tN hI
  have iD := iv_bD hI
  have iE := iv_bE hI
  have iW := iv_id hI
  refine lv_aload_n hx hb dX4_sessionAt_0 rfl (lv_at hl 0 rfl) ?_
  refine lv_iload_n hx hb dX4_sessionAt_1 rfl (lv_at hl 1 rfl) ?_
  refine lv_iconst (v := nI 0) hx hb dX4_sessionAt_2 (by decide) ?_
  refine lv_aload_n hx hb dX4_sessionAt_3 rfl (lv_at hl 0 rfl) ?_
  refine va_get hx hb hts in_X4 hown hK hP 0 rfl rfl 0 (by decide) (hts _ q1596) (fun _ h => h) rfl dX4_sessionAt_4 ?_
  refine lv_iconst (v := nI 2) hx hb dX4_sessionAt_7 (by decide) ?_
  refine r_iald (v := nI (sN B)) hx hb hK (hR0.w hS) 0 0 rfl rfl (i := 2) (by omega) (by omega) (hM.many) dX4_sessionAt_8 ?_
  refine lv_iconst (v := nI 1) hx hb dX4_sessionAt_9 (by decide) ?_
  refine lv_isub hx hb dX4_sessionAt_10 ?_
  refine lv_toi (y := lI (sN B)) (rfl) ?_
  have hF := hF_of (wc := []) hD hS hA [] rfl
  refine go_ct hS hP hD [] [0, 1, 2] hF rfl rfl (by decide) (by decide)
      (va_runS (As := [.int v, .int (nI 0), .int (lI (sN B))]) (rest := [.ref m0]) cf (mX4_isIn l G v (nI 0) (lI (sN B))  H.size) (va_cwS 3 hts (lw_S q1647 q1648 q58 q1649) rfl rfl rfl (by decide +kernel) ⟨Nat.le_of_ble_eq_true rfl, Nat.le_of_ble_eq_true rfl⟩) (preS_of hKB hE hS hF (va_P.sub hP [] rfl) ((va_D.sub hD [] (by decide) rfl).weaken (fun _ _ _ _ => trivial)) trivial) rfl rfl hl.1 rfl (lv_room (Nat.le_of_ble_eq_true rfl)) dX4_sessionAt_11 ⟨show 0 + 0 ≤ 0 from by first | decide | omega, show 0 + 0 ≤ 0 from by first | decide | omega⟩)
      (fun u_ H locs hq hph (hP : va_P G.1 CL [(m0, .inr (6, [.ref sa, .ref oa, .ref pa, .ref la, .ref za, .ref na, .int gu, .int gt, .int gw, .int gd, .int gm, .int gr, .int gh, .int gv])), (la, .inl (G.2 0, 200, .inl lf)), (za, .inl (G.2 0, 6, .inl zf))] H) (hD : va_D A [(m0, .inr (6, [.ref sa, .ref oa, .ref pa, .ref la, .ref za, .ref na, .int gu, .int gt, .int gw, .int gd, .int gm, .int gr, .int gh, .int gv])), (la, .inl (G.2 0, 200, .inl lf)), (za, .inl (G.2 0, 6, .inl zf))]) hS hfz hfk => ?_)
  obtain ⟨b_237, rfl⟩ : ∃ z, z = u_ := ⟨_, rfl⟩
  have hP : va_P G.1 CL [(m0, .inr (6, [.ref sa, .ref oa, .ref pa, .ref la, .ref za, .ref na, .int gu, .int gt, .int gw, .int gd, .int gm, .int gr, .int gh, .int gv])), (la, .inl (G.2 0, 200, .inl lf)), (za, .inl (G.2 0, 6, .inl zf))] H := hP
  have hD : va_D A [(m0, .inr (6, [.ref sa, .ref oa, .ref pa, .ref la, .ref za, .ref na, .int gu, .int gt, .int gw, .int gd, .int gm, .int gr, .int gh, .int gv])), (la, .inl (G.2 0, 200, .inl lf)), (za, .inl (G.2 0, 6, .inl zf))] := hD
  have hq_238 : (b_237 = true ↔ (nI 0) ≤ v ∧ v ≤ (lI (sN B))) := hq
  refine W.eq (g2 := F0 m 14 ls [.int (bI b_237), .ref m0]) rfl ?_
  cases b_237
  · refine lv_ton (n := 0) rfl ?_
    have hir_239 : inL v (sN B) = none := inL_none (fun z => absurd (hq_238.mpr z) (by decide))
    refine n_if_ne (tgt := 21) hx hb (by omega) dX4_sessionAt_14 (by decide) (fun c_240 => absurd c_240 (by omega)) (fun c_240 => ?_)
    refine lv_iconst (v := nI 1) hx hb dX4_sessionAt_17 (by decide) ?_
    refine lv_goto (tgt := 22) hx hb dX4_sessionAt_18 (by decide) ?_
    refine lv_iconst (v := nI 1) hx hb dX4_sessionAt_22 (by decide) ?_
    have hF := hF_of (wc := [(m0, .inr (6, [.ref sa, .ref oa, .ref pa, .ref la, .ref za, .ref na, .int gu, .int gt, .int gw, .int gd, .int gm, .int gr, .int gh, .int gv]))]) hD hS hA [0] rfl
    refine go_ct hS hP hD [0] [1, 2] hF rfl rfl (by decide) (by decide)
        (va_runV (As := [.int (nI 1), .int (nI 1)]) (rest := []) cf (mX4_isThrown_t l G m0 sa oa pa la za na gu gt gw gd gm gr gh gv 1  H.size) (cwV 2 hts (lw_V q1650 q1652 qs20 q58 q1653) rfl rfl rfl (by decide +kernel) ⟨Nat.le_of_ble_eq_true rfl, Nat.le_of_ble_eq_true rfl⟩) (preV_of hKB hE hS hF (va_recv hK hP (ci := 6) (q0 := 0) rfl rfl) (va_P.sub hP [0] rfl) ((va_D.sub hD [0] (by decide) rfl).weaken (fun _ _ _ _ => trivial)) trivial) rfl rfl hl.1 rfl (lv_room (Nat.le_of_ble_eq_true rfl)) dX4_sessionAt_23 ⟨show 0 + 0 ≤ 0 from by first | decide | omega, show 0 + 0 ≤ 0 from by first | decide | omega⟩)
        (fun u_ H locs hq hph (hP : va_P G.1 CL [(la, .inl (G.2 0, 200, .inl lf)), (za, .inl (G.2 0, 6, .inl zf)), (m0, .inr (6, [.ref sa, .ref oa, .ref pa, .ref la, .ref za, .ref na, .int gu, .int gt, .int gw, .int gd, .int gm, .int gr, .int (nI 1), .int gv]))] H) (hD : va_D A [(la, .inl (G.2 0, 200, .inl lf)), (za, .inl (G.2 0, 6, .inl zf)), (m0, .inr (6, [.ref sa, .ref oa, .ref pa, .ref la, .ref za, .ref na, .int gu, .int gt, .int gw, .int gd, .int gm, .int gr, .int (nI 1), .int gv]))]) hS hfz hfk => ?_)
    refine W.eq (g2 := F0 m 26 ls [.int (nI 1)]) rfl ?_
    refine n_if_eq (tgt := 33) hx hb (by omega) dX4_sessionAt_26 (by decide) (fun c_241 => absurd c_241 (by omega)) (fun c_241 => ?_)
    refine lv_iconst (v := nI 0) hx hb dX4_sessionAt_29 (by decide) ?_
    refine lv_goto (tgt := 47) hx hb dX4_sessionAt_30 (by decide) ?_
    have hq9 : q_sAt B v = (1, 0) := by unfold q_sAt q1; rw [hir_239] <;> rfl
    have hP : va_P G.1 CL [(la, .inl (G.2 0, 200, .inl lf)), (za, .inl (G.2 0, 6, .inl zf)), (m0, .inr (6, [.ref sa, .ref oa, .ref pa, .ref la, .ref za, .ref na, .int gu, .int gt, .int gw, .int gd, .int gm, .int gr, .int (nI ((q_sAt B v).1)), .int gv]))] H := by rw [hq9]; exact hP
    have hD : va_D A [(la, .inl (G.2 0, 200, .inl lf)), (za, .inl (G.2 0, 6, .inl zf)), (m0, .inr (6, [.ref sa, .ref oa, .ref pa, .ref la, .ref za, .ref na, .int gu, .int gt, .int gw, .int gd, .int gm, .int gr, .int (nI ((q_sAt B v).1)), .int gv]))] := by rw [hq9]; exact hD
    have hP9 : va_P G.1 CL [(m0, .inr (6, [.ref sa, .ref oa, .ref pa, .ref la, .ref za, .ref na, .int gu, .int gt, .int gw, .int gd, .int gm, .int gr, .int (nI ((q_sAt B v).1)), .int gv])), (la, .inl (G.2 0, 200, .inl lf)), (za, .inl (G.2 0, 6, .inl zf))] H := hP.sub [2, 0, 1] rfl
    have hD9 : va_D A [(m0, .inr (6, [.ref sa, .ref oa, .ref pa, .ref la, .ref za, .ref na, .int gu, .int gt, .int gw, .int gd, .int gm, .int gr, .int (nI ((q_sAt B v).1)), .int gv])), (la, .inl (G.2 0, 200, .inl lf)), (za, .inl (G.2 0, 6, .inl zf))] := hD.sub [2, 0, 1] (by decide) rfl
    exact end_i hx hb hr hlk (rfl) (qc_of ⟨nI 0, lf, zf, gd, gm, gr⟩ (v := some (.int (nI 0))) (by rfl) (fun h => by rw [hq9] at h; exact absurd h (by decide)) hP9 hD9 (trivial) hS) hS dX4_sessionAt_47 (show 0 ≤ 0 from by first | exact Nat.le_refl _ | decide | omega) (show 0 ≤ 0 from by first | exact Nat.le_refl _ | decide | omega)
  · refine lv_ton (n := 1) rfl ?_
    have hin_242 : nI 0 ≤ v ∧ v ≤ lI (sN B) := hq_238.mp rfl
    obtain ⟨d_243, hv_244, h_245⟩ := inL_nat (c := sN B) (by omega) hin_242.1 hin_242.2
    have hir_247 : inL v (sN B) = some d_243 := inL_some hv_244 h_245 (by omega)
    have hl : lv_has ls 2 [(0, .ref m0), (1, .int (nI d_243))] := by
      have e9 : ((.int (nI d_243)) : Value) = .int v := by rw [hv_244]
      rw [e9]; exact hl
    refine n_if_ne (tgt := 21) hx hb (by omega) dX4_sessionAt_14 (by decide) (fun c_248 => ?_) (fun c_248 => absurd c_248 (by omega))
    refine lv_iconst (v := nI 0) hx hb dX4_sessionAt_21 (by decide) ?_
    refine lv_iconst (v := nI 1) hx hb dX4_sessionAt_22 (by decide) ?_
    have hF := hF_of (wc := [(m0, .inr (6, [.ref sa, .ref oa, .ref pa, .ref la, .ref za, .ref na, .int gu, .int gt, .int gw, .int gd, .int gm, .int gr, .int gh, .int gv]))]) hD hS hA [0] rfl
    refine go_ct hS hP hD [0] [1, 2] hF rfl rfl (by decide) (by decide)
        (va_runV (As := [.int (nI 0), .int (nI 1)]) (rest := []) cf (mX4_isThrown_f l G m0 sa oa pa la za na gu gt gw gd gm gr gh gv 1  H.size) (cwV 2 hts (lw_V q1650 q1652 qs20 q58 q1653) rfl rfl rfl (by decide +kernel) ⟨Nat.le_of_ble_eq_true rfl, Nat.le_of_ble_eq_true rfl⟩) (preV_of hKB hE hS hF (va_recv hK hP (ci := 6) (q0 := 0) rfl rfl) (va_P.sub hP [0] rfl) ((va_D.sub hD [0] (by decide) rfl).weaken (fun _ _ _ _ => trivial)) trivial) rfl rfl hl.1 rfl (lv_room (Nat.le_of_ble_eq_true rfl)) dX4_sessionAt_23 ⟨show 0 + 0 ≤ 0 from by first | decide | omega, show 0 + 0 ≤ 0 from by first | decide | omega⟩)
        (fun u_ H locs hq hph (hP : va_P G.1 CL [(la, .inl (G.2 0, 200, .inl lf)), (za, .inl (G.2 0, 6, .inl zf)), (m0, .inr (6, [.ref sa, .ref oa, .ref pa, .ref la, .ref za, .ref na, .int gu, .int gt, .int gw, .int gd, .int gm, .int gr, .int (nI 0), .int gv]))] H) (hD : va_D A [(la, .inl (G.2 0, 200, .inl lf)), (za, .inl (G.2 0, 6, .inl zf)), (m0, .inr (6, [.ref sa, .ref oa, .ref pa, .ref la, .ref za, .ref na, .int gu, .int gt, .int gw, .int gd, .int gm, .int gr, .int (nI 0), .int gv]))]) hS hfz hfk => ?_)
    refine W.eq (g2 := F0 m 26 ls [.int (nI 0)]) rfl ?_
    refine n_if_eq (tgt := 33) hx hb (by omega) dX4_sessionAt_26 (by decide) (fun c_249 => ?_) (fun c_249 => absurd c_249 (by omega))
    refine lv_aload_n hx hb dX4_sessionAt_33 rfl (lv_at hl 0 rfl) ?_
    refine va_get hx hb hts in_X4 hown hK hP 2 rfl rfl 0 (by decide) (hts _ q1596) (fun _ h => h) rfl dX4_sessionAt_34 ?_
    refine lv_aload_n hx hb dX4_sessionAt_37 rfl (lv_at hl 0 rfl) ?_
    refine lv_aload_n hx hb dX4_sessionAt_38 rfl (lv_at hl 0 rfl) ?_
    refine lv_iload_n hx hb dX4_sessionAt_39 rfl (lv_at hl 1 rfl) ?_
    have hF := hF_of (wc := []) hD hS hA [] rfl
    have hro_250 : va_P G.1 CL [(m0, .inr (6, [.ref sa, .ref oa, .ref pa, .ref la, .ref za, .ref na, .int gu, .int gt, .int gw, .int gd, .int gm, .int gr, .int (nI 0), .int gv])), (sa, .inl (G.2 0, 830, .inl f))] H := ((va_P.sub hP [2] rfl).app ((hR0.w hS).sub [0] rfl))
    refine go_ct hS hP hD [] [0, 1, 2] hF rfl rfl (by decide) (by decide)
        (va_runV (As := [.int (nI d_243)]) (rest := [.ref m0, .ref sa]) cf (mX4_ranked l G m0 sa oa pa la za na gu gt gw gd gm gr (nI 0) gv f B d_243 (show MR f B from by first | assumption | omega) (show Inv B from by first | assumption | omega) (show d_243 ≤ 1000 from by first | assumption | omega) H.size) (cwV 1 hts (lw_V q1771 q1773 qs33 q58 q1774) rfl rfl rfl (by decide +kernel) ⟨Nat.le_of_ble_eq_true rfl, Nat.le_of_ble_eq_true rfl⟩) (preV_of hKB hE hS hF (va_recv hK hP (ci := 6) (q0 := 2) rfl rfl) (va_P.sub hP [] rfl) ((va_D.sub hD [] (by decide) rfl).weaken (fun _ _ _ _ => trivial)) (roW.nil hro_250)) rfl rfl hl.1 rfl (lv_room (Nat.le_of_ble_eq_true rfl)) dX4_sessionAt_40 ⟨show 0 + 0 ≤ 0 from by first | decide | omega, show 0 + 0 ≤ 0 from by first | decide | omega⟩)
        (fun u_ H locs hq hph (hP : va_P G.1 CL [(la, .inl (G.2 0, 200, .inl lf)), (za, .inl (G.2 0, 6, .inl zf)), (m0, .inr (6, [.ref sa, .ref oa, .ref pa, .ref la, .ref za, .ref na, .int gu, .int gt, .int gw, .int gd, .int gm, .int gr, .int (nI 0), .int gv]))] H) (hD : va_D A [(la, .inl (G.2 0, 200, .inl lf)), (za, .inl (G.2 0, 6, .inl zf)), (m0, .inr (6, [.ref sa, .ref oa, .ref pa, .ref la, .ref za, .ref na, .int gu, .int gt, .int gw, .int gd, .int gm, .int gr, .int (nI 0), .int gv]))]) hS hfz hfk => ?_)
    obtain ⟨fo_251, rfl⟩ : ∃ z, z = u_ := ⟨_, rfl⟩
    have hP : va_P G.1 CL [(la, .inl (G.2 0, 200, .inl lf)), (za, .inl (G.2 0, 6, .inl zf)), (m0, .inr (6, [.ref sa, .ref oa, .ref pa, .ref la, .ref za, .ref na, .int gu, .int gt, .int gw, .int gd, .int gm, .int gr, .int (nI 0), .int gv]))] H := hP
    have hD : va_D A [(la, .inl (G.2 0, 200, .inl lf)), (za, .inl (G.2 0, 6, .inl zf)), (m0, .inr (6, [.ref sa, .ref oa, .ref pa, .ref la, .ref za, .ref na, .int gu, .int gt, .int gw, .int gd, .int gm, .int gr, .int (nI 0), .int gv]))] := hD
    have hq_252 : PR B d_243 (sN B) fo_251 := hq
    refine W.eq (g2 := F0 m 43 ls [.int (oI fo_251), .ref m0, .ref sa]) rfl ?_
    rcases fo_251 with _ | k_253
    · refine lv_toi (y := (-1)) rfl ?_
      exfalso
      obtain ⟨k9, hk9, hr9⟩ := hRk d_243 (by omega)
      exact hq_252 k9 hk9 hr9
    · refine lv_ton (n := k_253) rfl ?_
      have hkk : k_253 < sN B := (hq_252).1
      have hxr := ixR_eq hI hq_252
      have hF := hF_of (wc := []) hD hS hA [] rfl
      refine go_ct hS hP hD [] [0, 1, 2] hF rfl rfl (by decide) (by decide)
          (va_runV (As := [.int (nI k_253)]) (rest := [.ref sa]) cf (mX4_at l G m0 k_253  H.size) (cwV 1 hts (lw_V q1687 q1689 qs27 q58 q1690) rfl rfl rfl (by decide +kernel) ⟨Nat.le_of_ble_eq_true rfl, Nat.le_of_ble_eq_true rfl⟩) (preV_of hKB hE hS hF (va_recv hK hP (ci := 6) (q0 := 2) rfl rfl) (va_P.sub hP [] rfl) ((va_D.sub hD [] (by decide) rfl).weaken (fun _ _ _ _ => trivial)) trivial) rfl rfl hl.1 rfl (lv_room (Nat.le_of_ble_eq_true rfl)) dX4_sessionAt_43 ⟨show 0 + 0 ≤ 0 from by first | decide | omega, show 0 + 0 ≤ 0 from by first | decide | omega⟩)
          (fun u_ H locs hq hph (hP : va_P G.1 CL [(la, .inl (G.2 0, 200, .inl lf)), (za, .inl (G.2 0, 6, .inl zf)), (m0, .inr (6, [.ref sa, .ref oa, .ref pa, .ref la, .ref za, .ref na, .int gu, .int gt, .int gw, .int gd, .int gm, .int gr, .int (nI 0), .int gv]))] H) (hD : va_D A [(la, .inl (G.2 0, 200, .inl lf)), (za, .inl (G.2 0, 6, .inl zf)), (m0, .inr (6, [.ref sa, .ref oa, .ref pa, .ref la, .ref za, .ref na, .int gu, .int gt, .int gw, .int gd, .int gm, .int gr, .int (nI 0), .int gv]))]) hS hfz hfk => ?_)
      refine W.eq (g2 := F0 m 46 ls [.int (nI (19 * k_253 + 70)), .ref sa]) rfl ?_
      refine r_iald (v := nI (sId (sAt B k_253))) hx hb hK (hR0.w hS) 0 0 rfl rfl (i := 19 * k_253 + 70) (by omega) (by omega) (hM.sid (k := k_253) (by omega)) dX4_sessionAt_46 ?_
      have hq9 : q_sAt B v = (0, nI (sId (sAt B k_253))) := by unfold q_sAt q1; rw [hir_247] <;> first | rfl | rw [hxr] | (rw [hxr]; rfl) | (dsimp only; rw [hxr]) | (dsimp only; rw [hxr]; rfl)
      have hP : va_P G.1 CL [(la, .inl (G.2 0, 200, .inl lf)), (za, .inl (G.2 0, 6, .inl zf)), (m0, .inr (6, [.ref sa, .ref oa, .ref pa, .ref la, .ref za, .ref na, .int gu, .int gt, .int gw, .int gd, .int gm, .int gr, .int (nI ((q_sAt B v).1)), .int gv]))] H := by rw [hq9]; exact hP
      have hD : va_D A [(la, .inl (G.2 0, 200, .inl lf)), (za, .inl (G.2 0, 6, .inl zf)), (m0, .inr (6, [.ref sa, .ref oa, .ref pa, .ref la, .ref za, .ref na, .int gu, .int gt, .int gw, .int gd, .int gm, .int gr, .int (nI ((q_sAt B v).1)), .int gv]))] := by rw [hq9]; exact hD
      have hP9 : va_P G.1 CL [(m0, .inr (6, [.ref sa, .ref oa, .ref pa, .ref la, .ref za, .ref na, .int gu, .int gt, .int gw, .int gd, .int gm, .int gr, .int (nI ((q_sAt B v).1)), .int gv])), (la, .inl (G.2 0, 200, .inl lf)), (za, .inl (G.2 0, 6, .inl zf))] H := hP.sub [2, 0, 1] rfl
      have hD9 : va_D A [(m0, .inr (6, [.ref sa, .ref oa, .ref pa, .ref la, .ref za, .ref na, .int gu, .int gt, .int gw, .int gd, .int gm, .int gr, .int (nI ((q_sAt B v).1)), .int gv])), (la, .inl (G.2 0, 200, .inl lf)), (za, .inl (G.2 0, 6, .inl zf))] := hD.sub [2, 0, 1] (by decide) rfl
      exact end_i hx hb hr hlk (rfl) (qc_of ⟨nI (sId (sAt B k_253)), lf, zf, gd, gm, gr⟩ (v := some (.int (nI (sId (sAt B k_253))))) (by rfl) (fun _ => by rw [hq9]) hP9 hD9 (trivial) hS) hS dX4_sessionAt_47 (show 0 ≤ 0 from by first | exact Nat.le_refl _ | decide | omega) (show 0 ≤ 0 from by first | exact Nat.le_refl _ | decide | omega)

set_option maxHeartbeats 4000000 in
theorem mX4_dayOf (l : Launch) (G : Gt) (m0 : Nat) (sa : Nat) (oa : Nat) (pa : Nat) (la : Nat) (za : Nat) (na : Nat) (gu : Int32) (gt : Int32) (gw : Int32) (gd : Int32) (gm : Int32) (gr : Int32) (gh : Int32) (gv : Int32) (f : Nat → Int32) (B : Bk) (lf : Nat → Int32) (zf : Nat → Int32) (id : Int32) (hM : MR f B) (hI : Inv B) : CT l G yX4_dayOf cX4_dayOf 2 (some .int) ({ frames := 4, cells := 0, slots := 0, locals := 77 } : Room) [.ref m0, .int id] [(m0, .inr (6, [.ref sa, .ref oa, .ref pa, .ref la, .ref za, .ref na, .int gu, .int gt, .int gw, .int gd, .int gm, .int gr, .int gh, .int gv])), (la, .inl (G.2 0, 200, .inl lf)), (za, .inl (G.2 0, 6, .inl zf))] (fun (A : Nat → Prop) (H : Heap) => roW G A H [(sa, .inl (G.2 0, 830, .inl f))]) (S := Int32 × (Nat → Int32) × (Nat → Int32) × Int32 × Int32 × Int32) (fun (u_ : Int32 × (Nat → Int32) × (Nat → Int32) × Int32 × Int32 × Int32) => some (.int u_.1)) (fun (u_ : Int32 × (Nat → Int32) × (Nat → Int32) × Int32 × Int32 × Int32) => ((q_dayOf B id).1 = 0 → u_.1 = (q_dayOf B id).2)) (fun (u_ : Int32 × (Nat → Int32) × (Nat → Int32) × Int32 × Int32 × Int32) => [(m0, .inr (6, [.ref sa, .ref oa, .ref pa, .ref la, .ref za, .ref na, .int gu, .int gt, .int gw, .int u_.2.2.2.1, .int u_.2.2.2.2.1, .int u_.2.2.2.2.2, .int (nI ((q_dayOf B id).1)), .int gv])), (la, .inl (G.2 0, 200, .inl u_.2.1)), (za, .inl (G.2 0, 6, .inl u_.2.2.1))]) (fun (u_ : Int32 × (Nat → Int32) × (Nat → Int32) × Int32 × Int32 × Int32) (H : Heap) => True) := by
  refine CT.of (by decide) (Nat.le_of_ble_eq_true rfl) ?_
  intro p e s m below meth c ls A H locs h9 hH0 hP hS
  obtain ⟨cf, hr, hlk, hnm, hKB, hE, -, hD, -, hA, hAw, hR0, hl⟩ := h9
  have hx := cf.1
  have hb := cf.2.1
  have hml := cf.2.2.1
  have hown : s.vm.findClass RX4 = some m.cls := cf.2.2.2.1
  have hts := cf.2.2.2.2
  have hK := hKB.1
  have hl : lv_has ls 2 [(0, .ref m0), (1, .int id)] := hl
  have iN := iv_sN hI
  have iT := iv_tN hI
  have iD := iv_bD hI
  have iE := iv_bE hI
  have iW := iv_id hI
  refine lv_aload_n hx hb dX4_dayOf_0 rfl (lv_at hl 0 rfl) ?_
  refine lv_iload_n hx hb dX4_dayOf_1 rfl (lv_at hl 1 rfl) ?_
  have hF := hF_of (wc := [(m0, .inr (6, [.ref sa, .ref oa, .ref pa, .ref la, .ref za, .ref na, .int gu, .int gt, .int gw, .int gd, .int gm, .int gr, .int gh, .int gv]))]) hD hS hA [0] rfl
  have hro_254 : roW G (va_A [(m0, .inr (6, [.ref sa, .ref oa, .ref pa, .ref la, .ref za, .ref na, .int gu, .int gt, .int gw, .int gd, .int gm, .int gr, .int gh, .int gv]))] H.size) H [(sa, .inl (G.2 0, 830, .inl f))] := ((hR0.kp hF hS.2.1).sub (ws' := [(sa, .inl (G.2 0, 830, .inl f))]) [0] rfl)
  refine go_ct hS hP hD [0] [1, 2] hF rfl rfl (by decide) (by decide)
      (va_runV (As := [.int id]) (rest := []) cf (mX4_isNoSession l G m0 sa oa pa la za na gu gt gw gd gm gr gh gv f B id (show MR f B from by first | assumption | omega) (show Inv B from by first | assumption | omega) H.size) (cwV 1 hts (lw_V q1751 q1753 qs32 q58 q1754) rfl rfl rfl (by decide +kernel) ⟨Nat.le_of_ble_eq_true rfl, Nat.le_of_ble_eq_true rfl⟩) (preV_of hKB hE hS hF (va_recv hK hP (ci := 6) (q0 := 0) rfl rfl) (va_P.sub hP [0] rfl) ((va_D.sub hD [0] (by decide) rfl).weaken (fun _ _ _ _ => trivial)) hro_254) rfl rfl hl.1 rfl (lv_room (Nat.le_of_ble_eq_true rfl)) dX4_dayOf_2 ⟨show 0 + 0 ≤ 0 from by first | decide | omega, show 0 + 0 ≤ 0 from by first | decide | omega⟩)
      (fun u_ H locs hq hph (hP : va_P G.1 CL [(la, .inl (G.2 0, 200, .inl lf)), (za, .inl (G.2 0, 6, .inl zf)), (m0, .inr (6, [.ref sa, .ref oa, .ref pa, .ref la, .ref za, .ref na, .int gu, .int gt, .int gw, .int gd, .int gm, .int gr, .int (nS u_), .int gv]))] H) (hD : va_D A [(la, .inl (G.2 0, 200, .inl lf)), (za, .inl (G.2 0, 6, .inl zf)), (m0, .inr (6, [.ref sa, .ref oa, .ref pa, .ref la, .ref za, .ref na, .int gu, .int gt, .int gw, .int gd, .int gm, .int gr, .int (nS u_), .int gv]))]) hS hfz hfk => ?_)
  obtain ⟨fo_255, rfl⟩ : ∃ z, z = u_ := ⟨_, rfl⟩
  have hP : va_P G.1 CL [(la, .inl (G.2 0, 200, .inl lf)), (za, .inl (G.2 0, 6, .inl zf)), (m0, .inr (6, [.ref sa, .ref oa, .ref pa, .ref la, .ref za, .ref na, .int gu, .int gt, .int gw, .int gd, .int gm, .int gr, .int (nS fo_255), .int gv]))] H := hP
  have hD : va_D A [(la, .inl (G.2 0, 200, .inl lf)), (za, .inl (G.2 0, 6, .inl zf)), (m0, .inr (6, [.ref sa, .ref oa, .ref pa, .ref la, .ref za, .ref na, .int gu, .int gt, .int gw, .int gd, .int gm, .int gr, .int (nS fo_255), .int gv]))] := hD
  have hq_256 : PL B id (sN B) fo_255 := hq
  refine W.eq (g2 := F0 m 5 ls [.int (nS fo_255)]) rfl ?_
  have hix_258 := ixS_eq hI hq_256
  rcases fo_255 with _ | k_257
  · refine lv_ton (n := 1) rfl ?_
    refine n_if_eq (tgt := 12) hx hb (by omega) dX4_dayOf_5 (by decide) (fun c_259 => absurd c_259 (by omega)) (fun c_259 => ?_)
    refine lv_iconst (v := nI 0) hx hb dX4_dayOf_8 (by decide) ?_
    refine lv_goto (tgt := 28) hx hb dX4_dayOf_9 (by decide) ?_
    have hq9 : q_dayOf B id = (1, 0) := by unfold q_dayOf q1; rw [hix_258] <;> rfl
    have hP : va_P G.1 CL [(la, .inl (G.2 0, 200, .inl lf)), (za, .inl (G.2 0, 6, .inl zf)), (m0, .inr (6, [.ref sa, .ref oa, .ref pa, .ref la, .ref za, .ref na, .int gu, .int gt, .int gw, .int gd, .int gm, .int gr, .int (nI ((q_dayOf B id).1)), .int gv]))] H := by rw [hq9]; exact hP
    have hD : va_D A [(la, .inl (G.2 0, 200, .inl lf)), (za, .inl (G.2 0, 6, .inl zf)), (m0, .inr (6, [.ref sa, .ref oa, .ref pa, .ref la, .ref za, .ref na, .int gu, .int gt, .int gw, .int gd, .int gm, .int gr, .int (nI ((q_dayOf B id).1)), .int gv]))] := by rw [hq9]; exact hD
    have hP9 : va_P G.1 CL [(m0, .inr (6, [.ref sa, .ref oa, .ref pa, .ref la, .ref za, .ref na, .int gu, .int gt, .int gw, .int gd, .int gm, .int gr, .int (nI ((q_dayOf B id).1)), .int gv])), (la, .inl (G.2 0, 200, .inl lf)), (za, .inl (G.2 0, 6, .inl zf))] H := hP.sub [2, 0, 1] rfl
    have hD9 : va_D A [(m0, .inr (6, [.ref sa, .ref oa, .ref pa, .ref la, .ref za, .ref na, .int gu, .int gt, .int gw, .int gd, .int gm, .int gr, .int (nI ((q_dayOf B id).1)), .int gv])), (la, .inl (G.2 0, 200, .inl lf)), (za, .inl (G.2 0, 6, .inl zf))] := hD.sub [2, 0, 1] (by decide) rfl
    exact end_i hx hb hr hlk (rfl) (qc_of ⟨nI 0, lf, zf, gd, gm, gr⟩ (v := some (.int (nI 0))) (by rfl) (fun h => by rw [hq9] at h; exact absurd h (by decide)) hP9 hD9 (trivial) hS) hS dX4_dayOf_28 (show 0 ≤ 0 from by first | exact Nat.le_refl _ | decide | omega) (show 0 ≤ 0 from by first | exact Nat.le_refl _ | decide | omega)
  · refine lv_ton (n := 0) rfl ?_
    have hkk : k_257 < sN B := (hq_256).1
    refine n_if_eq (tgt := 12) hx hb (by omega) dX4_dayOf_5 (by decide) (fun c_260 => ?_) (fun c_260 => absurd c_260 (by omega))
    refine lv_aload_n hx hb dX4_dayOf_12 rfl (lv_at hl 0 rfl) ?_
    refine va_get hx hb hts in_X4 hown hK hP 2 rfl rfl 0 (by decide) (hts _ q1596) (fun _ h => h) rfl dX4_dayOf_13 ?_
    refine lv_aload_n hx hb dX4_dayOf_16 rfl (lv_at hl 0 rfl) ?_
    refine lv_aload_n hx hb dX4_dayOf_17 rfl (lv_at hl 0 rfl) ?_
    refine lv_iload_n hx hb dX4_dayOf_18 rfl (lv_at hl 1 rfl) ?_
    have hF := hF_of (wc := []) hD hS hA [] rfl
    have hro_261 : va_P G.1 CL [(m0, .inr (6, [.ref sa, .ref oa, .ref pa, .ref la, .ref za, .ref na, .int gu, .int gt, .int gw, .int gd, .int gm, .int gr, .int (nS (some k_257)), .int gv])), (sa, .inl (G.2 0, 830, .inl f))] H := ((va_P.sub hP [2] rfl).app ((hR0.w hS).sub [0] rfl))
    refine go_ct hS hP hD [] [0, 1, 2] hF rfl rfl (by decide) (by decide)
        (va_runV (As := [.int id]) (rest := [.ref m0, .ref sa]) cf (mX4_place l G m0 sa oa pa la za na gu gt gw gd gm gr (nS (some k_257)) gv f B id (show MR f B from by first | assumption | omega) (show Inv B from by first | assumption | omega) H.size) (cwV 1 hts (lw_V q1739 q1741 qs30 q58 q1742) rfl rfl rfl (by decide +kernel) ⟨Nat.le_of_ble_eq_true rfl, Nat.le_of_ble_eq_true rfl⟩) (preV_of hKB hE hS hF (va_recv hK hP (ci := 6) (q0 := 2) rfl rfl) (va_P.sub hP [] rfl) ((va_D.sub hD [] (by decide) rfl).weaken (fun _ _ _ _ => trivial)) (roW.nil hro_261)) rfl rfl hl.1 rfl (lv_room (Nat.le_of_ble_eq_true rfl)) dX4_dayOf_19 ⟨show 0 + 0 ≤ 0 from by first | decide | omega, show 0 + 0 ≤ 0 from by first | decide | omega⟩)
        (fun u_ H locs hq hph (hP : va_P G.1 CL [(la, .inl (G.2 0, 200, .inl lf)), (za, .inl (G.2 0, 6, .inl zf)), (m0, .inr (6, [.ref sa, .ref oa, .ref pa, .ref la, .ref za, .ref na, .int gu, .int gt, .int gw, .int gd, .int gm, .int gr, .int (nS (some k_257)), .int gv]))] H) (hD : va_D A [(la, .inl (G.2 0, 200, .inl lf)), (za, .inl (G.2 0, 6, .inl zf)), (m0, .inr (6, [.ref sa, .ref oa, .ref pa, .ref la, .ref za, .ref na, .int gu, .int gt, .int gw, .int gd, .int gm, .int gr, .int (nS (some k_257)), .int gv]))]) hS hfz hfk => ?_)
    obtain ⟨fo_262, rfl⟩ : ∃ z, z = u_ := ⟨_, rfl⟩
    have hP : va_P G.1 CL [(la, .inl (G.2 0, 200, .inl lf)), (za, .inl (G.2 0, 6, .inl zf)), (m0, .inr (6, [.ref sa, .ref oa, .ref pa, .ref la, .ref za, .ref na, .int gu, .int gt, .int gw, .int gd, .int gm, .int gr, .int (nS (some k_257)), .int gv]))] H := hP
    have hD : va_D A [(la, .inl (G.2 0, 200, .inl lf)), (za, .inl (G.2 0, 6, .inl zf)), (m0, .inr (6, [.ref sa, .ref oa, .ref pa, .ref la, .ref za, .ref na, .int gu, .int gt, .int gw, .int gd, .int gm, .int gr, .int (nS (some k_257)), .int gv]))] := hD
    have hq_263 : PL B id (sN B) fo_262 := hq
    refine W.eq (g2 := F0 m 22 ls [.int (oI fo_262), .ref m0, .ref sa]) rfl ?_
    have he_264 := (ixS_eq hI hq_263).symm.trans hix_258
    refine lv_ton (n := k_257) (by rw [he_264]; rfl) ?_
    have hF := hF_of (wc := []) hD hS hA [] rfl
    refine go_ct hS hP hD [] [0, 1, 2] hF rfl rfl (by decide) (by decide)
        (va_runV (As := [.int (nI k_257)]) (rest := [.ref sa]) cf (mX4_at l G m0 k_257  H.size) (cwV 1 hts (lw_V q1687 q1689 qs27 q58 q1690) rfl rfl rfl (by decide +kernel) ⟨Nat.le_of_ble_eq_true rfl, Nat.le_of_ble_eq_true rfl⟩) (preV_of hKB hE hS hF (va_recv hK hP (ci := 6) (q0 := 2) rfl rfl) (va_P.sub hP [] rfl) ((va_D.sub hD [] (by decide) rfl).weaken (fun _ _ _ _ => trivial)) trivial) rfl rfl hl.1 rfl (lv_room (Nat.le_of_ble_eq_true rfl)) dX4_dayOf_22 ⟨show 0 + 0 ≤ 0 from by first | decide | omega, show 0 + 0 ≤ 0 from by first | decide | omega⟩)
        (fun u_ H locs hq hph (hP : va_P G.1 CL [(la, .inl (G.2 0, 200, .inl lf)), (za, .inl (G.2 0, 6, .inl zf)), (m0, .inr (6, [.ref sa, .ref oa, .ref pa, .ref la, .ref za, .ref na, .int gu, .int gt, .int gw, .int gd, .int gm, .int gr, .int (nS (some k_257)), .int gv]))] H) (hD : va_D A [(la, .inl (G.2 0, 200, .inl lf)), (za, .inl (G.2 0, 6, .inl zf)), (m0, .inr (6, [.ref sa, .ref oa, .ref pa, .ref la, .ref za, .ref na, .int gu, .int gt, .int gw, .int gd, .int gm, .int gr, .int (nS (some k_257)), .int gv]))]) hS hfz hfk => ?_)
    refine W.eq (g2 := F0 m 25 ls [.int (nI (19 * k_257 + 70)), .ref sa]) rfl ?_
    refine lv_iconst (v := nI 1) hx hb dX4_dayOf_25 (by decide) ?_
    refine lv_iadd hx hb dX4_dayOf_26 ?_
    refine lv_ton (n := 19 * k_257 + 71) (nadd (by omega)) ?_
    refine r_iald (v := nI (sDay (sAt B k_257))) hx hb hK (hR0.w hS) 0 0 rfl rfl (i := 19 * k_257 + 71) (by omega) (by omega) (hM.sday (k := k_257) (by omega)) dX4_dayOf_27 ?_
    have hq9 : q_dayOf B id = (0, nI (sDay (sAt B k_257))) := by unfold q_dayOf q1; rw [hix_258] <;> rfl
    have hP : va_P G.1 CL [(la, .inl (G.2 0, 200, .inl lf)), (za, .inl (G.2 0, 6, .inl zf)), (m0, .inr (6, [.ref sa, .ref oa, .ref pa, .ref la, .ref za, .ref na, .int gu, .int gt, .int gw, .int gd, .int gm, .int gr, .int (nI ((q_dayOf B id).1)), .int gv]))] H := by rw [hq9]; exact hP
    have hD : va_D A [(la, .inl (G.2 0, 200, .inl lf)), (za, .inl (G.2 0, 6, .inl zf)), (m0, .inr (6, [.ref sa, .ref oa, .ref pa, .ref la, .ref za, .ref na, .int gu, .int gt, .int gw, .int gd, .int gm, .int gr, .int (nI ((q_dayOf B id).1)), .int gv]))] := by rw [hq9]; exact hD
    have hP9 : va_P G.1 CL [(m0, .inr (6, [.ref sa, .ref oa, .ref pa, .ref la, .ref za, .ref na, .int gu, .int gt, .int gw, .int gd, .int gm, .int gr, .int (nI ((q_dayOf B id).1)), .int gv])), (la, .inl (G.2 0, 200, .inl lf)), (za, .inl (G.2 0, 6, .inl zf))] H := hP.sub [2, 0, 1] rfl
    have hD9 : va_D A [(m0, .inr (6, [.ref sa, .ref oa, .ref pa, .ref la, .ref za, .ref na, .int gu, .int gt, .int gw, .int gd, .int gm, .int gr, .int (nI ((q_dayOf B id).1)), .int gv])), (la, .inl (G.2 0, 200, .inl lf)), (za, .inl (G.2 0, 6, .inl zf))] := hD.sub [2, 0, 1] (by decide) rfl
    exact end_i hx hb hr hlk (rfl) (qc_of ⟨nI (sDay (sAt B k_257)), lf, zf, gd, gm, gr⟩ (v := some (.int (nI (sDay (sAt B k_257))))) (by rfl) (fun _ => by rw [hq9]) hP9 hD9 (trivial) hS) hS dX4_dayOf_28 (show 0 ≤ 0 from by first | exact Nat.le_refl _ | decide | omega) (show 0 ≤ 0 from by first | exact Nat.le_refl _ | decide | omega)

set_option maxHeartbeats 4000000 in
theorem mX4_minutesOf (l : Launch) (G : Gt) (m0 : Nat) (sa : Nat) (oa : Nat) (pa : Nat) (la : Nat) (za : Nat) (na : Nat) (gu : Int32) (gt : Int32) (gw : Int32) (gd : Int32) (gm : Int32) (gr : Int32) (gh : Int32) (gv : Int32) (f : Nat → Int32) (B : Bk) (lf : Nat → Int32) (zf : Nat → Int32) (id : Int32) (hM : MR f B) (hI : Inv B) : CT l G yX4_minutesOf cX4_minutesOf 2 (some .int) ({ frames := 4, cells := 0, slots := 0, locals := 77 } : Room) [.ref m0, .int id] [(m0, .inr (6, [.ref sa, .ref oa, .ref pa, .ref la, .ref za, .ref na, .int gu, .int gt, .int gw, .int gd, .int gm, .int gr, .int gh, .int gv])), (la, .inl (G.2 0, 200, .inl lf)), (za, .inl (G.2 0, 6, .inl zf))] (fun (A : Nat → Prop) (H : Heap) => roW G A H [(sa, .inl (G.2 0, 830, .inl f))]) (S := Int32 × (Nat → Int32) × (Nat → Int32) × Int32 × Int32 × Int32) (fun (u_ : Int32 × (Nat → Int32) × (Nat → Int32) × Int32 × Int32 × Int32) => some (.int u_.1)) (fun (u_ : Int32 × (Nat → Int32) × (Nat → Int32) × Int32 × Int32 × Int32) => ((q_minOf B id).1 = 0 → u_.1 = (q_minOf B id).2)) (fun (u_ : Int32 × (Nat → Int32) × (Nat → Int32) × Int32 × Int32 × Int32) => [(m0, .inr (6, [.ref sa, .ref oa, .ref pa, .ref la, .ref za, .ref na, .int gu, .int gt, .int gw, .int u_.2.2.2.1, .int u_.2.2.2.2.1, .int u_.2.2.2.2.2, .int (nI ((q_minOf B id).1)), .int gv])), (la, .inl (G.2 0, 200, .inl u_.2.1)), (za, .inl (G.2 0, 6, .inl u_.2.2.1))]) (fun (u_ : Int32 × (Nat → Int32) × (Nat → Int32) × Int32 × Int32 × Int32) (H : Heap) => True) := by
  refine CT.of (by decide) (Nat.le_of_ble_eq_true rfl) ?_
  intro p e s m below meth c ls A H locs h9 hH0 hP hS
  obtain ⟨cf, hr, hlk, hnm, hKB, hE, -, hD, -, hA, hAw, hR0, hl⟩ := h9
  have hx := cf.1
  have hb := cf.2.1
  have hml := cf.2.2.1
  have hown : s.vm.findClass RX4 = some m.cls := cf.2.2.2.1
  have hts := cf.2.2.2.2
  have hK := hKB.1
  have hl : lv_has ls 2 [(0, .ref m0), (1, .int id)] := hl
  have iN := iv_sN hI
  have iT := iv_tN hI
  have iD := iv_bD hI
  have iE := iv_bE hI
  have iW := iv_id hI
  refine lv_aload_n hx hb dX4_minutesOf_0 rfl (lv_at hl 0 rfl) ?_
  refine lv_iload_n hx hb dX4_minutesOf_1 rfl (lv_at hl 1 rfl) ?_
  have hF := hF_of (wc := [(m0, .inr (6, [.ref sa, .ref oa, .ref pa, .ref la, .ref za, .ref na, .int gu, .int gt, .int gw, .int gd, .int gm, .int gr, .int gh, .int gv]))]) hD hS hA [0] rfl
  have hro_265 : roW G (va_A [(m0, .inr (6, [.ref sa, .ref oa, .ref pa, .ref la, .ref za, .ref na, .int gu, .int gt, .int gw, .int gd, .int gm, .int gr, .int gh, .int gv]))] H.size) H [(sa, .inl (G.2 0, 830, .inl f))] := ((hR0.kp hF hS.2.1).sub (ws' := [(sa, .inl (G.2 0, 830, .inl f))]) [0] rfl)
  refine go_ct hS hP hD [0] [1, 2] hF rfl rfl (by decide) (by decide)
      (va_runV (As := [.int id]) (rest := []) cf (mX4_isNoSession l G m0 sa oa pa la za na gu gt gw gd gm gr gh gv f B id (show MR f B from by first | assumption | omega) (show Inv B from by first | assumption | omega) H.size) (cwV 1 hts (lw_V q1751 q1753 qs32 q58 q1754) rfl rfl rfl (by decide +kernel) ⟨Nat.le_of_ble_eq_true rfl, Nat.le_of_ble_eq_true rfl⟩) (preV_of hKB hE hS hF (va_recv hK hP (ci := 6) (q0 := 0) rfl rfl) (va_P.sub hP [0] rfl) ((va_D.sub hD [0] (by decide) rfl).weaken (fun _ _ _ _ => trivial)) hro_265) rfl rfl hl.1 rfl (lv_room (Nat.le_of_ble_eq_true rfl)) dX4_minutesOf_2 ⟨show 0 + 0 ≤ 0 from by first | decide | omega, show 0 + 0 ≤ 0 from by first | decide | omega⟩)
      (fun u_ H locs hq hph (hP : va_P G.1 CL [(la, .inl (G.2 0, 200, .inl lf)), (za, .inl (G.2 0, 6, .inl zf)), (m0, .inr (6, [.ref sa, .ref oa, .ref pa, .ref la, .ref za, .ref na, .int gu, .int gt, .int gw, .int gd, .int gm, .int gr, .int (nS u_), .int gv]))] H) (hD : va_D A [(la, .inl (G.2 0, 200, .inl lf)), (za, .inl (G.2 0, 6, .inl zf)), (m0, .inr (6, [.ref sa, .ref oa, .ref pa, .ref la, .ref za, .ref na, .int gu, .int gt, .int gw, .int gd, .int gm, .int gr, .int (nS u_), .int gv]))]) hS hfz hfk => ?_)
  obtain ⟨fo_266, rfl⟩ : ∃ z, z = u_ := ⟨_, rfl⟩
  have hP : va_P G.1 CL [(la, .inl (G.2 0, 200, .inl lf)), (za, .inl (G.2 0, 6, .inl zf)), (m0, .inr (6, [.ref sa, .ref oa, .ref pa, .ref la, .ref za, .ref na, .int gu, .int gt, .int gw, .int gd, .int gm, .int gr, .int (nS fo_266), .int gv]))] H := hP
  have hD : va_D A [(la, .inl (G.2 0, 200, .inl lf)), (za, .inl (G.2 0, 6, .inl zf)), (m0, .inr (6, [.ref sa, .ref oa, .ref pa, .ref la, .ref za, .ref na, .int gu, .int gt, .int gw, .int gd, .int gm, .int gr, .int (nS fo_266), .int gv]))] := hD
  have hq_267 : PL B id (sN B) fo_266 := hq
  refine W.eq (g2 := F0 m 5 ls [.int (nS fo_266)]) rfl ?_
  have hix_269 := ixS_eq hI hq_267
  rcases fo_266 with _ | k_268
  · refine lv_ton (n := 1) rfl ?_
    refine n_if_eq (tgt := 12) hx hb (by omega) dX4_minutesOf_5 (by decide) (fun c_270 => absurd c_270 (by omega)) (fun c_270 => ?_)
    refine lv_iconst (v := nI 0) hx hb dX4_minutesOf_8 (by decide) ?_
    refine lv_goto (tgt := 21) hx hb dX4_minutesOf_9 (by decide) ?_
    have hq9 : q_minOf B id = (1, 0) := by unfold q_minOf q1; rw [hix_269] <;> rfl
    have hP : va_P G.1 CL [(la, .inl (G.2 0, 200, .inl lf)), (za, .inl (G.2 0, 6, .inl zf)), (m0, .inr (6, [.ref sa, .ref oa, .ref pa, .ref la, .ref za, .ref na, .int gu, .int gt, .int gw, .int gd, .int gm, .int gr, .int (nI ((q_minOf B id).1)), .int gv]))] H := by rw [hq9]; exact hP
    have hD : va_D A [(la, .inl (G.2 0, 200, .inl lf)), (za, .inl (G.2 0, 6, .inl zf)), (m0, .inr (6, [.ref sa, .ref oa, .ref pa, .ref la, .ref za, .ref na, .int gu, .int gt, .int gw, .int gd, .int gm, .int gr, .int (nI ((q_minOf B id).1)), .int gv]))] := by rw [hq9]; exact hD
    have hP9 : va_P G.1 CL [(m0, .inr (6, [.ref sa, .ref oa, .ref pa, .ref la, .ref za, .ref na, .int gu, .int gt, .int gw, .int gd, .int gm, .int gr, .int (nI ((q_minOf B id).1)), .int gv])), (la, .inl (G.2 0, 200, .inl lf)), (za, .inl (G.2 0, 6, .inl zf))] H := hP.sub [2, 0, 1] rfl
    have hD9 : va_D A [(m0, .inr (6, [.ref sa, .ref oa, .ref pa, .ref la, .ref za, .ref na, .int gu, .int gt, .int gw, .int gd, .int gm, .int gr, .int (nI ((q_minOf B id).1)), .int gv])), (la, .inl (G.2 0, 200, .inl lf)), (za, .inl (G.2 0, 6, .inl zf))] := hD.sub [2, 0, 1] (by decide) rfl
    exact end_i hx hb hr hlk (rfl) (qc_of ⟨nI 0, lf, zf, gd, gm, gr⟩ (v := some (.int (nI 0))) (by rfl) (fun h => by rw [hq9] at h; exact absurd h (by decide)) hP9 hD9 (trivial) hS) hS dX4_minutesOf_21 (show 0 ≤ 0 from by first | exact Nat.le_refl _ | decide | omega) (show 0 ≤ 0 from by first | exact Nat.le_refl _ | decide | omega)
  · refine lv_ton (n := 0) rfl ?_
    have hkk : k_268 < sN B := (hq_267).1
    refine n_if_eq (tgt := 12) hx hb (by omega) dX4_minutesOf_5 (by decide) (fun c_271 => ?_) (fun c_271 => absurd c_271 (by omega))
    refine lv_aload_n hx hb dX4_minutesOf_12 rfl (lv_at hl 0 rfl) ?_
    refine lv_aload_n hx hb dX4_minutesOf_13 rfl (lv_at hl 0 rfl) ?_
    refine lv_iload_n hx hb dX4_minutesOf_14 rfl (lv_at hl 1 rfl) ?_
    have hF := hF_of (wc := []) hD hS hA [] rfl
    have hro_272 : va_P G.1 CL [(m0, .inr (6, [.ref sa, .ref oa, .ref pa, .ref la, .ref za, .ref na, .int gu, .int gt, .int gw, .int gd, .int gm, .int gr, .int (nS (some k_268)), .int gv])), (sa, .inl (G.2 0, 830, .inl f))] H := ((va_P.sub hP [2] rfl).app ((hR0.w hS).sub [0] rfl))
    refine go_ct hS hP hD [] [0, 1, 2] hF rfl rfl (by decide) (by decide)
        (va_runV (As := [.int id]) (rest := [.ref m0]) cf (mX4_place l G m0 sa oa pa la za na gu gt gw gd gm gr (nS (some k_268)) gv f B id (show MR f B from by first | assumption | omega) (show Inv B from by first | assumption | omega) H.size) (cwV 1 hts (lw_V q1739 q1741 qs30 q58 q1742) rfl rfl rfl (by decide +kernel) ⟨Nat.le_of_ble_eq_true rfl, Nat.le_of_ble_eq_true rfl⟩) (preV_of hKB hE hS hF (va_recv hK hP (ci := 6) (q0 := 2) rfl rfl) (va_P.sub hP [] rfl) ((va_D.sub hD [] (by decide) rfl).weaken (fun _ _ _ _ => trivial)) (roW.nil hro_272)) rfl rfl hl.1 rfl (lv_room (Nat.le_of_ble_eq_true rfl)) dX4_minutesOf_15 ⟨show 0 + 0 ≤ 0 from by first | decide | omega, show 0 + 0 ≤ 0 from by first | decide | omega⟩)
        (fun u_ H locs hq hph (hP : va_P G.1 CL [(la, .inl (G.2 0, 200, .inl lf)), (za, .inl (G.2 0, 6, .inl zf)), (m0, .inr (6, [.ref sa, .ref oa, .ref pa, .ref la, .ref za, .ref na, .int gu, .int gt, .int gw, .int gd, .int gm, .int gr, .int (nS (some k_268)), .int gv]))] H) (hD : va_D A [(la, .inl (G.2 0, 200, .inl lf)), (za, .inl (G.2 0, 6, .inl zf)), (m0, .inr (6, [.ref sa, .ref oa, .ref pa, .ref la, .ref za, .ref na, .int gu, .int gt, .int gw, .int gd, .int gm, .int gr, .int (nS (some k_268)), .int gv]))]) hS hfz hfk => ?_)
    obtain ⟨fo_273, rfl⟩ : ∃ z, z = u_ := ⟨_, rfl⟩
    have hP : va_P G.1 CL [(la, .inl (G.2 0, 200, .inl lf)), (za, .inl (G.2 0, 6, .inl zf)), (m0, .inr (6, [.ref sa, .ref oa, .ref pa, .ref la, .ref za, .ref na, .int gu, .int gt, .int gw, .int gd, .int gm, .int gr, .int (nS (some k_268)), .int gv]))] H := hP
    have hD : va_D A [(la, .inl (G.2 0, 200, .inl lf)), (za, .inl (G.2 0, 6, .inl zf)), (m0, .inr (6, [.ref sa, .ref oa, .ref pa, .ref la, .ref za, .ref na, .int gu, .int gt, .int gw, .int gd, .int gm, .int gr, .int (nS (some k_268)), .int gv]))] := hD
    have hq_274 : PL B id (sN B) fo_273 := hq
    refine W.eq (g2 := F0 m 18 ls [.int (oI fo_273), .ref m0]) rfl ?_
    have he_275 := (ixS_eq hI hq_274).symm.trans hix_269
    refine lv_ton (n := k_268) (by rw [he_275]; rfl) ?_
    have hF := hF_of (wc := []) hD hS hA [] rfl
    have hro_276 : va_P G.1 CL [(m0, .inr (6, [.ref sa, .ref oa, .ref pa, .ref la, .ref za, .ref na, .int gu, .int gt, .int gw, .int gd, .int gm, .int gr, .int (nS (some k_268)), .int gv])), (sa, .inl (G.2 0, 830, .inl f))] H := ((va_P.sub hP [2] rfl).app ((hR0.w hS).sub [0] rfl))
    refine go_ct hS hP hD [] [0, 1, 2] hF rfl rfl (by decide) (by decide)
        (va_runV (As := [.int (nI k_268)]) (rest := []) cf (mX4_minutes l G m0 sa oa pa la za na gu gt gw gd gm gr (nS (some k_268)) gv f B k_268 (show MR f B from by first | assumption | omega) (show Inv B from by first | assumption | omega) (show k_268 < sN B from by first | assumption | omega) H.size) (cwV 1 hts (lw_V q1743 q1745 qs31 q58 q1746) rfl rfl rfl (by decide +kernel) ⟨Nat.le_of_ble_eq_true rfl, Nat.le_of_ble_eq_true rfl⟩) (preV_of hKB hE hS hF (va_recv hK hP (ci := 6) (q0 := 2) rfl rfl) (va_P.sub hP [] rfl) ((va_D.sub hD [] (by decide) rfl).weaken (fun _ _ _ _ => trivial)) (roW.nil hro_276)) rfl rfl hl.1 rfl (lv_room (Nat.le_of_ble_eq_true rfl)) dX4_minutesOf_18 ⟨show 0 + 0 ≤ 0 from by first | decide | omega, show 0 + 0 ≤ 0 from by first | decide | omega⟩)
        (fun u_ H locs hq hph (hP : va_P G.1 CL [(la, .inl (G.2 0, 200, .inl lf)), (za, .inl (G.2 0, 6, .inl zf)), (m0, .inr (6, [.ref sa, .ref oa, .ref pa, .ref la, .ref za, .ref na, .int gu, .int gt, .int gw, .int gd, .int gm, .int gr, .int (nS (some k_268)), .int gv]))] H) (hD : va_D A [(la, .inl (G.2 0, 200, .inl lf)), (za, .inl (G.2 0, 6, .inl zf)), (m0, .inr (6, [.ref sa, .ref oa, .ref pa, .ref la, .ref za, .ref na, .int gu, .int gt, .int gw, .int gd, .int gm, .int gr, .int (nS (some k_268)), .int gv]))]) hS hfz hfk => ?_)
    refine W.eq (g2 := F0 m 21 ls [.int (nI (minOf (sAt B k_268)))]) rfl ?_
    have hq9 : q_minOf B id = (0, nI (minOf (sAt B k_268))) := by unfold q_minOf q1; rw [hix_269] <;> rfl
    have hP : va_P G.1 CL [(la, .inl (G.2 0, 200, .inl lf)), (za, .inl (G.2 0, 6, .inl zf)), (m0, .inr (6, [.ref sa, .ref oa, .ref pa, .ref la, .ref za, .ref na, .int gu, .int gt, .int gw, .int gd, .int gm, .int gr, .int (nI ((q_minOf B id).1)), .int gv]))] H := by rw [hq9]; exact hP
    have hD : va_D A [(la, .inl (G.2 0, 200, .inl lf)), (za, .inl (G.2 0, 6, .inl zf)), (m0, .inr (6, [.ref sa, .ref oa, .ref pa, .ref la, .ref za, .ref na, .int gu, .int gt, .int gw, .int gd, .int gm, .int gr, .int (nI ((q_minOf B id).1)), .int gv]))] := by rw [hq9]; exact hD
    have hP9 : va_P G.1 CL [(m0, .inr (6, [.ref sa, .ref oa, .ref pa, .ref la, .ref za, .ref na, .int gu, .int gt, .int gw, .int gd, .int gm, .int gr, .int (nI ((q_minOf B id).1)), .int gv])), (la, .inl (G.2 0, 200, .inl lf)), (za, .inl (G.2 0, 6, .inl zf))] H := hP.sub [2, 0, 1] rfl
    have hD9 : va_D A [(m0, .inr (6, [.ref sa, .ref oa, .ref pa, .ref la, .ref za, .ref na, .int gu, .int gt, .int gw, .int gd, .int gm, .int gr, .int (nI ((q_minOf B id).1)), .int gv])), (la, .inl (G.2 0, 200, .inl lf)), (za, .inl (G.2 0, 6, .inl zf))] := hD.sub [2, 0, 1] (by decide) rfl
    exact end_i hx hb hr hlk (rfl) (qc_of ⟨nI (minOf (sAt B k_268)), lf, zf, gd, gm, gr⟩ (v := some (.int (nI (minOf (sAt B k_268))))) (by rfl) (fun _ => by rw [hq9]) hP9 hD9 (trivial) hS) hS dX4_minutesOf_21 (show 0 ≤ 0 from by first | exact Nat.le_refl _ | decide | omega) (show 0 ≤ 0 from by first | exact Nat.le_refl _ | decide | omega)

set_option maxHeartbeats 4000000 in
theorem mX4_minutesInZone (l : Launch) (G : Gt) (m0 : Nat) (sa : Nat) (oa : Nat) (pa : Nat) (la : Nat) (za : Nat) (na : Nat) (gu : Int32) (gt : Int32) (gw : Int32) (gd : Int32) (gm : Int32) (gr : Int32) (gh : Int32) (gv : Int32) (f : Nat → Int32) (B : Bk) (lf : Nat → Int32) (zf : Nat → Int32) (id : Int32) (z : Int32) (hM : MR f B) (hI : Inv B) : CT l G yX4_minutesInZone cX4_minutesInZone 3 (some .int) ({ frames := 4, cells := 0, slots := 0, locals := 83 } : Room) [.ref m0, .int id, .int z] [(m0, .inr (6, [.ref sa, .ref oa, .ref pa, .ref la, .ref za, .ref na, .int gu, .int gt, .int gw, .int gd, .int gm, .int gr, .int gh, .int gv])), (la, .inl (G.2 0, 200, .inl lf)), (za, .inl (G.2 0, 6, .inl zf))] (fun (A : Nat → Prop) (H : Heap) => roW G A H [(sa, .inl (G.2 0, 830, .inl f))]) (S := Int32 × (Nat → Int32) × (Nat → Int32) × Int32 × Int32 × Int32) (fun (u_ : Int32 × (Nat → Int32) × (Nat → Int32) × Int32 × Int32 × Int32) => some (.int u_.1)) (fun (u_ : Int32 × (Nat → Int32) × (Nat → Int32) × Int32 × Int32 × Int32) => ((q_minZ B id z).1 = 0 → u_.1 = (q_minZ B id z).2)) (fun (u_ : Int32 × (Nat → Int32) × (Nat → Int32) × Int32 × Int32 × Int32) => [(m0, .inr (6, [.ref sa, .ref oa, .ref pa, .ref la, .ref za, .ref na, .int gu, .int gt, .int gw, .int u_.2.2.2.1, .int u_.2.2.2.2.1, .int u_.2.2.2.2.2, .int (nI ((q_minZ B id z).1)), .int gv])), (la, .inl (G.2 0, 200, .inl u_.2.1)), (za, .inl (G.2 0, 6, .inl u_.2.2.1))]) (fun (u_ : Int32 × (Nat → Int32) × (Nat → Int32) × Int32 × Int32 × Int32) (H : Heap) => True) := by
  refine CT.of (by decide) (Nat.le_of_ble_eq_true rfl) ?_
  intro p e s m below meth c ls A H locs h9 hH0 hP hS
  obtain ⟨cf, hr, hlk, hnm, hKB, hE, -, hD, -, hA, hAw, hR0, hl⟩ := h9
  have hx := cf.1
  have hb := cf.2.1
  have hml := cf.2.2.1
  have hown : s.vm.findClass RX4 = some m.cls := cf.2.2.2.1
  have hts := cf.2.2.2.2
  have hK := hKB.1
  have hl : lv_has ls 3 [(0, .ref m0), (1, .int id), (2, .int z)] := hl
  have iN := iv_sN hI
  have iT := iv_tN hI
  have iD := iv_bD hI
  have iE := iv_bE hI
  have iW := iv_id hI
  refine lv_aload_n hx hb dX4_minutesInZone_0 rfl (lv_at hl 0 rfl) ?_
  refine lv_iload_n hx hb dX4_minutesInZone_1 rfl (lv_at hl 1 rfl) ?_
  have hF := hF_of (wc := [(m0, .inr (6, [.ref sa, .ref oa, .ref pa, .ref la, .ref za, .ref na, .int gu, .int gt, .int gw, .int gd, .int gm, .int gr, .int gh, .int gv]))]) hD hS hA [0] rfl
  have hro_277 : roW G (va_A [(m0, .inr (6, [.ref sa, .ref oa, .ref pa, .ref la, .ref za, .ref na, .int gu, .int gt, .int gw, .int gd, .int gm, .int gr, .int gh, .int gv]))] H.size) H [(sa, .inl (G.2 0, 830, .inl f))] := ((hR0.kp hF hS.2.1).sub (ws' := [(sa, .inl (G.2 0, 830, .inl f))]) [0] rfl)
  refine go_ct hS hP hD [0] [1, 2] hF rfl rfl (by decide) (by decide)
      (va_runV (As := [.int id]) (rest := []) cf (mX4_isNoSession l G m0 sa oa pa la za na gu gt gw gd gm gr gh gv f B id (show MR f B from by first | assumption | omega) (show Inv B from by first | assumption | omega) H.size) (cwV 1 hts (lw_V q1751 q1753 qs32 q58 q1754) rfl rfl rfl (by decide +kernel) ⟨Nat.le_of_ble_eq_true rfl, Nat.le_of_ble_eq_true rfl⟩) (preV_of hKB hE hS hF (va_recv hK hP (ci := 6) (q0 := 0) rfl rfl) (va_P.sub hP [0] rfl) ((va_D.sub hD [0] (by decide) rfl).weaken (fun _ _ _ _ => trivial)) hro_277) rfl rfl hl.1 rfl (lv_room (Nat.le_of_ble_eq_true rfl)) dX4_minutesInZone_2 ⟨show 0 + 0 ≤ 0 from by first | decide | omega, show 0 + 0 ≤ 0 from by first | decide | omega⟩)
      (fun u_ H locs hq hph (hP : va_P G.1 CL [(la, .inl (G.2 0, 200, .inl lf)), (za, .inl (G.2 0, 6, .inl zf)), (m0, .inr (6, [.ref sa, .ref oa, .ref pa, .ref la, .ref za, .ref na, .int gu, .int gt, .int gw, .int gd, .int gm, .int gr, .int (nS u_), .int gv]))] H) (hD : va_D A [(la, .inl (G.2 0, 200, .inl lf)), (za, .inl (G.2 0, 6, .inl zf)), (m0, .inr (6, [.ref sa, .ref oa, .ref pa, .ref la, .ref za, .ref na, .int gu, .int gt, .int gw, .int gd, .int gm, .int gr, .int (nS u_), .int gv]))]) hS hfz hfk => ?_)
  obtain ⟨fo_278, rfl⟩ : ∃ z, z = u_ := ⟨_, rfl⟩
  have hP : va_P G.1 CL [(la, .inl (G.2 0, 200, .inl lf)), (za, .inl (G.2 0, 6, .inl zf)), (m0, .inr (6, [.ref sa, .ref oa, .ref pa, .ref la, .ref za, .ref na, .int gu, .int gt, .int gw, .int gd, .int gm, .int gr, .int (nS fo_278), .int gv]))] H := hP
  have hD : va_D A [(la, .inl (G.2 0, 200, .inl lf)), (za, .inl (G.2 0, 6, .inl zf)), (m0, .inr (6, [.ref sa, .ref oa, .ref pa, .ref la, .ref za, .ref na, .int gu, .int gt, .int gw, .int gd, .int gm, .int gr, .int (nS fo_278), .int gv]))] := hD
  have hq_279 : PL B id (sN B) fo_278 := hq
  refine W.eq (g2 := F0 m 5 ls [.int (nS fo_278)]) rfl ?_
  have hix_281 := ixS_eq hI hq_279
  rcases fo_278 with _ | k_280
  · refine lv_ton (n := 1) rfl ?_
    refine n_if_ne (tgt := 30) hx hb (by omega) dX4_minutesInZone_5 (by decide) (fun c_282 => ?_) (fun c_282 => absurd c_282 (by omega))
    refine lv_iconst (v := nI 0) hx hb dX4_minutesInZone_30 (by decide) ?_
    have hq9 : q_minZ B id z = (1, 0) := by unfold q_minZ; rw [hix_281] <;> rfl
    have hP : va_P G.1 CL [(la, .inl (G.2 0, 200, .inl lf)), (za, .inl (G.2 0, 6, .inl zf)), (m0, .inr (6, [.ref sa, .ref oa, .ref pa, .ref la, .ref za, .ref na, .int gu, .int gt, .int gw, .int gd, .int gm, .int gr, .int (nI ((q_minZ B id z).1)), .int gv]))] H := by rw [hq9]; exact hP
    have hD : va_D A [(la, .inl (G.2 0, 200, .inl lf)), (za, .inl (G.2 0, 6, .inl zf)), (m0, .inr (6, [.ref sa, .ref oa, .ref pa, .ref la, .ref za, .ref na, .int gu, .int gt, .int gw, .int gd, .int gm, .int gr, .int (nI ((q_minZ B id z).1)), .int gv]))] := by rw [hq9]; exact hD
    have hP9 : va_P G.1 CL [(m0, .inr (6, [.ref sa, .ref oa, .ref pa, .ref la, .ref za, .ref na, .int gu, .int gt, .int gw, .int gd, .int gm, .int gr, .int (nI ((q_minZ B id z).1)), .int gv])), (la, .inl (G.2 0, 200, .inl lf)), (za, .inl (G.2 0, 6, .inl zf))] H := hP.sub [2, 0, 1] rfl
    have hD9 : va_D A [(m0, .inr (6, [.ref sa, .ref oa, .ref pa, .ref la, .ref za, .ref na, .int gu, .int gt, .int gw, .int gd, .int gm, .int gr, .int (nI ((q_minZ B id z).1)), .int gv])), (la, .inl (G.2 0, 200, .inl lf)), (za, .inl (G.2 0, 6, .inl zf))] := hD.sub [2, 0, 1] (by decide) rfl
    exact end_i hx hb hr hlk (rfl) (qc_of ⟨nI 0, lf, zf, gd, gm, gr⟩ (v := some (.int (nI 0))) (by rfl) (fun h => by rw [hq9] at h; exact absurd h (by decide)) hP9 hD9 (trivial) hS) hS dX4_minutesInZone_31 (show 0 ≤ 0 from by first | exact Nat.le_refl _ | decide | omega) (show 0 ≤ 0 from by first | exact Nat.le_refl _ | decide | omega)
  · refine lv_ton (n := 0) rfl ?_
    have hkk : k_280 < sN B := (hq_279).1
    refine n_if_ne (tgt := 30) hx hb (by omega) dX4_minutesInZone_5 (by decide) (fun c_283 => absurd c_283 (by omega)) (fun c_283 => ?_)
    refine lv_aload_n hx hb dX4_minutesInZone_8 rfl (lv_at hl 0 rfl) ?_
    refine lv_iload_n hx hb dX4_minutesInZone_9 rfl (lv_at hl 2 rfl) ?_
    refine lv_iconst (v := nI 1) hx hb dX4_minutesInZone_10 (by decide) ?_
    refine lv_iconst (v := nI 5) hx hb dX4_minutesInZone_11 (by decide) ?_
    have hF := hF_of (wc := []) hD hS hA [] rfl
    refine go_ct hS hP hD [] [0, 1, 2] hF rfl rfl (by decide) (by decide)
        (va_runS (As := [.int z, .int (nI 1), .int (nI 5)]) (rest := [.ref m0]) cf (mX4_isIn l G z (nI 1) (nI 5)  H.size) (va_cwS 3 hts (lw_S q1647 q1648 q58 q1649) rfl rfl rfl (by decide +kernel) ⟨Nat.le_of_ble_eq_true rfl, Nat.le_of_ble_eq_true rfl⟩) (preS_of hKB hE hS hF (va_P.sub hP [] rfl) ((va_D.sub hD [] (by decide) rfl).weaken (fun _ _ _ _ => trivial)) trivial) rfl rfl hl.1 rfl (lv_room (Nat.le_of_ble_eq_true rfl)) dX4_minutesInZone_12 ⟨show 0 + 0 ≤ 0 from by first | decide | omega, show 0 + 0 ≤ 0 from by first | decide | omega⟩)
        (fun u_ H locs hq hph (hP : va_P G.1 CL [(la, .inl (G.2 0, 200, .inl lf)), (za, .inl (G.2 0, 6, .inl zf)), (m0, .inr (6, [.ref sa, .ref oa, .ref pa, .ref la, .ref za, .ref na, .int gu, .int gt, .int gw, .int gd, .int gm, .int gr, .int (nS (some k_280)), .int gv]))] H) (hD : va_D A [(la, .inl (G.2 0, 200, .inl lf)), (za, .inl (G.2 0, 6, .inl zf)), (m0, .inr (6, [.ref sa, .ref oa, .ref pa, .ref la, .ref za, .ref na, .int gu, .int gt, .int gw, .int gd, .int gm, .int gr, .int (nS (some k_280)), .int gv]))]) hS hfz hfk => ?_)
    obtain ⟨b_284, rfl⟩ : ∃ z, z = u_ := ⟨_, rfl⟩
    have hP : va_P G.1 CL [(la, .inl (G.2 0, 200, .inl lf)), (za, .inl (G.2 0, 6, .inl zf)), (m0, .inr (6, [.ref sa, .ref oa, .ref pa, .ref la, .ref za, .ref na, .int gu, .int gt, .int gw, .int gd, .int gm, .int gr, .int (nS (some k_280)), .int gv]))] H := hP
    have hD : va_D A [(la, .inl (G.2 0, 200, .inl lf)), (za, .inl (G.2 0, 6, .inl zf)), (m0, .inr (6, [.ref sa, .ref oa, .ref pa, .ref la, .ref za, .ref na, .int gu, .int gt, .int gw, .int gd, .int gm, .int gr, .int (nS (some k_280)), .int gv]))] := hD
    have hq_285 : (b_284 = true ↔ (nI 1) ≤ z ∧ z ≤ (nI 5)) := hq
    refine W.eq (g2 := F0 m 15 ls [.int (bI b_284), .ref m0]) rfl ?_
    cases b_284
    · refine lv_ton (n := 0) rfl ?_
      have hir_286 : inR z 1 5 = none := inR_none (fun z => absurd (hq_285.mpr z) (by decide))
      refine n_if_ne (tgt := 22) hx hb (by omega) dX4_minutesInZone_15 (by decide) (fun c_287 => absurd c_287 (by omega)) (fun c_287 => ?_)
      refine lv_iconst (v := nI 1) hx hb dX4_minutesInZone_18 (by decide) ?_
      refine lv_goto (tgt := 23) hx hb dX4_minutesInZone_19 (by decide) ?_
      refine lv_iconst (v := nI 2) hx hb dX4_minutesInZone_23 (by decide) ?_
      have hF := hF_of (wc := [(m0, .inr (6, [.ref sa, .ref oa, .ref pa, .ref la, .ref za, .ref na, .int gu, .int gt, .int gw, .int gd, .int gm, .int gr, .int (nS (some k_280)), .int gv]))]) hD hS hA [2] rfl
      refine go_ct hS hP hD [2] [0, 1] hF rfl rfl (by decide) (by decide)
          (va_runV (As := [.int (nI 1), .int (nI 2)]) (rest := []) cf (mX4_isThrown_t l G m0 sa oa pa la za na gu gt gw gd gm gr (nS (some k_280)) gv 2  H.size) (cwV 2 hts (lw_V q1650 q1652 qs20 q58 q1653) rfl rfl rfl (by decide +kernel) ⟨Nat.le_of_ble_eq_true rfl, Nat.le_of_ble_eq_true rfl⟩) (preV_of hKB hE hS hF (va_recv hK hP (ci := 6) (q0 := 2) rfl rfl) (va_P.sub hP [2] rfl) ((va_D.sub hD [2] (by decide) rfl).weaken (fun _ _ _ _ => trivial)) trivial) rfl rfl hl.1 rfl (lv_room (Nat.le_of_ble_eq_true rfl)) dX4_minutesInZone_24 ⟨show 0 + 0 ≤ 0 from by first | decide | omega, show 0 + 0 ≤ 0 from by first | decide | omega⟩)
          (fun u_ H locs hq hph (hP : va_P G.1 CL [(la, .inl (G.2 0, 200, .inl lf)), (za, .inl (G.2 0, 6, .inl zf)), (m0, .inr (6, [.ref sa, .ref oa, .ref pa, .ref la, .ref za, .ref na, .int gu, .int gt, .int gw, .int gd, .int gm, .int gr, .int (nI 2), .int gv]))] H) (hD : va_D A [(la, .inl (G.2 0, 200, .inl lf)), (za, .inl (G.2 0, 6, .inl zf)), (m0, .inr (6, [.ref sa, .ref oa, .ref pa, .ref la, .ref za, .ref na, .int gu, .int gt, .int gw, .int gd, .int gm, .int gr, .int (nI 2), .int gv]))]) hS hfz hfk => ?_)
      refine W.eq (g2 := F0 m 27 ls [.int (nI 1)]) rfl ?_
      refine n_if_eq (tgt := 32) hx hb (by omega) dX4_minutesInZone_27 (by decide) (fun c_288 => absurd c_288 (by omega)) (fun c_288 => ?_)
      refine lv_iconst (v := nI 0) hx hb dX4_minutesInZone_30 (by decide) ?_
      have hq9 : q_minZ B id z = (2, 0) := by unfold q_minZ; rw [hix_281, hir_286] <;> rfl
      have hP : va_P G.1 CL [(la, .inl (G.2 0, 200, .inl lf)), (za, .inl (G.2 0, 6, .inl zf)), (m0, .inr (6, [.ref sa, .ref oa, .ref pa, .ref la, .ref za, .ref na, .int gu, .int gt, .int gw, .int gd, .int gm, .int gr, .int (nI ((q_minZ B id z).1)), .int gv]))] H := by rw [hq9]; exact hP
      have hD : va_D A [(la, .inl (G.2 0, 200, .inl lf)), (za, .inl (G.2 0, 6, .inl zf)), (m0, .inr (6, [.ref sa, .ref oa, .ref pa, .ref la, .ref za, .ref na, .int gu, .int gt, .int gw, .int gd, .int gm, .int gr, .int (nI ((q_minZ B id z).1)), .int gv]))] := by rw [hq9]; exact hD
      have hP9 : va_P G.1 CL [(m0, .inr (6, [.ref sa, .ref oa, .ref pa, .ref la, .ref za, .ref na, .int gu, .int gt, .int gw, .int gd, .int gm, .int gr, .int (nI ((q_minZ B id z).1)), .int gv])), (la, .inl (G.2 0, 200, .inl lf)), (za, .inl (G.2 0, 6, .inl zf))] H := hP.sub [2, 0, 1] rfl
      have hD9 : va_D A [(m0, .inr (6, [.ref sa, .ref oa, .ref pa, .ref la, .ref za, .ref na, .int gu, .int gt, .int gw, .int gd, .int gm, .int gr, .int (nI ((q_minZ B id z).1)), .int gv])), (la, .inl (G.2 0, 200, .inl lf)), (za, .inl (G.2 0, 6, .inl zf))] := hD.sub [2, 0, 1] (by decide) rfl
      exact end_i hx hb hr hlk (rfl) (qc_of ⟨nI 0, lf, zf, gd, gm, gr⟩ (v := some (.int (nI 0))) (by rfl) (fun h => by rw [hq9] at h; exact absurd h (by decide)) hP9 hD9 (trivial) hS) hS dX4_minutesInZone_31 (show 0 ≤ 0 from by first | exact Nat.le_refl _ | decide | omega) (show 0 ≤ 0 from by first | exact Nat.le_refl _ | decide | omega)
    · refine lv_ton (n := 1) rfl ?_
      have hin_289 : nI 1 ≤ z ∧ z ≤ nI 5 := hq_285.mp rfl
      obtain ⟨d_290, hv_291, h_292, h_293⟩ := in_nat (lo := 1) (hi := 5) (by omega) (by omega) hin_289.1 hin_289.2
      have hir_294 : inR z 1 5 = some d_290 := inR_some hv_291 h_292 h_293 (by omega)
      have hl : lv_has ls 3 [(0, .ref m0), (1, .int id), (2, .int (nI d_290))] := by
        have e9 : ((.int (nI d_290)) : Value) = .int z := by rw [hv_291]
        rw [e9]; exact hl
      refine n_if_ne (tgt := 22) hx hb (by omega) dX4_minutesInZone_15 (by decide) (fun c_295 => ?_) (fun c_295 => absurd c_295 (by omega))
      refine lv_iconst (v := nI 0) hx hb dX4_minutesInZone_22 (by decide) ?_
      refine lv_iconst (v := nI 2) hx hb dX4_minutesInZone_23 (by decide) ?_
      have hF := hF_of (wc := [(m0, .inr (6, [.ref sa, .ref oa, .ref pa, .ref la, .ref za, .ref na, .int gu, .int gt, .int gw, .int gd, .int gm, .int gr, .int (nS (some k_280)), .int gv]))]) hD hS hA [2] rfl
      refine go_ct hS hP hD [2] [0, 1] hF rfl rfl (by decide) (by decide)
          (va_runV (As := [.int (nI 0), .int (nI 2)]) (rest := []) cf (mX4_isThrown_f l G m0 sa oa pa la za na gu gt gw gd gm gr (nS (some k_280)) gv 2  H.size) (cwV 2 hts (lw_V q1650 q1652 qs20 q58 q1653) rfl rfl rfl (by decide +kernel) ⟨Nat.le_of_ble_eq_true rfl, Nat.le_of_ble_eq_true rfl⟩) (preV_of hKB hE hS hF (va_recv hK hP (ci := 6) (q0 := 2) rfl rfl) (va_P.sub hP [2] rfl) ((va_D.sub hD [2] (by decide) rfl).weaken (fun _ _ _ _ => trivial)) trivial) rfl rfl hl.1 rfl (lv_room (Nat.le_of_ble_eq_true rfl)) dX4_minutesInZone_24 ⟨show 0 + 0 ≤ 0 from by first | decide | omega, show 0 + 0 ≤ 0 from by first | decide | omega⟩)
          (fun u_ H locs hq hph (hP : va_P G.1 CL [(la, .inl (G.2 0, 200, .inl lf)), (za, .inl (G.2 0, 6, .inl zf)), (m0, .inr (6, [.ref sa, .ref oa, .ref pa, .ref la, .ref za, .ref na, .int gu, .int gt, .int gw, .int gd, .int gm, .int gr, .int (nI 0), .int gv]))] H) (hD : va_D A [(la, .inl (G.2 0, 200, .inl lf)), (za, .inl (G.2 0, 6, .inl zf)), (m0, .inr (6, [.ref sa, .ref oa, .ref pa, .ref la, .ref za, .ref na, .int gu, .int gt, .int gw, .int gd, .int gm, .int gr, .int (nI 0), .int gv]))]) hS hfz hfk => ?_)
      refine W.eq (g2 := F0 m 27 ls [.int (nI 0)]) rfl ?_
      refine n_if_eq (tgt := 32) hx hb (by omega) dX4_minutesInZone_27 (by decide) (fun c_296 => ?_) (fun c_296 => absurd c_296 (by omega))
      refine lv_aload_n hx hb dX4_minutesInZone_32 rfl (lv_at hl 0 rfl) ?_
      have hF := hF_of (wc := [(za, .inl (G.2 0, 6, .inl zf))]) hD hS hA [1] rfl
      refine go_ct hS hP hD [1] [0, 2] hF rfl rfl (by decide) (by decide)
          (va_runV (As := []) (rest := []) cf (mX4_noZones l G m0 sa oa pa la za na gu gt gw gd gm gr (nI 0) gv zf  H.size) (cwV 0 hts (lw_V q1679 q1681 qs25 q58 q1682) rfl rfl rfl (by decide +kernel) ⟨Nat.le_of_ble_eq_true rfl, Nat.le_of_ble_eq_true rfl⟩) (preV_of hKB hE hS hF (va_recv hK hP (ci := 6) (q0 := 2) rfl rfl) (va_P.sub hP [1] rfl) ((va_D.sub hD [1] (by decide) rfl).weaken (fun _ _ _ _ => trivial)) (roW.of (w' := [(m0, .inr (6, [.ref sa, .ref oa, .ref pa, .ref la, .ref za, .ref na, .int gu, .int gt, .int gw, .int gd, .int gm, .int gr, .int (nI 0), .int gv]))]) hP hD [1] [2] rfl rfl (by decide))) rfl rfl hl.1 rfl (lv_room (Nat.le_of_ble_eq_true rfl)) dX4_minutesInZone_33 ⟨show 0 + 0 ≤ 0 from by first | decide | omega, show 0 + 0 ≤ 0 from by first | decide | omega⟩)
          (fun u_ H locs hq hph (hP : va_P G.1 CL [(la, .inl (G.2 0, 200, .inl lf)), (m0, .inr (6, [.ref sa, .ref oa, .ref pa, .ref la, .ref za, .ref na, .int gu, .int gt, .int gw, .int gd, .int gm, .int gr, .int (nI 0), .int gv])), (za, .inl (G.2 0, 6, .inl zz))] H) (hD : va_D A [(la, .inl (G.2 0, 200, .inl lf)), (m0, .inr (6, [.ref sa, .ref oa, .ref pa, .ref la, .ref za, .ref na, .int gu, .int gt, .int gw, .int gd, .int gm, .int gr, .int (nI 0), .int gv])), (za, .inl (G.2 0, 6, .inl zz))]) hS hfz hfk => ?_)
      refine W.eq (g2 := F0 m 36 ls []) rfl ?_
      refine lv_aload_n hx hb dX4_minutesInZone_36 rfl (lv_at hl 0 rfl) ?_
      refine lv_aload_n hx hb dX4_minutesInZone_37 rfl (lv_at hl 0 rfl) ?_
      refine lv_iload_n hx hb dX4_minutesInZone_38 rfl (lv_at hl 1 rfl) ?_
      have hF := hF_of (wc := []) hD hS hA [] rfl
      have hro_297 : va_P G.1 CL [(m0, .inr (6, [.ref sa, .ref oa, .ref pa, .ref la, .ref za, .ref na, .int gu, .int gt, .int gw, .int gd, .int gm, .int gr, .int (nI 0), .int gv])), (sa, .inl (G.2 0, 830, .inl f))] H := ((va_P.sub hP [1] rfl).app ((hR0.w hS).sub [0] rfl))
      refine go_ct hS hP hD [] [0, 1, 2] hF rfl rfl (by decide) (by decide)
          (va_runV (As := [.int id]) (rest := [.ref m0]) cf (mX4_place l G m0 sa oa pa la za na gu gt gw gd gm gr (nI 0) gv f B id (show MR f B from by first | assumption | omega) (show Inv B from by first | assumption | omega) H.size) (cwV 1 hts (lw_V q1739 q1741 qs30 q58 q1742) rfl rfl rfl (by decide +kernel) ⟨Nat.le_of_ble_eq_true rfl, Nat.le_of_ble_eq_true rfl⟩) (preV_of hKB hE hS hF (va_recv hK hP (ci := 6) (q0 := 1) rfl rfl) (va_P.sub hP [] rfl) ((va_D.sub hD [] (by decide) rfl).weaken (fun _ _ _ _ => trivial)) (roW.nil hro_297)) rfl rfl hl.1 rfl (lv_room (Nat.le_of_ble_eq_true rfl)) dX4_minutesInZone_39 ⟨show 0 + 0 ≤ 0 from by first | decide | omega, show 0 + 0 ≤ 0 from by first | decide | omega⟩)
          (fun u_ H locs hq hph (hP : va_P G.1 CL [(la, .inl (G.2 0, 200, .inl lf)), (m0, .inr (6, [.ref sa, .ref oa, .ref pa, .ref la, .ref za, .ref na, .int gu, .int gt, .int gw, .int gd, .int gm, .int gr, .int (nI 0), .int gv])), (za, .inl (G.2 0, 6, .inl zz))] H) (hD : va_D A [(la, .inl (G.2 0, 200, .inl lf)), (m0, .inr (6, [.ref sa, .ref oa, .ref pa, .ref la, .ref za, .ref na, .int gu, .int gt, .int gw, .int gd, .int gm, .int gr, .int (nI 0), .int gv])), (za, .inl (G.2 0, 6, .inl zz))]) hS hfz hfk => ?_)
      obtain ⟨fo_298, rfl⟩ : ∃ z, z = u_ := ⟨_, rfl⟩
      have hP : va_P G.1 CL [(la, .inl (G.2 0, 200, .inl lf)), (m0, .inr (6, [.ref sa, .ref oa, .ref pa, .ref la, .ref za, .ref na, .int gu, .int gt, .int gw, .int gd, .int gm, .int gr, .int (nI 0), .int gv])), (za, .inl (G.2 0, 6, .inl zz))] H := hP
      have hD : va_D A [(la, .inl (G.2 0, 200, .inl lf)), (m0, .inr (6, [.ref sa, .ref oa, .ref pa, .ref la, .ref za, .ref na, .int gu, .int gt, .int gw, .int gd, .int gm, .int gr, .int (nI 0), .int gv])), (za, .inl (G.2 0, 6, .inl zz))] := hD
      have hq_299 : PL B id (sN B) fo_298 := hq
      refine W.eq (g2 := F0 m 42 ls [.int (oI fo_298), .ref m0]) rfl ?_
      have he_300 := (ixS_eq hI hq_299).symm.trans hix_281
      refine lv_ton (n := k_280) (by rw [he_300]; rfl) ?_
      have hF := hF_of (wc := [(za, .inl (G.2 0, 6, .inl zz))]) hD hS hA [2] rfl
      have hro_301 : roW G (va_A [(za, .inl (G.2 0, 6, .inl zz))] H.size) H [(m0, .inr (6, [.ref sa, .ref oa, .ref pa, .ref la, .ref za, .ref na, .int gu, .int gt, .int gw, .int gd, .int gm, .int gr, .int (nI 0), .int gv])), (sa, .inl (G.2 0, 830, .inl f))] := ((roW.of (w' := [(m0, .inr (6, [.ref sa, .ref oa, .ref pa, .ref la, .ref za, .ref na, .int gu, .int gt, .int gw, .int gd, .int gm, .int gr, .int (nI 0), .int gv]))]) hP hD [2] [1] rfl rfl (by decide)).app ((hR0.kp hF hS.2.1).sub (ws' := [(sa, .inl (G.2 0, 830, .inl f))]) [0] rfl))
      refine go_ct hS hP hD [2] [0, 1] hF rfl rfl (by decide) (by decide)
          (va_runV (As := [.int (nI k_280)]) (rest := []) cf (mX4_zones l G m0 sa oa pa la za na gu gt gw gd gm gr (nI 0) gv f B zz k_280 (show MR f B from by first | assumption | omega) (show Inv B from by first | assumption | omega) (show k_280 < sN B from by first | assumption | omega) H.size) (cwV 1 hts (lw_V q1683 q1685 qs26 q58 q1686) rfl rfl rfl (by decide +kernel) ⟨Nat.le_of_ble_eq_true rfl, Nat.le_of_ble_eq_true rfl⟩) (preV_of hKB hE hS hF (va_recv hK hP (ci := 6) (q0 := 1) rfl rfl) (va_P.sub hP [2] rfl) ((va_D.sub hD [2] (by decide) rfl).weaken (fun _ _ _ _ => trivial)) hro_301) rfl rfl hl.1 rfl (lv_room (Nat.le_of_ble_eq_true rfl)) dX4_minutesInZone_42 ⟨show 0 + 0 ≤ 0 from by first | decide | omega, show 0 + 0 ≤ 0 from by first | decide | omega⟩)
          (fun u_ H locs hq hph (hP : va_P G.1 CL [(la, .inl (G.2 0, 200, .inl lf)), (m0, .inr (6, [.ref sa, .ref oa, .ref pa, .ref la, .ref za, .ref na, .int gu, .int gt, .int gw, .int gd, .int gm, .int gr, .int (nI 0), .int gv])), (za, .inl (G.2 0, 6, .inl (zAdd zz B (sAt B k_280) (nP (sAt B k_280)))))] H) (hD : va_D A [(la, .inl (G.2 0, 200, .inl lf)), (m0, .inr (6, [.ref sa, .ref oa, .ref pa, .ref la, .ref za, .ref na, .int gu, .int gt, .int gw, .int gd, .int gm, .int gr, .int (nI 0), .int gv])), (za, .inl (G.2 0, 6, .inl (zAdd zz B (sAt B k_280) (nP (sAt B k_280)))))]) hS hfz hfk => ?_)
      refine W.eq (g2 := F0 m 45 ls []) rfl ?_
      refine lv_aload_n hx hb dX4_minutesInZone_45 rfl (lv_at hl 0 rfl) ?_
      refine va_get hx hb hts in_X4 hown hK hP 1 rfl rfl 4 (by decide) (hts _ q1600) (fun _ h => h) rfl dX4_minutesInZone_46 ?_
      refine lv_iload_n hx hb dX4_minutesInZone_49 rfl (lv_at hl 2 rfl) ?_
      refine r_iald (v := nI (zMin B (sAt B k_280) d_290)) hx hb hK hP 2 0 rfl rfl (i := d_290) (by omega) (by omega) (zAdd_zz _ _ _) dX4_minutesInZone_50 ?_
      have hq9 : q_minZ B id z = (0, nI (zMin B (sAt B k_280) d_290)) := by unfold q_minZ; rw [hix_281, hir_294] <;> rfl
      have hP : va_P G.1 CL [(la, .inl (G.2 0, 200, .inl lf)), (m0, .inr (6, [.ref sa, .ref oa, .ref pa, .ref la, .ref za, .ref na, .int gu, .int gt, .int gw, .int gd, .int gm, .int gr, .int (nI ((q_minZ B id z).1)), .int gv])), (za, .inl (G.2 0, 6, .inl (zAdd zz B (sAt B k_280) (nP (sAt B k_280)))))] H := by rw [hq9]; exact hP
      have hD : va_D A [(la, .inl (G.2 0, 200, .inl lf)), (m0, .inr (6, [.ref sa, .ref oa, .ref pa, .ref la, .ref za, .ref na, .int gu, .int gt, .int gw, .int gd, .int gm, .int gr, .int (nI ((q_minZ B id z).1)), .int gv])), (za, .inl (G.2 0, 6, .inl (zAdd zz B (sAt B k_280) (nP (sAt B k_280)))))] := by rw [hq9]; exact hD
      have hP9 : va_P G.1 CL [(m0, .inr (6, [.ref sa, .ref oa, .ref pa, .ref la, .ref za, .ref na, .int gu, .int gt, .int gw, .int gd, .int gm, .int gr, .int (nI ((q_minZ B id z).1)), .int gv])), (la, .inl (G.2 0, 200, .inl lf)), (za, .inl (G.2 0, 6, .inl (zAdd zz B (sAt B k_280) (nP (sAt B k_280)))))] H := hP.sub [1, 0, 2] rfl
      have hD9 : va_D A [(m0, .inr (6, [.ref sa, .ref oa, .ref pa, .ref la, .ref za, .ref na, .int gu, .int gt, .int gw, .int gd, .int gm, .int gr, .int (nI ((q_minZ B id z).1)), .int gv])), (la, .inl (G.2 0, 200, .inl lf)), (za, .inl (G.2 0, 6, .inl (zAdd zz B (sAt B k_280) (nP (sAt B k_280)))))] := hD.sub [1, 0, 2] (by decide) rfl
      exact end_i hx hb hr hlk (rfl) (qc_of ⟨nI (zMin B (sAt B k_280) d_290), lf, zAdd zz B (sAt B k_280) (nP (sAt B k_280)), gd, gm, gr⟩ (v := some (.int (nI (zMin B (sAt B k_280) d_290)))) (by rfl) (fun _ => by rw [hq9]) hP9 hD9 (trivial) hS) hS dX4_minutesInZone_51 (show 0 ≤ 0 from by first | exact Nat.le_refl _ | decide | omega) (show 0 ≤ 0 from by first | exact Nat.le_refl _ | decide | omega)

set_option maxHeartbeats 4000000 in
theorem mX4_loadOf (l : Launch) (G : Gt) (m0 : Nat) (sa : Nat) (oa : Nat) (pa : Nat) (la : Nat) (za : Nat) (na : Nat) (gu : Int32) (gt : Int32) (gw : Int32) (gd : Int32) (gm : Int32) (gr : Int32) (gh : Int32) (gv : Int32) (f : Nat → Int32) (B : Bk) (lf : Nat → Int32) (zf : Nat → Int32) (id : Int32) (hM : MR f B) (hI : Inv B) : CT l G yX4_loadOf cX4_loadOf 2 (some .int) ({ frames := 5, cells := 0, slots := 0, locals := 106 } : Room) [.ref m0, .int id] [(m0, .inr (6, [.ref sa, .ref oa, .ref pa, .ref la, .ref za, .ref na, .int gu, .int gt, .int gw, .int gd, .int gm, .int gr, .int gh, .int gv])), (la, .inl (G.2 0, 200, .inl lf)), (za, .inl (G.2 0, 6, .inl zf))] (fun (A : Nat → Prop) (H : Heap) => roW G A H [(sa, .inl (G.2 0, 830, .inl f))]) (S := Int32 × (Nat → Int32) × (Nat → Int32) × Int32 × Int32 × Int32) (fun (u_ : Int32 × (Nat → Int32) × (Nat → Int32) × Int32 × Int32 × Int32) => some (.int u_.1)) (fun (u_ : Int32 × (Nat → Int32) × (Nat → Int32) × Int32 × Int32 × Int32) => ((q_loadOf B id).1 = 0 → u_.1 = (q_loadOf B id).2)) (fun (u_ : Int32 × (Nat → Int32) × (Nat → Int32) × Int32 × Int32 × Int32) => [(m0, .inr (6, [.ref sa, .ref oa, .ref pa, .ref la, .ref za, .ref na, .int gu, .int gt, .int gw, .int u_.2.2.2.1, .int u_.2.2.2.2.1, .int u_.2.2.2.2.2, .int (nI ((q_loadOf B id).1)), .int gv])), (la, .inl (G.2 0, 200, .inl u_.2.1)), (za, .inl (G.2 0, 6, .inl u_.2.2.1))]) (fun (u_ : Int32 × (Nat → Int32) × (Nat → Int32) × Int32 × Int32 × Int32) (H : Heap) => True) := by
  refine CT.of (by decide) (Nat.le_of_ble_eq_true rfl) ?_
  intro p e s m below meth c ls A H locs h9 hH0 hP hS
  obtain ⟨cf, hr, hlk, hnm, hKB, hE, -, hD, -, hA, hAw, hR0, hl⟩ := h9
  have hx := cf.1
  have hb := cf.2.1
  have hml := cf.2.2.1
  have hown : s.vm.findClass RX4 = some m.cls := cf.2.2.2.1
  have hts := cf.2.2.2.2
  have hK := hKB.1
  have hl : lv_has ls 2 [(0, .ref m0), (1, .int id)] := hl
  have iN := iv_sN hI
  have iT := iv_tN hI
  have iD := iv_bD hI
  have iE := iv_bE hI
  have iW := iv_id hI
  refine lv_aload_n hx hb dX4_loadOf_0 rfl (lv_at hl 0 rfl) ?_
  refine lv_iload_n hx hb dX4_loadOf_1 rfl (lv_at hl 1 rfl) ?_
  have hF := hF_of (wc := [(m0, .inr (6, [.ref sa, .ref oa, .ref pa, .ref la, .ref za, .ref na, .int gu, .int gt, .int gw, .int gd, .int gm, .int gr, .int gh, .int gv]))]) hD hS hA [0] rfl
  have hro_302 : roW G (va_A [(m0, .inr (6, [.ref sa, .ref oa, .ref pa, .ref la, .ref za, .ref na, .int gu, .int gt, .int gw, .int gd, .int gm, .int gr, .int gh, .int gv]))] H.size) H [(sa, .inl (G.2 0, 830, .inl f))] := ((hR0.kp hF hS.2.1).sub (ws' := [(sa, .inl (G.2 0, 830, .inl f))]) [0] rfl)
  refine go_ct hS hP hD [0] [1, 2] hF rfl rfl (by decide) (by decide)
      (va_runV (As := [.int id]) (rest := []) cf (mX4_isNoSession l G m0 sa oa pa la za na gu gt gw gd gm gr gh gv f B id (show MR f B from by first | assumption | omega) (show Inv B from by first | assumption | omega) H.size) (cwV 1 hts (lw_V q1751 q1753 qs32 q58 q1754) rfl rfl rfl (by decide +kernel) ⟨Nat.le_of_ble_eq_true rfl, Nat.le_of_ble_eq_true rfl⟩) (preV_of hKB hE hS hF (va_recv hK hP (ci := 6) (q0 := 0) rfl rfl) (va_P.sub hP [0] rfl) ((va_D.sub hD [0] (by decide) rfl).weaken (fun _ _ _ _ => trivial)) hro_302) rfl rfl hl.1 rfl (lv_room (Nat.le_of_ble_eq_true rfl)) dX4_loadOf_2 ⟨show 0 + 0 ≤ 0 from by first | decide | omega, show 0 + 0 ≤ 0 from by first | decide | omega⟩)
      (fun u_ H locs hq hph (hP : va_P G.1 CL [(la, .inl (G.2 0, 200, .inl lf)), (za, .inl (G.2 0, 6, .inl zf)), (m0, .inr (6, [.ref sa, .ref oa, .ref pa, .ref la, .ref za, .ref na, .int gu, .int gt, .int gw, .int gd, .int gm, .int gr, .int (nS u_), .int gv]))] H) (hD : va_D A [(la, .inl (G.2 0, 200, .inl lf)), (za, .inl (G.2 0, 6, .inl zf)), (m0, .inr (6, [.ref sa, .ref oa, .ref pa, .ref la, .ref za, .ref na, .int gu, .int gt, .int gw, .int gd, .int gm, .int gr, .int (nS u_), .int gv]))]) hS hfz hfk => ?_)
  obtain ⟨fo_303, rfl⟩ : ∃ z, z = u_ := ⟨_, rfl⟩
  have hP : va_P G.1 CL [(la, .inl (G.2 0, 200, .inl lf)), (za, .inl (G.2 0, 6, .inl zf)), (m0, .inr (6, [.ref sa, .ref oa, .ref pa, .ref la, .ref za, .ref na, .int gu, .int gt, .int gw, .int gd, .int gm, .int gr, .int (nS fo_303), .int gv]))] H := hP
  have hD : va_D A [(la, .inl (G.2 0, 200, .inl lf)), (za, .inl (G.2 0, 6, .inl zf)), (m0, .inr (6, [.ref sa, .ref oa, .ref pa, .ref la, .ref za, .ref na, .int gu, .int gt, .int gw, .int gd, .int gm, .int gr, .int (nS fo_303), .int gv]))] := hD
  have hq_304 : PL B id (sN B) fo_303 := hq
  refine W.eq (g2 := F0 m 5 ls [.int (nS fo_303)]) rfl ?_
  have hix_306 := ixS_eq hI hq_304
  rcases fo_303 with _ | k_305
  · refine lv_ton (n := 1) rfl ?_
    refine n_if_eq (tgt := 12) hx hb (by omega) dX4_loadOf_5 (by decide) (fun c_307 => absurd c_307 (by omega)) (fun c_307 => ?_)
    refine lv_iconst (v := nI 0) hx hb dX4_loadOf_8 (by decide) ?_
    refine lv_goto (tgt := 21) hx hb dX4_loadOf_9 (by decide) ?_
    have hq9 : q_loadOf B id = (1, 0) := by unfold q_loadOf q1; rw [hix_306] <;> rfl
    have hP : va_P G.1 CL [(la, .inl (G.2 0, 200, .inl lf)), (za, .inl (G.2 0, 6, .inl zf)), (m0, .inr (6, [.ref sa, .ref oa, .ref pa, .ref la, .ref za, .ref na, .int gu, .int gt, .int gw, .int gd, .int gm, .int gr, .int (nI ((q_loadOf B id).1)), .int gv]))] H := by rw [hq9]; exact hP
    have hD : va_D A [(la, .inl (G.2 0, 200, .inl lf)), (za, .inl (G.2 0, 6, .inl zf)), (m0, .inr (6, [.ref sa, .ref oa, .ref pa, .ref la, .ref za, .ref na, .int gu, .int gt, .int gw, .int gd, .int gm, .int gr, .int (nI ((q_loadOf B id).1)), .int gv]))] := by rw [hq9]; exact hD
    have hP9 : va_P G.1 CL [(m0, .inr (6, [.ref sa, .ref oa, .ref pa, .ref la, .ref za, .ref na, .int gu, .int gt, .int gw, .int gd, .int gm, .int gr, .int (nI ((q_loadOf B id).1)), .int gv])), (la, .inl (G.2 0, 200, .inl lf)), (za, .inl (G.2 0, 6, .inl zf))] H := hP.sub [2, 0, 1] rfl
    have hD9 : va_D A [(m0, .inr (6, [.ref sa, .ref oa, .ref pa, .ref la, .ref za, .ref na, .int gu, .int gt, .int gw, .int gd, .int gm, .int gr, .int (nI ((q_loadOf B id).1)), .int gv])), (la, .inl (G.2 0, 200, .inl lf)), (za, .inl (G.2 0, 6, .inl zf))] := hD.sub [2, 0, 1] (by decide) rfl
    exact end_i hx hb hr hlk (rfl) (qc_of ⟨nI 0, lf, zf, gd, gm, gr⟩ (v := some (.int (nI 0))) (by rfl) (fun h => by rw [hq9] at h; exact absurd h (by decide)) hP9 hD9 (trivial) hS) hS dX4_loadOf_21 (show 0 ≤ 0 from by first | exact Nat.le_refl _ | decide | omega) (show 0 ≤ 0 from by first | exact Nat.le_refl _ | decide | omega)
  · refine lv_ton (n := 0) rfl ?_
    have hkk : k_305 < sN B := (hq_304).1
    refine n_if_eq (tgt := 12) hx hb (by omega) dX4_loadOf_5 (by decide) (fun c_308 => ?_) (fun c_308 => absurd c_308 (by omega))
    refine lv_aload_n hx hb dX4_loadOf_12 rfl (lv_at hl 0 rfl) ?_
    refine lv_aload_n hx hb dX4_loadOf_13 rfl (lv_at hl 0 rfl) ?_
    refine lv_iload_n hx hb dX4_loadOf_14 rfl (lv_at hl 1 rfl) ?_
    have hF := hF_of (wc := []) hD hS hA [] rfl
    have hro_309 : va_P G.1 CL [(m0, .inr (6, [.ref sa, .ref oa, .ref pa, .ref la, .ref za, .ref na, .int gu, .int gt, .int gw, .int gd, .int gm, .int gr, .int (nS (some k_305)), .int gv])), (sa, .inl (G.2 0, 830, .inl f))] H := ((va_P.sub hP [2] rfl).app ((hR0.w hS).sub [0] rfl))
    refine go_ct hS hP hD [] [0, 1, 2] hF rfl rfl (by decide) (by decide)
        (va_runV (As := [.int id]) (rest := [.ref m0]) cf (mX4_place l G m0 sa oa pa la za na gu gt gw gd gm gr (nS (some k_305)) gv f B id (show MR f B from by first | assumption | omega) (show Inv B from by first | assumption | omega) H.size) (cwV 1 hts (lw_V q1739 q1741 qs30 q58 q1742) rfl rfl rfl (by decide +kernel) ⟨Nat.le_of_ble_eq_true rfl, Nat.le_of_ble_eq_true rfl⟩) (preV_of hKB hE hS hF (va_recv hK hP (ci := 6) (q0 := 2) rfl rfl) (va_P.sub hP [] rfl) ((va_D.sub hD [] (by decide) rfl).weaken (fun _ _ _ _ => trivial)) (roW.nil hro_309)) rfl rfl hl.1 rfl (lv_room (Nat.le_of_ble_eq_true rfl)) dX4_loadOf_15 ⟨show 0 + 0 ≤ 0 from by first | decide | omega, show 0 + 0 ≤ 0 from by first | decide | omega⟩)
        (fun u_ H locs hq hph (hP : va_P G.1 CL [(la, .inl (G.2 0, 200, .inl lf)), (za, .inl (G.2 0, 6, .inl zf)), (m0, .inr (6, [.ref sa, .ref oa, .ref pa, .ref la, .ref za, .ref na, .int gu, .int gt, .int gw, .int gd, .int gm, .int gr, .int (nS (some k_305)), .int gv]))] H) (hD : va_D A [(la, .inl (G.2 0, 200, .inl lf)), (za, .inl (G.2 0, 6, .inl zf)), (m0, .inr (6, [.ref sa, .ref oa, .ref pa, .ref la, .ref za, .ref na, .int gu, .int gt, .int gw, .int gd, .int gm, .int gr, .int (nS (some k_305)), .int gv]))]) hS hfz hfk => ?_)
    obtain ⟨fo_310, rfl⟩ : ∃ z, z = u_ := ⟨_, rfl⟩
    have hP : va_P G.1 CL [(la, .inl (G.2 0, 200, .inl lf)), (za, .inl (G.2 0, 6, .inl zf)), (m0, .inr (6, [.ref sa, .ref oa, .ref pa, .ref la, .ref za, .ref na, .int gu, .int gt, .int gw, .int gd, .int gm, .int gr, .int (nS (some k_305)), .int gv]))] H := hP
    have hD : va_D A [(la, .inl (G.2 0, 200, .inl lf)), (za, .inl (G.2 0, 6, .inl zf)), (m0, .inr (6, [.ref sa, .ref oa, .ref pa, .ref la, .ref za, .ref na, .int gu, .int gt, .int gw, .int gd, .int gm, .int gr, .int (nS (some k_305)), .int gv]))] := hD
    have hq_311 : PL B id (sN B) fo_310 := hq
    refine W.eq (g2 := F0 m 18 ls [.int (oI fo_310), .ref m0]) rfl ?_
    have he_312 := (ixS_eq hI hq_311).symm.trans hix_306
    refine lv_ton (n := k_305) (by rw [he_312]; rfl) ?_
    have hF := hF_of (wc := [(za, .inl (G.2 0, 6, .inl zf))]) hD hS hA [1] rfl
    have hro_313 : roW G (va_A [(za, .inl (G.2 0, 6, .inl zf))] H.size) H [(m0, .inr (6, [.ref sa, .ref oa, .ref pa, .ref la, .ref za, .ref na, .int gu, .int gt, .int gw, .int gd, .int gm, .int gr, .int (nS (some k_305)), .int gv])), (sa, .inl (G.2 0, 830, .inl f))] := ((roW.of (w' := [(m0, .inr (6, [.ref sa, .ref oa, .ref pa, .ref la, .ref za, .ref na, .int gu, .int gt, .int gw, .int gd, .int gm, .int gr, .int (nS (some k_305)), .int gv]))]) hP hD [1] [2] rfl rfl (by decide)).app ((hR0.kp hF hS.2.1).sub (ws' := [(sa, .inl (G.2 0, 830, .inl f))]) [0] rfl))
    refine go_ct hS hP hD [1] [0, 2] hF rfl rfl (by decide) (by decide)
        (va_runV (As := [.int (nI k_305)]) (rest := []) cf (mX4_loadAt l G m0 sa oa pa la za na gu gt gw gd gm gr (nS (some k_305)) gv f B zf k_305 (show MR f B from by first | assumption | omega) (show Inv B from by first | assumption | omega) (show k_305 < sN B from by first | assumption | omega) H.size) (cwV 1 hts (lw_V q1675 q1677 qs24 q58 q1678) rfl rfl rfl (by decide +kernel) ⟨Nat.le_of_ble_eq_true rfl, Nat.le_of_ble_eq_true rfl⟩) (preV_of hKB hE hS hF (va_recv hK hP (ci := 6) (q0 := 2) rfl rfl) (va_P.sub hP [1] rfl) ((va_D.sub hD [1] (by decide) rfl).weaken (fun _ _ _ _ => trivial)) hro_313) rfl rfl hl.1 rfl (lv_room (Nat.le_of_ble_eq_true rfl)) dX4_loadOf_18 ⟨show 0 + 0 ≤ 0 from by first | decide | omega, show 0 + 0 ≤ 0 from by first | decide | omega⟩)
        (fun u_ H locs hq hph (hP : va_P G.1 CL [(la, .inl (G.2 0, 200, .inl lf)), (m0, .inr (6, [.ref sa, .ref oa, .ref pa, .ref la, .ref za, .ref na, .int gu, .int gt, .int gw, .int gd, .int gm, .int gr, .int (nS (some k_305)), .int gv])), (za, .inl (G.2 0, 6, .inl (zAdd zz B (sAt B k_305) (nP (sAt B k_305)))))] H) (hD : va_D A [(la, .inl (G.2 0, 200, .inl lf)), (m0, .inr (6, [.ref sa, .ref oa, .ref pa, .ref la, .ref za, .ref na, .int gu, .int gt, .int gw, .int gd, .int gm, .int gr, .int (nS (some k_305)), .int gv])), (za, .inl (G.2 0, 6, .inl (zAdd zz B (sAt B k_305) (nP (sAt B k_305)))))]) hS hfz hfk => ?_)
    refine W.eq (g2 := F0 m 21 ls [.int (nI (loadS B (sAt B k_305)))]) rfl ?_
    have hq9 : q_loadOf B id = (0, nI (loadS B (sAt B k_305))) := by unfold q_loadOf q1; rw [hix_306] <;> rfl
    have hP : va_P G.1 CL [(la, .inl (G.2 0, 200, .inl lf)), (m0, .inr (6, [.ref sa, .ref oa, .ref pa, .ref la, .ref za, .ref na, .int gu, .int gt, .int gw, .int gd, .int gm, .int gr, .int (nI ((q_loadOf B id).1)), .int gv])), (za, .inl (G.2 0, 6, .inl (zAdd zz B (sAt B k_305) (nP (sAt B k_305)))))] H := by rw [hq9]; exact hP
    have hD : va_D A [(la, .inl (G.2 0, 200, .inl lf)), (m0, .inr (6, [.ref sa, .ref oa, .ref pa, .ref la, .ref za, .ref na, .int gu, .int gt, .int gw, .int gd, .int gm, .int gr, .int (nI ((q_loadOf B id).1)), .int gv])), (za, .inl (G.2 0, 6, .inl (zAdd zz B (sAt B k_305) (nP (sAt B k_305)))))] := by rw [hq9]; exact hD
    have hP9 : va_P G.1 CL [(m0, .inr (6, [.ref sa, .ref oa, .ref pa, .ref la, .ref za, .ref na, .int gu, .int gt, .int gw, .int gd, .int gm, .int gr, .int (nI ((q_loadOf B id).1)), .int gv])), (la, .inl (G.2 0, 200, .inl lf)), (za, .inl (G.2 0, 6, .inl (zAdd zz B (sAt B k_305) (nP (sAt B k_305)))))] H := hP.sub [1, 0, 2] rfl
    have hD9 : va_D A [(m0, .inr (6, [.ref sa, .ref oa, .ref pa, .ref la, .ref za, .ref na, .int gu, .int gt, .int gw, .int gd, .int gm, .int gr, .int (nI ((q_loadOf B id).1)), .int gv])), (la, .inl (G.2 0, 200, .inl lf)), (za, .inl (G.2 0, 6, .inl (zAdd zz B (sAt B k_305) (nP (sAt B k_305)))))] := hD.sub [1, 0, 2] (by decide) rfl
    exact end_i hx hb hr hlk (rfl) (qc_of ⟨nI (loadS B (sAt B k_305)), lf, zAdd zz B (sAt B k_305) (nP (sAt B k_305)), gd, gm, gr⟩ (v := some (.int (nI (loadS B (sAt B k_305))))) (by rfl) (fun _ => by rw [hq9]) hP9 hD9 (trivial) hS) hS dX4_loadOf_21 (show 0 ≤ 0 from by first | exact Nat.le_refl _ | decide | omega) (show 0 ≤ 0 from by first | exact Nat.le_refl _ | decide | omega)

set_option maxHeartbeats 4000000 in
theorem mX4_loadOn (l : Launch) (G : Gt) (m0 : Nat) (sa : Nat) (oa : Nat) (pa : Nat) (la : Nat) (za : Nat) (na : Nat) (gu : Int32) (gt : Int32) (gw : Int32) (gd : Int32) (gm : Int32) (gr : Int32) (gh : Int32) (gv : Int32) (f : Nat → Int32) (B : Bk) (lf : Nat → Int32) (zf : Nat → Int32) (v : Int32) (hM : MR f B) (hI : Inv B) : CT l G yX4_loadOn cX4_loadOn 2 (some .int) ({ frames := 6, cells := 0, slots := 0, locals := 127 } : Room) [.ref m0, .int v] [(m0, .inr (6, [.ref sa, .ref oa, .ref pa, .ref la, .ref za, .ref na, .int gu, .int gt, .int gw, .int gd, .int gm, .int gr, .int gh, .int gv])), (la, .inl (G.2 0, 200, .inl lf)), (za, .inl (G.2 0, 6, .inl zf))] (fun (A : Nat → Prop) (H : Heap) => roW G A H [(sa, .inl (G.2 0, 830, .inl f))]) (S := Int32 × (Nat → Int32) × (Nat → Int32) × Int32 × Int32 × Int32) (fun (u_ : Int32 × (Nat → Int32) × (Nat → Int32) × Int32 × Int32 × Int32) => some (.int u_.1)) (fun (u_ : Int32 × (Nat → Int32) × (Nat → Int32) × Int32 × Int32 × Int32) => ((q_loadOn B v).1 = 0 → u_.1 = (q_loadOn B v).2)) (fun (u_ : Int32 × (Nat → Int32) × (Nat → Int32) × Int32 × Int32 × Int32) => [(m0, .inr (6, [.ref sa, .ref oa, .ref pa, .ref la, .ref za, .ref na, .int gu, .int gt, .int gw, .int u_.2.2.2.1, .int u_.2.2.2.2.1, .int u_.2.2.2.2.2, .int (nI ((q_loadOn B v).1)), .int gv])), (la, .inl (G.2 0, 200, .inl u_.2.1)), (za, .inl (G.2 0, 6, .inl u_.2.2.1))]) (fun (u_ : Int32 × (Nat → Int32) × (Nat → Int32) × Int32 × Int32 × Int32) (H : Heap) => True) := by
  refine CT.of (by decide) (Nat.le_of_ble_eq_true rfl) ?_
  intro p e s m below meth c ls A H locs h9 hH0 hP hS
  obtain ⟨cf, hr, hlk, hnm, hKB, hE, -, hD, -, hA, hAw, hR0, hl⟩ := h9
  have hx := cf.1
  have hb := cf.2.1
  have hml := cf.2.2.1
  have hown : s.vm.findClass RX4 = some m.cls := cf.2.2.2.1
  have hts := cf.2.2.2.2
  have hK := hKB.1
  have hl : lv_has ls 2 [(0, .ref m0), (1, .int v)] := hl
  have iN := iv_sN hI
  have iT := iv_tN hI
  have iD := iv_bD hI
  have iE := iv_bE hI
  have iW := iv_id hI
  refine lv_aload_n hx hb dX4_loadOn_0 rfl (lv_at hl 0 rfl) ?_
  have hF := hF_of (wc := [(la, .inl (G.2 0, 200, .inl lf)), (za, .inl (G.2 0, 6, .inl zf))]) hD hS hA [1, 2] rfl
  have hro_314 : roW G (va_A [(la, .inl (G.2 0, 200, .inl lf)), (za, .inl (G.2 0, 6, .inl zf))] H.size) H [(m0, .inr (6, [.ref sa, .ref oa, .ref pa, .ref la, .ref za, .ref na, .int gu, .int gt, .int gw, .int gd, .int gm, .int gr, .int gh, .int gv])), (sa, .inl (G.2 0, 830, .inl f))] := ((roW.of (w' := [(m0, .inr (6, [.ref sa, .ref oa, .ref pa, .ref la, .ref za, .ref na, .int gu, .int gt, .int gw, .int gd, .int gm, .int gr, .int gh, .int gv]))]) hP hD [1, 2] [0] rfl rfl (by decide)).app ((hR0.kp hF hS.2.1).sub (ws' := [(sa, .inl (G.2 0, 830, .inl f))]) [0] rfl))
  refine go_ct hS hP hD [1, 2] [0] hF rfl rfl (by decide) (by decide)
      (va_runV (As := []) (rest := []) cf (mX4_loads l G m0 sa oa pa la za na gu gt gw gd gm gr gh gv f B lf zf (show MR f B from by first | assumption | omega) (show Inv B from by first | assumption | omega) H.size) (cwV 0 hts (lw_V q1795 q1797 qs34 q58 q1798) rfl rfl rfl (by decide +kernel) ⟨Nat.le_of_ble_eq_true rfl, Nat.le_of_ble_eq_true rfl⟩) (preV_of hKB hE hS hF (va_recv hK hP (ci := 6) (q0 := 0) rfl rfl) (va_P.sub hP [1, 2] rfl) ((va_D.sub hD [1, 2] (by decide) rfl).weaken (fun _ _ _ _ => trivial)) hro_314) rfl rfl hl.1 rfl (lv_room (Nat.le_of_ble_eq_true rfl)) dX4_loadOn_1 ⟨show 0 + 0 ≤ 0 from by first | decide | omega, show 0 + 0 ≤ 0 from by first | decide | omega⟩)
      (fun u_ H locs hq hph (hP : va_P G.1 CL [(m0, .inr (6, [.ref sa, .ref oa, .ref pa, .ref la, .ref za, .ref na, .int gu, .int gt, .int gw, .int gd, .int gm, .int gr, .int gh, .int gv])), (la, .inl (G.2 0, 200, .inl (ldF B))), (za, .inl (G.2 0, 6, .inl u_))] H) (hD : va_D A [(m0, .inr (6, [.ref sa, .ref oa, .ref pa, .ref la, .ref za, .ref na, .int gu, .int gt, .int gw, .int gd, .int gm, .int gr, .int gh, .int gv])), (la, .inl (G.2 0, 200, .inl (ldF B))), (za, .inl (G.2 0, 6, .inl u_))]) hS hfz hfk => ?_)
  obtain ⟨zg_315, rfl⟩ : ∃ z, z = u_ := ⟨_, rfl⟩
  have hP : va_P G.1 CL [(m0, .inr (6, [.ref sa, .ref oa, .ref pa, .ref la, .ref za, .ref na, .int gu, .int gt, .int gw, .int gd, .int gm, .int gr, .int gh, .int gv])), (la, .inl (G.2 0, 200, .inl (ldF B))), (za, .inl (G.2 0, 6, .inl zg_315))] H := hP
  have hD : va_D A [(m0, .inr (6, [.ref sa, .ref oa, .ref pa, .ref la, .ref za, .ref na, .int gu, .int gt, .int gw, .int gd, .int gm, .int gr, .int gh, .int gv])), (la, .inl (G.2 0, 200, .inl (ldF B))), (za, .inl (G.2 0, 6, .inl zg_315))] := hD
  refine W.eq (g2 := F0 m 4 ls []) rfl ?_
  refine lv_aload_n hx hb dX4_loadOn_4 rfl (lv_at hl 0 rfl) ?_
  refine lv_aload_n hx hb dX4_loadOn_5 rfl (lv_at hl 0 rfl) ?_
  refine lv_iload_n hx hb dX4_loadOn_6 rfl (lv_at hl 1 rfl) ?_
  have hF := hF_of (wc := []) hD hS hA [] rfl
  have hro_316 : va_P G.1 CL [(m0, .inr (6, [.ref sa, .ref oa, .ref pa, .ref la, .ref za, .ref na, .int gu, .int gt, .int gw, .int gd, .int gm, .int gr, .int gh, .int gv])), (sa, .inl (G.2 0, 830, .inl f))] H := ((va_P.sub hP [0] rfl).app ((hR0.w hS).sub [0] rfl))
  refine go_ct hS hP hD [] [0, 1, 2] hF rfl rfl (by decide) (by decide)
      (va_runV (As := [.int v]) (rest := [.ref m0]) cf (mX4_isNoDay l G m0 sa oa pa la za na gu gt gw gd gm gr gh gv f B v (show MR f B from by first | assumption | omega) (show Inv B from by first | assumption | omega) H.size) (cwV 1 hts (lw_V q1667 q1669 qs22 q58 q1670) rfl rfl rfl (by decide +kernel) ⟨Nat.le_of_ble_eq_true rfl, Nat.le_of_ble_eq_true rfl⟩) (preV_of hKB hE hS hF (va_recv hK hP (ci := 6) (q0 := 0) rfl rfl) (va_P.sub hP [] rfl) ((va_D.sub hD [] (by decide) rfl).weaken (fun _ _ _ _ => trivial)) (roW.nil hro_316)) rfl rfl hl.1 rfl (lv_room (Nat.le_of_ble_eq_true rfl)) dX4_loadOn_7 ⟨show 0 + 0 ≤ 0 from by first | decide | omega, show 0 + 0 ≤ 0 from by first | decide | omega⟩)
      (fun u_ H locs hq hph (hP : va_P G.1 CL [(m0, .inr (6, [.ref sa, .ref oa, .ref pa, .ref la, .ref za, .ref na, .int gu, .int gt, .int gw, .int gd, .int gm, .int gr, .int gh, .int gv])), (la, .inl (G.2 0, 200, .inl (ldF B))), (za, .inl (G.2 0, 6, .inl zg_315))] H) (hD : va_D A [(m0, .inr (6, [.ref sa, .ref oa, .ref pa, .ref la, .ref za, .ref na, .int gu, .int gt, .int gw, .int gd, .int gm, .int gr, .int gh, .int gv])), (la, .inl (G.2 0, 200, .inl (ldF B))), (za, .inl (G.2 0, 6, .inl zg_315))]) hS hfz hfk => ?_)
  obtain ⟨b_317, rfl⟩ : ∃ z, z = u_ := ⟨_, rfl⟩
  have hP : va_P G.1 CL [(m0, .inr (6, [.ref sa, .ref oa, .ref pa, .ref la, .ref za, .ref na, .int gu, .int gt, .int gw, .int gd, .int gm, .int gr, .int gh, .int gv])), (la, .inl (G.2 0, 200, .inl (ldF B))), (za, .inl (G.2 0, 6, .inl zg_315))] H := hP
  have hD : va_D A [(m0, .inr (6, [.ref sa, .ref oa, .ref pa, .ref la, .ref za, .ref na, .int gu, .int gt, .int gw, .int gd, .int gm, .int gr, .int gh, .int gv])), (la, .inl (G.2 0, 200, .inl (ldF B))), (za, .inl (G.2 0, 6, .inl zg_315))] := hD
  have hq_318 : (b_317 = true ↔ ¬ (nI 0 ≤ v ∧ v ≤ nI (bD B))) := hq
  refine W.eq (g2 := F0 m 10 ls [.int (bI b_317), .ref m0]) rfl ?_
  cases b_317
  · refine lv_ton (n := 0) rfl ?_
    have hin_319 : nI 0 ≤ v ∧ v ≤ nI (bD B) := Classical.not_not.mp (fun z => absurd (hq_318.mpr z) (by decide))
    obtain ⟨d_320, hv_321, h_322, h_323⟩ := in_nat (lo := 0) (hi := bD B) (by omega) (by omega) hin_319.1 hin_319.2
    have hir_324 : inR v 0 (bD B) = some d_320 := inR_some hv_321 h_322 h_323 (by omega)
    have hl : lv_has ls 2 [(0, .ref m0), (1, .int (nI d_320))] := by
      have e9 : ((.int (nI d_320)) : Value) = .int v := by rw [hv_321]
      rw [e9]; exact hl
    refine lv_iconst (v := nI 1) hx hb dX4_loadOn_10 (by decide) ?_
    have hF := hF_of (wc := [(m0, .inr (6, [.ref sa, .ref oa, .ref pa, .ref la, .ref za, .ref na, .int gu, .int gt, .int gw, .int gd, .int gm, .int gr, .int gh, .int gv]))]) hD hS hA [0] rfl
    refine go_ct hS hP hD [0] [1, 2] hF rfl rfl (by decide) (by decide)
        (va_runV (As := [.int (nI 0), .int (nI 1)]) (rest := []) cf (mX4_isThrown_f l G m0 sa oa pa la za na gu gt gw gd gm gr gh gv 1  H.size) (cwV 2 hts (lw_V q1650 q1652 qs20 q58 q1653) rfl rfl rfl (by decide +kernel) ⟨Nat.le_of_ble_eq_true rfl, Nat.le_of_ble_eq_true rfl⟩) (preV_of hKB hE hS hF (va_recv hK hP (ci := 6) (q0 := 0) rfl rfl) (va_P.sub hP [0] rfl) ((va_D.sub hD [0] (by decide) rfl).weaken (fun _ _ _ _ => trivial)) trivial) rfl rfl hl.1 rfl (lv_room (Nat.le_of_ble_eq_true rfl)) dX4_loadOn_11 ⟨show 0 + 0 ≤ 0 from by first | decide | omega, show 0 + 0 ≤ 0 from by first | decide | omega⟩)
        (fun u_ H locs hq hph (hP : va_P G.1 CL [(la, .inl (G.2 0, 200, .inl (ldF B))), (za, .inl (G.2 0, 6, .inl zg_315)), (m0, .inr (6, [.ref sa, .ref oa, .ref pa, .ref la, .ref za, .ref na, .int gu, .int gt, .int gw, .int gd, .int gm, .int gr, .int (nI 0), .int gv]))] H) (hD : va_D A [(la, .inl (G.2 0, 200, .inl (ldF B))), (za, .inl (G.2 0, 6, .inl zg_315)), (m0, .inr (6, [.ref sa, .ref oa, .ref pa, .ref la, .ref za, .ref na, .int gu, .int gt, .int gw, .int gd, .int gm, .int gr, .int (nI 0), .int gv]))]) hS hfz hfk => ?_)
    refine W.eq (g2 := F0 m 14 ls [.int (nI 0)]) rfl ?_
    refine n_if_eq (tgt := 21) hx hb (by omega) dX4_loadOn_14 (by decide) (fun c_325 => ?_) (fun c_325 => absurd c_325 (by omega))
    refine lv_aload_n hx hb dX4_loadOn_21 rfl (lv_at hl 0 rfl) ?_
    refine va_get hx hb hts in_X4 hown hK hP 2 rfl rfl 3 (by decide) (hts _ q1599) (fun _ h => h) rfl dX4_loadOn_22 ?_
    refine lv_iload_n hx hb dX4_loadOn_25 rfl (lv_at hl 1 rfl) ?_
    refine r_iald (v := nI (loadD B d_320)) hx hb hK hP 0 0 rfl rfl (i := d_320) (by omega) (by omega) (rfl) dX4_loadOn_26 ?_
    have hq9 : q_loadOn B v = (0, nI (loadD B d_320)) := by unfold q_loadOn q1; rw [hir_324] <;> rfl
    have hP : va_P G.1 CL [(la, .inl (G.2 0, 200, .inl (ldF B))), (za, .inl (G.2 0, 6, .inl zg_315)), (m0, .inr (6, [.ref sa, .ref oa, .ref pa, .ref la, .ref za, .ref na, .int gu, .int gt, .int gw, .int gd, .int gm, .int gr, .int (nI ((q_loadOn B v).1)), .int gv]))] H := by rw [hq9]; exact hP
    have hD : va_D A [(la, .inl (G.2 0, 200, .inl (ldF B))), (za, .inl (G.2 0, 6, .inl zg_315)), (m0, .inr (6, [.ref sa, .ref oa, .ref pa, .ref la, .ref za, .ref na, .int gu, .int gt, .int gw, .int gd, .int gm, .int gr, .int (nI ((q_loadOn B v).1)), .int gv]))] := by rw [hq9]; exact hD
    have hP9 : va_P G.1 CL [(m0, .inr (6, [.ref sa, .ref oa, .ref pa, .ref la, .ref za, .ref na, .int gu, .int gt, .int gw, .int gd, .int gm, .int gr, .int (nI ((q_loadOn B v).1)), .int gv])), (la, .inl (G.2 0, 200, .inl (ldF B))), (za, .inl (G.2 0, 6, .inl zg_315))] H := hP.sub [2, 0, 1] rfl
    have hD9 : va_D A [(m0, .inr (6, [.ref sa, .ref oa, .ref pa, .ref la, .ref za, .ref na, .int gu, .int gt, .int gw, .int gd, .int gm, .int gr, .int (nI ((q_loadOn B v).1)), .int gv])), (la, .inl (G.2 0, 200, .inl (ldF B))), (za, .inl (G.2 0, 6, .inl zg_315))] := hD.sub [2, 0, 1] (by decide) rfl
    exact end_i hx hb hr hlk (rfl) (qc_of ⟨nI (loadD B d_320), ldF B, zg_315, gd, gm, gr⟩ (v := some (.int (nI (loadD B d_320)))) (by rfl) (fun _ => by rw [hq9]) hP9 hD9 (trivial) hS) hS dX4_loadOn_27 (show 0 ≤ 0 from by first | exact Nat.le_refl _ | decide | omega) (show 0 ≤ 0 from by first | exact Nat.le_refl _ | decide | omega)
  · refine lv_ton (n := 1) rfl ?_
    have hir_326 : inR v 0 (bD B) = none := inR_none (fun z => absurd z (hq_318.mp rfl))
    refine lv_iconst (v := nI 1) hx hb dX4_loadOn_10 (by decide) ?_
    have hF := hF_of (wc := [(m0, .inr (6, [.ref sa, .ref oa, .ref pa, .ref la, .ref za, .ref na, .int gu, .int gt, .int gw, .int gd, .int gm, .int gr, .int gh, .int gv]))]) hD hS hA [0] rfl
    refine go_ct hS hP hD [0] [1, 2] hF rfl rfl (by decide) (by decide)
        (va_runV (As := [.int (nI 1), .int (nI 1)]) (rest := []) cf (mX4_isThrown_t l G m0 sa oa pa la za na gu gt gw gd gm gr gh gv 1  H.size) (cwV 2 hts (lw_V q1650 q1652 qs20 q58 q1653) rfl rfl rfl (by decide +kernel) ⟨Nat.le_of_ble_eq_true rfl, Nat.le_of_ble_eq_true rfl⟩) (preV_of hKB hE hS hF (va_recv hK hP (ci := 6) (q0 := 0) rfl rfl) (va_P.sub hP [0] rfl) ((va_D.sub hD [0] (by decide) rfl).weaken (fun _ _ _ _ => trivial)) trivial) rfl rfl hl.1 rfl (lv_room (Nat.le_of_ble_eq_true rfl)) dX4_loadOn_11 ⟨show 0 + 0 ≤ 0 from by first | decide | omega, show 0 + 0 ≤ 0 from by first | decide | omega⟩)
        (fun u_ H locs hq hph (hP : va_P G.1 CL [(la, .inl (G.2 0, 200, .inl (ldF B))), (za, .inl (G.2 0, 6, .inl zg_315)), (m0, .inr (6, [.ref sa, .ref oa, .ref pa, .ref la, .ref za, .ref na, .int gu, .int gt, .int gw, .int gd, .int gm, .int gr, .int (nI 1), .int gv]))] H) (hD : va_D A [(la, .inl (G.2 0, 200, .inl (ldF B))), (za, .inl (G.2 0, 6, .inl zg_315)), (m0, .inr (6, [.ref sa, .ref oa, .ref pa, .ref la, .ref za, .ref na, .int gu, .int gt, .int gw, .int gd, .int gm, .int gr, .int (nI 1), .int gv]))]) hS hfz hfk => ?_)
    refine W.eq (g2 := F0 m 14 ls [.int (nI 1)]) rfl ?_
    refine n_if_eq (tgt := 21) hx hb (by omega) dX4_loadOn_14 (by decide) (fun c_327 => absurd c_327 (by omega)) (fun c_327 => ?_)
    refine lv_iconst (v := nI 0) hx hb dX4_loadOn_17 (by decide) ?_
    refine lv_goto (tgt := 27) hx hb dX4_loadOn_18 (by decide) ?_
    have hq9 : q_loadOn B v = (1, 0) := by unfold q_loadOn q1; rw [hir_326] <;> rfl
    have hP : va_P G.1 CL [(la, .inl (G.2 0, 200, .inl (ldF B))), (za, .inl (G.2 0, 6, .inl zg_315)), (m0, .inr (6, [.ref sa, .ref oa, .ref pa, .ref la, .ref za, .ref na, .int gu, .int gt, .int gw, .int gd, .int gm, .int gr, .int (nI ((q_loadOn B v).1)), .int gv]))] H := by rw [hq9]; exact hP
    have hD : va_D A [(la, .inl (G.2 0, 200, .inl (ldF B))), (za, .inl (G.2 0, 6, .inl zg_315)), (m0, .inr (6, [.ref sa, .ref oa, .ref pa, .ref la, .ref za, .ref na, .int gu, .int gt, .int gw, .int gd, .int gm, .int gr, .int (nI ((q_loadOn B v).1)), .int gv]))] := by rw [hq9]; exact hD
    have hP9 : va_P G.1 CL [(m0, .inr (6, [.ref sa, .ref oa, .ref pa, .ref la, .ref za, .ref na, .int gu, .int gt, .int gw, .int gd, .int gm, .int gr, .int (nI ((q_loadOn B v).1)), .int gv])), (la, .inl (G.2 0, 200, .inl (ldF B))), (za, .inl (G.2 0, 6, .inl zg_315))] H := hP.sub [2, 0, 1] rfl
    have hD9 : va_D A [(m0, .inr (6, [.ref sa, .ref oa, .ref pa, .ref la, .ref za, .ref na, .int gu, .int gt, .int gw, .int gd, .int gm, .int gr, .int (nI ((q_loadOn B v).1)), .int gv])), (la, .inl (G.2 0, 200, .inl (ldF B))), (za, .inl (G.2 0, 6, .inl zg_315))] := hD.sub [2, 0, 1] (by decide) rfl
    exact end_i hx hb hr hlk (rfl) (qc_of ⟨nI 0, ldF B, zg_315, gd, gm, gr⟩ (v := some (.int (nI 0))) (by rfl) (fun h => by rw [hq9] at h; exact absurd h (by decide)) hP9 hD9 (trivial) hS) hS dX4_loadOn_27 (show 0 ≤ 0 from by first | exact Nat.le_refl _ | decide | omega) (show 0 ≤ 0 from by first | exact Nat.le_refl _ | decide | omega)

set_option maxHeartbeats 4000000 in
theorem mX4_fitnessOn (l : Launch) (G : Gt) (m0 : Nat) (sa : Nat) (oa : Nat) (pa : Nat) (la : Nat) (za : Nat) (na : Nat) (gu : Int32) (gt : Int32) (gw : Int32) (gd : Int32) (gm : Int32) (gr : Int32) (gh : Int32) (gv : Int32) (f : Nat → Int32) (B : Bk) (lf : Nat → Int32) (zf : Nat → Int32) (v : Int32) (hM : MR f B) (hI : Inv B) : CT l G yX4_fitnessOn cX4_fitnessOn 2 (some .int) ({ frames := 6, cells := 0, slots := 0, locals := 127 } : Room) [.ref m0, .int v] [(m0, .inr (6, [.ref sa, .ref oa, .ref pa, .ref la, .ref za, .ref na, .int gu, .int gt, .int gw, .int gd, .int gm, .int gr, .int gh, .int gv])), (la, .inl (G.2 0, 200, .inl lf)), (za, .inl (G.2 0, 6, .inl zf))] (fun (A : Nat → Prop) (H : Heap) => roW G A H [(sa, .inl (G.2 0, 830, .inl f))]) (S := Int32 × (Nat → Int32) × (Nat → Int32) × Int32 × Int32 × Int32) (fun (u_ : Int32 × (Nat → Int32) × (Nat → Int32) × Int32 × Int32 × Int32) => some (.int u_.1)) (fun (u_ : Int32 × (Nat → Int32) × (Nat → Int32) × Int32 × Int32 × Int32) => ((q_fit B v).1 = 0 → u_.1 = (q_fit B v).2)) (fun (u_ : Int32 × (Nat → Int32) × (Nat → Int32) × Int32 × Int32 × Int32) => [(m0, .inr (6, [.ref sa, .ref oa, .ref pa, .ref la, .ref za, .ref na, .int gu, .int gt, .int gw, .int u_.2.2.2.1, .int u_.2.2.2.2.1, .int u_.2.2.2.2.2, .int (nI ((q_fit B v).1)), .int gv])), (la, .inl (G.2 0, 200, .inl u_.2.1)), (za, .inl (G.2 0, 6, .inl u_.2.2.1))]) (fun (u_ : Int32 × (Nat → Int32) × (Nat → Int32) × Int32 × Int32 × Int32) (H : Heap) => True) := by
  refine CT.of (by decide) (Nat.le_of_ble_eq_true rfl) ?_
  intro p e s m below meth c ls A H locs h9 hH0 hP hS
  obtain ⟨cf, hr, hlk, hnm, hKB, hE, -, hD, -, hA, hAw, hR0, hl⟩ := h9
  have hx := cf.1
  have hb := cf.2.1
  have hml := cf.2.2.1
  have hown : s.vm.findClass RX4 = some m.cls := cf.2.2.2.1
  have hts := cf.2.2.2.2
  have hK := hKB.1
  have hl : lv_has ls 2 [(0, .ref m0), (1, .int v)] := hl
  have iN := iv_sN hI
  have iT := iv_tN hI
  have iD := iv_bD hI
  have iE := iv_bE hI
  have iW := iv_id hI
  refine lv_aload_n hx hb dX4_fitnessOn_0 rfl (lv_at hl 0 rfl) ?_
  have hF := hF_of (wc := [(la, .inl (G.2 0, 200, .inl lf)), (za, .inl (G.2 0, 6, .inl zf))]) hD hS hA [1, 2] rfl
  have hro_328 : roW G (va_A [(la, .inl (G.2 0, 200, .inl lf)), (za, .inl (G.2 0, 6, .inl zf))] H.size) H [(m0, .inr (6, [.ref sa, .ref oa, .ref pa, .ref la, .ref za, .ref na, .int gu, .int gt, .int gw, .int gd, .int gm, .int gr, .int gh, .int gv])), (sa, .inl (G.2 0, 830, .inl f))] := ((roW.of (w' := [(m0, .inr (6, [.ref sa, .ref oa, .ref pa, .ref la, .ref za, .ref na, .int gu, .int gt, .int gw, .int gd, .int gm, .int gr, .int gh, .int gv]))]) hP hD [1, 2] [0] rfl rfl (by decide)).app ((hR0.kp hF hS.2.1).sub (ws' := [(sa, .inl (G.2 0, 830, .inl f))]) [0] rfl))
  refine go_ct hS hP hD [1, 2] [0] hF rfl rfl (by decide) (by decide)
      (va_runV (As := []) (rest := []) cf (mX4_loads l G m0 sa oa pa la za na gu gt gw gd gm gr gh gv f B lf zf (show MR f B from by first | assumption | omega) (show Inv B from by first | assumption | omega) H.size) (cwV 0 hts (lw_V q1795 q1797 qs34 q58 q1798) rfl rfl rfl (by decide +kernel) ⟨Nat.le_of_ble_eq_true rfl, Nat.le_of_ble_eq_true rfl⟩) (preV_of hKB hE hS hF (va_recv hK hP (ci := 6) (q0 := 0) rfl rfl) (va_P.sub hP [1, 2] rfl) ((va_D.sub hD [1, 2] (by decide) rfl).weaken (fun _ _ _ _ => trivial)) hro_328) rfl rfl hl.1 rfl (lv_room (Nat.le_of_ble_eq_true rfl)) dX4_fitnessOn_1 ⟨show 0 + 0 ≤ 0 from by first | decide | omega, show 0 + 0 ≤ 0 from by first | decide | omega⟩)
      (fun u_ H locs hq hph (hP : va_P G.1 CL [(m0, .inr (6, [.ref sa, .ref oa, .ref pa, .ref la, .ref za, .ref na, .int gu, .int gt, .int gw, .int gd, .int gm, .int gr, .int gh, .int gv])), (la, .inl (G.2 0, 200, .inl (ldF B))), (za, .inl (G.2 0, 6, .inl u_))] H) (hD : va_D A [(m0, .inr (6, [.ref sa, .ref oa, .ref pa, .ref la, .ref za, .ref na, .int gu, .int gt, .int gw, .int gd, .int gm, .int gr, .int gh, .int gv])), (la, .inl (G.2 0, 200, .inl (ldF B))), (za, .inl (G.2 0, 6, .inl u_))]) hS hfz hfk => ?_)
  obtain ⟨zg_329, rfl⟩ : ∃ z, z = u_ := ⟨_, rfl⟩
  have hP : va_P G.1 CL [(m0, .inr (6, [.ref sa, .ref oa, .ref pa, .ref la, .ref za, .ref na, .int gu, .int gt, .int gw, .int gd, .int gm, .int gr, .int gh, .int gv])), (la, .inl (G.2 0, 200, .inl (ldF B))), (za, .inl (G.2 0, 6, .inl zg_329))] H := hP
  have hD : va_D A [(m0, .inr (6, [.ref sa, .ref oa, .ref pa, .ref la, .ref za, .ref na, .int gu, .int gt, .int gw, .int gd, .int gm, .int gr, .int gh, .int gv])), (la, .inl (G.2 0, 200, .inl (ldF B))), (za, .inl (G.2 0, 6, .inl zg_329))] := hD
  refine W.eq (g2 := F0 m 4 ls []) rfl ?_
  refine lv_aload_n hx hb dX4_fitnessOn_4 rfl (lv_at hl 0 rfl) ?_
  refine lv_aload_n hx hb dX4_fitnessOn_5 rfl (lv_at hl 0 rfl) ?_
  refine lv_iload_n hx hb dX4_fitnessOn_6 rfl (lv_at hl 1 rfl) ?_
  have hF := hF_of (wc := []) hD hS hA [] rfl
  have hro_330 : va_P G.1 CL [(m0, .inr (6, [.ref sa, .ref oa, .ref pa, .ref la, .ref za, .ref na, .int gu, .int gt, .int gw, .int gd, .int gm, .int gr, .int gh, .int gv])), (sa, .inl (G.2 0, 830, .inl f))] H := ((va_P.sub hP [0] rfl).app ((hR0.w hS).sub [0] rfl))
  refine go_ct hS hP hD [] [0, 1, 2] hF rfl rfl (by decide) (by decide)
      (va_runV (As := [.int v]) (rest := [.ref m0]) cf (mX4_isNoDay l G m0 sa oa pa la za na gu gt gw gd gm gr gh gv f B v (show MR f B from by first | assumption | omega) (show Inv B from by first | assumption | omega) H.size) (cwV 1 hts (lw_V q1667 q1669 qs22 q58 q1670) rfl rfl rfl (by decide +kernel) ⟨Nat.le_of_ble_eq_true rfl, Nat.le_of_ble_eq_true rfl⟩) (preV_of hKB hE hS hF (va_recv hK hP (ci := 6) (q0 := 0) rfl rfl) (va_P.sub hP [] rfl) ((va_D.sub hD [] (by decide) rfl).weaken (fun _ _ _ _ => trivial)) (roW.nil hro_330)) rfl rfl hl.1 rfl (lv_room (Nat.le_of_ble_eq_true rfl)) dX4_fitnessOn_7 ⟨show 0 + 0 ≤ 0 from by first | decide | omega, show 0 + 0 ≤ 0 from by first | decide | omega⟩)
      (fun u_ H locs hq hph (hP : va_P G.1 CL [(m0, .inr (6, [.ref sa, .ref oa, .ref pa, .ref la, .ref za, .ref na, .int gu, .int gt, .int gw, .int gd, .int gm, .int gr, .int gh, .int gv])), (la, .inl (G.2 0, 200, .inl (ldF B))), (za, .inl (G.2 0, 6, .inl zg_329))] H) (hD : va_D A [(m0, .inr (6, [.ref sa, .ref oa, .ref pa, .ref la, .ref za, .ref na, .int gu, .int gt, .int gw, .int gd, .int gm, .int gr, .int gh, .int gv])), (la, .inl (G.2 0, 200, .inl (ldF B))), (za, .inl (G.2 0, 6, .inl zg_329))]) hS hfz hfk => ?_)
  obtain ⟨b_331, rfl⟩ : ∃ z, z = u_ := ⟨_, rfl⟩
  have hP : va_P G.1 CL [(m0, .inr (6, [.ref sa, .ref oa, .ref pa, .ref la, .ref za, .ref na, .int gu, .int gt, .int gw, .int gd, .int gm, .int gr, .int gh, .int gv])), (la, .inl (G.2 0, 200, .inl (ldF B))), (za, .inl (G.2 0, 6, .inl zg_329))] H := hP
  have hD : va_D A [(m0, .inr (6, [.ref sa, .ref oa, .ref pa, .ref la, .ref za, .ref na, .int gu, .int gt, .int gw, .int gd, .int gm, .int gr, .int gh, .int gv])), (la, .inl (G.2 0, 200, .inl (ldF B))), (za, .inl (G.2 0, 6, .inl zg_329))] := hD
  have hq_332 : (b_331 = true ↔ ¬ (nI 0 ≤ v ∧ v ≤ nI (bD B))) := hq
  refine W.eq (g2 := F0 m 10 ls [.int (bI b_331), .ref m0]) rfl ?_
  cases b_331
  · refine lv_ton (n := 0) rfl ?_
    have hin_333 : nI 0 ≤ v ∧ v ≤ nI (bD B) := Classical.not_not.mp (fun z => absurd (hq_332.mpr z) (by decide))
    obtain ⟨d_334, hv_335, h_336, h_337⟩ := in_nat (lo := 0) (hi := bD B) (by omega) (by omega) hin_333.1 hin_333.2
    have hir_338 : inR v 0 (bD B) = some d_334 := inR_some hv_335 h_336 h_337 (by omega)
    have hl : lv_has ls 2 [(0, .ref m0), (1, .int (nI d_334))] := by
      have e9 : ((.int (nI d_334)) : Value) = .int v := by rw [hv_335]
      rw [e9]; exact hl
    refine lv_iconst (v := nI 1) hx hb dX4_fitnessOn_10 (by decide) ?_
    have hF := hF_of (wc := [(m0, .inr (6, [.ref sa, .ref oa, .ref pa, .ref la, .ref za, .ref na, .int gu, .int gt, .int gw, .int gd, .int gm, .int gr, .int gh, .int gv]))]) hD hS hA [0] rfl
    refine go_ct hS hP hD [0] [1, 2] hF rfl rfl (by decide) (by decide)
        (va_runV (As := [.int (nI 0), .int (nI 1)]) (rest := []) cf (mX4_isThrown_f l G m0 sa oa pa la za na gu gt gw gd gm gr gh gv 1  H.size) (cwV 2 hts (lw_V q1650 q1652 qs20 q58 q1653) rfl rfl rfl (by decide +kernel) ⟨Nat.le_of_ble_eq_true rfl, Nat.le_of_ble_eq_true rfl⟩) (preV_of hKB hE hS hF (va_recv hK hP (ci := 6) (q0 := 0) rfl rfl) (va_P.sub hP [0] rfl) ((va_D.sub hD [0] (by decide) rfl).weaken (fun _ _ _ _ => trivial)) trivial) rfl rfl hl.1 rfl (lv_room (Nat.le_of_ble_eq_true rfl)) dX4_fitnessOn_11 ⟨show 0 + 0 ≤ 0 from by first | decide | omega, show 0 + 0 ≤ 0 from by first | decide | omega⟩)
        (fun u_ H locs hq hph (hP : va_P G.1 CL [(la, .inl (G.2 0, 200, .inl (ldF B))), (za, .inl (G.2 0, 6, .inl zg_329)), (m0, .inr (6, [.ref sa, .ref oa, .ref pa, .ref la, .ref za, .ref na, .int gu, .int gt, .int gw, .int gd, .int gm, .int gr, .int (nI 0), .int gv]))] H) (hD : va_D A [(la, .inl (G.2 0, 200, .inl (ldF B))), (za, .inl (G.2 0, 6, .inl zg_329)), (m0, .inr (6, [.ref sa, .ref oa, .ref pa, .ref la, .ref za, .ref na, .int gu, .int gt, .int gw, .int gd, .int gm, .int gr, .int (nI 0), .int gv]))]) hS hfz hfk => ?_)
    refine W.eq (g2 := F0 m 14 ls [.int (nI 0)]) rfl ?_
    refine n_if_eq (tgt := 21) hx hb (by omega) dX4_fitnessOn_14 (by decide) (fun c_339 => ?_) (fun c_339 => absurd c_339 (by omega))
    refine lv_aload_n hx hb dX4_fitnessOn_21 rfl (lv_at hl 0 rfl) ?_
    refine lv_iload_n hx hb dX4_fitnessOn_22 rfl (lv_at hl 1 rfl) ?_
    refine lv_toi (y := lI (d_334 + 1)) ((lI_1 _).symm) ?_
    refine lv_bipush (v := nI 42) hx hb dX4_fitnessOn_23 (by decide) ?_
    have hF := hF_of (wc := []) hD hS hA [] rfl
    have hro_340 : va_P G.1 CL [(m0, .inr (6, [.ref sa, .ref oa, .ref pa, .ref la, .ref za, .ref na, .int gu, .int gt, .int gw, .int gd, .int gm, .int gr, .int (nI 0), .int gv])), (la, .inl (G.2 0, 200, .inl (ldF B)))] H := (va_P.sub hP [2, 0] rfl)
    refine go_ct hS hP hD [] [0, 1, 2] hF rfl rfl (by decide) (by decide)
        (va_runV (As := [.int (lI (d_334 + 1)), .int (nI 42)]) (rest := []) cf (mX4_decayed l G m0 sa oa pa la za na gu gt gw gd gm gr (nI 0) gv B (d_334 + 1) 42 (show Inv B from by first | assumption | omega) (show (d_334 + 1) ≤ 1000 from by first | assumption | omega) (show 1 ≤ 42 ∧ 42 ≤ 100 from by first | assumption | omega) H.size) (cwV 2 hts (lw_V q1811 q1813 qs35 q58 q1814) rfl rfl rfl (by decide +kernel) ⟨Nat.le_of_ble_eq_true rfl, Nat.le_of_ble_eq_true rfl⟩) (preV_of hKB hE hS hF (va_recv hK hP (ci := 6) (q0 := 2) rfl rfl) (va_P.sub hP [] rfl) ((va_D.sub hD [] (by decide) rfl).weaken (fun _ _ _ _ => trivial)) (roW.nil hro_340)) rfl rfl hl.1 rfl (lv_room (Nat.le_of_ble_eq_true rfl)) dX4_fitnessOn_25 ⟨show 0 + 0 ≤ 0 from by first | decide | omega, show 0 + 0 ≤ 0 from by first | decide | omega⟩)
        (fun u_ H locs hq hph (hP : va_P G.1 CL [(la, .inl (G.2 0, 200, .inl (ldF B))), (za, .inl (G.2 0, 6, .inl zg_329)), (m0, .inr (6, [.ref sa, .ref oa, .ref pa, .ref la, .ref za, .ref na, .int gu, .int gt, .int gw, .int gd, .int gm, .int gr, .int (nI 0), .int gv]))] H) (hD : va_D A [(la, .inl (G.2 0, 200, .inl (ldF B))), (za, .inl (G.2 0, 6, .inl zg_329)), (m0, .inr (6, [.ref sa, .ref oa, .ref pa, .ref la, .ref za, .ref na, .int gu, .int gt, .int gw, .int gd, .int gm, .int gr, .int (nI 0), .int gv]))]) hS hfz hfk => ?_)
    refine W.eq (g2 := F0 m 28 ls [.int (decay 42 (loadD B) (d_334 + 1))]) rfl ?_
    have hq9 : q_fit B v = (0, decay 42 (loadD B) (d_334 + 1)) := by unfold q_fit q1; rw [hir_338] <;> rfl
    have hP : va_P G.1 CL [(la, .inl (G.2 0, 200, .inl (ldF B))), (za, .inl (G.2 0, 6, .inl zg_329)), (m0, .inr (6, [.ref sa, .ref oa, .ref pa, .ref la, .ref za, .ref na, .int gu, .int gt, .int gw, .int gd, .int gm, .int gr, .int (nI ((q_fit B v).1)), .int gv]))] H := by rw [hq9]; exact hP
    have hD : va_D A [(la, .inl (G.2 0, 200, .inl (ldF B))), (za, .inl (G.2 0, 6, .inl zg_329)), (m0, .inr (6, [.ref sa, .ref oa, .ref pa, .ref la, .ref za, .ref na, .int gu, .int gt, .int gw, .int gd, .int gm, .int gr, .int (nI ((q_fit B v).1)), .int gv]))] := by rw [hq9]; exact hD
    have hP9 : va_P G.1 CL [(m0, .inr (6, [.ref sa, .ref oa, .ref pa, .ref la, .ref za, .ref na, .int gu, .int gt, .int gw, .int gd, .int gm, .int gr, .int (nI ((q_fit B v).1)), .int gv])), (la, .inl (G.2 0, 200, .inl (ldF B))), (za, .inl (G.2 0, 6, .inl zg_329))] H := hP.sub [2, 0, 1] rfl
    have hD9 : va_D A [(m0, .inr (6, [.ref sa, .ref oa, .ref pa, .ref la, .ref za, .ref na, .int gu, .int gt, .int gw, .int gd, .int gm, .int gr, .int (nI ((q_fit B v).1)), .int gv])), (la, .inl (G.2 0, 200, .inl (ldF B))), (za, .inl (G.2 0, 6, .inl zg_329))] := hD.sub [2, 0, 1] (by decide) rfl
    exact end_i hx hb hr hlk (rfl) (qc_of ⟨decay 42 (loadD B) (d_334 + 1), ldF B, zg_329, gd, gm, gr⟩ (v := some (.int (decay 42 (loadD B) (d_334 + 1)))) (by rfl) (fun _ => by rw [hq9]) hP9 hD9 (trivial) hS) hS dX4_fitnessOn_28 (show 0 ≤ 0 from by first | exact Nat.le_refl _ | decide | omega) (show 0 ≤ 0 from by first | exact Nat.le_refl _ | decide | omega)
  · refine lv_ton (n := 1) rfl ?_
    have hir_341 : inR v 0 (bD B) = none := inR_none (fun z => absurd z (hq_332.mp rfl))
    refine lv_iconst (v := nI 1) hx hb dX4_fitnessOn_10 (by decide) ?_
    have hF := hF_of (wc := [(m0, .inr (6, [.ref sa, .ref oa, .ref pa, .ref la, .ref za, .ref na, .int gu, .int gt, .int gw, .int gd, .int gm, .int gr, .int gh, .int gv]))]) hD hS hA [0] rfl
    refine go_ct hS hP hD [0] [1, 2] hF rfl rfl (by decide) (by decide)
        (va_runV (As := [.int (nI 1), .int (nI 1)]) (rest := []) cf (mX4_isThrown_t l G m0 sa oa pa la za na gu gt gw gd gm gr gh gv 1  H.size) (cwV 2 hts (lw_V q1650 q1652 qs20 q58 q1653) rfl rfl rfl (by decide +kernel) ⟨Nat.le_of_ble_eq_true rfl, Nat.le_of_ble_eq_true rfl⟩) (preV_of hKB hE hS hF (va_recv hK hP (ci := 6) (q0 := 0) rfl rfl) (va_P.sub hP [0] rfl) ((va_D.sub hD [0] (by decide) rfl).weaken (fun _ _ _ _ => trivial)) trivial) rfl rfl hl.1 rfl (lv_room (Nat.le_of_ble_eq_true rfl)) dX4_fitnessOn_11 ⟨show 0 + 0 ≤ 0 from by first | decide | omega, show 0 + 0 ≤ 0 from by first | decide | omega⟩)
        (fun u_ H locs hq hph (hP : va_P G.1 CL [(la, .inl (G.2 0, 200, .inl (ldF B))), (za, .inl (G.2 0, 6, .inl zg_329)), (m0, .inr (6, [.ref sa, .ref oa, .ref pa, .ref la, .ref za, .ref na, .int gu, .int gt, .int gw, .int gd, .int gm, .int gr, .int (nI 1), .int gv]))] H) (hD : va_D A [(la, .inl (G.2 0, 200, .inl (ldF B))), (za, .inl (G.2 0, 6, .inl zg_329)), (m0, .inr (6, [.ref sa, .ref oa, .ref pa, .ref la, .ref za, .ref na, .int gu, .int gt, .int gw, .int gd, .int gm, .int gr, .int (nI 1), .int gv]))]) hS hfz hfk => ?_)
    refine W.eq (g2 := F0 m 14 ls [.int (nI 1)]) rfl ?_
    refine n_if_eq (tgt := 21) hx hb (by omega) dX4_fitnessOn_14 (by decide) (fun c_342 => absurd c_342 (by omega)) (fun c_342 => ?_)
    refine lv_iconst (v := nI 0) hx hb dX4_fitnessOn_17 (by decide) ?_
    refine lv_goto (tgt := 28) hx hb dX4_fitnessOn_18 (by decide) ?_
    have hq9 : q_fit B v = (1, 0) := by unfold q_fit q1; rw [hir_341] <;> rfl
    have hP : va_P G.1 CL [(la, .inl (G.2 0, 200, .inl (ldF B))), (za, .inl (G.2 0, 6, .inl zg_329)), (m0, .inr (6, [.ref sa, .ref oa, .ref pa, .ref la, .ref za, .ref na, .int gu, .int gt, .int gw, .int gd, .int gm, .int gr, .int (nI ((q_fit B v).1)), .int gv]))] H := by rw [hq9]; exact hP
    have hD : va_D A [(la, .inl (G.2 0, 200, .inl (ldF B))), (za, .inl (G.2 0, 6, .inl zg_329)), (m0, .inr (6, [.ref sa, .ref oa, .ref pa, .ref la, .ref za, .ref na, .int gu, .int gt, .int gw, .int gd, .int gm, .int gr, .int (nI ((q_fit B v).1)), .int gv]))] := by rw [hq9]; exact hD
    have hP9 : va_P G.1 CL [(m0, .inr (6, [.ref sa, .ref oa, .ref pa, .ref la, .ref za, .ref na, .int gu, .int gt, .int gw, .int gd, .int gm, .int gr, .int (nI ((q_fit B v).1)), .int gv])), (la, .inl (G.2 0, 200, .inl (ldF B))), (za, .inl (G.2 0, 6, .inl zg_329))] H := hP.sub [2, 0, 1] rfl
    have hD9 : va_D A [(m0, .inr (6, [.ref sa, .ref oa, .ref pa, .ref la, .ref za, .ref na, .int gu, .int gt, .int gw, .int gd, .int gm, .int gr, .int (nI ((q_fit B v).1)), .int gv])), (la, .inl (G.2 0, 200, .inl (ldF B))), (za, .inl (G.2 0, 6, .inl zg_329))] := hD.sub [2, 0, 1] (by decide) rfl
    exact end_i hx hb hr hlk (rfl) (qc_of ⟨nI 0, ldF B, zg_329, gd, gm, gr⟩ (v := some (.int (nI 0))) (by rfl) (fun h => by rw [hq9] at h; exact absurd h (by decide)) hP9 hD9 (trivial) hS) hS dX4_fitnessOn_28 (show 0 ≤ 0 from by first | exact Nat.le_refl _ | decide | omega) (show 0 ≤ 0 from by first | exact Nat.le_refl _ | decide | omega)

set_option maxHeartbeats 4000000 in
theorem mX4_fatigueOn (l : Launch) (G : Gt) (m0 : Nat) (sa : Nat) (oa : Nat) (pa : Nat) (la : Nat) (za : Nat) (na : Nat) (gu : Int32) (gt : Int32) (gw : Int32) (gd : Int32) (gm : Int32) (gr : Int32) (gh : Int32) (gv : Int32) (f : Nat → Int32) (B : Bk) (lf : Nat → Int32) (zf : Nat → Int32) (v : Int32) (hM : MR f B) (hI : Inv B) : CT l G yX4_fatigueOn cX4_fatigueOn 2 (some .int) ({ frames := 6, cells := 0, slots := 0, locals := 127 } : Room) [.ref m0, .int v] [(m0, .inr (6, [.ref sa, .ref oa, .ref pa, .ref la, .ref za, .ref na, .int gu, .int gt, .int gw, .int gd, .int gm, .int gr, .int gh, .int gv])), (la, .inl (G.2 0, 200, .inl lf)), (za, .inl (G.2 0, 6, .inl zf))] (fun (A : Nat → Prop) (H : Heap) => roW G A H [(sa, .inl (G.2 0, 830, .inl f))]) (S := Int32 × (Nat → Int32) × (Nat → Int32) × Int32 × Int32 × Int32) (fun (u_ : Int32 × (Nat → Int32) × (Nat → Int32) × Int32 × Int32 × Int32) => some (.int u_.1)) (fun (u_ : Int32 × (Nat → Int32) × (Nat → Int32) × Int32 × Int32 × Int32) => ((q_fat B v).1 = 0 → u_.1 = (q_fat B v).2)) (fun (u_ : Int32 × (Nat → Int32) × (Nat → Int32) × Int32 × Int32 × Int32) => [(m0, .inr (6, [.ref sa, .ref oa, .ref pa, .ref la, .ref za, .ref na, .int gu, .int gt, .int gw, .int u_.2.2.2.1, .int u_.2.2.2.2.1, .int u_.2.2.2.2.2, .int (nI ((q_fat B v).1)), .int gv])), (la, .inl (G.2 0, 200, .inl u_.2.1)), (za, .inl (G.2 0, 6, .inl u_.2.2.1))]) (fun (u_ : Int32 × (Nat → Int32) × (Nat → Int32) × Int32 × Int32 × Int32) (H : Heap) => True) := by
  refine CT.of (by decide) (Nat.le_of_ble_eq_true rfl) ?_
  intro p e s m below meth c ls A H locs h9 hH0 hP hS
  obtain ⟨cf, hr, hlk, hnm, hKB, hE, -, hD, -, hA, hAw, hR0, hl⟩ := h9
  have hx := cf.1
  have hb := cf.2.1
  have hml := cf.2.2.1
  have hown : s.vm.findClass RX4 = some m.cls := cf.2.2.2.1
  have hts := cf.2.2.2.2
  have hK := hKB.1
  have hl : lv_has ls 2 [(0, .ref m0), (1, .int v)] := hl
  have iN := iv_sN hI
  have iT := iv_tN hI
  have iD := iv_bD hI
  have iE := iv_bE hI
  have iW := iv_id hI
  refine lv_aload_n hx hb dX4_fatigueOn_0 rfl (lv_at hl 0 rfl) ?_
  have hF := hF_of (wc := [(la, .inl (G.2 0, 200, .inl lf)), (za, .inl (G.2 0, 6, .inl zf))]) hD hS hA [1, 2] rfl
  have hro_343 : roW G (va_A [(la, .inl (G.2 0, 200, .inl lf)), (za, .inl (G.2 0, 6, .inl zf))] H.size) H [(m0, .inr (6, [.ref sa, .ref oa, .ref pa, .ref la, .ref za, .ref na, .int gu, .int gt, .int gw, .int gd, .int gm, .int gr, .int gh, .int gv])), (sa, .inl (G.2 0, 830, .inl f))] := ((roW.of (w' := [(m0, .inr (6, [.ref sa, .ref oa, .ref pa, .ref la, .ref za, .ref na, .int gu, .int gt, .int gw, .int gd, .int gm, .int gr, .int gh, .int gv]))]) hP hD [1, 2] [0] rfl rfl (by decide)).app ((hR0.kp hF hS.2.1).sub (ws' := [(sa, .inl (G.2 0, 830, .inl f))]) [0] rfl))
  refine go_ct hS hP hD [1, 2] [0] hF rfl rfl (by decide) (by decide)
      (va_runV (As := []) (rest := []) cf (mX4_loads l G m0 sa oa pa la za na gu gt gw gd gm gr gh gv f B lf zf (show MR f B from by first | assumption | omega) (show Inv B from by first | assumption | omega) H.size) (cwV 0 hts (lw_V q1795 q1797 qs34 q58 q1798) rfl rfl rfl (by decide +kernel) ⟨Nat.le_of_ble_eq_true rfl, Nat.le_of_ble_eq_true rfl⟩) (preV_of hKB hE hS hF (va_recv hK hP (ci := 6) (q0 := 0) rfl rfl) (va_P.sub hP [1, 2] rfl) ((va_D.sub hD [1, 2] (by decide) rfl).weaken (fun _ _ _ _ => trivial)) hro_343) rfl rfl hl.1 rfl (lv_room (Nat.le_of_ble_eq_true rfl)) dX4_fatigueOn_1 ⟨show 0 + 0 ≤ 0 from by first | decide | omega, show 0 + 0 ≤ 0 from by first | decide | omega⟩)
      (fun u_ H locs hq hph (hP : va_P G.1 CL [(m0, .inr (6, [.ref sa, .ref oa, .ref pa, .ref la, .ref za, .ref na, .int gu, .int gt, .int gw, .int gd, .int gm, .int gr, .int gh, .int gv])), (la, .inl (G.2 0, 200, .inl (ldF B))), (za, .inl (G.2 0, 6, .inl u_))] H) (hD : va_D A [(m0, .inr (6, [.ref sa, .ref oa, .ref pa, .ref la, .ref za, .ref na, .int gu, .int gt, .int gw, .int gd, .int gm, .int gr, .int gh, .int gv])), (la, .inl (G.2 0, 200, .inl (ldF B))), (za, .inl (G.2 0, 6, .inl u_))]) hS hfz hfk => ?_)
  obtain ⟨zg_344, rfl⟩ : ∃ z, z = u_ := ⟨_, rfl⟩
  have hP : va_P G.1 CL [(m0, .inr (6, [.ref sa, .ref oa, .ref pa, .ref la, .ref za, .ref na, .int gu, .int gt, .int gw, .int gd, .int gm, .int gr, .int gh, .int gv])), (la, .inl (G.2 0, 200, .inl (ldF B))), (za, .inl (G.2 0, 6, .inl zg_344))] H := hP
  have hD : va_D A [(m0, .inr (6, [.ref sa, .ref oa, .ref pa, .ref la, .ref za, .ref na, .int gu, .int gt, .int gw, .int gd, .int gm, .int gr, .int gh, .int gv])), (la, .inl (G.2 0, 200, .inl (ldF B))), (za, .inl (G.2 0, 6, .inl zg_344))] := hD
  refine W.eq (g2 := F0 m 4 ls []) rfl ?_
  refine lv_aload_n hx hb dX4_fatigueOn_4 rfl (lv_at hl 0 rfl) ?_
  refine lv_aload_n hx hb dX4_fatigueOn_5 rfl (lv_at hl 0 rfl) ?_
  refine lv_iload_n hx hb dX4_fatigueOn_6 rfl (lv_at hl 1 rfl) ?_
  have hF := hF_of (wc := []) hD hS hA [] rfl
  have hro_345 : va_P G.1 CL [(m0, .inr (6, [.ref sa, .ref oa, .ref pa, .ref la, .ref za, .ref na, .int gu, .int gt, .int gw, .int gd, .int gm, .int gr, .int gh, .int gv])), (sa, .inl (G.2 0, 830, .inl f))] H := ((va_P.sub hP [0] rfl).app ((hR0.w hS).sub [0] rfl))
  refine go_ct hS hP hD [] [0, 1, 2] hF rfl rfl (by decide) (by decide)
      (va_runV (As := [.int v]) (rest := [.ref m0]) cf (mX4_isNoDay l G m0 sa oa pa la za na gu gt gw gd gm gr gh gv f B v (show MR f B from by first | assumption | omega) (show Inv B from by first | assumption | omega) H.size) (cwV 1 hts (lw_V q1667 q1669 qs22 q58 q1670) rfl rfl rfl (by decide +kernel) ⟨Nat.le_of_ble_eq_true rfl, Nat.le_of_ble_eq_true rfl⟩) (preV_of hKB hE hS hF (va_recv hK hP (ci := 6) (q0 := 0) rfl rfl) (va_P.sub hP [] rfl) ((va_D.sub hD [] (by decide) rfl).weaken (fun _ _ _ _ => trivial)) (roW.nil hro_345)) rfl rfl hl.1 rfl (lv_room (Nat.le_of_ble_eq_true rfl)) dX4_fatigueOn_7 ⟨show 0 + 0 ≤ 0 from by first | decide | omega, show 0 + 0 ≤ 0 from by first | decide | omega⟩)
      (fun u_ H locs hq hph (hP : va_P G.1 CL [(m0, .inr (6, [.ref sa, .ref oa, .ref pa, .ref la, .ref za, .ref na, .int gu, .int gt, .int gw, .int gd, .int gm, .int gr, .int gh, .int gv])), (la, .inl (G.2 0, 200, .inl (ldF B))), (za, .inl (G.2 0, 6, .inl zg_344))] H) (hD : va_D A [(m0, .inr (6, [.ref sa, .ref oa, .ref pa, .ref la, .ref za, .ref na, .int gu, .int gt, .int gw, .int gd, .int gm, .int gr, .int gh, .int gv])), (la, .inl (G.2 0, 200, .inl (ldF B))), (za, .inl (G.2 0, 6, .inl zg_344))]) hS hfz hfk => ?_)
  obtain ⟨b_346, rfl⟩ : ∃ z, z = u_ := ⟨_, rfl⟩
  have hP : va_P G.1 CL [(m0, .inr (6, [.ref sa, .ref oa, .ref pa, .ref la, .ref za, .ref na, .int gu, .int gt, .int gw, .int gd, .int gm, .int gr, .int gh, .int gv])), (la, .inl (G.2 0, 200, .inl (ldF B))), (za, .inl (G.2 0, 6, .inl zg_344))] H := hP
  have hD : va_D A [(m0, .inr (6, [.ref sa, .ref oa, .ref pa, .ref la, .ref za, .ref na, .int gu, .int gt, .int gw, .int gd, .int gm, .int gr, .int gh, .int gv])), (la, .inl (G.2 0, 200, .inl (ldF B))), (za, .inl (G.2 0, 6, .inl zg_344))] := hD
  have hq_347 : (b_346 = true ↔ ¬ (nI 0 ≤ v ∧ v ≤ nI (bD B))) := hq
  refine W.eq (g2 := F0 m 10 ls [.int (bI b_346), .ref m0]) rfl ?_
  cases b_346
  · refine lv_ton (n := 0) rfl ?_
    have hin_348 : nI 0 ≤ v ∧ v ≤ nI (bD B) := Classical.not_not.mp (fun z => absurd (hq_347.mpr z) (by decide))
    obtain ⟨d_349, hv_350, h_351, h_352⟩ := in_nat (lo := 0) (hi := bD B) (by omega) (by omega) hin_348.1 hin_348.2
    have hir_353 : inR v 0 (bD B) = some d_349 := inR_some hv_350 h_351 h_352 (by omega)
    have hl : lv_has ls 2 [(0, .ref m0), (1, .int (nI d_349))] := by
      have e9 : ((.int (nI d_349)) : Value) = .int v := by rw [hv_350]
      rw [e9]; exact hl
    refine lv_iconst (v := nI 1) hx hb dX4_fatigueOn_10 (by decide) ?_
    have hF := hF_of (wc := [(m0, .inr (6, [.ref sa, .ref oa, .ref pa, .ref la, .ref za, .ref na, .int gu, .int gt, .int gw, .int gd, .int gm, .int gr, .int gh, .int gv]))]) hD hS hA [0] rfl
    refine go_ct hS hP hD [0] [1, 2] hF rfl rfl (by decide) (by decide)
        (va_runV (As := [.int (nI 0), .int (nI 1)]) (rest := []) cf (mX4_isThrown_f l G m0 sa oa pa la za na gu gt gw gd gm gr gh gv 1  H.size) (cwV 2 hts (lw_V q1650 q1652 qs20 q58 q1653) rfl rfl rfl (by decide +kernel) ⟨Nat.le_of_ble_eq_true rfl, Nat.le_of_ble_eq_true rfl⟩) (preV_of hKB hE hS hF (va_recv hK hP (ci := 6) (q0 := 0) rfl rfl) (va_P.sub hP [0] rfl) ((va_D.sub hD [0] (by decide) rfl).weaken (fun _ _ _ _ => trivial)) trivial) rfl rfl hl.1 rfl (lv_room (Nat.le_of_ble_eq_true rfl)) dX4_fatigueOn_11 ⟨show 0 + 0 ≤ 0 from by first | decide | omega, show 0 + 0 ≤ 0 from by first | decide | omega⟩)
        (fun u_ H locs hq hph (hP : va_P G.1 CL [(la, .inl (G.2 0, 200, .inl (ldF B))), (za, .inl (G.2 0, 6, .inl zg_344)), (m0, .inr (6, [.ref sa, .ref oa, .ref pa, .ref la, .ref za, .ref na, .int gu, .int gt, .int gw, .int gd, .int gm, .int gr, .int (nI 0), .int gv]))] H) (hD : va_D A [(la, .inl (G.2 0, 200, .inl (ldF B))), (za, .inl (G.2 0, 6, .inl zg_344)), (m0, .inr (6, [.ref sa, .ref oa, .ref pa, .ref la, .ref za, .ref na, .int gu, .int gt, .int gw, .int gd, .int gm, .int gr, .int (nI 0), .int gv]))]) hS hfz hfk => ?_)
    refine W.eq (g2 := F0 m 14 ls [.int (nI 0)]) rfl ?_
    refine n_if_eq (tgt := 21) hx hb (by omega) dX4_fatigueOn_14 (by decide) (fun c_354 => ?_) (fun c_354 => absurd c_354 (by omega))
    refine lv_aload_n hx hb dX4_fatigueOn_21 rfl (lv_at hl 0 rfl) ?_
    refine lv_iload_n hx hb dX4_fatigueOn_22 rfl (lv_at hl 1 rfl) ?_
    refine lv_toi (y := lI (d_349 + 1)) ((lI_1 _).symm) ?_
    refine lv_bipush (v := nI 7) hx hb dX4_fatigueOn_23 (by decide) ?_
    have hF := hF_of (wc := []) hD hS hA [] rfl
    have hro_355 : va_P G.1 CL [(m0, .inr (6, [.ref sa, .ref oa, .ref pa, .ref la, .ref za, .ref na, .int gu, .int gt, .int gw, .int gd, .int gm, .int gr, .int (nI 0), .int gv])), (la, .inl (G.2 0, 200, .inl (ldF B)))] H := (va_P.sub hP [2, 0] rfl)
    refine go_ct hS hP hD [] [0, 1, 2] hF rfl rfl (by decide) (by decide)
        (va_runV (As := [.int (lI (d_349 + 1)), .int (nI 7)]) (rest := []) cf (mX4_decayed l G m0 sa oa pa la za na gu gt gw gd gm gr (nI 0) gv B (d_349 + 1) 7 (show Inv B from by first | assumption | omega) (show (d_349 + 1) ≤ 1000 from by first | assumption | omega) (show 1 ≤ 7 ∧ 7 ≤ 100 from by first | assumption | omega) H.size) (cwV 2 hts (lw_V q1811 q1813 qs35 q58 q1814) rfl rfl rfl (by decide +kernel) ⟨Nat.le_of_ble_eq_true rfl, Nat.le_of_ble_eq_true rfl⟩) (preV_of hKB hE hS hF (va_recv hK hP (ci := 6) (q0 := 2) rfl rfl) (va_P.sub hP [] rfl) ((va_D.sub hD [] (by decide) rfl).weaken (fun _ _ _ _ => trivial)) (roW.nil hro_355)) rfl rfl hl.1 rfl (lv_room (Nat.le_of_ble_eq_true rfl)) dX4_fatigueOn_25 ⟨show 0 + 0 ≤ 0 from by first | decide | omega, show 0 + 0 ≤ 0 from by first | decide | omega⟩)
        (fun u_ H locs hq hph (hP : va_P G.1 CL [(la, .inl (G.2 0, 200, .inl (ldF B))), (za, .inl (G.2 0, 6, .inl zg_344)), (m0, .inr (6, [.ref sa, .ref oa, .ref pa, .ref la, .ref za, .ref na, .int gu, .int gt, .int gw, .int gd, .int gm, .int gr, .int (nI 0), .int gv]))] H) (hD : va_D A [(la, .inl (G.2 0, 200, .inl (ldF B))), (za, .inl (G.2 0, 6, .inl zg_344)), (m0, .inr (6, [.ref sa, .ref oa, .ref pa, .ref la, .ref za, .ref na, .int gu, .int gt, .int gw, .int gd, .int gm, .int gr, .int (nI 0), .int gv]))]) hS hfz hfk => ?_)
    refine W.eq (g2 := F0 m 28 ls [.int (decay 7 (loadD B) (d_349 + 1))]) rfl ?_
    have hq9 : q_fat B v = (0, decay 7 (loadD B) (d_349 + 1)) := by unfold q_fat q1; rw [hir_353] <;> rfl
    have hP : va_P G.1 CL [(la, .inl (G.2 0, 200, .inl (ldF B))), (za, .inl (G.2 0, 6, .inl zg_344)), (m0, .inr (6, [.ref sa, .ref oa, .ref pa, .ref la, .ref za, .ref na, .int gu, .int gt, .int gw, .int gd, .int gm, .int gr, .int (nI ((q_fat B v).1)), .int gv]))] H := by rw [hq9]; exact hP
    have hD : va_D A [(la, .inl (G.2 0, 200, .inl (ldF B))), (za, .inl (G.2 0, 6, .inl zg_344)), (m0, .inr (6, [.ref sa, .ref oa, .ref pa, .ref la, .ref za, .ref na, .int gu, .int gt, .int gw, .int gd, .int gm, .int gr, .int (nI ((q_fat B v).1)), .int gv]))] := by rw [hq9]; exact hD
    have hP9 : va_P G.1 CL [(m0, .inr (6, [.ref sa, .ref oa, .ref pa, .ref la, .ref za, .ref na, .int gu, .int gt, .int gw, .int gd, .int gm, .int gr, .int (nI ((q_fat B v).1)), .int gv])), (la, .inl (G.2 0, 200, .inl (ldF B))), (za, .inl (G.2 0, 6, .inl zg_344))] H := hP.sub [2, 0, 1] rfl
    have hD9 : va_D A [(m0, .inr (6, [.ref sa, .ref oa, .ref pa, .ref la, .ref za, .ref na, .int gu, .int gt, .int gw, .int gd, .int gm, .int gr, .int (nI ((q_fat B v).1)), .int gv])), (la, .inl (G.2 0, 200, .inl (ldF B))), (za, .inl (G.2 0, 6, .inl zg_344))] := hD.sub [2, 0, 1] (by decide) rfl
    exact end_i hx hb hr hlk (rfl) (qc_of ⟨decay 7 (loadD B) (d_349 + 1), ldF B, zg_344, gd, gm, gr⟩ (v := some (.int (decay 7 (loadD B) (d_349 + 1)))) (by rfl) (fun _ => by rw [hq9]) hP9 hD9 (trivial) hS) hS dX4_fatigueOn_28 (show 0 ≤ 0 from by first | exact Nat.le_refl _ | decide | omega) (show 0 ≤ 0 from by first | exact Nat.le_refl _ | decide | omega)
  · refine lv_ton (n := 1) rfl ?_
    have hir_356 : inR v 0 (bD B) = none := inR_none (fun z => absurd z (hq_347.mp rfl))
    refine lv_iconst (v := nI 1) hx hb dX4_fatigueOn_10 (by decide) ?_
    have hF := hF_of (wc := [(m0, .inr (6, [.ref sa, .ref oa, .ref pa, .ref la, .ref za, .ref na, .int gu, .int gt, .int gw, .int gd, .int gm, .int gr, .int gh, .int gv]))]) hD hS hA [0] rfl
    refine go_ct hS hP hD [0] [1, 2] hF rfl rfl (by decide) (by decide)
        (va_runV (As := [.int (nI 1), .int (nI 1)]) (rest := []) cf (mX4_isThrown_t l G m0 sa oa pa la za na gu gt gw gd gm gr gh gv 1  H.size) (cwV 2 hts (lw_V q1650 q1652 qs20 q58 q1653) rfl rfl rfl (by decide +kernel) ⟨Nat.le_of_ble_eq_true rfl, Nat.le_of_ble_eq_true rfl⟩) (preV_of hKB hE hS hF (va_recv hK hP (ci := 6) (q0 := 0) rfl rfl) (va_P.sub hP [0] rfl) ((va_D.sub hD [0] (by decide) rfl).weaken (fun _ _ _ _ => trivial)) trivial) rfl rfl hl.1 rfl (lv_room (Nat.le_of_ble_eq_true rfl)) dX4_fatigueOn_11 ⟨show 0 + 0 ≤ 0 from by first | decide | omega, show 0 + 0 ≤ 0 from by first | decide | omega⟩)
        (fun u_ H locs hq hph (hP : va_P G.1 CL [(la, .inl (G.2 0, 200, .inl (ldF B))), (za, .inl (G.2 0, 6, .inl zg_344)), (m0, .inr (6, [.ref sa, .ref oa, .ref pa, .ref la, .ref za, .ref na, .int gu, .int gt, .int gw, .int gd, .int gm, .int gr, .int (nI 1), .int gv]))] H) (hD : va_D A [(la, .inl (G.2 0, 200, .inl (ldF B))), (za, .inl (G.2 0, 6, .inl zg_344)), (m0, .inr (6, [.ref sa, .ref oa, .ref pa, .ref la, .ref za, .ref na, .int gu, .int gt, .int gw, .int gd, .int gm, .int gr, .int (nI 1), .int gv]))]) hS hfz hfk => ?_)
    refine W.eq (g2 := F0 m 14 ls [.int (nI 1)]) rfl ?_
    refine n_if_eq (tgt := 21) hx hb (by omega) dX4_fatigueOn_14 (by decide) (fun c_357 => absurd c_357 (by omega)) (fun c_357 => ?_)
    refine lv_iconst (v := nI 0) hx hb dX4_fatigueOn_17 (by decide) ?_
    refine lv_goto (tgt := 28) hx hb dX4_fatigueOn_18 (by decide) ?_
    have hq9 : q_fat B v = (1, 0) := by unfold q_fat q1; rw [hir_356] <;> rfl
    have hP : va_P G.1 CL [(la, .inl (G.2 0, 200, .inl (ldF B))), (za, .inl (G.2 0, 6, .inl zg_344)), (m0, .inr (6, [.ref sa, .ref oa, .ref pa, .ref la, .ref za, .ref na, .int gu, .int gt, .int gw, .int gd, .int gm, .int gr, .int (nI ((q_fat B v).1)), .int gv]))] H := by rw [hq9]; exact hP
    have hD : va_D A [(la, .inl (G.2 0, 200, .inl (ldF B))), (za, .inl (G.2 0, 6, .inl zg_344)), (m0, .inr (6, [.ref sa, .ref oa, .ref pa, .ref la, .ref za, .ref na, .int gu, .int gt, .int gw, .int gd, .int gm, .int gr, .int (nI ((q_fat B v).1)), .int gv]))] := by rw [hq9]; exact hD
    have hP9 : va_P G.1 CL [(m0, .inr (6, [.ref sa, .ref oa, .ref pa, .ref la, .ref za, .ref na, .int gu, .int gt, .int gw, .int gd, .int gm, .int gr, .int (nI ((q_fat B v).1)), .int gv])), (la, .inl (G.2 0, 200, .inl (ldF B))), (za, .inl (G.2 0, 6, .inl zg_344))] H := hP.sub [2, 0, 1] rfl
    have hD9 : va_D A [(m0, .inr (6, [.ref sa, .ref oa, .ref pa, .ref la, .ref za, .ref na, .int gu, .int gt, .int gw, .int gd, .int gm, .int gr, .int (nI ((q_fat B v).1)), .int gv])), (la, .inl (G.2 0, 200, .inl (ldF B))), (za, .inl (G.2 0, 6, .inl zg_344))] := hD.sub [2, 0, 1] (by decide) rfl
    exact end_i hx hb hr hlk (rfl) (qc_of ⟨nI 0, ldF B, zg_344, gd, gm, gr⟩ (v := some (.int (nI 0))) (by rfl) (fun h => by rw [hq9] at h; exact absurd h (by decide)) hP9 hD9 (trivial) hS) hS dX4_fatigueOn_28 (show 0 ≤ 0 from by first | exact Nat.le_refl _ | decide | omega) (show 0 ≤ 0 from by first | exact Nat.le_refl _ | decide | omega)

set_option maxHeartbeats 4000000 in
theorem mX4_formOn (l : Launch) (G : Gt) (m0 : Nat) (sa : Nat) (oa : Nat) (pa : Nat) (la : Nat) (za : Nat) (na : Nat) (gu : Int32) (gt : Int32) (gw : Int32) (gd : Int32) (gm : Int32) (gr : Int32) (gh : Int32) (gv : Int32) (f : Nat → Int32) (B : Bk) (lf : Nat → Int32) (zf : Nat → Int32) (v : Int32) (hM : MR f B) (hI : Inv B) : CT l G yX4_formOn cX4_formOn 2 (some .int) ({ frames := 6, cells := 0, slots := 0, locals := 127 } : Room) [.ref m0, .int v] [(m0, .inr (6, [.ref sa, .ref oa, .ref pa, .ref la, .ref za, .ref na, .int gu, .int gt, .int gw, .int gd, .int gm, .int gr, .int gh, .int gv])), (la, .inl (G.2 0, 200, .inl lf)), (za, .inl (G.2 0, 6, .inl zf))] (fun (A : Nat → Prop) (H : Heap) => roW G A H [(sa, .inl (G.2 0, 830, .inl f))]) (S := Int32 × (Nat → Int32) × (Nat → Int32) × Int32 × Int32 × Int32) (fun (u_ : Int32 × (Nat → Int32) × (Nat → Int32) × Int32 × Int32 × Int32) => some (.int u_.1)) (fun (u_ : Int32 × (Nat → Int32) × (Nat → Int32) × Int32 × Int32 × Int32) => ((q_form B v).1 = 0 → u_.1 = (q_form B v).2)) (fun (u_ : Int32 × (Nat → Int32) × (Nat → Int32) × Int32 × Int32 × Int32) => [(m0, .inr (6, [.ref sa, .ref oa, .ref pa, .ref la, .ref za, .ref na, .int gu, .int gt, .int gw, .int u_.2.2.2.1, .int u_.2.2.2.2.1, .int u_.2.2.2.2.2, .int (nI ((q_form B v).1)), .int gv])), (la, .inl (G.2 0, 200, .inl u_.2.1)), (za, .inl (G.2 0, 6, .inl u_.2.2.1))]) (fun (u_ : Int32 × (Nat → Int32) × (Nat → Int32) × Int32 × Int32 × Int32) (H : Heap) => True) := by
  refine CT.of (by decide) (Nat.le_of_ble_eq_true rfl) ?_
  intro p e s m below meth c ls A H locs h9 hH0 hP hS
  obtain ⟨cf, hr, hlk, hnm, hKB, hE, -, hD, -, hA, hAw, hR0, hl⟩ := h9
  have hx := cf.1
  have hb := cf.2.1
  have hml := cf.2.2.1
  have hown : s.vm.findClass RX4 = some m.cls := cf.2.2.2.1
  have hts := cf.2.2.2.2
  have hK := hKB.1
  have hl : lv_has ls 2 [(0, .ref m0), (1, .int v)] := hl
  have iN := iv_sN hI
  have iT := iv_tN hI
  have iD := iv_bD hI
  have iE := iv_bE hI
  have iW := iv_id hI
  refine lv_aload_n hx hb dX4_formOn_0 rfl (lv_at hl 0 rfl) ?_
  have hF := hF_of (wc := [(la, .inl (G.2 0, 200, .inl lf)), (za, .inl (G.2 0, 6, .inl zf))]) hD hS hA [1, 2] rfl
  have hro_358 : roW G (va_A [(la, .inl (G.2 0, 200, .inl lf)), (za, .inl (G.2 0, 6, .inl zf))] H.size) H [(m0, .inr (6, [.ref sa, .ref oa, .ref pa, .ref la, .ref za, .ref na, .int gu, .int gt, .int gw, .int gd, .int gm, .int gr, .int gh, .int gv])), (sa, .inl (G.2 0, 830, .inl f))] := ((roW.of (w' := [(m0, .inr (6, [.ref sa, .ref oa, .ref pa, .ref la, .ref za, .ref na, .int gu, .int gt, .int gw, .int gd, .int gm, .int gr, .int gh, .int gv]))]) hP hD [1, 2] [0] rfl rfl (by decide)).app ((hR0.kp hF hS.2.1).sub (ws' := [(sa, .inl (G.2 0, 830, .inl f))]) [0] rfl))
  refine go_ct hS hP hD [1, 2] [0] hF rfl rfl (by decide) (by decide)
      (va_runV (As := []) (rest := []) cf (mX4_loads l G m0 sa oa pa la za na gu gt gw gd gm gr gh gv f B lf zf (show MR f B from by first | assumption | omega) (show Inv B from by first | assumption | omega) H.size) (cwV 0 hts (lw_V q1795 q1797 qs34 q58 q1798) rfl rfl rfl (by decide +kernel) ⟨Nat.le_of_ble_eq_true rfl, Nat.le_of_ble_eq_true rfl⟩) (preV_of hKB hE hS hF (va_recv hK hP (ci := 6) (q0 := 0) rfl rfl) (va_P.sub hP [1, 2] rfl) ((va_D.sub hD [1, 2] (by decide) rfl).weaken (fun _ _ _ _ => trivial)) hro_358) rfl rfl hl.1 rfl (lv_room (Nat.le_of_ble_eq_true rfl)) dX4_formOn_1 ⟨show 0 + 0 ≤ 0 from by first | decide | omega, show 0 + 0 ≤ 0 from by first | decide | omega⟩)
      (fun u_ H locs hq hph (hP : va_P G.1 CL [(m0, .inr (6, [.ref sa, .ref oa, .ref pa, .ref la, .ref za, .ref na, .int gu, .int gt, .int gw, .int gd, .int gm, .int gr, .int gh, .int gv])), (la, .inl (G.2 0, 200, .inl (ldF B))), (za, .inl (G.2 0, 6, .inl u_))] H) (hD : va_D A [(m0, .inr (6, [.ref sa, .ref oa, .ref pa, .ref la, .ref za, .ref na, .int gu, .int gt, .int gw, .int gd, .int gm, .int gr, .int gh, .int gv])), (la, .inl (G.2 0, 200, .inl (ldF B))), (za, .inl (G.2 0, 6, .inl u_))]) hS hfz hfk => ?_)
  obtain ⟨zg_359, rfl⟩ : ∃ z, z = u_ := ⟨_, rfl⟩
  have hP : va_P G.1 CL [(m0, .inr (6, [.ref sa, .ref oa, .ref pa, .ref la, .ref za, .ref na, .int gu, .int gt, .int gw, .int gd, .int gm, .int gr, .int gh, .int gv])), (la, .inl (G.2 0, 200, .inl (ldF B))), (za, .inl (G.2 0, 6, .inl zg_359))] H := hP
  have hD : va_D A [(m0, .inr (6, [.ref sa, .ref oa, .ref pa, .ref la, .ref za, .ref na, .int gu, .int gt, .int gw, .int gd, .int gm, .int gr, .int gh, .int gv])), (la, .inl (G.2 0, 200, .inl (ldF B))), (za, .inl (G.2 0, 6, .inl zg_359))] := hD
  refine W.eq (g2 := F0 m 4 ls []) rfl ?_
  refine lv_aload_n hx hb dX4_formOn_4 rfl (lv_at hl 0 rfl) ?_
  refine lv_aload_n hx hb dX4_formOn_5 rfl (lv_at hl 0 rfl) ?_
  refine lv_iload_n hx hb dX4_formOn_6 rfl (lv_at hl 1 rfl) ?_
  have hF := hF_of (wc := []) hD hS hA [] rfl
  have hro_360 : va_P G.1 CL [(m0, .inr (6, [.ref sa, .ref oa, .ref pa, .ref la, .ref za, .ref na, .int gu, .int gt, .int gw, .int gd, .int gm, .int gr, .int gh, .int gv])), (sa, .inl (G.2 0, 830, .inl f))] H := ((va_P.sub hP [0] rfl).app ((hR0.w hS).sub [0] rfl))
  refine go_ct hS hP hD [] [0, 1, 2] hF rfl rfl (by decide) (by decide)
      (va_runV (As := [.int v]) (rest := [.ref m0]) cf (mX4_isNoDay l G m0 sa oa pa la za na gu gt gw gd gm gr gh gv f B v (show MR f B from by first | assumption | omega) (show Inv B from by first | assumption | omega) H.size) (cwV 1 hts (lw_V q1667 q1669 qs22 q58 q1670) rfl rfl rfl (by decide +kernel) ⟨Nat.le_of_ble_eq_true rfl, Nat.le_of_ble_eq_true rfl⟩) (preV_of hKB hE hS hF (va_recv hK hP (ci := 6) (q0 := 0) rfl rfl) (va_P.sub hP [] rfl) ((va_D.sub hD [] (by decide) rfl).weaken (fun _ _ _ _ => trivial)) (roW.nil hro_360)) rfl rfl hl.1 rfl (lv_room (Nat.le_of_ble_eq_true rfl)) dX4_formOn_7 ⟨show 0 + 0 ≤ 0 from by first | decide | omega, show 0 + 0 ≤ 0 from by first | decide | omega⟩)
      (fun u_ H locs hq hph (hP : va_P G.1 CL [(m0, .inr (6, [.ref sa, .ref oa, .ref pa, .ref la, .ref za, .ref na, .int gu, .int gt, .int gw, .int gd, .int gm, .int gr, .int gh, .int gv])), (la, .inl (G.2 0, 200, .inl (ldF B))), (za, .inl (G.2 0, 6, .inl zg_359))] H) (hD : va_D A [(m0, .inr (6, [.ref sa, .ref oa, .ref pa, .ref la, .ref za, .ref na, .int gu, .int gt, .int gw, .int gd, .int gm, .int gr, .int gh, .int gv])), (la, .inl (G.2 0, 200, .inl (ldF B))), (za, .inl (G.2 0, 6, .inl zg_359))]) hS hfz hfk => ?_)
  obtain ⟨b_361, rfl⟩ : ∃ z, z = u_ := ⟨_, rfl⟩
  have hP : va_P G.1 CL [(m0, .inr (6, [.ref sa, .ref oa, .ref pa, .ref la, .ref za, .ref na, .int gu, .int gt, .int gw, .int gd, .int gm, .int gr, .int gh, .int gv])), (la, .inl (G.2 0, 200, .inl (ldF B))), (za, .inl (G.2 0, 6, .inl zg_359))] H := hP
  have hD : va_D A [(m0, .inr (6, [.ref sa, .ref oa, .ref pa, .ref la, .ref za, .ref na, .int gu, .int gt, .int gw, .int gd, .int gm, .int gr, .int gh, .int gv])), (la, .inl (G.2 0, 200, .inl (ldF B))), (za, .inl (G.2 0, 6, .inl zg_359))] := hD
  have hq_362 : (b_361 = true ↔ ¬ (nI 0 ≤ v ∧ v ≤ nI (bD B))) := hq
  refine W.eq (g2 := F0 m 10 ls [.int (bI b_361), .ref m0]) rfl ?_
  cases b_361
  · refine lv_ton (n := 0) rfl ?_
    have hin_363 : nI 0 ≤ v ∧ v ≤ nI (bD B) := Classical.not_not.mp (fun z => absurd (hq_362.mpr z) (by decide))
    obtain ⟨d_364, hv_365, h_366, h_367⟩ := in_nat (lo := 0) (hi := bD B) (by omega) (by omega) hin_363.1 hin_363.2
    have hir_368 : inR v 0 (bD B) = some d_364 := inR_some hv_365 h_366 h_367 (by omega)
    have hl : lv_has ls 2 [(0, .ref m0), (1, .int (nI d_364))] := by
      have e9 : ((.int (nI d_364)) : Value) = .int v := by rw [hv_365]
      rw [e9]; exact hl
    refine lv_iconst (v := nI 1) hx hb dX4_formOn_10 (by decide) ?_
    have hF := hF_of (wc := [(m0, .inr (6, [.ref sa, .ref oa, .ref pa, .ref la, .ref za, .ref na, .int gu, .int gt, .int gw, .int gd, .int gm, .int gr, .int gh, .int gv]))]) hD hS hA [0] rfl
    refine go_ct hS hP hD [0] [1, 2] hF rfl rfl (by decide) (by decide)
        (va_runV (As := [.int (nI 0), .int (nI 1)]) (rest := []) cf (mX4_isThrown_f l G m0 sa oa pa la za na gu gt gw gd gm gr gh gv 1  H.size) (cwV 2 hts (lw_V q1650 q1652 qs20 q58 q1653) rfl rfl rfl (by decide +kernel) ⟨Nat.le_of_ble_eq_true rfl, Nat.le_of_ble_eq_true rfl⟩) (preV_of hKB hE hS hF (va_recv hK hP (ci := 6) (q0 := 0) rfl rfl) (va_P.sub hP [0] rfl) ((va_D.sub hD [0] (by decide) rfl).weaken (fun _ _ _ _ => trivial)) trivial) rfl rfl hl.1 rfl (lv_room (Nat.le_of_ble_eq_true rfl)) dX4_formOn_11 ⟨show 0 + 0 ≤ 0 from by first | decide | omega, show 0 + 0 ≤ 0 from by first | decide | omega⟩)
        (fun u_ H locs hq hph (hP : va_P G.1 CL [(la, .inl (G.2 0, 200, .inl (ldF B))), (za, .inl (G.2 0, 6, .inl zg_359)), (m0, .inr (6, [.ref sa, .ref oa, .ref pa, .ref la, .ref za, .ref na, .int gu, .int gt, .int gw, .int gd, .int gm, .int gr, .int (nI 0), .int gv]))] H) (hD : va_D A [(la, .inl (G.2 0, 200, .inl (ldF B))), (za, .inl (G.2 0, 6, .inl zg_359)), (m0, .inr (6, [.ref sa, .ref oa, .ref pa, .ref la, .ref za, .ref na, .int gu, .int gt, .int gw, .int gd, .int gm, .int gr, .int (nI 0), .int gv]))]) hS hfz hfk => ?_)
    refine W.eq (g2 := F0 m 14 ls [.int (nI 0)]) rfl ?_
    refine n_if_eq (tgt := 21) hx hb (by omega) dX4_formOn_14 (by decide) (fun c_369 => ?_) (fun c_369 => absurd c_369 (by omega))
    refine lv_aload_n hx hb dX4_formOn_21 rfl (lv_at hl 0 rfl) ?_
    refine lv_iload_n hx hb dX4_formOn_22 rfl (lv_at hl 1 rfl) ?_
    have hF := hF_of (wc := []) hD hS hA [] rfl
    have hro_370 : va_P G.1 CL [(m0, .inr (6, [.ref sa, .ref oa, .ref pa, .ref la, .ref za, .ref na, .int gu, .int gt, .int gw, .int gd, .int gm, .int gr, .int (nI 0), .int gv])), (la, .inl (G.2 0, 200, .inl (ldF B)))] H := (va_P.sub hP [2, 0] rfl)
    refine go_ct hS hP hD [] [0, 1, 2] hF rfl rfl (by decide) (by decide)
        (va_runV (As := [.int (nI d_364)]) (rest := []) cf (mX4_form l G m0 sa oa pa la za na gu gt gw gd gm gr (nI 0) gv B d_364 (show Inv B from by first | assumption | omega) (show d_364 ≤ 1000 from by first | assumption | omega) H.size) (cwV 1 hts (lw_V q1833 q1835 qs36 q58 q1836) rfl rfl rfl (by decide +kernel) ⟨Nat.le_of_ble_eq_true rfl, Nat.le_of_ble_eq_true rfl⟩) (preV_of hKB hE hS hF (va_recv hK hP (ci := 6) (q0 := 2) rfl rfl) (va_P.sub hP [] rfl) ((va_D.sub hD [] (by decide) rfl).weaken (fun _ _ _ _ => trivial)) (roW.nil hro_370)) rfl rfl hl.1 rfl (lv_room (Nat.le_of_ble_eq_true rfl)) dX4_formOn_23 ⟨show 0 + 0 ≤ 0 from by first | decide | omega, show 0 + 0 ≤ 0 from by first | decide | omega⟩)
        (fun u_ H locs hq hph (hP : va_P G.1 CL [(la, .inl (G.2 0, 200, .inl (ldF B))), (za, .inl (G.2 0, 6, .inl zg_359)), (m0, .inr (6, [.ref sa, .ref oa, .ref pa, .ref la, .ref za, .ref na, .int gu, .int gt, .int gw, .int gd, .int gm, .int gr, .int (nI 0), .int gv]))] H) (hD : va_D A [(la, .inl (G.2 0, 200, .inl (ldF B))), (za, .inl (G.2 0, 6, .inl zg_359)), (m0, .inr (6, [.ref sa, .ref oa, .ref pa, .ref la, .ref za, .ref na, .int gu, .int gt, .int gw, .int gd, .int gm, .int gr, .int (nI 0), .int gv]))]) hS hfz hfk => ?_)
    refine W.eq (g2 := F0 m 26 ls [.int (formS B d_364)]) rfl ?_
    have hq9 : q_form B v = (0, formS B d_364) := by unfold q_form q1; rw [hir_368] <;> rfl
    have hP : va_P G.1 CL [(la, .inl (G.2 0, 200, .inl (ldF B))), (za, .inl (G.2 0, 6, .inl zg_359)), (m0, .inr (6, [.ref sa, .ref oa, .ref pa, .ref la, .ref za, .ref na, .int gu, .int gt, .int gw, .int gd, .int gm, .int gr, .int (nI ((q_form B v).1)), .int gv]))] H := by rw [hq9]; exact hP
    have hD : va_D A [(la, .inl (G.2 0, 200, .inl (ldF B))), (za, .inl (G.2 0, 6, .inl zg_359)), (m0, .inr (6, [.ref sa, .ref oa, .ref pa, .ref la, .ref za, .ref na, .int gu, .int gt, .int gw, .int gd, .int gm, .int gr, .int (nI ((q_form B v).1)), .int gv]))] := by rw [hq9]; exact hD
    have hP9 : va_P G.1 CL [(m0, .inr (6, [.ref sa, .ref oa, .ref pa, .ref la, .ref za, .ref na, .int gu, .int gt, .int gw, .int gd, .int gm, .int gr, .int (nI ((q_form B v).1)), .int gv])), (la, .inl (G.2 0, 200, .inl (ldF B))), (za, .inl (G.2 0, 6, .inl zg_359))] H := hP.sub [2, 0, 1] rfl
    have hD9 : va_D A [(m0, .inr (6, [.ref sa, .ref oa, .ref pa, .ref la, .ref za, .ref na, .int gu, .int gt, .int gw, .int gd, .int gm, .int gr, .int (nI ((q_form B v).1)), .int gv])), (la, .inl (G.2 0, 200, .inl (ldF B))), (za, .inl (G.2 0, 6, .inl zg_359))] := hD.sub [2, 0, 1] (by decide) rfl
    exact end_i hx hb hr hlk (rfl) (qc_of ⟨formS B d_364, ldF B, zg_359, gd, gm, gr⟩ (v := some (.int (formS B d_364))) (by rfl) (fun _ => by rw [hq9]) hP9 hD9 (trivial) hS) hS dX4_formOn_26 (show 0 ≤ 0 from by first | exact Nat.le_refl _ | decide | omega) (show 0 ≤ 0 from by first | exact Nat.le_refl _ | decide | omega)
  · refine lv_ton (n := 1) rfl ?_
    have hir_371 : inR v 0 (bD B) = none := inR_none (fun z => absurd z (hq_362.mp rfl))
    refine lv_iconst (v := nI 1) hx hb dX4_formOn_10 (by decide) ?_
    have hF := hF_of (wc := [(m0, .inr (6, [.ref sa, .ref oa, .ref pa, .ref la, .ref za, .ref na, .int gu, .int gt, .int gw, .int gd, .int gm, .int gr, .int gh, .int gv]))]) hD hS hA [0] rfl
    refine go_ct hS hP hD [0] [1, 2] hF rfl rfl (by decide) (by decide)
        (va_runV (As := [.int (nI 1), .int (nI 1)]) (rest := []) cf (mX4_isThrown_t l G m0 sa oa pa la za na gu gt gw gd gm gr gh gv 1  H.size) (cwV 2 hts (lw_V q1650 q1652 qs20 q58 q1653) rfl rfl rfl (by decide +kernel) ⟨Nat.le_of_ble_eq_true rfl, Nat.le_of_ble_eq_true rfl⟩) (preV_of hKB hE hS hF (va_recv hK hP (ci := 6) (q0 := 0) rfl rfl) (va_P.sub hP [0] rfl) ((va_D.sub hD [0] (by decide) rfl).weaken (fun _ _ _ _ => trivial)) trivial) rfl rfl hl.1 rfl (lv_room (Nat.le_of_ble_eq_true rfl)) dX4_formOn_11 ⟨show 0 + 0 ≤ 0 from by first | decide | omega, show 0 + 0 ≤ 0 from by first | decide | omega⟩)
        (fun u_ H locs hq hph (hP : va_P G.1 CL [(la, .inl (G.2 0, 200, .inl (ldF B))), (za, .inl (G.2 0, 6, .inl zg_359)), (m0, .inr (6, [.ref sa, .ref oa, .ref pa, .ref la, .ref za, .ref na, .int gu, .int gt, .int gw, .int gd, .int gm, .int gr, .int (nI 1), .int gv]))] H) (hD : va_D A [(la, .inl (G.2 0, 200, .inl (ldF B))), (za, .inl (G.2 0, 6, .inl zg_359)), (m0, .inr (6, [.ref sa, .ref oa, .ref pa, .ref la, .ref za, .ref na, .int gu, .int gt, .int gw, .int gd, .int gm, .int gr, .int (nI 1), .int gv]))]) hS hfz hfk => ?_)
    refine W.eq (g2 := F0 m 14 ls [.int (nI 1)]) rfl ?_
    refine n_if_eq (tgt := 21) hx hb (by omega) dX4_formOn_14 (by decide) (fun c_372 => absurd c_372 (by omega)) (fun c_372 => ?_)
    refine lv_iconst (v := nI 0) hx hb dX4_formOn_17 (by decide) ?_
    refine lv_goto (tgt := 26) hx hb dX4_formOn_18 (by decide) ?_
    have hq9 : q_form B v = (1, 0) := by unfold q_form q1; rw [hir_371] <;> rfl
    have hP : va_P G.1 CL [(la, .inl (G.2 0, 200, .inl (ldF B))), (za, .inl (G.2 0, 6, .inl zg_359)), (m0, .inr (6, [.ref sa, .ref oa, .ref pa, .ref la, .ref za, .ref na, .int gu, .int gt, .int gw, .int gd, .int gm, .int gr, .int (nI ((q_form B v).1)), .int gv]))] H := by rw [hq9]; exact hP
    have hD : va_D A [(la, .inl (G.2 0, 200, .inl (ldF B))), (za, .inl (G.2 0, 6, .inl zg_359)), (m0, .inr (6, [.ref sa, .ref oa, .ref pa, .ref la, .ref za, .ref na, .int gu, .int gt, .int gw, .int gd, .int gm, .int gr, .int (nI ((q_form B v).1)), .int gv]))] := by rw [hq9]; exact hD
    have hP9 : va_P G.1 CL [(m0, .inr (6, [.ref sa, .ref oa, .ref pa, .ref la, .ref za, .ref na, .int gu, .int gt, .int gw, .int gd, .int gm, .int gr, .int (nI ((q_form B v).1)), .int gv])), (la, .inl (G.2 0, 200, .inl (ldF B))), (za, .inl (G.2 0, 6, .inl zg_359))] H := hP.sub [2, 0, 1] rfl
    have hD9 : va_D A [(m0, .inr (6, [.ref sa, .ref oa, .ref pa, .ref la, .ref za, .ref na, .int gu, .int gt, .int gw, .int gd, .int gm, .int gr, .int (nI ((q_form B v).1)), .int gv])), (la, .inl (G.2 0, 200, .inl (ldF B))), (za, .inl (G.2 0, 6, .inl zg_359))] := hD.sub [2, 0, 1] (by decide) rfl
    exact end_i hx hb hr hlk (rfl) (qc_of ⟨nI 0, ldF B, zg_359, gd, gm, gr⟩ (v := some (.int (nI 0))) (by rfl) (fun h => by rw [hq9] at h; exact absurd h (by decide)) hP9 hD9 (trivial) hS) hS dX4_formOn_26 (show 0 ≤ 0 from by first | exact Nat.le_refl _ | decide | omega) (show 0 ≤ 0 from by first | exact Nat.le_refl _ | decide | omega)

set_option maxHeartbeats 4000000 in
theorem mX4_fitnessFromStart (l : Launch) (G : Gt) (m0 : Nat) (sa : Nat) (oa : Nat) (pa : Nat) (la : Nat) (za : Nat) (na : Nat) (gu : Int32) (gt : Int32) (gw : Int32) (gd : Int32) (gm : Int32) (gr : Int32) (gh : Int32) (gv : Int32) (f : Nat → Int32) (B : Bk) (lf : Nat → Int32) (zf : Nat → Int32) (v : Int32) (hM : MR f B) (hI : Inv B) : CT l G yX4_fitnessFromStart cX4_fitnessFromStart 2 (some .int) ({ frames := 7, cells := 0, slots := 0, locals := 148 } : Room) [.ref m0, .int v] [(m0, .inr (6, [.ref sa, .ref oa, .ref pa, .ref la, .ref za, .ref na, .int gu, .int gt, .int gw, .int gd, .int gm, .int gr, .int gh, .int gv])), (la, .inl (G.2 0, 200, .inl lf)), (za, .inl (G.2 0, 6, .inl zf))] (fun (A : Nat → Prop) (H : Heap) => roW G A H [(sa, .inl (G.2 0, 830, .inl f))]) (S := Int32 × (Nat → Int32) × (Nat → Int32) × Int32 × Int32 × Int32) (fun (u_ : Int32 × (Nat → Int32) × (Nat → Int32) × Int32 × Int32 × Int32) => some (.int u_.1)) (fun (u_ : Int32 × (Nat → Int32) × (Nat → Int32) × Int32 × Int32 × Int32) => ((q_fit B v).1 = 0 → u_.1 = (q_fit B v).2)) (fun (u_ : Int32 × (Nat → Int32) × (Nat → Int32) × Int32 × Int32 × Int32) => [(m0, .inr (6, [.ref sa, .ref oa, .ref pa, .ref la, .ref za, .ref na, .int gu, .int gt, .int gw, .int u_.2.2.2.1, .int u_.2.2.2.2.1, .int u_.2.2.2.2.2, .int (nI ((q_fit B v).1)), .int gv])), (la, .inl (G.2 0, 200, .inl u_.2.1)), (za, .inl (G.2 0, 6, .inl u_.2.2.1))]) (fun (u_ : Int32 × (Nat → Int32) × (Nat → Int32) × Int32 × Int32 × Int32) (H : Heap) => True) := by
  refine CT.of (by decide) (Nat.le_of_ble_eq_true rfl) ?_
  intro p e s m below meth c ls A H locs h9 hH0 hP hS
  obtain ⟨cf, hr, hlk, hnm, hKB, hE, -, hD, -, hA, hAw, hR0, hl⟩ := h9
  have hx := cf.1
  have hb := cf.2.1
  have hml := cf.2.2.1
  have hown : s.vm.findClass RX4 = some m.cls := cf.2.2.2.1
  have hts := cf.2.2.2.2
  have hK := hKB.1
  have hl : lv_has ls 2 [(0, .ref m0), (1, .int v)] := hl
  have iN := iv_sN hI
  have iT := iv_tN hI
  have iD := iv_bD hI
  have iE := iv_bE hI
  have iW := iv_id hI
  refine lv_aload_n hx hb dX4_fitnessFromStart_0 rfl (lv_at hl 0 rfl) ?_
  refine lv_iload_n hx hb dX4_fitnessFromStart_1 rfl (lv_at hl 1 rfl) ?_
  have hF := hF_of (wc := [(m0, .inr (6, [.ref sa, .ref oa, .ref pa, .ref la, .ref za, .ref na, .int gu, .int gt, .int gw, .int gd, .int gm, .int gr, .int gh, .int gv])), (la, .inl (G.2 0, 200, .inl lf)), (za, .inl (G.2 0, 6, .inl zf))]) hD hS hA [0, 1, 2] rfl
  have hro_373 : roW G (va_A [(m0, .inr (6, [.ref sa, .ref oa, .ref pa, .ref la, .ref za, .ref na, .int gu, .int gt, .int gw, .int gd, .int gm, .int gr, .int gh, .int gv])), (la, .inl (G.2 0, 200, .inl lf)), (za, .inl (G.2 0, 6, .inl zf))] H.size) H [(sa, .inl (G.2 0, 830, .inl f))] := ((hR0.kp hF hS.2.1).sub (ws' := [(sa, .inl (G.2 0, 830, .inl f))]) [0] rfl)
  refine go_ct hS hP hD [0, 1, 2] [] hF rfl rfl (by decide) (by decide)
      (va_runV (As := [.int v]) (rest := []) cf (mX4_fitnessOn l G m0 sa oa pa la za na gu gt gw gd gm gr gh gv f B lf zf v (show MR f B from by first | assumption | omega) (show Inv B from by first | assumption | omega) H.size) (cwV 1 hts (lw_V q1819 q1808 q1809 q58 q1810) rfl rfl rfl (by decide +kernel) ⟨Nat.le_of_ble_eq_true rfl, Nat.le_of_ble_eq_true rfl⟩) (preV_of hKB hE hS hF (va_recv hK hP (ci := 6) (q0 := 0) rfl rfl) (va_P.sub hP [0, 1, 2] rfl) ((va_D.sub hD [0, 1, 2] (by decide) rfl).weaken (fun _ _ _ _ => trivial)) hro_373) rfl rfl hl.1 rfl (lv_room (Nat.le_of_ble_eq_true rfl)) dX4_fitnessFromStart_2 ⟨show 0 + 0 ≤ 0 from by first | decide | omega, show 0 + 0 ≤ 0 from by first | decide | omega⟩)
      (fun u_ H locs hq hph (hP : va_P G.1 CL [(m0, .inr (6, [.ref sa, .ref oa, .ref pa, .ref la, .ref za, .ref na, .int gu, .int gt, .int gw, .int u_.2.2.2.1, .int u_.2.2.2.2.1, .int u_.2.2.2.2.2, .int (nI ((q_fit B v).1)), .int gv])), (la, .inl (G.2 0, 200, .inl u_.2.1)), (za, .inl (G.2 0, 6, .inl u_.2.2.1))] H) (hD : va_D A [(m0, .inr (6, [.ref sa, .ref oa, .ref pa, .ref la, .ref za, .ref na, .int gu, .int gt, .int gw, .int u_.2.2.2.1, .int u_.2.2.2.2.1, .int u_.2.2.2.2.2, .int (nI ((q_fit B v).1)), .int gv])), (la, .inl (G.2 0, 200, .inl u_.2.1)), (za, .inl (G.2 0, 6, .inl u_.2.2.1))]) hS hfz hfk => ?_)
  obtain ⟨rr_374, lf2_375, zf2_376, gd2_377, gm2_378, gr2_379⟩ := u_
  have hP : va_P G.1 CL [(m0, .inr (6, [.ref sa, .ref oa, .ref pa, .ref la, .ref za, .ref na, .int gu, .int gt, .int gw, .int gd2_377, .int gm2_378, .int gr2_379, .int (nI ((q_fit B v).1)), .int gv])), (la, .inl (G.2 0, 200, .inl lf2_375)), (za, .inl (G.2 0, 6, .inl zf2_376))] H := hP
  have hD : va_D A [(m0, .inr (6, [.ref sa, .ref oa, .ref pa, .ref la, .ref za, .ref na, .int gu, .int gt, .int gw, .int gd2_377, .int gm2_378, .int gr2_379, .int (nI ((q_fit B v).1)), .int gv])), (la, .inl (G.2 0, 200, .inl lf2_375)), (za, .inl (G.2 0, 6, .inl zf2_376))] := hD
  have hq_380 : ((q_fit B v).1 = 0 → rr_374 = (q_fit B v).2) := hq
  refine W.eq (g2 := F0 m 5 ls [.int rr_374]) rfl ?_
  have hP9 : va_P G.1 CL [(m0, .inr (6, [.ref sa, .ref oa, .ref pa, .ref la, .ref za, .ref na, .int gu, .int gt, .int gw, .int gd2_377, .int gm2_378, .int gr2_379, .int (nI ((q_fit B v).1)), .int gv])), (la, .inl (G.2 0, 200, .inl lf2_375)), (za, .inl (G.2 0, 6, .inl zf2_376))] H := hP.sub [0, 1, 2] rfl
  have hD9 : va_D A [(m0, .inr (6, [.ref sa, .ref oa, .ref pa, .ref la, .ref za, .ref na, .int gu, .int gt, .int gw, .int gd2_377, .int gm2_378, .int gr2_379, .int (nI ((q_fit B v).1)), .int gv])), (la, .inl (G.2 0, 200, .inl lf2_375)), (za, .inl (G.2 0, 6, .inl zf2_376))] := hD.sub [0, 1, 2] (by decide) rfl
  exact end_i hx hb hr hlk (rfl) (qc_of ⟨rr_374, lf2_375, zf2_376, gd2_377, gm2_378, gr2_379⟩ (v := some (.int rr_374)) (by rfl) (hq_380) hP9 hD9 (trivial) hS) hS dX4_fitnessFromStart_5 (show 0 ≤ 0 from by first | exact Nat.le_refl _ | decide | omega) (show 0 ≤ 0 from by first | exact Nat.le_refl _ | decide | omega)

set_option maxHeartbeats 4000000 in
theorem mX4_fatigueFromStart (l : Launch) (G : Gt) (m0 : Nat) (sa : Nat) (oa : Nat) (pa : Nat) (la : Nat) (za : Nat) (na : Nat) (gu : Int32) (gt : Int32) (gw : Int32) (gd : Int32) (gm : Int32) (gr : Int32) (gh : Int32) (gv : Int32) (f : Nat → Int32) (B : Bk) (lf : Nat → Int32) (zf : Nat → Int32) (v : Int32) (hM : MR f B) (hI : Inv B) : CT l G yX4_fatigueFromStart cX4_fatigueFromStart 2 (some .int) ({ frames := 7, cells := 0, slots := 0, locals := 148 } : Room) [.ref m0, .int v] [(m0, .inr (6, [.ref sa, .ref oa, .ref pa, .ref la, .ref za, .ref na, .int gu, .int gt, .int gw, .int gd, .int gm, .int gr, .int gh, .int gv])), (la, .inl (G.2 0, 200, .inl lf)), (za, .inl (G.2 0, 6, .inl zf))] (fun (A : Nat → Prop) (H : Heap) => roW G A H [(sa, .inl (G.2 0, 830, .inl f))]) (S := Int32 × (Nat → Int32) × (Nat → Int32) × Int32 × Int32 × Int32) (fun (u_ : Int32 × (Nat → Int32) × (Nat → Int32) × Int32 × Int32 × Int32) => some (.int u_.1)) (fun (u_ : Int32 × (Nat → Int32) × (Nat → Int32) × Int32 × Int32 × Int32) => ((q_fat B v).1 = 0 → u_.1 = (q_fat B v).2)) (fun (u_ : Int32 × (Nat → Int32) × (Nat → Int32) × Int32 × Int32 × Int32) => [(m0, .inr (6, [.ref sa, .ref oa, .ref pa, .ref la, .ref za, .ref na, .int gu, .int gt, .int gw, .int u_.2.2.2.1, .int u_.2.2.2.2.1, .int u_.2.2.2.2.2, .int (nI ((q_fat B v).1)), .int gv])), (la, .inl (G.2 0, 200, .inl u_.2.1)), (za, .inl (G.2 0, 6, .inl u_.2.2.1))]) (fun (u_ : Int32 × (Nat → Int32) × (Nat → Int32) × Int32 × Int32 × Int32) (H : Heap) => True) := by
  refine CT.of (by decide) (Nat.le_of_ble_eq_true rfl) ?_
  intro p e s m below meth c ls A H locs h9 hH0 hP hS
  obtain ⟨cf, hr, hlk, hnm, hKB, hE, -, hD, -, hA, hAw, hR0, hl⟩ := h9
  have hx := cf.1
  have hb := cf.2.1
  have hml := cf.2.2.1
  have hown : s.vm.findClass RX4 = some m.cls := cf.2.2.2.1
  have hts := cf.2.2.2.2
  have hK := hKB.1
  have hl : lv_has ls 2 [(0, .ref m0), (1, .int v)] := hl
  have iN := iv_sN hI
  have iT := iv_tN hI
  have iD := iv_bD hI
  have iE := iv_bE hI
  have iW := iv_id hI
  refine lv_aload_n hx hb dX4_fatigueFromStart_0 rfl (lv_at hl 0 rfl) ?_
  refine lv_iload_n hx hb dX4_fatigueFromStart_1 rfl (lv_at hl 1 rfl) ?_
  have hF := hF_of (wc := [(m0, .inr (6, [.ref sa, .ref oa, .ref pa, .ref la, .ref za, .ref na, .int gu, .int gt, .int gw, .int gd, .int gm, .int gr, .int gh, .int gv])), (la, .inl (G.2 0, 200, .inl lf)), (za, .inl (G.2 0, 6, .inl zf))]) hD hS hA [0, 1, 2] rfl
  have hro_381 : roW G (va_A [(m0, .inr (6, [.ref sa, .ref oa, .ref pa, .ref la, .ref za, .ref na, .int gu, .int gt, .int gw, .int gd, .int gm, .int gr, .int gh, .int gv])), (la, .inl (G.2 0, 200, .inl lf)), (za, .inl (G.2 0, 6, .inl zf))] H.size) H [(sa, .inl (G.2 0, 830, .inl f))] := ((hR0.kp hF hS.2.1).sub (ws' := [(sa, .inl (G.2 0, 830, .inl f))]) [0] rfl)
  refine go_ct hS hP hD [0, 1, 2] [] hF rfl rfl (by decide) (by decide)
      (va_runV (As := [.int v]) (rest := []) cf (mX4_fatigueOn l G m0 sa oa pa la za na gu gt gw gd gm gr gh gv f B lf zf v (show MR f B from by first | assumption | omega) (show Inv B from by first | assumption | omega) H.size) (cwV 1 hts (lw_V q1828 q1821 q1822 q58 q1823) rfl rfl rfl (by decide +kernel) ⟨Nat.le_of_ble_eq_true rfl, Nat.le_of_ble_eq_true rfl⟩) (preV_of hKB hE hS hF (va_recv hK hP (ci := 6) (q0 := 0) rfl rfl) (va_P.sub hP [0, 1, 2] rfl) ((va_D.sub hD [0, 1, 2] (by decide) rfl).weaken (fun _ _ _ _ => trivial)) hro_381) rfl rfl hl.1 rfl (lv_room (Nat.le_of_ble_eq_true rfl)) dX4_fatigueFromStart_2 ⟨show 0 + 0 ≤ 0 from by first | decide | omega, show 0 + 0 ≤ 0 from by first | decide | omega⟩)
      (fun u_ H locs hq hph (hP : va_P G.1 CL [(m0, .inr (6, [.ref sa, .ref oa, .ref pa, .ref la, .ref za, .ref na, .int gu, .int gt, .int gw, .int u_.2.2.2.1, .int u_.2.2.2.2.1, .int u_.2.2.2.2.2, .int (nI ((q_fat B v).1)), .int gv])), (la, .inl (G.2 0, 200, .inl u_.2.1)), (za, .inl (G.2 0, 6, .inl u_.2.2.1))] H) (hD : va_D A [(m0, .inr (6, [.ref sa, .ref oa, .ref pa, .ref la, .ref za, .ref na, .int gu, .int gt, .int gw, .int u_.2.2.2.1, .int u_.2.2.2.2.1, .int u_.2.2.2.2.2, .int (nI ((q_fat B v).1)), .int gv])), (la, .inl (G.2 0, 200, .inl u_.2.1)), (za, .inl (G.2 0, 6, .inl u_.2.2.1))]) hS hfz hfk => ?_)
  obtain ⟨rr_382, lf2_383, zf2_384, gd2_385, gm2_386, gr2_387⟩ := u_
  have hP : va_P G.1 CL [(m0, .inr (6, [.ref sa, .ref oa, .ref pa, .ref la, .ref za, .ref na, .int gu, .int gt, .int gw, .int gd2_385, .int gm2_386, .int gr2_387, .int (nI ((q_fat B v).1)), .int gv])), (la, .inl (G.2 0, 200, .inl lf2_383)), (za, .inl (G.2 0, 6, .inl zf2_384))] H := hP
  have hD : va_D A [(m0, .inr (6, [.ref sa, .ref oa, .ref pa, .ref la, .ref za, .ref na, .int gu, .int gt, .int gw, .int gd2_385, .int gm2_386, .int gr2_387, .int (nI ((q_fat B v).1)), .int gv])), (la, .inl (G.2 0, 200, .inl lf2_383)), (za, .inl (G.2 0, 6, .inl zf2_384))] := hD
  have hq_388 : ((q_fat B v).1 = 0 → rr_382 = (q_fat B v).2) := hq
  refine W.eq (g2 := F0 m 5 ls [.int rr_382]) rfl ?_
  have hP9 : va_P G.1 CL [(m0, .inr (6, [.ref sa, .ref oa, .ref pa, .ref la, .ref za, .ref na, .int gu, .int gt, .int gw, .int gd2_385, .int gm2_386, .int gr2_387, .int (nI ((q_fat B v).1)), .int gv])), (la, .inl (G.2 0, 200, .inl lf2_383)), (za, .inl (G.2 0, 6, .inl zf2_384))] H := hP.sub [0, 1, 2] rfl
  have hD9 : va_D A [(m0, .inr (6, [.ref sa, .ref oa, .ref pa, .ref la, .ref za, .ref na, .int gu, .int gt, .int gw, .int gd2_385, .int gm2_386, .int gr2_387, .int (nI ((q_fat B v).1)), .int gv])), (la, .inl (G.2 0, 200, .inl lf2_383)), (za, .inl (G.2 0, 6, .inl zf2_384))] := hD.sub [0, 1, 2] (by decide) rfl
  exact end_i hx hb hr hlk (rfl) (qc_of ⟨rr_382, lf2_383, zf2_384, gd2_385, gm2_386, gr2_387⟩ (v := some (.int rr_382)) (by rfl) (hq_388) hP9 hD9 (trivial) hS) hS dX4_fatigueFromStart_5 (show 0 ≤ 0 from by first | exact Nat.le_refl _ | decide | omega) (show 0 ≤ 0 from by first | exact Nat.le_refl _ | decide | omega)

set_option maxHeartbeats 4000000 in
theorem mX4_bestFormDay (l : Launch) (G : Gt) (m0 : Nat) (sa : Nat) (oa : Nat) (pa : Nat) (la : Nat) (za : Nat) (na : Nat) (gu : Int32) (gt : Int32) (gw : Int32) (gd : Int32) (gm : Int32) (gr : Int32) (gh : Int32) (gv : Int32) (f : Nat → Int32) (B : Bk) (lf : Nat → Int32) (zf : Nat → Int32) (hM : MR f B) (hI : Inv B) : CT l G yX4_bestFormDay cX4_bestFormDay 3 (some .int) ({ frames := 6, cells := 0, slots := 0, locals := 127 } : Room) [.ref m0] [(m0, .inr (6, [.ref sa, .ref oa, .ref pa, .ref la, .ref za, .ref na, .int gu, .int gt, .int gw, .int gd, .int gm, .int gr, .int gh, .int gv])), (la, .inl (G.2 0, 200, .inl lf)), (za, .inl (G.2 0, 6, .inl zf))] (fun (A : Nat → Prop) (H : Heap) => roW G A H [(sa, .inl (G.2 0, 830, .inl f))]) (S := Int32 × (Nat → Int32) × (Nat → Int32) × Int32 × Int32 × Int32) (fun (u_ : Int32 × (Nat → Int32) × (Nat → Int32) × Int32 × Int32 × Int32) => some (.int u_.1)) (fun (u_ : Int32 × (Nat → Int32) × (Nat → Int32) × Int32 × Int32 × Int32) => ((q_bestForm B).1 = 0 → u_.1 = (q_bestForm B).2)) (fun (u_ : Int32 × (Nat → Int32) × (Nat → Int32) × Int32 × Int32 × Int32) => [(m0, .inr (6, [.ref sa, .ref oa, .ref pa, .ref la, .ref za, .ref na, .int gu, .int gt, .int gw, .int u_.2.2.2.1, .int u_.2.2.2.2.1, .int u_.2.2.2.2.2, .int (nI ((q_bestForm B).1)), .int gv])), (la, .inl (G.2 0, 200, .inl u_.2.1)), (za, .inl (G.2 0, 6, .inl u_.2.2.1))]) (fun (u_ : Int32 × (Nat → Int32) × (Nat → Int32) × Int32 × Int32 × Int32) (H : Heap) => True) := by
  refine CT.of (by decide) (Nat.le_of_ble_eq_true rfl) ?_
  intro p e s m below meth c ls A H locs h9 hH0 hP hS
  obtain ⟨cf, hr, hlk, hnm, hKB, hE, -, hD, -, hA, hAw, hR0, hl⟩ := h9
  have hx := cf.1
  have hb := cf.2.1
  have hml := cf.2.2.1
  have hown : s.vm.findClass RX4 = some m.cls := cf.2.2.2.1
  have hts := cf.2.2.2.2
  have hK := hKB.1
  have hl : lv_has ls 3 [(0, .ref m0)] := hl
  have iN := iv_sN hI
  have iT := iv_tN hI
  have iD := iv_bD hI
  have iE := iv_bE hI
  have iW := iv_id hI
  refine lv_aload_n hx hb dX4_bestFormDay_0 rfl (lv_at hl 0 rfl) ?_
  refine lv_iconst (v := nI 0) hx hb dX4_bestFormDay_1 (by decide) ?_
  refine va_put (v := .int (nI 0)) (ty := .int) hx hb hts in_X4 tyX4 tyX4_ok nmX4 hown hK hP hD hS 0 rfl rfl 12 (by decide) (hts _ q1608) (fun _ h => h) rfl (by decide +kernel) rfl rfl (Nat.le_of_ble_eq_true rfl) dX4_bestFormDay_2 (fun H locs (hP : va_P G.1 CL [(m0, .inr (6, [.ref sa, .ref oa, .ref pa, .ref la, .ref za, .ref na, .int gu, .int gt, .int gw, .int gd, .int gm, .int gr, .int (nI 0), .int gv])), (la, .inl (G.2 0, 200, .inl lf)), (za, .inl (G.2 0, 6, .inl zf))] H) (hD : va_D A [(m0, .inr (6, [.ref sa, .ref oa, .ref pa, .ref la, .ref za, .ref na, .int gu, .int gt, .int gw, .int gd, .int gm, .int gr, .int (nI 0), .int gv])), (la, .inl (G.2 0, 200, .inl lf)), (za, .inl (G.2 0, 6, .inl zf))]) hS => ?_)
  refine lv_aload_n hx hb dX4_bestFormDay_5 rfl (lv_at hl 0 rfl) ?_
  have hF := hF_of (wc := [(la, .inl (G.2 0, 200, .inl lf)), (za, .inl (G.2 0, 6, .inl zf))]) hD hS hA [1, 2] rfl
  have hro_389 : roW G (va_A [(la, .inl (G.2 0, 200, .inl lf)), (za, .inl (G.2 0, 6, .inl zf))] H.size) H [(m0, .inr (6, [.ref sa, .ref oa, .ref pa, .ref la, .ref za, .ref na, .int gu, .int gt, .int gw, .int gd, .int gm, .int gr, .int (nI 0), .int gv])), (sa, .inl (G.2 0, 830, .inl f))] := ((roW.of (w' := [(m0, .inr (6, [.ref sa, .ref oa, .ref pa, .ref la, .ref za, .ref na, .int gu, .int gt, .int gw, .int gd, .int gm, .int gr, .int (nI 0), .int gv]))]) hP hD [1, 2] [0] rfl rfl (by decide)).app ((hR0.kp hF hS.2.1).sub (ws' := [(sa, .inl (G.2 0, 830, .inl f))]) [0] rfl))
  refine go_ct hS hP hD [1, 2] [0] hF rfl rfl (by decide) (by decide)
      (va_runV (As := []) (rest := []) cf (mX4_loads l G m0 sa oa pa la za na gu gt gw gd gm gr (nI 0) gv f B lf zf (show MR f B from by first | assumption | omega) (show Inv B from by first | assumption | omega) H.size) (cwV 0 hts (lw_V q1795 q1797 qs34 q58 q1798) rfl rfl rfl (by decide +kernel) ⟨Nat.le_of_ble_eq_true rfl, Nat.le_of_ble_eq_true rfl⟩) (preV_of hKB hE hS hF (va_recv hK hP (ci := 6) (q0 := 0) rfl rfl) (va_P.sub hP [1, 2] rfl) ((va_D.sub hD [1, 2] (by decide) rfl).weaken (fun _ _ _ _ => trivial)) hro_389) rfl rfl hl.1 rfl (lv_room (Nat.le_of_ble_eq_true rfl)) dX4_bestFormDay_6 ⟨show 0 + 0 ≤ 0 from by first | decide | omega, show 0 + 0 ≤ 0 from by first | decide | omega⟩)
      (fun u_ H locs hq hph (hP : va_P G.1 CL [(m0, .inr (6, [.ref sa, .ref oa, .ref pa, .ref la, .ref za, .ref na, .int gu, .int gt, .int gw, .int gd, .int gm, .int gr, .int (nI 0), .int gv])), (la, .inl (G.2 0, 200, .inl (ldF B))), (za, .inl (G.2 0, 6, .inl u_))] H) (hD : va_D A [(m0, .inr (6, [.ref sa, .ref oa, .ref pa, .ref la, .ref za, .ref na, .int gu, .int gt, .int gw, .int gd, .int gm, .int gr, .int (nI 0), .int gv])), (la, .inl (G.2 0, 200, .inl (ldF B))), (za, .inl (G.2 0, 6, .inl u_))]) hS hfz hfk => ?_)
  obtain ⟨zg_390, rfl⟩ : ∃ z, z = u_ := ⟨_, rfl⟩
  have hP : va_P G.1 CL [(m0, .inr (6, [.ref sa, .ref oa, .ref pa, .ref la, .ref za, .ref na, .int gu, .int gt, .int gw, .int gd, .int gm, .int gr, .int (nI 0), .int gv])), (la, .inl (G.2 0, 200, .inl (ldF B))), (za, .inl (G.2 0, 6, .inl zg_390))] H := hP
  have hD : va_D A [(m0, .inr (6, [.ref sa, .ref oa, .ref pa, .ref la, .ref za, .ref na, .int gu, .int gt, .int gw, .int gd, .int gm, .int gr, .int (nI 0), .int gv])), (la, .inl (G.2 0, 200, .inl (ldF B))), (za, .inl (G.2 0, 6, .inl zg_390))] := hD
  refine W.eq (g2 := F0 m 9 ls []) rfl ?_
  refine lv_iconst (v := nI 0) hx hb dX4_bestFormDay_9 (by decide) ?_
  refine lv_istore_n (lv' := [(1, .int (nI 0)), (0, .ref m0)]) hx hb dX4_bestFormDay_10 rfl hl (by decide) rfl (fun ls hl => ?_)
  refine lv_iconst (v := nI 1) hx hb dX4_bestFormDay_11 (by decide) ?_
  refine lv_istore_n (lv' := [(2, .int (nI 1)), (1, .int (nI 0)), (0, .ref m0)]) hx hb dX4_bestFormDay_12 rfl hl (by decide) rfl (fun ls hl => ?_)
  have hl := lv_sub hl [2, 1, 0] (l' := [(0, .ref m0), (1, .int (nI (bfW B 0))), (2, .int (nI 1))]) rfl
  refine lp_W (σ := Nat) (hpc := 13) (fun x => bD B - x) (fun x => 0) (fun x => 0) (fun x H locs ls => va_P G.1 CL [(m0, .inr (6, [.ref sa, .ref oa, .ref pa, .ref la, .ref za, .ref na, .int gu, .int gt, .int gw, .int gd, .int gm, .int gr, .int (nI 0), .int gv])), (la, .inl (G.2 0, 200, .inl (ldF B))), (za, .inl (G.2 0, 6, .inl zg_390))] H ∧ va_D A [(m0, .inr (6, [.ref sa, .ref oa, .ref pa, .ref la, .ref za, .ref na, .int gu, .int gt, .int gw, .int gd, .int gm, .int gr, .int (nI 0), .int gv])), (la, .inl (G.2 0, 200, .inl (ldF B))), (za, .inl (G.2 0, 6, .inl zg_390))] ∧ va_S A s.heap H locs ∧ lv_has ls 3 [(0, .ref m0), (1, .int (nI (bfW B x))), (2, .int (nI (x + 1)))] ∧ (x ≤ bD B)) ?_ (0) ⟨(show va_P G.1 CL [(m0, .inr (6, [.ref sa, .ref oa, .ref pa, .ref la, .ref za, .ref na, .int gu, .int gt, .int gw, .int gd, .int gm, .int gr, .int (nI 0), .int gv])), (la, .inl (G.2 0, 200, .inl (ldF B))), (za, .inl (G.2 0, 6, .inl zg_390))] H from hP), (show va_D A [(m0, .inr (6, [.ref sa, .ref oa, .ref pa, .ref la, .ref za, .ref na, .int gu, .int gt, .int gw, .int gd, .int gm, .int gr, .int (nI 0), .int gv])), (la, .inl (G.2 0, 200, .inl (ldF B))), (za, .inl (G.2 0, 6, .inl zg_390))] from hD), hS, hl, (show 0 ≤ bD B from by omega)⟩ (show 0 ≤ 0 from by first | exact Nat.le_refl _ | omega) (show 0 ≤ 0 from by first | exact Nat.le_refl _ | omega)
  intro x H locs ls hI9 ih13
  obtain ⟨i_392, rfl⟩ : ∃ z, z = x := ⟨_, rfl⟩
  obtain ⟨hP, hD, hS, hl, hp_391⟩ := hI9
  have hP : va_P G.1 CL [(m0, .inr (6, [.ref sa, .ref oa, .ref pa, .ref la, .ref za, .ref na, .int gu, .int gt, .int gw, .int gd, .int gm, .int gr, .int (nI 0), .int gv])), (la, .inl (G.2 0, 200, .inl (ldF B))), (za, .inl (G.2 0, 6, .inl zg_390))] H := hP
  have hD : va_D A [(m0, .inr (6, [.ref sa, .ref oa, .ref pa, .ref la, .ref za, .ref na, .int gu, .int gt, .int gw, .int gd, .int gm, .int gr, .int (nI 0), .int gv])), (la, .inl (G.2 0, 200, .inl (ldF B))), (za, .inl (G.2 0, 6, .inl zg_390))] := hD
  have hl : lv_has ls 3 [(0, .ref m0), (1, .int (nI (bfW B i_392))), (2, .int (nI (i_392 + 1)))] := hl
  have hp_391 : i_392 ≤ bD B := hp_391
  have hb9 := bfW_le B i_392
  refine lv_iload_n hx hb dX4_bestFormDay_13 rfl (lv_at hl 2 rfl) ?_
  refine lv_aload_n hx hb dX4_bestFormDay_14 rfl (lv_at hl 0 rfl) ?_
  refine va_get hx hb hts in_X4 hown hK hP 0 rfl rfl 0 (by decide) (hts _ q1596) (fun _ h => h) rfl dX4_bestFormDay_15 ?_
  refine lv_iconst (v := nI 0) hx hb dX4_bestFormDay_18 (by decide) ?_
  refine r_iald (v := nI (bD B)) hx hb hK (hR0.w hS) 0 0 rfl rfl (i := 0) (by omega) (by omega) (hM.today) dX4_bestFormDay_19 ?_
  refine n_icmp_gt (tgt := 48) hx hb (by omega) (by omega) dX4_bestFormDay_20 (by decide) (fun c_393 => ?_) (fun c_393 => ?_)
  · have hi9 : i_392 = bD B := by omega
    have hl : lv_has ls 3 [(0, .ref m0), (1, .int (nI (bfW B (bD B)))), (2, .int (nI ((bD B) + 1)))] := by rw [hi9] at hl; exact hl
    refine lv_iload_n hx hb dX4_bestFormDay_48 rfl (lv_at hl 1 rfl) ?_
    have hq9 : q_bestForm B = (0, nI (bfW B (bD B))) := by unfold q_bestForm; rfl
    have hP : va_P G.1 CL [(m0, .inr (6, [.ref sa, .ref oa, .ref pa, .ref la, .ref za, .ref na, .int gu, .int gt, .int gw, .int gd, .int gm, .int gr, .int (nI ((q_bestForm B).1)), .int gv])), (la, .inl (G.2 0, 200, .inl (ldF B))), (za, .inl (G.2 0, 6, .inl zg_390))] H := by rw [hq9]; exact hP
    have hD : va_D A [(m0, .inr (6, [.ref sa, .ref oa, .ref pa, .ref la, .ref za, .ref na, .int gu, .int gt, .int gw, .int gd, .int gm, .int gr, .int (nI ((q_bestForm B).1)), .int gv])), (la, .inl (G.2 0, 200, .inl (ldF B))), (za, .inl (G.2 0, 6, .inl zg_390))] := by rw [hq9]; exact hD
    have hP9 : va_P G.1 CL [(m0, .inr (6, [.ref sa, .ref oa, .ref pa, .ref la, .ref za, .ref na, .int gu, .int gt, .int gw, .int gd, .int gm, .int gr, .int (nI ((q_bestForm B).1)), .int gv])), (la, .inl (G.2 0, 200, .inl (ldF B))), (za, .inl (G.2 0, 6, .inl zg_390))] H := hP.sub [0, 1, 2] rfl
    have hD9 : va_D A [(m0, .inr (6, [.ref sa, .ref oa, .ref pa, .ref la, .ref za, .ref na, .int gu, .int gt, .int gw, .int gd, .int gm, .int gr, .int (nI ((q_bestForm B).1)), .int gv])), (la, .inl (G.2 0, 200, .inl (ldF B))), (za, .inl (G.2 0, 6, .inl zg_390))] := hD.sub [0, 1, 2] (by decide) rfl
    exact end_i hx hb hr hlk (rfl) (qc_of ⟨nI (bfW B (bD B)), ldF B, zg_390, gd, gm, gr⟩ (v := some (.int (nI (bfW B (bD B))))) (by rfl) (fun _ => by rw [hq9]) hP9 hD9 (trivial) hS) hS dX4_bestFormDay_49 (show 0 ≤ 0 from by first | exact Nat.le_refl _ | decide | omega) (show 0 ≤ 0 from by first | exact Nat.le_refl _ | decide | omega)
  · refine lv_aload_n hx hb dX4_bestFormDay_23 rfl (lv_at hl 0 rfl) ?_
    refine lv_iload_n hx hb dX4_bestFormDay_24 rfl (lv_at hl 2 rfl) ?_
    have hF := hF_of (wc := []) hD hS hA [] rfl
    have hro_394 : va_P G.1 CL [(m0, .inr (6, [.ref sa, .ref oa, .ref pa, .ref la, .ref za, .ref na, .int gu, .int gt, .int gw, .int gd, .int gm, .int gr, .int (nI 0), .int gv])), (la, .inl (G.2 0, 200, .inl (ldF B)))] H := (va_P.sub hP [0, 1] rfl)
    refine go_ct hS hP hD [] [0, 1, 2] hF rfl rfl (by decide) (by decide)
        (va_runV (As := [.int (nI (i_392 + 1))]) (rest := []) cf (mX4_form l G m0 sa oa pa la za na gu gt gw gd gm gr (nI 0) gv B (i_392 + 1) (show Inv B from by first | assumption | omega) (show (i_392 + 1) ≤ 1000 from by first | assumption | omega) H.size) (cwV 1 hts (lw_V q1833 q1835 qs36 q58 q1836) rfl rfl rfl (by decide +kernel) ⟨Nat.le_of_ble_eq_true rfl, Nat.le_of_ble_eq_true rfl⟩) (preV_of hKB hE hS hF (va_recv hK hP (ci := 6) (q0 := 0) rfl rfl) (va_P.sub hP [] rfl) ((va_D.sub hD [] (by decide) rfl).weaken (fun _ _ _ _ => trivial)) (roW.nil hro_394)) rfl rfl hl.1 rfl (lv_room (Nat.le_of_ble_eq_true rfl)) dX4_bestFormDay_25 ⟨show 0 + 0 ≤ 0 from by first | decide | omega, show 0 + 0 ≤ 0 from by first | decide | omega⟩)
        (fun u_ H locs hq hph (hP : va_P G.1 CL [(m0, .inr (6, [.ref sa, .ref oa, .ref pa, .ref la, .ref za, .ref na, .int gu, .int gt, .int gw, .int gd, .int gm, .int gr, .int (nI 0), .int gv])), (la, .inl (G.2 0, 200, .inl (ldF B))), (za, .inl (G.2 0, 6, .inl zg_390))] H) (hD : va_D A [(m0, .inr (6, [.ref sa, .ref oa, .ref pa, .ref la, .ref za, .ref na, .int gu, .int gt, .int gw, .int gd, .int gm, .int gr, .int (nI 0), .int gv])), (la, .inl (G.2 0, 200, .inl (ldF B))), (za, .inl (G.2 0, 6, .inl zg_390))]) hS hfz hfk => ?_)
    refine W.eq (g2 := F0 m 28 ls [.int (formS B (i_392 + 1))]) rfl ?_
    refine lv_aload_n hx hb dX4_bestFormDay_28 rfl (lv_at hl 0 rfl) ?_
    refine lv_iload_n hx hb dX4_bestFormDay_29 rfl (lv_at hl 1 rfl) ?_
    have hF := hF_of (wc := []) hD hS hA [] rfl
    have hro_395 : va_P G.1 CL [(m0, .inr (6, [.ref sa, .ref oa, .ref pa, .ref la, .ref za, .ref na, .int gu, .int gt, .int gw, .int gd, .int gm, .int gr, .int (nI 0), .int gv])), (la, .inl (G.2 0, 200, .inl (ldF B)))] H := (va_P.sub hP [0, 1] rfl)
    refine go_ct hS hP hD [] [0, 1, 2] hF rfl rfl (by decide) (by decide)
        (va_runV (As := [.int (nI (bfW B i_392))]) (rest := [.int (formS B (i_392 + 1))]) cf (mX4_form l G m0 sa oa pa la za na gu gt gw gd gm gr (nI 0) gv B (bfW B i_392) (show Inv B from by first | assumption | omega) (show (bfW B i_392) ≤ 1000 from by first | assumption | omega) H.size) (cwV 1 hts (lw_V q1833 q1835 qs36 q58 q1836) rfl rfl rfl (by decide +kernel) ⟨Nat.le_of_ble_eq_true rfl, Nat.le_of_ble_eq_true rfl⟩) (preV_of hKB hE hS hF (va_recv hK hP (ci := 6) (q0 := 0) rfl rfl) (va_P.sub hP [] rfl) ((va_D.sub hD [] (by decide) rfl).weaken (fun _ _ _ _ => trivial)) (roW.nil hro_395)) rfl rfl hl.1 rfl (lv_room (Nat.le_of_ble_eq_true rfl)) dX4_bestFormDay_30 ⟨show 0 + 0 ≤ 0 from by first | decide | omega, show 0 + 0 ≤ 0 from by first | decide | omega⟩)
        (fun u_ H locs hq hph (hP : va_P G.1 CL [(m0, .inr (6, [.ref sa, .ref oa, .ref pa, .ref la, .ref za, .ref na, .int gu, .int gt, .int gw, .int gd, .int gm, .int gr, .int (nI 0), .int gv])), (la, .inl (G.2 0, 200, .inl (ldF B))), (za, .inl (G.2 0, 6, .inl zg_390))] H) (hD : va_D A [(m0, .inr (6, [.ref sa, .ref oa, .ref pa, .ref la, .ref za, .ref na, .int gu, .int gt, .int gw, .int gd, .int gm, .int gr, .int (nI 0), .int gv])), (la, .inl (G.2 0, 200, .inl (ldF B))), (za, .inl (G.2 0, 6, .inl zg_390))]) hS hfz hfk => ?_)
    refine W.eq (g2 := F0 m 33 ls [.int (formS B (bfW B i_392)), .int (formS B (i_392 + 1))]) rfl ?_
    refine lv_icmp_le (tgt := 40) hx hb  dX4_bestFormDay_33 (by decide) (fun c_396 => ?_) (fun c_396 => ?_)
    · refine lv_iload_n hx hb dX4_bestFormDay_40 rfl (lv_at hl 1 rfl) ?_
      refine lv_ton (n := (bfW B (i_392 + 1))) (congrArg nI (by simp only [bfW]; first | rw [if_pos (Int32.not_le.mp (by assumption))] | rw [if_neg (Int32.not_lt.mpr (by assumption))])) ?_
      refine lv_istore_n (lv' := [(1, .int (nI (bfW B (i_392 + 1)))), (0, .ref m0), (2, .int (nI (i_392 + 1)))]) hx hb dX4_bestFormDay_41 rfl hl (by decide) rfl (fun ls hl => ?_)
      refine lv_iinc (v := nI (i_392 + 2)) (lv' := [(2, .int (nI (i_392 + 2))), (1, .int (nI (bfW B (i_392 + 1)))), (0, .ref m0)]) hx hb dX4_bestFormDay_42 hl (k := 2) rfl (ninc (b := 1) (by decide) (by omega)) (by decide) rfl (fun ls hl => ?_)
      refine lv_goto (tgt := 13) hx hb dX4_bestFormDay_45 (by decide) ?_
      have hP : va_P G.1 CL [(m0, .inr (6, [.ref sa, .ref oa, .ref pa, .ref la, .ref za, .ref na, .int gu, .int gt, .int gw, .int gd, .int gm, .int gr, .int (nI 0), .int gv])), (la, .inl (G.2 0, 200, .inl (ldF B))), (za, .inl (G.2 0, 6, .inl zg_390))] H := hP.sub [0, 1, 2] rfl
      have hD : va_D A [(m0, .inr (6, [.ref sa, .ref oa, .ref pa, .ref la, .ref za, .ref na, .int gu, .int gt, .int gw, .int gd, .int gm, .int gr, .int (nI 0), .int gv])), (la, .inl (G.2 0, 200, .inl (ldF B))), (za, .inl (G.2 0, 6, .inl zg_390))] := hD.sub [0, 1, 2] (by decide) rfl
      have hl := lv_sub hl [2, 1, 0] (l' := [(0, .ref m0), (1, .int (nI (bfW B (i_392 + 1)))), (2, .int (nI (i_392 + 2)))]) rfl
      exact W.widen (show 0 ≤ 0 from by first | exact Nat.le_refl _ | omega) (show 0 ≤ 0 from by first | exact Nat.le_refl _ | omega) (ih13 ((i_392 + 1)) H locs ls ⟨hP, hD, hS, hl, (show (i_392 + 1) ≤ bD B from by omega)⟩ (show bD B - (i_392 + 1) < bD B - i_392 from by omega))
    · refine lv_iload_n hx hb dX4_bestFormDay_36 rfl (lv_at hl 2 rfl) ?_
      refine lv_goto (tgt := 41) hx hb dX4_bestFormDay_37 (by decide) ?_
      refine lv_ton (n := (bfW B (i_392 + 1))) (congrArg nI (by simp only [bfW]; first | rw [if_pos (Int32.not_le.mp (by assumption))] | rw [if_neg (Int32.not_lt.mpr (by assumption))])) ?_
      refine lv_istore_n (lv' := [(1, .int (nI (bfW B (i_392 + 1)))), (0, .ref m0), (2, .int (nI (i_392 + 1)))]) hx hb dX4_bestFormDay_41 rfl hl (by decide) rfl (fun ls hl => ?_)
      refine lv_iinc (v := nI (i_392 + 2)) (lv' := [(2, .int (nI (i_392 + 2))), (1, .int (nI (bfW B (i_392 + 1)))), (0, .ref m0)]) hx hb dX4_bestFormDay_42 hl (k := 2) rfl (ninc (b := 1) (by decide) (by omega)) (by decide) rfl (fun ls hl => ?_)
      refine lv_goto (tgt := 13) hx hb dX4_bestFormDay_45 (by decide) ?_
      have hP : va_P G.1 CL [(m0, .inr (6, [.ref sa, .ref oa, .ref pa, .ref la, .ref za, .ref na, .int gu, .int gt, .int gw, .int gd, .int gm, .int gr, .int (nI 0), .int gv])), (la, .inl (G.2 0, 200, .inl (ldF B))), (za, .inl (G.2 0, 6, .inl zg_390))] H := hP.sub [0, 1, 2] rfl
      have hD : va_D A [(m0, .inr (6, [.ref sa, .ref oa, .ref pa, .ref la, .ref za, .ref na, .int gu, .int gt, .int gw, .int gd, .int gm, .int gr, .int (nI 0), .int gv])), (la, .inl (G.2 0, 200, .inl (ldF B))), (za, .inl (G.2 0, 6, .inl zg_390))] := hD.sub [0, 1, 2] (by decide) rfl
      have hl := lv_sub hl [2, 1, 0] (l' := [(0, .ref m0), (1, .int (nI (bfW B (i_392 + 1)))), (2, .int (nI (i_392 + 2)))]) rfl
      exact W.widen (show 0 ≤ 0 from by first | exact Nat.le_refl _ | omega) (show 0 ≤ 0 from by first | exact Nat.le_refl _ | omega) (ih13 ((i_392 + 1)) H locs ls ⟨hP, hD, hS, hl, (show (i_392 + 1) ≤ bD B from by omega)⟩ (show bD B - (i_392 + 1) < bD B - i_392 from by omega))

set_option maxHeartbeats 4000000 in
theorem mX4_daysToForm (l : Launch) (G : Gt) (m0 : Nat) (sa : Nat) (oa : Nat) (pa : Nat) (la : Nat) (za : Nat) (na : Nat) (gu : Int32) (gt : Int32) (gw : Int32) (gd : Int32) (gm : Int32) (gr : Int32) (gh : Int32) (gv : Int32) (f : Nat → Int32) (B : Bk) (lf : Nat → Int32) (zf : Nat → Int32) (v : Int32) (hM : MR f B) (hI : Inv B) : CT l G yX4_daysToForm cX4_daysToForm 4 (some .int) ({ frames := 6, cells := 0, slots := 0, locals := 127 } : Room) [.ref m0, .int v] [(m0, .inr (6, [.ref sa, .ref oa, .ref pa, .ref la, .ref za, .ref na, .int gu, .int gt, .int gw, .int gd, .int gm, .int gr, .int gh, .int gv])), (la, .inl (G.2 0, 200, .inl lf)), (za, .inl (G.2 0, 6, .inl zf))] (fun (A : Nat → Prop) (H : Heap) => roW G A H [(sa, .inl (G.2 0, 830, .inl f))]) (S := Int32 × (Nat → Int32) × (Nat → Int32) × Int32 × Int32 × Int32) (fun (u_ : Int32 × (Nat → Int32) × (Nat → Int32) × Int32 × Int32 × Int32) => some (.int u_.1)) (fun (u_ : Int32 × (Nat → Int32) × (Nat → Int32) × Int32 × Int32 × Int32) => ((q_daysTo B v).1 = 0 → u_.1 = (q_daysTo B v).2)) (fun (u_ : Int32 × (Nat → Int32) × (Nat → Int32) × Int32 × Int32 × Int32) => [(m0, .inr (6, [.ref sa, .ref oa, .ref pa, .ref la, .ref za, .ref na, .int gu, .int gt, .int gw, .int u_.2.2.2.1, .int u_.2.2.2.2.1, .int u_.2.2.2.2.2, .int (nI ((q_daysTo B v).1)), .int gv])), (la, .inl (G.2 0, 200, .inl u_.2.1)), (za, .inl (G.2 0, 6, .inl u_.2.2.1))]) (fun (u_ : Int32 × (Nat → Int32) × (Nat → Int32) × Int32 × Int32 × Int32) (H : Heap) => True) := by
  refine CT.of (by decide) (Nat.le_of_ble_eq_true rfl) ?_
  intro p e s m below meth c ls A H locs h9 hH0 hP hS
  obtain ⟨cf, hr, hlk, hnm, hKB, hE, -, hD, -, hA, hAw, hR0, hl⟩ := h9
  have hx := cf.1
  have hb := cf.2.1
  have hml := cf.2.2.1
  have hown : s.vm.findClass RX4 = some m.cls := cf.2.2.2.1
  have hts := cf.2.2.2.2
  have hK := hKB.1
  have hl : lv_has ls 4 [(0, .ref m0), (1, .int v)] := hl
  have iN := iv_sN hI
  have iT := iv_tN hI
  have iD := iv_bD hI
  have iE := iv_bE hI
  have iW := iv_id hI
  refine lv_aload_n hx hb dX4_daysToForm_0 rfl (lv_at hl 0 rfl) ?_
  have hF := hF_of (wc := [(la, .inl (G.2 0, 200, .inl lf)), (za, .inl (G.2 0, 6, .inl zf))]) hD hS hA [1, 2] rfl
  have hro_397 : roW G (va_A [(la, .inl (G.2 0, 200, .inl lf)), (za, .inl (G.2 0, 6, .inl zf))] H.size) H [(m0, .inr (6, [.ref sa, .ref oa, .ref pa, .ref la, .ref za, .ref na, .int gu, .int gt, .int gw, .int gd, .int gm, .int gr, .int gh, .int gv])), (sa, .inl (G.2 0, 830, .inl f))] := ((roW.of (w' := [(m0, .inr (6, [.ref sa, .ref oa, .ref pa, .ref la, .ref za, .ref na, .int gu, .int gt, .int gw, .int gd, .int gm, .int gr, .int gh, .int gv]))]) hP hD [1, 2] [0] rfl rfl (by decide)).app ((hR0.kp hF hS.2.1).sub (ws' := [(sa, .inl (G.2 0, 830, .inl f))]) [0] rfl))
  refine go_ct hS hP hD [1, 2] [0] hF rfl rfl (by decide) (by decide)
      (va_runV (As := []) (rest := []) cf (mX4_loads l G m0 sa oa pa la za na gu gt gw gd gm gr gh gv f B lf zf (show MR f B from by first | assumption | omega) (show Inv B from by first | assumption | omega) H.size) (cwV 0 hts (lw_V q1795 q1797 qs34 q58 q1798) rfl rfl rfl (by decide +kernel) ⟨Nat.le_of_ble_eq_true rfl, Nat.le_of_ble_eq_true rfl⟩) (preV_of hKB hE hS hF (va_recv hK hP (ci := 6) (q0 := 0) rfl rfl) (va_P.sub hP [1, 2] rfl) ((va_D.sub hD [1, 2] (by decide) rfl).weaken (fun _ _ _ _ => trivial)) hro_397) rfl rfl hl.1 rfl (lv_room (Nat.le_of_ble_eq_true rfl)) dX4_daysToForm_1 ⟨show 0 + 0 ≤ 0 from by first | decide | omega, show 0 + 0 ≤ 0 from by first | decide | omega⟩)
      (fun u_ H locs hq hph (hP : va_P G.1 CL [(m0, .inr (6, [.ref sa, .ref oa, .ref pa, .ref la, .ref za, .ref na, .int gu, .int gt, .int gw, .int gd, .int gm, .int gr, .int gh, .int gv])), (la, .inl (G.2 0, 200, .inl (ldF B))), (za, .inl (G.2 0, 6, .inl u_))] H) (hD : va_D A [(m0, .inr (6, [.ref sa, .ref oa, .ref pa, .ref la, .ref za, .ref na, .int gu, .int gt, .int gw, .int gd, .int gm, .int gr, .int gh, .int gv])), (la, .inl (G.2 0, 200, .inl (ldF B))), (za, .inl (G.2 0, 6, .inl u_))]) hS hfz hfk => ?_)
  obtain ⟨zg_398, rfl⟩ : ∃ z, z = u_ := ⟨_, rfl⟩
  have hP : va_P G.1 CL [(m0, .inr (6, [.ref sa, .ref oa, .ref pa, .ref la, .ref za, .ref na, .int gu, .int gt, .int gw, .int gd, .int gm, .int gr, .int gh, .int gv])), (la, .inl (G.2 0, 200, .inl (ldF B))), (za, .inl (G.2 0, 6, .inl zg_398))] H := hP
  have hD : va_D A [(m0, .inr (6, [.ref sa, .ref oa, .ref pa, .ref la, .ref za, .ref na, .int gu, .int gt, .int gw, .int gd, .int gm, .int gr, .int gh, .int gv])), (la, .inl (G.2 0, 200, .inl (ldF B))), (za, .inl (G.2 0, 6, .inl zg_398))] := hD
  refine W.eq (g2 := F0 m 4 ls []) rfl ?_
  refine lv_iconst (v := (-1)) hx hb dX4_daysToForm_4 (by decide) ?_
  refine lv_istore_n (lv' := [(2, .int (-1)), (0, .ref m0), (1, .int v)]) hx hb dX4_daysToForm_5 rfl hl (by decide) rfl (fun ls hl => ?_)
  refine lv_sipush (v := nI 200) hx hb dX4_daysToForm_6 (by decide) ?_
  refine lv_istore_n (lv' := [(3, .int (nI 200)), (2, .int (-1)), (0, .ref m0), (1, .int v)]) hx hb dX4_daysToForm_9 rfl hl (by decide) rfl (fun ls hl => ?_)
  have hl : lv_has ls 4 [(3, .int (nI 200)), (2, .int (oI (dfF B v 0))), (0, .ref m0), (1, .int v)] := by
    have e9 : ((.int (oI (dfF B v 0))) : Value) = .int (-1) := rfl
    rw [e9]; exact hl
  have hl : lv_has ls 4 [(3, .int (lI 201)), (2, .int (oI (dfF B v 0))), (0, .ref m0), (1, .int v)] := by
    have e9 : ((.int (lI 201)) : Value) = .int (nI 200) := congrArg Value.int (by decide)
    rw [e9]; exact hl
  have hl := lv_sub hl [2, 3, 1, 0] (l' := [(0, .ref m0), (1, .int v), (2, .int (oI (dfF B v 0))), (3, .int (lI 201))]) rfl
  refine lp_W (σ := Nat × Nat) (hpc := 10) (fun x => x.1) (fun x => 0) (fun x => 0) (fun x H locs ls => va_P G.1 CL [(m0, .inr (6, [.ref sa, .ref oa, .ref pa, .ref la, .ref za, .ref na, .int gu, .int gt, .int gw, .int gd, .int gm, .int gr, .int gh, .int gv])), (la, .inl (G.2 0, 200, .inl (ldF B))), (za, .inl (G.2 0, 6, .inl zg_398))] H ∧ va_D A [(m0, .inr (6, [.ref sa, .ref oa, .ref pa, .ref la, .ref za, .ref na, .int gu, .int gt, .int gw, .int gd, .int gm, .int gr, .int gh, .int gv])), (la, .inl (G.2 0, 200, .inl (ldF B))), (za, .inl (G.2 0, 6, .inl zg_398))] ∧ va_S A s.heap H locs ∧ lv_has ls 4 [(0, .ref m0), (1, .int v), (2, .int (oI (dfF B v x.2))), (3, .int (lI x.1))] ∧ (x.1 + x.2 = 201)) ?_ (201, 0) ⟨(show va_P G.1 CL [(m0, .inr (6, [.ref sa, .ref oa, .ref pa, .ref la, .ref za, .ref na, .int gu, .int gt, .int gw, .int gd, .int gm, .int gr, .int gh, .int gv])), (la, .inl (G.2 0, 200, .inl (ldF B))), (za, .inl (G.2 0, 6, .inl zg_398))] H from hP), (show va_D A [(m0, .inr (6, [.ref sa, .ref oa, .ref pa, .ref la, .ref za, .ref na, .int gu, .int gt, .int gw, .int gd, .int gm, .int gr, .int gh, .int gv])), (la, .inl (G.2 0, 200, .inl (ldF B))), (za, .inl (G.2 0, 6, .inl zg_398))] from hD), hS, hl, (show 201 + 0 = 201 from by omega)⟩ (show 0 ≤ 0 from by first | exact Nat.le_refl _ | omega) (show 0 ≤ 0 from by first | exact Nat.le_refl _ | omega)
  intro x H locs ls hI9 ih10
  obtain ⟨j_400, k_401⟩ := x
  obtain ⟨hP, hD, hS, hl, hp_399⟩ := hI9
  have hP : va_P G.1 CL [(m0, .inr (6, [.ref sa, .ref oa, .ref pa, .ref la, .ref za, .ref na, .int gu, .int gt, .int gw, .int gd, .int gm, .int gr, .int gh, .int gv])), (la, .inl (G.2 0, 200, .inl (ldF B))), (za, .inl (G.2 0, 6, .inl zg_398))] H := hP
  have hD : va_D A [(m0, .inr (6, [.ref sa, .ref oa, .ref pa, .ref la, .ref za, .ref na, .int gu, .int gt, .int gw, .int gd, .int gm, .int gr, .int gh, .int gv])), (la, .inl (G.2 0, 200, .inl (ldF B))), (za, .inl (G.2 0, 6, .inl zg_398))] := hD
  have hl : lv_has ls 4 [(0, .ref m0), (1, .int v), (2, .int (oI (dfF B v k_401))), (3, .int (lI j_400))] := hl
  have hp_399 : j_400 + k_401 = 201 := hp_399
  rcases j_400 with _ | j_402
  · have hl : lv_has ls 4 [(0, .ref m0), (1, .int v), (2, .int (oI (dfF B v k_401))), (3, .int (-1))] := by
      have e9 : ((.int (-1)) : Value) = .int (lI 0) := congrArg Value.int (by decide)
      rw [e9]; exact hl
    refine lv_iload_n hx hb dX4_daysToForm_10 rfl (lv_at hl 3 rfl) ?_
    refine lv_if_lt (tgt := 42) hx hb dX4_daysToForm_11 (by decide) (fun c_403 => ?_) (fun c_403 => absurd c_403 (by decide))
    have hk9 : k_401 = 201 := by omega
    have hl : lv_has ls 4 [(0, .ref m0), (1, .int v), (2, .int (oI (dfF B v 201))), (3, .int (-1))] := by rw [hk9] at hl; exact hl
    refine lv_aload_n hx hb dX4_daysToForm_42 rfl (lv_at hl 0 rfl) ?_
    refine lv_iload_n hx hb dX4_daysToForm_43 rfl (lv_at hl 1 rfl) ?_
    refine lv_ldc (v := (-100000)) hx hb hown (hts _ q1845) dX4_daysToForm_44 ?_
    refine lv_ldc (v := nI 100000) hx hb hown (hts _ q1846) dX4_daysToForm_46 ?_
    have hF := hF_of (wc := []) hD hS hA [] rfl
    refine go_ct hS hP hD [] [0, 1, 2] hF rfl rfl (by decide) (by decide)
        (va_runS (As := [.int v, .int (-100000), .int (nI 100000)]) (rest := [.ref m0]) cf (mX4_isIn l G v (-100000) (nI 100000)  H.size) (va_cwS 3 hts (lw_S q1647 q1648 q58 q1649) rfl rfl rfl (by decide +kernel) ⟨Nat.le_of_ble_eq_true rfl, Nat.le_of_ble_eq_true rfl⟩) (preS_of hKB hE hS hF (va_P.sub hP [] rfl) ((va_D.sub hD [] (by decide) rfl).weaken (fun _ _ _ _ => trivial)) trivial) rfl rfl hl.1 rfl (lv_room (Nat.le_of_ble_eq_true rfl)) dX4_daysToForm_48 ⟨show 0 + 0 ≤ 0 from by first | decide | omega, show 0 + 0 ≤ 0 from by first | decide | omega⟩)
        (fun u_ H locs hq hph (hP : va_P G.1 CL [(m0, .inr (6, [.ref sa, .ref oa, .ref pa, .ref la, .ref za, .ref na, .int gu, .int gt, .int gw, .int gd, .int gm, .int gr, .int gh, .int gv])), (la, .inl (G.2 0, 200, .inl (ldF B))), (za, .inl (G.2 0, 6, .inl zg_398))] H) (hD : va_D A [(m0, .inr (6, [.ref sa, .ref oa, .ref pa, .ref la, .ref za, .ref na, .int gu, .int gt, .int gw, .int gd, .int gm, .int gr, .int gh, .int gv])), (la, .inl (G.2 0, 200, .inl (ldF B))), (za, .inl (G.2 0, 6, .inl zg_398))]) hS hfz hfk => ?_)
    obtain ⟨b_404, rfl⟩ : ∃ z, z = u_ := ⟨_, rfl⟩
    have hP : va_P G.1 CL [(m0, .inr (6, [.ref sa, .ref oa, .ref pa, .ref la, .ref za, .ref na, .int gu, .int gt, .int gw, .int gd, .int gm, .int gr, .int gh, .int gv])), (la, .inl (G.2 0, 200, .inl (ldF B))), (za, .inl (G.2 0, 6, .inl zg_398))] H := hP
    have hD : va_D A [(m0, .inr (6, [.ref sa, .ref oa, .ref pa, .ref la, .ref za, .ref na, .int gu, .int gt, .int gw, .int gd, .int gm, .int gr, .int gh, .int gv])), (la, .inl (G.2 0, 200, .inl (ldF B))), (za, .inl (G.2 0, 6, .inl zg_398))] := hD
    have hq_405 : (b_404 = true ↔ (-100000) ≤ v ∧ v ≤ (nI 100000)) := hq
    refine W.eq (g2 := F0 m 51 ls [.int (bI b_404), .ref m0]) rfl ?_
    cases b_404
    · refine lv_ton (n := 0) rfl ?_
      have hir_406 : ¬ ((-100000) ≤ v ∧ v ≤ nI 100000) := fun z => absurd (hq_405.mpr z) (by decide)
      refine n_if_ne (tgt := 58) hx hb (by omega) dX4_daysToForm_51 (by decide) (fun c_407 => absurd c_407 (by omega)) (fun c_407 => ?_)
      refine lv_iconst (v := nI 1) hx hb dX4_daysToForm_54 (by decide) ?_
      refine lv_goto (tgt := 59) hx hb dX4_daysToForm_55 (by decide) ?_
      refine lv_iconst (v := nI 1) hx hb dX4_daysToForm_59 (by decide) ?_
      have hF := hF_of (wc := [(m0, .inr (6, [.ref sa, .ref oa, .ref pa, .ref la, .ref za, .ref na, .int gu, .int gt, .int gw, .int gd, .int gm, .int gr, .int gh, .int gv]))]) hD hS hA [0] rfl
      refine go_ct hS hP hD [0] [1, 2] hF rfl rfl (by decide) (by decide)
          (va_runV (As := [.int (nI 1), .int (nI 1)]) (rest := []) cf (mX4_isThrown_t l G m0 sa oa pa la za na gu gt gw gd gm gr gh gv 1  H.size) (cwV 2 hts (lw_V q1650 q1652 qs20 q58 q1653) rfl rfl rfl (by decide +kernel) ⟨Nat.le_of_ble_eq_true rfl, Nat.le_of_ble_eq_true rfl⟩) (preV_of hKB hE hS hF (va_recv hK hP (ci := 6) (q0 := 0) rfl rfl) (va_P.sub hP [0] rfl) ((va_D.sub hD [0] (by decide) rfl).weaken (fun _ _ _ _ => trivial)) trivial) rfl rfl hl.1 rfl (lv_room (Nat.le_of_ble_eq_true rfl)) dX4_daysToForm_60 ⟨show 0 + 0 ≤ 0 from by first | decide | omega, show 0 + 0 ≤ 0 from by first | decide | omega⟩)
          (fun u_ H locs hq hph (hP : va_P G.1 CL [(la, .inl (G.2 0, 200, .inl (ldF B))), (za, .inl (G.2 0, 6, .inl zg_398)), (m0, .inr (6, [.ref sa, .ref oa, .ref pa, .ref la, .ref za, .ref na, .int gu, .int gt, .int gw, .int gd, .int gm, .int gr, .int (nI 1), .int gv]))] H) (hD : va_D A [(la, .inl (G.2 0, 200, .inl (ldF B))), (za, .inl (G.2 0, 6, .inl zg_398)), (m0, .inr (6, [.ref sa, .ref oa, .ref pa, .ref la, .ref za, .ref na, .int gu, .int gt, .int gw, .int gd, .int gm, .int gr, .int (nI 1), .int gv]))]) hS hfz hfk => ?_)
      refine W.eq (g2 := F0 m 63 ls [.int (nI 1)]) rfl ?_
      refine n_if_ne (tgt := 83) hx hb (by omega) dX4_daysToForm_63 (by decide) (fun c_408 => ?_) (fun c_408 => absurd c_408 (by omega))
      refine lv_iconst (v := nI 0) hx hb dX4_daysToForm_83 (by decide) ?_
      refine lv_goto (tgt := 88) hx hb dX4_daysToForm_84 (by decide) ?_
      have hq9 : q_daysTo B v = (1, 0) := by unfold q_daysTo; rw [if_neg hir_406] <;> rfl
      have hP : va_P G.1 CL [(la, .inl (G.2 0, 200, .inl (ldF B))), (za, .inl (G.2 0, 6, .inl zg_398)), (m0, .inr (6, [.ref sa, .ref oa, .ref pa, .ref la, .ref za, .ref na, .int gu, .int gt, .int gw, .int gd, .int gm, .int gr, .int (nI ((q_daysTo B v).1)), .int gv]))] H := by rw [hq9]; exact hP
      have hD : va_D A [(la, .inl (G.2 0, 200, .inl (ldF B))), (za, .inl (G.2 0, 6, .inl zg_398)), (m0, .inr (6, [.ref sa, .ref oa, .ref pa, .ref la, .ref za, .ref na, .int gu, .int gt, .int gw, .int gd, .int gm, .int gr, .int (nI ((q_daysTo B v).1)), .int gv]))] := by rw [hq9]; exact hD
      have hP9 : va_P G.1 CL [(m0, .inr (6, [.ref sa, .ref oa, .ref pa, .ref la, .ref za, .ref na, .int gu, .int gt, .int gw, .int gd, .int gm, .int gr, .int (nI ((q_daysTo B v).1)), .int gv])), (la, .inl (G.2 0, 200, .inl (ldF B))), (za, .inl (G.2 0, 6, .inl zg_398))] H := hP.sub [2, 0, 1] rfl
      have hD9 : va_D A [(m0, .inr (6, [.ref sa, .ref oa, .ref pa, .ref la, .ref za, .ref na, .int gu, .int gt, .int gw, .int gd, .int gm, .int gr, .int (nI ((q_daysTo B v).1)), .int gv])), (la, .inl (G.2 0, 200, .inl (ldF B))), (za, .inl (G.2 0, 6, .inl zg_398))] := hD.sub [2, 0, 1] (by decide) rfl
      exact end_i hx hb hr hlk (rfl) (qc_of ⟨nI 0, ldF B, zg_398, gd, gm, gr⟩ (v := some (.int (nI 0))) (by rfl) (fun h => by rw [hq9] at h; exact absurd h (by decide)) hP9 hD9 (trivial) hS) hS dX4_daysToForm_88 (show 0 ≤ 0 from by first | exact Nat.le_refl _ | decide | omega) (show 0 ≤ 0 from by first | exact Nat.le_refl _ | decide | omega)
    · refine lv_ton (n := 1) rfl ?_
      have hin_409 : (-100000) ≤ v ∧ v ≤ nI 100000 := hq_405.mp rfl
      refine n_if_ne (tgt := 58) hx hb (by omega) dX4_daysToForm_51 (by decide) (fun c_415 => ?_) (fun c_415 => absurd c_415 (by omega))
      refine lv_iconst (v := nI 0) hx hb dX4_daysToForm_58 (by decide) ?_
      refine lv_iconst (v := nI 1) hx hb dX4_daysToForm_59 (by decide) ?_
      have hF := hF_of (wc := [(m0, .inr (6, [.ref sa, .ref oa, .ref pa, .ref la, .ref za, .ref na, .int gu, .int gt, .int gw, .int gd, .int gm, .int gr, .int gh, .int gv]))]) hD hS hA [0] rfl
      refine go_ct hS hP hD [0] [1, 2] hF rfl rfl (by decide) (by decide)
          (va_runV (As := [.int (nI 0), .int (nI 1)]) (rest := []) cf (mX4_isThrown_f l G m0 sa oa pa la za na gu gt gw gd gm gr gh gv 1  H.size) (cwV 2 hts (lw_V q1650 q1652 qs20 q58 q1653) rfl rfl rfl (by decide +kernel) ⟨Nat.le_of_ble_eq_true rfl, Nat.le_of_ble_eq_true rfl⟩) (preV_of hKB hE hS hF (va_recv hK hP (ci := 6) (q0 := 0) rfl rfl) (va_P.sub hP [0] rfl) ((va_D.sub hD [0] (by decide) rfl).weaken (fun _ _ _ _ => trivial)) trivial) rfl rfl hl.1 rfl (lv_room (Nat.le_of_ble_eq_true rfl)) dX4_daysToForm_60 ⟨show 0 + 0 ≤ 0 from by first | decide | omega, show 0 + 0 ≤ 0 from by first | decide | omega⟩)
          (fun u_ H locs hq hph (hP : va_P G.1 CL [(la, .inl (G.2 0, 200, .inl (ldF B))), (za, .inl (G.2 0, 6, .inl zg_398)), (m0, .inr (6, [.ref sa, .ref oa, .ref pa, .ref la, .ref za, .ref na, .int gu, .int gt, .int gw, .int gd, .int gm, .int gr, .int (nI 0), .int gv]))] H) (hD : va_D A [(la, .inl (G.2 0, 200, .inl (ldF B))), (za, .inl (G.2 0, 6, .inl zg_398)), (m0, .inr (6, [.ref sa, .ref oa, .ref pa, .ref la, .ref za, .ref na, .int gu, .int gt, .int gw, .int gd, .int gm, .int gr, .int (nI 0), .int gv]))]) hS hfz hfk => ?_)
      refine W.eq (g2 := F0 m 63 ls [.int (nI 0)]) rfl ?_
      refine n_if_ne (tgt := 83) hx hb (by omega) dX4_daysToForm_63 (by decide) (fun c_416 => absurd c_416 (by omega)) (fun c_416 => ?_)
      refine lv_aload_n hx hb dX4_daysToForm_66 rfl (lv_at hl 0 rfl) ?_
      refine lv_iload_n hx hb dX4_daysToForm_67 rfl (lv_at hl 2 rfl) ?_
      rcases hdf : dfF B v 201 with _ | n_417
      · refine lv_toi (y := (-1)) (by first | rfl | (rw [hdf]; rfl)) ?_
        refine lv_if_ge (tgt := 75) hx hb dX4_daysToForm_68 (by decide) (fun c_418 => absurd c_418 (by decide)) (fun c_418 => ?_)
        refine lv_iconst (v := nI 1) hx hb dX4_daysToForm_71 (by decide) ?_
        refine lv_goto (tgt := 76) hx hb dX4_daysToForm_72 (by decide) ?_
        refine lv_iconst (v := nI 2) hx hb dX4_daysToForm_76 (by decide) ?_
        have hF := hF_of (wc := [(m0, .inr (6, [.ref sa, .ref oa, .ref pa, .ref la, .ref za, .ref na, .int gu, .int gt, .int gw, .int gd, .int gm, .int gr, .int (nI 0), .int gv]))]) hD hS hA [2] rfl
        refine go_ct hS hP hD [2] [0, 1] hF rfl rfl (by decide) (by decide)
            (va_runV (As := [.int (nI 1), .int (nI 2)]) (rest := []) cf (mX4_isThrown_t l G m0 sa oa pa la za na gu gt gw gd gm gr (nI 0) gv 2  H.size) (cwV 2 hts (lw_V q1650 q1652 qs20 q58 q1653) rfl rfl rfl (by decide +kernel) ⟨Nat.le_of_ble_eq_true rfl, Nat.le_of_ble_eq_true rfl⟩) (preV_of hKB hE hS hF (va_recv hK hP (ci := 6) (q0 := 2) rfl rfl) (va_P.sub hP [2] rfl) ((va_D.sub hD [2] (by decide) rfl).weaken (fun _ _ _ _ => trivial)) trivial) rfl rfl hl.1 rfl (lv_room (Nat.le_of_ble_eq_true rfl)) dX4_daysToForm_77 ⟨show 0 + 0 ≤ 0 from by first | decide | omega, show 0 + 0 ≤ 0 from by first | decide | omega⟩)
            (fun u_ H locs hq hph (hP : va_P G.1 CL [(la, .inl (G.2 0, 200, .inl (ldF B))), (za, .inl (G.2 0, 6, .inl zg_398)), (m0, .inr (6, [.ref sa, .ref oa, .ref pa, .ref la, .ref za, .ref na, .int gu, .int gt, .int gw, .int gd, .int gm, .int gr, .int (nI 2), .int gv]))] H) (hD : va_D A [(la, .inl (G.2 0, 200, .inl (ldF B))), (za, .inl (G.2 0, 6, .inl zg_398)), (m0, .inr (6, [.ref sa, .ref oa, .ref pa, .ref la, .ref za, .ref na, .int gu, .int gt, .int gw, .int gd, .int gm, .int gr, .int (nI 2), .int gv]))]) hS hfz hfk => ?_)
        refine W.eq (g2 := F0 m 80 ls [.int (nI 1)]) rfl ?_
        refine n_if_eq (tgt := 87) hx hb (by omega) dX4_daysToForm_80 (by decide) (fun c_419 => absurd c_419 (by omega)) (fun c_419 => ?_)
        refine lv_iconst (v := nI 0) hx hb dX4_daysToForm_83 (by decide) ?_
        refine lv_goto (tgt := 88) hx hb dX4_daysToForm_84 (by decide) ?_
        have hq9 : q_daysTo B v = (2, 0) := by unfold q_daysTo; rw [if_pos hin_409] <;> first | rfl | rw [hdf] | (rw [hdf]; rfl) | (dsimp only; rw [hdf]) | (dsimp only; rw [hdf]; rfl)
        have hP : va_P G.1 CL [(la, .inl (G.2 0, 200, .inl (ldF B))), (za, .inl (G.2 0, 6, .inl zg_398)), (m0, .inr (6, [.ref sa, .ref oa, .ref pa, .ref la, .ref za, .ref na, .int gu, .int gt, .int gw, .int gd, .int gm, .int gr, .int (nI ((q_daysTo B v).1)), .int gv]))] H := by rw [hq9]; exact hP
        have hD : va_D A [(la, .inl (G.2 0, 200, .inl (ldF B))), (za, .inl (G.2 0, 6, .inl zg_398)), (m0, .inr (6, [.ref sa, .ref oa, .ref pa, .ref la, .ref za, .ref na, .int gu, .int gt, .int gw, .int gd, .int gm, .int gr, .int (nI ((q_daysTo B v).1)), .int gv]))] := by rw [hq9]; exact hD
        have hP9 : va_P G.1 CL [(m0, .inr (6, [.ref sa, .ref oa, .ref pa, .ref la, .ref za, .ref na, .int gu, .int gt, .int gw, .int gd, .int gm, .int gr, .int (nI ((q_daysTo B v).1)), .int gv])), (la, .inl (G.2 0, 200, .inl (ldF B))), (za, .inl (G.2 0, 6, .inl zg_398))] H := hP.sub [2, 0, 1] rfl
        have hD9 : va_D A [(m0, .inr (6, [.ref sa, .ref oa, .ref pa, .ref la, .ref za, .ref na, .int gu, .int gt, .int gw, .int gd, .int gm, .int gr, .int (nI ((q_daysTo B v).1)), .int gv])), (la, .inl (G.2 0, 200, .inl (ldF B))), (za, .inl (G.2 0, 6, .inl zg_398))] := hD.sub [2, 0, 1] (by decide) rfl
        exact end_i hx hb hr hlk (rfl) (qc_of ⟨nI 0, ldF B, zg_398, gd, gm, gr⟩ (v := some (.int (nI 0))) (by rfl) (fun h => by rw [hq9] at h; exact absurd h (by decide)) hP9 hD9 (trivial) hS) hS dX4_daysToForm_88 (show 0 ≤ 0 from by first | exact Nat.le_refl _ | decide | omega) (show 0 ≤ 0 from by first | exact Nat.le_refl _ | decide | omega)
      · refine lv_ton (n := n_417) (by first | rfl | (rw [hdf]; rfl)) ?_
        have hd9 := dfF_le 201 (by omega) _ hdf
        have hl : lv_has ls 4 [(0, .ref m0), (1, .int v), (2, .int (nI n_417)), (3, .int (-1))] := by
          have e9 : ((.int (nI n_417)) : Value) = .int (oI (dfF B v 201)) := by first | rfl | (rw [hdf]; rfl)
          rw [e9]; exact hl
        refine n_if_ge (tgt := 75) hx hb (by omega) dX4_daysToForm_68 (by decide) ?_
        refine lv_iconst (v := nI 0) hx hb dX4_daysToForm_75 (by decide) ?_
        refine lv_iconst (v := nI 2) hx hb dX4_daysToForm_76 (by decide) ?_
        have hF := hF_of (wc := [(m0, .inr (6, [.ref sa, .ref oa, .ref pa, .ref la, .ref za, .ref na, .int gu, .int gt, .int gw, .int gd, .int gm, .int gr, .int (nI 0), .int gv]))]) hD hS hA [2] rfl
        refine go_ct hS hP hD [2] [0, 1] hF rfl rfl (by decide) (by decide)
            (va_runV (As := [.int (nI 0), .int (nI 2)]) (rest := []) cf (mX4_isThrown_f l G m0 sa oa pa la za na gu gt gw gd gm gr (nI 0) gv 2  H.size) (cwV 2 hts (lw_V q1650 q1652 qs20 q58 q1653) rfl rfl rfl (by decide +kernel) ⟨Nat.le_of_ble_eq_true rfl, Nat.le_of_ble_eq_true rfl⟩) (preV_of hKB hE hS hF (va_recv hK hP (ci := 6) (q0 := 2) rfl rfl) (va_P.sub hP [2] rfl) ((va_D.sub hD [2] (by decide) rfl).weaken (fun _ _ _ _ => trivial)) trivial) rfl rfl hl.1 rfl (lv_room (Nat.le_of_ble_eq_true rfl)) dX4_daysToForm_77 ⟨show 0 + 0 ≤ 0 from by first | decide | omega, show 0 + 0 ≤ 0 from by first | decide | omega⟩)
            (fun u_ H locs hq hph (hP : va_P G.1 CL [(la, .inl (G.2 0, 200, .inl (ldF B))), (za, .inl (G.2 0, 6, .inl zg_398)), (m0, .inr (6, [.ref sa, .ref oa, .ref pa, .ref la, .ref za, .ref na, .int gu, .int gt, .int gw, .int gd, .int gm, .int gr, .int (nI 0), .int gv]))] H) (hD : va_D A [(la, .inl (G.2 0, 200, .inl (ldF B))), (za, .inl (G.2 0, 6, .inl zg_398)), (m0, .inr (6, [.ref sa, .ref oa, .ref pa, .ref la, .ref za, .ref na, .int gu, .int gt, .int gw, .int gd, .int gm, .int gr, .int (nI 0), .int gv]))]) hS hfz hfk => ?_)
        refine W.eq (g2 := F0 m 80 ls [.int (nI 0)]) rfl ?_
        refine n_if_eq (tgt := 87) hx hb (by omega) dX4_daysToForm_80 (by decide) (fun c_420 => ?_) (fun c_420 => absurd c_420 (by omega))
        refine lv_iload_n hx hb dX4_daysToForm_87 rfl (lv_at hl 2 rfl) ?_
        have hq9 : q_daysTo B v = (0, nI n_417) := by unfold q_daysTo; rw [if_pos hin_409] <;> first | rfl | rw [hdf] | (rw [hdf]; rfl) | (dsimp only; rw [hdf]) | (dsimp only; rw [hdf]; rfl)
        have hP : va_P G.1 CL [(la, .inl (G.2 0, 200, .inl (ldF B))), (za, .inl (G.2 0, 6, .inl zg_398)), (m0, .inr (6, [.ref sa, .ref oa, .ref pa, .ref la, .ref za, .ref na, .int gu, .int gt, .int gw, .int gd, .int gm, .int gr, .int (nI ((q_daysTo B v).1)), .int gv]))] H := by rw [hq9]; exact hP
        have hD : va_D A [(la, .inl (G.2 0, 200, .inl (ldF B))), (za, .inl (G.2 0, 6, .inl zg_398)), (m0, .inr (6, [.ref sa, .ref oa, .ref pa, .ref la, .ref za, .ref na, .int gu, .int gt, .int gw, .int gd, .int gm, .int gr, .int (nI ((q_daysTo B v).1)), .int gv]))] := by rw [hq9]; exact hD
        have hP9 : va_P G.1 CL [(m0, .inr (6, [.ref sa, .ref oa, .ref pa, .ref la, .ref za, .ref na, .int gu, .int gt, .int gw, .int gd, .int gm, .int gr, .int (nI ((q_daysTo B v).1)), .int gv])), (la, .inl (G.2 0, 200, .inl (ldF B))), (za, .inl (G.2 0, 6, .inl zg_398))] H := hP.sub [2, 0, 1] rfl
        have hD9 : va_D A [(m0, .inr (6, [.ref sa, .ref oa, .ref pa, .ref la, .ref za, .ref na, .int gu, .int gt, .int gw, .int gd, .int gm, .int gr, .int (nI ((q_daysTo B v).1)), .int gv])), (la, .inl (G.2 0, 200, .inl (ldF B))), (za, .inl (G.2 0, 6, .inl zg_398))] := hD.sub [2, 0, 1] (by decide) rfl
        exact end_i hx hb hr hlk (rfl) (qc_of ⟨nI n_417, ldF B, zg_398, gd, gm, gr⟩ (v := some (.int (nI n_417))) (by rfl) (fun _ => by rw [hq9]) hP9 hD9 (trivial) hS) hS dX4_daysToForm_88 (show 0 ≤ 0 from by first | exact Nat.le_refl _ | decide | omega) (show 0 ≤ 0 from by first | exact Nat.le_refl _ | decide | omega)
  · have hl : lv_has ls 4 [(0, .ref m0), (1, .int v), (2, .int (oI (dfF B v k_401))), (3, .int (nI j_402))] := by
      have e9 : ((.int (nI j_402)) : Value) = .int (lI (j_402 + 1)) := congrArg Value.int (lI_1 _).symm
      rw [e9]; exact hl
    refine lv_iload_n hx hb dX4_daysToForm_10 rfl (lv_at hl 3 rfl) ?_
    refine n_if_lt (tgt := 42) hx hb (by omega) dX4_daysToForm_11 (by decide) ?_
    refine lv_aload_n hx hb dX4_daysToForm_14 rfl (lv_at hl 0 rfl) ?_
    refine lv_aload_n hx hb dX4_daysToForm_15 rfl (lv_at hl 0 rfl) ?_
    refine va_get hx hb hts in_X4 hown hK hP 0 rfl rfl 0 (by decide) (hts _ q1596) (fun _ h => h) rfl dX4_daysToForm_16 ?_
    refine lv_iconst (v := nI 0) hx hb dX4_daysToForm_19 (by decide) ?_
    refine r_iald (v := nI (bD B)) hx hb hK (hR0.w hS) 0 0 rfl rfl (i := 0) (by omega) (by omega) (hM.today) dX4_daysToForm_20 ?_
    refine lv_iload_n hx hb dX4_daysToForm_21 rfl (lv_at hl 3 rfl) ?_
    refine lv_iadd hx hb dX4_daysToForm_22 ?_
    refine lv_ton (n := (bD B) + j_402) (nadd (by omega)) ?_
    have hF := hF_of (wc := []) hD hS hA [] rfl
    have hro_421 : va_P G.1 CL [(m0, .inr (6, [.ref sa, .ref oa, .ref pa, .ref la, .ref za, .ref na, .int gu, .int gt, .int gw, .int gd, .int gm, .int gr, .int gh, .int gv])), (la, .inl (G.2 0, 200, .inl (ldF B)))] H := (va_P.sub hP [0, 1] rfl)
    refine go_ct hS hP hD [] [0, 1, 2] hF rfl rfl (by decide) (by decide)
        (va_runV (As := [.int (nI ((bD B) + j_402))]) (rest := []) cf (mX4_form l G m0 sa oa pa la za na gu gt gw gd gm gr gh gv B ((bD B) + j_402) (show Inv B from by first | assumption | omega) (show ((bD B) + j_402) ≤ 1000 from by first | assumption | omega) H.size) (cwV 1 hts (lw_V q1833 q1835 qs36 q58 q1836) rfl rfl rfl (by decide +kernel) ⟨Nat.le_of_ble_eq_true rfl, Nat.le_of_ble_eq_true rfl⟩) (preV_of hKB hE hS hF (va_recv hK hP (ci := 6) (q0 := 0) rfl rfl) (va_P.sub hP [] rfl) ((va_D.sub hD [] (by decide) rfl).weaken (fun _ _ _ _ => trivial)) (roW.nil hro_421)) rfl rfl hl.1 rfl (lv_room (Nat.le_of_ble_eq_true rfl)) dX4_daysToForm_23 ⟨show 0 + 0 ≤ 0 from by first | decide | omega, show 0 + 0 ≤ 0 from by first | decide | omega⟩)
        (fun u_ H locs hq hph (hP : va_P G.1 CL [(m0, .inr (6, [.ref sa, .ref oa, .ref pa, .ref la, .ref za, .ref na, .int gu, .int gt, .int gw, .int gd, .int gm, .int gr, .int gh, .int gv])), (la, .inl (G.2 0, 200, .inl (ldF B))), (za, .inl (G.2 0, 6, .inl zg_398))] H) (hD : va_D A [(m0, .inr (6, [.ref sa, .ref oa, .ref pa, .ref la, .ref za, .ref na, .int gu, .int gt, .int gw, .int gd, .int gm, .int gr, .int gh, .int gv])), (la, .inl (G.2 0, 200, .inl (ldF B))), (za, .inl (G.2 0, 6, .inl zg_398))]) hS hfz hfk => ?_)
    refine W.eq (g2 := F0 m 26 ls [.int (formS B ((bD B) + j_402))]) rfl ?_
    refine lv_iload_n hx hb dX4_daysToForm_26 rfl (lv_at hl 1 rfl) ?_
    refine lv_icmp_lt (tgt := 34) hx hb  dX4_daysToForm_27 (by decide) (fun c_422 => ?_) (fun c_422 => ?_)
    · refine lv_iload_n hx hb dX4_daysToForm_34 rfl (lv_at hl 2 rfl) ?_
      refine lv_toi (y := oI (dfF B v (k_401 + 1))) (by simp only [dfF]; rw [show 200 - k_401 = j_402 from by omega, if_neg (Int32.not_le.mpr (by assumption))]) ?_
      refine lv_istore_n (lv' := [(2, .int (oI (dfF B v (k_401 + 1)))), (0, .ref m0), (1, .int v), (3, .int (nI j_402))]) hx hb dX4_daysToForm_35 rfl hl (by decide) rfl (fun ls hl => ?_)
      refine lv_iinc (v := lI j_402) (lv' := [(3, .int (lI j_402)), (2, .int (oI (dfF B v (k_401 + 1)))), (0, .ref m0), (1, .int v)]) hx hb dX4_daysToForm_36 hl (k := 3) rfl (lI_dec _) (by decide) rfl (fun ls hl => ?_)
      refine lv_goto (tgt := 10) hx hb dX4_daysToForm_39 (by decide) ?_
      have hP : va_P G.1 CL [(m0, .inr (6, [.ref sa, .ref oa, .ref pa, .ref la, .ref za, .ref na, .int gu, .int gt, .int gw, .int gd, .int gm, .int gr, .int gh, .int gv])), (la, .inl (G.2 0, 200, .inl (ldF B))), (za, .inl (G.2 0, 6, .inl zg_398))] H := hP.sub [0, 1, 2] rfl
      have hD : va_D A [(m0, .inr (6, [.ref sa, .ref oa, .ref pa, .ref la, .ref za, .ref na, .int gu, .int gt, .int gw, .int gd, .int gm, .int gr, .int gh, .int gv])), (la, .inl (G.2 0, 200, .inl (ldF B))), (za, .inl (G.2 0, 6, .inl zg_398))] := hD.sub [0, 1, 2] (by decide) rfl
      have hl := lv_sub hl [2, 3, 1, 0] (l' := [(0, .ref m0), (1, .int v), (2, .int (oI (dfF B v (k_401 + 1)))), (3, .int (lI j_402))]) rfl
      exact W.widen (show 0 ≤ 0 from by first | exact Nat.le_refl _ | omega) (show 0 ≤ 0 from by first | exact Nat.le_refl _ | omega) (ih10 (j_402, (k_401 + 1)) H locs ls ⟨hP, hD, hS, hl, (show j_402 + (k_401 + 1) = 201 from by omega)⟩ (show j_402 < (j_402 + 1) from by omega))
    · refine lv_iload_n hx hb dX4_daysToForm_30 rfl (lv_at hl 3 rfl) ?_
      refine lv_goto (tgt := 35) hx hb dX4_daysToForm_31 (by decide) ?_
      refine lv_toi (y := oI (dfF B v (k_401 + 1))) (by simp only [dfF]; rw [show 200 - k_401 = j_402 from by omega, if_pos (Int32.not_lt.mp (by assumption))]; rfl) ?_
      refine lv_istore_n (lv' := [(2, .int (oI (dfF B v (k_401 + 1)))), (0, .ref m0), (1, .int v), (3, .int (nI j_402))]) hx hb dX4_daysToForm_35 rfl hl (by decide) rfl (fun ls hl => ?_)
      refine lv_iinc (v := lI j_402) (lv' := [(3, .int (lI j_402)), (2, .int (oI (dfF B v (k_401 + 1)))), (0, .ref m0), (1, .int v)]) hx hb dX4_daysToForm_36 hl (k := 3) rfl (lI_dec _) (by decide) rfl (fun ls hl => ?_)
      refine lv_goto (tgt := 10) hx hb dX4_daysToForm_39 (by decide) ?_
      have hP : va_P G.1 CL [(m0, .inr (6, [.ref sa, .ref oa, .ref pa, .ref la, .ref za, .ref na, .int gu, .int gt, .int gw, .int gd, .int gm, .int gr, .int gh, .int gv])), (la, .inl (G.2 0, 200, .inl (ldF B))), (za, .inl (G.2 0, 6, .inl zg_398))] H := hP.sub [0, 1, 2] rfl
      have hD : va_D A [(m0, .inr (6, [.ref sa, .ref oa, .ref pa, .ref la, .ref za, .ref na, .int gu, .int gt, .int gw, .int gd, .int gm, .int gr, .int gh, .int gv])), (la, .inl (G.2 0, 200, .inl (ldF B))), (za, .inl (G.2 0, 6, .inl zg_398))] := hD.sub [0, 1, 2] (by decide) rfl
      have hl := lv_sub hl [2, 3, 1, 0] (l' := [(0, .ref m0), (1, .int v), (2, .int (oI (dfF B v (k_401 + 1)))), (3, .int (lI j_402))]) rfl
      exact W.widen (show 0 ≤ 0 from by first | exact Nat.le_refl _ | omega) (show 0 ≤ 0 from by first | exact Nat.le_refl _ | omega) (ih10 (j_402, (k_401 + 1)) H locs ls ⟨hP, hD, hS, hl, (show j_402 + (k_401 + 1) = 201 from by omega)⟩ (show j_402 < (j_402 + 1) from by omega))

set_option maxHeartbeats 4000000 in
theorem mX4_isNoRow (l : Launch) (G : Gt) (m0 : Nat) (sa : Nat) (oa : Nat) (pa : Nat) (la : Nat) (za : Nat) (na : Nat) (gu : Int32) (gt : Int32) (gw : Int32) (gd : Int32) (gm : Int32) (gr : Int32) (gh : Int32) (gv : Int32) (f : Nat → Int32) (B : Bk) (v : Int32) (hM : MR f B) (hI : Inv B) : CT l G yX4_isNoRow cX4_isNoRow 2 (some .boolean) ({ frames := 2, cells := 0, slots := 0, locals := 34 } : Room) [.ref m0, .int v] [(m0, .inr (6, [.ref sa, .ref oa, .ref pa, .ref la, .ref za, .ref na, .int gu, .int gt, .int gw, .int gd, .int gm, .int gr, .int gh, .int gv]))] (fun (A : Nat → Prop) (H : Heap) => roW G A H [(sa, .inl (G.2 0, 830, .inl f))]) (S := Nat × Nat) (fun (u_ : Nat × Nat) => some (.int (tI u_.1))) (fun (u_ : Nat × Nat) => (u_.1 = 1 ∧ inR v 1 60 = none) ∨ (u_.1 = 2 ∧ inR v 1 60 = some u_.2 ∧ bD B + 1 < u_.2) ∨ (u_.1 = 0 ∧ inR v 1 60 = some u_.2 ∧ ¬ bD B + 1 < u_.2 ∧ v = nI u_.2 ∧ 1 ≤ u_.2 ∧ u_.2 ≤ 60)) (fun (u_ : Nat × Nat) => [(m0, .inr (6, [.ref sa, .ref oa, .ref pa, .ref la, .ref za, .ref na, .int gu, .int gt, .int gw, .int gd, .int gm, .int gr, .int (nI u_.1), .int gv]))]) (fun (u_ : Nat × Nat) (H : Heap) => True) := by
  refine CT.of (by decide) (Nat.le_of_ble_eq_true rfl) ?_
  intro p e s m below meth c ls A H locs h9 hH0 hP hS
  obtain ⟨cf, hr, hlk, hnm, hKB, hE, -, hD, -, hA, hAw, hR0, hl⟩ := h9
  have hx := cf.1
  have hb := cf.2.1
  have hml := cf.2.2.1
  have hown : s.vm.findClass RX4 = some m.cls := cf.2.2.2.1
  have hts := cf.2.2.2.2
  have hK := hKB.1
  have hl : lv_has ls 2 [(0, .ref m0), (1, .int v)] := hl
  have iN := iv_sN hI
  have iT := iv_tN hI
  have iD := iv_bD hI
  have iE := iv_bE hI
  have iW := iv_id hI
  refine lv_aload_n hx hb dX4_isNoRow_0 rfl (lv_at hl 0 rfl) ?_
  refine lv_iload_n hx hb dX4_isNoRow_1 rfl (lv_at hl 1 rfl) ?_
  refine lv_iconst (v := nI 1) hx hb dX4_isNoRow_2 (by decide) ?_
  refine lv_bipush (v := nI 60) hx hb dX4_isNoRow_3 (by decide) ?_
  have hF := hF_of (wc := []) hD hS hA [] rfl
  refine go_ct hS hP hD [] [0] hF rfl rfl (by decide) (by decide)
      (va_runS (As := [.int v, .int (nI 1), .int (nI 60)]) (rest := [.ref m0]) cf (mX4_isIn l G v (nI 1) (nI 60)  H.size) (va_cwS 3 hts (lw_S q1647 q1648 q58 q1649) rfl rfl rfl (by decide +kernel) ⟨Nat.le_of_ble_eq_true rfl, Nat.le_of_ble_eq_true rfl⟩) (preS_of hKB hE hS hF (va_P.sub hP [] rfl) ((va_D.sub hD [] (by decide) rfl).weaken (fun _ _ _ _ => trivial)) trivial) rfl rfl hl.1 rfl (lv_room (Nat.le_of_ble_eq_true rfl)) dX4_isNoRow_5 ⟨show 0 + 0 ≤ 0 from by first | decide | omega, show 0 + 0 ≤ 0 from by first | decide | omega⟩)
      (fun u_ H locs hq hph (hP : va_P G.1 CL [(m0, .inr (6, [.ref sa, .ref oa, .ref pa, .ref la, .ref za, .ref na, .int gu, .int gt, .int gw, .int gd, .int gm, .int gr, .int gh, .int gv]))] H) (hD : va_D A [(m0, .inr (6, [.ref sa, .ref oa, .ref pa, .ref la, .ref za, .ref na, .int gu, .int gt, .int gw, .int gd, .int gm, .int gr, .int gh, .int gv]))]) hS hfz hfk => ?_)
  obtain ⟨b_423, rfl⟩ : ∃ z, z = u_ := ⟨_, rfl⟩
  have hP : va_P G.1 CL [(m0, .inr (6, [.ref sa, .ref oa, .ref pa, .ref la, .ref za, .ref na, .int gu, .int gt, .int gw, .int gd, .int gm, .int gr, .int gh, .int gv]))] H := hP
  have hD : va_D A [(m0, .inr (6, [.ref sa, .ref oa, .ref pa, .ref la, .ref za, .ref na, .int gu, .int gt, .int gw, .int gd, .int gm, .int gr, .int gh, .int gv]))] := hD
  have hq_424 : (b_423 = true ↔ (nI 1) ≤ v ∧ v ≤ (nI 60)) := hq
  refine W.eq (g2 := F0 m 8 ls [.int (bI b_423), .ref m0]) rfl ?_
  cases b_423
  · refine lv_ton (n := 0) rfl ?_
    have hir_425 : inR v 1 60 = none := inR_none (fun z => absurd (hq_424.mpr z) (by decide))
    refine n_if_ne (tgt := 15) hx hb (by omega) dX4_isNoRow_8 (by decide) (fun c_426 => absurd c_426 (by omega)) (fun c_426 => ?_)
    refine lv_iconst (v := nI 1) hx hb dX4_isNoRow_11 (by decide) ?_
    refine lv_goto (tgt := 16) hx hb dX4_isNoRow_12 (by decide) ?_
    refine lv_iconst (v := nI 1) hx hb dX4_isNoRow_16 (by decide) ?_
    have hF := hF_of (wc := [(m0, .inr (6, [.ref sa, .ref oa, .ref pa, .ref la, .ref za, .ref na, .int gu, .int gt, .int gw, .int gd, .int gm, .int gr, .int gh, .int gv]))]) hD hS hA [0] rfl
    refine go_ct hS hP hD [0] [] hF rfl rfl (by decide) (by decide)
        (va_runV (As := [.int (nI 1), .int (nI 1)]) (rest := []) cf (mX4_isThrown_t l G m0 sa oa pa la za na gu gt gw gd gm gr gh gv 1  H.size) (cwV 2 hts (lw_V q1650 q1652 qs20 q58 q1653) rfl rfl rfl (by decide +kernel) ⟨Nat.le_of_ble_eq_true rfl, Nat.le_of_ble_eq_true rfl⟩) (preV_of hKB hE hS hF (va_recv hK hP (ci := 6) (q0 := 0) rfl rfl) (va_P.sub hP [0] rfl) ((va_D.sub hD [0] (by decide) rfl).weaken (fun _ _ _ _ => trivial)) trivial) rfl rfl hl.1 rfl (lv_room (Nat.le_of_ble_eq_true rfl)) dX4_isNoRow_17 ⟨show 0 + 0 ≤ 0 from by first | decide | omega, show 0 + 0 ≤ 0 from by first | decide | omega⟩)
        (fun u_ H locs hq hph (hP : va_P G.1 CL [(m0, .inr (6, [.ref sa, .ref oa, .ref pa, .ref la, .ref za, .ref na, .int gu, .int gt, .int gw, .int gd, .int gm, .int gr, .int (nI 1), .int gv]))] H) (hD : va_D A [(m0, .inr (6, [.ref sa, .ref oa, .ref pa, .ref la, .ref za, .ref na, .int gu, .int gt, .int gw, .int gd, .int gm, .int gr, .int (nI 1), .int gv]))]) hS hfz hfk => ?_)
    refine W.eq (g2 := F0 m 20 ls [.int (nI 1)]) rfl ?_
    refine n_if_ne (tgt := 48) hx hb (by omega) dX4_isNoRow_20 (by decide) (fun c_427 => ?_) (fun c_427 => absurd c_427 (by omega))
    refine lv_iconst (v := nI 1) hx hb dX4_isNoRow_48 (by decide) ?_
    refine lv_goto (tgt := 53) hx hb dX4_isNoRow_49 (by decide) ?_
    have hP9 : va_P G.1 CL [(m0, .inr (6, [.ref sa, .ref oa, .ref pa, .ref la, .ref za, .ref na, .int gu, .int gt, .int gw, .int gd, .int gm, .int gr, .int (nI 1), .int gv]))] H := hP.sub [0] rfl
    have hD9 : va_D A [(m0, .inr (6, [.ref sa, .ref oa, .ref pa, .ref la, .ref za, .ref na, .int gu, .int gt, .int gw, .int gd, .int gm, .int gr, .int (nI 1), .int gv]))] := hD.sub [0] (by decide) rfl
    exact end_i hx hb hr hlk (by decide) (qc_of ⟨1, 0⟩ (v := some (.int (nI 1))) (by rfl) (Or.inl ⟨rfl, hir_425⟩) hP9 hD9 (trivial) hS) hS dX4_isNoRow_53 (show 0 ≤ 0 from by first | exact Nat.le_refl _ | decide | omega) (show 0 ≤ 0 from by first | exact Nat.le_refl _ | decide | omega)
  · refine lv_ton (n := 1) rfl ?_
    have hin_428 : nI 1 ≤ v ∧ v ≤ nI 60 := hq_424.mp rfl
    obtain ⟨d_429, hv_430, h_431, h_432⟩ := in_nat (lo := 1) (hi := 60) (by omega) (by omega) hin_428.1 hin_428.2
    have hir_433 : inR v 1 60 = some d_429 := inR_some hv_430 h_431 h_432 (by omega)
    have hl : lv_has ls 2 [(0, .ref m0), (1, .int (nI d_429))] := by
      have e9 : ((.int (nI d_429)) : Value) = .int v := by rw [hv_430]
      rw [e9]; exact hl
    refine n_if_ne (tgt := 15) hx hb (by omega) dX4_isNoRow_8 (by decide) (fun c_434 => ?_) (fun c_434 => absurd c_434 (by omega))
    refine lv_iconst (v := nI 0) hx hb dX4_isNoRow_15 (by decide) ?_
    refine lv_iconst (v := nI 1) hx hb dX4_isNoRow_16 (by decide) ?_
    have hF := hF_of (wc := [(m0, .inr (6, [.ref sa, .ref oa, .ref pa, .ref la, .ref za, .ref na, .int gu, .int gt, .int gw, .int gd, .int gm, .int gr, .int gh, .int gv]))]) hD hS hA [0] rfl
    refine go_ct hS hP hD [0] [] hF rfl rfl (by decide) (by decide)
        (va_runV (As := [.int (nI 0), .int (nI 1)]) (rest := []) cf (mX4_isThrown_f l G m0 sa oa pa la za na gu gt gw gd gm gr gh gv 1  H.size) (cwV 2 hts (lw_V q1650 q1652 qs20 q58 q1653) rfl rfl rfl (by decide +kernel) ⟨Nat.le_of_ble_eq_true rfl, Nat.le_of_ble_eq_true rfl⟩) (preV_of hKB hE hS hF (va_recv hK hP (ci := 6) (q0 := 0) rfl rfl) (va_P.sub hP [0] rfl) ((va_D.sub hD [0] (by decide) rfl).weaken (fun _ _ _ _ => trivial)) trivial) rfl rfl hl.1 rfl (lv_room (Nat.le_of_ble_eq_true rfl)) dX4_isNoRow_17 ⟨show 0 + 0 ≤ 0 from by first | decide | omega, show 0 + 0 ≤ 0 from by first | decide | omega⟩)
        (fun u_ H locs hq hph (hP : va_P G.1 CL [(m0, .inr (6, [.ref sa, .ref oa, .ref pa, .ref la, .ref za, .ref na, .int gu, .int gt, .int gw, .int gd, .int gm, .int gr, .int (nI 0), .int gv]))] H) (hD : va_D A [(m0, .inr (6, [.ref sa, .ref oa, .ref pa, .ref la, .ref za, .ref na, .int gu, .int gt, .int gw, .int gd, .int gm, .int gr, .int (nI 0), .int gv]))]) hS hfz hfk => ?_)
    refine W.eq (g2 := F0 m 20 ls [.int (nI 0)]) rfl ?_
    refine n_if_ne (tgt := 48) hx hb (by omega) dX4_isNoRow_20 (by decide) (fun c_435 => absurd c_435 (by omega)) (fun c_435 => ?_)
    refine lv_aload_n hx hb dX4_isNoRow_23 rfl (lv_at hl 0 rfl) ?_
    refine lv_aload_n hx hb dX4_isNoRow_24 rfl (lv_at hl 0 rfl) ?_
    refine va_get hx hb hts in_X4 hown hK hP 0 rfl rfl 0 (by decide) (hts _ q1596) (fun _ h => h) rfl dX4_isNoRow_25 ?_
    refine lv_iconst (v := nI 0) hx hb dX4_isNoRow_28 (by decide) ?_
    refine r_iald (v := nI (bD B)) hx hb hK (hR0.w hS) 0 0 rfl rfl (i := 0) (by omega) (by omega) (hM.today) dX4_isNoRow_29 ?_
    refine lv_iload_n hx hb dX4_isNoRow_30 rfl (lv_at hl 1 rfl) ?_
    refine lv_iconst (v := nI 1) hx hb dX4_isNoRow_31 (by decide) ?_
    refine lv_isub hx hb dX4_isNoRow_32 ?_
    refine lv_ton (n := (d_429 - 1)) (nsub (by omega)) ?_
    refine n_icmp_ge (tgt := 40) hx hb (by omega) (by omega) dX4_isNoRow_33 (by decide) (fun c_436 => ?_) (fun c_436 => ?_)
    · refine lv_iconst (v := nI 0) hx hb dX4_isNoRow_40 (by decide) ?_
      refine lv_iconst (v := nI 2) hx hb dX4_isNoRow_41 (by decide) ?_
      have hF := hF_of (wc := [(m0, .inr (6, [.ref sa, .ref oa, .ref pa, .ref la, .ref za, .ref na, .int gu, .int gt, .int gw, .int gd, .int gm, .int gr, .int (nI 0), .int gv]))]) hD hS hA [0] rfl
      refine go_ct hS hP hD [0] [] hF rfl rfl (by decide) (by decide)
          (va_runV (As := [.int (nI 0), .int (nI 2)]) (rest := []) cf (mX4_isThrown_f l G m0 sa oa pa la za na gu gt gw gd gm gr (nI 0) gv 2  H.size) (cwV 2 hts (lw_V q1650 q1652 qs20 q58 q1653) rfl rfl rfl (by decide +kernel) ⟨Nat.le_of_ble_eq_true rfl, Nat.le_of_ble_eq_true rfl⟩) (preV_of hKB hE hS hF (va_recv hK hP (ci := 6) (q0 := 0) rfl rfl) (va_P.sub hP [0] rfl) ((va_D.sub hD [0] (by decide) rfl).weaken (fun _ _ _ _ => trivial)) trivial) rfl rfl hl.1 rfl (lv_room (Nat.le_of_ble_eq_true rfl)) dX4_isNoRow_42 ⟨show 0 + 0 ≤ 0 from by first | decide | omega, show 0 + 0 ≤ 0 from by first | decide | omega⟩)
          (fun u_ H locs hq hph (hP : va_P G.1 CL [(m0, .inr (6, [.ref sa, .ref oa, .ref pa, .ref la, .ref za, .ref na, .int gu, .int gt, .int gw, .int gd, .int gm, .int gr, .int (nI 0), .int gv]))] H) (hD : va_D A [(m0, .inr (6, [.ref sa, .ref oa, .ref pa, .ref la, .ref za, .ref na, .int gu, .int gt, .int gw, .int gd, .int gm, .int gr, .int (nI 0), .int gv]))]) hS hfz hfk => ?_)
      refine W.eq (g2 := F0 m 45 ls [.int (nI 0)]) rfl ?_
      refine n_if_eq (tgt := 52) hx hb (by omega) dX4_isNoRow_45 (by decide) (fun c_437 => ?_) (fun c_437 => absurd c_437 (by omega))
      refine lv_iconst (v := nI 0) hx hb dX4_isNoRow_52 (by decide) ?_
      have hP9 : va_P G.1 CL [(m0, .inr (6, [.ref sa, .ref oa, .ref pa, .ref la, .ref za, .ref na, .int gu, .int gt, .int gw, .int gd, .int gm, .int gr, .int (nI 0), .int gv]))] H := hP.sub [0] rfl
      have hD9 : va_D A [(m0, .inr (6, [.ref sa, .ref oa, .ref pa, .ref la, .ref za, .ref na, .int gu, .int gt, .int gw, .int gd, .int gm, .int gr, .int (nI 0), .int gv]))] := hD.sub [0] (by decide) rfl
      exact end_i hx hb hr hlk (by decide) (qc_of ⟨0, d_429⟩ (v := some (.int (nI 0))) (by rfl) (Or.inr (Or.inr ⟨rfl, hir_433, by omega, by assumption, by omega, by omega⟩)) hP9 hD9 (trivial) hS) hS dX4_isNoRow_53 (show 0 ≤ 0 from by first | exact Nat.le_refl _ | decide | omega) (show 0 ≤ 0 from by first | exact Nat.le_refl _ | decide | omega)
    · refine lv_iconst (v := nI 1) hx hb dX4_isNoRow_36 (by decide) ?_
      refine lv_goto (tgt := 41) hx hb dX4_isNoRow_37 (by decide) ?_
      refine lv_iconst (v := nI 2) hx hb dX4_isNoRow_41 (by decide) ?_
      have hF := hF_of (wc := [(m0, .inr (6, [.ref sa, .ref oa, .ref pa, .ref la, .ref za, .ref na, .int gu, .int gt, .int gw, .int gd, .int gm, .int gr, .int (nI 0), .int gv]))]) hD hS hA [0] rfl
      refine go_ct hS hP hD [0] [] hF rfl rfl (by decide) (by decide)
          (va_runV (As := [.int (nI 1), .int (nI 2)]) (rest := []) cf (mX4_isThrown_t l G m0 sa oa pa la za na gu gt gw gd gm gr (nI 0) gv 2  H.size) (cwV 2 hts (lw_V q1650 q1652 qs20 q58 q1653) rfl rfl rfl (by decide +kernel) ⟨Nat.le_of_ble_eq_true rfl, Nat.le_of_ble_eq_true rfl⟩) (preV_of hKB hE hS hF (va_recv hK hP (ci := 6) (q0 := 0) rfl rfl) (va_P.sub hP [0] rfl) ((va_D.sub hD [0] (by decide) rfl).weaken (fun _ _ _ _ => trivial)) trivial) rfl rfl hl.1 rfl (lv_room (Nat.le_of_ble_eq_true rfl)) dX4_isNoRow_42 ⟨show 0 + 0 ≤ 0 from by first | decide | omega, show 0 + 0 ≤ 0 from by first | decide | omega⟩)
          (fun u_ H locs hq hph (hP : va_P G.1 CL [(m0, .inr (6, [.ref sa, .ref oa, .ref pa, .ref la, .ref za, .ref na, .int gu, .int gt, .int gw, .int gd, .int gm, .int gr, .int (nI 2), .int gv]))] H) (hD : va_D A [(m0, .inr (6, [.ref sa, .ref oa, .ref pa, .ref la, .ref za, .ref na, .int gu, .int gt, .int gw, .int gd, .int gm, .int gr, .int (nI 2), .int gv]))]) hS hfz hfk => ?_)
      refine W.eq (g2 := F0 m 45 ls [.int (nI 1)]) rfl ?_
      refine n_if_eq (tgt := 52) hx hb (by omega) dX4_isNoRow_45 (by decide) (fun c_438 => absurd c_438 (by omega)) (fun c_438 => ?_)
      refine lv_iconst (v := nI 1) hx hb dX4_isNoRow_48 (by decide) ?_
      refine lv_goto (tgt := 53) hx hb dX4_isNoRow_49 (by decide) ?_
      have hP9 : va_P G.1 CL [(m0, .inr (6, [.ref sa, .ref oa, .ref pa, .ref la, .ref za, .ref na, .int gu, .int gt, .int gw, .int gd, .int gm, .int gr, .int (nI 2), .int gv]))] H := hP.sub [0] rfl
      have hD9 : va_D A [(m0, .inr (6, [.ref sa, .ref oa, .ref pa, .ref la, .ref za, .ref na, .int gu, .int gt, .int gw, .int gd, .int gm, .int gr, .int (nI 2), .int gv]))] := hD.sub [0] (by decide) rfl
      exact end_i hx hb hr hlk (by decide) (qc_of ⟨2, d_429⟩ (v := some (.int (nI 1))) (by rfl) (Or.inr (Or.inl ⟨rfl, hir_433, by omega⟩)) hP9 hD9 (trivial) hS) hS dX4_isNoRow_53 (show 0 ≤ 0 from by first | exact Nat.le_refl _ | decide | omega) (show 0 ≤ 0 from by first | exact Nat.le_refl _ | decide | omega)

set_option maxHeartbeats 4000000 in
theorem mX4_bestDays (l : Launch) (G : Gt) (m0 : Nat) (sa : Nat) (oa : Nat) (pa : Nat) (la : Nat) (za : Nat) (na : Nat) (gu : Int32) (gt : Int32) (gw : Int32) (gd : Int32) (gm : Int32) (gr : Int32) (gh : Int32) (gv : Int32) (f : Nat → Int32) (B : Bk) (lf : Nat → Int32) (zf : Nat → Int32) (v : Int32) (hM : MR f B) (hI : Inv B) : CT l G yX4_bestDays cX4_bestDays 2 (some .int) ({ frames := 7, cells := 0, slots := 0, locals := 150 } : Room) [.ref m0, .int v] [(m0, .inr (6, [.ref sa, .ref oa, .ref pa, .ref la, .ref za, .ref na, .int gu, .int gt, .int gw, .int gd, .int gm, .int gr, .int gh, .int gv])), (la, .inl (G.2 0, 200, .inl lf)), (za, .inl (G.2 0, 6, .inl zf))] (fun (A : Nat → Prop) (H : Heap) => roW G A H [(sa, .inl (G.2 0, 830, .inl f))]) (S := Int32 × (Nat → Int32) × (Nat → Int32) × Int32 × Int32 × Int32) (fun (u_ : Int32 × (Nat → Int32) × (Nat → Int32) × Int32 × Int32 × Int32) => some (.int u_.1)) (fun (u_ : Int32 × (Nat → Int32) × (Nat → Int32) × Int32 × Int32 × Int32) => ((q_bestDays B v).1 = 0 → u_.1 = (q_bestDays B v).2)) (fun (u_ : Int32 × (Nat → Int32) × (Nat → Int32) × Int32 × Int32 × Int32) => [(m0, .inr (6, [.ref sa, .ref oa, .ref pa, .ref la, .ref za, .ref na, .int gu, .int gt, .int gw, .int u_.2.2.2.1, .int u_.2.2.2.2.1, .int u_.2.2.2.2.2, .int (nI ((q_bestDays B v).1)), .int gv])), (la, .inl (G.2 0, 200, .inl u_.2.1)), (za, .inl (G.2 0, 6, .inl u_.2.2.1))]) (fun (u_ : Int32 × (Nat → Int32) × (Nat → Int32) × Int32 × Int32 × Int32) (H : Heap) => True) := by
  refine CT.of (by decide) (Nat.le_of_ble_eq_true rfl) ?_
  intro p e s m below meth c ls A H locs h9 hH0 hP hS
  obtain ⟨cf, hr, hlk, hnm, hKB, hE, -, hD, -, hA, hAw, hR0, hl⟩ := h9
  have hx := cf.1
  have hb := cf.2.1
  have hml := cf.2.2.1
  have hown : s.vm.findClass RX4 = some m.cls := cf.2.2.2.1
  have hts := cf.2.2.2.2
  have hK := hKB.1
  have hl : lv_has ls 2 [(0, .ref m0), (1, .int v)] := hl
  have iN := iv_sN hI
  have iT := iv_tN hI
  have iD := iv_bD hI
  have iE := iv_bE hI
  have iW := iv_id hI
  refine lv_aload_n hx hb dX4_bestDays_0 rfl (lv_at hl 0 rfl) ?_
  refine lv_iload_n hx hb dX4_bestDays_1 rfl (lv_at hl 1 rfl) ?_
  have hF := hF_of (wc := [(m0, .inr (6, [.ref sa, .ref oa, .ref pa, .ref la, .ref za, .ref na, .int gu, .int gt, .int gw, .int gd, .int gm, .int gr, .int gh, .int gv]))]) hD hS hA [0] rfl
  have hro_439 : roW G (va_A [(m0, .inr (6, [.ref sa, .ref oa, .ref pa, .ref la, .ref za, .ref na, .int gu, .int gt, .int gw, .int gd, .int gm, .int gr, .int gh, .int gv]))] H.size) H [(sa, .inl (G.2 0, 830, .inl f))] := ((hR0.kp hF hS.2.1).sub (ws' := [(sa, .inl (G.2 0, 830, .inl f))]) [0] rfl)
  refine go_ct hS hP hD [0] [1, 2] hF rfl rfl (by decide) (by decide)
      (va_runV (As := [.int v]) (rest := []) cf (mX4_isNoRow l G m0 sa oa pa la za na gu gt gw gd gm gr gh gv f B v (show MR f B from by first | assumption | omega) (show Inv B from by first | assumption | omega) H.size) (cwV 1 hts (lw_V q1851 q1853 qs37 q58 q1854) rfl rfl rfl (by decide +kernel) ⟨Nat.le_of_ble_eq_true rfl, Nat.le_of_ble_eq_true rfl⟩) (preV_of hKB hE hS hF (va_recv hK hP (ci := 6) (q0 := 0) rfl rfl) (va_P.sub hP [0] rfl) ((va_D.sub hD [0] (by decide) rfl).weaken (fun _ _ _ _ => trivial)) hro_439) rfl rfl hl.1 rfl (lv_room (Nat.le_of_ble_eq_true rfl)) dX4_bestDays_2 ⟨show 0 + 0 ≤ 0 from by first | decide | omega, show 0 + 0 ≤ 0 from by first | decide | omega⟩)
      (fun u_ H locs hq hph (hP : va_P G.1 CL [(la, .inl (G.2 0, 200, .inl lf)), (za, .inl (G.2 0, 6, .inl zf)), (m0, .inr (6, [.ref sa, .ref oa, .ref pa, .ref la, .ref za, .ref na, .int gu, .int gt, .int gw, .int gd, .int gm, .int gr, .int (nI u_.1), .int gv]))] H) (hD : va_D A [(la, .inl (G.2 0, 200, .inl lf)), (za, .inl (G.2 0, 6, .inl zf)), (m0, .inr (6, [.ref sa, .ref oa, .ref pa, .ref la, .ref za, .ref na, .int gu, .int gt, .int gw, .int gd, .int gm, .int gr, .int (nI u_.1), .int gv]))]) hS hfz hfk => ?_)
  obtain ⟨c9_440, n9_441⟩ := u_
  have hP : va_P G.1 CL [(la, .inl (G.2 0, 200, .inl lf)), (za, .inl (G.2 0, 6, .inl zf)), (m0, .inr (6, [.ref sa, .ref oa, .ref pa, .ref la, .ref za, .ref na, .int gu, .int gt, .int gw, .int gd, .int gm, .int gr, .int (nI c9_440), .int gv]))] H := hP
  have hD : va_D A [(la, .inl (G.2 0, 200, .inl lf)), (za, .inl (G.2 0, 6, .inl zf)), (m0, .inr (6, [.ref sa, .ref oa, .ref pa, .ref la, .ref za, .ref na, .int gu, .int gt, .int gw, .int gd, .int gm, .int gr, .int (nI c9_440), .int gv]))] := hD
  have hq_442 : (c9_440 = 1 ∧ inR v 1 60 = none) ∨ (c9_440 = 2 ∧ inR v 1 60 = some n9_441 ∧ bD B + 1 < n9_441) ∨ (c9_440 = 0 ∧ inR v 1 60 = some n9_441 ∧ ¬ bD B + 1 < n9_441 ∧ v = nI n9_441 ∧ 1 ≤ n9_441 ∧ n9_441 ≤ 60) := hq
  refine W.eq (g2 := F0 m 5 ls [.int (tI c9_440)]) rfl ?_
  rcases hq_442 with ⟨rfl, hrA⟩ | ⟨rfl, hrA, hrB⟩ | ⟨rfl, hrA, hrB, hv9, hn1, hn2⟩
  · refine lv_ton (n := 1) rfl ?_
    refine n_if_eq (tgt := 12) hx hb (by omega) dX4_bestDays_5 (by decide) (fun c_443 => absurd c_443 (by omega)) (fun c_443 => ?_)
    refine lv_iconst (v := nI 0) hx hb dX4_bestDays_8 (by decide) ?_
    refine lv_goto (tgt := 22) hx hb dX4_bestDays_9 (by decide) ?_
    have hq9 : q_bestDays B v = (1, 0) := by unfold q_bestDays q_row; rw [hrA] <;> rfl
    have hP : va_P G.1 CL [(la, .inl (G.2 0, 200, .inl lf)), (za, .inl (G.2 0, 6, .inl zf)), (m0, .inr (6, [.ref sa, .ref oa, .ref pa, .ref la, .ref za, .ref na, .int gu, .int gt, .int gw, .int gd, .int gm, .int gr, .int (nI ((q_bestDays B v).1)), .int gv]))] H := by rw [hq9]; exact hP
    have hD : va_D A [(la, .inl (G.2 0, 200, .inl lf)), (za, .inl (G.2 0, 6, .inl zf)), (m0, .inr (6, [.ref sa, .ref oa, .ref pa, .ref la, .ref za, .ref na, .int gu, .int gt, .int gw, .int gd, .int gm, .int gr, .int (nI ((q_bestDays B v).1)), .int gv]))] := by rw [hq9]; exact hD
    have hP9 : va_P G.1 CL [(m0, .inr (6, [.ref sa, .ref oa, .ref pa, .ref la, .ref za, .ref na, .int gu, .int gt, .int gw, .int gd, .int gm, .int gr, .int (nI ((q_bestDays B v).1)), .int gv])), (la, .inl (G.2 0, 200, .inl lf)), (za, .inl (G.2 0, 6, .inl zf))] H := hP.sub [2, 0, 1] rfl
    have hD9 : va_D A [(m0, .inr (6, [.ref sa, .ref oa, .ref pa, .ref la, .ref za, .ref na, .int gu, .int gt, .int gw, .int gd, .int gm, .int gr, .int (nI ((q_bestDays B v).1)), .int gv])), (la, .inl (G.2 0, 200, .inl lf)), (za, .inl (G.2 0, 6, .inl zf))] := hD.sub [2, 0, 1] (by decide) rfl
    exact end_i hx hb hr hlk (rfl) (qc_of ⟨nI 0, lf, zf, gd, gm, gr⟩ (v := some (.int (nI 0))) (by rfl) (fun h => by rw [hq9] at h; exact absurd h (by decide)) hP9 hD9 (trivial) hS) hS dX4_bestDays_22 (show 0 ≤ 0 from by first | exact Nat.le_refl _ | decide | omega) (show 0 ≤ 0 from by first | exact Nat.le_refl _ | decide | omega)
  · refine lv_ton (n := 1) rfl ?_
    refine n_if_eq (tgt := 12) hx hb (by omega) dX4_bestDays_5 (by decide) (fun c_444 => absurd c_444 (by omega)) (fun c_444 => ?_)
    refine lv_iconst (v := nI 0) hx hb dX4_bestDays_8 (by decide) ?_
    refine lv_goto (tgt := 22) hx hb dX4_bestDays_9 (by decide) ?_
    have hq9 : q_bestDays B v = (2, 0) := by unfold q_bestDays q_row; rw [hrA] <;> first | rfl | rw [if_pos hrB] | (rw [if_pos hrB]; rfl) | (dsimp only; rw [if_pos hrB]) | (dsimp only; rw [if_pos hrB]; rfl)
    have hP : va_P G.1 CL [(la, .inl (G.2 0, 200, .inl lf)), (za, .inl (G.2 0, 6, .inl zf)), (m0, .inr (6, [.ref sa, .ref oa, .ref pa, .ref la, .ref za, .ref na, .int gu, .int gt, .int gw, .int gd, .int gm, .int gr, .int (nI ((q_bestDays B v).1)), .int gv]))] H := by rw [hq9]; exact hP
    have hD : va_D A [(la, .inl (G.2 0, 200, .inl lf)), (za, .inl (G.2 0, 6, .inl zf)), (m0, .inr (6, [.ref sa, .ref oa, .ref pa, .ref la, .ref za, .ref na, .int gu, .int gt, .int gw, .int gd, .int gm, .int gr, .int (nI ((q_bestDays B v).1)), .int gv]))] := by rw [hq9]; exact hD
    have hP9 : va_P G.1 CL [(m0, .inr (6, [.ref sa, .ref oa, .ref pa, .ref la, .ref za, .ref na, .int gu, .int gt, .int gw, .int gd, .int gm, .int gr, .int (nI ((q_bestDays B v).1)), .int gv])), (la, .inl (G.2 0, 200, .inl lf)), (za, .inl (G.2 0, 6, .inl zf))] H := hP.sub [2, 0, 1] rfl
    have hD9 : va_D A [(m0, .inr (6, [.ref sa, .ref oa, .ref pa, .ref la, .ref za, .ref na, .int gu, .int gt, .int gw, .int gd, .int gm, .int gr, .int (nI ((q_bestDays B v).1)), .int gv])), (la, .inl (G.2 0, 200, .inl lf)), (za, .inl (G.2 0, 6, .inl zf))] := hD.sub [2, 0, 1] (by decide) rfl
    exact end_i hx hb hr hlk (rfl) (qc_of ⟨nI 0, lf, zf, gd, gm, gr⟩ (v := some (.int (nI 0))) (by rfl) (fun h => by rw [hq9] at h; exact absurd h (by decide)) hP9 hD9 (trivial) hS) hS dX4_bestDays_22 (show 0 ≤ 0 from by first | exact Nat.le_refl _ | decide | omega) (show 0 ≤ 0 from by first | exact Nat.le_refl _ | decide | omega)
  · refine lv_ton (n := 0) rfl ?_
    have hl : lv_has ls 2 [(0, .ref m0), (1, .int (nI n9_441))] := by
      have e9 : ((.int (nI n9_441)) : Value) = .int v := by rw [hv9]
      rw [e9]; exact hl
    refine n_if_eq (tgt := 12) hx hb (by omega) dX4_bestDays_5 (by decide) (fun c_445 => ?_) (fun c_445 => absurd c_445 (by omega))
    refine lv_aload_n hx hb dX4_bestDays_12 rfl (lv_at hl 0 rfl) ?_
    refine lv_aload_n hx hb dX4_bestDays_13 rfl (lv_at hl 0 rfl) ?_
    refine lv_iload_n hx hb dX4_bestDays_14 rfl (lv_at hl 1 rfl) ?_
    have hF := hF_of (wc := [(la, .inl (G.2 0, 200, .inl lf)), (za, .inl (G.2 0, 6, .inl zf))]) hD hS hA [0, 1] rfl
    have hro_446 : roW G (va_A [(la, .inl (G.2 0, 200, .inl lf)), (za, .inl (G.2 0, 6, .inl zf))] H.size) H [(m0, .inr (6, [.ref sa, .ref oa, .ref pa, .ref la, .ref za, .ref na, .int gu, .int gt, .int gw, .int gd, .int gm, .int gr, .int (nI 0), .int gv])), (sa, .inl (G.2 0, 830, .inl f))] := ((roW.of (w' := [(m0, .inr (6, [.ref sa, .ref oa, .ref pa, .ref la, .ref za, .ref na, .int gu, .int gt, .int gw, .int gd, .int gm, .int gr, .int (nI 0), .int gv]))]) hP hD [0, 1] [2] rfl rfl (by decide)).app ((hR0.kp hF hS.2.1).sub (ws' := [(sa, .inl (G.2 0, 830, .inl f))]) [0] rfl))
    refine go_ct hS hP hD [0, 1] [2] hF rfl rfl (by decide) (by decide)
        (va_runV (As := [.int (nI n9_441)]) (rest := [.ref m0]) cf (mX4_bestRow l G m0 sa oa pa la za na gu gt gw gd gm gr (nI 0) gv f B lf zf n9_441 (show MR f B from by first | assumption | omega) (show Inv B from by first | assumption | omega) (show 1 ≤ n9_441 ∧ n9_441 ≤ bD B + 1 from by first | assumption | omega) H.size) (cwV 1 hts (lw_V q1855 q1857 qs38 q58 q1858) rfl rfl rfl (by decide +kernel) ⟨Nat.le_of_ble_eq_true rfl, Nat.le_of_ble_eq_true rfl⟩) (preV_of hKB hE hS hF (va_recv hK hP (ci := 6) (q0 := 2) rfl rfl) (va_P.sub hP [0, 1] rfl) ((va_D.sub hD [0, 1] (by decide) rfl).weaken (fun _ _ _ _ => trivial)) hro_446) rfl rfl hl.1 rfl (lv_room (Nat.le_of_ble_eq_true rfl)) dX4_bestDays_15 ⟨show 0 + 0 ≤ 0 from by first | decide | omega, show 0 + 0 ≤ 0 from by first | decide | omega⟩)
        (fun u_ H locs hq hph (hP : va_P G.1 CL [(m0, .inr (6, [.ref sa, .ref oa, .ref pa, .ref la, .ref za, .ref na, .int gu, .int gt, .int gw, .int gd, .int gm, .int gr, .int (nI 0), .int gv])), (la, .inl (G.2 0, 200, .inl (ldF B))), (za, .inl (G.2 0, 6, .inl u_))] H) (hD : va_D A [(m0, .inr (6, [.ref sa, .ref oa, .ref pa, .ref la, .ref za, .ref na, .int gu, .int gt, .int gw, .int gd, .int gm, .int gr, .int (nI 0), .int gv])), (la, .inl (G.2 0, 200, .inl (ldF B))), (za, .inl (G.2 0, 6, .inl u_))]) hS hfz hfk => ?_)
    obtain ⟨zg_447, rfl⟩ : ∃ z, z = u_ := ⟨_, rfl⟩
    have hP : va_P G.1 CL [(m0, .inr (6, [.ref sa, .ref oa, .ref pa, .ref la, .ref za, .ref na, .int gu, .int gt, .int gw, .int gd, .int gm, .int gr, .int (nI 0), .int gv])), (la, .inl (G.2 0, 200, .inl (ldF B))), (za, .inl (G.2 0, 6, .inl zg_447))] H := hP
    have hD : va_D A [(m0, .inr (6, [.ref sa, .ref oa, .ref pa, .ref la, .ref za, .ref na, .int gu, .int gt, .int gw, .int gd, .int gm, .int gr, .int (nI 0), .int gv])), (la, .inl (G.2 0, 200, .inl (ldF B))), (za, .inl (G.2 0, 6, .inl zg_447))] := hD
    refine W.eq (g2 := F0 m 18 ls [.int (nI (bestW B n9_441 (bD B + 1 - n9_441))), .ref m0]) rfl ?_
    have hbl := bestW_le B n9_441 (bD B + 1 - n9_441)
    refine lv_iload_n hx hb dX4_bestDays_18 rfl (lv_at hl 1 rfl) ?_
    have hF := hF_of (wc := []) hD hS hA [] rfl
    have hro_448 : va_P G.1 CL [(m0, .inr (6, [.ref sa, .ref oa, .ref pa, .ref la, .ref za, .ref na, .int gu, .int gt, .int gw, .int gd, .int gm, .int gr, .int (nI 0), .int gv])), (la, .inl (G.2 0, 200, .inl (ldF B)))] H := (va_P.sub hP [0, 1] rfl)
    refine go_ct hS hP hD [] [0, 1, 2] hF rfl rfl (by decide) (by decide)
        (va_runV (As := [.int (nI (bestW B n9_441 (bD B + 1 - n9_441))), .int (nI n9_441)]) (rest := []) cf (mX4_row l G m0 sa oa pa la za na gu gt gw gd gm gr (nI 0) gv B (bestW B n9_441 (bD B + 1 - n9_441)) n9_441 (show Inv B from by first | assumption | omega) (show (bestW B n9_441 (bD B + 1 - n9_441)) + n9_441 ≤ 200 from by first | assumption | omega) H.size) (cwV 2 hts (lw_V q1859 q1861 qs39 q58 q1862) rfl rfl rfl (by decide +kernel) ⟨Nat.le_of_ble_eq_true rfl, Nat.le_of_ble_eq_true rfl⟩) (preV_of hKB hE hS hF (va_recv hK hP (ci := 6) (q0 := 0) rfl rfl) (va_P.sub hP [] rfl) ((va_D.sub hD [] (by decide) rfl).weaken (fun _ _ _ _ => trivial)) (roW.nil hro_448)) rfl rfl hl.1 rfl (lv_room (Nat.le_of_ble_eq_true rfl)) dX4_bestDays_19 ⟨show 0 + 0 ≤ 0 from by first | decide | omega, show 0 + 0 ≤ 0 from by first | decide | omega⟩)
        (fun u_ H locs hq hph (hP : va_P G.1 CL [(m0, .inr (6, [.ref sa, .ref oa, .ref pa, .ref la, .ref za, .ref na, .int gu, .int gt, .int gw, .int gd, .int gm, .int gr, .int (nI 0), .int gv])), (la, .inl (G.2 0, 200, .inl (ldF B))), (za, .inl (G.2 0, 6, .inl zg_447))] H) (hD : va_D A [(m0, .inr (6, [.ref sa, .ref oa, .ref pa, .ref la, .ref za, .ref na, .int gu, .int gt, .int gw, .int gd, .int gm, .int gr, .int (nI 0), .int gv])), (la, .inl (G.2 0, 200, .inl (ldF B))), (za, .inl (G.2 0, 6, .inl zg_447))]) hS hfz hfk => ?_)
    refine W.eq (g2 := F0 m 22 ls [.int (nI (rowS B (bestW B n9_441 (bD B + 1 - n9_441)) n9_441))]) rfl ?_
    have hq9 : q_bestDays B v = (0, nI (rowS B (bestW B n9_441 (bD B + 1 - n9_441)) n9_441)) := by unfold q_bestDays q_row; rw [hrA] <;> first | rfl | rw [if_neg hrB] | (rw [if_neg hrB]; rfl) | (dsimp only; rw [if_neg hrB]) | (dsimp only; rw [if_neg hrB]; rfl)
    have hP : va_P G.1 CL [(m0, .inr (6, [.ref sa, .ref oa, .ref pa, .ref la, .ref za, .ref na, .int gu, .int gt, .int gw, .int gd, .int gm, .int gr, .int (nI ((q_bestDays B v).1)), .int gv])), (la, .inl (G.2 0, 200, .inl (ldF B))), (za, .inl (G.2 0, 6, .inl zg_447))] H := by rw [hq9]; exact hP
    have hD : va_D A [(m0, .inr (6, [.ref sa, .ref oa, .ref pa, .ref la, .ref za, .ref na, .int gu, .int gt, .int gw, .int gd, .int gm, .int gr, .int (nI ((q_bestDays B v).1)), .int gv])), (la, .inl (G.2 0, 200, .inl (ldF B))), (za, .inl (G.2 0, 6, .inl zg_447))] := by rw [hq9]; exact hD
    have hP9 : va_P G.1 CL [(m0, .inr (6, [.ref sa, .ref oa, .ref pa, .ref la, .ref za, .ref na, .int gu, .int gt, .int gw, .int gd, .int gm, .int gr, .int (nI ((q_bestDays B v).1)), .int gv])), (la, .inl (G.2 0, 200, .inl (ldF B))), (za, .inl (G.2 0, 6, .inl zg_447))] H := hP.sub [0, 1, 2] rfl
    have hD9 : va_D A [(m0, .inr (6, [.ref sa, .ref oa, .ref pa, .ref la, .ref za, .ref na, .int gu, .int gt, .int gw, .int gd, .int gm, .int gr, .int (nI ((q_bestDays B v).1)), .int gv])), (la, .inl (G.2 0, 200, .inl (ldF B))), (za, .inl (G.2 0, 6, .inl zg_447))] := hD.sub [0, 1, 2] (by decide) rfl
    exact end_i hx hb hr hlk (rfl) (qc_of ⟨nI (rowS B (bestW B n9_441 (bD B + 1 - n9_441)) n9_441), ldF B, zg_447, gd, gm, gr⟩ (v := some (.int (nI (rowS B (bestW B n9_441 (bD B + 1 - n9_441)) n9_441)))) (by rfl) (fun _ => by rw [hq9]) hP9 hD9 (trivial) hS) hS dX4_bestDays_22 (show 0 ≤ 0 from by first | exact Nat.le_refl _ | decide | omega) (show 0 ≤ 0 from by first | exact Nat.le_refl _ | decide | omega)

set_option maxHeartbeats 4000000 in
theorem mX4_bestDaysByTrying (l : Launch) (G : Gt) (m0 : Nat) (sa : Nat) (oa : Nat) (pa : Nat) (la : Nat) (za : Nat) (na : Nat) (gu : Int32) (gt : Int32) (gw : Int32) (gd : Int32) (gm : Int32) (gr : Int32) (gh : Int32) (gv : Int32) (f : Nat → Int32) (B : Bk) (lf : Nat → Int32) (zf : Nat → Int32) (v : Int32) (hM : MR f B) (hI : Inv B) : CT l G yX4_bestDaysByTrying cX4_bestDaysByTrying 2 (some .int) ({ frames := 8, cells := 0, slots := 0, locals := 171 } : Room) [.ref m0, .int v] [(m0, .inr (6, [.ref sa, .ref oa, .ref pa, .ref la, .ref za, .ref na, .int gu, .int gt, .int gw, .int gd, .int gm, .int gr, .int gh, .int gv])), (la, .inl (G.2 0, 200, .inl lf)), (za, .inl (G.2 0, 6, .inl zf))] (fun (A : Nat → Prop) (H : Heap) => roW G A H [(sa, .inl (G.2 0, 830, .inl f))]) (S := Int32 × (Nat → Int32) × (Nat → Int32) × Int32 × Int32 × Int32) (fun (u_ : Int32 × (Nat → Int32) × (Nat → Int32) × Int32 × Int32 × Int32) => some (.int u_.1)) (fun (u_ : Int32 × (Nat → Int32) × (Nat → Int32) × Int32 × Int32 × Int32) => ((q_bestDays B v).1 = 0 → u_.1 = (q_bestDays B v).2)) (fun (u_ : Int32 × (Nat → Int32) × (Nat → Int32) × Int32 × Int32 × Int32) => [(m0, .inr (6, [.ref sa, .ref oa, .ref pa, .ref la, .ref za, .ref na, .int gu, .int gt, .int gw, .int u_.2.2.2.1, .int u_.2.2.2.2.1, .int u_.2.2.2.2.2, .int (nI ((q_bestDays B v).1)), .int gv])), (la, .inl (G.2 0, 200, .inl u_.2.1)), (za, .inl (G.2 0, 6, .inl u_.2.2.1))]) (fun (u_ : Int32 × (Nat → Int32) × (Nat → Int32) × Int32 × Int32 × Int32) (H : Heap) => True) := by
  refine CT.of (by decide) (Nat.le_of_ble_eq_true rfl) ?_
  intro p e s m below meth c ls A H locs h9 hH0 hP hS
  obtain ⟨cf, hr, hlk, hnm, hKB, hE, -, hD, -, hA, hAw, hR0, hl⟩ := h9
  have hx := cf.1
  have hb := cf.2.1
  have hml := cf.2.2.1
  have hown : s.vm.findClass RX4 = some m.cls := cf.2.2.2.1
  have hts := cf.2.2.2.2
  have hK := hKB.1
  have hl : lv_has ls 2 [(0, .ref m0), (1, .int v)] := hl
  have iN := iv_sN hI
  have iT := iv_tN hI
  have iD := iv_bD hI
  have iE := iv_bE hI
  have iW := iv_id hI
  refine lv_aload_n hx hb dX4_bestDaysByTrying_0 rfl (lv_at hl 0 rfl) ?_
  refine lv_iload_n hx hb dX4_bestDaysByTrying_1 rfl (lv_at hl 1 rfl) ?_
  have hF := hF_of (wc := [(m0, .inr (6, [.ref sa, .ref oa, .ref pa, .ref la, .ref za, .ref na, .int gu, .int gt, .int gw, .int gd, .int gm, .int gr, .int gh, .int gv])), (la, .inl (G.2 0, 200, .inl lf)), (za, .inl (G.2 0, 6, .inl zf))]) hD hS hA [0, 1, 2] rfl
  have hro_449 : roW G (va_A [(m0, .inr (6, [.ref sa, .ref oa, .ref pa, .ref la, .ref za, .ref na, .int gu, .int gt, .int gw, .int gd, .int gm, .int gr, .int gh, .int gv])), (la, .inl (G.2 0, 200, .inl lf)), (za, .inl (G.2 0, 6, .inl zf))] H.size) H [(sa, .inl (G.2 0, 830, .inl f))] := ((hR0.kp hF hS.2.1).sub (ws' := [(sa, .inl (G.2 0, 830, .inl f))]) [0] rfl)
  refine go_ct hS hP hD [0, 1, 2] [] hF rfl rfl (by decide) (by decide)
      (va_runV (As := [.int v]) (rest := []) cf (mX4_bestDays l G m0 sa oa pa la za na gu gt gw gd gm gr gh gv f B lf zf v (show MR f B from by first | assumption | omega) (show Inv B from by first | assumption | omega) H.size) (cwV 1 hts (lw_V q1867 q1848 q1849 q58 q1850) rfl rfl rfl (by decide +kernel) ⟨Nat.le_of_ble_eq_true rfl, Nat.le_of_ble_eq_true rfl⟩) (preV_of hKB hE hS hF (va_recv hK hP (ci := 6) (q0 := 0) rfl rfl) (va_P.sub hP [0, 1, 2] rfl) ((va_D.sub hD [0, 1, 2] (by decide) rfl).weaken (fun _ _ _ _ => trivial)) hro_449) rfl rfl hl.1 rfl (lv_room (Nat.le_of_ble_eq_true rfl)) dX4_bestDaysByTrying_2 ⟨show 0 + 0 ≤ 0 from by first | decide | omega, show 0 + 0 ≤ 0 from by first | decide | omega⟩)
      (fun u_ H locs hq hph (hP : va_P G.1 CL [(m0, .inr (6, [.ref sa, .ref oa, .ref pa, .ref la, .ref za, .ref na, .int gu, .int gt, .int gw, .int u_.2.2.2.1, .int u_.2.2.2.2.1, .int u_.2.2.2.2.2, .int (nI ((q_bestDays B v).1)), .int gv])), (la, .inl (G.2 0, 200, .inl u_.2.1)), (za, .inl (G.2 0, 6, .inl u_.2.2.1))] H) (hD : va_D A [(m0, .inr (6, [.ref sa, .ref oa, .ref pa, .ref la, .ref za, .ref na, .int gu, .int gt, .int gw, .int u_.2.2.2.1, .int u_.2.2.2.2.1, .int u_.2.2.2.2.2, .int (nI ((q_bestDays B v).1)), .int gv])), (la, .inl (G.2 0, 200, .inl u_.2.1)), (za, .inl (G.2 0, 6, .inl u_.2.2.1))]) hS hfz hfk => ?_)
  obtain ⟨rr_450, lf2_451, zf2_452, gd2_453, gm2_454, gr2_455⟩ := u_
  have hP : va_P G.1 CL [(m0, .inr (6, [.ref sa, .ref oa, .ref pa, .ref la, .ref za, .ref na, .int gu, .int gt, .int gw, .int gd2_453, .int gm2_454, .int gr2_455, .int (nI ((q_bestDays B v).1)), .int gv])), (la, .inl (G.2 0, 200, .inl lf2_451)), (za, .inl (G.2 0, 6, .inl zf2_452))] H := hP
  have hD : va_D A [(m0, .inr (6, [.ref sa, .ref oa, .ref pa, .ref la, .ref za, .ref na, .int gu, .int gt, .int gw, .int gd2_453, .int gm2_454, .int gr2_455, .int (nI ((q_bestDays B v).1)), .int gv])), (la, .inl (G.2 0, 200, .inl lf2_451)), (za, .inl (G.2 0, 6, .inl zf2_452))] := hD
  have hq_456 : ((q_bestDays B v).1 = 0 → rr_450 = (q_bestDays B v).2) := hq
  refine W.eq (g2 := F0 m 5 ls [.int rr_450]) rfl ?_
  have hP9 : va_P G.1 CL [(m0, .inr (6, [.ref sa, .ref oa, .ref pa, .ref la, .ref za, .ref na, .int gu, .int gt, .int gw, .int gd2_453, .int gm2_454, .int gr2_455, .int (nI ((q_bestDays B v).1)), .int gv])), (la, .inl (G.2 0, 200, .inl lf2_451)), (za, .inl (G.2 0, 6, .inl zf2_452))] H := hP.sub [0, 1, 2] rfl
  have hD9 : va_D A [(m0, .inr (6, [.ref sa, .ref oa, .ref pa, .ref la, .ref za, .ref na, .int gu, .int gt, .int gw, .int gd2_453, .int gm2_454, .int gr2_455, .int (nI ((q_bestDays B v).1)), .int gv])), (la, .inl (G.2 0, 200, .inl lf2_451)), (za, .inl (G.2 0, 6, .inl zf2_452))] := hD.sub [0, 1, 2] (by decide) rfl
  exact end_i hx hb hr hlk (rfl) (qc_of ⟨rr_450, lf2_451, zf2_452, gd2_453, gm2_454, gr2_455⟩ (v := some (.int rr_450)) (by rfl) (hq_456) hP9 hD9 (trivial) hS) hS dX4_bestDaysByTrying_5 (show 0 ≤ 0 from by first | exact Nat.le_refl _ | decide | omega) (show 0 ≤ 0 from by first | exact Nat.le_refl _ | decide | omega)

set_option maxHeartbeats 4000000 in
theorem mX4_bestDaysStart (l : Launch) (G : Gt) (m0 : Nat) (sa : Nat) (oa : Nat) (pa : Nat) (la : Nat) (za : Nat) (na : Nat) (gu : Int32) (gt : Int32) (gw : Int32) (gd : Int32) (gm : Int32) (gr : Int32) (gh : Int32) (gv : Int32) (f : Nat → Int32) (B : Bk) (lf : Nat → Int32) (zf : Nat → Int32) (v : Int32) (hM : MR f B) (hI : Inv B) : CT l G yX4_bestDaysStart cX4_bestDaysStart 2 (some .int) ({ frames := 7, cells := 0, slots := 0, locals := 150 } : Room) [.ref m0, .int v] [(m0, .inr (6, [.ref sa, .ref oa, .ref pa, .ref la, .ref za, .ref na, .int gu, .int gt, .int gw, .int gd, .int gm, .int gr, .int gh, .int gv])), (la, .inl (G.2 0, 200, .inl lf)), (za, .inl (G.2 0, 6, .inl zf))] (fun (A : Nat → Prop) (H : Heap) => roW G A H [(sa, .inl (G.2 0, 830, .inl f))]) (S := Int32 × (Nat → Int32) × (Nat → Int32) × Int32 × Int32 × Int32) (fun (u_ : Int32 × (Nat → Int32) × (Nat → Int32) × Int32 × Int32 × Int32) => some (.int u_.1)) (fun (u_ : Int32 × (Nat → Int32) × (Nat → Int32) × Int32 × Int32 × Int32) => ((q_bestStart B v).1 = 0 → u_.1 = (q_bestStart B v).2)) (fun (u_ : Int32 × (Nat → Int32) × (Nat → Int32) × Int32 × Int32 × Int32) => [(m0, .inr (6, [.ref sa, .ref oa, .ref pa, .ref la, .ref za, .ref na, .int gu, .int gt, .int gw, .int u_.2.2.2.1, .int u_.2.2.2.2.1, .int u_.2.2.2.2.2, .int (nI ((q_bestStart B v).1)), .int gv])), (la, .inl (G.2 0, 200, .inl u_.2.1)), (za, .inl (G.2 0, 6, .inl u_.2.2.1))]) (fun (u_ : Int32 × (Nat → Int32) × (Nat → Int32) × Int32 × Int32 × Int32) (H : Heap) => True) := by
  refine CT.of (by decide) (Nat.le_of_ble_eq_true rfl) ?_
  intro p e s m below meth c ls A H locs h9 hH0 hP hS
  obtain ⟨cf, hr, hlk, hnm, hKB, hE, -, hD, -, hA, hAw, hR0, hl⟩ := h9
  have hx := cf.1
  have hb := cf.2.1
  have hml := cf.2.2.1
  have hown : s.vm.findClass RX4 = some m.cls := cf.2.2.2.1
  have hts := cf.2.2.2.2
  have hK := hKB.1
  have hl : lv_has ls 2 [(0, .ref m0), (1, .int v)] := hl
  have iN := iv_sN hI
  have iT := iv_tN hI
  have iD := iv_bD hI
  have iE := iv_bE hI
  have iW := iv_id hI
  refine lv_aload_n hx hb dX4_bestDaysStart_0 rfl (lv_at hl 0 rfl) ?_
  refine lv_iload_n hx hb dX4_bestDaysStart_1 rfl (lv_at hl 1 rfl) ?_
  have hF := hF_of (wc := [(m0, .inr (6, [.ref sa, .ref oa, .ref pa, .ref la, .ref za, .ref na, .int gu, .int gt, .int gw, .int gd, .int gm, .int gr, .int gh, .int gv]))]) hD hS hA [0] rfl
  have hro_457 : roW G (va_A [(m0, .inr (6, [.ref sa, .ref oa, .ref pa, .ref la, .ref za, .ref na, .int gu, .int gt, .int gw, .int gd, .int gm, .int gr, .int gh, .int gv]))] H.size) H [(sa, .inl (G.2 0, 830, .inl f))] := ((hR0.kp hF hS.2.1).sub (ws' := [(sa, .inl (G.2 0, 830, .inl f))]) [0] rfl)
  refine go_ct hS hP hD [0] [1, 2] hF rfl rfl (by decide) (by decide)
      (va_runV (As := [.int v]) (rest := []) cf (mX4_isNoRow l G m0 sa oa pa la za na gu gt gw gd gm gr gh gv f B v (show MR f B from by first | assumption | omega) (show Inv B from by first | assumption | omega) H.size) (cwV 1 hts (lw_V q1851 q1853 qs37 q58 q1854) rfl rfl rfl (by decide +kernel) ⟨Nat.le_of_ble_eq_true rfl, Nat.le_of_ble_eq_true rfl⟩) (preV_of hKB hE hS hF (va_recv hK hP (ci := 6) (q0 := 0) rfl rfl) (va_P.sub hP [0] rfl) ((va_D.sub hD [0] (by decide) rfl).weaken (fun _ _ _ _ => trivial)) hro_457) rfl rfl hl.1 rfl (lv_room (Nat.le_of_ble_eq_true rfl)) dX4_bestDaysStart_2 ⟨show 0 + 0 ≤ 0 from by first | decide | omega, show 0 + 0 ≤ 0 from by first | decide | omega⟩)
      (fun u_ H locs hq hph (hP : va_P G.1 CL [(la, .inl (G.2 0, 200, .inl lf)), (za, .inl (G.2 0, 6, .inl zf)), (m0, .inr (6, [.ref sa, .ref oa, .ref pa, .ref la, .ref za, .ref na, .int gu, .int gt, .int gw, .int gd, .int gm, .int gr, .int (nI u_.1), .int gv]))] H) (hD : va_D A [(la, .inl (G.2 0, 200, .inl lf)), (za, .inl (G.2 0, 6, .inl zf)), (m0, .inr (6, [.ref sa, .ref oa, .ref pa, .ref la, .ref za, .ref na, .int gu, .int gt, .int gw, .int gd, .int gm, .int gr, .int (nI u_.1), .int gv]))]) hS hfz hfk => ?_)
  obtain ⟨c9_458, n9_459⟩ := u_
  have hP : va_P G.1 CL [(la, .inl (G.2 0, 200, .inl lf)), (za, .inl (G.2 0, 6, .inl zf)), (m0, .inr (6, [.ref sa, .ref oa, .ref pa, .ref la, .ref za, .ref na, .int gu, .int gt, .int gw, .int gd, .int gm, .int gr, .int (nI c9_458), .int gv]))] H := hP
  have hD : va_D A [(la, .inl (G.2 0, 200, .inl lf)), (za, .inl (G.2 0, 6, .inl zf)), (m0, .inr (6, [.ref sa, .ref oa, .ref pa, .ref la, .ref za, .ref na, .int gu, .int gt, .int gw, .int gd, .int gm, .int gr, .int (nI c9_458), .int gv]))] := hD
  have hq_460 : (c9_458 = 1 ∧ inR v 1 60 = none) ∨ (c9_458 = 2 ∧ inR v 1 60 = some n9_459 ∧ bD B + 1 < n9_459) ∨ (c9_458 = 0 ∧ inR v 1 60 = some n9_459 ∧ ¬ bD B + 1 < n9_459 ∧ v = nI n9_459 ∧ 1 ≤ n9_459 ∧ n9_459 ≤ 60) := hq
  refine W.eq (g2 := F0 m 5 ls [.int (tI c9_458)]) rfl ?_
  rcases hq_460 with ⟨rfl, hrA⟩ | ⟨rfl, hrA, hrB⟩ | ⟨rfl, hrA, hrB, hv9, hn1, hn2⟩
  · refine lv_ton (n := 1) rfl ?_
    refine n_if_eq (tgt := 12) hx hb (by omega) dX4_bestDaysStart_5 (by decide) (fun c_461 => absurd c_461 (by omega)) (fun c_461 => ?_)
    refine lv_iconst (v := nI 0) hx hb dX4_bestDaysStart_8 (by decide) ?_
    refine lv_goto (tgt := 17) hx hb dX4_bestDaysStart_9 (by decide) ?_
    have hq9 : q_bestStart B v = (1, 0) := by unfold q_bestStart q_row; rw [hrA] <;> rfl
    have hP : va_P G.1 CL [(la, .inl (G.2 0, 200, .inl lf)), (za, .inl (G.2 0, 6, .inl zf)), (m0, .inr (6, [.ref sa, .ref oa, .ref pa, .ref la, .ref za, .ref na, .int gu, .int gt, .int gw, .int gd, .int gm, .int gr, .int (nI ((q_bestStart B v).1)), .int gv]))] H := by rw [hq9]; exact hP
    have hD : va_D A [(la, .inl (G.2 0, 200, .inl lf)), (za, .inl (G.2 0, 6, .inl zf)), (m0, .inr (6, [.ref sa, .ref oa, .ref pa, .ref la, .ref za, .ref na, .int gu, .int gt, .int gw, .int gd, .int gm, .int gr, .int (nI ((q_bestStart B v).1)), .int gv]))] := by rw [hq9]; exact hD
    have hP9 : va_P G.1 CL [(m0, .inr (6, [.ref sa, .ref oa, .ref pa, .ref la, .ref za, .ref na, .int gu, .int gt, .int gw, .int gd, .int gm, .int gr, .int (nI ((q_bestStart B v).1)), .int gv])), (la, .inl (G.2 0, 200, .inl lf)), (za, .inl (G.2 0, 6, .inl zf))] H := hP.sub [2, 0, 1] rfl
    have hD9 : va_D A [(m0, .inr (6, [.ref sa, .ref oa, .ref pa, .ref la, .ref za, .ref na, .int gu, .int gt, .int gw, .int gd, .int gm, .int gr, .int (nI ((q_bestStart B v).1)), .int gv])), (la, .inl (G.2 0, 200, .inl lf)), (za, .inl (G.2 0, 6, .inl zf))] := hD.sub [2, 0, 1] (by decide) rfl
    exact end_i hx hb hr hlk (rfl) (qc_of ⟨nI 0, lf, zf, gd, gm, gr⟩ (v := some (.int (nI 0))) (by rfl) (fun h => by rw [hq9] at h; exact absurd h (by decide)) hP9 hD9 (trivial) hS) hS dX4_bestDaysStart_17 (show 0 ≤ 0 from by first | exact Nat.le_refl _ | decide | omega) (show 0 ≤ 0 from by first | exact Nat.le_refl _ | decide | omega)
  · refine lv_ton (n := 1) rfl ?_
    refine n_if_eq (tgt := 12) hx hb (by omega) dX4_bestDaysStart_5 (by decide) (fun c_462 => absurd c_462 (by omega)) (fun c_462 => ?_)
    refine lv_iconst (v := nI 0) hx hb dX4_bestDaysStart_8 (by decide) ?_
    refine lv_goto (tgt := 17) hx hb dX4_bestDaysStart_9 (by decide) ?_
    have hq9 : q_bestStart B v = (2, 0) := by unfold q_bestStart q_row; rw [hrA] <;> first | rfl | rw [if_pos hrB] | (rw [if_pos hrB]; rfl) | (dsimp only; rw [if_pos hrB]) | (dsimp only; rw [if_pos hrB]; rfl)
    have hP : va_P G.1 CL [(la, .inl (G.2 0, 200, .inl lf)), (za, .inl (G.2 0, 6, .inl zf)), (m0, .inr (6, [.ref sa, .ref oa, .ref pa, .ref la, .ref za, .ref na, .int gu, .int gt, .int gw, .int gd, .int gm, .int gr, .int (nI ((q_bestStart B v).1)), .int gv]))] H := by rw [hq9]; exact hP
    have hD : va_D A [(la, .inl (G.2 0, 200, .inl lf)), (za, .inl (G.2 0, 6, .inl zf)), (m0, .inr (6, [.ref sa, .ref oa, .ref pa, .ref la, .ref za, .ref na, .int gu, .int gt, .int gw, .int gd, .int gm, .int gr, .int (nI ((q_bestStart B v).1)), .int gv]))] := by rw [hq9]; exact hD
    have hP9 : va_P G.1 CL [(m0, .inr (6, [.ref sa, .ref oa, .ref pa, .ref la, .ref za, .ref na, .int gu, .int gt, .int gw, .int gd, .int gm, .int gr, .int (nI ((q_bestStart B v).1)), .int gv])), (la, .inl (G.2 0, 200, .inl lf)), (za, .inl (G.2 0, 6, .inl zf))] H := hP.sub [2, 0, 1] rfl
    have hD9 : va_D A [(m0, .inr (6, [.ref sa, .ref oa, .ref pa, .ref la, .ref za, .ref na, .int gu, .int gt, .int gw, .int gd, .int gm, .int gr, .int (nI ((q_bestStart B v).1)), .int gv])), (la, .inl (G.2 0, 200, .inl lf)), (za, .inl (G.2 0, 6, .inl zf))] := hD.sub [2, 0, 1] (by decide) rfl
    exact end_i hx hb hr hlk (rfl) (qc_of ⟨nI 0, lf, zf, gd, gm, gr⟩ (v := some (.int (nI 0))) (by rfl) (fun h => by rw [hq9] at h; exact absurd h (by decide)) hP9 hD9 (trivial) hS) hS dX4_bestDaysStart_17 (show 0 ≤ 0 from by first | exact Nat.le_refl _ | decide | omega) (show 0 ≤ 0 from by first | exact Nat.le_refl _ | decide | omega)
  · refine lv_ton (n := 0) rfl ?_
    have hl : lv_has ls 2 [(0, .ref m0), (1, .int (nI n9_459))] := by
      have e9 : ((.int (nI n9_459)) : Value) = .int v := by rw [hv9]
      rw [e9]; exact hl
    refine n_if_eq (tgt := 12) hx hb (by omega) dX4_bestDaysStart_5 (by decide) (fun c_463 => ?_) (fun c_463 => absurd c_463 (by omega))
    refine lv_aload_n hx hb dX4_bestDaysStart_12 rfl (lv_at hl 0 rfl) ?_
    refine lv_iload_n hx hb dX4_bestDaysStart_13 rfl (lv_at hl 1 rfl) ?_
    have hF := hF_of (wc := [(la, .inl (G.2 0, 200, .inl lf)), (za, .inl (G.2 0, 6, .inl zf))]) hD hS hA [0, 1] rfl
    have hro_464 : roW G (va_A [(la, .inl (G.2 0, 200, .inl lf)), (za, .inl (G.2 0, 6, .inl zf))] H.size) H [(m0, .inr (6, [.ref sa, .ref oa, .ref pa, .ref la, .ref za, .ref na, .int gu, .int gt, .int gw, .int gd, .int gm, .int gr, .int (nI 0), .int gv])), (sa, .inl (G.2 0, 830, .inl f))] := ((roW.of (w' := [(m0, .inr (6, [.ref sa, .ref oa, .ref pa, .ref la, .ref za, .ref na, .int gu, .int gt, .int gw, .int gd, .int gm, .int gr, .int (nI 0), .int gv]))]) hP hD [0, 1] [2] rfl rfl (by decide)).app ((hR0.kp hF hS.2.1).sub (ws' := [(sa, .inl (G.2 0, 830, .inl f))]) [0] rfl))
    refine go_ct hS hP hD [0, 1] [2] hF rfl rfl (by decide) (by decide)
        (va_runV (As := [.int (nI n9_459)]) (rest := []) cf (mX4_bestRow l G m0 sa oa pa la za na gu gt gw gd gm gr (nI 0) gv f B lf zf n9_459 (show MR f B from by first | assumption | omega) (show Inv B from by first | assumption | omega) (show 1 ≤ n9_459 ∧ n9_459 ≤ bD B + 1 from by first | assumption | omega) H.size) (cwV 1 hts (lw_V q1855 q1857 qs38 q58 q1858) rfl rfl rfl (by decide +kernel) ⟨Nat.le_of_ble_eq_true rfl, Nat.le_of_ble_eq_true rfl⟩) (preV_of hKB hE hS hF (va_recv hK hP (ci := 6) (q0 := 2) rfl rfl) (va_P.sub hP [0, 1] rfl) ((va_D.sub hD [0, 1] (by decide) rfl).weaken (fun _ _ _ _ => trivial)) hro_464) rfl rfl hl.1 rfl (lv_room (Nat.le_of_ble_eq_true rfl)) dX4_bestDaysStart_14 ⟨show 0 + 0 ≤ 0 from by first | decide | omega, show 0 + 0 ≤ 0 from by first | decide | omega⟩)
        (fun u_ H locs hq hph (hP : va_P G.1 CL [(m0, .inr (6, [.ref sa, .ref oa, .ref pa, .ref la, .ref za, .ref na, .int gu, .int gt, .int gw, .int gd, .int gm, .int gr, .int (nI 0), .int gv])), (la, .inl (G.2 0, 200, .inl (ldF B))), (za, .inl (G.2 0, 6, .inl u_))] H) (hD : va_D A [(m0, .inr (6, [.ref sa, .ref oa, .ref pa, .ref la, .ref za, .ref na, .int gu, .int gt, .int gw, .int gd, .int gm, .int gr, .int (nI 0), .int gv])), (la, .inl (G.2 0, 200, .inl (ldF B))), (za, .inl (G.2 0, 6, .inl u_))]) hS hfz hfk => ?_)
    obtain ⟨zg_465, rfl⟩ : ∃ z, z = u_ := ⟨_, rfl⟩
    have hP : va_P G.1 CL [(m0, .inr (6, [.ref sa, .ref oa, .ref pa, .ref la, .ref za, .ref na, .int gu, .int gt, .int gw, .int gd, .int gm, .int gr, .int (nI 0), .int gv])), (la, .inl (G.2 0, 200, .inl (ldF B))), (za, .inl (G.2 0, 6, .inl zg_465))] H := hP
    have hD : va_D A [(m0, .inr (6, [.ref sa, .ref oa, .ref pa, .ref la, .ref za, .ref na, .int gu, .int gt, .int gw, .int gd, .int gm, .int gr, .int (nI 0), .int gv])), (la, .inl (G.2 0, 200, .inl (ldF B))), (za, .inl (G.2 0, 6, .inl zg_465))] := hD
    refine W.eq (g2 := F0 m 17 ls [.int (nI (bestW B n9_459 (bD B + 1 - n9_459)))]) rfl ?_
    have hq9 : q_bestStart B v = (0, nI (bestW B n9_459 (bD B + 1 - n9_459))) := by unfold q_bestStart q_row; rw [hrA] <;> first | rfl | rw [if_neg hrB] | (rw [if_neg hrB]; rfl) | (dsimp only; rw [if_neg hrB]) | (dsimp only; rw [if_neg hrB]; rfl)
    have hP : va_P G.1 CL [(m0, .inr (6, [.ref sa, .ref oa, .ref pa, .ref la, .ref za, .ref na, .int gu, .int gt, .int gw, .int gd, .int gm, .int gr, .int (nI ((q_bestStart B v).1)), .int gv])), (la, .inl (G.2 0, 200, .inl (ldF B))), (za, .inl (G.2 0, 6, .inl zg_465))] H := by rw [hq9]; exact hP
    have hD : va_D A [(m0, .inr (6, [.ref sa, .ref oa, .ref pa, .ref la, .ref za, .ref na, .int gu, .int gt, .int gw, .int gd, .int gm, .int gr, .int (nI ((q_bestStart B v).1)), .int gv])), (la, .inl (G.2 0, 200, .inl (ldF B))), (za, .inl (G.2 0, 6, .inl zg_465))] := by rw [hq9]; exact hD
    have hP9 : va_P G.1 CL [(m0, .inr (6, [.ref sa, .ref oa, .ref pa, .ref la, .ref za, .ref na, .int gu, .int gt, .int gw, .int gd, .int gm, .int gr, .int (nI ((q_bestStart B v).1)), .int gv])), (la, .inl (G.2 0, 200, .inl (ldF B))), (za, .inl (G.2 0, 6, .inl zg_465))] H := hP.sub [0, 1, 2] rfl
    have hD9 : va_D A [(m0, .inr (6, [.ref sa, .ref oa, .ref pa, .ref la, .ref za, .ref na, .int gu, .int gt, .int gw, .int gd, .int gm, .int gr, .int (nI ((q_bestStart B v).1)), .int gv])), (la, .inl (G.2 0, 200, .inl (ldF B))), (za, .inl (G.2 0, 6, .inl zg_465))] := hD.sub [0, 1, 2] (by decide) rfl
    exact end_i hx hb hr hlk (rfl) (qc_of ⟨nI (bestW B n9_459 (bD B + 1 - n9_459)), ldF B, zg_465, gd, gm, gr⟩ (v := some (.int (nI (bestW B n9_459 (bD B + 1 - n9_459))))) (by rfl) (fun _ => by rw [hq9]) hP9 hD9 (trivial) hS) hS dX4_bestDaysStart_17 (show 0 ≤ 0 from by first | exact Nat.le_refl _ | decide | omega) (show 0 ≤ 0 from by first | exact Nat.le_refl _ | decide | omega)

set_option maxHeartbeats 4000000 in
theorem mX4_isNoEffort (l : Launch) (G : Gt) (m0 : Nat) (sa : Nat) (oa : Nat) (pa : Nat) (la : Nat) (za : Nat) (na : Nat) (gu : Int32) (gt : Int32) (gw : Int32) (gd : Int32) (gm : Int32) (gr : Int32) (gh : Int32) (gv : Int32) (f : Nat → Int32) (B : Bk) (v : Int32) (hM : MR f B) (hI : Inv B) (hRk : RkOk B) : CT l G yX4_isNoEffort cX4_isNoEffort 2 (some .boolean) ({ frames := 5, cells := 0, slots := 0, locals := 108 } : Room) [.ref m0, .int v] [(m0, .inr (6, [.ref sa, .ref oa, .ref pa, .ref la, .ref za, .ref na, .int gu, .int gt, .int gw, .int gd, .int gm, .int gr, .int gh, .int gv]))] (fun (A : Nat → Prop) (H : Heap) => roW G A H [(sa, .inl (G.2 0, 830, .inl f))]) (S := Nat × Nat × Nat) (fun (u_ : Nat × Nat × Nat) => some (.int (tI u_.1))) (fun (u_ : Nat × Nat × Nat) => (u_.1 = 1 ∧ inR v 1 240 = none) ∨ (u_.1 = 2 ∧ inR v 1 240 = some u_.2.1 ∧ ixE B u_.2.1 = none) ∨ (u_.1 = 0 ∧ inR v 1 240 = some u_.2.1 ∧ ixE B u_.2.1 = some u_.2.2 ∧ v = nI u_.2.1 ∧ 1 ≤ u_.2.1 ∧ u_.2.1 ≤ 240 ∧ u_.2.2 < sN B)) (fun (u_ : Nat × Nat × Nat) => [(m0, .inr (6, [.ref sa, .ref oa, .ref pa, .ref la, .ref za, .ref na, .int gu, .int gt, .int gw, .int gd, .int gm, .int gr, .int (nI u_.1), .int gv]))]) (fun (u_ : Nat × Nat × Nat) (H : Heap) => True) := by
  refine CT.of (by decide) (Nat.le_of_ble_eq_true rfl) ?_
  intro p e s m below meth c ls A H locs h9 hH0 hP hS
  obtain ⟨cf, hr, hlk, hnm, hKB, hE, -, hD, -, hA, hAw, hR0, hl⟩ := h9
  have hx := cf.1
  have hb := cf.2.1
  have hml := cf.2.2.1
  have hown : s.vm.findClass RX4 = some m.cls := cf.2.2.2.1
  have hts := cf.2.2.2.2
  have hK := hKB.1
  have hl : lv_has ls 2 [(0, .ref m0), (1, .int v)] := hl
  have iN := iv_sN hI
  have iT := iv_tN hI
  have iD := iv_bD hI
  have iE := iv_bE hI
  have iW := iv_id hI
  refine lv_aload_n hx hb dX4_isNoEffort_0 rfl (lv_at hl 0 rfl) ?_
  refine lv_iload_n hx hb dX4_isNoEffort_1 rfl (lv_at hl 1 rfl) ?_
  refine lv_iconst (v := nI 1) hx hb dX4_isNoEffort_2 (by decide) ?_
  refine lv_sipush (v := nI 240) hx hb dX4_isNoEffort_3 (by decide) ?_
  have hF := hF_of (wc := []) hD hS hA [] rfl
  refine go_ct hS hP hD [] [0] hF rfl rfl (by decide) (by decide)
      (va_runS (As := [.int v, .int (nI 1), .int (nI 240)]) (rest := [.ref m0]) cf (mX4_isIn l G v (nI 1) (nI 240)  H.size) (va_cwS 3 hts (lw_S q1647 q1648 q58 q1649) rfl rfl rfl (by decide +kernel) ⟨Nat.le_of_ble_eq_true rfl, Nat.le_of_ble_eq_true rfl⟩) (preS_of hKB hE hS hF (va_P.sub hP [] rfl) ((va_D.sub hD [] (by decide) rfl).weaken (fun _ _ _ _ => trivial)) trivial) rfl rfl hl.1 rfl (lv_room (Nat.le_of_ble_eq_true rfl)) dX4_isNoEffort_6 ⟨show 0 + 0 ≤ 0 from by first | decide | omega, show 0 + 0 ≤ 0 from by first | decide | omega⟩)
      (fun u_ H locs hq hph (hP : va_P G.1 CL [(m0, .inr (6, [.ref sa, .ref oa, .ref pa, .ref la, .ref za, .ref na, .int gu, .int gt, .int gw, .int gd, .int gm, .int gr, .int gh, .int gv]))] H) (hD : va_D A [(m0, .inr (6, [.ref sa, .ref oa, .ref pa, .ref la, .ref za, .ref na, .int gu, .int gt, .int gw, .int gd, .int gm, .int gr, .int gh, .int gv]))]) hS hfz hfk => ?_)
  obtain ⟨b_466, rfl⟩ : ∃ z, z = u_ := ⟨_, rfl⟩
  have hP : va_P G.1 CL [(m0, .inr (6, [.ref sa, .ref oa, .ref pa, .ref la, .ref za, .ref na, .int gu, .int gt, .int gw, .int gd, .int gm, .int gr, .int gh, .int gv]))] H := hP
  have hD : va_D A [(m0, .inr (6, [.ref sa, .ref oa, .ref pa, .ref la, .ref za, .ref na, .int gu, .int gt, .int gw, .int gd, .int gm, .int gr, .int gh, .int gv]))] := hD
  have hq_467 : (b_466 = true ↔ (nI 1) ≤ v ∧ v ≤ (nI 240)) := hq
  refine W.eq (g2 := F0 m 9 ls [.int (bI b_466), .ref m0]) rfl ?_
  cases b_466
  · refine lv_ton (n := 0) rfl ?_
    have hir_468 : inR v 1 240 = none := inR_none (fun z => absurd (hq_467.mpr z) (by decide))
    refine n_if_ne (tgt := 16) hx hb (by omega) dX4_isNoEffort_9 (by decide) (fun c_469 => absurd c_469 (by omega)) (fun c_469 => ?_)
    refine lv_iconst (v := nI 1) hx hb dX4_isNoEffort_12 (by decide) ?_
    refine lv_goto (tgt := 17) hx hb dX4_isNoEffort_13 (by decide) ?_
    refine lv_iconst (v := nI 1) hx hb dX4_isNoEffort_17 (by decide) ?_
    have hF := hF_of (wc := [(m0, .inr (6, [.ref sa, .ref oa, .ref pa, .ref la, .ref za, .ref na, .int gu, .int gt, .int gw, .int gd, .int gm, .int gr, .int gh, .int gv]))]) hD hS hA [0] rfl
    refine go_ct hS hP hD [0] [] hF rfl rfl (by decide) (by decide)
        (va_runV (As := [.int (nI 1), .int (nI 1)]) (rest := []) cf (mX4_isThrown_t l G m0 sa oa pa la za na gu gt gw gd gm gr gh gv 1  H.size) (cwV 2 hts (lw_V q1650 q1652 qs20 q58 q1653) rfl rfl rfl (by decide +kernel) ⟨Nat.le_of_ble_eq_true rfl, Nat.le_of_ble_eq_true rfl⟩) (preV_of hKB hE hS hF (va_recv hK hP (ci := 6) (q0 := 0) rfl rfl) (va_P.sub hP [0] rfl) ((va_D.sub hD [0] (by decide) rfl).weaken (fun _ _ _ _ => trivial)) trivial) rfl rfl hl.1 rfl (lv_room (Nat.le_of_ble_eq_true rfl)) dX4_isNoEffort_18 ⟨show 0 + 0 ≤ 0 from by first | decide | omega, show 0 + 0 ≤ 0 from by first | decide | omega⟩)
        (fun u_ H locs hq hph (hP : va_P G.1 CL [(m0, .inr (6, [.ref sa, .ref oa, .ref pa, .ref la, .ref za, .ref na, .int gu, .int gt, .int gw, .int gd, .int gm, .int gr, .int (nI 1), .int gv]))] H) (hD : va_D A [(m0, .inr (6, [.ref sa, .ref oa, .ref pa, .ref la, .ref za, .ref na, .int gu, .int gt, .int gw, .int gd, .int gm, .int gr, .int (nI 1), .int gv]))]) hS hfz hfk => ?_)
    refine W.eq (g2 := F0 m 21 ls [.int (nI 1)]) rfl ?_
    refine n_if_ne (tgt := 45) hx hb (by omega) dX4_isNoEffort_21 (by decide) (fun c_470 => ?_) (fun c_470 => absurd c_470 (by omega))
    refine lv_iconst (v := nI 1) hx hb dX4_isNoEffort_45 (by decide) ?_
    refine lv_goto (tgt := 50) hx hb dX4_isNoEffort_46 (by decide) ?_
    have hP9 : va_P G.1 CL [(m0, .inr (6, [.ref sa, .ref oa, .ref pa, .ref la, .ref za, .ref na, .int gu, .int gt, .int gw, .int gd, .int gm, .int gr, .int (nI 1), .int gv]))] H := hP.sub [0] rfl
    have hD9 : va_D A [(m0, .inr (6, [.ref sa, .ref oa, .ref pa, .ref la, .ref za, .ref na, .int gu, .int gt, .int gw, .int gd, .int gm, .int gr, .int (nI 1), .int gv]))] := hD.sub [0] (by decide) rfl
    exact end_i hx hb hr hlk (by decide) (qc_of ⟨1, 0, 0⟩ (v := some (.int (nI 1))) (by rfl) (Or.inl ⟨rfl, hir_468⟩) hP9 hD9 (trivial) hS) hS dX4_isNoEffort_50 (show 0 ≤ 0 from by first | exact Nat.le_refl _ | decide | omega) (show 0 ≤ 0 from by first | exact Nat.le_refl _ | decide | omega)
  · refine lv_ton (n := 1) rfl ?_
    have hin_471 : nI 1 ≤ v ∧ v ≤ nI 240 := hq_467.mp rfl
    obtain ⟨d_472, hv_473, h_474, h_475⟩ := in_nat (lo := 1) (hi := 240) (by omega) (by omega) hin_471.1 hin_471.2
    have hir_476 : inR v 1 240 = some d_472 := inR_some hv_473 h_474 h_475 (by omega)
    have hl : lv_has ls 2 [(0, .ref m0), (1, .int (nI d_472))] := by
      have e9 : ((.int (nI d_472)) : Value) = .int v := by rw [hv_473]
      rw [e9]; exact hl
    refine n_if_ne (tgt := 16) hx hb (by omega) dX4_isNoEffort_9 (by decide) (fun c_477 => ?_) (fun c_477 => absurd c_477 (by omega))
    refine lv_iconst (v := nI 0) hx hb dX4_isNoEffort_16 (by decide) ?_
    refine lv_iconst (v := nI 1) hx hb dX4_isNoEffort_17 (by decide) ?_
    have hF := hF_of (wc := [(m0, .inr (6, [.ref sa, .ref oa, .ref pa, .ref la, .ref za, .ref na, .int gu, .int gt, .int gw, .int gd, .int gm, .int gr, .int gh, .int gv]))]) hD hS hA [0] rfl
    refine go_ct hS hP hD [0] [] hF rfl rfl (by decide) (by decide)
        (va_runV (As := [.int (nI 0), .int (nI 1)]) (rest := []) cf (mX4_isThrown_f l G m0 sa oa pa la za na gu gt gw gd gm gr gh gv 1  H.size) (cwV 2 hts (lw_V q1650 q1652 qs20 q58 q1653) rfl rfl rfl (by decide +kernel) ⟨Nat.le_of_ble_eq_true rfl, Nat.le_of_ble_eq_true rfl⟩) (preV_of hKB hE hS hF (va_recv hK hP (ci := 6) (q0 := 0) rfl rfl) (va_P.sub hP [0] rfl) ((va_D.sub hD [0] (by decide) rfl).weaken (fun _ _ _ _ => trivial)) trivial) rfl rfl hl.1 rfl (lv_room (Nat.le_of_ble_eq_true rfl)) dX4_isNoEffort_18 ⟨show 0 + 0 ≤ 0 from by first | decide | omega, show 0 + 0 ≤ 0 from by first | decide | omega⟩)
        (fun u_ H locs hq hph (hP : va_P G.1 CL [(m0, .inr (6, [.ref sa, .ref oa, .ref pa, .ref la, .ref za, .ref na, .int gu, .int gt, .int gw, .int gd, .int gm, .int gr, .int (nI 0), .int gv]))] H) (hD : va_D A [(m0, .inr (6, [.ref sa, .ref oa, .ref pa, .ref la, .ref za, .ref na, .int gu, .int gt, .int gw, .int gd, .int gm, .int gr, .int (nI 0), .int gv]))]) hS hfz hfk => ?_)
    refine W.eq (g2 := F0 m 21 ls [.int (nI 0)]) rfl ?_
    refine n_if_ne (tgt := 45) hx hb (by omega) dX4_isNoEffort_21 (by decide) (fun c_478 => absurd c_478 (by omega)) (fun c_478 => ?_)
    refine lv_aload_n hx hb dX4_isNoEffort_24 rfl (lv_at hl 0 rfl) ?_
    refine lv_aload_n hx hb dX4_isNoEffort_25 rfl (lv_at hl 0 rfl) ?_
    refine lv_iload_n hx hb dX4_isNoEffort_26 rfl (lv_at hl 1 rfl) ?_
    have hF := hF_of (wc := []) hD hS hA [] rfl
    have hro_479 : va_P G.1 CL [(m0, .inr (6, [.ref sa, .ref oa, .ref pa, .ref la, .ref za, .ref na, .int gu, .int gt, .int gw, .int gd, .int gm, .int gr, .int (nI 0), .int gv])), (sa, .inl (G.2 0, 830, .inl f))] H := ((va_P.sub hP [0] rfl).app ((hR0.w hS).sub [0] rfl))
    refine go_ct hS hP hD [] [0] hF rfl rfl (by decide) (by decide)
        (va_runV (As := [.int (nI d_472)]) (rest := [.ref m0]) cf (mX4_strongest l G m0 sa oa pa la za na gu gt gw gd gm gr (nI 0) gv f B d_472 (show MR f B from by first | assumption | omega) (show Inv B from by first | assumption | omega) (show 1 ≤ d_472 ∧ d_472 ≤ 240 from by first | assumption | omega) (show RkOk B from by first | assumption | omega) H.size) (cwV 1 hts (lw_V q1880 q1882 qs41 q58 q1883) rfl rfl rfl (by decide +kernel) ⟨Nat.le_of_ble_eq_true rfl, Nat.le_of_ble_eq_true rfl⟩) (preV_of hKB hE hS hF (va_recv hK hP (ci := 6) (q0 := 0) rfl rfl) (va_P.sub hP [] rfl) ((va_D.sub hD [] (by decide) rfl).weaken (fun _ _ _ _ => trivial)) (roW.nil hro_479)) rfl rfl hl.1 rfl (lv_room (Nat.le_of_ble_eq_true rfl)) dX4_isNoEffort_27 ⟨show 0 + 0 ≤ 0 from by first | decide | omega, show 0 + 0 ≤ 0 from by first | decide | omega⟩)
        (fun u_ H locs hq hph (hP : va_P G.1 CL [(m0, .inr (6, [.ref sa, .ref oa, .ref pa, .ref la, .ref za, .ref na, .int gu, .int gt, .int gw, .int gd, .int gm, .int gr, .int (nI 0), .int gv]))] H) (hD : va_D A [(m0, .inr (6, [.ref sa, .ref oa, .ref pa, .ref la, .ref za, .ref na, .int gu, .int gt, .int gw, .int gd, .int gm, .int gr, .int (nI 0), .int gv]))]) hS hfz hfk => ?_)
    obtain ⟨fo_480, rfl⟩ : ∃ z, z = u_ := ⟨_, rfl⟩
    have hP : va_P G.1 CL [(m0, .inr (6, [.ref sa, .ref oa, .ref pa, .ref la, .ref za, .ref na, .int gu, .int gt, .int gw, .int gd, .int gm, .int gr, .int (nI 0), .int gv]))] H := hP
    have hD : va_D A [(m0, .inr (6, [.ref sa, .ref oa, .ref pa, .ref la, .ref za, .ref na, .int gu, .int gt, .int gw, .int gd, .int gm, .int gr, .int (nI 0), .int gv]))] := hD
    have hq_481 : ST B d_472 (sN B) fo_480 := hq
    refine W.eq (g2 := F0 m 30 ls [.int (oI fo_480), .ref m0]) rfl ?_
    have hxe := ixE_eq hI hq_481
    rcases fo_480 with _ | k_482
    · refine lv_toi (y := (-1)) rfl ?_
      have hxe2 := hxe
      refine lv_if_ge (tgt := 37) hx hb dX4_isNoEffort_30 (by decide) (fun c_483 => absurd c_483 (by decide)) (fun c_483 => ?_)
      refine lv_iconst (v := nI 1) hx hb dX4_isNoEffort_33 (by decide) ?_
      refine lv_goto (tgt := 38) hx hb dX4_isNoEffort_34 (by decide) ?_
      refine lv_iconst (v := nI 2) hx hb dX4_isNoEffort_38 (by decide) ?_
      have hF := hF_of (wc := [(m0, .inr (6, [.ref sa, .ref oa, .ref pa, .ref la, .ref za, .ref na, .int gu, .int gt, .int gw, .int gd, .int gm, .int gr, .int (nI 0), .int gv]))]) hD hS hA [0] rfl
      refine go_ct hS hP hD [0] [] hF rfl rfl (by decide) (by decide)
          (va_runV (As := [.int (nI 1), .int (nI 2)]) (rest := []) cf (mX4_isThrown_t l G m0 sa oa pa la za na gu gt gw gd gm gr (nI 0) gv 2  H.size) (cwV 2 hts (lw_V q1650 q1652 qs20 q58 q1653) rfl rfl rfl (by decide +kernel) ⟨Nat.le_of_ble_eq_true rfl, Nat.le_of_ble_eq_true rfl⟩) (preV_of hKB hE hS hF (va_recv hK hP (ci := 6) (q0 := 0) rfl rfl) (va_P.sub hP [0] rfl) ((va_D.sub hD [0] (by decide) rfl).weaken (fun _ _ _ _ => trivial)) trivial) rfl rfl hl.1 rfl (lv_room (Nat.le_of_ble_eq_true rfl)) dX4_isNoEffort_39 ⟨show 0 + 0 ≤ 0 from by first | decide | omega, show 0 + 0 ≤ 0 from by first | decide | omega⟩)
          (fun u_ H locs hq hph (hP : va_P G.1 CL [(m0, .inr (6, [.ref sa, .ref oa, .ref pa, .ref la, .ref za, .ref na, .int gu, .int gt, .int gw, .int gd, .int gm, .int gr, .int (nI 2), .int gv]))] H) (hD : va_D A [(m0, .inr (6, [.ref sa, .ref oa, .ref pa, .ref la, .ref za, .ref na, .int gu, .int gt, .int gw, .int gd, .int gm, .int gr, .int (nI 2), .int gv]))]) hS hfz hfk => ?_)
      refine W.eq (g2 := F0 m 42 ls [.int (nI 1)]) rfl ?_
      refine n_if_eq (tgt := 49) hx hb (by omega) dX4_isNoEffort_42 (by decide) (fun c_484 => absurd c_484 (by omega)) (fun c_484 => ?_)
      refine lv_iconst (v := nI 1) hx hb dX4_isNoEffort_45 (by decide) ?_
      refine lv_goto (tgt := 50) hx hb dX4_isNoEffort_46 (by decide) ?_
      have hP9 : va_P G.1 CL [(m0, .inr (6, [.ref sa, .ref oa, .ref pa, .ref la, .ref za, .ref na, .int gu, .int gt, .int gw, .int gd, .int gm, .int gr, .int (nI 2), .int gv]))] H := hP.sub [0] rfl
      have hD9 : va_D A [(m0, .inr (6, [.ref sa, .ref oa, .ref pa, .ref la, .ref za, .ref na, .int gu, .int gt, .int gw, .int gd, .int gm, .int gr, .int (nI 2), .int gv]))] := hD.sub [0] (by decide) rfl
      exact end_i hx hb hr hlk (by decide) (qc_of ⟨2, d_472, 0⟩ (v := some (.int (nI 1))) (by rfl) (Or.inr (Or.inl ⟨rfl, hir_476, hxe⟩)) hP9 hD9 (trivial) hS) hS dX4_isNoEffort_50 (show 0 ≤ 0 from by first | exact Nat.le_refl _ | decide | omega) (show 0 ≤ 0 from by first | exact Nat.le_refl _ | decide | omega)
    · refine lv_ton (n := k_482) rfl ?_
      have hkk : k_482 < sN B := (hq_481).1
      refine n_if_ge (tgt := 37) hx hb (by omega) dX4_isNoEffort_30 (by decide) ?_
      refine lv_iconst (v := nI 0) hx hb dX4_isNoEffort_37 (by decide) ?_
      refine lv_iconst (v := nI 2) hx hb dX4_isNoEffort_38 (by decide) ?_
      have hF := hF_of (wc := [(m0, .inr (6, [.ref sa, .ref oa, .ref pa, .ref la, .ref za, .ref na, .int gu, .int gt, .int gw, .int gd, .int gm, .int gr, .int (nI 0), .int gv]))]) hD hS hA [0] rfl
      refine go_ct hS hP hD [0] [] hF rfl rfl (by decide) (by decide)
          (va_runV (As := [.int (nI 0), .int (nI 2)]) (rest := []) cf (mX4_isThrown_f l G m0 sa oa pa la za na gu gt gw gd gm gr (nI 0) gv 2  H.size) (cwV 2 hts (lw_V q1650 q1652 qs20 q58 q1653) rfl rfl rfl (by decide +kernel) ⟨Nat.le_of_ble_eq_true rfl, Nat.le_of_ble_eq_true rfl⟩) (preV_of hKB hE hS hF (va_recv hK hP (ci := 6) (q0 := 0) rfl rfl) (va_P.sub hP [0] rfl) ((va_D.sub hD [0] (by decide) rfl).weaken (fun _ _ _ _ => trivial)) trivial) rfl rfl hl.1 rfl (lv_room (Nat.le_of_ble_eq_true rfl)) dX4_isNoEffort_39 ⟨show 0 + 0 ≤ 0 from by first | decide | omega, show 0 + 0 ≤ 0 from by first | decide | omega⟩)
          (fun u_ H locs hq hph (hP : va_P G.1 CL [(m0, .inr (6, [.ref sa, .ref oa, .ref pa, .ref la, .ref za, .ref na, .int gu, .int gt, .int gw, .int gd, .int gm, .int gr, .int (nI 0), .int gv]))] H) (hD : va_D A [(m0, .inr (6, [.ref sa, .ref oa, .ref pa, .ref la, .ref za, .ref na, .int gu, .int gt, .int gw, .int gd, .int gm, .int gr, .int (nI 0), .int gv]))]) hS hfz hfk => ?_)
      refine W.eq (g2 := F0 m 42 ls [.int (nI 0)]) rfl ?_
      refine n_if_eq (tgt := 49) hx hb (by omega) dX4_isNoEffort_42 (by decide) (fun c_485 => ?_) (fun c_485 => absurd c_485 (by omega))
      refine lv_iconst (v := nI 0) hx hb dX4_isNoEffort_49 (by decide) ?_
      have hP9 : va_P G.1 CL [(m0, .inr (6, [.ref sa, .ref oa, .ref pa, .ref la, .ref za, .ref na, .int gu, .int gt, .int gw, .int gd, .int gm, .int gr, .int (nI 0), .int gv]))] H := hP.sub [0] rfl
      have hD9 : va_D A [(m0, .inr (6, [.ref sa, .ref oa, .ref pa, .ref la, .ref za, .ref na, .int gu, .int gt, .int gw, .int gd, .int gm, .int gr, .int (nI 0), .int gv]))] := hD.sub [0] (by decide) rfl
      exact end_i hx hb hr hlk (by decide) (qc_of ⟨0, d_472, k_482⟩ (v := some (.int (nI 0))) (by rfl) (Or.inr (Or.inr ⟨rfl, hir_476, hxe, by assumption, by omega, by omega, hkk⟩)) hP9 hD9 (trivial) hS) hS dX4_isNoEffort_50 (show 0 ≤ 0 from by first | exact Nat.le_refl _ | decide | omega) (show 0 ≤ 0 from by first | exact Nat.le_refl _ | decide | omega)

set_option maxHeartbeats 4000000 in
theorem mX4_bestEffort (l : Launch) (G : Gt) (m0 : Nat) (sa : Nat) (oa : Nat) (pa : Nat) (la : Nat) (za : Nat) (na : Nat) (gu : Int32) (gt : Int32) (gw : Int32) (gd : Int32) (gm : Int32) (gr : Int32) (gh : Int32) (gv : Int32) (f : Nat → Int32) (B : Bk) (lf : Nat → Int32) (zf : Nat → Int32) (v : Int32) (hM : MR f B) (hI : Inv B) (hRk : RkOk B) : CT l G yX4_bestEffort cX4_bestEffort 2 (some .int) ({ frames := 6, cells := 0, slots := 0, locals := 129 } : Room) [.ref m0, .int v] [(m0, .inr (6, [.ref sa, .ref oa, .ref pa, .ref la, .ref za, .ref na, .int gu, .int gt, .int gw, .int gd, .int gm, .int gr, .int gh, .int gv])), (la, .inl (G.2 0, 200, .inl lf)), (za, .inl (G.2 0, 6, .inl zf))] (fun (A : Nat → Prop) (H : Heap) => roW G A H [(sa, .inl (G.2 0, 830, .inl f))]) (S := Int32 × (Nat → Int32) × (Nat → Int32) × Int32 × Int32 × Int32) (fun (u_ : Int32 × (Nat → Int32) × (Nat → Int32) × Int32 × Int32 × Int32) => some (.int u_.1)) (fun (u_ : Int32 × (Nat → Int32) × (Nat → Int32) × Int32 × Int32 × Int32) => ((q_bestEff B v).1 = 0 → u_.1 = (q_bestEff B v).2)) (fun (u_ : Int32 × (Nat → Int32) × (Nat → Int32) × Int32 × Int32 × Int32) => [(m0, .inr (6, [.ref sa, .ref oa, .ref pa, .ref la, .ref za, .ref na, .int gu, .int gt, .int gw, .int u_.2.2.2.1, .int u_.2.2.2.2.1, .int u_.2.2.2.2.2, .int (nI ((q_bestEff B v).1)), .int gv])), (la, .inl (G.2 0, 200, .inl u_.2.1)), (za, .inl (G.2 0, 6, .inl u_.2.2.1))]) (fun (u_ : Int32 × (Nat → Int32) × (Nat → Int32) × Int32 × Int32 × Int32) (H : Heap) => True) := by
  refine CT.of (by decide) (Nat.le_of_ble_eq_true rfl) ?_
  intro p e s m below meth c ls A H locs h9 hH0 hP hS
  obtain ⟨cf, hr, hlk, hnm, hKB, hE, -, hD, -, hA, hAw, hR0, hl⟩ := h9
  have hx := cf.1
  have hb := cf.2.1
  have hml := cf.2.2.1
  have hown : s.vm.findClass RX4 = some m.cls := cf.2.2.2.1
  have hts := cf.2.2.2.2
  have hK := hKB.1
  have hl : lv_has ls 2 [(0, .ref m0), (1, .int v)] := hl
  have iN := iv_sN hI
  have iT := iv_tN hI
  have iD := iv_bD hI
  have iE := iv_bE hI
  have iW := iv_id hI
  refine lv_aload_n hx hb dX4_bestEffort_0 rfl (lv_at hl 0 rfl) ?_
  refine lv_iload_n hx hb dX4_bestEffort_1 rfl (lv_at hl 1 rfl) ?_
  have hF := hF_of (wc := [(m0, .inr (6, [.ref sa, .ref oa, .ref pa, .ref la, .ref za, .ref na, .int gu, .int gt, .int gw, .int gd, .int gm, .int gr, .int gh, .int gv]))]) hD hS hA [0] rfl
  have hro_486 : roW G (va_A [(m0, .inr (6, [.ref sa, .ref oa, .ref pa, .ref la, .ref za, .ref na, .int gu, .int gt, .int gw, .int gd, .int gm, .int gr, .int gh, .int gv]))] H.size) H [(sa, .inl (G.2 0, 830, .inl f))] := ((hR0.kp hF hS.2.1).sub (ws' := [(sa, .inl (G.2 0, 830, .inl f))]) [0] rfl)
  refine go_ct hS hP hD [0] [1, 2] hF rfl rfl (by decide) (by decide)
      (va_runV (As := [.int v]) (rest := []) cf (mX4_isNoEffort l G m0 sa oa pa la za na gu gt gw gd gm gr gh gv f B v (show MR f B from by first | assumption | omega) (show Inv B from by first | assumption | omega) (show RkOk B from by first | assumption | omega) H.size) (cwV 1 hts (lw_V q1876 q1878 qs40 q58 q1879) rfl rfl rfl (by decide +kernel) ⟨Nat.le_of_ble_eq_true rfl, Nat.le_of_ble_eq_true rfl⟩) (preV_of hKB hE hS hF (va_recv hK hP (ci := 6) (q0 := 0) rfl rfl) (va_P.sub hP [0] rfl) ((va_D.sub hD [0] (by decide) rfl).weaken (fun _ _ _ _ => trivial)) hro_486) rfl rfl hl.1 rfl (lv_room (Nat.le_of_ble_eq_true rfl)) dX4_bestEffort_2 ⟨show 0 + 0 ≤ 0 from by first | decide | omega, show 0 + 0 ≤ 0 from by first | decide | omega⟩)
      (fun u_ H locs hq hph (hP : va_P G.1 CL [(la, .inl (G.2 0, 200, .inl lf)), (za, .inl (G.2 0, 6, .inl zf)), (m0, .inr (6, [.ref sa, .ref oa, .ref pa, .ref la, .ref za, .ref na, .int gu, .int gt, .int gw, .int gd, .int gm, .int gr, .int (nI u_.1), .int gv]))] H) (hD : va_D A [(la, .inl (G.2 0, 200, .inl lf)), (za, .inl (G.2 0, 6, .inl zf)), (m0, .inr (6, [.ref sa, .ref oa, .ref pa, .ref la, .ref za, .ref na, .int gu, .int gt, .int gw, .int gd, .int gm, .int gr, .int (nI u_.1), .int gv]))]) hS hfz hfk => ?_)
  obtain ⟨c9_487, n9_488, k9_489⟩ := u_
  have hP : va_P G.1 CL [(la, .inl (G.2 0, 200, .inl lf)), (za, .inl (G.2 0, 6, .inl zf)), (m0, .inr (6, [.ref sa, .ref oa, .ref pa, .ref la, .ref za, .ref na, .int gu, .int gt, .int gw, .int gd, .int gm, .int gr, .int (nI c9_487), .int gv]))] H := hP
  have hD : va_D A [(la, .inl (G.2 0, 200, .inl lf)), (za, .inl (G.2 0, 6, .inl zf)), (m0, .inr (6, [.ref sa, .ref oa, .ref pa, .ref la, .ref za, .ref na, .int gu, .int gt, .int gw, .int gd, .int gm, .int gr, .int (nI c9_487), .int gv]))] := hD
  have hq_490 : (c9_487 = 1 ∧ inR v 1 240 = none) ∨ (c9_487 = 2 ∧ inR v 1 240 = some n9_488 ∧ ixE B n9_488 = none) ∨ (c9_487 = 0 ∧ inR v 1 240 = some n9_488 ∧ ixE B n9_488 = some k9_489 ∧ v = nI n9_488 ∧ 1 ≤ n9_488 ∧ n9_488 ≤ 240 ∧ k9_489 < sN B) := hq
  refine W.eq (g2 := F0 m 5 ls [.int (tI c9_487)]) rfl ?_
  rcases hq_490 with ⟨rfl, hrA⟩ | ⟨rfl, hrA, hrB⟩ | ⟨rfl, hrA, hrB, hv9, hn1, hn2, hkk⟩
  · refine lv_ton (n := 1) rfl ?_
    refine n_if_eq (tgt := 12) hx hb (by omega) dX4_bestEffort_5 (by decide) (fun c_491 => absurd c_491 (by omega)) (fun c_491 => ?_)
    refine lv_iconst (v := nI 0) hx hb dX4_bestEffort_8 (by decide) ?_
    refine lv_goto (tgt := 22) hx hb dX4_bestEffort_9 (by decide) ?_
    have hq9 : q_bestEff B v = (1, 0) := by unfold q_bestEff q_eff; rw [hrA] <;> rfl
    have hP : va_P G.1 CL [(la, .inl (G.2 0, 200, .inl lf)), (za, .inl (G.2 0, 6, .inl zf)), (m0, .inr (6, [.ref sa, .ref oa, .ref pa, .ref la, .ref za, .ref na, .int gu, .int gt, .int gw, .int gd, .int gm, .int gr, .int (nI ((q_bestEff B v).1)), .int gv]))] H := by rw [hq9]; exact hP
    have hD : va_D A [(la, .inl (G.2 0, 200, .inl lf)), (za, .inl (G.2 0, 6, .inl zf)), (m0, .inr (6, [.ref sa, .ref oa, .ref pa, .ref la, .ref za, .ref na, .int gu, .int gt, .int gw, .int gd, .int gm, .int gr, .int (nI ((q_bestEff B v).1)), .int gv]))] := by rw [hq9]; exact hD
    have hP9 : va_P G.1 CL [(m0, .inr (6, [.ref sa, .ref oa, .ref pa, .ref la, .ref za, .ref na, .int gu, .int gt, .int gw, .int gd, .int gm, .int gr, .int (nI ((q_bestEff B v).1)), .int gv])), (la, .inl (G.2 0, 200, .inl lf)), (za, .inl (G.2 0, 6, .inl zf))] H := hP.sub [2, 0, 1] rfl
    have hD9 : va_D A [(m0, .inr (6, [.ref sa, .ref oa, .ref pa, .ref la, .ref za, .ref na, .int gu, .int gt, .int gw, .int gd, .int gm, .int gr, .int (nI ((q_bestEff B v).1)), .int gv])), (la, .inl (G.2 0, 200, .inl lf)), (za, .inl (G.2 0, 6, .inl zf))] := hD.sub [2, 0, 1] (by decide) rfl
    exact end_i hx hb hr hlk (rfl) (qc_of ⟨nI 0, lf, zf, gd, gm, gr⟩ (v := some (.int (nI 0))) (by rfl) (fun h => by rw [hq9] at h; exact absurd h (by decide)) hP9 hD9 (trivial) hS) hS dX4_bestEffort_22 (show 0 ≤ 0 from by first | exact Nat.le_refl _ | decide | omega) (show 0 ≤ 0 from by first | exact Nat.le_refl _ | decide | omega)
  · refine lv_ton (n := 1) rfl ?_
    refine n_if_eq (tgt := 12) hx hb (by omega) dX4_bestEffort_5 (by decide) (fun c_492 => absurd c_492 (by omega)) (fun c_492 => ?_)
    refine lv_iconst (v := nI 0) hx hb dX4_bestEffort_8 (by decide) ?_
    refine lv_goto (tgt := 22) hx hb dX4_bestEffort_9 (by decide) ?_
    have hq9 : q_bestEff B v = (2, 0) := by unfold q_bestEff q_eff; rw [hrA] <;> first | rfl | rw [hrB] | (rw [hrB]; rfl) | (dsimp only; rw [hrB]) | (dsimp only; rw [hrB]; rfl)
    have hP : va_P G.1 CL [(la, .inl (G.2 0, 200, .inl lf)), (za, .inl (G.2 0, 6, .inl zf)), (m0, .inr (6, [.ref sa, .ref oa, .ref pa, .ref la, .ref za, .ref na, .int gu, .int gt, .int gw, .int gd, .int gm, .int gr, .int (nI ((q_bestEff B v).1)), .int gv]))] H := by rw [hq9]; exact hP
    have hD : va_D A [(la, .inl (G.2 0, 200, .inl lf)), (za, .inl (G.2 0, 6, .inl zf)), (m0, .inr (6, [.ref sa, .ref oa, .ref pa, .ref la, .ref za, .ref na, .int gu, .int gt, .int gw, .int gd, .int gm, .int gr, .int (nI ((q_bestEff B v).1)), .int gv]))] := by rw [hq9]; exact hD
    have hP9 : va_P G.1 CL [(m0, .inr (6, [.ref sa, .ref oa, .ref pa, .ref la, .ref za, .ref na, .int gu, .int gt, .int gw, .int gd, .int gm, .int gr, .int (nI ((q_bestEff B v).1)), .int gv])), (la, .inl (G.2 0, 200, .inl lf)), (za, .inl (G.2 0, 6, .inl zf))] H := hP.sub [2, 0, 1] rfl
    have hD9 : va_D A [(m0, .inr (6, [.ref sa, .ref oa, .ref pa, .ref la, .ref za, .ref na, .int gu, .int gt, .int gw, .int gd, .int gm, .int gr, .int (nI ((q_bestEff B v).1)), .int gv])), (la, .inl (G.2 0, 200, .inl lf)), (za, .inl (G.2 0, 6, .inl zf))] := hD.sub [2, 0, 1] (by decide) rfl
    exact end_i hx hb hr hlk (rfl) (qc_of ⟨nI 0, lf, zf, gd, gm, gr⟩ (v := some (.int (nI 0))) (by rfl) (fun h => by rw [hq9] at h; exact absurd h (by decide)) hP9 hD9 (trivial) hS) hS dX4_bestEffort_22 (show 0 ≤ 0 from by first | exact Nat.le_refl _ | decide | omega) (show 0 ≤ 0 from by first | exact Nat.le_refl _ | decide | omega)
  · refine lv_ton (n := 0) rfl ?_
    have hl : lv_has ls 2 [(0, .ref m0), (1, .int (nI n9_488))] := by
      have e9 : ((.int (nI n9_488)) : Value) = .int v := by rw [hv9]
      rw [e9]; exact hl
    refine n_if_eq (tgt := 12) hx hb (by omega) dX4_bestEffort_5 (by decide) (fun c_493 => ?_) (fun c_493 => absurd c_493 (by omega))
    refine lv_aload_n hx hb dX4_bestEffort_12 rfl (lv_at hl 0 rfl) ?_
    refine lv_aload_n hx hb dX4_bestEffort_13 rfl (lv_at hl 0 rfl) ?_
    refine lv_iload_n hx hb dX4_bestEffort_14 rfl (lv_at hl 1 rfl) ?_
    have hF := hF_of (wc := []) hD hS hA [] rfl
    have hro_494 : va_P G.1 CL [(m0, .inr (6, [.ref sa, .ref oa, .ref pa, .ref la, .ref za, .ref na, .int gu, .int gt, .int gw, .int gd, .int gm, .int gr, .int (nI 0), .int gv])), (sa, .inl (G.2 0, 830, .inl f))] H := ((va_P.sub hP [2] rfl).app ((hR0.w hS).sub [0] rfl))
    refine go_ct hS hP hD [] [0, 1, 2] hF rfl rfl (by decide) (by decide)
        (va_runV (As := [.int (nI n9_488)]) (rest := [.ref m0]) cf (mX4_strongest l G m0 sa oa pa la za na gu gt gw gd gm gr (nI 0) gv f B n9_488 (show MR f B from by first | assumption | omega) (show Inv B from by first | assumption | omega) (show 1 ≤ n9_488 ∧ n9_488 ≤ 240 from by first | assumption | omega) (show RkOk B from by first | assumption | omega) H.size) (cwV 1 hts (lw_V q1880 q1882 qs41 q58 q1883) rfl rfl rfl (by decide +kernel) ⟨Nat.le_of_ble_eq_true rfl, Nat.le_of_ble_eq_true rfl⟩) (preV_of hKB hE hS hF (va_recv hK hP (ci := 6) (q0 := 2) rfl rfl) (va_P.sub hP [] rfl) ((va_D.sub hD [] (by decide) rfl).weaken (fun _ _ _ _ => trivial)) (roW.nil hro_494)) rfl rfl hl.1 rfl (lv_room (Nat.le_of_ble_eq_true rfl)) dX4_bestEffort_15 ⟨show 0 + 0 ≤ 0 from by first | decide | omega, show 0 + 0 ≤ 0 from by first | decide | omega⟩)
        (fun u_ H locs hq hph (hP : va_P G.1 CL [(la, .inl (G.2 0, 200, .inl lf)), (za, .inl (G.2 0, 6, .inl zf)), (m0, .inr (6, [.ref sa, .ref oa, .ref pa, .ref la, .ref za, .ref na, .int gu, .int gt, .int gw, .int gd, .int gm, .int gr, .int (nI 0), .int gv]))] H) (hD : va_D A [(la, .inl (G.2 0, 200, .inl lf)), (za, .inl (G.2 0, 6, .inl zf)), (m0, .inr (6, [.ref sa, .ref oa, .ref pa, .ref la, .ref za, .ref na, .int gu, .int gt, .int gw, .int gd, .int gm, .int gr, .int (nI 0), .int gv]))]) hS hfz hfk => ?_)
    obtain ⟨fo_495, rfl⟩ : ∃ z, z = u_ := ⟨_, rfl⟩
    have hP : va_P G.1 CL [(la, .inl (G.2 0, 200, .inl lf)), (za, .inl (G.2 0, 6, .inl zf)), (m0, .inr (6, [.ref sa, .ref oa, .ref pa, .ref la, .ref za, .ref na, .int gu, .int gt, .int gw, .int gd, .int gm, .int gr, .int (nI 0), .int gv]))] H := hP
    have hD : va_D A [(la, .inl (G.2 0, 200, .inl lf)), (za, .inl (G.2 0, 6, .inl zf)), (m0, .inr (6, [.ref sa, .ref oa, .ref pa, .ref la, .ref za, .ref na, .int gu, .int gt, .int gw, .int gd, .int gm, .int gr, .int (nI 0), .int gv]))] := hD
    have hq_496 : ST B n9_488 (sN B) fo_495 := hq
    refine W.eq (g2 := F0 m 18 ls [.int (oI fo_495), .ref m0]) rfl ?_
    have hxe : fo_495 = some k9_489 := (ixE_eq hI hq_496).symm.trans hrB
    refine lv_ton (n := k9_489) (by rw [hxe]; rfl) ?_
    refine lv_iload_n hx hb dX4_bestEffort_18 rfl (lv_at hl 1 rfl) ?_
    have hF := hF_of (wc := []) hD hS hA [] rfl
    have hro_497 : va_P G.1 CL [(m0, .inr (6, [.ref sa, .ref oa, .ref pa, .ref la, .ref za, .ref na, .int gu, .int gt, .int gw, .int gd, .int gm, .int gr, .int (nI 0), .int gv])), (sa, .inl (G.2 0, 830, .inl f))] H := ((va_P.sub hP [2] rfl).app ((hR0.w hS).sub [0] rfl))
    refine go_ct hS hP hD [] [0, 1, 2] hF rfl rfl (by decide) (by decide)
        (va_runV (As := [.int (nI k9_489), .int (nI n9_488)]) (rest := []) cf (mX4_effort l G m0 sa oa pa la za na gu gt gw gd gm gr (nI 0) gv f B k9_489 n9_488 (show MR f B from by first | assumption | omega) (show Inv B from by first | assumption | omega) (show k9_489 < sN B from by first | assumption | omega) (show 1 ≤ n9_488 ∧ n9_488 ≤ 240 from by first | assumption | omega) H.size) (cwV 2 hts (lw_V q1884 q1886 qs42 q58 q1887) rfl rfl rfl (by decide +kernel) ⟨Nat.le_of_ble_eq_true rfl, Nat.le_of_ble_eq_true rfl⟩) (preV_of hKB hE hS hF (va_recv hK hP (ci := 6) (q0 := 2) rfl rfl) (va_P.sub hP [] rfl) ((va_D.sub hD [] (by decide) rfl).weaken (fun _ _ _ _ => trivial)) (roW.nil hro_497)) rfl rfl hl.1 rfl (lv_room (Nat.le_of_ble_eq_true rfl)) dX4_bestEffort_19 ⟨show 0 + 0 ≤ 0 from by first | decide | omega, show 0 + 0 ≤ 0 from by first | decide | omega⟩)
        (fun u_ H locs hq hph (hP : va_P G.1 CL [(la, .inl (G.2 0, 200, .inl lf)), (za, .inl (G.2 0, 6, .inl zf)), (m0, .inr (6, [.ref sa, .ref oa, .ref pa, .ref la, .ref za, .ref na, .int gu, .int gt, .int gw, .int gd, .int gm, .int gr, .int (nI 0), .int gv]))] H) (hD : va_D A [(la, .inl (G.2 0, 200, .inl lf)), (za, .inl (G.2 0, 6, .inl zf)), (m0, .inr (6, [.ref sa, .ref oa, .ref pa, .ref la, .ref za, .ref na, .int gu, .int gt, .int gw, .int gd, .int gm, .int gr, .int (nI 0), .int gv]))]) hS hfz hfk => ?_)
    refine W.eq (g2 := F0 m 22 ls [.int (lI (effS (sAt B k9_489) n9_488))]) rfl ?_
    have hq9 : q_bestEff B v = (0, lI (effS (sAt B k9_489) n9_488)) := by unfold q_bestEff q_eff; rw [hrA] <;> first | rfl | rw [hrB] | (rw [hrB]; rfl) | (dsimp only; rw [hrB]) | (dsimp only; rw [hrB]; rfl)
    have hP : va_P G.1 CL [(la, .inl (G.2 0, 200, .inl lf)), (za, .inl (G.2 0, 6, .inl zf)), (m0, .inr (6, [.ref sa, .ref oa, .ref pa, .ref la, .ref za, .ref na, .int gu, .int gt, .int gw, .int gd, .int gm, .int gr, .int (nI ((q_bestEff B v).1)), .int gv]))] H := by rw [hq9]; exact hP
    have hD : va_D A [(la, .inl (G.2 0, 200, .inl lf)), (za, .inl (G.2 0, 6, .inl zf)), (m0, .inr (6, [.ref sa, .ref oa, .ref pa, .ref la, .ref za, .ref na, .int gu, .int gt, .int gw, .int gd, .int gm, .int gr, .int (nI ((q_bestEff B v).1)), .int gv]))] := by rw [hq9]; exact hD
    have hP9 : va_P G.1 CL [(m0, .inr (6, [.ref sa, .ref oa, .ref pa, .ref la, .ref za, .ref na, .int gu, .int gt, .int gw, .int gd, .int gm, .int gr, .int (nI ((q_bestEff B v).1)), .int gv])), (la, .inl (G.2 0, 200, .inl lf)), (za, .inl (G.2 0, 6, .inl zf))] H := hP.sub [2, 0, 1] rfl
    have hD9 : va_D A [(m0, .inr (6, [.ref sa, .ref oa, .ref pa, .ref la, .ref za, .ref na, .int gu, .int gt, .int gw, .int gd, .int gm, .int gr, .int (nI ((q_bestEff B v).1)), .int gv])), (la, .inl (G.2 0, 200, .inl lf)), (za, .inl (G.2 0, 6, .inl zf))] := hD.sub [2, 0, 1] (by decide) rfl
    exact end_i hx hb hr hlk (rfl) (qc_of ⟨lI (effS (sAt B k9_489) n9_488), lf, zf, gd, gm, gr⟩ (v := some (.int (lI (effS (sAt B k9_489) n9_488)))) (by rfl) (fun _ => by rw [hq9]) hP9 hD9 (trivial) hS) hS dX4_bestEffort_22 (show 0 ≤ 0 from by first | exact Nat.le_refl _ | decide | omega) (show 0 ≤ 0 from by first | exact Nat.le_refl _ | decide | omega)

set_option maxHeartbeats 4000000 in
theorem mX4_bestEffortByTrying (l : Launch) (G : Gt) (m0 : Nat) (sa : Nat) (oa : Nat) (pa : Nat) (la : Nat) (za : Nat) (na : Nat) (gu : Int32) (gt : Int32) (gw : Int32) (gd : Int32) (gm : Int32) (gr : Int32) (gh : Int32) (gv : Int32) (f : Nat → Int32) (B : Bk) (lf : Nat → Int32) (zf : Nat → Int32) (v : Int32) (hM : MR f B) (hI : Inv B) (hRk : RkOk B) : CT l G yX4_bestEffortByTrying cX4_bestEffortByTrying 2 (some .int) ({ frames := 7, cells := 0, slots := 0, locals := 150 } : Room) [.ref m0, .int v] [(m0, .inr (6, [.ref sa, .ref oa, .ref pa, .ref la, .ref za, .ref na, .int gu, .int gt, .int gw, .int gd, .int gm, .int gr, .int gh, .int gv])), (la, .inl (G.2 0, 200, .inl lf)), (za, .inl (G.2 0, 6, .inl zf))] (fun (A : Nat → Prop) (H : Heap) => roW G A H [(sa, .inl (G.2 0, 830, .inl f))]) (S := Int32 × (Nat → Int32) × (Nat → Int32) × Int32 × Int32 × Int32) (fun (u_ : Int32 × (Nat → Int32) × (Nat → Int32) × Int32 × Int32 × Int32) => some (.int u_.1)) (fun (u_ : Int32 × (Nat → Int32) × (Nat → Int32) × Int32 × Int32 × Int32) => ((q_bestEff B v).1 = 0 → u_.1 = (q_bestEff B v).2)) (fun (u_ : Int32 × (Nat → Int32) × (Nat → Int32) × Int32 × Int32 × Int32) => [(m0, .inr (6, [.ref sa, .ref oa, .ref pa, .ref la, .ref za, .ref na, .int gu, .int gt, .int gw, .int u_.2.2.2.1, .int u_.2.2.2.2.1, .int u_.2.2.2.2.2, .int (nI ((q_bestEff B v).1)), .int gv])), (la, .inl (G.2 0, 200, .inl u_.2.1)), (za, .inl (G.2 0, 6, .inl u_.2.2.1))]) (fun (u_ : Int32 × (Nat → Int32) × (Nat → Int32) × Int32 × Int32 × Int32) (H : Heap) => True) := by
  refine CT.of (by decide) (Nat.le_of_ble_eq_true rfl) ?_
  intro p e s m below meth c ls A H locs h9 hH0 hP hS
  obtain ⟨cf, hr, hlk, hnm, hKB, hE, -, hD, -, hA, hAw, hR0, hl⟩ := h9
  have hx := cf.1
  have hb := cf.2.1
  have hml := cf.2.2.1
  have hown : s.vm.findClass RX4 = some m.cls := cf.2.2.2.1
  have hts := cf.2.2.2.2
  have hK := hKB.1
  have hl : lv_has ls 2 [(0, .ref m0), (1, .int v)] := hl
  have iN := iv_sN hI
  have iT := iv_tN hI
  have iD := iv_bD hI
  have iE := iv_bE hI
  have iW := iv_id hI
  refine lv_aload_n hx hb dX4_bestEffortByTrying_0 rfl (lv_at hl 0 rfl) ?_
  refine lv_iload_n hx hb dX4_bestEffortByTrying_1 rfl (lv_at hl 1 rfl) ?_
  have hF := hF_of (wc := [(m0, .inr (6, [.ref sa, .ref oa, .ref pa, .ref la, .ref za, .ref na, .int gu, .int gt, .int gw, .int gd, .int gm, .int gr, .int gh, .int gv])), (la, .inl (G.2 0, 200, .inl lf)), (za, .inl (G.2 0, 6, .inl zf))]) hD hS hA [0, 1, 2] rfl
  have hro_498 : roW G (va_A [(m0, .inr (6, [.ref sa, .ref oa, .ref pa, .ref la, .ref za, .ref na, .int gu, .int gt, .int gw, .int gd, .int gm, .int gr, .int gh, .int gv])), (la, .inl (G.2 0, 200, .inl lf)), (za, .inl (G.2 0, 6, .inl zf))] H.size) H [(sa, .inl (G.2 0, 830, .inl f))] := ((hR0.kp hF hS.2.1).sub (ws' := [(sa, .inl (G.2 0, 830, .inl f))]) [0] rfl)
  refine go_ct hS hP hD [0, 1, 2] [] hF rfl rfl (by decide) (by decide)
      (va_runV (As := [.int v]) (rest := []) cf (mX4_bestEffort l G m0 sa oa pa la za na gu gt gw gd gm gr gh gv f B lf zf v (show MR f B from by first | assumption | omega) (show Inv B from by first | assumption | omega) (show RkOk B from by first | assumption | omega) H.size) (cwV 1 hts (lw_V q1897 q1873 q1874 q58 q1875) rfl rfl rfl (by decide +kernel) ⟨Nat.le_of_ble_eq_true rfl, Nat.le_of_ble_eq_true rfl⟩) (preV_of hKB hE hS hF (va_recv hK hP (ci := 6) (q0 := 0) rfl rfl) (va_P.sub hP [0, 1, 2] rfl) ((va_D.sub hD [0, 1, 2] (by decide) rfl).weaken (fun _ _ _ _ => trivial)) hro_498) rfl rfl hl.1 rfl (lv_room (Nat.le_of_ble_eq_true rfl)) dX4_bestEffortByTrying_2 ⟨show 0 + 0 ≤ 0 from by first | decide | omega, show 0 + 0 ≤ 0 from by first | decide | omega⟩)
      (fun u_ H locs hq hph (hP : va_P G.1 CL [(m0, .inr (6, [.ref sa, .ref oa, .ref pa, .ref la, .ref za, .ref na, .int gu, .int gt, .int gw, .int u_.2.2.2.1, .int u_.2.2.2.2.1, .int u_.2.2.2.2.2, .int (nI ((q_bestEff B v).1)), .int gv])), (la, .inl (G.2 0, 200, .inl u_.2.1)), (za, .inl (G.2 0, 6, .inl u_.2.2.1))] H) (hD : va_D A [(m0, .inr (6, [.ref sa, .ref oa, .ref pa, .ref la, .ref za, .ref na, .int gu, .int gt, .int gw, .int u_.2.2.2.1, .int u_.2.2.2.2.1, .int u_.2.2.2.2.2, .int (nI ((q_bestEff B v).1)), .int gv])), (la, .inl (G.2 0, 200, .inl u_.2.1)), (za, .inl (G.2 0, 6, .inl u_.2.2.1))]) hS hfz hfk => ?_)
  obtain ⟨rr_499, lf2_500, zf2_501, gd2_502, gm2_503, gr2_504⟩ := u_
  have hP : va_P G.1 CL [(m0, .inr (6, [.ref sa, .ref oa, .ref pa, .ref la, .ref za, .ref na, .int gu, .int gt, .int gw, .int gd2_502, .int gm2_503, .int gr2_504, .int (nI ((q_bestEff B v).1)), .int gv])), (la, .inl (G.2 0, 200, .inl lf2_500)), (za, .inl (G.2 0, 6, .inl zf2_501))] H := hP
  have hD : va_D A [(m0, .inr (6, [.ref sa, .ref oa, .ref pa, .ref la, .ref za, .ref na, .int gu, .int gt, .int gw, .int gd2_502, .int gm2_503, .int gr2_504, .int (nI ((q_bestEff B v).1)), .int gv])), (la, .inl (G.2 0, 200, .inl lf2_500)), (za, .inl (G.2 0, 6, .inl zf2_501))] := hD
  have hq_505 : ((q_bestEff B v).1 = 0 → rr_499 = (q_bestEff B v).2) := hq
  refine W.eq (g2 := F0 m 5 ls [.int rr_499]) rfl ?_
  have hP9 : va_P G.1 CL [(m0, .inr (6, [.ref sa, .ref oa, .ref pa, .ref la, .ref za, .ref na, .int gu, .int gt, .int gw, .int gd2_502, .int gm2_503, .int gr2_504, .int (nI ((q_bestEff B v).1)), .int gv])), (la, .inl (G.2 0, 200, .inl lf2_500)), (za, .inl (G.2 0, 6, .inl zf2_501))] H := hP.sub [0, 1, 2] rfl
  have hD9 : va_D A [(m0, .inr (6, [.ref sa, .ref oa, .ref pa, .ref la, .ref za, .ref na, .int gu, .int gt, .int gw, .int gd2_502, .int gm2_503, .int gr2_504, .int (nI ((q_bestEff B v).1)), .int gv])), (la, .inl (G.2 0, 200, .inl lf2_500)), (za, .inl (G.2 0, 6, .inl zf2_501))] := hD.sub [0, 1, 2] (by decide) rfl
  exact end_i hx hb hr hlk (rfl) (qc_of ⟨rr_499, lf2_500, zf2_501, gd2_502, gm2_503, gr2_504⟩ (v := some (.int rr_499)) (by rfl) (hq_505) hP9 hD9 (trivial) hS) hS dX4_bestEffortByTrying_5 (show 0 ≤ 0 from by first | exact Nat.le_refl _ | decide | omega) (show 0 ≤ 0 from by first | exact Nat.le_refl _ | decide | omega)

set_option maxHeartbeats 4000000 in
theorem mX4_bestEffortSession (l : Launch) (G : Gt) (m0 : Nat) (sa : Nat) (oa : Nat) (pa : Nat) (la : Nat) (za : Nat) (na : Nat) (gu : Int32) (gt : Int32) (gw : Int32) (gd : Int32) (gm : Int32) (gr : Int32) (gh : Int32) (gv : Int32) (f : Nat → Int32) (B : Bk) (lf : Nat → Int32) (zf : Nat → Int32) (v : Int32) (hM : MR f B) (hI : Inv B) (hRk : RkOk B) : CT l G yX4_bestEffortSession cX4_bestEffortSession 2 (some .int) ({ frames := 6, cells := 0, slots := 0, locals := 129 } : Room) [.ref m0, .int v] [(m0, .inr (6, [.ref sa, .ref oa, .ref pa, .ref la, .ref za, .ref na, .int gu, .int gt, .int gw, .int gd, .int gm, .int gr, .int gh, .int gv])), (la, .inl (G.2 0, 200, .inl lf)), (za, .inl (G.2 0, 6, .inl zf))] (fun (A : Nat → Prop) (H : Heap) => roW G A H [(sa, .inl (G.2 0, 830, .inl f))]) (S := Int32 × (Nat → Int32) × (Nat → Int32) × Int32 × Int32 × Int32) (fun (u_ : Int32 × (Nat → Int32) × (Nat → Int32) × Int32 × Int32 × Int32) => some (.int u_.1)) (fun (u_ : Int32 × (Nat → Int32) × (Nat → Int32) × Int32 × Int32 × Int32) => ((q_bestEffS B v).1 = 0 → u_.1 = (q_bestEffS B v).2)) (fun (u_ : Int32 × (Nat → Int32) × (Nat → Int32) × Int32 × Int32 × Int32) => [(m0, .inr (6, [.ref sa, .ref oa, .ref pa, .ref la, .ref za, .ref na, .int gu, .int gt, .int gw, .int u_.2.2.2.1, .int u_.2.2.2.2.1, .int u_.2.2.2.2.2, .int (nI ((q_bestEffS B v).1)), .int gv])), (la, .inl (G.2 0, 200, .inl u_.2.1)), (za, .inl (G.2 0, 6, .inl u_.2.2.1))]) (fun (u_ : Int32 × (Nat → Int32) × (Nat → Int32) × Int32 × Int32 × Int32) (H : Heap) => True) := by
  refine CT.of (by decide) (Nat.le_of_ble_eq_true rfl) ?_
  intro p e s m below meth c ls A H locs h9 hH0 hP hS
  obtain ⟨cf, hr, hlk, hnm, hKB, hE, -, hD, -, hA, hAw, hR0, hl⟩ := h9
  have hx := cf.1
  have hb := cf.2.1
  have hml := cf.2.2.1
  have hown : s.vm.findClass RX4 = some m.cls := cf.2.2.2.1
  have hts := cf.2.2.2.2
  have hK := hKB.1
  have hl : lv_has ls 2 [(0, .ref m0), (1, .int v)] := hl
  have iN := iv_sN hI
  have iT := iv_tN hI
  have iD := iv_bD hI
  have iE := iv_bE hI
  have iW := iv_id hI
  refine lv_aload_n hx hb dX4_bestEffortSession_0 rfl (lv_at hl 0 rfl) ?_
  refine lv_iload_n hx hb dX4_bestEffortSession_1 rfl (lv_at hl 1 rfl) ?_
  have hF := hF_of (wc := [(m0, .inr (6, [.ref sa, .ref oa, .ref pa, .ref la, .ref za, .ref na, .int gu, .int gt, .int gw, .int gd, .int gm, .int gr, .int gh, .int gv]))]) hD hS hA [0] rfl
  have hro_506 : roW G (va_A [(m0, .inr (6, [.ref sa, .ref oa, .ref pa, .ref la, .ref za, .ref na, .int gu, .int gt, .int gw, .int gd, .int gm, .int gr, .int gh, .int gv]))] H.size) H [(sa, .inl (G.2 0, 830, .inl f))] := ((hR0.kp hF hS.2.1).sub (ws' := [(sa, .inl (G.2 0, 830, .inl f))]) [0] rfl)
  refine go_ct hS hP hD [0] [1, 2] hF rfl rfl (by decide) (by decide)
      (va_runV (As := [.int v]) (rest := []) cf (mX4_isNoEffort l G m0 sa oa pa la za na gu gt gw gd gm gr gh gv f B v (show MR f B from by first | assumption | omega) (show Inv B from by first | assumption | omega) (show RkOk B from by first | assumption | omega) H.size) (cwV 1 hts (lw_V q1876 q1878 qs40 q58 q1879) rfl rfl rfl (by decide +kernel) ⟨Nat.le_of_ble_eq_true rfl, Nat.le_of_ble_eq_true rfl⟩) (preV_of hKB hE hS hF (va_recv hK hP (ci := 6) (q0 := 0) rfl rfl) (va_P.sub hP [0] rfl) ((va_D.sub hD [0] (by decide) rfl).weaken (fun _ _ _ _ => trivial)) hro_506) rfl rfl hl.1 rfl (lv_room (Nat.le_of_ble_eq_true rfl)) dX4_bestEffortSession_2 ⟨show 0 + 0 ≤ 0 from by first | decide | omega, show 0 + 0 ≤ 0 from by first | decide | omega⟩)
      (fun u_ H locs hq hph (hP : va_P G.1 CL [(la, .inl (G.2 0, 200, .inl lf)), (za, .inl (G.2 0, 6, .inl zf)), (m0, .inr (6, [.ref sa, .ref oa, .ref pa, .ref la, .ref za, .ref na, .int gu, .int gt, .int gw, .int gd, .int gm, .int gr, .int (nI u_.1), .int gv]))] H) (hD : va_D A [(la, .inl (G.2 0, 200, .inl lf)), (za, .inl (G.2 0, 6, .inl zf)), (m0, .inr (6, [.ref sa, .ref oa, .ref pa, .ref la, .ref za, .ref na, .int gu, .int gt, .int gw, .int gd, .int gm, .int gr, .int (nI u_.1), .int gv]))]) hS hfz hfk => ?_)
  obtain ⟨c9_507, n9_508, k9_509⟩ := u_
  have hP : va_P G.1 CL [(la, .inl (G.2 0, 200, .inl lf)), (za, .inl (G.2 0, 6, .inl zf)), (m0, .inr (6, [.ref sa, .ref oa, .ref pa, .ref la, .ref za, .ref na, .int gu, .int gt, .int gw, .int gd, .int gm, .int gr, .int (nI c9_507), .int gv]))] H := hP
  have hD : va_D A [(la, .inl (G.2 0, 200, .inl lf)), (za, .inl (G.2 0, 6, .inl zf)), (m0, .inr (6, [.ref sa, .ref oa, .ref pa, .ref la, .ref za, .ref na, .int gu, .int gt, .int gw, .int gd, .int gm, .int gr, .int (nI c9_507), .int gv]))] := hD
  have hq_510 : (c9_507 = 1 ∧ inR v 1 240 = none) ∨ (c9_507 = 2 ∧ inR v 1 240 = some n9_508 ∧ ixE B n9_508 = none) ∨ (c9_507 = 0 ∧ inR v 1 240 = some n9_508 ∧ ixE B n9_508 = some k9_509 ∧ v = nI n9_508 ∧ 1 ≤ n9_508 ∧ n9_508 ≤ 240 ∧ k9_509 < sN B) := hq
  refine W.eq (g2 := F0 m 5 ls [.int (tI c9_507)]) rfl ?_
  rcases hq_510 with ⟨rfl, hrA⟩ | ⟨rfl, hrA, hrB⟩ | ⟨rfl, hrA, hrB, hv9, hn1, hn2, hkk⟩
  · refine lv_ton (n := 1) rfl ?_
    refine n_if_eq (tgt := 12) hx hb (by omega) dX4_bestEffortSession_5 (by decide) (fun c_511 => absurd c_511 (by omega)) (fun c_511 => ?_)
    refine lv_iconst (v := nI 0) hx hb dX4_bestEffortSession_8 (by decide) ?_
    refine lv_goto (tgt := 26) hx hb dX4_bestEffortSession_9 (by decide) ?_
    have hq9 : q_bestEffS B v = (1, 0) := by unfold q_bestEffS q_eff; rw [hrA] <;> rfl
    have hP : va_P G.1 CL [(la, .inl (G.2 0, 200, .inl lf)), (za, .inl (G.2 0, 6, .inl zf)), (m0, .inr (6, [.ref sa, .ref oa, .ref pa, .ref la, .ref za, .ref na, .int gu, .int gt, .int gw, .int gd, .int gm, .int gr, .int (nI ((q_bestEffS B v).1)), .int gv]))] H := by rw [hq9]; exact hP
    have hD : va_D A [(la, .inl (G.2 0, 200, .inl lf)), (za, .inl (G.2 0, 6, .inl zf)), (m0, .inr (6, [.ref sa, .ref oa, .ref pa, .ref la, .ref za, .ref na, .int gu, .int gt, .int gw, .int gd, .int gm, .int gr, .int (nI ((q_bestEffS B v).1)), .int gv]))] := by rw [hq9]; exact hD
    have hP9 : va_P G.1 CL [(m0, .inr (6, [.ref sa, .ref oa, .ref pa, .ref la, .ref za, .ref na, .int gu, .int gt, .int gw, .int gd, .int gm, .int gr, .int (nI ((q_bestEffS B v).1)), .int gv])), (la, .inl (G.2 0, 200, .inl lf)), (za, .inl (G.2 0, 6, .inl zf))] H := hP.sub [2, 0, 1] rfl
    have hD9 : va_D A [(m0, .inr (6, [.ref sa, .ref oa, .ref pa, .ref la, .ref za, .ref na, .int gu, .int gt, .int gw, .int gd, .int gm, .int gr, .int (nI ((q_bestEffS B v).1)), .int gv])), (la, .inl (G.2 0, 200, .inl lf)), (za, .inl (G.2 0, 6, .inl zf))] := hD.sub [2, 0, 1] (by decide) rfl
    exact end_i hx hb hr hlk (rfl) (qc_of ⟨nI 0, lf, zf, gd, gm, gr⟩ (v := some (.int (nI 0))) (by rfl) (fun h => by rw [hq9] at h; exact absurd h (by decide)) hP9 hD9 (trivial) hS) hS dX4_bestEffortSession_26 (show 0 ≤ 0 from by first | exact Nat.le_refl _ | decide | omega) (show 0 ≤ 0 from by first | exact Nat.le_refl _ | decide | omega)
  · refine lv_ton (n := 1) rfl ?_
    refine n_if_eq (tgt := 12) hx hb (by omega) dX4_bestEffortSession_5 (by decide) (fun c_512 => absurd c_512 (by omega)) (fun c_512 => ?_)
    refine lv_iconst (v := nI 0) hx hb dX4_bestEffortSession_8 (by decide) ?_
    refine lv_goto (tgt := 26) hx hb dX4_bestEffortSession_9 (by decide) ?_
    have hq9 : q_bestEffS B v = (2, 0) := by unfold q_bestEffS q_eff; rw [hrA] <;> first | rfl | rw [hrB] | (rw [hrB]; rfl) | (dsimp only; rw [hrB]) | (dsimp only; rw [hrB]; rfl)
    have hP : va_P G.1 CL [(la, .inl (G.2 0, 200, .inl lf)), (za, .inl (G.2 0, 6, .inl zf)), (m0, .inr (6, [.ref sa, .ref oa, .ref pa, .ref la, .ref za, .ref na, .int gu, .int gt, .int gw, .int gd, .int gm, .int gr, .int (nI ((q_bestEffS B v).1)), .int gv]))] H := by rw [hq9]; exact hP
    have hD : va_D A [(la, .inl (G.2 0, 200, .inl lf)), (za, .inl (G.2 0, 6, .inl zf)), (m0, .inr (6, [.ref sa, .ref oa, .ref pa, .ref la, .ref za, .ref na, .int gu, .int gt, .int gw, .int gd, .int gm, .int gr, .int (nI ((q_bestEffS B v).1)), .int gv]))] := by rw [hq9]; exact hD
    have hP9 : va_P G.1 CL [(m0, .inr (6, [.ref sa, .ref oa, .ref pa, .ref la, .ref za, .ref na, .int gu, .int gt, .int gw, .int gd, .int gm, .int gr, .int (nI ((q_bestEffS B v).1)), .int gv])), (la, .inl (G.2 0, 200, .inl lf)), (za, .inl (G.2 0, 6, .inl zf))] H := hP.sub [2, 0, 1] rfl
    have hD9 : va_D A [(m0, .inr (6, [.ref sa, .ref oa, .ref pa, .ref la, .ref za, .ref na, .int gu, .int gt, .int gw, .int gd, .int gm, .int gr, .int (nI ((q_bestEffS B v).1)), .int gv])), (la, .inl (G.2 0, 200, .inl lf)), (za, .inl (G.2 0, 6, .inl zf))] := hD.sub [2, 0, 1] (by decide) rfl
    exact end_i hx hb hr hlk (rfl) (qc_of ⟨nI 0, lf, zf, gd, gm, gr⟩ (v := some (.int (nI 0))) (by rfl) (fun h => by rw [hq9] at h; exact absurd h (by decide)) hP9 hD9 (trivial) hS) hS dX4_bestEffortSession_26 (show 0 ≤ 0 from by first | exact Nat.le_refl _ | decide | omega) (show 0 ≤ 0 from by first | exact Nat.le_refl _ | decide | omega)
  · refine lv_ton (n := 0) rfl ?_
    have hl : lv_has ls 2 [(0, .ref m0), (1, .int (nI n9_508))] := by
      have e9 : ((.int (nI n9_508)) : Value) = .int v := by rw [hv9]
      rw [e9]; exact hl
    refine n_if_eq (tgt := 12) hx hb (by omega) dX4_bestEffortSession_5 (by decide) (fun c_513 => ?_) (fun c_513 => absurd c_513 (by omega))
    refine lv_aload_n hx hb dX4_bestEffortSession_12 rfl (lv_at hl 0 rfl) ?_
    refine va_get hx hb hts in_X4 hown hK hP 2 rfl rfl 0 (by decide) (hts _ q1596) (fun _ h => h) rfl dX4_bestEffortSession_13 ?_
    refine lv_aload_n hx hb dX4_bestEffortSession_16 rfl (lv_at hl 0 rfl) ?_
    refine lv_aload_n hx hb dX4_bestEffortSession_17 rfl (lv_at hl 0 rfl) ?_
    refine lv_iload_n hx hb dX4_bestEffortSession_18 rfl (lv_at hl 1 rfl) ?_
    have hF := hF_of (wc := []) hD hS hA [] rfl
    have hro_514 : va_P G.1 CL [(m0, .inr (6, [.ref sa, .ref oa, .ref pa, .ref la, .ref za, .ref na, .int gu, .int gt, .int gw, .int gd, .int gm, .int gr, .int (nI 0), .int gv])), (sa, .inl (G.2 0, 830, .inl f))] H := ((va_P.sub hP [2] rfl).app ((hR0.w hS).sub [0] rfl))
    refine go_ct hS hP hD [] [0, 1, 2] hF rfl rfl (by decide) (by decide)
        (va_runV (As := [.int (nI n9_508)]) (rest := [.ref m0, .ref sa]) cf (mX4_strongest l G m0 sa oa pa la za na gu gt gw gd gm gr (nI 0) gv f B n9_508 (show MR f B from by first | assumption | omega) (show Inv B from by first | assumption | omega) (show 1 ≤ n9_508 ∧ n9_508 ≤ 240 from by first | assumption | omega) (show RkOk B from by first | assumption | omega) H.size) (cwV 1 hts (lw_V q1880 q1882 qs41 q58 q1883) rfl rfl rfl (by decide +kernel) ⟨Nat.le_of_ble_eq_true rfl, Nat.le_of_ble_eq_true rfl⟩) (preV_of hKB hE hS hF (va_recv hK hP (ci := 6) (q0 := 2) rfl rfl) (va_P.sub hP [] rfl) ((va_D.sub hD [] (by decide) rfl).weaken (fun _ _ _ _ => trivial)) (roW.nil hro_514)) rfl rfl hl.1 rfl (lv_room (Nat.le_of_ble_eq_true rfl)) dX4_bestEffortSession_19 ⟨show 0 + 0 ≤ 0 from by first | decide | omega, show 0 + 0 ≤ 0 from by first | decide | omega⟩)
        (fun u_ H locs hq hph (hP : va_P G.1 CL [(la, .inl (G.2 0, 200, .inl lf)), (za, .inl (G.2 0, 6, .inl zf)), (m0, .inr (6, [.ref sa, .ref oa, .ref pa, .ref la, .ref za, .ref na, .int gu, .int gt, .int gw, .int gd, .int gm, .int gr, .int (nI 0), .int gv]))] H) (hD : va_D A [(la, .inl (G.2 0, 200, .inl lf)), (za, .inl (G.2 0, 6, .inl zf)), (m0, .inr (6, [.ref sa, .ref oa, .ref pa, .ref la, .ref za, .ref na, .int gu, .int gt, .int gw, .int gd, .int gm, .int gr, .int (nI 0), .int gv]))]) hS hfz hfk => ?_)
    obtain ⟨fo_515, rfl⟩ : ∃ z, z = u_ := ⟨_, rfl⟩
    have hP : va_P G.1 CL [(la, .inl (G.2 0, 200, .inl lf)), (za, .inl (G.2 0, 6, .inl zf)), (m0, .inr (6, [.ref sa, .ref oa, .ref pa, .ref la, .ref za, .ref na, .int gu, .int gt, .int gw, .int gd, .int gm, .int gr, .int (nI 0), .int gv]))] H := hP
    have hD : va_D A [(la, .inl (G.2 0, 200, .inl lf)), (za, .inl (G.2 0, 6, .inl zf)), (m0, .inr (6, [.ref sa, .ref oa, .ref pa, .ref la, .ref za, .ref na, .int gu, .int gt, .int gw, .int gd, .int gm, .int gr, .int (nI 0), .int gv]))] := hD
    have hq_516 : ST B n9_508 (sN B) fo_515 := hq
    refine W.eq (g2 := F0 m 22 ls [.int (oI fo_515), .ref m0, .ref sa]) rfl ?_
    have hxe : fo_515 = some k9_509 := (ixE_eq hI hq_516).symm.trans hrB
    refine lv_ton (n := k9_509) (by rw [hxe]; rfl) ?_
    have hF := hF_of (wc := []) hD hS hA [] rfl
    refine go_ct hS hP hD [] [0, 1, 2] hF rfl rfl (by decide) (by decide)
        (va_runV (As := [.int (nI k9_509)]) (rest := [.ref sa]) cf (mX4_at l G m0 k9_509  H.size) (cwV 1 hts (lw_V q1687 q1689 qs27 q58 q1690) rfl rfl rfl (by decide +kernel) ⟨Nat.le_of_ble_eq_true rfl, Nat.le_of_ble_eq_true rfl⟩) (preV_of hKB hE hS hF (va_recv hK hP (ci := 6) (q0 := 2) rfl rfl) (va_P.sub hP [] rfl) ((va_D.sub hD [] (by decide) rfl).weaken (fun _ _ _ _ => trivial)) trivial) rfl rfl hl.1 rfl (lv_room (Nat.le_of_ble_eq_true rfl)) dX4_bestEffortSession_22 ⟨show 0 + 0 ≤ 0 from by first | decide | omega, show 0 + 0 ≤ 0 from by first | decide | omega⟩)
        (fun u_ H locs hq hph (hP : va_P G.1 CL [(la, .inl (G.2 0, 200, .inl lf)), (za, .inl (G.2 0, 6, .inl zf)), (m0, .inr (6, [.ref sa, .ref oa, .ref pa, .ref la, .ref za, .ref na, .int gu, .int gt, .int gw, .int gd, .int gm, .int gr, .int (nI 0), .int gv]))] H) (hD : va_D A [(la, .inl (G.2 0, 200, .inl lf)), (za, .inl (G.2 0, 6, .inl zf)), (m0, .inr (6, [.ref sa, .ref oa, .ref pa, .ref la, .ref za, .ref na, .int gu, .int gt, .int gw, .int gd, .int gm, .int gr, .int (nI 0), .int gv]))]) hS hfz hfk => ?_)
    refine W.eq (g2 := F0 m 25 ls [.int (nI (19 * k9_509 + 70)), .ref sa]) rfl ?_
    refine r_iald (v := nI (sId (sAt B k9_509))) hx hb hK (hR0.w hS) 0 0 rfl rfl (i := 19 * k9_509 + 70) (by omega) (by omega) (hM.sid (k := k9_509) (by omega)) dX4_bestEffortSession_25 ?_
    have hq9 : q_bestEffS B v = (0, nI (sId (sAt B k9_509))) := by unfold q_bestEffS q_eff; rw [hrA] <;> first | rfl | rw [hrB] | (rw [hrB]; rfl) | (dsimp only; rw [hrB]) | (dsimp only; rw [hrB]; rfl)
    have hP : va_P G.1 CL [(la, .inl (G.2 0, 200, .inl lf)), (za, .inl (G.2 0, 6, .inl zf)), (m0, .inr (6, [.ref sa, .ref oa, .ref pa, .ref la, .ref za, .ref na, .int gu, .int gt, .int gw, .int gd, .int gm, .int gr, .int (nI ((q_bestEffS B v).1)), .int gv]))] H := by rw [hq9]; exact hP
    have hD : va_D A [(la, .inl (G.2 0, 200, .inl lf)), (za, .inl (G.2 0, 6, .inl zf)), (m0, .inr (6, [.ref sa, .ref oa, .ref pa, .ref la, .ref za, .ref na, .int gu, .int gt, .int gw, .int gd, .int gm, .int gr, .int (nI ((q_bestEffS B v).1)), .int gv]))] := by rw [hq9]; exact hD
    have hP9 : va_P G.1 CL [(m0, .inr (6, [.ref sa, .ref oa, .ref pa, .ref la, .ref za, .ref na, .int gu, .int gt, .int gw, .int gd, .int gm, .int gr, .int (nI ((q_bestEffS B v).1)), .int gv])), (la, .inl (G.2 0, 200, .inl lf)), (za, .inl (G.2 0, 6, .inl zf))] H := hP.sub [2, 0, 1] rfl
    have hD9 : va_D A [(m0, .inr (6, [.ref sa, .ref oa, .ref pa, .ref la, .ref za, .ref na, .int gu, .int gt, .int gw, .int gd, .int gm, .int gr, .int (nI ((q_bestEffS B v).1)), .int gv])), (la, .inl (G.2 0, 200, .inl lf)), (za, .inl (G.2 0, 6, .inl zf))] := hD.sub [2, 0, 1] (by decide) rfl
    exact end_i hx hb hr hlk (rfl) (qc_of ⟨nI (sId (sAt B k9_509)), lf, zf, gd, gm, gr⟩ (v := some (.int (nI (sId (sAt B k9_509))))) (by rfl) (fun _ => by rw [hq9]) hP9 hD9 (trivial) hS) hS dX4_bestEffortSession_26 (show 0 ≤ 0 from by first | exact Nat.le_refl _ | decide | omega) (show 0 ≤ 0 from by first | exact Nat.le_refl _ | decide | omega)

set_option maxHeartbeats 4000000 in
theorem mX4_targetAt (l : Launch) (G : Gt) (m0 : Nat) (sa : Nat) (oa : Nat) (pa : Nat) (la : Nat) (za : Nat) (na : Nat) (gu : Int32) (gt : Int32) (gw : Int32) (gd : Int32) (gm : Int32) (gr : Int32) (gh : Int32) (gv : Int32) (f : Nat → Int32) (B : Bk) (lf : Nat → Int32) (zf : Nat → Int32) (v : Int32) (hM : MR f B) (hI : Inv B) : CT l G yX4_targetAt cX4_targetAt 2 (some .int) ({ frames := 2, cells := 0, slots := 0, locals := 34 } : Room) [.ref m0, .int v] [(m0, .inr (6, [.ref sa, .ref oa, .ref pa, .ref la, .ref za, .ref na, .int gu, .int gt, .int gw, .int gd, .int gm, .int gr, .int gh, .int gv])), (la, .inl (G.2 0, 200, .inl lf)), (za, .inl (G.2 0, 6, .inl zf))] (fun (A : Nat → Prop) (H : Heap) => roW G A H [(sa, .inl (G.2 0, 830, .inl f))]) (S := Int32 × (Nat → Int32) × (Nat → Int32) × Int32 × Int32 × Int32) (fun (u_ : Int32 × (Nat → Int32) × (Nat → Int32) × Int32 × Int32 × Int32) => some (.int u_.1)) (fun (u_ : Int32 × (Nat → Int32) × (Nat → Int32) × Int32 × Int32 × Int32) => ((q_target B v).1 = 0 → u_.1 = (q_target B v).2)) (fun (u_ : Int32 × (Nat → Int32) × (Nat → Int32) × Int32 × Int32 × Int32) => [(m0, .inr (6, [.ref sa, .ref oa, .ref pa, .ref la, .ref za, .ref na, .int gu, .int gt, .int gw, .int u_.2.2.2.1, .int u_.2.2.2.2.1, .int u_.2.2.2.2.2, .int (nI ((q_target B v).1)), .int gv])), (la, .inl (G.2 0, 200, .inl u_.2.1)), (za, .inl (G.2 0, 6, .inl u_.2.2.1))]) (fun (u_ : Int32 × (Nat → Int32) × (Nat → Int32) × Int32 × Int32 × Int32) (H : Heap) => True) := by
  refine CT.of (by decide) (Nat.le_of_ble_eq_true rfl) ?_
  intro p e s m below meth c ls A H locs h9 hH0 hP hS
  obtain ⟨cf, hr, hlk, hnm, hKB, hE, -, hD, -, hA, hAw, hR0, hl⟩ := h9
  have hx := cf.1
  have hb := cf.2.1
  have hml := cf.2.2.1
  have hown : s.vm.findClass RX4 = some m.cls := cf.2.2.2.1
  have hts := cf.2.2.2.2
  have hK := hKB.1
  have hl : lv_has ls 2 [(0, .ref m0), (1, .int v)] := hl
  have iN := iv_sN hI
  have iT := iv_tN hI
  have iD := iv_bD hI
  have iE := iv_bE hI
  have iW := iv_id hI
  rcases hbp : bP B with _ | d_517
  · refine lv_aload_n hx hb dX4_targetAt_0 rfl (lv_at hl 0 rfl) ?_
    refine lv_aload_n hx hb dX4_targetAt_1 rfl (lv_at hl 0 rfl) ?_
    refine va_get hx hb hts in_X4 hown hK hP 0 rfl rfl 0 (by decide) (hts _ q1596) (fun _ h => h) rfl dX4_targetAt_2 ?_
    refine lv_iconst (v := nI 4) hx hb dX4_targetAt_5 (by decide) ?_
    refine r_iald (v := nI 0) hx hb hK (hR0.w hS) 0 0 rfl rfl (i := 4) (by omega) (by omega) (hM.planned.trans (by rw [hbp])) dX4_targetAt_6 ?_
    refine n_if_eq (tgt := 27) hx hb (by omega) dX4_targetAt_7 (by decide) (fun c_518 => ?_) (fun c_518 => absurd c_518 (by omega))
    refine lv_iconst (v := nI 1) hx hb dX4_targetAt_27 (by decide) ?_
    refine lv_goto (tgt := 32) hx hb dX4_targetAt_28 (by decide) ?_
    refine lv_iconst (v := nI 1) hx hb dX4_targetAt_32 (by decide) ?_
    have hF := hF_of (wc := [(m0, .inr (6, [.ref sa, .ref oa, .ref pa, .ref la, .ref za, .ref na, .int gu, .int gt, .int gw, .int gd, .int gm, .int gr, .int gh, .int gv]))]) hD hS hA [0] rfl
    refine go_ct hS hP hD [0] [1, 2] hF rfl rfl (by decide) (by decide)
        (va_runV (As := [.int (nI 1), .int (nI 1)]) (rest := []) cf (mX4_isThrown_t l G m0 sa oa pa la za na gu gt gw gd gm gr gh gv 1  H.size) (cwV 2 hts (lw_V q1650 q1652 qs20 q58 q1653) rfl rfl rfl (by decide +kernel) ⟨Nat.le_of_ble_eq_true rfl, Nat.le_of_ble_eq_true rfl⟩) (preV_of hKB hE hS hF (va_recv hK hP (ci := 6) (q0 := 0) rfl rfl) (va_P.sub hP [0] rfl) ((va_D.sub hD [0] (by decide) rfl).weaken (fun _ _ _ _ => trivial)) trivial) rfl rfl hl.1 rfl (lv_room (Nat.le_of_ble_eq_true rfl)) dX4_targetAt_33 ⟨show 0 + 0 ≤ 0 from by first | decide | omega, show 0 + 0 ≤ 0 from by first | decide | omega⟩)
        (fun u_ H locs hq hph (hP : va_P G.1 CL [(la, .inl (G.2 0, 200, .inl lf)), (za, .inl (G.2 0, 6, .inl zf)), (m0, .inr (6, [.ref sa, .ref oa, .ref pa, .ref la, .ref za, .ref na, .int gu, .int gt, .int gw, .int gd, .int gm, .int gr, .int (nI 1), .int gv]))] H) (hD : va_D A [(la, .inl (G.2 0, 200, .inl lf)), (za, .inl (G.2 0, 6, .inl zf)), (m0, .inr (6, [.ref sa, .ref oa, .ref pa, .ref la, .ref za, .ref na, .int gu, .int gt, .int gw, .int gd, .int gm, .int gr, .int (nI 1), .int gv]))]) hS hfz hfk => ?_)
    refine W.eq (g2 := F0 m 36 ls [.int (nI 1)]) rfl ?_
    refine n_if_eq (tgt := 43) hx hb (by omega) dX4_targetAt_36 (by decide) (fun c_519 => absurd c_519 (by omega)) (fun c_519 => ?_)
    refine lv_iconst (v := nI 0) hx hb dX4_targetAt_39 (by decide) ?_
    refine lv_goto (tgt := 52) hx hb dX4_targetAt_40 (by decide) ?_
    have hil : inL v (bE B) = none := by rw [iv_pn hI hbp]; exact inL_zero v
    have hq9 : q_target B v = (1, 0) := by unfold q_target q1; rw [hil] <;> rfl
    have hP : va_P G.1 CL [(la, .inl (G.2 0, 200, .inl lf)), (za, .inl (G.2 0, 6, .inl zf)), (m0, .inr (6, [.ref sa, .ref oa, .ref pa, .ref la, .ref za, .ref na, .int gu, .int gt, .int gw, .int gd, .int gm, .int gr, .int (nI ((q_target B v).1)), .int gv]))] H := by rw [hq9]; exact hP
    have hD : va_D A [(la, .inl (G.2 0, 200, .inl lf)), (za, .inl (G.2 0, 6, .inl zf)), (m0, .inr (6, [.ref sa, .ref oa, .ref pa, .ref la, .ref za, .ref na, .int gu, .int gt, .int gw, .int gd, .int gm, .int gr, .int (nI ((q_target B v).1)), .int gv]))] := by rw [hq9]; exact hD
    have hP9 : va_P G.1 CL [(m0, .inr (6, [.ref sa, .ref oa, .ref pa, .ref la, .ref za, .ref na, .int gu, .int gt, .int gw, .int gd, .int gm, .int gr, .int (nI ((q_target B v).1)), .int gv])), (la, .inl (G.2 0, 200, .inl lf)), (za, .inl (G.2 0, 6, .inl zf))] H := hP.sub [2, 0, 1] rfl
    have hD9 : va_D A [(m0, .inr (6, [.ref sa, .ref oa, .ref pa, .ref la, .ref za, .ref na, .int gu, .int gt, .int gw, .int gd, .int gm, .int gr, .int (nI ((q_target B v).1)), .int gv])), (la, .inl (G.2 0, 200, .inl lf)), (za, .inl (G.2 0, 6, .inl zf))] := hD.sub [2, 0, 1] (by decide) rfl
    exact end_i hx hb hr hlk (rfl) (qc_of ⟨nI 0, lf, zf, gd, gm, gr⟩ (v := some (.int (nI 0))) (by rfl) (fun h => by rw [hq9] at h; exact absurd h (by decide)) hP9 hD9 (trivial) hS) hS dX4_targetAt_52 (show 0 ≤ 0 from by first | exact Nat.le_refl _ | decide | omega) (show 0 ≤ 0 from by first | exact Nat.le_refl _ | decide | omega)
  · refine lv_aload_n hx hb dX4_targetAt_0 rfl (lv_at hl 0 rfl) ?_
    refine lv_aload_n hx hb dX4_targetAt_1 rfl (lv_at hl 0 rfl) ?_
    refine va_get hx hb hts in_X4 hown hK hP 0 rfl rfl 0 (by decide) (hts _ q1596) (fun _ h => h) rfl dX4_targetAt_2 ?_
    refine lv_iconst (v := nI 4) hx hb dX4_targetAt_5 (by decide) ?_
    refine r_iald (v := nI 1) hx hb hK (hR0.w hS) 0 0 rfl rfl (i := 4) (by omega) (by omega) (hM.planned.trans (by rw [hbp])) dX4_targetAt_6 ?_
    refine n_if_eq (tgt := 27) hx hb (by omega) dX4_targetAt_7 (by decide) (fun c_520 => absurd c_520 (by omega)) (fun c_520 => ?_)
    refine lv_iload_n hx hb dX4_targetAt_10 rfl (lv_at hl 1 rfl) ?_
    refine lv_iconst (v := nI 0) hx hb dX4_targetAt_11 (by decide) ?_
    refine lv_aload_n hx hb dX4_targetAt_12 rfl (lv_at hl 0 rfl) ?_
    refine va_get hx hb hts in_X4 hown hK hP 0 rfl rfl 0 (by decide) (hts _ q1596) (fun _ h => h) rfl dX4_targetAt_13 ?_
    refine lv_bipush (v := nI 6) hx hb dX4_targetAt_16 (by decide) ?_
    refine r_iald (v := nI (bE B)) hx hb hK (hR0.w hS) 0 0 rfl rfl (i := 6) (by omega) (by omega) (hM.ents) dX4_targetAt_18 ?_
    refine lv_iconst (v := nI 1) hx hb dX4_targetAt_19 (by decide) ?_
    refine lv_isub hx hb dX4_targetAt_20 ?_
    refine lv_toi (y := lI (bE B)) (rfl) ?_
    have hF := hF_of (wc := []) hD hS hA [] rfl
    refine go_ct hS hP hD [] [0, 1, 2] hF rfl rfl (by decide) (by decide)
        (va_runS (As := [.int v, .int (nI 0), .int (lI (bE B))]) (rest := [.ref m0]) cf (mX4_isIn l G v (nI 0) (lI (bE B))  H.size) (va_cwS 3 hts (lw_S q1647 q1648 q58 q1649) rfl rfl rfl (by decide +kernel) ⟨Nat.le_of_ble_eq_true rfl, Nat.le_of_ble_eq_true rfl⟩) (preS_of hKB hE hS hF (va_P.sub hP [] rfl) ((va_D.sub hD [] (by decide) rfl).weaken (fun _ _ _ _ => trivial)) trivial) rfl rfl hl.1 rfl (lv_room (Nat.le_of_ble_eq_true rfl)) dX4_targetAt_21 ⟨show 0 + 0 ≤ 0 from by first | decide | omega, show 0 + 0 ≤ 0 from by first | decide | omega⟩)
        (fun u_ H locs hq hph (hP : va_P G.1 CL [(m0, .inr (6, [.ref sa, .ref oa, .ref pa, .ref la, .ref za, .ref na, .int gu, .int gt, .int gw, .int gd, .int gm, .int gr, .int gh, .int gv])), (la, .inl (G.2 0, 200, .inl lf)), (za, .inl (G.2 0, 6, .inl zf))] H) (hD : va_D A [(m0, .inr (6, [.ref sa, .ref oa, .ref pa, .ref la, .ref za, .ref na, .int gu, .int gt, .int gw, .int gd, .int gm, .int gr, .int gh, .int gv])), (la, .inl (G.2 0, 200, .inl lf)), (za, .inl (G.2 0, 6, .inl zf))]) hS hfz hfk => ?_)
    obtain ⟨b_521, rfl⟩ : ∃ z, z = u_ := ⟨_, rfl⟩
    have hP : va_P G.1 CL [(m0, .inr (6, [.ref sa, .ref oa, .ref pa, .ref la, .ref za, .ref na, .int gu, .int gt, .int gw, .int gd, .int gm, .int gr, .int gh, .int gv])), (la, .inl (G.2 0, 200, .inl lf)), (za, .inl (G.2 0, 6, .inl zf))] H := hP
    have hD : va_D A [(m0, .inr (6, [.ref sa, .ref oa, .ref pa, .ref la, .ref za, .ref na, .int gu, .int gt, .int gw, .int gd, .int gm, .int gr, .int gh, .int gv])), (la, .inl (G.2 0, 200, .inl lf)), (za, .inl (G.2 0, 6, .inl zf))] := hD
    have hq_522 : (b_521 = true ↔ (nI 0) ≤ v ∧ v ≤ (lI (bE B))) := hq
    refine W.eq (g2 := F0 m 24 ls [.int (bI b_521), .ref m0]) rfl ?_
    cases b_521
    · refine lv_ton (n := 0) rfl ?_
      have hir_523 : inL v (bE B) = none := inL_none (fun z => absurd (hq_522.mpr z) (by decide))
      refine n_if_ne (tgt := 31) hx hb (by omega) dX4_targetAt_24 (by decide) (fun c_524 => absurd c_524 (by omega)) (fun c_524 => ?_)
      refine lv_iconst (v := nI 1) hx hb dX4_targetAt_27 (by decide) ?_
      refine lv_goto (tgt := 32) hx hb dX4_targetAt_28 (by decide) ?_
      refine lv_iconst (v := nI 1) hx hb dX4_targetAt_32 (by decide) ?_
      have hF := hF_of (wc := [(m0, .inr (6, [.ref sa, .ref oa, .ref pa, .ref la, .ref za, .ref na, .int gu, .int gt, .int gw, .int gd, .int gm, .int gr, .int gh, .int gv]))]) hD hS hA [0] rfl
      refine go_ct hS hP hD [0] [1, 2] hF rfl rfl (by decide) (by decide)
          (va_runV (As := [.int (nI 1), .int (nI 1)]) (rest := []) cf (mX4_isThrown_t l G m0 sa oa pa la za na gu gt gw gd gm gr gh gv 1  H.size) (cwV 2 hts (lw_V q1650 q1652 qs20 q58 q1653) rfl rfl rfl (by decide +kernel) ⟨Nat.le_of_ble_eq_true rfl, Nat.le_of_ble_eq_true rfl⟩) (preV_of hKB hE hS hF (va_recv hK hP (ci := 6) (q0 := 0) rfl rfl) (va_P.sub hP [0] rfl) ((va_D.sub hD [0] (by decide) rfl).weaken (fun _ _ _ _ => trivial)) trivial) rfl rfl hl.1 rfl (lv_room (Nat.le_of_ble_eq_true rfl)) dX4_targetAt_33 ⟨show 0 + 0 ≤ 0 from by first | decide | omega, show 0 + 0 ≤ 0 from by first | decide | omega⟩)
          (fun u_ H locs hq hph (hP : va_P G.1 CL [(la, .inl (G.2 0, 200, .inl lf)), (za, .inl (G.2 0, 6, .inl zf)), (m0, .inr (6, [.ref sa, .ref oa, .ref pa, .ref la, .ref za, .ref na, .int gu, .int gt, .int gw, .int gd, .int gm, .int gr, .int (nI 1), .int gv]))] H) (hD : va_D A [(la, .inl (G.2 0, 200, .inl lf)), (za, .inl (G.2 0, 6, .inl zf)), (m0, .inr (6, [.ref sa, .ref oa, .ref pa, .ref la, .ref za, .ref na, .int gu, .int gt, .int gw, .int gd, .int gm, .int gr, .int (nI 1), .int gv]))]) hS hfz hfk => ?_)
      refine W.eq (g2 := F0 m 36 ls [.int (nI 1)]) rfl ?_
      refine n_if_eq (tgt := 43) hx hb (by omega) dX4_targetAt_36 (by decide) (fun c_525 => absurd c_525 (by omega)) (fun c_525 => ?_)
      refine lv_iconst (v := nI 0) hx hb dX4_targetAt_39 (by decide) ?_
      refine lv_goto (tgt := 52) hx hb dX4_targetAt_40 (by decide) ?_
      have hq9 : q_target B v = (1, 0) := by unfold q_target q1; rw [hir_523] <;> rfl
      have hP : va_P G.1 CL [(la, .inl (G.2 0, 200, .inl lf)), (za, .inl (G.2 0, 6, .inl zf)), (m0, .inr (6, [.ref sa, .ref oa, .ref pa, .ref la, .ref za, .ref na, .int gu, .int gt, .int gw, .int gd, .int gm, .int gr, .int (nI ((q_target B v).1)), .int gv]))] H := by rw [hq9]; exact hP
      have hD : va_D A [(la, .inl (G.2 0, 200, .inl lf)), (za, .inl (G.2 0, 6, .inl zf)), (m0, .inr (6, [.ref sa, .ref oa, .ref pa, .ref la, .ref za, .ref na, .int gu, .int gt, .int gw, .int gd, .int gm, .int gr, .int (nI ((q_target B v).1)), .int gv]))] := by rw [hq9]; exact hD
      have hP9 : va_P G.1 CL [(m0, .inr (6, [.ref sa, .ref oa, .ref pa, .ref la, .ref za, .ref na, .int gu, .int gt, .int gw, .int gd, .int gm, .int gr, .int (nI ((q_target B v).1)), .int gv])), (la, .inl (G.2 0, 200, .inl lf)), (za, .inl (G.2 0, 6, .inl zf))] H := hP.sub [2, 0, 1] rfl
      have hD9 : va_D A [(m0, .inr (6, [.ref sa, .ref oa, .ref pa, .ref la, .ref za, .ref na, .int gu, .int gt, .int gw, .int gd, .int gm, .int gr, .int (nI ((q_target B v).1)), .int gv])), (la, .inl (G.2 0, 200, .inl lf)), (za, .inl (G.2 0, 6, .inl zf))] := hD.sub [2, 0, 1] (by decide) rfl
      exact end_i hx hb hr hlk (rfl) (qc_of ⟨nI 0, lf, zf, gd, gm, gr⟩ (v := some (.int (nI 0))) (by rfl) (fun h => by rw [hq9] at h; exact absurd h (by decide)) hP9 hD9 (trivial) hS) hS dX4_targetAt_52 (show 0 ≤ 0 from by first | exact Nat.le_refl _ | decide | omega) (show 0 ≤ 0 from by first | exact Nat.le_refl _ | decide | omega)
    · refine lv_ton (n := 1) rfl ?_
      have hin_526 : nI 0 ≤ v ∧ v ≤ lI (bE B) := hq_522.mp rfl
      obtain ⟨d_527, hv_528, h_529⟩ := inL_nat (c := bE B) (by omega) hin_526.1 hin_526.2
      have hir_531 : inL v (bE B) = some d_527 := inL_some hv_528 h_529 (by omega)
      have hl : lv_has ls 2 [(0, .ref m0), (1, .int (nI d_527))] := by
        have e9 : ((.int (nI d_527)) : Value) = .int v := by rw [hv_528]
        rw [e9]; exact hl
      refine n_if_ne (tgt := 31) hx hb (by omega) dX4_targetAt_24 (by decide) (fun c_532 => ?_) (fun c_532 => absurd c_532 (by omega))
      refine lv_iconst (v := nI 0) hx hb dX4_targetAt_31 (by decide) ?_
      refine lv_iconst (v := nI 1) hx hb dX4_targetAt_32 (by decide) ?_
      have hF := hF_of (wc := [(m0, .inr (6, [.ref sa, .ref oa, .ref pa, .ref la, .ref za, .ref na, .int gu, .int gt, .int gw, .int gd, .int gm, .int gr, .int gh, .int gv]))]) hD hS hA [0] rfl
      refine go_ct hS hP hD [0] [1, 2] hF rfl rfl (by decide) (by decide)
          (va_runV (As := [.int (nI 0), .int (nI 1)]) (rest := []) cf (mX4_isThrown_f l G m0 sa oa pa la za na gu gt gw gd gm gr gh gv 1  H.size) (cwV 2 hts (lw_V q1650 q1652 qs20 q58 q1653) rfl rfl rfl (by decide +kernel) ⟨Nat.le_of_ble_eq_true rfl, Nat.le_of_ble_eq_true rfl⟩) (preV_of hKB hE hS hF (va_recv hK hP (ci := 6) (q0 := 0) rfl rfl) (va_P.sub hP [0] rfl) ((va_D.sub hD [0] (by decide) rfl).weaken (fun _ _ _ _ => trivial)) trivial) rfl rfl hl.1 rfl (lv_room (Nat.le_of_ble_eq_true rfl)) dX4_targetAt_33 ⟨show 0 + 0 ≤ 0 from by first | decide | omega, show 0 + 0 ≤ 0 from by first | decide | omega⟩)
          (fun u_ H locs hq hph (hP : va_P G.1 CL [(la, .inl (G.2 0, 200, .inl lf)), (za, .inl (G.2 0, 6, .inl zf)), (m0, .inr (6, [.ref sa, .ref oa, .ref pa, .ref la, .ref za, .ref na, .int gu, .int gt, .int gw, .int gd, .int gm, .int gr, .int (nI 0), .int gv]))] H) (hD : va_D A [(la, .inl (G.2 0, 200, .inl lf)), (za, .inl (G.2 0, 6, .inl zf)), (m0, .inr (6, [.ref sa, .ref oa, .ref pa, .ref la, .ref za, .ref na, .int gu, .int gt, .int gw, .int gd, .int gm, .int gr, .int (nI 0), .int gv]))]) hS hfz hfk => ?_)
      refine W.eq (g2 := F0 m 36 ls [.int (nI 0)]) rfl ?_
      refine n_if_eq (tgt := 43) hx hb (by omega) dX4_targetAt_36 (by decide) (fun c_533 => ?_) (fun c_533 => absurd c_533 (by omega))
      refine lv_aload_n hx hb dX4_targetAt_43 rfl (lv_at hl 0 rfl) ?_
      refine va_get hx hb hts in_X4 hown hK hP 2 rfl rfl 0 (by decide) (hts _ q1596) (fun _ h => h) rfl dX4_targetAt_44 ?_
      refine lv_bipush (v := nI 40) hx hb dX4_targetAt_47 (by decide) ?_
      refine lv_iload_n hx hb dX4_targetAt_49 rfl (lv_at hl 1 rfl) ?_
      refine lv_iadd hx hb dX4_targetAt_50 ?_
      refine lv_ton (n := d_527 + 40) (nadd (by omega)) ?_
      refine r_iald (v := nI (bG B d_527)) hx hb hK (hR0.w hS) 0 0 rfl rfl (i := d_527 + 40) (by omega) (by omega) (hM.target (j := d_527) (by omega)) dX4_targetAt_51 ?_
      have hq9 : q_target B v = (0, nI (bG B d_527)) := by unfold q_target q1; rw [hir_531] <;> rfl
      have hP : va_P G.1 CL [(la, .inl (G.2 0, 200, .inl lf)), (za, .inl (G.2 0, 6, .inl zf)), (m0, .inr (6, [.ref sa, .ref oa, .ref pa, .ref la, .ref za, .ref na, .int gu, .int gt, .int gw, .int gd, .int gm, .int gr, .int (nI ((q_target B v).1)), .int gv]))] H := by rw [hq9]; exact hP
      have hD : va_D A [(la, .inl (G.2 0, 200, .inl lf)), (za, .inl (G.2 0, 6, .inl zf)), (m0, .inr (6, [.ref sa, .ref oa, .ref pa, .ref la, .ref za, .ref na, .int gu, .int gt, .int gw, .int gd, .int gm, .int gr, .int (nI ((q_target B v).1)), .int gv]))] := by rw [hq9]; exact hD
      have hP9 : va_P G.1 CL [(m0, .inr (6, [.ref sa, .ref oa, .ref pa, .ref la, .ref za, .ref na, .int gu, .int gt, .int gw, .int gd, .int gm, .int gr, .int (nI ((q_target B v).1)), .int gv])), (la, .inl (G.2 0, 200, .inl lf)), (za, .inl (G.2 0, 6, .inl zf))] H := hP.sub [2, 0, 1] rfl
      have hD9 : va_D A [(m0, .inr (6, [.ref sa, .ref oa, .ref pa, .ref la, .ref za, .ref na, .int gu, .int gt, .int gw, .int gd, .int gm, .int gr, .int (nI ((q_target B v).1)), .int gv])), (la, .inl (G.2 0, 200, .inl lf)), (za, .inl (G.2 0, 6, .inl zf))] := hD.sub [2, 0, 1] (by decide) rfl
      exact end_i hx hb hr hlk (rfl) (qc_of ⟨nI (bG B d_527), lf, zf, gd, gm, gr⟩ (v := some (.int (nI (bG B d_527)))) (by rfl) (fun _ => by rw [hq9]) hP9 hD9 (trivial) hS) hS dX4_targetAt_52 (show 0 ≤ 0 from by first | exact Nat.le_refl _ | decide | omega) (show 0 ≤ 0 from by first | exact Nat.le_refl _ | decide | omega)

set_option maxHeartbeats 4000000 in
theorem mX4_dueEntry (l : Launch) (G : Gt) (m0 : Nat) (sa : Nat) (oa : Nat) (pa : Nat) (la : Nat) (za : Nat) (na : Nat) (gu : Int32) (gt : Int32) (gw : Int32) (gd : Int32) (gm : Int32) (gr : Int32) (gh : Int32) (gv : Int32) (f : Nat → Int32) (B : Bk) (lf : Nat → Int32) (zf : Nat → Int32) (hM : MR f B) (hI : Inv B) : CT l G yX4_dueEntry cX4_dueEntry 1 (some .int) ({ frames := 7, cells := 0, slots := 0, locals := 150 } : Room) [.ref m0] [(m0, .inr (6, [.ref sa, .ref oa, .ref pa, .ref la, .ref za, .ref na, .int gu, .int gt, .int gw, .int gd, .int gm, .int gr, .int gh, .int gv])), (la, .inl (G.2 0, 200, .inl lf)), (za, .inl (G.2 0, 6, .inl zf))] (fun (A : Nat → Prop) (H : Heap) => roW G A H [(sa, .inl (G.2 0, 830, .inl f))]) (S := Int32 × (Nat → Int32) × (Nat → Int32) × Int32 × Int32 × Int32) (fun (u_ : Int32 × (Nat → Int32) × (Nat → Int32) × Int32 × Int32 × Int32) => some (.int u_.1)) (fun (u_ : Int32 × (Nat → Int32) × (Nat → Int32) × Int32 × Int32 × Int32) => ((q_due B).1 = 0 → u_.1 = (q_due B).2)) (fun (u_ : Int32 × (Nat → Int32) × (Nat → Int32) × Int32 × Int32 × Int32) => [(m0, .inr (6, [.ref sa, .ref oa, .ref pa, .ref la, .ref za, .ref na, .int gu, .int gt, .int gw, .int u_.2.2.2.1, .int u_.2.2.2.2.1, .int u_.2.2.2.2.2, .int (nI ((q_due B).1)), .int gv])), (la, .inl (G.2 0, 200, .inl u_.2.1)), (za, .inl (G.2 0, 6, .inl u_.2.2.1))]) (fun (u_ : Int32 × (Nat → Int32) × (Nat → Int32) × Int32 × Int32 × Int32) (H : Heap) => True) := by
  refine CT.of (by decide) (Nat.le_of_ble_eq_true rfl) ?_
  intro p e s m below meth c ls A H locs h9 hH0 hP hS
  obtain ⟨cf, hr, hlk, hnm, hKB, hE, -, hD, -, hA, hAw, hR0, hl⟩ := h9
  have hx := cf.1
  have hb := cf.2.1
  have hml := cf.2.2.1
  have hown : s.vm.findClass RX4 = some m.cls := cf.2.2.2.1
  have hts := cf.2.2.2.2
  have hK := hKB.1
  have hl : lv_has ls 1 [(0, .ref m0)] := hl
  have iN := iv_sN hI
  have iT := iv_tN hI
  have iD := iv_bD hI
  have iE := iv_bE hI
  have iW := iv_id hI
  refine lv_aload_n hx hb dX4_dueEntry_0 rfl (lv_at hl 0 rfl) ?_
  refine lv_aload_n hx hb dX4_dueEntry_1 rfl (lv_at hl 0 rfl) ?_
  have hF := hF_of (wc := [(m0, .inr (6, [.ref sa, .ref oa, .ref pa, .ref la, .ref za, .ref na, .int gu, .int gt, .int gw, .int gd, .int gm, .int gr, .int gh, .int gv])), (la, .inl (G.2 0, 200, .inl lf)), (za, .inl (G.2 0, 6, .inl zf))]) hD hS hA [0, 1, 2] rfl
  have hro_534 : roW G (va_A [(m0, .inr (6, [.ref sa, .ref oa, .ref pa, .ref la, .ref za, .ref na, .int gu, .int gt, .int gw, .int gd, .int gm, .int gr, .int gh, .int gv])), (la, .inl (G.2 0, 200, .inl lf)), (za, .inl (G.2 0, 6, .inl zf))] H.size) H [(sa, .inl (G.2 0, 830, .inl f))] := ((hR0.kp hF hS.2.1).sub (ws' := [(sa, .inl (G.2 0, 830, .inl f))]) [0] rfl)
  refine go_ct hS hP hD [0, 1, 2] [] hF rfl rfl (by decide) (by decide)
      (va_runV (As := []) (rest := [.ref m0]) cf (mX4_goes l G m0 sa oa pa la za na gu gt gw gd gm gr gh gv f B lf zf (show MR f B from by first | assumption | omega) (show Inv B from by first | assumption | omega) H.size) (cwV 0 hts (lw_V q1918 q1920 qs44 q58 q1921) rfl rfl rfl (by decide +kernel) ⟨Nat.le_of_ble_eq_true rfl, Nat.le_of_ble_eq_true rfl⟩) (preV_of hKB hE hS hF (va_recv hK hP (ci := 6) (q0 := 0) rfl rfl) (va_P.sub hP [0, 1, 2] rfl) ((va_D.sub hD [0, 1, 2] (by decide) rfl).weaken (fun _ _ _ _ => trivial)) hro_534) rfl rfl hl.1 rfl (lv_room (Nat.le_of_ble_eq_true rfl)) dX4_dueEntry_2 ⟨show 0 + 0 ≤ 0 from by first | decide | omega, show 0 + 0 ≤ 0 from by first | decide | omega⟩)
      (fun u_ H locs hq hph (hP : va_P G.1 CL [(m0, .inr (6, [.ref sa, .ref oa, .ref pa, .ref la, .ref za, .ref na, .int gu, .int gt, .int gw, .int (nI ((crs B).1)), .int (nI ((crs B).2.1)), .int (nI ((crs B).2.2.1)), .int gh, .int gv])), (la, .inl (G.2 0, 200, .inl (ldF B))), (za, .inl (G.2 0, 6, .inl u_))] H) (hD : va_D A [(m0, .inr (6, [.ref sa, .ref oa, .ref pa, .ref la, .ref za, .ref na, .int gu, .int gt, .int gw, .int (nI ((crs B).1)), .int (nI ((crs B).2.1)), .int (nI ((crs B).2.2.1)), .int gh, .int gv])), (la, .inl (G.2 0, 200, .inl (ldF B))), (za, .inl (G.2 0, 6, .inl u_))]) hS hfz hfk => ?_)
  obtain ⟨zg_535, rfl⟩ : ∃ z, z = u_ := ⟨_, rfl⟩
  have hP : va_P G.1 CL [(m0, .inr (6, [.ref sa, .ref oa, .ref pa, .ref la, .ref za, .ref na, .int gu, .int gt, .int gw, .int (nI ((crs B).1)), .int (nI ((crs B).2.1)), .int (nI ((crs B).2.2.1)), .int gh, .int gv])), (la, .inl (G.2 0, 200, .inl (ldF B))), (za, .inl (G.2 0, 6, .inl zg_535))] H := hP
  have hD : va_D A [(m0, .inr (6, [.ref sa, .ref oa, .ref pa, .ref la, .ref za, .ref na, .int gu, .int gt, .int gw, .int (nI ((crs B).1)), .int (nI ((crs B).2.1)), .int (nI ((crs B).2.2.1)), .int gh, .int gv])), (la, .inl (G.2 0, 200, .inl (ldF B))), (za, .inl (G.2 0, 6, .inl zg_535))] := hD
  refine W.eq (g2 := F0 m 5 ls [.int (gI B), .ref m0]) rfl ?_
  refine lv_toi (y := bI (goB B)) (gI_go B) ?_
  rcases hgo : goB B with _ | _
  · refine lv_ton (n := 0) rfl ?_
    refine n_if_ne (tgt := 12) hx hb (by omega) dX4_dueEntry_5 (by decide) (fun c_536 => absurd c_536 (by omega)) (fun c_536 => ?_)
    refine lv_iconst (v := nI 1) hx hb dX4_dueEntry_8 (by decide) ?_
    refine lv_goto (tgt := 13) hx hb dX4_dueEntry_9 (by decide) ?_
    refine lv_iconst (v := nI 1) hx hb dX4_dueEntry_13 (by decide) ?_
    have hF := hF_of (wc := [(m0, .inr (6, [.ref sa, .ref oa, .ref pa, .ref la, .ref za, .ref na, .int gu, .int gt, .int gw, .int (nI ((crs B).1)), .int (nI ((crs B).2.1)), .int (nI ((crs B).2.2.1)), .int gh, .int gv]))]) hD hS hA [0] rfl
    refine go_ct hS hP hD [0] [1, 2] hF rfl rfl (by decide) (by decide)
        (va_runV (As := [.int (nI 1), .int (nI 1)]) (rest := []) cf (mX4_isThrown_t l G m0 sa oa pa la za na gu gt gw (nI ((crs B).1)) (nI ((crs B).2.1)) (nI ((crs B).2.2.1)) gh gv 1  H.size) (cwV 2 hts (lw_V q1650 q1652 qs20 q58 q1653) rfl rfl rfl (by decide +kernel) ⟨Nat.le_of_ble_eq_true rfl, Nat.le_of_ble_eq_true rfl⟩) (preV_of hKB hE hS hF (va_recv hK hP (ci := 6) (q0 := 0) rfl rfl) (va_P.sub hP [0] rfl) ((va_D.sub hD [0] (by decide) rfl).weaken (fun _ _ _ _ => trivial)) trivial) rfl rfl hl.1 rfl (lv_room (Nat.le_of_ble_eq_true rfl)) dX4_dueEntry_14 ⟨show 0 + 0 ≤ 0 from by first | decide | omega, show 0 + 0 ≤ 0 from by first | decide | omega⟩)
        (fun u_ H locs hq hph (hP : va_P G.1 CL [(la, .inl (G.2 0, 200, .inl (ldF B))), (za, .inl (G.2 0, 6, .inl zg_535)), (m0, .inr (6, [.ref sa, .ref oa, .ref pa, .ref la, .ref za, .ref na, .int gu, .int gt, .int gw, .int (nI ((crs B).1)), .int (nI ((crs B).2.1)), .int (nI ((crs B).2.2.1)), .int (nI 1), .int gv]))] H) (hD : va_D A [(la, .inl (G.2 0, 200, .inl (ldF B))), (za, .inl (G.2 0, 6, .inl zg_535)), (m0, .inr (6, [.ref sa, .ref oa, .ref pa, .ref la, .ref za, .ref na, .int gu, .int gt, .int gw, .int (nI ((crs B).1)), .int (nI ((crs B).2.1)), .int (nI ((crs B).2.2.1)), .int (nI 1), .int gv]))]) hS hfz hfk => ?_)
    refine W.eq (g2 := F0 m 17 ls [.int (nI 1)]) rfl ?_
    refine n_if_eq (tgt := 24) hx hb (by omega) dX4_dueEntry_17 (by decide) (fun c_537 => absurd c_537 (by omega)) (fun c_537 => ?_)
    refine lv_iconst (v := nI 0) hx hb dX4_dueEntry_20 (by decide) ?_
    refine lv_goto (tgt := 28) hx hb dX4_dueEntry_21 (by decide) ?_
    have hq9 : q_due B = (1, 0) := by unfold q_due; rw [hgo] <;> rfl
    have hP : va_P G.1 CL [(la, .inl (G.2 0, 200, .inl (ldF B))), (za, .inl (G.2 0, 6, .inl zg_535)), (m0, .inr (6, [.ref sa, .ref oa, .ref pa, .ref la, .ref za, .ref na, .int gu, .int gt, .int gw, .int (nI ((crs B).1)), .int (nI ((crs B).2.1)), .int (nI ((crs B).2.2.1)), .int (nI ((q_due B).1)), .int gv]))] H := by rw [hq9]; exact hP
    have hD : va_D A [(la, .inl (G.2 0, 200, .inl (ldF B))), (za, .inl (G.2 0, 6, .inl zg_535)), (m0, .inr (6, [.ref sa, .ref oa, .ref pa, .ref la, .ref za, .ref na, .int gu, .int gt, .int gw, .int (nI ((crs B).1)), .int (nI ((crs B).2.1)), .int (nI ((crs B).2.2.1)), .int (nI ((q_due B).1)), .int gv]))] := by rw [hq9]; exact hD
    have hP9 : va_P G.1 CL [(m0, .inr (6, [.ref sa, .ref oa, .ref pa, .ref la, .ref za, .ref na, .int gu, .int gt, .int gw, .int (nI ((crs B).1)), .int (nI ((crs B).2.1)), .int (nI ((crs B).2.2.1)), .int (nI ((q_due B).1)), .int gv])), (la, .inl (G.2 0, 200, .inl (ldF B))), (za, .inl (G.2 0, 6, .inl zg_535))] H := hP.sub [2, 0, 1] rfl
    have hD9 : va_D A [(m0, .inr (6, [.ref sa, .ref oa, .ref pa, .ref la, .ref za, .ref na, .int gu, .int gt, .int gw, .int (nI ((crs B).1)), .int (nI ((crs B).2.1)), .int (nI ((crs B).2.2.1)), .int (nI ((q_due B).1)), .int gv])), (la, .inl (G.2 0, 200, .inl (ldF B))), (za, .inl (G.2 0, 6, .inl zg_535))] := hD.sub [2, 0, 1] (by decide) rfl
    exact end_i hx hb hr hlk (rfl) (qc_of ⟨nI 0, ldF B, zg_535, nI ((crs B).1), nI ((crs B).2.1), nI ((crs B).2.2.1)⟩ (v := some (.int (nI 0))) (by rfl) (fun h => by rw [hq9] at h; exact absurd h (by decide)) hP9 hD9 (trivial) hS) hS dX4_dueEntry_28 (show 0 ≤ 0 from by first | exact Nat.le_refl _ | decide | omega) (show 0 ≤ 0 from by first | exact Nat.le_refl _ | decide | omega)
  · refine lv_ton (n := 1) rfl ?_
    have hgo2 := hgo
    unfold goB at hgo2
    rw [Bool.and_eq_true, decide_eq_true_eq] at hgo2
    refine n_if_ne (tgt := 12) hx hb (by omega) dX4_dueEntry_5 (by decide) (fun c_538 => ?_) (fun c_538 => absurd c_538 (by omega))
    refine lv_iconst (v := nI 0) hx hb dX4_dueEntry_12 (by decide) ?_
    refine lv_iconst (v := nI 1) hx hb dX4_dueEntry_13 (by decide) ?_
    have hF := hF_of (wc := [(m0, .inr (6, [.ref sa, .ref oa, .ref pa, .ref la, .ref za, .ref na, .int gu, .int gt, .int gw, .int (nI ((crs B).1)), .int (nI ((crs B).2.1)), .int (nI ((crs B).2.2.1)), .int gh, .int gv]))]) hD hS hA [0] rfl
    refine go_ct hS hP hD [0] [1, 2] hF rfl rfl (by decide) (by decide)
        (va_runV (As := [.int (nI 0), .int (nI 1)]) (rest := []) cf (mX4_isThrown_f l G m0 sa oa pa la za na gu gt gw (nI ((crs B).1)) (nI ((crs B).2.1)) (nI ((crs B).2.2.1)) gh gv 1  H.size) (cwV 2 hts (lw_V q1650 q1652 qs20 q58 q1653) rfl rfl rfl (by decide +kernel) ⟨Nat.le_of_ble_eq_true rfl, Nat.le_of_ble_eq_true rfl⟩) (preV_of hKB hE hS hF (va_recv hK hP (ci := 6) (q0 := 0) rfl rfl) (va_P.sub hP [0] rfl) ((va_D.sub hD [0] (by decide) rfl).weaken (fun _ _ _ _ => trivial)) trivial) rfl rfl hl.1 rfl (lv_room (Nat.le_of_ble_eq_true rfl)) dX4_dueEntry_14 ⟨show 0 + 0 ≤ 0 from by first | decide | omega, show 0 + 0 ≤ 0 from by first | decide | omega⟩)
        (fun u_ H locs hq hph (hP : va_P G.1 CL [(la, .inl (G.2 0, 200, .inl (ldF B))), (za, .inl (G.2 0, 6, .inl zg_535)), (m0, .inr (6, [.ref sa, .ref oa, .ref pa, .ref la, .ref za, .ref na, .int gu, .int gt, .int gw, .int (nI ((crs B).1)), .int (nI ((crs B).2.1)), .int (nI ((crs B).2.2.1)), .int (nI 0), .int gv]))] H) (hD : va_D A [(la, .inl (G.2 0, 200, .inl (ldF B))), (za, .inl (G.2 0, 6, .inl zg_535)), (m0, .inr (6, [.ref sa, .ref oa, .ref pa, .ref la, .ref za, .ref na, .int gu, .int gt, .int gw, .int (nI ((crs B).1)), .int (nI ((crs B).2.1)), .int (nI ((crs B).2.2.1)), .int (nI 0), .int gv]))]) hS hfz hfk => ?_)
    refine W.eq (g2 := F0 m 17 ls [.int (nI 0)]) rfl ?_
    refine n_if_eq (tgt := 24) hx hb (by omega) dX4_dueEntry_17 (by decide) (fun c_539 => ?_) (fun c_539 => absurd c_539 (by omega))
    refine lv_aload_n hx hb dX4_dueEntry_24 rfl (lv_at hl 0 rfl) ?_
    refine va_get hx hb hts in_X4 hown hK hP 2 rfl rfl 9 (by decide) (hts _ q1605) (fun _ h => h) rfl dX4_dueEntry_25 ?_
    have hq9 : q_due B = (0, nI ((crs B).1)) := by unfold q_due; rw [hgo] <;> rfl
    have hP : va_P G.1 CL [(la, .inl (G.2 0, 200, .inl (ldF B))), (za, .inl (G.2 0, 6, .inl zg_535)), (m0, .inr (6, [.ref sa, .ref oa, .ref pa, .ref la, .ref za, .ref na, .int gu, .int gt, .int gw, .int (nI ((crs B).1)), .int (nI ((crs B).2.1)), .int (nI ((crs B).2.2.1)), .int (nI ((q_due B).1)), .int gv]))] H := by rw [hq9]; exact hP
    have hD : va_D A [(la, .inl (G.2 0, 200, .inl (ldF B))), (za, .inl (G.2 0, 6, .inl zg_535)), (m0, .inr (6, [.ref sa, .ref oa, .ref pa, .ref la, .ref za, .ref na, .int gu, .int gt, .int gw, .int (nI ((crs B).1)), .int (nI ((crs B).2.1)), .int (nI ((crs B).2.2.1)), .int (nI ((q_due B).1)), .int gv]))] := by rw [hq9]; exact hD
    have hP9 : va_P G.1 CL [(m0, .inr (6, [.ref sa, .ref oa, .ref pa, .ref la, .ref za, .ref na, .int gu, .int gt, .int gw, .int (nI ((crs B).1)), .int (nI ((crs B).2.1)), .int (nI ((crs B).2.2.1)), .int (nI ((q_due B).1)), .int gv])), (la, .inl (G.2 0, 200, .inl (ldF B))), (za, .inl (G.2 0, 6, .inl zg_535))] H := hP.sub [2, 0, 1] rfl
    have hD9 : va_D A [(m0, .inr (6, [.ref sa, .ref oa, .ref pa, .ref la, .ref za, .ref na, .int gu, .int gt, .int gw, .int (nI ((crs B).1)), .int (nI ((crs B).2.1)), .int (nI ((crs B).2.2.1)), .int (nI ((q_due B).1)), .int gv])), (la, .inl (G.2 0, 200, .inl (ldF B))), (za, .inl (G.2 0, 6, .inl zg_535))] := hD.sub [2, 0, 1] (by decide) rfl
    exact end_i hx hb hr hlk (rfl) (qc_of ⟨nI ((crs B).1), ldF B, zg_535, nI ((crs B).1), nI ((crs B).2.1), nI ((crs B).2.2.1)⟩ (v := some (.int (nI ((crs B).1)))) (by rfl) (fun _ => by rw [hq9]) hP9 hD9 (trivial) hS) hS dX4_dueEntry_28 (show 0 ≤ 0 from by first | exact Nat.le_refl _ | decide | omega) (show 0 ≤ 0 from by first | exact Nat.le_refl _ | decide | omega)

set_option maxHeartbeats 4000000 in
theorem mX4_missedDays (l : Launch) (G : Gt) (m0 : Nat) (sa : Nat) (oa : Nat) (pa : Nat) (la : Nat) (za : Nat) (na : Nat) (gu : Int32) (gt : Int32) (gw : Int32) (gd : Int32) (gm : Int32) (gr : Int32) (gh : Int32) (gv : Int32) (f : Nat → Int32) (B : Bk) (lf : Nat → Int32) (zf : Nat → Int32) (hM : MR f B) (hI : Inv B) : CT l G yX4_missedDays cX4_missedDays 2 (some .int) ({ frames := 7, cells := 0, slots := 0, locals := 150 } : Room) [.ref m0] [(m0, .inr (6, [.ref sa, .ref oa, .ref pa, .ref la, .ref za, .ref na, .int gu, .int gt, .int gw, .int gd, .int gm, .int gr, .int gh, .int gv])), (la, .inl (G.2 0, 200, .inl lf)), (za, .inl (G.2 0, 6, .inl zf))] (fun (A : Nat → Prop) (H : Heap) => roW G A H [(sa, .inl (G.2 0, 830, .inl f))]) (S := Int32 × (Nat → Int32) × (Nat → Int32) × Int32 × Int32 × Int32) (fun (u_ : Int32 × (Nat → Int32) × (Nat → Int32) × Int32 × Int32 × Int32) => some (.int u_.1)) (fun (u_ : Int32 × (Nat → Int32) × (Nat → Int32) × Int32 × Int32 × Int32) => ((q_missed B).1 = 0 → u_.1 = (q_missed B).2)) (fun (u_ : Int32 × (Nat → Int32) × (Nat → Int32) × Int32 × Int32 × Int32) => [(m0, .inr (6, [.ref sa, .ref oa, .ref pa, .ref la, .ref za, .ref na, .int gu, .int gt, .int gw, .int u_.2.2.2.1, .int u_.2.2.2.2.1, .int u_.2.2.2.2.2, .int (nI ((q_missed B).1)), .int gv])), (la, .inl (G.2 0, 200, .inl u_.2.1)), (za, .inl (G.2 0, 6, .inl u_.2.2.1))]) (fun (u_ : Int32 × (Nat → Int32) × (Nat → Int32) × Int32 × Int32 × Int32) (H : Heap) => True) := by
  refine CT.of (by decide) (Nat.le_of_ble_eq_true rfl) ?_
  intro p e s m below meth c ls A H locs h9 hH0 hP hS
  obtain ⟨cf, hr, hlk, hnm, hKB, hE, -, hD, -, hA, hAw, hR0, hl⟩ := h9
  have hx := cf.1
  have hb := cf.2.1
  have hml := cf.2.2.1
  have hown : s.vm.findClass RX4 = some m.cls := cf.2.2.2.1
  have hts := cf.2.2.2.2
  have hK := hKB.1
  have hl : lv_has ls 2 [(0, .ref m0)] := hl
  have iN := iv_sN hI
  have iT := iv_tN hI
  have iD := iv_bD hI
  have iE := iv_bE hI
  have iW := iv_id hI
  refine lv_aload_n hx hb dX4_missedDays_0 rfl (lv_at hl 0 rfl) ?_
  refine lv_iconst (v := nI 0) hx hb dX4_missedDays_1 (by decide) ?_
  refine va_put (v := .int (nI 0)) (ty := .int) hx hb hts in_X4 tyX4 tyX4_ok nmX4 hown hK hP hD hS 0 rfl rfl 12 (by decide) (hts _ q1608) (fun _ h => h) rfl (by decide +kernel) rfl rfl (Nat.le_of_ble_eq_true rfl) dX4_missedDays_2 (fun H locs (hP : va_P G.1 CL [(m0, .inr (6, [.ref sa, .ref oa, .ref pa, .ref la, .ref za, .ref na, .int gu, .int gt, .int gw, .int gd, .int gm, .int gr, .int (nI 0), .int gv])), (la, .inl (G.2 0, 200, .inl lf)), (za, .inl (G.2 0, 6, .inl zf))] H) (hD : va_D A [(m0, .inr (6, [.ref sa, .ref oa, .ref pa, .ref la, .ref za, .ref na, .int gu, .int gt, .int gw, .int gd, .int gm, .int gr, .int (nI 0), .int gv])), (la, .inl (G.2 0, 200, .inl lf)), (za, .inl (G.2 0, 6, .inl zf))]) hS => ?_)
  refine lv_aload_n hx hb dX4_missedDays_5 rfl (lv_at hl 0 rfl) ?_
  have hF := hF_of (wc := [(m0, .inr (6, [.ref sa, .ref oa, .ref pa, .ref la, .ref za, .ref na, .int gu, .int gt, .int gw, .int gd, .int gm, .int gr, .int (nI 0), .int gv])), (la, .inl (G.2 0, 200, .inl lf)), (za, .inl (G.2 0, 6, .inl zf))]) hD hS hA [0, 1, 2] rfl
  have hro_540 : roW G (va_A [(m0, .inr (6, [.ref sa, .ref oa, .ref pa, .ref la, .ref za, .ref na, .int gu, .int gt, .int gw, .int gd, .int gm, .int gr, .int (nI 0), .int gv])), (la, .inl (G.2 0, 200, .inl lf)), (za, .inl (G.2 0, 6, .inl zf))] H.size) H [(sa, .inl (G.2 0, 830, .inl f))] := ((hR0.kp hF hS.2.1).sub (ws' := [(sa, .inl (G.2 0, 830, .inl f))]) [0] rfl)
  refine go_ct hS hP hD [0, 1, 2] [] hF rfl rfl (by decide) (by decide)
      (va_runV (As := []) (rest := []) cf (mX4_goes l G m0 sa oa pa la za na gu gt gw gd gm gr (nI 0) gv f B lf zf (show MR f B from by first | assumption | omega) (show Inv B from by first | assumption | omega) H.size) (cwV 0 hts (lw_V q1918 q1920 qs44 q58 q1921) rfl rfl rfl (by decide +kernel) ⟨Nat.le_of_ble_eq_true rfl, Nat.le_of_ble_eq_true rfl⟩) (preV_of hKB hE hS hF (va_recv hK hP (ci := 6) (q0 := 0) rfl rfl) (va_P.sub hP [0, 1, 2] rfl) ((va_D.sub hD [0, 1, 2] (by decide) rfl).weaken (fun _ _ _ _ => trivial)) hro_540) rfl rfl hl.1 rfl (lv_room (Nat.le_of_ble_eq_true rfl)) dX4_missedDays_6 ⟨show 0 + 0 ≤ 0 from by first | decide | omega, show 0 + 0 ≤ 0 from by first | decide | omega⟩)
      (fun u_ H locs hq hph (hP : va_P G.1 CL [(m0, .inr (6, [.ref sa, .ref oa, .ref pa, .ref la, .ref za, .ref na, .int gu, .int gt, .int gw, .int (nI ((crs B).1)), .int (nI ((crs B).2.1)), .int (nI ((crs B).2.2.1)), .int (nI 0), .int gv])), (la, .inl (G.2 0, 200, .inl (ldF B))), (za, .inl (G.2 0, 6, .inl u_))] H) (hD : va_D A [(m0, .inr (6, [.ref sa, .ref oa, .ref pa, .ref la, .ref za, .ref na, .int gu, .int gt, .int gw, .int (nI ((crs B).1)), .int (nI ((crs B).2.1)), .int (nI ((crs B).2.2.1)), .int (nI 0), .int gv])), (la, .inl (G.2 0, 200, .inl (ldF B))), (za, .inl (G.2 0, 6, .inl u_))]) hS hfz hfk => ?_)
  obtain ⟨zg_541, rfl⟩ : ∃ z, z = u_ := ⟨_, rfl⟩
  have hP : va_P G.1 CL [(m0, .inr (6, [.ref sa, .ref oa, .ref pa, .ref la, .ref za, .ref na, .int gu, .int gt, .int gw, .int (nI ((crs B).1)), .int (nI ((crs B).2.1)), .int (nI ((crs B).2.2.1)), .int (nI 0), .int gv])), (la, .inl (G.2 0, 200, .inl (ldF B))), (za, .inl (G.2 0, 6, .inl zg_541))] H := hP
  have hD : va_D A [(m0, .inr (6, [.ref sa, .ref oa, .ref pa, .ref la, .ref za, .ref na, .int gu, .int gt, .int gw, .int (nI ((crs B).1)), .int (nI ((crs B).2.1)), .int (nI ((crs B).2.2.1)), .int (nI 0), .int gv])), (la, .inl (G.2 0, 200, .inl (ldF B))), (za, .inl (G.2 0, 6, .inl zg_541))] := hD
  refine W.eq (g2 := F0 m 9 ls [.int (gI B)]) rfl ?_
  refine lv_toi (y := bI (goB B)) (gI_go B) ?_
  rcases hgo : goB B with _ | _
  · refine lv_ton (n := 0) rfl ?_
    refine lv_istore_n (lv' := [(1, .int (nI 0)), (0, .ref m0)]) hx hb dX4_missedDays_9 rfl hl (by decide) rfl (fun ls hl => ?_)
    refine lv_aload_n hx hb dX4_missedDays_10 rfl (lv_at hl 1 rfl) ?_
    refine va_get hx hb hts in_X4 hown hK hP 0 rfl rfl 10 (by decide) (hts _ q1606) (fun _ h => h) rfl dX4_missedDays_11 ?_
    have hq9 : q_missed B = (0, nI ((crs B).2.1)) := by unfold q_missed; rfl
    have hP : va_P G.1 CL [(m0, .inr (6, [.ref sa, .ref oa, .ref pa, .ref la, .ref za, .ref na, .int gu, .int gt, .int gw, .int (nI ((crs B).1)), .int (nI ((crs B).2.1)), .int (nI ((crs B).2.2.1)), .int (nI ((q_missed B).1)), .int gv])), (la, .inl (G.2 0, 200, .inl (ldF B))), (za, .inl (G.2 0, 6, .inl zg_541))] H := by rw [hq9]; exact hP
    have hD : va_D A [(m0, .inr (6, [.ref sa, .ref oa, .ref pa, .ref la, .ref za, .ref na, .int gu, .int gt, .int gw, .int (nI ((crs B).1)), .int (nI ((crs B).2.1)), .int (nI ((crs B).2.2.1)), .int (nI ((q_missed B).1)), .int gv])), (la, .inl (G.2 0, 200, .inl (ldF B))), (za, .inl (G.2 0, 6, .inl zg_541))] := by rw [hq9]; exact hD
    have hP9 : va_P G.1 CL [(m0, .inr (6, [.ref sa, .ref oa, .ref pa, .ref la, .ref za, .ref na, .int gu, .int gt, .int gw, .int (nI ((crs B).1)), .int (nI ((crs B).2.1)), .int (nI ((crs B).2.2.1)), .int (nI ((q_missed B).1)), .int gv])), (la, .inl (G.2 0, 200, .inl (ldF B))), (za, .inl (G.2 0, 6, .inl zg_541))] H := hP.sub [0, 1, 2] rfl
    have hD9 : va_D A [(m0, .inr (6, [.ref sa, .ref oa, .ref pa, .ref la, .ref za, .ref na, .int gu, .int gt, .int gw, .int (nI ((crs B).1)), .int (nI ((crs B).2.1)), .int (nI ((crs B).2.2.1)), .int (nI ((q_missed B).1)), .int gv])), (la, .inl (G.2 0, 200, .inl (ldF B))), (za, .inl (G.2 0, 6, .inl zg_541))] := hD.sub [0, 1, 2] (by decide) rfl
    exact end_i hx hb hr hlk (rfl) (qc_of ⟨nI ((crs B).2.1), ldF B, zg_541, nI ((crs B).1), nI ((crs B).2.1), nI ((crs B).2.2.1)⟩ (v := some (.int (nI ((crs B).2.1)))) (by rfl) (fun _ => by rw [hq9]) hP9 hD9 (trivial) hS) hS dX4_missedDays_14 (show 0 ≤ 0 from by first | exact Nat.le_refl _ | decide | omega) (show 0 ≤ 0 from by first | exact Nat.le_refl _ | decide | omega)
  · refine lv_ton (n := 1) rfl ?_
    have hgo2 := hgo
    unfold goB at hgo2
    rw [Bool.and_eq_true, decide_eq_true_eq] at hgo2
    refine lv_istore_n (lv' := [(1, .int (nI 1)), (0, .ref m0)]) hx hb dX4_missedDays_9 rfl hl (by decide) rfl (fun ls hl => ?_)
    refine lv_aload_n hx hb dX4_missedDays_10 rfl (lv_at hl 1 rfl) ?_
    refine va_get hx hb hts in_X4 hown hK hP 0 rfl rfl 10 (by decide) (hts _ q1606) (fun _ h => h) rfl dX4_missedDays_11 ?_
    have hq9 : q_missed B = (0, nI ((crs B).2.1)) := by unfold q_missed; rfl
    have hP : va_P G.1 CL [(m0, .inr (6, [.ref sa, .ref oa, .ref pa, .ref la, .ref za, .ref na, .int gu, .int gt, .int gw, .int (nI ((crs B).1)), .int (nI ((crs B).2.1)), .int (nI ((crs B).2.2.1)), .int (nI ((q_missed B).1)), .int gv])), (la, .inl (G.2 0, 200, .inl (ldF B))), (za, .inl (G.2 0, 6, .inl zg_541))] H := by rw [hq9]; exact hP
    have hD : va_D A [(m0, .inr (6, [.ref sa, .ref oa, .ref pa, .ref la, .ref za, .ref na, .int gu, .int gt, .int gw, .int (nI ((crs B).1)), .int (nI ((crs B).2.1)), .int (nI ((crs B).2.2.1)), .int (nI ((q_missed B).1)), .int gv])), (la, .inl (G.2 0, 200, .inl (ldF B))), (za, .inl (G.2 0, 6, .inl zg_541))] := by rw [hq9]; exact hD
    have hP9 : va_P G.1 CL [(m0, .inr (6, [.ref sa, .ref oa, .ref pa, .ref la, .ref za, .ref na, .int gu, .int gt, .int gw, .int (nI ((crs B).1)), .int (nI ((crs B).2.1)), .int (nI ((crs B).2.2.1)), .int (nI ((q_missed B).1)), .int gv])), (la, .inl (G.2 0, 200, .inl (ldF B))), (za, .inl (G.2 0, 6, .inl zg_541))] H := hP.sub [0, 1, 2] rfl
    have hD9 : va_D A [(m0, .inr (6, [.ref sa, .ref oa, .ref pa, .ref la, .ref za, .ref na, .int gu, .int gt, .int gw, .int (nI ((crs B).1)), .int (nI ((crs B).2.1)), .int (nI ((crs B).2.2.1)), .int (nI ((q_missed B).1)), .int gv])), (la, .inl (G.2 0, 200, .inl (ldF B))), (za, .inl (G.2 0, 6, .inl zg_541))] := hD.sub [0, 1, 2] (by decide) rfl
    exact end_i hx hb hr hlk (rfl) (qc_of ⟨nI ((crs B).2.1), ldF B, zg_541, nI ((crs B).1), nI ((crs B).2.1), nI ((crs B).2.2.1)⟩ (v := some (.int (nI ((crs B).2.1)))) (by rfl) (fun _ => by rw [hq9]) hP9 hD9 (trivial) hS) hS dX4_missedDays_14 (show 0 ≤ 0 from by first | exact Nat.le_refl _ | decide | omega) (show 0 ≤ 0 from by first | exact Nat.le_refl _ | decide | omega)

set_option maxHeartbeats 4000000 in
theorem mX4_droppedEntries (l : Launch) (G : Gt) (m0 : Nat) (sa : Nat) (oa : Nat) (pa : Nat) (la : Nat) (za : Nat) (na : Nat) (gu : Int32) (gt : Int32) (gw : Int32) (gd : Int32) (gm : Int32) (gr : Int32) (gh : Int32) (gv : Int32) (f : Nat → Int32) (B : Bk) (lf : Nat → Int32) (zf : Nat → Int32) (hM : MR f B) (hI : Inv B) : CT l G yX4_droppedEntries cX4_droppedEntries 2 (some .int) ({ frames := 7, cells := 0, slots := 0, locals := 150 } : Room) [.ref m0] [(m0, .inr (6, [.ref sa, .ref oa, .ref pa, .ref la, .ref za, .ref na, .int gu, .int gt, .int gw, .int gd, .int gm, .int gr, .int gh, .int gv])), (la, .inl (G.2 0, 200, .inl lf)), (za, .inl (G.2 0, 6, .inl zf))] (fun (A : Nat → Prop) (H : Heap) => roW G A H [(sa, .inl (G.2 0, 830, .inl f))]) (S := Int32 × (Nat → Int32) × (Nat → Int32) × Int32 × Int32 × Int32) (fun (u_ : Int32 × (Nat → Int32) × (Nat → Int32) × Int32 × Int32 × Int32) => some (.int u_.1)) (fun (u_ : Int32 × (Nat → Int32) × (Nat → Int32) × Int32 × Int32 × Int32) => ((q_dropped B).1 = 0 → u_.1 = (q_dropped B).2)) (fun (u_ : Int32 × (Nat → Int32) × (Nat → Int32) × Int32 × Int32 × Int32) => [(m0, .inr (6, [.ref sa, .ref oa, .ref pa, .ref la, .ref za, .ref na, .int gu, .int gt, .int gw, .int u_.2.2.2.1, .int u_.2.2.2.2.1, .int u_.2.2.2.2.2, .int (nI ((q_dropped B).1)), .int gv])), (la, .inl (G.2 0, 200, .inl u_.2.1)), (za, .inl (G.2 0, 6, .inl u_.2.2.1))]) (fun (u_ : Int32 × (Nat → Int32) × (Nat → Int32) × Int32 × Int32 × Int32) (H : Heap) => True) := by
  refine CT.of (by decide) (Nat.le_of_ble_eq_true rfl) ?_
  intro p e s m below meth c ls A H locs h9 hH0 hP hS
  obtain ⟨cf, hr, hlk, hnm, hKB, hE, -, hD, -, hA, hAw, hR0, hl⟩ := h9
  have hx := cf.1
  have hb := cf.2.1
  have hml := cf.2.2.1
  have hown : s.vm.findClass RX4 = some m.cls := cf.2.2.2.1
  have hts := cf.2.2.2.2
  have hK := hKB.1
  have hl : lv_has ls 2 [(0, .ref m0)] := hl
  have iN := iv_sN hI
  have iT := iv_tN hI
  have iD := iv_bD hI
  have iE := iv_bE hI
  have iW := iv_id hI
  refine lv_aload_n hx hb dX4_droppedEntries_0 rfl (lv_at hl 0 rfl) ?_
  refine lv_iconst (v := nI 0) hx hb dX4_droppedEntries_1 (by decide) ?_
  refine va_put (v := .int (nI 0)) (ty := .int) hx hb hts in_X4 tyX4 tyX4_ok nmX4 hown hK hP hD hS 0 rfl rfl 12 (by decide) (hts _ q1608) (fun _ h => h) rfl (by decide +kernel) rfl rfl (Nat.le_of_ble_eq_true rfl) dX4_droppedEntries_2 (fun H locs (hP : va_P G.1 CL [(m0, .inr (6, [.ref sa, .ref oa, .ref pa, .ref la, .ref za, .ref na, .int gu, .int gt, .int gw, .int gd, .int gm, .int gr, .int (nI 0), .int gv])), (la, .inl (G.2 0, 200, .inl lf)), (za, .inl (G.2 0, 6, .inl zf))] H) (hD : va_D A [(m0, .inr (6, [.ref sa, .ref oa, .ref pa, .ref la, .ref za, .ref na, .int gu, .int gt, .int gw, .int gd, .int gm, .int gr, .int (nI 0), .int gv])), (la, .inl (G.2 0, 200, .inl lf)), (za, .inl (G.2 0, 6, .inl zf))]) hS => ?_)
  refine lv_aload_n hx hb dX4_droppedEntries_5 rfl (lv_at hl 0 rfl) ?_
  have hF := hF_of (wc := [(m0, .inr (6, [.ref sa, .ref oa, .ref pa, .ref la, .ref za, .ref na, .int gu, .int gt, .int gw, .int gd, .int gm, .int gr, .int (nI 0), .int gv])), (la, .inl (G.2 0, 200, .inl lf)), (za, .inl (G.2 0, 6, .inl zf))]) hD hS hA [0, 1, 2] rfl
  have hro_542 : roW G (va_A [(m0, .inr (6, [.ref sa, .ref oa, .ref pa, .ref la, .ref za, .ref na, .int gu, .int gt, .int gw, .int gd, .int gm, .int gr, .int (nI 0), .int gv])), (la, .inl (G.2 0, 200, .inl lf)), (za, .inl (G.2 0, 6, .inl zf))] H.size) H [(sa, .inl (G.2 0, 830, .inl f))] := ((hR0.kp hF hS.2.1).sub (ws' := [(sa, .inl (G.2 0, 830, .inl f))]) [0] rfl)
  refine go_ct hS hP hD [0, 1, 2] [] hF rfl rfl (by decide) (by decide)
      (va_runV (As := []) (rest := []) cf (mX4_goes l G m0 sa oa pa la za na gu gt gw gd gm gr (nI 0) gv f B lf zf (show MR f B from by first | assumption | omega) (show Inv B from by first | assumption | omega) H.size) (cwV 0 hts (lw_V q1918 q1920 qs44 q58 q1921) rfl rfl rfl (by decide +kernel) ⟨Nat.le_of_ble_eq_true rfl, Nat.le_of_ble_eq_true rfl⟩) (preV_of hKB hE hS hF (va_recv hK hP (ci := 6) (q0 := 0) rfl rfl) (va_P.sub hP [0, 1, 2] rfl) ((va_D.sub hD [0, 1, 2] (by decide) rfl).weaken (fun _ _ _ _ => trivial)) hro_542) rfl rfl hl.1 rfl (lv_room (Nat.le_of_ble_eq_true rfl)) dX4_droppedEntries_6 ⟨show 0 + 0 ≤ 0 from by first | decide | omega, show 0 + 0 ≤ 0 from by first | decide | omega⟩)
      (fun u_ H locs hq hph (hP : va_P G.1 CL [(m0, .inr (6, [.ref sa, .ref oa, .ref pa, .ref la, .ref za, .ref na, .int gu, .int gt, .int gw, .int (nI ((crs B).1)), .int (nI ((crs B).2.1)), .int (nI ((crs B).2.2.1)), .int (nI 0), .int gv])), (la, .inl (G.2 0, 200, .inl (ldF B))), (za, .inl (G.2 0, 6, .inl u_))] H) (hD : va_D A [(m0, .inr (6, [.ref sa, .ref oa, .ref pa, .ref la, .ref za, .ref na, .int gu, .int gt, .int gw, .int (nI ((crs B).1)), .int (nI ((crs B).2.1)), .int (nI ((crs B).2.2.1)), .int (nI 0), .int gv])), (la, .inl (G.2 0, 200, .inl (ldF B))), (za, .inl (G.2 0, 6, .inl u_))]) hS hfz hfk => ?_)
  obtain ⟨zg_543, rfl⟩ : ∃ z, z = u_ := ⟨_, rfl⟩
  have hP : va_P G.1 CL [(m0, .inr (6, [.ref sa, .ref oa, .ref pa, .ref la, .ref za, .ref na, .int gu, .int gt, .int gw, .int (nI ((crs B).1)), .int (nI ((crs B).2.1)), .int (nI ((crs B).2.2.1)), .int (nI 0), .int gv])), (la, .inl (G.2 0, 200, .inl (ldF B))), (za, .inl (G.2 0, 6, .inl zg_543))] H := hP
  have hD : va_D A [(m0, .inr (6, [.ref sa, .ref oa, .ref pa, .ref la, .ref za, .ref na, .int gu, .int gt, .int gw, .int (nI ((crs B).1)), .int (nI ((crs B).2.1)), .int (nI ((crs B).2.2.1)), .int (nI 0), .int gv])), (la, .inl (G.2 0, 200, .inl (ldF B))), (za, .inl (G.2 0, 6, .inl zg_543))] := hD
  refine W.eq (g2 := F0 m 9 ls [.int (gI B)]) rfl ?_
  refine lv_toi (y := bI (goB B)) (gI_go B) ?_
  rcases hgo : goB B with _ | _
  · refine lv_ton (n := 0) rfl ?_
    refine lv_istore_n (lv' := [(1, .int (nI 0)), (0, .ref m0)]) hx hb dX4_droppedEntries_9 rfl hl (by decide) rfl (fun ls hl => ?_)
    refine lv_aload_n hx hb dX4_droppedEntries_10 rfl (lv_at hl 1 rfl) ?_
    refine va_get hx hb hts in_X4 hown hK hP 0 rfl rfl 11 (by decide) (hts _ q1607) (fun _ h => h) rfl dX4_droppedEntries_11 ?_
    have hq9 : q_dropped B = (0, nI ((crs B).2.2.1)) := by unfold q_dropped; rfl
    have hP : va_P G.1 CL [(m0, .inr (6, [.ref sa, .ref oa, .ref pa, .ref la, .ref za, .ref na, .int gu, .int gt, .int gw, .int (nI ((crs B).1)), .int (nI ((crs B).2.1)), .int (nI ((crs B).2.2.1)), .int (nI ((q_dropped B).1)), .int gv])), (la, .inl (G.2 0, 200, .inl (ldF B))), (za, .inl (G.2 0, 6, .inl zg_543))] H := by rw [hq9]; exact hP
    have hD : va_D A [(m0, .inr (6, [.ref sa, .ref oa, .ref pa, .ref la, .ref za, .ref na, .int gu, .int gt, .int gw, .int (nI ((crs B).1)), .int (nI ((crs B).2.1)), .int (nI ((crs B).2.2.1)), .int (nI ((q_dropped B).1)), .int gv])), (la, .inl (G.2 0, 200, .inl (ldF B))), (za, .inl (G.2 0, 6, .inl zg_543))] := by rw [hq9]; exact hD
    have hP9 : va_P G.1 CL [(m0, .inr (6, [.ref sa, .ref oa, .ref pa, .ref la, .ref za, .ref na, .int gu, .int gt, .int gw, .int (nI ((crs B).1)), .int (nI ((crs B).2.1)), .int (nI ((crs B).2.2.1)), .int (nI ((q_dropped B).1)), .int gv])), (la, .inl (G.2 0, 200, .inl (ldF B))), (za, .inl (G.2 0, 6, .inl zg_543))] H := hP.sub [0, 1, 2] rfl
    have hD9 : va_D A [(m0, .inr (6, [.ref sa, .ref oa, .ref pa, .ref la, .ref za, .ref na, .int gu, .int gt, .int gw, .int (nI ((crs B).1)), .int (nI ((crs B).2.1)), .int (nI ((crs B).2.2.1)), .int (nI ((q_dropped B).1)), .int gv])), (la, .inl (G.2 0, 200, .inl (ldF B))), (za, .inl (G.2 0, 6, .inl zg_543))] := hD.sub [0, 1, 2] (by decide) rfl
    exact end_i hx hb hr hlk (rfl) (qc_of ⟨nI ((crs B).2.2.1), ldF B, zg_543, nI ((crs B).1), nI ((crs B).2.1), nI ((crs B).2.2.1)⟩ (v := some (.int (nI ((crs B).2.2.1)))) (by rfl) (fun _ => by rw [hq9]) hP9 hD9 (trivial) hS) hS dX4_droppedEntries_14 (show 0 ≤ 0 from by first | exact Nat.le_refl _ | decide | omega) (show 0 ≤ 0 from by first | exact Nat.le_refl _ | decide | omega)
  · refine lv_ton (n := 1) rfl ?_
    have hgo2 := hgo
    unfold goB at hgo2
    rw [Bool.and_eq_true, decide_eq_true_eq] at hgo2
    refine lv_istore_n (lv' := [(1, .int (nI 1)), (0, .ref m0)]) hx hb dX4_droppedEntries_9 rfl hl (by decide) rfl (fun ls hl => ?_)
    refine lv_aload_n hx hb dX4_droppedEntries_10 rfl (lv_at hl 1 rfl) ?_
    refine va_get hx hb hts in_X4 hown hK hP 0 rfl rfl 11 (by decide) (hts _ q1607) (fun _ h => h) rfl dX4_droppedEntries_11 ?_
    have hq9 : q_dropped B = (0, nI ((crs B).2.2.1)) := by unfold q_dropped; rfl
    have hP : va_P G.1 CL [(m0, .inr (6, [.ref sa, .ref oa, .ref pa, .ref la, .ref za, .ref na, .int gu, .int gt, .int gw, .int (nI ((crs B).1)), .int (nI ((crs B).2.1)), .int (nI ((crs B).2.2.1)), .int (nI ((q_dropped B).1)), .int gv])), (la, .inl (G.2 0, 200, .inl (ldF B))), (za, .inl (G.2 0, 6, .inl zg_543))] H := by rw [hq9]; exact hP
    have hD : va_D A [(m0, .inr (6, [.ref sa, .ref oa, .ref pa, .ref la, .ref za, .ref na, .int gu, .int gt, .int gw, .int (nI ((crs B).1)), .int (nI ((crs B).2.1)), .int (nI ((crs B).2.2.1)), .int (nI ((q_dropped B).1)), .int gv])), (la, .inl (G.2 0, 200, .inl (ldF B))), (za, .inl (G.2 0, 6, .inl zg_543))] := by rw [hq9]; exact hD
    have hP9 : va_P G.1 CL [(m0, .inr (6, [.ref sa, .ref oa, .ref pa, .ref la, .ref za, .ref na, .int gu, .int gt, .int gw, .int (nI ((crs B).1)), .int (nI ((crs B).2.1)), .int (nI ((crs B).2.2.1)), .int (nI ((q_dropped B).1)), .int gv])), (la, .inl (G.2 0, 200, .inl (ldF B))), (za, .inl (G.2 0, 6, .inl zg_543))] H := hP.sub [0, 1, 2] rfl
    have hD9 : va_D A [(m0, .inr (6, [.ref sa, .ref oa, .ref pa, .ref la, .ref za, .ref na, .int gu, .int gt, .int gw, .int (nI ((crs B).1)), .int (nI ((crs B).2.1)), .int (nI ((crs B).2.2.1)), .int (nI ((q_dropped B).1)), .int gv])), (la, .inl (G.2 0, 200, .inl (ldF B))), (za, .inl (G.2 0, 6, .inl zg_543))] := hD.sub [0, 1, 2] (by decide) rfl
    exact end_i hx hb hr hlk (rfl) (qc_of ⟨nI ((crs B).2.2.1), ldF B, zg_543, nI ((crs B).1), nI ((crs B).2.1), nI ((crs B).2.2.1)⟩ (v := some (.int (nI ((crs B).2.2.1)))) (by rfl) (fun _ => by rw [hq9]) hP9 hD9 (trivial) hS) hS dX4_droppedEntries_14 (show 0 ≤ 0 from by first | exact Nat.le_refl _ | decide | omega) (show 0 ≤ 0 from by first | exact Nat.le_refl _ | decide | omega)

set_option maxHeartbeats 4000000 in
theorem mX4_planEnd (l : Launch) (G : Gt) (m0 : Nat) (sa : Nat) (oa : Nat) (pa : Nat) (la : Nat) (za : Nat) (na : Nat) (gu : Int32) (gt : Int32) (gw : Int32) (gd : Int32) (gm : Int32) (gr : Int32) (gh : Int32) (gv : Int32) (f : Nat → Int32) (B : Bk) (lf : Nat → Int32) (zf : Nat → Int32) (hM : MR f B) (hI : Inv B) : CT l G yX4_planEnd cX4_planEnd 1 (some .int) ({ frames := 7, cells := 0, slots := 0, locals := 150 } : Room) [.ref m0] [(m0, .inr (6, [.ref sa, .ref oa, .ref pa, .ref la, .ref za, .ref na, .int gu, .int gt, .int gw, .int gd, .int gm, .int gr, .int gh, .int gv])), (la, .inl (G.2 0, 200, .inl lf)), (za, .inl (G.2 0, 6, .inl zf))] (fun (A : Nat → Prop) (H : Heap) => roW G A H [(sa, .inl (G.2 0, 830, .inl f))]) (S := Int32 × (Nat → Int32) × (Nat → Int32) × Int32 × Int32 × Int32) (fun (u_ : Int32 × (Nat → Int32) × (Nat → Int32) × Int32 × Int32 × Int32) => some (.int u_.1)) (fun (u_ : Int32 × (Nat → Int32) × (Nat → Int32) × Int32 × Int32 × Int32) => ((q_end B).1 = 0 → u_.1 = (q_end B).2)) (fun (u_ : Int32 × (Nat → Int32) × (Nat → Int32) × Int32 × Int32 × Int32) => [(m0, .inr (6, [.ref sa, .ref oa, .ref pa, .ref la, .ref za, .ref na, .int gu, .int gt, .int gw, .int u_.2.2.2.1, .int u_.2.2.2.2.1, .int u_.2.2.2.2.2, .int (nI ((q_end B).1)), .int gv])), (la, .inl (G.2 0, 200, .inl u_.2.1)), (za, .inl (G.2 0, 6, .inl u_.2.2.1))]) (fun (u_ : Int32 × (Nat → Int32) × (Nat → Int32) × Int32 × Int32 × Int32) (H : Heap) => True) := by
  refine CT.of (by decide) (Nat.le_of_ble_eq_true rfl) ?_
  intro p e s m below meth c ls A H locs h9 hH0 hP hS
  obtain ⟨cf, hr, hlk, hnm, hKB, hE, -, hD, -, hA, hAw, hR0, hl⟩ := h9
  have hx := cf.1
  have hb := cf.2.1
  have hml := cf.2.2.1
  have hown : s.vm.findClass RX4 = some m.cls := cf.2.2.2.1
  have hts := cf.2.2.2.2
  have hK := hKB.1
  have hl : lv_has ls 1 [(0, .ref m0)] := hl
  have iN := iv_sN hI
  have iT := iv_tN hI
  have iD := iv_bD hI
  have iE := iv_bE hI
  have iW := iv_id hI
  refine lv_aload_n hx hb dX4_planEnd_0 rfl (lv_at hl 0 rfl) ?_
  refine lv_aload_n hx hb dX4_planEnd_1 rfl (lv_at hl 0 rfl) ?_
  have hF := hF_of (wc := [(m0, .inr (6, [.ref sa, .ref oa, .ref pa, .ref la, .ref za, .ref na, .int gu, .int gt, .int gw, .int gd, .int gm, .int gr, .int gh, .int gv])), (la, .inl (G.2 0, 200, .inl lf)), (za, .inl (G.2 0, 6, .inl zf))]) hD hS hA [0, 1, 2] rfl
  have hro_544 : roW G (va_A [(m0, .inr (6, [.ref sa, .ref oa, .ref pa, .ref la, .ref za, .ref na, .int gu, .int gt, .int gw, .int gd, .int gm, .int gr, .int gh, .int gv])), (la, .inl (G.2 0, 200, .inl lf)), (za, .inl (G.2 0, 6, .inl zf))] H.size) H [(sa, .inl (G.2 0, 830, .inl f))] := ((hR0.kp hF hS.2.1).sub (ws' := [(sa, .inl (G.2 0, 830, .inl f))]) [0] rfl)
  refine go_ct hS hP hD [0, 1, 2] [] hF rfl rfl (by decide) (by decide)
      (va_runV (As := []) (rest := [.ref m0]) cf (mX4_goes l G m0 sa oa pa la za na gu gt gw gd gm gr gh gv f B lf zf (show MR f B from by first | assumption | omega) (show Inv B from by first | assumption | omega) H.size) (cwV 0 hts (lw_V q1918 q1920 qs44 q58 q1921) rfl rfl rfl (by decide +kernel) ⟨Nat.le_of_ble_eq_true rfl, Nat.le_of_ble_eq_true rfl⟩) (preV_of hKB hE hS hF (va_recv hK hP (ci := 6) (q0 := 0) rfl rfl) (va_P.sub hP [0, 1, 2] rfl) ((va_D.sub hD [0, 1, 2] (by decide) rfl).weaken (fun _ _ _ _ => trivial)) hro_544) rfl rfl hl.1 rfl (lv_room (Nat.le_of_ble_eq_true rfl)) dX4_planEnd_2 ⟨show 0 + 0 ≤ 0 from by first | decide | omega, show 0 + 0 ≤ 0 from by first | decide | omega⟩)
      (fun u_ H locs hq hph (hP : va_P G.1 CL [(m0, .inr (6, [.ref sa, .ref oa, .ref pa, .ref la, .ref za, .ref na, .int gu, .int gt, .int gw, .int (nI ((crs B).1)), .int (nI ((crs B).2.1)), .int (nI ((crs B).2.2.1)), .int gh, .int gv])), (la, .inl (G.2 0, 200, .inl (ldF B))), (za, .inl (G.2 0, 6, .inl u_))] H) (hD : va_D A [(m0, .inr (6, [.ref sa, .ref oa, .ref pa, .ref la, .ref za, .ref na, .int gu, .int gt, .int gw, .int (nI ((crs B).1)), .int (nI ((crs B).2.1)), .int (nI ((crs B).2.2.1)), .int gh, .int gv])), (la, .inl (G.2 0, 200, .inl (ldF B))), (za, .inl (G.2 0, 6, .inl u_))]) hS hfz hfk => ?_)
  obtain ⟨zg_545, rfl⟩ : ∃ z, z = u_ := ⟨_, rfl⟩
  have hP : va_P G.1 CL [(m0, .inr (6, [.ref sa, .ref oa, .ref pa, .ref la, .ref za, .ref na, .int gu, .int gt, .int gw, .int (nI ((crs B).1)), .int (nI ((crs B).2.1)), .int (nI ((crs B).2.2.1)), .int gh, .int gv])), (la, .inl (G.2 0, 200, .inl (ldF B))), (za, .inl (G.2 0, 6, .inl zg_545))] H := hP
  have hD : va_D A [(m0, .inr (6, [.ref sa, .ref oa, .ref pa, .ref la, .ref za, .ref na, .int gu, .int gt, .int gw, .int (nI ((crs B).1)), .int (nI ((crs B).2.1)), .int (nI ((crs B).2.2.1)), .int gh, .int gv])), (la, .inl (G.2 0, 200, .inl (ldF B))), (za, .inl (G.2 0, 6, .inl zg_545))] := hD
  refine W.eq (g2 := F0 m 5 ls [.int (gI B), .ref m0]) rfl ?_
  refine lv_toi (y := bI (goB B)) (gI_go B) ?_
  rcases hgo : goB B with _ | _
  · refine lv_ton (n := 0) rfl ?_
    refine n_if_ne (tgt := 12) hx hb (by omega) dX4_planEnd_5 (by decide) (fun c_546 => absurd c_546 (by omega)) (fun c_546 => ?_)
    refine lv_iconst (v := nI 1) hx hb dX4_planEnd_8 (by decide) ?_
    refine lv_goto (tgt := 13) hx hb dX4_planEnd_9 (by decide) ?_
    refine lv_iconst (v := nI 1) hx hb dX4_planEnd_13 (by decide) ?_
    have hF := hF_of (wc := [(m0, .inr (6, [.ref sa, .ref oa, .ref pa, .ref la, .ref za, .ref na, .int gu, .int gt, .int gw, .int (nI ((crs B).1)), .int (nI ((crs B).2.1)), .int (nI ((crs B).2.2.1)), .int gh, .int gv]))]) hD hS hA [0] rfl
    refine go_ct hS hP hD [0] [1, 2] hF rfl rfl (by decide) (by decide)
        (va_runV (As := [.int (nI 1), .int (nI 1)]) (rest := []) cf (mX4_isThrown_t l G m0 sa oa pa la za na gu gt gw (nI ((crs B).1)) (nI ((crs B).2.1)) (nI ((crs B).2.2.1)) gh gv 1  H.size) (cwV 2 hts (lw_V q1650 q1652 qs20 q58 q1653) rfl rfl rfl (by decide +kernel) ⟨Nat.le_of_ble_eq_true rfl, Nat.le_of_ble_eq_true rfl⟩) (preV_of hKB hE hS hF (va_recv hK hP (ci := 6) (q0 := 0) rfl rfl) (va_P.sub hP [0] rfl) ((va_D.sub hD [0] (by decide) rfl).weaken (fun _ _ _ _ => trivial)) trivial) rfl rfl hl.1 rfl (lv_room (Nat.le_of_ble_eq_true rfl)) dX4_planEnd_14 ⟨show 0 + 0 ≤ 0 from by first | decide | omega, show 0 + 0 ≤ 0 from by first | decide | omega⟩)
        (fun u_ H locs hq hph (hP : va_P G.1 CL [(la, .inl (G.2 0, 200, .inl (ldF B))), (za, .inl (G.2 0, 6, .inl zg_545)), (m0, .inr (6, [.ref sa, .ref oa, .ref pa, .ref la, .ref za, .ref na, .int gu, .int gt, .int gw, .int (nI ((crs B).1)), .int (nI ((crs B).2.1)), .int (nI ((crs B).2.2.1)), .int (nI 1), .int gv]))] H) (hD : va_D A [(la, .inl (G.2 0, 200, .inl (ldF B))), (za, .inl (G.2 0, 6, .inl zg_545)), (m0, .inr (6, [.ref sa, .ref oa, .ref pa, .ref la, .ref za, .ref na, .int gu, .int gt, .int gw, .int (nI ((crs B).1)), .int (nI ((crs B).2.1)), .int (nI ((crs B).2.2.1)), .int (nI 1), .int gv]))]) hS hfz hfk => ?_)
    refine W.eq (g2 := F0 m 17 ls [.int (nI 1)]) rfl ?_
    refine n_if_eq (tgt := 24) hx hb (by omega) dX4_planEnd_17 (by decide) (fun c_547 => absurd c_547 (by omega)) (fun c_547 => ?_)
    refine lv_iconst (v := nI 0) hx hb dX4_planEnd_20 (by decide) ?_
    refine lv_goto (tgt := 45) hx hb dX4_planEnd_21 (by decide) ?_
    have hq9 : q_end B = (1, 0) := by unfold q_end; rw [hgo] <;> rfl
    have hP : va_P G.1 CL [(la, .inl (G.2 0, 200, .inl (ldF B))), (za, .inl (G.2 0, 6, .inl zg_545)), (m0, .inr (6, [.ref sa, .ref oa, .ref pa, .ref la, .ref za, .ref na, .int gu, .int gt, .int gw, .int (nI ((crs B).1)), .int (nI ((crs B).2.1)), .int (nI ((crs B).2.2.1)), .int (nI ((q_end B).1)), .int gv]))] H := by rw [hq9]; exact hP
    have hD : va_D A [(la, .inl (G.2 0, 200, .inl (ldF B))), (za, .inl (G.2 0, 6, .inl zg_545)), (m0, .inr (6, [.ref sa, .ref oa, .ref pa, .ref la, .ref za, .ref na, .int gu, .int gt, .int gw, .int (nI ((crs B).1)), .int (nI ((crs B).2.1)), .int (nI ((crs B).2.2.1)), .int (nI ((q_end B).1)), .int gv]))] := by rw [hq9]; exact hD
    have hP9 : va_P G.1 CL [(m0, .inr (6, [.ref sa, .ref oa, .ref pa, .ref la, .ref za, .ref na, .int gu, .int gt, .int gw, .int (nI ((crs B).1)), .int (nI ((crs B).2.1)), .int (nI ((crs B).2.2.1)), .int (nI ((q_end B).1)), .int gv])), (la, .inl (G.2 0, 200, .inl (ldF B))), (za, .inl (G.2 0, 6, .inl zg_545))] H := hP.sub [2, 0, 1] rfl
    have hD9 : va_D A [(m0, .inr (6, [.ref sa, .ref oa, .ref pa, .ref la, .ref za, .ref na, .int gu, .int gt, .int gw, .int (nI ((crs B).1)), .int (nI ((crs B).2.1)), .int (nI ((crs B).2.2.1)), .int (nI ((q_end B).1)), .int gv])), (la, .inl (G.2 0, 200, .inl (ldF B))), (za, .inl (G.2 0, 6, .inl zg_545))] := hD.sub [2, 0, 1] (by decide) rfl
    exact end_i hx hb hr hlk (rfl) (qc_of ⟨nI 0, ldF B, zg_545, nI ((crs B).1), nI ((crs B).2.1), nI ((crs B).2.2.1)⟩ (v := some (.int (nI 0))) (by rfl) (fun h => by rw [hq9] at h; exact absurd h (by decide)) hP9 hD9 (trivial) hS) hS dX4_planEnd_45 (show 0 ≤ 0 from by first | exact Nat.le_refl _ | decide | omega) (show 0 ≤ 0 from by first | exact Nat.le_refl _ | decide | omega)
  · refine lv_ton (n := 1) rfl ?_
    have hgo2 := hgo
    unfold goB at hgo2
    rw [Bool.and_eq_true, decide_eq_true_eq] at hgo2
    refine n_if_ne (tgt := 12) hx hb (by omega) dX4_planEnd_5 (by decide) (fun c_548 => ?_) (fun c_548 => absurd c_548 (by omega))
    refine lv_iconst (v := nI 0) hx hb dX4_planEnd_12 (by decide) ?_
    refine lv_iconst (v := nI 1) hx hb dX4_planEnd_13 (by decide) ?_
    have hF := hF_of (wc := [(m0, .inr (6, [.ref sa, .ref oa, .ref pa, .ref la, .ref za, .ref na, .int gu, .int gt, .int gw, .int (nI ((crs B).1)), .int (nI ((crs B).2.1)), .int (nI ((crs B).2.2.1)), .int gh, .int gv]))]) hD hS hA [0] rfl
    refine go_ct hS hP hD [0] [1, 2] hF rfl rfl (by decide) (by decide)
        (va_runV (As := [.int (nI 0), .int (nI 1)]) (rest := []) cf (mX4_isThrown_f l G m0 sa oa pa la za na gu gt gw (nI ((crs B).1)) (nI ((crs B).2.1)) (nI ((crs B).2.2.1)) gh gv 1  H.size) (cwV 2 hts (lw_V q1650 q1652 qs20 q58 q1653) rfl rfl rfl (by decide +kernel) ⟨Nat.le_of_ble_eq_true rfl, Nat.le_of_ble_eq_true rfl⟩) (preV_of hKB hE hS hF (va_recv hK hP (ci := 6) (q0 := 0) rfl rfl) (va_P.sub hP [0] rfl) ((va_D.sub hD [0] (by decide) rfl).weaken (fun _ _ _ _ => trivial)) trivial) rfl rfl hl.1 rfl (lv_room (Nat.le_of_ble_eq_true rfl)) dX4_planEnd_14 ⟨show 0 + 0 ≤ 0 from by first | decide | omega, show 0 + 0 ≤ 0 from by first | decide | omega⟩)
        (fun u_ H locs hq hph (hP : va_P G.1 CL [(la, .inl (G.2 0, 200, .inl (ldF B))), (za, .inl (G.2 0, 6, .inl zg_545)), (m0, .inr (6, [.ref sa, .ref oa, .ref pa, .ref la, .ref za, .ref na, .int gu, .int gt, .int gw, .int (nI ((crs B).1)), .int (nI ((crs B).2.1)), .int (nI ((crs B).2.2.1)), .int (nI 0), .int gv]))] H) (hD : va_D A [(la, .inl (G.2 0, 200, .inl (ldF B))), (za, .inl (G.2 0, 6, .inl zg_545)), (m0, .inr (6, [.ref sa, .ref oa, .ref pa, .ref la, .ref za, .ref na, .int gu, .int gt, .int gw, .int (nI ((crs B).1)), .int (nI ((crs B).2.1)), .int (nI ((crs B).2.2.1)), .int (nI 0), .int gv]))]) hS hfz hfk => ?_)
    refine W.eq (g2 := F0 m 17 ls [.int (nI 0)]) rfl ?_
    refine n_if_eq (tgt := 24) hx hb (by omega) dX4_planEnd_17 (by decide) (fun c_549 => ?_) (fun c_549 => absurd c_549 (by omega))
    refine lv_aload_n hx hb dX4_planEnd_24 rfl (lv_at hl 0 rfl) ?_
    refine va_get hx hb hts in_X4 hown hK hP 2 rfl rfl 0 (by decide) (hts _ q1596) (fun _ h => h) rfl dX4_planEnd_25 ?_
    refine lv_iconst (v := nI 0) hx hb dX4_planEnd_28 (by decide) ?_
    refine r_iald (v := nI (bD B)) hx hb hK (hR0.w hS) 0 0 rfl rfl (i := 0) (by omega) (by omega) (hM.today) dX4_planEnd_29 ?_
    refine lv_aload_n hx hb dX4_planEnd_30 rfl (lv_at hl 0 rfl) ?_
    refine va_get hx hb hts in_X4 hown hK hP 2 rfl rfl 0 (by decide) (hts _ q1596) (fun _ h => h) rfl dX4_planEnd_31 ?_
    refine lv_bipush (v := nI 6) hx hb dX4_planEnd_34 (by decide) ?_
    refine r_iald (v := nI (bE B)) hx hb hK (hR0.w hS) 0 0 rfl rfl (i := 6) (by omega) (by omega) (hM.ents) dX4_planEnd_36 ?_
    refine lv_iadd hx hb dX4_planEnd_37 ?_
    refine lv_ton (n := (bD B) + (bE B)) (nadd (by omega)) ?_
    refine lv_iconst (v := nI 1) hx hb dX4_planEnd_38 (by decide) ?_
    refine lv_isub hx hb dX4_planEnd_39 ?_
    refine lv_aload_n hx hb dX4_planEnd_40 rfl (lv_at hl 0 rfl) ?_
    refine va_get hx hb hts in_X4 hown hK hP 2 rfl rfl 9 (by decide) (hts _ q1605) (fun _ h => h) rfl dX4_planEnd_41 ?_
    refine lv_isub hx hb dX4_planEnd_44 ?_
    have hq9 : q_end B = (0, ((nI ((bD B) + (bE B))) - (nI 1)) - (nI ((crs B).1))) := by unfold q_end; rw [hgo] <;> rfl
    have hP : va_P G.1 CL [(la, .inl (G.2 0, 200, .inl (ldF B))), (za, .inl (G.2 0, 6, .inl zg_545)), (m0, .inr (6, [.ref sa, .ref oa, .ref pa, .ref la, .ref za, .ref na, .int gu, .int gt, .int gw, .int (nI ((crs B).1)), .int (nI ((crs B).2.1)), .int (nI ((crs B).2.2.1)), .int (nI ((q_end B).1)), .int gv]))] H := by rw [hq9]; exact hP
    have hD : va_D A [(la, .inl (G.2 0, 200, .inl (ldF B))), (za, .inl (G.2 0, 6, .inl zg_545)), (m0, .inr (6, [.ref sa, .ref oa, .ref pa, .ref la, .ref za, .ref na, .int gu, .int gt, .int gw, .int (nI ((crs B).1)), .int (nI ((crs B).2.1)), .int (nI ((crs B).2.2.1)), .int (nI ((q_end B).1)), .int gv]))] := by rw [hq9]; exact hD
    have hP9 : va_P G.1 CL [(m0, .inr (6, [.ref sa, .ref oa, .ref pa, .ref la, .ref za, .ref na, .int gu, .int gt, .int gw, .int (nI ((crs B).1)), .int (nI ((crs B).2.1)), .int (nI ((crs B).2.2.1)), .int (nI ((q_end B).1)), .int gv])), (la, .inl (G.2 0, 200, .inl (ldF B))), (za, .inl (G.2 0, 6, .inl zg_545))] H := hP.sub [2, 0, 1] rfl
    have hD9 : va_D A [(m0, .inr (6, [.ref sa, .ref oa, .ref pa, .ref la, .ref za, .ref na, .int gu, .int gt, .int gw, .int (nI ((crs B).1)), .int (nI ((crs B).2.1)), .int (nI ((crs B).2.2.1)), .int (nI ((q_end B).1)), .int gv])), (la, .inl (G.2 0, 200, .inl (ldF B))), (za, .inl (G.2 0, 6, .inl zg_545))] := hD.sub [2, 0, 1] (by decide) rfl
    exact end_i hx hb hr hlk (rfl) (qc_of ⟨((nI ((bD B) + (bE B))) - (nI 1)) - (nI ((crs B).1)), ldF B, zg_545, nI ((crs B).1), nI ((crs B).2.1), nI ((crs B).2.2.1)⟩ (v := some (.int (((nI ((bD B) + (bE B))) - (nI 1)) - (nI ((crs B).1))))) (by rfl) (fun _ => by rw [hq9]) hP9 hD9 (trivial) hS) hS dX4_planEnd_45 (show 0 ≤ 0 from by first | exact Nat.le_refl _ | decide | omega) (show 0 ≤ 0 from by first | exact Nat.le_refl _ | decide | omega)

set_option maxHeartbeats 4000000 in
theorem mX4_isPlanOver (l : Launch) (G : Gt) (m0 : Nat) (sa : Nat) (oa : Nat) (pa : Nat) (la : Nat) (za : Nat) (na : Nat) (gu : Int32) (gt : Int32) (gw : Int32) (gd : Int32) (gm : Int32) (gr : Int32) (gh : Int32) (gv : Int32) (f : Nat → Int32) (B : Bk) (lf : Nat → Int32) (zf : Nat → Int32) (hM : MR f B) (hI : Inv B) : CT l G yX4_isPlanOver cX4_isPlanOver 1 (some .boolean) ({ frames := 7, cells := 0, slots := 0, locals := 150 } : Room) [.ref m0] [(m0, .inr (6, [.ref sa, .ref oa, .ref pa, .ref la, .ref za, .ref na, .int gu, .int gt, .int gw, .int gd, .int gm, .int gr, .int gh, .int gv])), (la, .inl (G.2 0, 200, .inl lf)), (za, .inl (G.2 0, 6, .inl zf))] (fun (A : Nat → Prop) (H : Heap) => roW G A H [(sa, .inl (G.2 0, 830, .inl f))]) (S := Int32 × (Nat → Int32) × (Nat → Int32) × Int32 × Int32 × Int32) (fun (u_ : Int32 × (Nat → Int32) × (Nat → Int32) × Int32 × Int32 × Int32) => some (.int u_.1)) (fun (u_ : Int32 × (Nat → Int32) × (Nat → Int32) × Int32 × Int32 × Int32) => ((q_over B).1 = 0 → u_.1 = (q_over B).2)) (fun (u_ : Int32 × (Nat → Int32) × (Nat → Int32) × Int32 × Int32 × Int32) => [(m0, .inr (6, [.ref sa, .ref oa, .ref pa, .ref la, .ref za, .ref na, .int gu, .int gt, .int gw, .int u_.2.2.2.1, .int u_.2.2.2.2.1, .int u_.2.2.2.2.2, .int (nI ((q_over B).1)), .int gv])), (la, .inl (G.2 0, 200, .inl u_.2.1)), (za, .inl (G.2 0, 6, .inl u_.2.2.1))]) (fun (u_ : Int32 × (Nat → Int32) × (Nat → Int32) × Int32 × Int32 × Int32) (H : Heap) => True) := by
  refine CT.of (by decide) (Nat.le_of_ble_eq_true rfl) ?_
  intro p e s m below meth c ls A H locs h9 hH0 hP hS
  obtain ⟨cf, hr, hlk, hnm, hKB, hE, -, hD, -, hA, hAw, hR0, hl⟩ := h9
  have hx := cf.1
  have hb := cf.2.1
  have hml := cf.2.2.1
  have hown : s.vm.findClass RX4 = some m.cls := cf.2.2.2.1
  have hts := cf.2.2.2.2
  have hK := hKB.1
  have hl : lv_has ls 1 [(0, .ref m0)] := hl
  have iN := iv_sN hI
  have iT := iv_tN hI
  have iD := iv_bD hI
  have iE := iv_bE hI
  have iW := iv_id hI
  refine lv_aload_n hx hb dX4_isPlanOver_0 rfl (lv_at hl 0 rfl) ?_
  refine lv_iconst (v := nI 0) hx hb dX4_isPlanOver_1 (by decide) ?_
  refine va_put (v := .int (nI 0)) (ty := .int) hx hb hts in_X4 tyX4 tyX4_ok nmX4 hown hK hP hD hS 0 rfl rfl 12 (by decide) (hts _ q1608) (fun _ h => h) rfl (by decide +kernel) rfl rfl (Nat.le_of_ble_eq_true rfl) dX4_isPlanOver_2 (fun H locs (hP : va_P G.1 CL [(m0, .inr (6, [.ref sa, .ref oa, .ref pa, .ref la, .ref za, .ref na, .int gu, .int gt, .int gw, .int gd, .int gm, .int gr, .int (nI 0), .int gv])), (la, .inl (G.2 0, 200, .inl lf)), (za, .inl (G.2 0, 6, .inl zf))] H) (hD : va_D A [(m0, .inr (6, [.ref sa, .ref oa, .ref pa, .ref la, .ref za, .ref na, .int gu, .int gt, .int gw, .int gd, .int gm, .int gr, .int (nI 0), .int gv])), (la, .inl (G.2 0, 200, .inl lf)), (za, .inl (G.2 0, 6, .inl zf))]) hS => ?_)
  refine lv_aload_n hx hb dX4_isPlanOver_5 rfl (lv_at hl 0 rfl) ?_
  have hF := hF_of (wc := [(m0, .inr (6, [.ref sa, .ref oa, .ref pa, .ref la, .ref za, .ref na, .int gu, .int gt, .int gw, .int gd, .int gm, .int gr, .int (nI 0), .int gv])), (la, .inl (G.2 0, 200, .inl lf)), (za, .inl (G.2 0, 6, .inl zf))]) hD hS hA [0, 1, 2] rfl
  have hro_550 : roW G (va_A [(m0, .inr (6, [.ref sa, .ref oa, .ref pa, .ref la, .ref za, .ref na, .int gu, .int gt, .int gw, .int gd, .int gm, .int gr, .int (nI 0), .int gv])), (la, .inl (G.2 0, 200, .inl lf)), (za, .inl (G.2 0, 6, .inl zf))] H.size) H [(sa, .inl (G.2 0, 830, .inl f))] := ((hR0.kp hF hS.2.1).sub (ws' := [(sa, .inl (G.2 0, 830, .inl f))]) [0] rfl)
  refine go_ct hS hP hD [0, 1, 2] [] hF rfl rfl (by decide) (by decide)
      (va_runV (As := []) (rest := []) cf (mX4_goes l G m0 sa oa pa la za na gu gt gw gd gm gr (nI 0) gv f B lf zf (show MR f B from by first | assumption | omega) (show Inv B from by first | assumption | omega) H.size) (cwV 0 hts (lw_V q1918 q1920 qs44 q58 q1921) rfl rfl rfl (by decide +kernel) ⟨Nat.le_of_ble_eq_true rfl, Nat.le_of_ble_eq_true rfl⟩) (preV_of hKB hE hS hF (va_recv hK hP (ci := 6) (q0 := 0) rfl rfl) (va_P.sub hP [0, 1, 2] rfl) ((va_D.sub hD [0, 1, 2] (by decide) rfl).weaken (fun _ _ _ _ => trivial)) hro_550) rfl rfl hl.1 rfl (lv_room (Nat.le_of_ble_eq_true rfl)) dX4_isPlanOver_6 ⟨show 0 + 0 ≤ 0 from by first | decide | omega, show 0 + 0 ≤ 0 from by first | decide | omega⟩)
      (fun u_ H locs hq hph (hP : va_P G.1 CL [(m0, .inr (6, [.ref sa, .ref oa, .ref pa, .ref la, .ref za, .ref na, .int gu, .int gt, .int gw, .int (nI ((crs B).1)), .int (nI ((crs B).2.1)), .int (nI ((crs B).2.2.1)), .int (nI 0), .int gv])), (la, .inl (G.2 0, 200, .inl (ldF B))), (za, .inl (G.2 0, 6, .inl u_))] H) (hD : va_D A [(m0, .inr (6, [.ref sa, .ref oa, .ref pa, .ref la, .ref za, .ref na, .int gu, .int gt, .int gw, .int (nI ((crs B).1)), .int (nI ((crs B).2.1)), .int (nI ((crs B).2.2.1)), .int (nI 0), .int gv])), (la, .inl (G.2 0, 200, .inl (ldF B))), (za, .inl (G.2 0, 6, .inl u_))]) hS hfz hfk => ?_)
  obtain ⟨zg_551, rfl⟩ : ∃ z, z = u_ := ⟨_, rfl⟩
  have hP : va_P G.1 CL [(m0, .inr (6, [.ref sa, .ref oa, .ref pa, .ref la, .ref za, .ref na, .int gu, .int gt, .int gw, .int (nI ((crs B).1)), .int (nI ((crs B).2.1)), .int (nI ((crs B).2.2.1)), .int (nI 0), .int gv])), (la, .inl (G.2 0, 200, .inl (ldF B))), (za, .inl (G.2 0, 6, .inl zg_551))] H := hP
  have hD : va_D A [(m0, .inr (6, [.ref sa, .ref oa, .ref pa, .ref la, .ref za, .ref na, .int gu, .int gt, .int gw, .int (nI ((crs B).1)), .int (nI ((crs B).2.1)), .int (nI ((crs B).2.2.1)), .int (nI 0), .int gv])), (la, .inl (G.2 0, 200, .inl (ldF B))), (za, .inl (G.2 0, 6, .inl zg_551))] := hD
  refine W.eq (g2 := F0 m 9 ls [.int (gI B)]) rfl ?_
  refine lv_toi (y := bI (goB B)) (gI_go B) ?_
  rcases hgo : goB B with _ | _
  · refine lv_ton (n := 0) rfl ?_
    refine n_if_ne (tgt := 26) hx hb (by omega) dX4_isPlanOver_9 (by decide) (fun c_552 => absurd c_552 (by omega)) (fun c_552 => ?_)
    rcases hbp : bP B with _ | d_553
    · refine lv_aload_n hx hb dX4_isPlanOver_12 rfl (lv_at hl 0 rfl) ?_
      refine va_get hx hb hts in_X4 hown hK hP 0 rfl rfl 0 (by decide) (hts _ q1596) (fun _ h => h) rfl dX4_isPlanOver_13 ?_
      refine lv_iconst (v := nI 4) hx hb dX4_isPlanOver_16 (by decide) ?_
      refine r_iald (v := nI 0) hx hb hK (hR0.w hS) 0 0 rfl rfl (i := 4) (by omega) (by omega) (hM.planned.trans (by rw [hbp])) dX4_isPlanOver_17 ?_
      refine lv_iconst (v := nI 1) hx hb dX4_isPlanOver_18 (by decide) ?_
      refine n_icmp_ne (tgt := 26) hx hb (by omega) (by omega) dX4_isPlanOver_19 (by decide) (fun c_554 => ?_) (fun c_554 => absurd c_554 (by omega))
      refine lv_iconst (v := nI 0) hx hb dX4_isPlanOver_26 (by decide) ?_
      have hq9 : q_over B = (0, nI 0) := by unfold q_over; rw [hgo, hbp] <;> rfl
      have hP : va_P G.1 CL [(m0, .inr (6, [.ref sa, .ref oa, .ref pa, .ref la, .ref za, .ref na, .int gu, .int gt, .int gw, .int (nI ((crs B).1)), .int (nI ((crs B).2.1)), .int (nI ((crs B).2.2.1)), .int (nI ((q_over B).1)), .int gv])), (la, .inl (G.2 0, 200, .inl (ldF B))), (za, .inl (G.2 0, 6, .inl zg_551))] H := by rw [hq9]; exact hP
      have hD : va_D A [(m0, .inr (6, [.ref sa, .ref oa, .ref pa, .ref la, .ref za, .ref na, .int gu, .int gt, .int gw, .int (nI ((crs B).1)), .int (nI ((crs B).2.1)), .int (nI ((crs B).2.2.1)), .int (nI ((q_over B).1)), .int gv])), (la, .inl (G.2 0, 200, .inl (ldF B))), (za, .inl (G.2 0, 6, .inl zg_551))] := by rw [hq9]; exact hD
      have hP9 : va_P G.1 CL [(m0, .inr (6, [.ref sa, .ref oa, .ref pa, .ref la, .ref za, .ref na, .int gu, .int gt, .int gw, .int (nI ((crs B).1)), .int (nI ((crs B).2.1)), .int (nI ((crs B).2.2.1)), .int (nI ((q_over B).1)), .int gv])), (la, .inl (G.2 0, 200, .inl (ldF B))), (za, .inl (G.2 0, 6, .inl zg_551))] H := hP.sub [0, 1, 2] rfl
      have hD9 : va_D A [(m0, .inr (6, [.ref sa, .ref oa, .ref pa, .ref la, .ref za, .ref na, .int gu, .int gt, .int gw, .int (nI ((crs B).1)), .int (nI ((crs B).2.1)), .int (nI ((crs B).2.2.1)), .int (nI ((q_over B).1)), .int gv])), (la, .inl (G.2 0, 200, .inl (ldF B))), (za, .inl (G.2 0, 6, .inl zg_551))] := hD.sub [0, 1, 2] (by decide) rfl
      exact end_i hx hb hr hlk (by decide) (qc_of ⟨nI 0, ldF B, zg_551, nI ((crs B).1), nI ((crs B).2.1), nI ((crs B).2.2.1)⟩ (v := some (.int (nI 0))) (by rfl) (fun _ => by rw [hq9]) hP9 hD9 (trivial) hS) hS dX4_isPlanOver_27 (show 0 ≤ 0 from by first | exact Nat.le_refl _ | decide | omega) (show 0 ≤ 0 from by first | exact Nat.le_refl _ | decide | omega)
    · refine lv_aload_n hx hb dX4_isPlanOver_12 rfl (lv_at hl 0 rfl) ?_
      refine va_get hx hb hts in_X4 hown hK hP 0 rfl rfl 0 (by decide) (hts _ q1596) (fun _ h => h) rfl dX4_isPlanOver_13 ?_
      refine lv_iconst (v := nI 4) hx hb dX4_isPlanOver_16 (by decide) ?_
      refine r_iald (v := nI 1) hx hb hK (hR0.w hS) 0 0 rfl rfl (i := 4) (by omega) (by omega) (hM.planned.trans (by rw [hbp])) dX4_isPlanOver_17 ?_
      refine lv_iconst (v := nI 1) hx hb dX4_isPlanOver_18 (by decide) ?_
      refine n_icmp_ne (tgt := 26) hx hb (by omega) (by omega) dX4_isPlanOver_19 (by decide) (fun c_555 => absurd c_555 (by omega)) (fun c_555 => ?_)
      refine lv_iconst (v := nI 1) hx hb dX4_isPlanOver_22 (by decide) ?_
      refine lv_goto (tgt := 27) hx hb dX4_isPlanOver_23 (by decide) ?_
      have hq9 : q_over B = (0, nI 1) := by unfold q_over; rw [hgo, hbp] <;> rfl
      have hP : va_P G.1 CL [(m0, .inr (6, [.ref sa, .ref oa, .ref pa, .ref la, .ref za, .ref na, .int gu, .int gt, .int gw, .int (nI ((crs B).1)), .int (nI ((crs B).2.1)), .int (nI ((crs B).2.2.1)), .int (nI ((q_over B).1)), .int gv])), (la, .inl (G.2 0, 200, .inl (ldF B))), (za, .inl (G.2 0, 6, .inl zg_551))] H := by rw [hq9]; exact hP
      have hD : va_D A [(m0, .inr (6, [.ref sa, .ref oa, .ref pa, .ref la, .ref za, .ref na, .int gu, .int gt, .int gw, .int (nI ((crs B).1)), .int (nI ((crs B).2.1)), .int (nI ((crs B).2.2.1)), .int (nI ((q_over B).1)), .int gv])), (la, .inl (G.2 0, 200, .inl (ldF B))), (za, .inl (G.2 0, 6, .inl zg_551))] := by rw [hq9]; exact hD
      have hP9 : va_P G.1 CL [(m0, .inr (6, [.ref sa, .ref oa, .ref pa, .ref la, .ref za, .ref na, .int gu, .int gt, .int gw, .int (nI ((crs B).1)), .int (nI ((crs B).2.1)), .int (nI ((crs B).2.2.1)), .int (nI ((q_over B).1)), .int gv])), (la, .inl (G.2 0, 200, .inl (ldF B))), (za, .inl (G.2 0, 6, .inl zg_551))] H := hP.sub [0, 1, 2] rfl
      have hD9 : va_D A [(m0, .inr (6, [.ref sa, .ref oa, .ref pa, .ref la, .ref za, .ref na, .int gu, .int gt, .int gw, .int (nI ((crs B).1)), .int (nI ((crs B).2.1)), .int (nI ((crs B).2.2.1)), .int (nI ((q_over B).1)), .int gv])), (la, .inl (G.2 0, 200, .inl (ldF B))), (za, .inl (G.2 0, 6, .inl zg_551))] := hD.sub [0, 1, 2] (by decide) rfl
      exact end_i hx hb hr hlk (by decide) (qc_of ⟨nI 1, ldF B, zg_551, nI ((crs B).1), nI ((crs B).2.1), nI ((crs B).2.2.1)⟩ (v := some (.int (nI 1))) (by rfl) (fun _ => by rw [hq9]) hP9 hD9 (trivial) hS) hS dX4_isPlanOver_27 (show 0 ≤ 0 from by first | exact Nat.le_refl _ | decide | omega) (show 0 ≤ 0 from by first | exact Nat.le_refl _ | decide | omega)
  · refine lv_ton (n := 1) rfl ?_
    have hgo2 := hgo
    unfold goB at hgo2
    rw [Bool.and_eq_true, decide_eq_true_eq] at hgo2
    refine n_if_ne (tgt := 26) hx hb (by omega) dX4_isPlanOver_9 (by decide) (fun c_556 => ?_) (fun c_556 => absurd c_556 (by omega))
    refine lv_iconst (v := nI 0) hx hb dX4_isPlanOver_26 (by decide) ?_
    have hq9 : q_over B = (0, nI 0) := by unfold q_over; rw [hgo] <;> rfl
    have hP : va_P G.1 CL [(m0, .inr (6, [.ref sa, .ref oa, .ref pa, .ref la, .ref za, .ref na, .int gu, .int gt, .int gw, .int (nI ((crs B).1)), .int (nI ((crs B).2.1)), .int (nI ((crs B).2.2.1)), .int (nI ((q_over B).1)), .int gv])), (la, .inl (G.2 0, 200, .inl (ldF B))), (za, .inl (G.2 0, 6, .inl zg_551))] H := by rw [hq9]; exact hP
    have hD : va_D A [(m0, .inr (6, [.ref sa, .ref oa, .ref pa, .ref la, .ref za, .ref na, .int gu, .int gt, .int gw, .int (nI ((crs B).1)), .int (nI ((crs B).2.1)), .int (nI ((crs B).2.2.1)), .int (nI ((q_over B).1)), .int gv])), (la, .inl (G.2 0, 200, .inl (ldF B))), (za, .inl (G.2 0, 6, .inl zg_551))] := by rw [hq9]; exact hD
    have hP9 : va_P G.1 CL [(m0, .inr (6, [.ref sa, .ref oa, .ref pa, .ref la, .ref za, .ref na, .int gu, .int gt, .int gw, .int (nI ((crs B).1)), .int (nI ((crs B).2.1)), .int (nI ((crs B).2.2.1)), .int (nI ((q_over B).1)), .int gv])), (la, .inl (G.2 0, 200, .inl (ldF B))), (za, .inl (G.2 0, 6, .inl zg_551))] H := hP.sub [0, 1, 2] rfl
    have hD9 : va_D A [(m0, .inr (6, [.ref sa, .ref oa, .ref pa, .ref la, .ref za, .ref na, .int gu, .int gt, .int gw, .int (nI ((crs B).1)), .int (nI ((crs B).2.1)), .int (nI ((crs B).2.2.1)), .int (nI ((q_over B).1)), .int gv])), (la, .inl (G.2 0, 200, .inl (ldF B))), (za, .inl (G.2 0, 6, .inl zg_551))] := hD.sub [0, 1, 2] (by decide) rfl
    exact end_i hx hb hr hlk (by decide) (qc_of ⟨nI 0, ldF B, zg_551, nI ((crs B).1), nI ((crs B).2.1), nI ((crs B).2.2.1)⟩ (v := some (.int (nI 0))) (by rfl) (fun _ => by rw [hq9]) hP9 hD9 (trivial) hS) hS dX4_isPlanOver_27 (show 0 ≤ 0 from by first | exact Nat.le_refl _ | decide | omega) (show 0 ≤ 0 from by first | exact Nat.le_refl _ | decide | omega)

set_option maxHeartbeats 4000000 in
theorem mX4_zoneShare (l : Launch) (G : Gt) (m0 : Nat) (sa : Nat) (oa : Nat) (pa : Nat) (la : Nat) (za : Nat) (na : Nat) (gu : Int32) (gt : Int32) (gw : Int32) (gd : Int32) (gm : Int32) (gr : Int32) (gh : Int32) (gv : Int32) (f : Nat → Int32) (B : Bk) (lf : Nat → Int32) (zf : Nat → Int32) (v : Int32) (hM : MR f B) (hI : Inv B) : CT l G yX4_zoneShare cX4_zoneShare 4 (some .float) ({ frames := 4, cells := 0, slots := 0, locals := 83 } : Room) [.ref m0, .int v] [(m0, .inr (6, [.ref sa, .ref oa, .ref pa, .ref la, .ref za, .ref na, .int gu, .int gt, .int gw, .int gd, .int gm, .int gr, .int gh, .int gv])), (la, .inl (G.2 0, 200, .inl lf)), (za, .inl (G.2 0, 6, .inl zf))] (fun (A : Nat → Prop) (H : Heap) => roW G A H [(sa, .inl (G.2 0, 830, .inl f))]) (S := UInt32 × (Nat → Int32) × (Nat → Int32) × Int32 × Int32 × Int32) (fun (u_ : UInt32 × (Nat → Int32) × (Nat → Int32) × Int32 × Int32 × Int32) => some (.float u_.1)) (fun (u_ : UInt32 × (Nat → Int32) × (Nat → Int32) × Int32 × Int32 × Int32) => ((q_share B v).1 = 0 → u_.1 = (q_share B v).2)) (fun (u_ : UInt32 × (Nat → Int32) × (Nat → Int32) × Int32 × Int32 × Int32) => [(m0, .inr (6, [.ref sa, .ref oa, .ref pa, .ref la, .ref za, .ref na, .int gu, .int gt, .int gw, .int u_.2.2.2.1, .int u_.2.2.2.2.1, .int u_.2.2.2.2.2, .int (nI ((q_share B v).1)), .int gv])), (la, .inl (G.2 0, 200, .inl u_.2.1)), (za, .inl (G.2 0, 6, .inl u_.2.2.1))]) (fun (u_ : UInt32 × (Nat → Int32) × (Nat → Int32) × Int32 × Int32 × Int32) (H : Heap) => True) := by
  refine CT.of (by decide) (Nat.le_of_ble_eq_true rfl) ?_
  intro p e s m below meth c ls A H locs h9 hH0 hP hS
  obtain ⟨cf, hr, hlk, hnm, hKB, hE, -, hD, -, hA, hAw, hR0, hl⟩ := h9
  have hx := cf.1
  have hb := cf.2.1
  have hml := cf.2.2.1
  have hown : s.vm.findClass RX4 = some m.cls := cf.2.2.2.1
  have hts := cf.2.2.2.2
  have hK := hKB.1
  have hl : lv_has ls 4 [(0, .ref m0), (1, .int v)] := hl
  have iN := iv_sN hI
  have iT := iv_tN hI
  have iD := iv_bD hI
  have iE := iv_bE hI
  have iW := iv_id hI
  refine lv_aload_n hx hb dX4_zoneShare_0 rfl (lv_at hl 0 rfl) ?_
  have hF := hF_of (wc := [(za, .inl (G.2 0, 6, .inl zf))]) hD hS hA [2] rfl
  refine go_ct hS hP hD [2] [0, 1] hF rfl rfl (by decide) (by decide)
      (va_runV (As := []) (rest := []) cf (mX4_noZones l G m0 sa oa pa la za na gu gt gw gd gm gr gh gv zf  H.size) (cwV 0 hts (lw_V q1679 q1681 qs25 q58 q1682) rfl rfl rfl (by decide +kernel) ⟨Nat.le_of_ble_eq_true rfl, Nat.le_of_ble_eq_true rfl⟩) (preV_of hKB hE hS hF (va_recv hK hP (ci := 6) (q0 := 0) rfl rfl) (va_P.sub hP [2] rfl) ((va_D.sub hD [2] (by decide) rfl).weaken (fun _ _ _ _ => trivial)) (roW.of (w' := [(m0, .inr (6, [.ref sa, .ref oa, .ref pa, .ref la, .ref za, .ref na, .int gu, .int gt, .int gw, .int gd, .int gm, .int gr, .int gh, .int gv]))]) hP hD [2] [0] rfl rfl (by decide))) rfl rfl hl.1 rfl (lv_room (Nat.le_of_ble_eq_true rfl)) dX4_zoneShare_1 ⟨show 0 + 0 ≤ 0 from by first | decide | omega, show 0 + 0 ≤ 0 from by first | decide | omega⟩)
      (fun u_ H locs hq hph (hP : va_P G.1 CL [(m0, .inr (6, [.ref sa, .ref oa, .ref pa, .ref la, .ref za, .ref na, .int gu, .int gt, .int gw, .int gd, .int gm, .int gr, .int gh, .int gv])), (la, .inl (G.2 0, 200, .inl lf)), (za, .inl (G.2 0, 6, .inl zz))] H) (hD : va_D A [(m0, .inr (6, [.ref sa, .ref oa, .ref pa, .ref la, .ref za, .ref na, .int gu, .int gt, .int gw, .int gd, .int gm, .int gr, .int gh, .int gv])), (la, .inl (G.2 0, 200, .inl lf)), (za, .inl (G.2 0, 6, .inl zz))]) hS hfz hfk => ?_)
  refine W.eq (g2 := F0 m 4 ls []) rfl ?_
  refine lv_iconst (v := nI 0) hx hb dX4_zoneShare_4 (by decide) ?_
  refine lv_istore_n (lv' := [(2, .int (nI 0)), (0, .ref m0), (1, .int v)]) hx hb dX4_zoneShare_5 rfl hl (by decide) rfl (fun ls hl => ?_)
  refine lv_iconst (v := nI 0) hx hb dX4_zoneShare_6 (by decide) ?_
  refine lv_istore_n (lv' := [(3, .int (nI 0)), (2, .int (nI 0)), (0, .ref m0), (1, .int v)]) hx hb dX4_zoneShare_7 rfl hl (by decide) rfl (fun ls hl => ?_)
  have he_557 : ∀ j9, j9 < 6 → zz j9 = (zAF B 0) j9 := fun _ _ => rfl
  have hP : va_P G.1 CL [(m0, .inr (6, [.ref sa, .ref oa, .ref pa, .ref la, .ref za, .ref na, .int gu, .int gt, .int gw, .int gd, .int gm, .int gr, .int gh, .int gv])), (la, .inl (G.2 0, 200, .inl lf)), (za, .inl (G.2 0, 6, .inl (zAF B 0)))] H := va_P.extI hP 2 rfl he_557
  have hD : va_D A [(m0, .inr (6, [.ref sa, .ref oa, .ref pa, .ref la, .ref za, .ref na, .int gu, .int gt, .int gw, .int gd, .int gm, .int gr, .int gh, .int gv])), (la, .inl (G.2 0, 200, .inl lf)), (za, .inl (G.2 0, 6, .inl (zAF B 0)))] := hD.set (p := 2) rfl
  have hl := lv_sub hl [2, 3, 1, 0] (l' := [(0, .ref m0), (1, .int v), (2, .int (nI (psum (fun k9 => minOf (sAt B k9)) 0))), (3, .int (nI 0))]) rfl
  refine lp_W (σ := Nat) (hpc := 8) (fun x => sN B - x) (fun x => 0) (fun x => 0) (fun x H locs ls => va_P G.1 CL [(m0, .inr (6, [.ref sa, .ref oa, .ref pa, .ref la, .ref za, .ref na, .int gu, .int gt, .int gw, .int gd, .int gm, .int gr, .int gh, .int gv])), (la, .inl (G.2 0, 200, .inl lf)), (za, .inl (G.2 0, 6, .inl (zAF B x)))] H ∧ va_D A [(m0, .inr (6, [.ref sa, .ref oa, .ref pa, .ref la, .ref za, .ref na, .int gu, .int gt, .int gw, .int gd, .int gm, .int gr, .int gh, .int gv])), (la, .inl (G.2 0, 200, .inl lf)), (za, .inl (G.2 0, 6, .inl (zAF B x)))] ∧ va_S A s.heap H locs ∧ lv_has ls 4 [(0, .ref m0), (1, .int v), (2, .int (nI (psum (fun k9 => minOf (sAt B k9)) x))), (3, .int (nI x))] ∧ (x ≤ sN B)) ?_ (0) ⟨(show va_P G.1 CL [(m0, .inr (6, [.ref sa, .ref oa, .ref pa, .ref la, .ref za, .ref na, .int gu, .int gt, .int gw, .int gd, .int gm, .int gr, .int gh, .int gv])), (la, .inl (G.2 0, 200, .inl lf)), (za, .inl (G.2 0, 6, .inl (zAF B 0)))] H from hP), (show va_D A [(m0, .inr (6, [.ref sa, .ref oa, .ref pa, .ref la, .ref za, .ref na, .int gu, .int gt, .int gw, .int gd, .int gm, .int gr, .int gh, .int gv])), (la, .inl (G.2 0, 200, .inl lf)), (za, .inl (G.2 0, 6, .inl (zAF B 0)))] from hD), hS, hl, (show 0 ≤ sN B from by omega)⟩ (show 0 ≤ 0 from by first | exact Nat.le_refl _ | omega) (show 0 ≤ 0 from by first | exact Nat.le_refl _ | omega)
  intro x H locs ls hI9 ih8
  obtain ⟨k_559, rfl⟩ : ∃ z, z = x := ⟨_, rfl⟩
  obtain ⟨hP, hD, hS, hl, hp_558⟩ := hI9
  have hP : va_P G.1 CL [(m0, .inr (6, [.ref sa, .ref oa, .ref pa, .ref la, .ref za, .ref na, .int gu, .int gt, .int gw, .int gd, .int gm, .int gr, .int gh, .int gv])), (la, .inl (G.2 0, 200, .inl lf)), (za, .inl (G.2 0, 6, .inl (zAF B k_559)))] H := hP
  have hD : va_D A [(m0, .inr (6, [.ref sa, .ref oa, .ref pa, .ref la, .ref za, .ref na, .int gu, .int gt, .int gw, .int gd, .int gm, .int gr, .int gh, .int gv])), (la, .inl (G.2 0, 200, .inl lf)), (za, .inl (G.2 0, 6, .inl (zAF B k_559)))] := hD
  have hl : lv_has ls 4 [(0, .ref m0), (1, .int v), (2, .int (nI (psum (fun k9 => minOf (sAt B k9)) k_559))), (3, .int (nI k_559))] := hl
  have hp_558 : k_559 ≤ sN B := hp_558
  refine lv_iload_n hx hb dX4_zoneShare_8 rfl (lv_at hl 3 rfl) ?_
  refine lv_aload_n hx hb dX4_zoneShare_9 rfl (lv_at hl 0 rfl) ?_
  refine va_get hx hb hts in_X4 hown hK hP 0 rfl rfl 0 (by decide) (hts _ q1596) (fun _ h => h) rfl dX4_zoneShare_10 ?_
  refine lv_iconst (v := nI 2) hx hb dX4_zoneShare_13 (by decide) ?_
  refine r_iald (v := nI (sN B)) hx hb hK (hR0.w hS) 0 0 rfl rfl (i := 2) (by omega) (by omega) (hM.many) dX4_zoneShare_14 ?_
  refine n_icmp_ge (tgt := 37) hx hb (by omega) (by omega) dX4_zoneShare_15 (by decide) (fun c_560 => ?_) (fun c_560 => ?_)
  · have hk9 : k_559 = sN B := by omega
    have hal := allM_le hI
    have hl := lv_sub hl [0, 1, 2] (l' := [(0, .ref m0), (1, .int v), (2, .int (nI (psum (fun k9 => minOf (sAt B k9)) k_559)))]) rfl
    have hP : va_P G.1 CL [(m0, .inr (6, [.ref sa, .ref oa, .ref pa, .ref la, .ref za, .ref na, .int gu, .int gt, .int gw, .int gd, .int gm, .int gr, .int gh, .int gv])), (la, .inl (G.2 0, 200, .inl lf)), (za, .inl (G.2 0, 6, .inl (zAF B (sN B))))] H := by rw [← hk9]; exact hP
    have hD : va_D A [(m0, .inr (6, [.ref sa, .ref oa, .ref pa, .ref la, .ref za, .ref na, .int gu, .int gt, .int gw, .int gd, .int gm, .int gr, .int gh, .int gv])), (la, .inl (G.2 0, 200, .inl lf)), (za, .inl (G.2 0, 6, .inl (zAF B (sN B))))] := by rw [← hk9]; exact hD
    have hl : lv_has ls 4 [(0, .ref m0), (1, .int v), (2, .int (nI (allM B)))] := by rw [hk9] at hl; exact hl
    refine lv_aload_n hx hb dX4_zoneShare_37 rfl (lv_at hl 0 rfl) ?_
    refine lv_iload_n hx hb dX4_zoneShare_38 rfl (lv_at hl 1 rfl) ?_
    refine lv_iconst (v := nI 1) hx hb dX4_zoneShare_39 (by decide) ?_
    refine lv_iconst (v := nI 5) hx hb dX4_zoneShare_40 (by decide) ?_
    have hF := hF_of (wc := []) hD hS hA [] rfl
    refine go_ct hS hP hD [] [0, 1, 2] hF rfl rfl (by decide) (by decide)
        (va_runS (As := [.int v, .int (nI 1), .int (nI 5)]) (rest := [.ref m0]) cf (mX4_isIn l G v (nI 1) (nI 5)  H.size) (va_cwS 3 hts (lw_S q1647 q1648 q58 q1649) rfl rfl rfl (by decide +kernel) ⟨Nat.le_of_ble_eq_true rfl, Nat.le_of_ble_eq_true rfl⟩) (preS_of hKB hE hS hF (va_P.sub hP [] rfl) ((va_D.sub hD [] (by decide) rfl).weaken (fun _ _ _ _ => trivial)) trivial) rfl rfl hl.1 rfl (lv_room (Nat.le_of_ble_eq_true rfl)) dX4_zoneShare_41 ⟨show 0 + 0 ≤ 0 from by first | decide | omega, show 0 + 0 ≤ 0 from by first | decide | omega⟩)
        (fun u_ H locs hq hph (hP : va_P G.1 CL [(m0, .inr (6, [.ref sa, .ref oa, .ref pa, .ref la, .ref za, .ref na, .int gu, .int gt, .int gw, .int gd, .int gm, .int gr, .int gh, .int gv])), (la, .inl (G.2 0, 200, .inl lf)), (za, .inl (G.2 0, 6, .inl (zAF B (sN B))))] H) (hD : va_D A [(m0, .inr (6, [.ref sa, .ref oa, .ref pa, .ref la, .ref za, .ref na, .int gu, .int gt, .int gw, .int gd, .int gm, .int gr, .int gh, .int gv])), (la, .inl (G.2 0, 200, .inl lf)), (za, .inl (G.2 0, 6, .inl (zAF B (sN B))))]) hS hfz hfk => ?_)
    obtain ⟨b_561, rfl⟩ : ∃ z, z = u_ := ⟨_, rfl⟩
    have hP : va_P G.1 CL [(m0, .inr (6, [.ref sa, .ref oa, .ref pa, .ref la, .ref za, .ref na, .int gu, .int gt, .int gw, .int gd, .int gm, .int gr, .int gh, .int gv])), (la, .inl (G.2 0, 200, .inl lf)), (za, .inl (G.2 0, 6, .inl (zAF B (sN B))))] H := hP
    have hD : va_D A [(m0, .inr (6, [.ref sa, .ref oa, .ref pa, .ref la, .ref za, .ref na, .int gu, .int gt, .int gw, .int gd, .int gm, .int gr, .int gh, .int gv])), (la, .inl (G.2 0, 200, .inl lf)), (za, .inl (G.2 0, 6, .inl (zAF B (sN B))))] := hD
    have hq_562 : (b_561 = true ↔ (nI 1) ≤ v ∧ v ≤ (nI 5)) := hq
    refine W.eq (g2 := F0 m 44 ls [.int (bI b_561), .ref m0]) rfl ?_
    cases b_561
    · refine lv_ton (n := 0) rfl ?_
      have hir_563 : inR v 1 5 = none := inR_none (fun z => absurd (hq_562.mpr z) (by decide))
      refine n_if_ne (tgt := 51) hx hb (by omega) dX4_zoneShare_44 (by decide) (fun c_564 => absurd c_564 (by omega)) (fun c_564 => ?_)
      refine lv_iconst (v := nI 1) hx hb dX4_zoneShare_47 (by decide) ?_
      refine lv_goto (tgt := 52) hx hb dX4_zoneShare_48 (by decide) ?_
      refine lv_iconst (v := nI 1) hx hb dX4_zoneShare_52 (by decide) ?_
      have hF := hF_of (wc := [(m0, .inr (6, [.ref sa, .ref oa, .ref pa, .ref la, .ref za, .ref na, .int gu, .int gt, .int gw, .int gd, .int gm, .int gr, .int gh, .int gv]))]) hD hS hA [0] rfl
      refine go_ct hS hP hD [0] [1, 2] hF rfl rfl (by decide) (by decide)
          (va_runV (As := [.int (nI 1), .int (nI 1)]) (rest := []) cf (mX4_isThrown_t l G m0 sa oa pa la za na gu gt gw gd gm gr gh gv 1  H.size) (cwV 2 hts (lw_V q1650 q1652 qs20 q58 q1653) rfl rfl rfl (by decide +kernel) ⟨Nat.le_of_ble_eq_true rfl, Nat.le_of_ble_eq_true rfl⟩) (preV_of hKB hE hS hF (va_recv hK hP (ci := 6) (q0 := 0) rfl rfl) (va_P.sub hP [0] rfl) ((va_D.sub hD [0] (by decide) rfl).weaken (fun _ _ _ _ => trivial)) trivial) rfl rfl hl.1 rfl (lv_room (Nat.le_of_ble_eq_true rfl)) dX4_zoneShare_53 ⟨show 0 + 0 ≤ 0 from by first | decide | omega, show 0 + 0 ≤ 0 from by first | decide | omega⟩)
          (fun u_ H locs hq hph (hP : va_P G.1 CL [(la, .inl (G.2 0, 200, .inl lf)), (za, .inl (G.2 0, 6, .inl (zAF B (sN B)))), (m0, .inr (6, [.ref sa, .ref oa, .ref pa, .ref la, .ref za, .ref na, .int gu, .int gt, .int gw, .int gd, .int gm, .int gr, .int (nI 1), .int gv]))] H) (hD : va_D A [(la, .inl (G.2 0, 200, .inl lf)), (za, .inl (G.2 0, 6, .inl (zAF B (sN B)))), (m0, .inr (6, [.ref sa, .ref oa, .ref pa, .ref la, .ref za, .ref na, .int gu, .int gt, .int gw, .int gd, .int gm, .int gr, .int (nI 1), .int gv]))]) hS hfz hfk => ?_)
      refine W.eq (g2 := F0 m 56 ls [.int (nI 1)]) rfl ?_
      refine n_if_ne (tgt := 76) hx hb (by omega) dX4_zoneShare_56 (by decide) (fun c_565 => ?_) (fun c_565 => absurd c_565 (by omega))
      refine lv_fconst0 hx hb dX4_zoneShare_76 ?_
      refine lv_goto (tgt := 90) hx hb dX4_zoneShare_77 (by decide) ?_
      have hq9 : q_share B v = (1, 0) := by unfold q_share; rw [hir_563] <;> rfl
      have hP : va_P G.1 CL [(la, .inl (G.2 0, 200, .inl lf)), (za, .inl (G.2 0, 6, .inl (zAF B (sN B)))), (m0, .inr (6, [.ref sa, .ref oa, .ref pa, .ref la, .ref za, .ref na, .int gu, .int gt, .int gw, .int gd, .int gm, .int gr, .int (nI ((q_share B v).1)), .int gv]))] H := by rw [hq9]; exact hP
      have hD : va_D A [(la, .inl (G.2 0, 200, .inl lf)), (za, .inl (G.2 0, 6, .inl (zAF B (sN B)))), (m0, .inr (6, [.ref sa, .ref oa, .ref pa, .ref la, .ref za, .ref na, .int gu, .int gt, .int gw, .int gd, .int gm, .int gr, .int (nI ((q_share B v).1)), .int gv]))] := by rw [hq9]; exact hD
      have hP9 : va_P G.1 CL [(m0, .inr (6, [.ref sa, .ref oa, .ref pa, .ref la, .ref za, .ref na, .int gu, .int gt, .int gw, .int gd, .int gm, .int gr, .int (nI ((q_share B v).1)), .int gv])), (la, .inl (G.2 0, 200, .inl lf)), (za, .inl (G.2 0, 6, .inl (zAF B (sN B))))] H := hP.sub [2, 0, 1] rfl
      have hD9 : va_D A [(m0, .inr (6, [.ref sa, .ref oa, .ref pa, .ref la, .ref za, .ref na, .int gu, .int gt, .int gw, .int gd, .int gm, .int gr, .int (nI ((q_share B v).1)), .int gv])), (la, .inl (G.2 0, 200, .inl lf)), (za, .inl (G.2 0, 6, .inl (zAF B (sN B))))] := hD.sub [2, 0, 1] (by decide) rfl
      exact end_f hx hb hr hlk (qc_of ⟨FP.fconst0, lf, zAF B (sN B), gd, gm, gr⟩ (v := some (.float FP.fconst0)) (by rfl) (fun h => by rw [hq9] at h; exact absurd h (by decide)) hP9 hD9 (trivial) hS) hS dX4_zoneShare_90 (show 0 ≤ 0 from by first | exact Nat.le_refl _ | decide | omega) (show 0 ≤ 0 from by first | exact Nat.le_refl _ | decide | omega)
    · refine lv_ton (n := 1) rfl ?_
      have hin_566 : nI 1 ≤ v ∧ v ≤ nI 5 := hq_562.mp rfl
      obtain ⟨d_567, hv_568, h_569, h_570⟩ := in_nat (lo := 1) (hi := 5) (by omega) (by omega) hin_566.1 hin_566.2
      have hir_571 : inR v 1 5 = some d_567 := inR_some hv_568 h_569 h_570 (by omega)
      have hl : lv_has ls 4 [(0, .ref m0), (1, .int (nI d_567)), (2, .int (nI (allM B)))] := by
        have e9 : ((.int (nI d_567)) : Value) = .int v := by rw [hv_568]
        rw [e9]; exact hl
      refine n_if_ne (tgt := 51) hx hb (by omega) dX4_zoneShare_44 (by decide) (fun c_572 => ?_) (fun c_572 => absurd c_572 (by omega))
      refine lv_iconst (v := nI 0) hx hb dX4_zoneShare_51 (by decide) ?_
      refine lv_iconst (v := nI 1) hx hb dX4_zoneShare_52 (by decide) ?_
      have hF := hF_of (wc := [(m0, .inr (6, [.ref sa, .ref oa, .ref pa, .ref la, .ref za, .ref na, .int gu, .int gt, .int gw, .int gd, .int gm, .int gr, .int gh, .int gv]))]) hD hS hA [0] rfl
      refine go_ct hS hP hD [0] [1, 2] hF rfl rfl (by decide) (by decide)
          (va_runV (As := [.int (nI 0), .int (nI 1)]) (rest := []) cf (mX4_isThrown_f l G m0 sa oa pa la za na gu gt gw gd gm gr gh gv 1  H.size) (cwV 2 hts (lw_V q1650 q1652 qs20 q58 q1653) rfl rfl rfl (by decide +kernel) ⟨Nat.le_of_ble_eq_true rfl, Nat.le_of_ble_eq_true rfl⟩) (preV_of hKB hE hS hF (va_recv hK hP (ci := 6) (q0 := 0) rfl rfl) (va_P.sub hP [0] rfl) ((va_D.sub hD [0] (by decide) rfl).weaken (fun _ _ _ _ => trivial)) trivial) rfl rfl hl.1 rfl (lv_room (Nat.le_of_ble_eq_true rfl)) dX4_zoneShare_53 ⟨show 0 + 0 ≤ 0 from by first | decide | omega, show 0 + 0 ≤ 0 from by first | decide | omega⟩)
          (fun u_ H locs hq hph (hP : va_P G.1 CL [(la, .inl (G.2 0, 200, .inl lf)), (za, .inl (G.2 0, 6, .inl (zAF B (sN B)))), (m0, .inr (6, [.ref sa, .ref oa, .ref pa, .ref la, .ref za, .ref na, .int gu, .int gt, .int gw, .int gd, .int gm, .int gr, .int (nI 0), .int gv]))] H) (hD : va_D A [(la, .inl (G.2 0, 200, .inl lf)), (za, .inl (G.2 0, 6, .inl (zAF B (sN B)))), (m0, .inr (6, [.ref sa, .ref oa, .ref pa, .ref la, .ref za, .ref na, .int gu, .int gt, .int gw, .int gd, .int gm, .int gr, .int (nI 0), .int gv]))]) hS hfz hfk => ?_)
      refine W.eq (g2 := F0 m 56 ls [.int (nI 0)]) rfl ?_
      refine n_if_ne (tgt := 76) hx hb (by omega) dX4_zoneShare_56 (by decide) (fun c_573 => absurd c_573 (by omega)) (fun c_573 => ?_)
      refine lv_aload_n hx hb dX4_zoneShare_59 rfl (lv_at hl 0 rfl) ?_
      refine lv_iload_n hx hb dX4_zoneShare_60 rfl (lv_at hl 2 rfl) ?_
      refine n_if_ne (tgt := 68) hx hb (by omega) dX4_zoneShare_61 (by decide) (fun c_574 => ?_) (fun c_574 => ?_)
      · refine lv_iconst (v := nI 0) hx hb dX4_zoneShare_68 (by decide) ?_
        refine lv_iconst (v := nI 2) hx hb dX4_zoneShare_69 (by decide) ?_
        have hF := hF_of (wc := [(m0, .inr (6, [.ref sa, .ref oa, .ref pa, .ref la, .ref za, .ref na, .int gu, .int gt, .int gw, .int gd, .int gm, .int gr, .int (nI 0), .int gv]))]) hD hS hA [2] rfl
        refine go_ct hS hP hD [2] [0, 1] hF rfl rfl (by decide) (by decide)
            (va_runV (As := [.int (nI 0), .int (nI 2)]) (rest := []) cf (mX4_isThrown_f l G m0 sa oa pa la za na gu gt gw gd gm gr (nI 0) gv 2  H.size) (cwV 2 hts (lw_V q1650 q1652 qs20 q58 q1653) rfl rfl rfl (by decide +kernel) ⟨Nat.le_of_ble_eq_true rfl, Nat.le_of_ble_eq_true rfl⟩) (preV_of hKB hE hS hF (va_recv hK hP (ci := 6) (q0 := 2) rfl rfl) (va_P.sub hP [2] rfl) ((va_D.sub hD [2] (by decide) rfl).weaken (fun _ _ _ _ => trivial)) trivial) rfl rfl hl.1 rfl (lv_room (Nat.le_of_ble_eq_true rfl)) dX4_zoneShare_70 ⟨show 0 + 0 ≤ 0 from by first | decide | omega, show 0 + 0 ≤ 0 from by first | decide | omega⟩)
            (fun u_ H locs hq hph (hP : va_P G.1 CL [(la, .inl (G.2 0, 200, .inl lf)), (za, .inl (G.2 0, 6, .inl (zAF B (sN B)))), (m0, .inr (6, [.ref sa, .ref oa, .ref pa, .ref la, .ref za, .ref na, .int gu, .int gt, .int gw, .int gd, .int gm, .int gr, .int (nI 0), .int gv]))] H) (hD : va_D A [(la, .inl (G.2 0, 200, .inl lf)), (za, .inl (G.2 0, 6, .inl (zAF B (sN B)))), (m0, .inr (6, [.ref sa, .ref oa, .ref pa, .ref la, .ref za, .ref na, .int gu, .int gt, .int gw, .int gd, .int gm, .int gr, .int (nI 0), .int gv]))]) hS hfz hfk => ?_)
        refine W.eq (g2 := F0 m 73 ls [.int (nI 0)]) rfl ?_
        refine n_if_eq (tgt := 80) hx hb (by omega) dX4_zoneShare_73 (by decide) (fun c_575 => ?_) (fun c_575 => absurd c_575 (by omega))
        refine lv_aload_n hx hb dX4_zoneShare_80 rfl (lv_at hl 0 rfl) ?_
        refine va_get hx hb hts in_X4 hown hK hP 2 rfl rfl 4 (by decide) (hts _ q1600) (fun _ h => h) rfl dX4_zoneShare_81 ?_
        refine lv_iload_n hx hb dX4_zoneShare_84 rfl (lv_at hl 1 rfl) ?_
        refine r_iald (v := nI (zAll B d_567)) hx hb hK hP 1 0 rfl rfl (i := d_567) (by omega) (by omega) (rfl) dX4_zoneShare_85 ?_
        refine lv_i2f hx hb dX4_zoneShare_86 ?_
        refine lv_iload_n hx hb dX4_zoneShare_87 rfl (lv_at hl 2 rfl) ?_
        refine lv_i2f hx hb dX4_zoneShare_88 ?_
        refine lv_fdiv hx hb dX4_zoneShare_89 (share_num (nI (zAll B d_567)) (nI_ne0 (by omega) (by omega))) ?_
        have hq9 : q_share B v = (0, FP.fdiv (FP.i2f (nI (zAll B d_567))) (FP.i2f (nI (allM B)))) := by unfold q_share; rw [hir_571] <;> first | rfl | rw [if_neg (by omega)] | (rw [if_neg (by omega)]; rfl) | (dsimp only; rw [if_neg (by omega)]) | (dsimp only; rw [if_neg (by omega)]; rfl)
        have hP : va_P G.1 CL [(la, .inl (G.2 0, 200, .inl lf)), (za, .inl (G.2 0, 6, .inl (zAF B (sN B)))), (m0, .inr (6, [.ref sa, .ref oa, .ref pa, .ref la, .ref za, .ref na, .int gu, .int gt, .int gw, .int gd, .int gm, .int gr, .int (nI ((q_share B v).1)), .int gv]))] H := by rw [hq9]; exact hP
        have hD : va_D A [(la, .inl (G.2 0, 200, .inl lf)), (za, .inl (G.2 0, 6, .inl (zAF B (sN B)))), (m0, .inr (6, [.ref sa, .ref oa, .ref pa, .ref la, .ref za, .ref na, .int gu, .int gt, .int gw, .int gd, .int gm, .int gr, .int (nI ((q_share B v).1)), .int gv]))] := by rw [hq9]; exact hD
        have hP9 : va_P G.1 CL [(m0, .inr (6, [.ref sa, .ref oa, .ref pa, .ref la, .ref za, .ref na, .int gu, .int gt, .int gw, .int gd, .int gm, .int gr, .int (nI ((q_share B v).1)), .int gv])), (la, .inl (G.2 0, 200, .inl lf)), (za, .inl (G.2 0, 6, .inl (zAF B (sN B))))] H := hP.sub [2, 0, 1] rfl
        have hD9 : va_D A [(m0, .inr (6, [.ref sa, .ref oa, .ref pa, .ref la, .ref za, .ref na, .int gu, .int gt, .int gw, .int gd, .int gm, .int gr, .int (nI ((q_share B v).1)), .int gv])), (la, .inl (G.2 0, 200, .inl lf)), (za, .inl (G.2 0, 6, .inl (zAF B (sN B))))] := hD.sub [2, 0, 1] (by decide) rfl
        exact end_f hx hb hr hlk (qc_of ⟨FP.fdiv (FP.i2f (nI (zAll B d_567))) (FP.i2f (nI (allM B))), lf, zAF B (sN B), gd, gm, gr⟩ (v := some (.float (FP.fdiv (FP.i2f (nI (zAll B d_567))) (FP.i2f (nI (allM B)))))) (by rfl) (fun _ => by rw [hq9]) hP9 hD9 (trivial) hS) hS dX4_zoneShare_90 (show 0 ≤ 0 from by first | exact Nat.le_refl _ | decide | omega) (show 0 ≤ 0 from by first | exact Nat.le_refl _ | decide | omega)
      · refine lv_iconst (v := nI 1) hx hb dX4_zoneShare_64 (by decide) ?_
        refine lv_goto (tgt := 69) hx hb dX4_zoneShare_65 (by decide) ?_
        refine lv_iconst (v := nI 2) hx hb dX4_zoneShare_69 (by decide) ?_
        have hF := hF_of (wc := [(m0, .inr (6, [.ref sa, .ref oa, .ref pa, .ref la, .ref za, .ref na, .int gu, .int gt, .int gw, .int gd, .int gm, .int gr, .int (nI 0), .int gv]))]) hD hS hA [2] rfl
        refine go_ct hS hP hD [2] [0, 1] hF rfl rfl (by decide) (by decide)
            (va_runV (As := [.int (nI 1), .int (nI 2)]) (rest := []) cf (mX4_isThrown_t l G m0 sa oa pa la za na gu gt gw gd gm gr (nI 0) gv 2  H.size) (cwV 2 hts (lw_V q1650 q1652 qs20 q58 q1653) rfl rfl rfl (by decide +kernel) ⟨Nat.le_of_ble_eq_true rfl, Nat.le_of_ble_eq_true rfl⟩) (preV_of hKB hE hS hF (va_recv hK hP (ci := 6) (q0 := 2) rfl rfl) (va_P.sub hP [2] rfl) ((va_D.sub hD [2] (by decide) rfl).weaken (fun _ _ _ _ => trivial)) trivial) rfl rfl hl.1 rfl (lv_room (Nat.le_of_ble_eq_true rfl)) dX4_zoneShare_70 ⟨show 0 + 0 ≤ 0 from by first | decide | omega, show 0 + 0 ≤ 0 from by first | decide | omega⟩)
            (fun u_ H locs hq hph (hP : va_P G.1 CL [(la, .inl (G.2 0, 200, .inl lf)), (za, .inl (G.2 0, 6, .inl (zAF B (sN B)))), (m0, .inr (6, [.ref sa, .ref oa, .ref pa, .ref la, .ref za, .ref na, .int gu, .int gt, .int gw, .int gd, .int gm, .int gr, .int (nI 2), .int gv]))] H) (hD : va_D A [(la, .inl (G.2 0, 200, .inl lf)), (za, .inl (G.2 0, 6, .inl (zAF B (sN B)))), (m0, .inr (6, [.ref sa, .ref oa, .ref pa, .ref la, .ref za, .ref na, .int gu, .int gt, .int gw, .int gd, .int gm, .int gr, .int (nI 2), .int gv]))]) hS hfz hfk => ?_)
        refine W.eq (g2 := F0 m 73 ls [.int (nI 1)]) rfl ?_
        refine n_if_eq (tgt := 80) hx hb (by omega) dX4_zoneShare_73 (by decide) (fun c_576 => absurd c_576 (by omega)) (fun c_576 => ?_)
        refine lv_fconst0 hx hb dX4_zoneShare_76 ?_
        refine lv_goto (tgt := 90) hx hb dX4_zoneShare_77 (by decide) ?_
        have hq9 : q_share B v = (2, 0) := by unfold q_share; rw [hir_571] <;> first | rfl | rw [if_pos (by omega)] | (rw [if_pos (by omega)]; rfl) | (dsimp only; rw [if_pos (by omega)]) | (dsimp only; rw [if_pos (by omega)]; rfl)
        have hP : va_P G.1 CL [(la, .inl (G.2 0, 200, .inl lf)), (za, .inl (G.2 0, 6, .inl (zAF B (sN B)))), (m0, .inr (6, [.ref sa, .ref oa, .ref pa, .ref la, .ref za, .ref na, .int gu, .int gt, .int gw, .int gd, .int gm, .int gr, .int (nI ((q_share B v).1)), .int gv]))] H := by rw [hq9]; exact hP
        have hD : va_D A [(la, .inl (G.2 0, 200, .inl lf)), (za, .inl (G.2 0, 6, .inl (zAF B (sN B)))), (m0, .inr (6, [.ref sa, .ref oa, .ref pa, .ref la, .ref za, .ref na, .int gu, .int gt, .int gw, .int gd, .int gm, .int gr, .int (nI ((q_share B v).1)), .int gv]))] := by rw [hq9]; exact hD
        have hP9 : va_P G.1 CL [(m0, .inr (6, [.ref sa, .ref oa, .ref pa, .ref la, .ref za, .ref na, .int gu, .int gt, .int gw, .int gd, .int gm, .int gr, .int (nI ((q_share B v).1)), .int gv])), (la, .inl (G.2 0, 200, .inl lf)), (za, .inl (G.2 0, 6, .inl (zAF B (sN B))))] H := hP.sub [2, 0, 1] rfl
        have hD9 : va_D A [(m0, .inr (6, [.ref sa, .ref oa, .ref pa, .ref la, .ref za, .ref na, .int gu, .int gt, .int gw, .int gd, .int gm, .int gr, .int (nI ((q_share B v).1)), .int gv])), (la, .inl (G.2 0, 200, .inl lf)), (za, .inl (G.2 0, 6, .inl (zAF B (sN B))))] := hD.sub [2, 0, 1] (by decide) rfl
        exact end_f hx hb hr hlk (qc_of ⟨FP.fconst0, lf, zAF B (sN B), gd, gm, gr⟩ (v := some (.float FP.fconst0)) (by rfl) (fun h => by rw [hq9] at h; exact absurd h (by decide)) hP9 hD9 (trivial) hS) hS dX4_zoneShare_90 (show 0 ≤ 0 from by first | exact Nat.le_refl _ | decide | omega) (show 0 ≤ 0 from by first | exact Nat.le_refl _ | decide | omega)
  · refine lv_aload_n hx hb dX4_zoneShare_18 rfl (lv_at hl 0 rfl) ?_
    refine lv_iload_n hx hb dX4_zoneShare_19 rfl (lv_at hl 3 rfl) ?_
    have hF := hF_of (wc := [(za, .inl (G.2 0, 6, .inl (zAF B k_559)))]) hD hS hA [2] rfl
    have hro_577 : roW G (va_A [(za, .inl (G.2 0, 6, .inl (zAF B k_559)))] H.size) H [(m0, .inr (6, [.ref sa, .ref oa, .ref pa, .ref la, .ref za, .ref na, .int gu, .int gt, .int gw, .int gd, .int gm, .int gr, .int gh, .int gv])), (sa, .inl (G.2 0, 830, .inl f))] := ((roW.of (w' := [(m0, .inr (6, [.ref sa, .ref oa, .ref pa, .ref la, .ref za, .ref na, .int gu, .int gt, .int gw, .int gd, .int gm, .int gr, .int gh, .int gv]))]) hP hD [2] [0] rfl rfl (by decide)).app ((hR0.kp hF hS.2.1).sub (ws' := [(sa, .inl (G.2 0, 830, .inl f))]) [0] rfl))
    refine go_ct hS hP hD [2] [0, 1] hF rfl rfl (by decide) (by decide)
        (va_runV (As := [.int (nI k_559)]) (rest := []) cf (mX4_zones l G m0 sa oa pa la za na gu gt gw gd gm gr gh gv f B (zAF B k_559) k_559 (show MR f B from by first | assumption | omega) (show Inv B from by first | assumption | omega) (show k_559 < sN B from by first | assumption | omega) H.size) (cwV 1 hts (lw_V q1683 q1685 qs26 q58 q1686) rfl rfl rfl (by decide +kernel) ⟨Nat.le_of_ble_eq_true rfl, Nat.le_of_ble_eq_true rfl⟩) (preV_of hKB hE hS hF (va_recv hK hP (ci := 6) (q0 := 0) rfl rfl) (va_P.sub hP [2] rfl) ((va_D.sub hD [2] (by decide) rfl).weaken (fun _ _ _ _ => trivial)) hro_577) rfl rfl hl.1 rfl (lv_room (Nat.le_of_ble_eq_true rfl)) dX4_zoneShare_20 ⟨show 0 + 0 ≤ 0 from by first | decide | omega, show 0 + 0 ≤ 0 from by first | decide | omega⟩)
        (fun u_ H locs hq hph (hP : va_P G.1 CL [(m0, .inr (6, [.ref sa, .ref oa, .ref pa, .ref la, .ref za, .ref na, .int gu, .int gt, .int gw, .int gd, .int gm, .int gr, .int gh, .int gv])), (la, .inl (G.2 0, 200, .inl lf)), (za, .inl (G.2 0, 6, .inl (zAdd (zAF B k_559) B (sAt B k_559) (nP (sAt B k_559)))))] H) (hD : va_D A [(m0, .inr (6, [.ref sa, .ref oa, .ref pa, .ref la, .ref za, .ref na, .int gu, .int gt, .int gw, .int gd, .int gm, .int gr, .int gh, .int gv])), (la, .inl (G.2 0, 200, .inl lf)), (za, .inl (G.2 0, 6, .inl (zAdd (zAF B k_559) B (sAt B k_559) (nP (sAt B k_559)))))]) hS hfz hfk => ?_)
    refine W.eq (g2 := F0 m 23 ls []) rfl ?_
    refine lv_iload_n hx hb dX4_zoneShare_23 rfl (lv_at hl 2 rfl) ?_
    refine lv_aload_n hx hb dX4_zoneShare_24 rfl (lv_at hl 0 rfl) ?_
    refine lv_iload_n hx hb dX4_zoneShare_25 rfl (lv_at hl 3 rfl) ?_
    have hF := hF_of (wc := []) hD hS hA [] rfl
    have hro_578 : va_P G.1 CL [(m0, .inr (6, [.ref sa, .ref oa, .ref pa, .ref la, .ref za, .ref na, .int gu, .int gt, .int gw, .int gd, .int gm, .int gr, .int gh, .int gv])), (sa, .inl (G.2 0, 830, .inl f))] H := ((va_P.sub hP [0] rfl).app ((hR0.w hS).sub [0] rfl))
    refine go_ct hS hP hD [] [0, 1, 2] hF rfl rfl (by decide) (by decide)
        (va_runV (As := [.int (nI k_559)]) (rest := [.int (nI (psum (fun k9 => minOf (sAt B k9)) k_559))]) cf (mX4_minutes l G m0 sa oa pa la za na gu gt gw gd gm gr gh gv f B k_559 (show MR f B from by first | assumption | omega) (show Inv B from by first | assumption | omega) (show k_559 < sN B from by first | assumption | omega) H.size) (cwV 1 hts (lw_V q1743 q1745 qs31 q58 q1746) rfl rfl rfl (by decide +kernel) ⟨Nat.le_of_ble_eq_true rfl, Nat.le_of_ble_eq_true rfl⟩) (preV_of hKB hE hS hF (va_recv hK hP (ci := 6) (q0 := 0) rfl rfl) (va_P.sub hP [] rfl) ((va_D.sub hD [] (by decide) rfl).weaken (fun _ _ _ _ => trivial)) (roW.nil hro_578)) rfl rfl hl.1 rfl (lv_room (Nat.le_of_ble_eq_true rfl)) dX4_zoneShare_26 ⟨show 0 + 0 ≤ 0 from by first | decide | omega, show 0 + 0 ≤ 0 from by first | decide | omega⟩)
        (fun u_ H locs hq hph (hP : va_P G.1 CL [(m0, .inr (6, [.ref sa, .ref oa, .ref pa, .ref la, .ref za, .ref na, .int gu, .int gt, .int gw, .int gd, .int gm, .int gr, .int gh, .int gv])), (la, .inl (G.2 0, 200, .inl lf)), (za, .inl (G.2 0, 6, .inl (zAdd (zAF B k_559) B (sAt B k_559) (nP (sAt B k_559)))))] H) (hD : va_D A [(m0, .inr (6, [.ref sa, .ref oa, .ref pa, .ref la, .ref za, .ref na, .int gu, .int gt, .int gw, .int gd, .int gm, .int gr, .int gh, .int gv])), (la, .inl (G.2 0, 200, .inl lf)), (za, .inl (G.2 0, 6, .inl (zAdd (zAF B k_559) B (sAt B k_559) (nP (sAt B k_559)))))]) hS hfz hfk => ?_)
    refine W.eq (g2 := F0 m 29 ls [.int (nI (minOf (sAt B k_559))), .int (nI (psum (fun k9 => minOf (sAt B k9)) k_559))]) rfl ?_
    refine lv_iadd hx hb dX4_zoneShare_29 ?_
    refine lv_ton (n := (minOf (sAt B k_559)) + (psum (fun k9 => minOf (sAt B k9)) k_559)) (nadd (by omega)) ?_
    refine lv_ton (n := (psum (fun k9 => minOf (sAt B k9)) (k_559 + 1))) (congrArg nI (by simp only [psum]; omega)) ?_
    refine lv_istore_n (lv' := [(2, .int (nI (psum (fun k9 => minOf (sAt B k9)) (k_559 + 1)))), (0, .ref m0), (1, .int v), (3, .int (nI k_559))]) hx hb dX4_zoneShare_30 rfl hl (by decide) rfl (fun ls hl => ?_)
    have hP : va_P G.1 CL [(m0, .inr (6, [.ref sa, .ref oa, .ref pa, .ref la, .ref za, .ref na, .int gu, .int gt, .int gw, .int gd, .int gm, .int gr, .int gh, .int gv])), (la, .inl (G.2 0, 200, .inl lf)), (za, .inl (G.2 0, 6, .inl (zAF B (k_559 + 1))))] H := by rw [← zAF_s]; exact hP
    have hD : va_D A [(m0, .inr (6, [.ref sa, .ref oa, .ref pa, .ref la, .ref za, .ref na, .int gu, .int gt, .int gw, .int gd, .int gm, .int gr, .int gh, .int gv])), (la, .inl (G.2 0, 200, .inl lf)), (za, .inl (G.2 0, 6, .inl (zAF B (k_559 + 1))))] := by rw [← zAF_s]; exact hD
    refine lv_iinc (v := nI (k_559 + 1)) (lv' := [(3, .int (nI (k_559 + 1))), (2, .int (nI (psum (fun k9 => minOf (sAt B k9)) (k_559 + 1)))), (0, .ref m0), (1, .int v)]) hx hb dX4_zoneShare_31 hl (k := 3) rfl (ninc (b := 1) (by decide) (by omega)) (by decide) rfl (fun ls hl => ?_)
    refine lv_goto (tgt := 8) hx hb dX4_zoneShare_34 (by decide) ?_
    have hP : va_P G.1 CL [(m0, .inr (6, [.ref sa, .ref oa, .ref pa, .ref la, .ref za, .ref na, .int gu, .int gt, .int gw, .int gd, .int gm, .int gr, .int gh, .int gv])), (la, .inl (G.2 0, 200, .inl lf)), (za, .inl (G.2 0, 6, .inl (zAF B (k_559 + 1))))] H := hP.sub [0, 1, 2] rfl
    have hD : va_D A [(m0, .inr (6, [.ref sa, .ref oa, .ref pa, .ref la, .ref za, .ref na, .int gu, .int gt, .int gw, .int gd, .int gm, .int gr, .int gh, .int gv])), (la, .inl (G.2 0, 200, .inl lf)), (za, .inl (G.2 0, 6, .inl (zAF B (k_559 + 1))))] := hD.sub [0, 1, 2] (by decide) rfl
    have hl := lv_sub hl [2, 3, 1, 0] (l' := [(0, .ref m0), (1, .int v), (2, .int (nI (psum (fun k9 => minOf (sAt B k9)) (k_559 + 1)))), (3, .int (nI (k_559 + 1)))]) rfl
    exact W.widen (show 0 ≤ 0 from by first | exact Nat.le_refl _ | omega) (show 0 ≤ 0 from by first | exact Nat.le_refl _ | omega) (ih8 ((k_559 + 1)) H locs ls ⟨hP, hD, hS, hl, (show (k_559 + 1) ≤ sN B from by omega)⟩ (show sN B - (k_559 + 1) < sN B - k_559 from by omega))

set_option maxHeartbeats 4000000 in
theorem mX4_meanLoad (l : Launch) (G : Gt) (m0 : Nat) (sa : Nat) (oa : Nat) (pa : Nat) (la : Nat) (za : Nat) (na : Nat) (gu : Int32) (gt : Int32) (gw : Int32) (gd : Int32) (gm : Int32) (gr : Int32) (gh : Int32) (gv : Int32) (f : Nat → Int32) (B : Bk) (lf : Nat → Int32) (zf : Nat → Int32) (hM : MR f B) (hI : Inv B) : CT l G yX4_meanLoad cX4_meanLoad 3 (some .double) ({ frames := 6, cells := 0, slots := 0, locals := 127 } : Room) [.ref m0] [(m0, .inr (6, [.ref sa, .ref oa, .ref pa, .ref la, .ref za, .ref na, .int gu, .int gt, .int gw, .int gd, .int gm, .int gr, .int gh, .int gv])), (la, .inl (G.2 0, 200, .inl lf)), (za, .inl (G.2 0, 6, .inl zf))] (fun (A : Nat → Prop) (H : Heap) => roW G A H [(sa, .inl (G.2 0, 830, .inl f))]) (S := UInt64 × (Nat → Int32) × (Nat → Int32) × Int32 × Int32 × Int32) (fun (u_ : UInt64 × (Nat → Int32) × (Nat → Int32) × Int32 × Int32 × Int32) => some (.double u_.1)) (fun (u_ : UInt64 × (Nat → Int32) × (Nat → Int32) × Int32 × Int32 × Int32) => ((q_mean B).1 = 0 → u_.1 = (q_mean B).2)) (fun (u_ : UInt64 × (Nat → Int32) × (Nat → Int32) × Int32 × Int32 × Int32) => [(m0, .inr (6, [.ref sa, .ref oa, .ref pa, .ref la, .ref za, .ref na, .int gu, .int gt, .int gw, .int u_.2.2.2.1, .int u_.2.2.2.2.1, .int u_.2.2.2.2.2, .int (nI ((q_mean B).1)), .int gv])), (la, .inl (G.2 0, 200, .inl u_.2.1)), (za, .inl (G.2 0, 6, .inl u_.2.2.1))]) (fun (u_ : UInt64 × (Nat → Int32) × (Nat → Int32) × Int32 × Int32 × Int32) (H : Heap) => True) := by
  refine CT.of (by decide) (Nat.le_of_ble_eq_true rfl) ?_
  intro p e s m below meth c ls A H locs h9 hH0 hP hS
  obtain ⟨cf, hr, hlk, hnm, hKB, hE, -, hD, -, hA, hAw, hR0, hl⟩ := h9
  have hx := cf.1
  have hb := cf.2.1
  have hml := cf.2.2.1
  have hown : s.vm.findClass RX4 = some m.cls := cf.2.2.2.1
  have hts := cf.2.2.2.2
  have hK := hKB.1
  have hl : lv_has ls 3 [(0, .ref m0)] := hl
  have iN := iv_sN hI
  have iT := iv_tN hI
  have iD := iv_bD hI
  have iE := iv_bE hI
  have iW := iv_id hI
  refine lv_aload_n hx hb dX4_meanLoad_0 rfl (lv_at hl 0 rfl) ?_
  refine lv_iconst (v := nI 0) hx hb dX4_meanLoad_1 (by decide) ?_
  refine va_put (v := .int (nI 0)) (ty := .int) hx hb hts in_X4 tyX4 tyX4_ok nmX4 hown hK hP hD hS 0 rfl rfl 12 (by decide) (hts _ q1608) (fun _ h => h) rfl (by decide +kernel) rfl rfl (Nat.le_of_ble_eq_true rfl) dX4_meanLoad_2 (fun H locs (hP : va_P G.1 CL [(m0, .inr (6, [.ref sa, .ref oa, .ref pa, .ref la, .ref za, .ref na, .int gu, .int gt, .int gw, .int gd, .int gm, .int gr, .int (nI 0), .int gv])), (la, .inl (G.2 0, 200, .inl lf)), (za, .inl (G.2 0, 6, .inl zf))] H) (hD : va_D A [(m0, .inr (6, [.ref sa, .ref oa, .ref pa, .ref la, .ref za, .ref na, .int gu, .int gt, .int gw, .int gd, .int gm, .int gr, .int (nI 0), .int gv])), (la, .inl (G.2 0, 200, .inl lf)), (za, .inl (G.2 0, 6, .inl zf))]) hS => ?_)
  refine lv_aload_n hx hb dX4_meanLoad_5 rfl (lv_at hl 0 rfl) ?_
  have hF := hF_of (wc := [(la, .inl (G.2 0, 200, .inl lf)), (za, .inl (G.2 0, 6, .inl zf))]) hD hS hA [1, 2] rfl
  have hro_579 : roW G (va_A [(la, .inl (G.2 0, 200, .inl lf)), (za, .inl (G.2 0, 6, .inl zf))] H.size) H [(m0, .inr (6, [.ref sa, .ref oa, .ref pa, .ref la, .ref za, .ref na, .int gu, .int gt, .int gw, .int gd, .int gm, .int gr, .int (nI 0), .int gv])), (sa, .inl (G.2 0, 830, .inl f))] := ((roW.of (w' := [(m0, .inr (6, [.ref sa, .ref oa, .ref pa, .ref la, .ref za, .ref na, .int gu, .int gt, .int gw, .int gd, .int gm, .int gr, .int (nI 0), .int gv]))]) hP hD [1, 2] [0] rfl rfl (by decide)).app ((hR0.kp hF hS.2.1).sub (ws' := [(sa, .inl (G.2 0, 830, .inl f))]) [0] rfl))
  refine go_ct hS hP hD [1, 2] [0] hF rfl rfl (by decide) (by decide)
      (va_runV (As := []) (rest := []) cf (mX4_loads l G m0 sa oa pa la za na gu gt gw gd gm gr (nI 0) gv f B lf zf (show MR f B from by first | assumption | omega) (show Inv B from by first | assumption | omega) H.size) (cwV 0 hts (lw_V q1795 q1797 qs34 q58 q1798) rfl rfl rfl (by decide +kernel) ⟨Nat.le_of_ble_eq_true rfl, Nat.le_of_ble_eq_true rfl⟩) (preV_of hKB hE hS hF (va_recv hK hP (ci := 6) (q0 := 0) rfl rfl) (va_P.sub hP [1, 2] rfl) ((va_D.sub hD [1, 2] (by decide) rfl).weaken (fun _ _ _ _ => trivial)) hro_579) rfl rfl hl.1 rfl (lv_room (Nat.le_of_ble_eq_true rfl)) dX4_meanLoad_6 ⟨show 0 + 0 ≤ 0 from by first | decide | omega, show 0 + 0 ≤ 0 from by first | decide | omega⟩)
      (fun u_ H locs hq hph (hP : va_P G.1 CL [(m0, .inr (6, [.ref sa, .ref oa, .ref pa, .ref la, .ref za, .ref na, .int gu, .int gt, .int gw, .int gd, .int gm, .int gr, .int (nI 0), .int gv])), (la, .inl (G.2 0, 200, .inl (ldF B))), (za, .inl (G.2 0, 6, .inl u_))] H) (hD : va_D A [(m0, .inr (6, [.ref sa, .ref oa, .ref pa, .ref la, .ref za, .ref na, .int gu, .int gt, .int gw, .int gd, .int gm, .int gr, .int (nI 0), .int gv])), (la, .inl (G.2 0, 200, .inl (ldF B))), (za, .inl (G.2 0, 6, .inl u_))]) hS hfz hfk => ?_)
  obtain ⟨zg_580, rfl⟩ : ∃ z, z = u_ := ⟨_, rfl⟩
  have hP : va_P G.1 CL [(m0, .inr (6, [.ref sa, .ref oa, .ref pa, .ref la, .ref za, .ref na, .int gu, .int gt, .int gw, .int gd, .int gm, .int gr, .int (nI 0), .int gv])), (la, .inl (G.2 0, 200, .inl (ldF B))), (za, .inl (G.2 0, 6, .inl zg_580))] H := hP
  have hD : va_D A [(m0, .inr (6, [.ref sa, .ref oa, .ref pa, .ref la, .ref za, .ref na, .int gu, .int gt, .int gw, .int gd, .int gm, .int gr, .int (nI 0), .int gv])), (la, .inl (G.2 0, 200, .inl (ldF B))), (za, .inl (G.2 0, 6, .inl zg_580))] := hD
  refine W.eq (g2 := F0 m 9 ls []) rfl ?_
  refine lv_iconst (v := nI 0) hx hb dX4_meanLoad_9 (by decide) ?_
  refine lv_istore_n (lv' := [(1, .int (nI 0)), (0, .ref m0)]) hx hb dX4_meanLoad_10 rfl hl (by decide) rfl (fun ls hl => ?_)
  refine lv_iconst (v := nI 0) hx hb dX4_meanLoad_11 (by decide) ?_
  refine lv_istore_n (lv' := [(2, .int (nI 0)), (1, .int (nI 0)), (0, .ref m0)]) hx hb dX4_meanLoad_12 rfl hl (by decide) rfl (fun ls hl => ?_)
  have hl := lv_sub hl [2, 1, 0] (l' := [(0, .ref m0), (1, .int (nI (psum (fun d9 => loadD B d9) 0))), (2, .int (nI 0))]) rfl
  refine lp_W (σ := Nat) (hpc := 13) (fun x => bD B + 1 - x) (fun x => 0) (fun x => 0) (fun x H locs ls => va_P G.1 CL [(m0, .inr (6, [.ref sa, .ref oa, .ref pa, .ref la, .ref za, .ref na, .int gu, .int gt, .int gw, .int gd, .int gm, .int gr, .int (nI 0), .int gv])), (la, .inl (G.2 0, 200, .inl (ldF B))), (za, .inl (G.2 0, 6, .inl zg_580))] H ∧ va_D A [(m0, .inr (6, [.ref sa, .ref oa, .ref pa, .ref la, .ref za, .ref na, .int gu, .int gt, .int gw, .int gd, .int gm, .int gr, .int (nI 0), .int gv])), (la, .inl (G.2 0, 200, .inl (ldF B))), (za, .inl (G.2 0, 6, .inl zg_580))] ∧ va_S A s.heap H locs ∧ lv_has ls 3 [(0, .ref m0), (1, .int (nI (psum (fun d9 => loadD B d9) x))), (2, .int (nI x))] ∧ (x ≤ bD B + 1)) ?_ (0) ⟨(show va_P G.1 CL [(m0, .inr (6, [.ref sa, .ref oa, .ref pa, .ref la, .ref za, .ref na, .int gu, .int gt, .int gw, .int gd, .int gm, .int gr, .int (nI 0), .int gv])), (la, .inl (G.2 0, 200, .inl (ldF B))), (za, .inl (G.2 0, 6, .inl zg_580))] H from hP), (show va_D A [(m0, .inr (6, [.ref sa, .ref oa, .ref pa, .ref la, .ref za, .ref na, .int gu, .int gt, .int gw, .int gd, .int gm, .int gr, .int (nI 0), .int gv])), (la, .inl (G.2 0, 200, .inl (ldF B))), (za, .inl (G.2 0, 6, .inl zg_580))] from hD), hS, hl, (show 0 ≤ bD B + 1 from by omega)⟩ (show 0 ≤ 0 from by first | exact Nat.le_refl _ | omega) (show 0 ≤ 0 from by first | exact Nat.le_refl _ | omega)
  intro x H locs ls hI9 ih13
  obtain ⟨k_582, rfl⟩ : ∃ z, z = x := ⟨_, rfl⟩
  obtain ⟨hP, hD, hS, hl, hp_581⟩ := hI9
  have hP : va_P G.1 CL [(m0, .inr (6, [.ref sa, .ref oa, .ref pa, .ref la, .ref za, .ref na, .int gu, .int gt, .int gw, .int gd, .int gm, .int gr, .int (nI 0), .int gv])), (la, .inl (G.2 0, 200, .inl (ldF B))), (za, .inl (G.2 0, 6, .inl zg_580))] H := hP
  have hD : va_D A [(m0, .inr (6, [.ref sa, .ref oa, .ref pa, .ref la, .ref za, .ref na, .int gu, .int gt, .int gw, .int gd, .int gm, .int gr, .int (nI 0), .int gv])), (la, .inl (G.2 0, 200, .inl (ldF B))), (za, .inl (G.2 0, 6, .inl zg_580))] := hD
  have hl : lv_has ls 3 [(0, .ref m0), (1, .int (nI (psum (fun d9 => loadD B d9) k_582))), (2, .int (nI k_582))] := hl
  have hp_581 : k_582 ≤ bD B + 1 := hp_581
  refine lv_iload_n hx hb dX4_meanLoad_13 rfl (lv_at hl 2 rfl) ?_
  refine lv_aload_n hx hb dX4_meanLoad_14 rfl (lv_at hl 0 rfl) ?_
  refine va_get hx hb hts in_X4 hown hK hP 0 rfl rfl 0 (by decide) (hts _ q1596) (fun _ h => h) rfl dX4_meanLoad_15 ?_
  refine lv_iconst (v := nI 0) hx hb dX4_meanLoad_18 (by decide) ?_
  refine r_iald (v := nI (bD B)) hx hb hK (hR0.w hS) 0 0 rfl rfl (i := 0) (by omega) (by omega) (hM.today) dX4_meanLoad_19 ?_
  refine n_icmp_gt (tgt := 38) hx hb (by omega) (by omega) dX4_meanLoad_20 (by decide) (fun c_583 => ?_) (fun c_583 => ?_)
  · have hk9 : k_582 = bD B + 1 := by omega
    have hl := lv_sub hl [0, 1] (l' := [(0, .ref m0), (1, .int (nI (psum (fun d9 => loadD B d9) k_582)))]) rfl
    have hl : lv_has ls 3 [(0, .ref m0), (1, .int (nI (sumL B)))] := by rw [hk9] at hl; exact hl
    refine lv_iload_n hx hb dX4_meanLoad_38 rfl (lv_at hl 1 rfl) ?_
    refine lv_i2d hx hb dX4_meanLoad_39 ?_
    refine lv_aload_n hx hb dX4_meanLoad_40 rfl (lv_at hl 0 rfl) ?_
    refine va_get hx hb hts in_X4 hown hK hP 0 rfl rfl 0 (by decide) (hts _ q1596) (fun _ h => h) rfl dX4_meanLoad_41 ?_
    refine lv_iconst (v := nI 0) hx hb dX4_meanLoad_44 (by decide) ?_
    refine r_iald (v := nI (bD B)) hx hb hK (hR0.w hS) 0 0 rfl rfl (i := 0) (by omega) (by omega) (hM.today) dX4_meanLoad_45 ?_
    refine lv_iconst (v := nI 1) hx hb dX4_meanLoad_46 (by decide) ?_
    refine lv_iadd hx hb dX4_meanLoad_47 ?_
    refine lv_ton (n := (bD B) + 1) (nadd (by omega)) ?_
    refine lv_i2d hx hb dX4_meanLoad_48 ?_
    refine lv_ddiv hx hb dX4_meanLoad_49 (mean_num (nI (sumL B)) (nI_ne0 (by omega) (by omega))) ?_
    have hq9 : q_mean B = (0, FP.ddiv (FP.i2d (nI (sumL B))) (FP.i2d (nI ((bD B) + 1)))) := by unfold q_mean; rfl
    have hP : va_P G.1 CL [(m0, .inr (6, [.ref sa, .ref oa, .ref pa, .ref la, .ref za, .ref na, .int gu, .int gt, .int gw, .int gd, .int gm, .int gr, .int (nI ((q_mean B).1)), .int gv])), (la, .inl (G.2 0, 200, .inl (ldF B))), (za, .inl (G.2 0, 6, .inl zg_580))] H := by rw [hq9]; exact hP
    have hD : va_D A [(m0, .inr (6, [.ref sa, .ref oa, .ref pa, .ref la, .ref za, .ref na, .int gu, .int gt, .int gw, .int gd, .int gm, .int gr, .int (nI ((q_mean B).1)), .int gv])), (la, .inl (G.2 0, 200, .inl (ldF B))), (za, .inl (G.2 0, 6, .inl zg_580))] := by rw [hq9]; exact hD
    have hP9 : va_P G.1 CL [(m0, .inr (6, [.ref sa, .ref oa, .ref pa, .ref la, .ref za, .ref na, .int gu, .int gt, .int gw, .int gd, .int gm, .int gr, .int (nI ((q_mean B).1)), .int gv])), (la, .inl (G.2 0, 200, .inl (ldF B))), (za, .inl (G.2 0, 6, .inl zg_580))] H := hP.sub [0, 1, 2] rfl
    have hD9 : va_D A [(m0, .inr (6, [.ref sa, .ref oa, .ref pa, .ref la, .ref za, .ref na, .int gu, .int gt, .int gw, .int gd, .int gm, .int gr, .int (nI ((q_mean B).1)), .int gv])), (la, .inl (G.2 0, 200, .inl (ldF B))), (za, .inl (G.2 0, 6, .inl zg_580))] := hD.sub [0, 1, 2] (by decide) rfl
    exact end_d hx hb hr hlk (qc_of ⟨FP.ddiv (FP.i2d (nI (sumL B))) (FP.i2d (nI ((bD B) + 1))), ldF B, zg_580, gd, gm, gr⟩ (v := some (.double (FP.ddiv (FP.i2d (nI (sumL B))) (FP.i2d (nI ((bD B) + 1)))))) (by rfl) (fun _ => by rw [hq9]) hP9 hD9 (trivial) hS) hS dX4_meanLoad_50 (show 0 ≤ 0 from by first | exact Nat.le_refl _ | decide | omega) (show 0 ≤ 0 from by first | exact Nat.le_refl _ | decide | omega)
  · refine lv_iload_n hx hb dX4_meanLoad_23 rfl (lv_at hl 1 rfl) ?_
    refine lv_aload_n hx hb dX4_meanLoad_24 rfl (lv_at hl 0 rfl) ?_
    refine va_get hx hb hts in_X4 hown hK hP 0 rfl rfl 3 (by decide) (hts _ q1599) (fun _ h => h) rfl dX4_meanLoad_25 ?_
    refine lv_iload_n hx hb dX4_meanLoad_28 rfl (lv_at hl 2 rfl) ?_
    refine r_iald (v := nI (loadD B k_582)) hx hb hK hP 1 0 rfl rfl (i := k_582) (by omega) (by omega) (rfl) dX4_meanLoad_29 ?_
    refine lv_iadd hx hb dX4_meanLoad_30 ?_
    refine lv_ton (n := (loadD B k_582) + (psum (fun d9 => loadD B d9) k_582)) (nadd (by omega)) ?_
    refine lv_ton (n := (psum (fun d9 => loadD B d9) (k_582 + 1))) (congrArg nI (by simp only [psum]; omega)) ?_
    refine lv_istore_n (lv' := [(1, .int (nI (psum (fun d9 => loadD B d9) (k_582 + 1)))), (0, .ref m0), (2, .int (nI k_582))]) hx hb dX4_meanLoad_31 rfl hl (by decide) rfl (fun ls hl => ?_)
    refine lv_iinc (v := nI (k_582 + 1)) (lv' := [(2, .int (nI (k_582 + 1))), (1, .int (nI (psum (fun d9 => loadD B d9) (k_582 + 1)))), (0, .ref m0)]) hx hb dX4_meanLoad_32 hl (k := 2) rfl (ninc (b := 1) (by decide) (by omega)) (by decide) rfl (fun ls hl => ?_)
    refine lv_goto (tgt := 13) hx hb dX4_meanLoad_35 (by decide) ?_
    have hP : va_P G.1 CL [(m0, .inr (6, [.ref sa, .ref oa, .ref pa, .ref la, .ref za, .ref na, .int gu, .int gt, .int gw, .int gd, .int gm, .int gr, .int (nI 0), .int gv])), (la, .inl (G.2 0, 200, .inl (ldF B))), (za, .inl (G.2 0, 6, .inl zg_580))] H := hP.sub [0, 1, 2] rfl
    have hD : va_D A [(m0, .inr (6, [.ref sa, .ref oa, .ref pa, .ref la, .ref za, .ref na, .int gu, .int gt, .int gw, .int gd, .int gm, .int gr, .int (nI 0), .int gv])), (la, .inl (G.2 0, 200, .inl (ldF B))), (za, .inl (G.2 0, 6, .inl zg_580))] := hD.sub [0, 1, 2] (by decide) rfl
    have hl := lv_sub hl [2, 1, 0] (l' := [(0, .ref m0), (1, .int (nI (psum (fun d9 => loadD B d9) (k_582 + 1)))), (2, .int (nI (k_582 + 1)))]) rfl
    exact W.widen (show 0 ≤ 0 from by first | exact Nat.le_refl _ | omega) (show 0 ≤ 0 from by first | exact Nat.le_refl _ | omega) (ih13 ((k_582 + 1)) H locs ls ⟨hP, hD, hS, hl, (show (k_582 + 1) ≤ bD B + 1 from by omega)⟩ (show bD B + 1 - (k_582 + 1) < bD B + 1 - k_582 from by omega))

set_option maxHeartbeats 4000000 in
theorem mX4_lineAt (l : Launch) (G : Gt) (m0 : Nat) (sa : Nat) (oa : Nat) (pa : Nat) (la : Nat) (za : Nat) (na : Nat) (gu : Int32) (gt : Int32) (gd : Int32) (gm : Int32) (gr : Int32) (gh : Int32) (gv : Int32) (nc : Nat → Nat) (w9 : Nat) (v : Int32) (hw : w9 ≤ 13) (hnc : ∀ j, nc j < 65536) : CT l G yX4_lineAt cX4_lineAt 2 (some .char) ({ frames := 2, cells := 0, slots := 0, locals := 34 } : Room) [.ref m0, .int v] [(m0, .inr (6, [.ref sa, .ref oa, .ref pa, .ref la, .ref za, .ref na, .int gu, .int gt, .int (nI w9), .int gd, .int gm, .int gr, .int gh, .int gv]))] (fun (A : Nat → Prop) (H : Heap) => roW G A H [(na, .inl (G.2 2, 13, .inl (fun j9 => nI (nc j9))))]) (S := Int32) (fun (u_ : Int32) => some (.int u_)) (fun (u_ : Int32) => ((q_line nc w9 v).1 = 0 → u_ = (q_line nc w9 v).2)) (fun (u_ : Int32) => [(m0, .inr (6, [.ref sa, .ref oa, .ref pa, .ref la, .ref za, .ref na, .int gu, .int gt, .int (nI w9), .int gd, .int gm, .int gr, .int (nI ((q_line nc w9 v).1)), .int gv]))]) (fun (u_ : Int32) (H : Heap) => True) := by
  refine CT.of (by decide) (Nat.le_of_ble_eq_true rfl) ?_
  intro p e s m below meth c ls A H locs h9 hH0 hP hS
  obtain ⟨cf, hr, hlk, hnm, hKB, hE, -, hD, -, hA, hAw, hR0, hl⟩ := h9
  have hx := cf.1
  have hb := cf.2.1
  have hml := cf.2.2.1
  have hown : s.vm.findClass RX4 = some m.cls := cf.2.2.2.1
  have hts := cf.2.2.2.2
  have hK := hKB.1
  have hl : lv_has ls 2 [(0, .ref m0), (1, .int v)] := hl
  refine lv_aload_n hx hb dX4_lineAt_0 rfl (lv_at hl 0 rfl) ?_
  refine lv_iload_n hx hb dX4_lineAt_1 rfl (lv_at hl 1 rfl) ?_
  refine lv_iconst (v := nI 0) hx hb dX4_lineAt_2 (by decide) ?_
  refine lv_aload_n hx hb dX4_lineAt_3 rfl (lv_at hl 0 rfl) ?_
  refine va_get hx hb hts in_X4 hown hK hP 0 rfl rfl 8 (by decide) (hts _ q1604) (fun _ h => h) rfl dX4_lineAt_4 ?_
  refine lv_iconst (v := nI 1) hx hb dX4_lineAt_7 (by decide) ?_
  refine lv_isub hx hb dX4_lineAt_8 ?_
  refine lv_toi (y := lI w9) (rfl) ?_
  have hF := hF_of (wc := []) hD hS hA [] rfl
  refine go_ct hS hP hD [] [0] hF rfl rfl (by decide) (by decide)
      (va_runS (As := [.int v, .int (nI 0), .int (lI w9)]) (rest := [.ref m0]) cf (mX4_isIn l G v (nI 0) (lI w9)  H.size) (va_cwS 3 hts (lw_S q1647 q1648 q58 q1649) rfl rfl rfl (by decide +kernel) ⟨Nat.le_of_ble_eq_true rfl, Nat.le_of_ble_eq_true rfl⟩) (preS_of hKB hE hS hF (va_P.sub hP [] rfl) ((va_D.sub hD [] (by decide) rfl).weaken (fun _ _ _ _ => trivial)) trivial) rfl rfl hl.1 rfl (lv_room (Nat.le_of_ble_eq_true rfl)) dX4_lineAt_9 ⟨show 0 + 0 ≤ 0 from by first | decide | omega, show 0 + 0 ≤ 0 from by first | decide | omega⟩)
      (fun u_ H locs hq hph (hP : va_P G.1 CL [(m0, .inr (6, [.ref sa, .ref oa, .ref pa, .ref la, .ref za, .ref na, .int gu, .int gt, .int (nI w9), .int gd, .int gm, .int gr, .int gh, .int gv]))] H) (hD : va_D A [(m0, .inr (6, [.ref sa, .ref oa, .ref pa, .ref la, .ref za, .ref na, .int gu, .int gt, .int (nI w9), .int gd, .int gm, .int gr, .int gh, .int gv]))]) hS hfz hfk => ?_)
  obtain ⟨b_584, rfl⟩ : ∃ z, z = u_ := ⟨_, rfl⟩
  have hP : va_P G.1 CL [(m0, .inr (6, [.ref sa, .ref oa, .ref pa, .ref la, .ref za, .ref na, .int gu, .int gt, .int (nI w9), .int gd, .int gm, .int gr, .int gh, .int gv]))] H := hP
  have hD : va_D A [(m0, .inr (6, [.ref sa, .ref oa, .ref pa, .ref la, .ref za, .ref na, .int gu, .int gt, .int (nI w9), .int gd, .int gm, .int gr, .int gh, .int gv]))] := hD
  have hq_585 : (b_584 = true ↔ (nI 0) ≤ v ∧ v ≤ (lI w9)) := hq
  refine W.eq (g2 := F0 m 12 ls [.int (bI b_584), .ref m0]) rfl ?_
  cases b_584
  · refine lv_ton (n := 0) rfl ?_
    have hir_586 : inL v w9 = none := inL_none (fun z => absurd (hq_585.mpr z) (by decide))
    refine n_if_ne (tgt := 19) hx hb (by omega) dX4_lineAt_12 (by decide) (fun c_587 => absurd c_587 (by omega)) (fun c_587 => ?_)
    refine lv_iconst (v := nI 1) hx hb dX4_lineAt_15 (by decide) ?_
    refine lv_goto (tgt := 20) hx hb dX4_lineAt_16 (by decide) ?_
    refine lv_iconst (v := nI 1) hx hb dX4_lineAt_20 (by decide) ?_
    have hF := hF_of (wc := [(m0, .inr (6, [.ref sa, .ref oa, .ref pa, .ref la, .ref za, .ref na, .int gu, .int gt, .int (nI w9), .int gd, .int gm, .int gr, .int gh, .int gv]))]) hD hS hA [0] rfl
    refine go_ct hS hP hD [0] [] hF rfl rfl (by decide) (by decide)
        (va_runV (As := [.int (nI 1), .int (nI 1)]) (rest := []) cf (mX4_isThrown_t l G m0 sa oa pa la za na gu gt (nI w9) gd gm gr gh gv 1  H.size) (cwV 2 hts (lw_V q1650 q1652 qs20 q58 q1653) rfl rfl rfl (by decide +kernel) ⟨Nat.le_of_ble_eq_true rfl, Nat.le_of_ble_eq_true rfl⟩) (preV_of hKB hE hS hF (va_recv hK hP (ci := 6) (q0 := 0) rfl rfl) (va_P.sub hP [0] rfl) ((va_D.sub hD [0] (by decide) rfl).weaken (fun _ _ _ _ => trivial)) trivial) rfl rfl hl.1 rfl (lv_room (Nat.le_of_ble_eq_true rfl)) dX4_lineAt_21 ⟨show 0 + 0 ≤ 0 from by first | decide | omega, show 0 + 0 ≤ 0 from by first | decide | omega⟩)
        (fun u_ H locs hq hph (hP : va_P G.1 CL [(m0, .inr (6, [.ref sa, .ref oa, .ref pa, .ref la, .ref za, .ref na, .int gu, .int gt, .int (nI w9), .int gd, .int gm, .int gr, .int (nI 1), .int gv]))] H) (hD : va_D A [(m0, .inr (6, [.ref sa, .ref oa, .ref pa, .ref la, .ref za, .ref na, .int gu, .int gt, .int (nI w9), .int gd, .int gm, .int gr, .int (nI 1), .int gv]))]) hS hfz hfk => ?_)
    refine W.eq (g2 := F0 m 24 ls [.int (nI 1)]) rfl ?_
    refine n_if_eq (tgt := 32) hx hb (by omega) dX4_lineAt_24 (by decide) (fun c_588 => absurd c_588 (by omega)) (fun c_588 => ?_)
    refine lv_bipush (v := nI 45) hx hb dX4_lineAt_27 (by decide) ?_
    refine lv_goto (tgt := 38) hx hb dX4_lineAt_29 (by decide) ?_
    have hq9 : q_line nc w9 v = (1, 0) := by unfold q_line q1; rw [hir_586] <;> rfl
    have hP : va_P G.1 CL [(m0, .inr (6, [.ref sa, .ref oa, .ref pa, .ref la, .ref za, .ref na, .int gu, .int gt, .int (nI w9), .int gd, .int gm, .int gr, .int (nI ((q_line nc w9 v).1)), .int gv]))] H := by rw [hq9]; exact hP
    have hD : va_D A [(m0, .inr (6, [.ref sa, .ref oa, .ref pa, .ref la, .ref za, .ref na, .int gu, .int gt, .int (nI w9), .int gd, .int gm, .int gr, .int (nI ((q_line nc w9 v).1)), .int gv]))] := by rw [hq9]; exact hD
    have hP9 : va_P G.1 CL [(m0, .inr (6, [.ref sa, .ref oa, .ref pa, .ref la, .ref za, .ref na, .int gu, .int gt, .int (nI w9), .int gd, .int gm, .int gr, .int (nI ((q_line nc w9 v).1)), .int gv]))] H := hP.sub [0] rfl
    have hD9 : va_D A [(m0, .inr (6, [.ref sa, .ref oa, .ref pa, .ref la, .ref za, .ref na, .int gu, .int gt, .int (nI w9), .int gd, .int gm, .int gr, .int (nI ((q_line nc w9 v).1)), .int gv]))] := hD.sub [0] (by decide) rfl
    exact end_i hx hb hr hlk (nar_cv (by omega)) (qc_of (nI 45) (v := some (.int (nI 45))) (by rfl) (fun h => by rw [hq9] at h; exact absurd h (by decide)) hP9 hD9 (trivial) hS) hS dX4_lineAt_38 (show 0 ≤ 0 from by first | exact Nat.le_refl _ | decide | omega) (show 0 ≤ 0 from by first | exact Nat.le_refl _ | decide | omega)
  · refine lv_ton (n := 1) rfl ?_
    have hin_589 : nI 0 ≤ v ∧ v ≤ lI w9 := hq_585.mp rfl
    obtain ⟨d_590, hv_591, h_592⟩ := inL_nat (c := w9) (by omega) hin_589.1 hin_589.2
    have hir_594 : inL v w9 = some d_590 := inL_some hv_591 h_592 (by omega)
    have hl : lv_has ls 2 [(0, .ref m0), (1, .int (nI d_590))] := by
      have e9 : ((.int (nI d_590)) : Value) = .int v := by rw [hv_591]
      rw [e9]; exact hl
    refine n_if_ne (tgt := 19) hx hb (by omega) dX4_lineAt_12 (by decide) (fun c_595 => ?_) (fun c_595 => absurd c_595 (by omega))
    refine lv_iconst (v := nI 0) hx hb dX4_lineAt_19 (by decide) ?_
    refine lv_iconst (v := nI 1) hx hb dX4_lineAt_20 (by decide) ?_
    have hF := hF_of (wc := [(m0, .inr (6, [.ref sa, .ref oa, .ref pa, .ref la, .ref za, .ref na, .int gu, .int gt, .int (nI w9), .int gd, .int gm, .int gr, .int gh, .int gv]))]) hD hS hA [0] rfl
    refine go_ct hS hP hD [0] [] hF rfl rfl (by decide) (by decide)
        (va_runV (As := [.int (nI 0), .int (nI 1)]) (rest := []) cf (mX4_isThrown_f l G m0 sa oa pa la za na gu gt (nI w9) gd gm gr gh gv 1  H.size) (cwV 2 hts (lw_V q1650 q1652 qs20 q58 q1653) rfl rfl rfl (by decide +kernel) ⟨Nat.le_of_ble_eq_true rfl, Nat.le_of_ble_eq_true rfl⟩) (preV_of hKB hE hS hF (va_recv hK hP (ci := 6) (q0 := 0) rfl rfl) (va_P.sub hP [0] rfl) ((va_D.sub hD [0] (by decide) rfl).weaken (fun _ _ _ _ => trivial)) trivial) rfl rfl hl.1 rfl (lv_room (Nat.le_of_ble_eq_true rfl)) dX4_lineAt_21 ⟨show 0 + 0 ≤ 0 from by first | decide | omega, show 0 + 0 ≤ 0 from by first | decide | omega⟩)
        (fun u_ H locs hq hph (hP : va_P G.1 CL [(m0, .inr (6, [.ref sa, .ref oa, .ref pa, .ref la, .ref za, .ref na, .int gu, .int gt, .int (nI w9), .int gd, .int gm, .int gr, .int (nI 0), .int gv]))] H) (hD : va_D A [(m0, .inr (6, [.ref sa, .ref oa, .ref pa, .ref la, .ref za, .ref na, .int gu, .int gt, .int (nI w9), .int gd, .int gm, .int gr, .int (nI 0), .int gv]))]) hS hfz hfk => ?_)
    refine W.eq (g2 := F0 m 24 ls [.int (nI 0)]) rfl ?_
    refine n_if_eq (tgt := 32) hx hb (by omega) dX4_lineAt_24 (by decide) (fun c_596 => ?_) (fun c_596 => absurd c_596 (by omega))
    refine lv_aload_n hx hb dX4_lineAt_32 rfl (lv_at hl 0 rfl) ?_
    refine va_get hx hb hts in_X4 hown hK hP 0 rfl rfl 5 (by decide) (hts _ q1601) (fun _ h => h) rfl dX4_lineAt_33 ?_
    refine lv_iload_n hx hb dX4_lineAt_36 rfl (lv_at hl 1 rfl) ?_
    have hn9 := hnc d_590
    refine r_cald (v := nI (nc d_590)) hx hb hK (hR0.w hS) 0 2 rfl rfl (i := d_590) (by omega) (by omega) (rfl) dX4_lineAt_37 ?_
    have hq9 : q_line nc w9 v = (0, nI (nc d_590)) := by unfold q_line q1; rw [hir_594] <;> rfl
    have hP : va_P G.1 CL [(m0, .inr (6, [.ref sa, .ref oa, .ref pa, .ref la, .ref za, .ref na, .int gu, .int gt, .int (nI w9), .int gd, .int gm, .int gr, .int (nI ((q_line nc w9 v).1)), .int gv]))] H := by rw [hq9]; exact hP
    have hD : va_D A [(m0, .inr (6, [.ref sa, .ref oa, .ref pa, .ref la, .ref za, .ref na, .int gu, .int gt, .int (nI w9), .int gd, .int gm, .int gr, .int (nI ((q_line nc w9 v).1)), .int gv]))] := by rw [hq9]; exact hD
    have hP9 : va_P G.1 CL [(m0, .inr (6, [.ref sa, .ref oa, .ref pa, .ref la, .ref za, .ref na, .int gu, .int gt, .int (nI w9), .int gd, .int gm, .int gr, .int (nI ((q_line nc w9 v).1)), .int gv]))] H := hP.sub [0] rfl
    have hD9 : va_D A [(m0, .inr (6, [.ref sa, .ref oa, .ref pa, .ref la, .ref za, .ref na, .int gu, .int gt, .int (nI w9), .int gd, .int gm, .int gr, .int (nI ((q_line nc w9 v).1)), .int gv]))] := hD.sub [0] (by decide) rfl
    exact end_i hx hb hr hlk (nar_cv (by omega)) (qc_of (nI (nc d_590)) (v := some (.int (nI (nc d_590)))) (by rfl) (fun _ => by rw [hq9]) hP9 hD9 (trivial) hS) hS dX4_lineAt_38 (show 0 ≤ 0 from by first | exact Nat.le_refl _ | decide | omega) (show 0 ≤ 0 from by first | exact Nat.le_refl _ | decide | omega)
