/-! the component: tests, sessions, requirements -/
set_option maxRecDepth 100000
set_option maxHeartbeats 4000000 in
theorem mX1_isIn (l : Launch) (G : Gt) (v : Int32) (lo : Int32) (hi : Int32) : CT l G yX1_isIn cX1_isIn 3 (some .boolean) ({ frames := 1, cells := 0, slots := 0, locals := 12 } : Room) [.int v, .int lo, .int hi] [] RH0 (S := Bool) (fun (u_ : Bool) => some (.int (bI u_))) (fun (u_ : Bool) => (u_ = true ↔ lo ≤ v ∧ v ≤ hi)) (fun (u_ : Bool) => []) (fun (u_ : Bool) (H : Heap) => True) := by
  refine CT.of (by decide) (Nat.le_of_ble_eq_true rfl) ?_
  intro p e s m below meth c ls A H locs h9 hH0 hP hS
  obtain ⟨cf, hr, hlk, hnm, hKB, hE, -, hD, -, hA, hAw, hRH, hl⟩ := h9
  have hx := cf.1
  have hb := cf.2.1
  have hml := cf.2.2.1
  have hown : s.vm.findClass RX1 = some m.cls := cf.2.2.2.1
  have hts := cf.2.2.2.2
  have hK := hKB.1
  have hl : lv_has ls 3 [(0, .int v), (1, .int lo), (2, .int hi)] := hl
  refine lv_iload_n hx hb dX1_isIn_0 rfl (lv_at hl 0 rfl) ?_
  refine lv_iload_n hx hb dX1_isIn_1 rfl (lv_at hl 1 rfl) ?_
  refine lv_icmp_lt (tgt := 14) hx hb  dX1_isIn_2 (by decide) (fun c_997 => ?_) (fun c_997 => ?_)
  · refine lv_iconst (v := nI 0) hx hb dX1_isIn_14 (by decide) ?_
    have hP9 : va_P G.1 CL [] H := hP.sub [] rfl
    have hD9 : va_D A [] := hD.sub [] (by decide) rfl
    exact end_i hx hb hr hlk (by decide) (qc_of false (v := some (.int (nI 0))) (by rfl) (⟨fun z => absurd z (by decide), fun z => by exfalso; first | exact absurd z.1 (by first | assumption | exact Int32.not_le.mpr (by assumption)) | exact absurd z.2 (by first | assumption | exact Int32.not_le.mpr (by assumption))⟩) hP9 hD9 (trivial) hS) hS dX1_isIn_15 (show 0 ≤ 0 from by first | exact Nat.le_refl _ | decide | omega) (show 0 ≤ 0 from by first | exact Nat.le_refl _ | decide | omega)
  · refine lv_iload_n hx hb dX1_isIn_5 rfl (lv_at hl 0 rfl) ?_
    refine lv_iload_n hx hb dX1_isIn_6 rfl (lv_at hl 2 rfl) ?_
    refine lv_icmp_gt (tgt := 14) hx hb  dX1_isIn_7 (by decide) (fun c_999 => ?_) (fun c_999 => ?_)
    · refine lv_iconst (v := nI 0) hx hb dX1_isIn_14 (by decide) ?_
      have hP9 : va_P G.1 CL [] H := hP.sub [] rfl
      have hD9 : va_D A [] := hD.sub [] (by decide) rfl
      exact end_i hx hb hr hlk (by decide) (qc_of false (v := some (.int (nI 0))) (by rfl) (⟨fun z => absurd z (by decide), fun z => by exfalso; first | exact absurd z.1 (by first | assumption | exact Int32.not_le.mpr (by assumption)) | exact absurd z.2 (by first | assumption | exact Int32.not_le.mpr (by assumption))⟩) hP9 hD9 (trivial) hS) hS dX1_isIn_15 (show 0 ≤ 0 from by first | exact Nat.le_refl _ | decide | omega) (show 0 ≤ 0 from by first | exact Nat.le_refl _ | decide | omega)
    · refine lv_iconst (v := nI 1) hx hb dX1_isIn_10 (by decide) ?_
      refine lv_goto (tgt := 15) hx hb dX1_isIn_11 (by decide) ?_
      have hP9 : va_P G.1 CL [] H := hP.sub [] rfl
      have hD9 : va_D A [] := hD.sub [] (by decide) rfl
      exact end_i hx hb hr hlk (by decide) (qc_of true (v := some (.int (nI 1))) (by rfl) (⟨fun _ => ⟨by first | assumption | exact Int32.not_lt.mp (by assumption), by first | assumption | exact Int32.not_lt.mp (by assumption)⟩, fun _ => rfl⟩) hP9 hD9 (trivial) hS) hS dX1_isIn_15 (show 0 ≤ 0 from by first | exact Nat.le_refl _ | decide | omega) (show 0 ≤ 0 from by first | exact Nat.le_refl _ | decide | omega)

set_option maxHeartbeats 4000000 in
theorem mX1_requireArgument_t (l : Launch) (G : Gt) : CT l G yX1_requireArgument cX1_requireArgument 1 none ({ frames := 1, cells := 0, slots := 0, locals := 12 } : Room) [.int (nI 1)] [] RH0 (S := Unit) (fun (u_ : Unit) => (none : Option Value)) (fun (u_ : Unit) => True) (fun (u_ : Unit) => []) (fun (u_ : Unit) (H : Heap) => True) := by
  refine CT.of (by decide) (Nat.le_of_ble_eq_true rfl) ?_
  intro p e s m below meth c ls A H locs h9 hH0 hP hS
  obtain ⟨cf, hr, hlk, hnm, hKB, hE, -, hD, -, hA, hAw, hRH, hl⟩ := h9
  have hx := cf.1
  have hb := cf.2.1
  have hml := cf.2.2.1
  have hown : s.vm.findClass RX1 = some m.cls := cf.2.2.2.1
  have hts := cf.2.2.2.2
  have hK := hKB.1
  have hl : lv_has ls 1 [(0, .int (nI 1))] := hl
  refine lv_iload_n hx hb dX1_requireArgument_0 rfl (lv_at hl 0 rfl) ?_
  refine n_if_ne (tgt := 14) hx hb (by omega) dX1_requireArgument_1 (by decide) (fun c_1000 => ?_) (fun c_1000 => absurd c_1000 (by omega))
  have hP9 : va_P G.1 CL [] H := hP.sub [] rfl
  have hD9 : va_D A [] := hD.sub [] (by decide) rfl
  exact end_v hx hb hr hlk (qc_of () (v := none) (by rfl) (trivial) hP9 hD9 (trivial) hS) hS dX1_requireArgument_14 (show 0 ≤ 0 from by first | exact Nat.le_refl _ | decide | omega) (show 0 ≤ 0 from by first | exact Nat.le_refl _ | decide | omega)

set_option maxHeartbeats 4000000 in
theorem mX1_requireArgument_f (l : Launch) (G : Gt) (hfl : l.stackTraces = false) : CX l G yX1_requireArgument cX1_requireArgument 1 none ({ frames := 6, cells := 1, slots := 6, locals := 82 } : Room) [.int (nI 0)] [] RH0 (S := Unit) (fun (u_ : Unit) => (none : Option Value)) (fun (u_ : Unit) => False) (fun (u_ : Unit) => []) (fun (u_ : Unit) (H : Heap) => True) (SX := Unit) (fun (u_ : Unit) => eA) (fun (u_ : Unit) => True) (fun (u_ : Unit) => []) (fun (u_ : Unit) (H : Heap) => True) := by
  refine CX.of (by decide) (Nat.le_of_ble_eq_true rfl) ?_
  intro p e s m below meth c ls A H locs h9 hH0 hP hS hout
  obtain ⟨cf, hr, hlk, hnm, hKB, hE, -, hD, -, hA, hAw, hRH, hl⟩ := h9
  have hx := cf.1
  have hb := cf.2.1
  have hml := cf.2.2.1
  have hown : s.vm.findClass RX1 = some m.cls := cf.2.2.2.1
  have hts := cf.2.2.2.2
  have hK := hKB.1
  have hl : lv_has ls 1 [(0, .int (nI 0))] := hl
  refine lv_iload_n hx hb dX1_requireArgument_0 rfl (lv_at hl 0 rfl) ?_
  refine n_if_ne (tgt := 14) hx hb (by omega) dX1_requireArgument_1 (by decide) (fun c_1001 => absurd c_1001 (by omega)) (fun c_1001 => ?_)
  have hP9 : va_P G.1 CL [] H := hP.sub [] rfl
  have hD9 : va_D A [] := hD.sub [] (by decide) rfl
  exact r_throwS (text := "out of range") hx hb hfl hown hKB hts hE hS (by rw [hml]; exact hl.1.symm) ok_IAE (by decide) (by decide) dX1_requireArgument_4 dX1_requireArgument_7 dX1_requireArgument_8 dX1_requireArgument_10 dX1_requireArgument_13 hout (Nat.le_of_ble_eq_true rfl) (Nat.le_of_ble_eq_true rfl) (show 0 + 1 ≤ 1 from by first | exact Nat.le_refl _ | decide | omega) (show 0 + 6 ≤ 6 from by first | exact Nat.le_refl _ | decide | omega) hlk () rfl (trivial) hP9 hD9 (fun _ _ _ => trivial) (show 0 + 1 ≤ 1 from by first | exact Nat.le_refl _ | decide | omega) (show 0 + 6 ≤ 6 from by first | exact Nat.le_refl _ | decide | omega)

set_option maxHeartbeats 4000000 in
theorem mX1_requireState_t (l : Launch) (G : Gt) : CT l G yX1_requireState cX1_requireState 1 none ({ frames := 1, cells := 0, slots := 0, locals := 12 } : Room) [.int (nI 1)] [] RH0 (S := Unit) (fun (u_ : Unit) => (none : Option Value)) (fun (u_ : Unit) => True) (fun (u_ : Unit) => []) (fun (u_ : Unit) (H : Heap) => True) := by
  refine CT.of (by decide) (Nat.le_of_ble_eq_true rfl) ?_
  intro p e s m below meth c ls A H locs h9 hH0 hP hS
  obtain ⟨cf, hr, hlk, hnm, hKB, hE, -, hD, -, hA, hAw, hRH, hl⟩ := h9
  have hx := cf.1
  have hb := cf.2.1
  have hml := cf.2.2.1
  have hown : s.vm.findClass RX1 = some m.cls := cf.2.2.2.1
  have hts := cf.2.2.2.2
  have hK := hKB.1
  have hl : lv_has ls 1 [(0, .int (nI 1))] := hl
  refine lv_iload_n hx hb dX1_requireState_0 rfl (lv_at hl 0 rfl) ?_
  refine n_if_ne (tgt := 14) hx hb (by omega) dX1_requireState_1 (by decide) (fun c_1002 => ?_) (fun c_1002 => absurd c_1002 (by omega))
  have hP9 : va_P G.1 CL [] H := hP.sub [] rfl
  have hD9 : va_D A [] := hD.sub [] (by decide) rfl
  exact end_v hx hb hr hlk (qc_of () (v := none) (by rfl) (trivial) hP9 hD9 (trivial) hS) hS dX1_requireState_14 (show 0 ≤ 0 from by first | exact Nat.le_refl _ | decide | omega) (show 0 ≤ 0 from by first | exact Nat.le_refl _ | decide | omega)

set_option maxHeartbeats 4000000 in
theorem mX1_requireState_f (l : Launch) (G : Gt) (hfl : l.stackTraces = false) : CX l G yX1_requireState cX1_requireState 1 none ({ frames := 6, cells := 1, slots := 6, locals := 82 } : Room) [.int (nI 0)] [] RH0 (S := Unit) (fun (u_ : Unit) => (none : Option Value)) (fun (u_ : Unit) => False) (fun (u_ : Unit) => []) (fun (u_ : Unit) (H : Heap) => True) (SX := Unit) (fun (u_ : Unit) => eS9) (fun (u_ : Unit) => True) (fun (u_ : Unit) => []) (fun (u_ : Unit) (H : Heap) => True) := by
  refine CX.of (by decide) (Nat.le_of_ble_eq_true rfl) ?_
  intro p e s m below meth c ls A H locs h9 hH0 hP hS hout
  obtain ⟨cf, hr, hlk, hnm, hKB, hE, -, hD, -, hA, hAw, hRH, hl⟩ := h9
  have hx := cf.1
  have hb := cf.2.1
  have hml := cf.2.2.1
  have hown : s.vm.findClass RX1 = some m.cls := cf.2.2.2.1
  have hts := cf.2.2.2.2
  have hK := hKB.1
  have hl : lv_has ls 1 [(0, .int (nI 0))] := hl
  refine lv_iload_n hx hb dX1_requireState_0 rfl (lv_at hl 0 rfl) ?_
  refine n_if_ne (tgt := 14) hx hb (by omega) dX1_requireState_1 (by decide) (fun c_1003 => absurd c_1003 (by omega)) (fun c_1003 => ?_)
  have hP9 : va_P G.1 CL [] H := hP.sub [] rfl
  have hD9 : va_D A [] := hD.sub [] (by decide) rfl
  exact r_throwS (text := "not possible at present") hx hb hfl hown hKB hts hE hS (by rw [hml]; exact hl.1.symm) ok_ISE (by decide) (by decide) dX1_requireState_4 dX1_requireState_7 dX1_requireState_8 dX1_requireState_10 dX1_requireState_13 hout (Nat.le_of_ble_eq_true rfl) (Nat.le_of_ble_eq_true rfl) (show 0 + 1 ≤ 1 from by first | exact Nat.le_refl _ | decide | omega) (show 0 + 6 ≤ 6 from by first | exact Nat.le_refl _ | decide | omega) hlk () rfl (trivial) hP9 hD9 (fun _ _ _ => trivial) (show 0 + 1 ≤ 1 from by first | exact Nat.le_refl _ | decide | omega) (show 0 + 6 ≤ 6 from by first | exact Nat.le_refl _ | decide | omega)

set_option maxHeartbeats 4000000 in
theorem mX1_requireIndex_t (l : Launch) (G : Gt) : CT l G yX1_requireIndex cX1_requireIndex 1 none ({ frames := 1, cells := 0, slots := 0, locals := 12 } : Room) [.int (nI 1)] [] RH0 (S := Unit) (fun (u_ : Unit) => (none : Option Value)) (fun (u_ : Unit) => True) (fun (u_ : Unit) => []) (fun (u_ : Unit) (H : Heap) => True) := by
  refine CT.of (by decide) (Nat.le_of_ble_eq_true rfl) ?_
  intro p e s m below meth c ls A H locs h9 hH0 hP hS
  obtain ⟨cf, hr, hlk, hnm, hKB, hE, -, hD, -, hA, hAw, hRH, hl⟩ := h9
  have hx := cf.1
  have hb := cf.2.1
  have hml := cf.2.2.1
  have hown : s.vm.findClass RX1 = some m.cls := cf.2.2.2.1
  have hts := cf.2.2.2.2
  have hK := hKB.1
  have hl : lv_has ls 1 [(0, .int (nI 1))] := hl
  refine lv_iload_n hx hb dX1_requireIndex_0 rfl (lv_at hl 0 rfl) ?_
  refine n_if_ne (tgt := 14) hx hb (by omega) dX1_requireIndex_1 (by decide) (fun c_1004 => ?_) (fun c_1004 => absurd c_1004 (by omega))
  have hP9 : va_P G.1 CL [] H := hP.sub [] rfl
  have hD9 : va_D A [] := hD.sub [] (by decide) rfl
  exact end_v hx hb hr hlk (qc_of () (v := none) (by rfl) (trivial) hP9 hD9 (trivial) hS) hS dX1_requireIndex_14 (show 0 ≤ 0 from by first | exact Nat.le_refl _ | decide | omega) (show 0 ≤ 0 from by first | exact Nat.le_refl _ | decide | omega)

set_option maxHeartbeats 4000000 in
theorem mX1_requireIndex_f (l : Launch) (G : Gt) (hfl : l.stackTraces = false) : CX l G yX1_requireIndex cX1_requireIndex 1 none ({ frames := 6, cells := 1, slots := 6, locals := 82 } : Room) [.int (nI 0)] [] RH0 (S := Unit) (fun (u_ : Unit) => (none : Option Value)) (fun (u_ : Unit) => False) (fun (u_ : Unit) => []) (fun (u_ : Unit) (H : Heap) => True) (SX := Unit) (fun (u_ : Unit) => eI) (fun (u_ : Unit) => True) (fun (u_ : Unit) => []) (fun (u_ : Unit) (H : Heap) => True) := by
  refine CX.of (by decide) (Nat.le_of_ble_eq_true rfl) ?_
  intro p e s m below meth c ls A H locs h9 hH0 hP hS hout
  obtain ⟨cf, hr, hlk, hnm, hKB, hE, -, hD, -, hA, hAw, hRH, hl⟩ := h9
  have hx := cf.1
  have hb := cf.2.1
  have hml := cf.2.2.1
  have hown : s.vm.findClass RX1 = some m.cls := cf.2.2.2.1
  have hts := cf.2.2.2.2
  have hK := hKB.1
  have hl : lv_has ls 1 [(0, .int (nI 0))] := hl
  refine lv_iload_n hx hb dX1_requireIndex_0 rfl (lv_at hl 0 rfl) ?_
  refine n_if_ne (tgt := 14) hx hb (by omega) dX1_requireIndex_1 (by decide) (fun c_1005 => absurd c_1005 (by omega)) (fun c_1005 => ?_)
  have hP9 : va_P G.1 CL [] H := hP.sub [] rfl
  have hD9 : va_D A [] := hD.sub [] (by decide) rfl
  exact r_throwS (text := "there is no such position") hx hb hfl hown hKB hts hE hS (by rw [hml]; exact hl.1.symm) ok_IOB (by decide) (by decide) dX1_requireIndex_4 dX1_requireIndex_7 dX1_requireIndex_8 dX1_requireIndex_10 dX1_requireIndex_13 hout (Nat.le_of_ble_eq_true rfl) (Nat.le_of_ble_eq_true rfl) (show 0 + 1 ≤ 1 from by first | exact Nat.le_refl _ | decide | omega) (show 0 + 6 ≤ 6 from by first | exact Nat.le_refl _ | decide | omega) hlk () rfl (trivial) hP9 hD9 (fun _ _ _ => trivial) (show 0 + 1 ≤ 1 from by first | exact Nat.le_refl _ | decide | omega) (show 0 + 6 ≤ 6 from by first | exact Nat.le_refl _ | decide | omega)

set_option maxHeartbeats 4000000 in
theorem mX1_requireElement_t (l : Launch) (G : Gt) : CT l G yX1_requireElement cX1_requireElement 1 none ({ frames := 1, cells := 0, slots := 0, locals := 12 } : Room) [.int (nI 1)] [] RH0 (S := Unit) (fun (u_ : Unit) => (none : Option Value)) (fun (u_ : Unit) => True) (fun (u_ : Unit) => []) (fun (u_ : Unit) (H : Heap) => True) := by
  refine CT.of (by decide) (Nat.le_of_ble_eq_true rfl) ?_
  intro p e s m below meth c ls A H locs h9 hH0 hP hS
  obtain ⟨cf, hr, hlk, hnm, hKB, hE, -, hD, -, hA, hAw, hRH, hl⟩ := h9
  have hx := cf.1
  have hb := cf.2.1
  have hml := cf.2.2.1
  have hown : s.vm.findClass RX1 = some m.cls := cf.2.2.2.1
  have hts := cf.2.2.2.2
  have hK := hKB.1
  have hl : lv_has ls 1 [(0, .int (nI 1))] := hl
  refine lv_iload_n hx hb dX1_requireElement_0 rfl (lv_at hl 0 rfl) ?_
  refine n_if_ne (tgt := 14) hx hb (by omega) dX1_requireElement_1 (by decide) (fun c_1006 => ?_) (fun c_1006 => absurd c_1006 (by omega))
  have hP9 : va_P G.1 CL [] H := hP.sub [] rfl
  have hD9 : va_D A [] := hD.sub [] (by decide) rfl
  exact end_v hx hb hr hlk (qc_of () (v := none) (by rfl) (trivial) hP9 hD9 (trivial) hS) hS dX1_requireElement_14 (show 0 ≤ 0 from by first | exact Nat.le_refl _ | decide | omega) (show 0 ≤ 0 from by first | exact Nat.le_refl _ | decide | omega)

set_option maxHeartbeats 4000000 in
theorem mX1_requireElement_f (l : Launch) (G : Gt) (hfl : l.stackTraces = false) : CX l G yX1_requireElement cX1_requireElement 1 none ({ frames := 6, cells := 1, slots := 6, locals := 82 } : Room) [.int (nI 0)] [] RH0 (S := Unit) (fun (u_ : Unit) => (none : Option Value)) (fun (u_ : Unit) => False) (fun (u_ : Unit) => []) (fun (u_ : Unit) (H : Heap) => True) (SX := Unit) (fun (u_ : Unit) => eN) (fun (u_ : Unit) => True) (fun (u_ : Unit) => []) (fun (u_ : Unit) (H : Heap) => True) := by
  refine CX.of (by decide) (Nat.le_of_ble_eq_true rfl) ?_
  intro p e s m below meth c ls A H locs h9 hH0 hP hS hout
  obtain ⟨cf, hr, hlk, hnm, hKB, hE, -, hD, -, hA, hAw, hRH, hl⟩ := h9
  have hx := cf.1
  have hb := cf.2.1
  have hml := cf.2.2.1
  have hown : s.vm.findClass RX1 = some m.cls := cf.2.2.2.1
  have hts := cf.2.2.2.2
  have hK := hKB.1
  have hl : lv_has ls 1 [(0, .int (nI 0))] := hl
  refine lv_iload_n hx hb dX1_requireElement_0 rfl (lv_at hl 0 rfl) ?_
  refine n_if_ne (tgt := 14) hx hb (by omega) dX1_requireElement_1 (by decide) (fun c_1007 => absurd c_1007 (by omega)) (fun c_1007 => ?_)
  have hP9 : va_P G.1 CL [] H := hP.sub [] rfl
  have hD9 : va_D A [] := hD.sub [] (by decide) rfl
  exact r_throwN hx hb hfl hown hKB hts hE hS (by rw [hml]; exact hl.1.symm) dX1_requireElement_4 dX1_requireElement_7 dX1_requireElement_8 dX1_requireElement_10 dX1_requireElement_13 hout (Nat.le_of_ble_eq_true rfl) (Nat.le_of_ble_eq_true rfl) (show 0 + 1 ≤ 1 from by first | exact Nat.le_refl _ | decide | omega) (show 0 + 6 ≤ 6 from by first | exact Nat.le_refl _ | decide | omega) hlk () rfl (trivial) hP9 hD9 (fun _ _ _ => trivial) (show 0 + 1 ≤ 1 from by first | exact Nat.le_refl _ | decide | omega) (show 0 + 6 ≤ 6 from by first | exact Nat.le_refl _ | decide | omega)

set_option maxHeartbeats 4000000 in
theorem mJ19_compare (l : Launch) (G : Gt) (x : Int32) (z : Int32) : CT l G yJ19_compare cJ19_compare 2 (some .int) ({ frames := 1, cells := 0, slots := 0, locals := 12 } : Room) [.int x, .int z] [] RH0 (S := Int32) (fun (u_ : Int32) => some (.int u_)) (fun (u_ : Int32) => (u_ < 0 ↔ x < z)) (fun (u_ : Int32) => []) (fun (u_ : Int32) (H : Heap) => True) := by
  refine CT.of (by decide) (Nat.le_of_ble_eq_true rfl) ?_
  intro p e s m below meth c ls A H locs h9 hH0 hP hS
  obtain ⟨cf, hr, hlk, hnm, hKB, hE, -, hD, -, hA, hAw, hRH, hl⟩ := h9
  have hx := cf.1
  have hb := cf.2.1
  have hml := cf.2.2.1
  have hown : s.vm.findClass RJ19 = some m.cls := cf.2.2.2.1
  have hts := cf.2.2.2.2
  have hK := hKB.1
  have hl : lv_has ls 2 [(0, .int x), (1, .int z)] := hl
  refine lv_iload_n hx hb dJ19_compare_0 rfl (lv_at hl 0 rfl) ?_
  refine lv_iload_n hx hb dJ19_compare_1 rfl (lv_at hl 1 rfl) ?_
  refine lv_icmp_ge (tgt := 9) hx hb  dJ19_compare_2 (by decide) (fun c_1009 => ?_) (fun c_1009 => ?_)
  · refine lv_iload_n hx hb dJ19_compare_9 rfl (lv_at hl 0 rfl) ?_
    refine lv_iload_n hx hb dJ19_compare_10 rfl (lv_at hl 1 rfl) ?_
    refine lv_icmp_ne (tgt := 18) hx hb  dJ19_compare_11 (by decide) (fun c_1011 => ?_) (fun c_1011 => ?_)
    · refine lv_iconst (v := nI 1) hx hb dJ19_compare_18 (by decide) ?_
      have hP9 : va_P G.1 CL [] H := hP.sub [] rfl
      have hD9 : va_D A [] := hD.sub [] (by decide) rfl
      exact end_i hx hb hr hlk (rfl) (qc_of (nI 1) (v := some (.int (nI 1))) (by rfl) (⟨fun h => absurd h (by decide), fun h => absurd h (by first | assumption | exact Int32.not_lt.mpr (by assumption))⟩) hP9 hD9 (trivial) hS) hS dJ19_compare_19 (show 0 ≤ 0 from by first | exact Nat.le_refl _ | decide | omega) (show 0 ≤ 0 from by first | exact Nat.le_refl _ | decide | omega)
    · refine lv_iconst (v := nI 0) hx hb dJ19_compare_14 (by decide) ?_
      refine lv_goto (tgt := 19) hx hb dJ19_compare_15 (by decide) ?_
      have hP9 : va_P G.1 CL [] H := hP.sub [] rfl
      have hD9 : va_D A [] := hD.sub [] (by decide) rfl
      exact end_i hx hb hr hlk (rfl) (qc_of (nI 0) (v := some (.int (nI 0))) (by rfl) (⟨fun h => absurd h (by decide), fun h => absurd h (by first | assumption | exact Int32.not_lt.mpr (by assumption))⟩) hP9 hD9 (trivial) hS) hS dJ19_compare_19 (show 0 ≤ 0 from by first | exact Nat.le_refl _ | decide | omega) (show 0 ≤ 0 from by first | exact Nat.le_refl _ | decide | omega)
  · refine lv_iconst (v := (-1)) hx hb dJ19_compare_5 (by decide) ?_
    refine lv_goto (tgt := 19) hx hb dJ19_compare_6 (by decide) ?_
    have hP9 : va_P G.1 CL [] H := hP.sub [] rfl
    have hD9 : va_D A [] := hD.sub [] (by decide) rfl
    exact end_i hx hb hr hlk (rfl) (qc_of (-1) (v := some (.int (-1))) (by rfl) (⟨fun _ => by first | assumption | exact Int32.not_le.mp (by assumption), fun _ => by decide⟩) hP9 hD9 (trivial) hS) hS dJ19_compare_19 (show 0 ≤ 0 from by first | exact Nat.le_refl _ | decide | omega) (show 0 ≤ 0 from by first | exact Nat.le_refl _ | decide | omega)

set_option maxHeartbeats 4000000 in
theorem mX6_initT (l : Launch) (G : Gt) (a : Nat) (d : Nat) : CT l G yX6_init cX6_init 2 none ({ frames := 1, cells := 0, slots := 0, locals := 12 } : Room) [.ref a, .int (nI d)] [(a, .inr (8, [.int (nI 0), .int (nI 0)]))] RH0 (S := Unit) (fun (u_ : Unit) => (none : Option Value)) (fun (u_ : Unit) => True) (fun (u_ : Unit) => [(a, .inr (8, [.int (nI d), .int (nI 0)]))]) (fun (u_ : Unit) (H : Heap) => True) := by
  refine CT.of (by decide) (Nat.le_of_ble_eq_true rfl) ?_
  intro p e s m below meth c ls A H locs h9 hH0 hP hS
  obtain ⟨cf, hr, hlk, hnm, hKB, hE, -, hD, -, hA, hAw, hRH, hl⟩ := h9
  have hx := cf.1
  have hb := cf.2.1
  have hml := cf.2.2.1
  have hown : s.vm.findClass RX6 = some m.cls := cf.2.2.2.1
  have hts := cf.2.2.2.2
  have hK := hKB.1
  have hl : lv_has ls 2 [(0, .ref a), (1, .int (nI d))] := hl
  refine lv_aload_n hx hb dX6_init_0 rfl (lv_at hl 0 rfl) ?_
  refine W.objInit hx hb hown (hts _ q744) (hts _ q89) (hts _ q90) rfl (by rw [hml]; exact hl.1) rfl dX6_init_1 (Nat.le_of_ble_eq_true rfl) (Nat.le_of_ble_eq_true rfl) ?_
  refine W.eq (g2 := F0 m 4 ls []) rfl ?_
  refine lv_aload_n hx hb dX6_init_4 rfl (lv_at hl 0 rfl) ?_
  refine lv_iload_n hx hb dX6_init_5 rfl (lv_at hl 1 rfl) ?_
  refine va_putF (v := .int (nI d)) (ty := .int) hx hb hts in_X7 tyX7 tyX7_ok nmX7 hown hK hP hD hS 0 rfl rfl 0 (by decide) (hts _ q747) (fun _ h => h) rfl hnm rfl (by decide +kernel) rfl rfl (Nat.le_of_ble_eq_true rfl) dX6_init_6 (fun H locs (hP : va_P G.1 CL [(a, .inr (8, [.int (nI d), .int (nI 0)]))] H) (hD : va_D A [(a, .inr (8, [.int (nI d), .int (nI 0)]))]) hS => ?_)
  have hP9 : va_P G.1 CL [(a, .inr (8, [.int (nI d), .int (nI 0)]))] H := hP.sub [0] rfl
  have hD9 : va_D A [(a, .inr (8, [.int (nI d), .int (nI 0)]))] := hD.sub [0] (by decide) rfl
  exact end_v hx hb hr hlk (qc_of () (v := none) (by rfl) (trivial) hP9 hD9 (trivial) hS) hS dX6_init_9 (show 0 ≤ 0 from by first | exact Nat.le_refl _ | decide | omega) (show 0 ≤ 0 from by first | exact Nat.le_refl _ | decide | omega)

set_option maxHeartbeats 4000000 in
theorem mX6_initS (l : Launch) (G : Gt) (a : Nat) (d : Nat) : CT l G yX6_init cX6_init 2 none ({ frames := 1, cells := 0, slots := 0, locals := 12 } : Room) [.ref a, .int (nI d)] [(a, .inr (9, [.int (nI 0), .int (nI 0), .null, .null]))] RH0 (S := Unit) (fun (u_ : Unit) => (none : Option Value)) (fun (u_ : Unit) => True) (fun (u_ : Unit) => [(a, .inr (9, [.int (nI d), .int (nI 0), .null, .null]))]) (fun (u_ : Unit) (H : Heap) => True) := by
  refine CT.of (by decide) (Nat.le_of_ble_eq_true rfl) ?_
  intro p e s m below meth c ls A H locs h9 hH0 hP hS
  obtain ⟨cf, hr, hlk, hnm, hKB, hE, -, hD, -, hA, hAw, hRH, hl⟩ := h9
  have hx := cf.1
  have hb := cf.2.1
  have hml := cf.2.2.1
  have hown : s.vm.findClass RX6 = some m.cls := cf.2.2.2.1
  have hts := cf.2.2.2.2
  have hK := hKB.1
  have hl : lv_has ls 2 [(0, .ref a), (1, .int (nI d))] := hl
  refine lv_aload_n hx hb dX6_init_0 rfl (lv_at hl 0 rfl) ?_
  refine W.objInit hx hb hown (hts _ q744) (hts _ q89) (hts _ q90) rfl (by rw [hml]; exact hl.1) rfl dX6_init_1 (Nat.le_of_ble_eq_true rfl) (Nat.le_of_ble_eq_true rfl) ?_
  refine W.eq (g2 := F0 m 4 ls []) rfl ?_
  refine lv_aload_n hx hb dX6_init_4 rfl (lv_at hl 0 rfl) ?_
  refine lv_iload_n hx hb dX6_init_5 rfl (lv_at hl 1 rfl) ?_
  refine va_putF (v := .int (nI d)) (ty := .int) hx hb hts in_X8 tyX8 tyX8_ok nmX8 hown hK hP hD hS 0 rfl rfl 0 (by decide) (hts _ q747) (fun _ h => h) rfl hnm rfl (by decide +kernel) rfl rfl (Nat.le_of_ble_eq_true rfl) dX6_init_6 (fun H locs (hP : va_P G.1 CL [(a, .inr (9, [.int (nI d), .int (nI 0), .null, .null]))] H) (hD : va_D A [(a, .inr (9, [.int (nI d), .int (nI 0), .null, .null]))]) hS => ?_)
  have hP9 : va_P G.1 CL [(a, .inr (9, [.int (nI d), .int (nI 0), .null, .null]))] H := hP.sub [0] rfl
  have hD9 : va_D A [(a, .inr (9, [.int (nI d), .int (nI 0), .null, .null]))] := hD.sub [0] (by decide) rfl
  exact end_v hx hb hr hlk (qc_of () (v := none) (by rfl) (trivial) hP9 hD9 (trivial) hS) hS dX6_init_9 (show 0 ≤ 0 from by first | exact Nat.le_refl _ | decide | omega) (show 0 ≤ 0 from by first | exact Nat.le_refl _ | decide | omega)

set_option maxHeartbeats 4000000 in
theorem mX7_init (l : Launch) (G : Gt) (a : Nat) (d : Nat) (th : Nat) : CT l G yX7_init cX7_init 3 none ({ frames := 2, cells := 0, slots := 0, locals := 33 } : Room) [.ref a, .int (nI d), .int (nI th)] [(a, .inr (8, [.int (nI 0), .int (nI 0)]))] RH0 (S := Unit) (fun (u_ : Unit) => (none : Option Value)) (fun (u_ : Unit) => True) (fun (u_ : Unit) => [(a, .inr (8, [.int (nI d), .int (nI th)]))]) (fun (u_ : Unit) (H : Heap) => True) := by
  refine CT.of (by decide) (Nat.le_of_ble_eq_true rfl) ?_
  intro p e s m below meth c ls A H locs h9 hH0 hP hS
  obtain ⟨cf, hr, hlk, hnm, hKB, hE, -, hD, -, hA, hAw, hRH, hl⟩ := h9
  have hx := cf.1
  have hb := cf.2.1
  have hml := cf.2.2.1
  have hown : s.vm.findClass RX7 = some m.cls := cf.2.2.2.1
  have hts := cf.2.2.2.2
  have hK := hKB.1
  have hl : lv_has ls 3 [(0, .ref a), (1, .int (nI d)), (2, .int (nI th))] := hl
  refine lv_aload_n hx hb dX7_init_0 rfl (lv_at hl 0 rfl) ?_
  refine lv_iload_n hx hb dX7_init_1 rfl (lv_at hl 1 rfl) ?_
  have hF := hF_of (wc := [(a, .inr (8, [.int (nI 0), .int (nI 0)]))]) hD hS hA [0] rfl
  refine go_ct hS hP hD [0] [] hF rfl rfl (by decide) (by decide)
      (va_runI (As := [.int (nI d)]) (rest := []) cf (mX6_initT l G a d  H.size) (cwI 1 hts (lw_meth q743) rfl rfl rfl (hts _ q72) (hts _ q741) (hts _ q742) rfl (by decide +kernel) ⟨Nat.le_of_ble_eq_true rfl, Nat.le_of_ble_eq_true rfl⟩) (preS_of hKB hE hS hF (va_P.sub hP [0] rfl) ((va_D.sub hD [0] (by decide) rfl).weaken (fun _ _ _ _ => trivial)) trivial) rfl rfl hl.1 rfl (lv_room (Nat.le_of_ble_eq_true rfl)) dX7_init_2 ⟨show 0 + 0 ≤ 0 from by first | decide | omega, show 0 + 0 ≤ 0 from by first | decide | omega⟩)
      (fun u_ H locs hq hph (hP : va_P G.1 CL [(a, .inr (8, [.int (nI d), .int (nI 0)]))] H) (hD : va_D A [(a, .inr (8, [.int (nI d), .int (nI 0)]))]) hS hfz hfk => ?_)
  refine W.eq (g2 := F0 m 5 ls []) rfl ?_
  refine lv_aload_n hx hb dX7_init_5 rfl (lv_at hl 0 rfl) ?_
  refine lv_iload_n hx hb dX7_init_6 rfl (lv_at hl 2 rfl) ?_
  refine va_putF (v := .int (nI th)) (ty := .int) hx hb hts in_X7 tyX7 tyX7_ok nmX7 hown hK hP hD hS 0 rfl rfl 1 (by decide) (hts _ q745) (fun _ h => h) rfl hnm rfl (by decide +kernel) rfl rfl (Nat.le_of_ble_eq_true rfl) dX7_init_7 (fun H locs (hP : va_P G.1 CL [(a, .inr (8, [.int (nI d), .int (nI th)]))] H) (hD : va_D A [(a, .inr (8, [.int (nI d), .int (nI th)]))]) hS => ?_)
  have hP9 : va_P G.1 CL [(a, .inr (8, [.int (nI d), .int (nI th)]))] H := hP.sub [0] rfl
  have hD9 : va_D A [(a, .inr (8, [.int (nI d), .int (nI th)]))] := hD.sub [0] (by decide) rfl
  exact end_v hx hb hr hlk (qc_of () (v := none) (by rfl) (trivial) hP9 hD9 (trivial) hS) hS dX7_init_10 (show 0 ≤ 0 from by first | exact Nat.le_refl _ | decide | omega) (show 0 ≤ 0 from by first | exact Nat.le_refl _ | decide | omega)

set_option maxHeartbeats 4000000 in
theorem mX8_init_2 (l : Launch) (G : Gt) (a : Nat) (sid : Nat) (d : Nat) (mi : Nat) (it : Nat) : CT l G yX8_init_2 cX8_init_2 5 none ({ frames := 2, cells := 0, slots := 0, locals := 33 } : Room) [.ref a, .int (nI sid), .int (nI d), .ref mi, .ref it] [(a, .inr (9, [.int (nI 0), .int (nI 0), .null, .null]))] RH0 (S := Unit) (fun (u_ : Unit) => (none : Option Value)) (fun (u_ : Unit) => True) (fun (u_ : Unit) => [(a, .inr (9, [.int (nI d), .int (nI sid), .ref mi, .ref it]))]) (fun (u_ : Unit) (H : Heap) => True) := by
  refine CT.of (by decide) (Nat.le_of_ble_eq_true rfl) ?_
  intro p e s m below meth c ls A H locs h9 hH0 hP hS
  obtain ⟨cf, hr, hlk, hnm, hKB, hE, -, hD, -, hA, hAw, hRH, hl⟩ := h9
  have hx := cf.1
  have hb := cf.2.1
  have hml := cf.2.2.1
  have hown : s.vm.findClass RX8 = some m.cls := cf.2.2.2.1
  have hts := cf.2.2.2.2
  have hK := hKB.1
  have hl : lv_has ls 5 [(0, .ref a), (1, .int (nI sid)), (2, .int (nI d)), (3, .ref mi), (4, .ref it)] := hl
  refine lv_aload_n hx hb dX8_init_2_0 rfl (lv_at hl 0 rfl) ?_
  refine lv_iload_n hx hb dX8_init_2_1 rfl (lv_at hl 2 rfl) ?_
  have hF := hF_of (wc := [(a, .inr (9, [.int (nI 0), .int (nI 0), .null, .null]))]) hD hS hA [0] rfl
  refine go_ct hS hP hD [0] [] hF rfl rfl (by decide) (by decide)
      (va_runI (As := [.int (nI d)]) (rest := []) cf (mX6_initS l G a d  H.size) (cwI 1 hts (lw_meth q743) rfl rfl rfl (hts _ q72) (hts _ q1110) (hts _ q742) rfl (by decide +kernel) ⟨Nat.le_of_ble_eq_true rfl, Nat.le_of_ble_eq_true rfl⟩) (preS_of hKB hE hS hF (va_P.sub hP [0] rfl) ((va_D.sub hD [0] (by decide) rfl).weaken (fun _ _ _ _ => trivial)) trivial) rfl rfl hl.1 rfl (lv_room (Nat.le_of_ble_eq_true rfl)) dX8_init_2_2 ⟨show 0 + 0 ≤ 0 from by first | decide | omega, show 0 + 0 ≤ 0 from by first | decide | omega⟩)
      (fun u_ H locs hq hph (hP : va_P G.1 CL [(a, .inr (9, [.int (nI d), .int (nI 0), .null, .null]))] H) (hD : va_D A [(a, .inr (9, [.int (nI d), .int (nI 0), .null, .null]))]) hS hfz hfk => ?_)
  refine W.eq (g2 := F0 m 5 ls []) rfl ?_
  refine lv_aload_n hx hb dX8_init_2_5 rfl (lv_at hl 0 rfl) ?_
  refine lv_iload_n hx hb dX8_init_2_6 rfl (lv_at hl 1 rfl) ?_
  refine va_putF (v := .int (nI sid)) (ty := .int) hx hb hts in_X8 tyX8 tyX8_ok nmX8 hown hK hP hD hS 0 rfl rfl 1 (by decide) (hts _ q1111) (fun _ h => h) rfl hnm rfl (by decide +kernel) rfl rfl (Nat.le_of_ble_eq_true rfl) dX8_init_2_7 (fun H locs (hP : va_P G.1 CL [(a, .inr (9, [.int (nI d), .int (nI sid), .null, .null]))] H) (hD : va_D A [(a, .inr (9, [.int (nI d), .int (nI sid), .null, .null]))]) hS => ?_)
  refine lv_aload_n hx hb dX8_init_2_10 rfl (lv_at hl 0 rfl) ?_
  refine lv_aload_n hx hb dX8_init_2_11 rfl (lv_at hl 3 rfl) ?_
  refine va_putF (v := .ref mi) (ty := (.array .short)) hx hb hts in_X8 tyX8 tyX8_ok nmX8 hown hK hP hD hS 0 rfl rfl 2 (by decide) (hts _ q1114) (fun _ h => h) rfl hnm rfl (by decide +kernel) rfl rfl (Nat.le_of_ble_eq_true rfl) dX8_init_2_12 (fun H locs (hP : va_P G.1 CL [(a, .inr (9, [.int (nI d), .int (nI sid), .ref mi, .null]))] H) (hD : va_D A [(a, .inr (9, [.int (nI d), .int (nI sid), .ref mi, .null]))]) hS => ?_)
  refine lv_aload_n hx hb dX8_init_2_15 rfl (lv_at hl 0 rfl) ?_
  refine lv_aload hx hb dX8_init_2_16 (lv_at hl 4 rfl) ?_
  refine va_putF (v := .ref it) (ty := (.array .short)) hx hb hts in_X8 tyX8 tyX8_ok nmX8 hown hK hP hD hS 0 rfl rfl 3 (by decide) (hts _ q1116) (fun _ h => h) rfl hnm rfl (by decide +kernel) rfl rfl (Nat.le_of_ble_eq_true rfl) dX8_init_2_18 (fun H locs (hP : va_P G.1 CL [(a, .inr (9, [.int (nI d), .int (nI sid), .ref mi, .ref it]))] H) (hD : va_D A [(a, .inr (9, [.int (nI d), .int (nI sid), .ref mi, .ref it]))]) hS => ?_)
  have hP9 : va_P G.1 CL [(a, .inr (9, [.int (nI d), .int (nI sid), .ref mi, .ref it]))] H := hP.sub [0] rfl
  have hD9 : va_D A [(a, .inr (9, [.int (nI d), .int (nI sid), .ref mi, .ref it]))] := hD.sub [0] (by decide) rfl
  exact end_v hx hb hr hlk (qc_of () (v := none) (by rfl) (trivial) hP9 hD9 (trivial) hS) hS dX8_init_2_21 (show 0 ≤ 0 from by first | exact Nat.le_refl _ | decide | omega) (show 0 ≤ 0 from by first | exact Nat.le_refl _ | decide | omega)

set_option maxHeartbeats 4000000 in
theorem mX7_number (l : Launch) (G : Gt) (a : Nat) : CT l G yX7_number cX7_number 1 (some .int) ({ frames := 1, cells := 0, slots := 0, locals := 12 } : Room) [.ref a] [] RH0 (S := Unit) (fun (u_ : Unit) => some (.int (nI 0))) (fun (u_ : Unit) => True) (fun (u_ : Unit) => []) (fun (u_ : Unit) (H : Heap) => True) := by
  refine CT.of (by decide) (Nat.le_of_ble_eq_true rfl) ?_
  intro p e s m below meth c ls A H locs h9 hH0 hP hS
  obtain ⟨cf, hr, hlk, hnm, hKB, hE, -, hD, -, hA, hAw, hRH, hl⟩ := h9
  have hx := cf.1
  have hb := cf.2.1
  have hml := cf.2.2.1
  have hown : s.vm.findClass RX7 = some m.cls := cf.2.2.2.1
  have hts := cf.2.2.2.2
  have hK := hKB.1
  have hl : lv_has ls 1 [(0, .ref a)] := hl
  refine lv_iconst (v := nI 0) hx hb dX7_number_0 (by decide) ?_
  have hP9 : va_P G.1 CL [] H := hP.sub [] rfl
  have hD9 : va_D A [] := hD.sub [] (by decide) rfl
  exact end_i hx hb hr hlk (rfl) (qc_of () (v := some (.int (nI 0))) (by rfl) (trivial) hP9 hD9 (trivial) hS) hS dX7_number_1 (show 0 ≤ 0 from by first | exact Nat.le_refl _ | decide | omega) (show 0 ≤ 0 from by first | exact Nat.le_refl _ | decide | omega)

set_option maxHeartbeats 4000000 in
theorem mX8_number (l : Launch) (G : Gt) (a : Nat) (d : Nat) (sid : Nat) (mi : Nat) (it : Nat) : CT l G yX8_number cX8_number 1 (some .int) ({ frames := 1, cells := 0, slots := 0, locals := 12 } : Room) [.ref a] [] (fun (A : Nat → Prop) (H : Heap) => roW G A H [(a, .inr (9, [.int (nI d), .int (nI sid), .ref mi, .ref it]))]) (S := Unit) (fun (u_ : Unit) => some (.int (nI sid))) (fun (u_ : Unit) => True) (fun (u_ : Unit) => []) (fun (u_ : Unit) (H : Heap) => True) := by
  refine CT.of (by decide) (Nat.le_of_ble_eq_true rfl) ?_
  intro p e s m below meth c ls A H locs h9 hH0 hP hS
  obtain ⟨cf, hr, hlk, hnm, hKB, hE, -, hD, -, hA, hAw, hR0, hl⟩ := h9
  have hx := cf.1
  have hb := cf.2.1
  have hml := cf.2.2.1
  have hown : s.vm.findClass RX8 = some m.cls := cf.2.2.2.1
  have hts := cf.2.2.2.2
  have hK := hKB.1
  have hl : lv_has ls 1 [(0, .ref a)] := hl
  refine lv_aload_n hx hb dX8_number_0 rfl (lv_at hl 0 rfl) ?_
  refine va_get hx hb hts in_X8 hown hK (hR0.w hS) 0 rfl rfl 1 (by decide) (hts _ q1111) (fun _ h => h) rfl dX8_number_1 ?_
  have hP9 : va_P G.1 CL [] H := hP.sub [] rfl
  have hD9 : va_D A [] := hD.sub [] (by decide) rfl
  exact end_i hx hb hr hlk (rfl) (qc_of () (v := some (.int (nI sid))) (by rfl) (trivial) hP9 hD9 (trivial) hS) hS dX8_number_4 (show 0 ≤ 0 from by first | exact Nat.le_refl _ | decide | omega) (show 0 ≤ 0 from by first | exact Nat.le_refl _ | decide | omega)

set_option maxHeartbeats 4000000 in
theorem mX6_dayT (l : Launch) (G : Gt) (a : Nat) (d : Nat) (th : Nat) : CT l G yX6_day cX6_day 1 (some .int) ({ frames := 1, cells := 0, slots := 0, locals := 12 } : Room) [.ref a] [] (fun (A : Nat → Prop) (H : Heap) => roW G A H [(a, .inr (8, [.int (nI d), .int (nI th)]))]) (S := Unit) (fun (u_ : Unit) => some (.int (nI d))) (fun (u_ : Unit) => True) (fun (u_ : Unit) => []) (fun (u_ : Unit) (H : Heap) => True) := by
  refine CT.of (by decide) (Nat.le_of_ble_eq_true rfl) ?_
  intro p e s m below meth c ls A H locs h9 hH0 hP hS
  obtain ⟨cf, hr, hlk, hnm, hKB, hE, -, hD, -, hA, hAw, hR0, hl⟩ := h9
  have hx := cf.1
  have hb := cf.2.1
  have hml := cf.2.2.1
  have hown : s.vm.findClass RX6 = some m.cls := cf.2.2.2.1
  have hts := cf.2.2.2.2
  have hK := hKB.1
  have hl : lv_has ls 1 [(0, .ref a)] := hl
  refine lv_aload_n hx hb dX6_day_0 rfl (lv_at hl 0 rfl) ?_
  refine va_get hx hb hts in_X7 hown hK (hR0.w hS) 0 rfl rfl 0 (by decide) (hts _ q747) (fun _ h => h) rfl dX6_day_1 ?_
  have hP9 : va_P G.1 CL [] H := hP.sub [] rfl
  have hD9 : va_D A [] := hD.sub [] (by decide) rfl
  exact end_i hx hb hr hlk (rfl) (qc_of () (v := some (.int (nI d))) (by rfl) (trivial) hP9 hD9 (trivial) hS) hS dX6_day_4 (show 0 ≤ 0 from by first | exact Nat.le_refl _ | decide | omega) (show 0 ≤ 0 from by first | exact Nat.le_refl _ | decide | omega)

set_option maxHeartbeats 4000000 in
theorem mX6_dayS (l : Launch) (G : Gt) (a : Nat) (d : Nat) (sid : Nat) (mi : Nat) (it : Nat) : CT l G yX6_day cX6_day 1 (some .int) ({ frames := 1, cells := 0, slots := 0, locals := 12 } : Room) [.ref a] [] (fun (A : Nat → Prop) (H : Heap) => roW G A H [(a, .inr (9, [.int (nI d), .int (nI sid), .ref mi, .ref it]))]) (S := Unit) (fun (u_ : Unit) => some (.int (nI d))) (fun (u_ : Unit) => True) (fun (u_ : Unit) => []) (fun (u_ : Unit) (H : Heap) => True) := by
  refine CT.of (by decide) (Nat.le_of_ble_eq_true rfl) ?_
  intro p e s m below meth c ls A H locs h9 hH0 hP hS
  obtain ⟨cf, hr, hlk, hnm, hKB, hE, -, hD, -, hA, hAw, hR0, hl⟩ := h9
  have hx := cf.1
  have hb := cf.2.1
  have hml := cf.2.2.1
  have hown : s.vm.findClass RX6 = some m.cls := cf.2.2.2.1
  have hts := cf.2.2.2.2
  have hK := hKB.1
  have hl : lv_has ls 1 [(0, .ref a)] := hl
  refine lv_aload_n hx hb dX6_day_0 rfl (lv_at hl 0 rfl) ?_
  refine va_get hx hb hts in_X8 hown hK (hR0.w hS) 0 rfl rfl 0 (by decide) (hts _ q747) (fun _ h => h) rfl dX6_day_1 ?_
  have hP9 : va_P G.1 CL [] H := hP.sub [] rfl
  have hD9 : va_D A [] := hD.sub [] (by decide) rfl
  exact end_i hx hb hr hlk (rfl) (qc_of () (v := some (.int (nI d))) (by rfl) (trivial) hP9 hD9 (trivial) hS) hS dX6_day_4 (show 0 ≤ 0 from by first | exact Nat.le_refl _ | decide | omega) (show 0 ≤ 0 from by first | exact Nat.le_refl _ | decide | omega)

set_option maxHeartbeats 4000000 in
theorem mX6_compareToT (l : Launch) (G : Gt) (a : Nat) (d : Nat) (th : Nat) (a2 : Nat) (d2 : Nat) (th2 : Nat) (hd : d < 2 ^ 31) (hd2 : d2 < 2 ^ 31) : CT l G yX6_compareTo cX6_compareTo 2 (some .int) ({ frames := 2, cells := 0, slots := 0, locals := 33 } : Room) [.ref a, .ref a2] [] (fun (A : Nat → Prop) (H : Heap) => roW G A H [(a, .inr (8, [.int (nI d), .int (nI th)])), (a2, .inr (8, [.int (nI d2), .int (nI th2)]))]) (S := Int32) (fun (u_ : Int32) => some (.int u_)) (fun (u_ : Int32) => (u_ < 0 ↔ d < d2)) (fun (u_ : Int32) => []) (fun (u_ : Int32) (H : Heap) => True) := by
  refine CT.of (by decide) (Nat.le_of_ble_eq_true rfl) ?_
  intro p e s m below meth c ls A H locs h9 hH0 hP hS
  obtain ⟨cf, hr, hlk, hnm, hKB, hE, -, hD, -, hA, hAw, hR0, hl⟩ := h9
  have hx := cf.1
  have hb := cf.2.1
  have hml := cf.2.2.1
  have hown : s.vm.findClass RX6 = some m.cls := cf.2.2.2.1
  have hts := cf.2.2.2.2
  have hK := hKB.1
  have hl : lv_has ls 2 [(0, .ref a), (1, .ref a2)] := hl
  refine lv_aload_n hx hb dX6_compareTo_0 rfl (lv_at hl 0 rfl) ?_
  refine va_get hx hb hts in_X7 hown hK (hR0.w hS) 0 rfl rfl 0 (by decide) (hts _ q747) (fun _ h => h) rfl dX6_compareTo_1 ?_
  refine lv_aload_n hx hb dX6_compareTo_4 rfl (lv_at hl 1 rfl) ?_
  refine va_get hx hb hts in_X7 hown hK (hR0.w hS) 1 rfl rfl 0 (by decide) (hts _ q747) (fun _ h => h) rfl dX6_compareTo_5 ?_
  refine n_icmp_ne (tgt := 25) hx hb (by omega) (by omega) dX6_compareTo_8 (by decide) (fun c_1013 => ?_) (fun c_1013 => ?_)
  · refine lv_aload_n hx hb dX6_compareTo_25 rfl (lv_at hl 0 rfl) ?_
    refine va_get hx hb hts in_X7 hown hK (hR0.w hS) 0 rfl rfl 0 (by decide) (hts _ q747) (fun _ h => h) rfl dX6_compareTo_26 ?_
    refine lv_aload_n hx hb dX6_compareTo_29 rfl (lv_at hl 1 rfl) ?_
    refine va_get hx hb hts in_X7 hown hK (hR0.w hS) 1 rfl rfl 0 (by decide) (hts _ q747) (fun _ h => h) rfl dX6_compareTo_30 ?_
    have hF := hF_of (wc := []) hD hS hA [] rfl
    refine go_ct hS hP hD [] [] hF rfl rfl (by decide) (by decide)
        (va_runS (As := [.int (nI d), .int (nI d2)]) (rest := []) cf (mJ19_compare l G (nI d) (nI d2)  H.size) (va_cwS 2 hts (lw_S q772 q773 q75 q774) rfl rfl rfl (by decide +kernel) ⟨Nat.le_of_ble_eq_true rfl, Nat.le_of_ble_eq_true rfl⟩) (preS_of hKB hE hS hF (va_P.sub hP [] rfl) ((va_D.sub hD [] (by decide) rfl).weaken (fun _ _ _ _ => trivial)) trivial) rfl rfl hl.1 rfl (lv_room (Nat.le_of_ble_eq_true rfl)) dX6_compareTo_33 ⟨show 0 + 0 ≤ 0 from by first | decide | omega, show 0 + 0 ≤ 0 from by first | decide | omega⟩)
        (fun u_ H locs hq hph (hP : va_P G.1 CL [] H) (hD : va_D A []) hS hfz hfk => ?_)
    obtain ⟨cr_1014, rfl⟩ : ∃ z, z = u_ := ⟨_, rfl⟩
    have hP : va_P G.1 CL [] H := hP
    have hD : va_D A [] := hD
    have hq_1015 : (cr_1014 < 0 ↔ (nI d) < (nI d2)) := hq
    refine W.eq (g2 := F0 m 36 ls [.int cr_1014]) rfl ?_
    have hP9 : va_P G.1 CL [] H := hP.sub [] rfl
    have hD9 : va_D A [] := hD.sub [] (by decide) rfl
    exact end_i hx hb hr hlk (rfl) (qc_of cr_1014 (v := some (.int cr_1014)) (by rfl) (hq_1015.trans (by first | exact nI_ltI (by omega) (by omega) | (constructor <;> intro h9 <;> first | omega | exact absurd h9 (by decide)))) hP9 hD9 (trivial) hS) hS dX6_compareTo_36 (show 0 ≤ 0 from by first | exact Nat.le_refl _ | decide | omega) (show 0 ≤ 0 from by first | exact Nat.le_refl _ | decide | omega)
  · refine lv_aload_n hx hb dX6_compareTo_11 rfl (lv_at hl 0 rfl) ?_
    have hF := hF_of (wc := []) hD hS hA [] rfl
    refine go_ct hS hP hD [] [] hF rfl rfl (by decide) (by decide)
        (va_runU (As := []) (rest := []) cf (mX7_number l G a  H.size) (va_cwA (owner := "TrainingDiary$Dated") 0 hts (lw_U q763 q765 q769 q770 q73 q771) rfl rfl rfl (hKB.nest q764 rfl) (by decide +kernel) ⟨Nat.le_of_ble_eq_true rfl, Nat.le_of_ble_eq_true rfl⟩) (preV_of hKB hE hS hF (va_recv hK (hR0.w hS) (ci := 8) (q0 := 0) rfl rfl) (va_P.sub hP [] rfl) ((va_D.sub hD [] (by decide) rfl).weaken (fun _ _ _ _ => trivial)) trivial) rfl rfl hl.1 rfl (lv_room (Nat.le_of_ble_eq_true rfl)) dX6_compareTo_12 ⟨show 0 + 0 ≤ 0 from by first | decide | omega, show 0 + 0 ≤ 0 from by first | decide | omega⟩)
        (fun u_ H locs hq hph (hP : va_P G.1 CL [] H) (hD : va_D A []) hS hfz hfk => ?_)
    refine W.eq (g2 := F0 m 15 ls [.int (nI 0)]) rfl ?_
    refine lv_aload_n hx hb dX6_compareTo_15 rfl (lv_at hl 1 rfl) ?_
    have hF := hF_of (wc := []) hD hS hA [] rfl
    refine go_ct hS hP hD [] [] hF rfl rfl (by decide) (by decide)
        (va_runU (As := []) (rest := [.int (nI 0)]) cf (mX7_number l G a2  H.size) (va_cwA (owner := "TrainingDiary$Dated") 0 hts (lw_U q763 q765 q769 q770 q73 q771) rfl rfl rfl (hKB.nest q764 rfl) (by decide +kernel) ⟨Nat.le_of_ble_eq_true rfl, Nat.le_of_ble_eq_true rfl⟩) (preV_of hKB hE hS hF (va_recv hK (hR0.w hS) (ci := 8) (q0 := 1) rfl rfl) (va_P.sub hP [] rfl) ((va_D.sub hD [] (by decide) rfl).weaken (fun _ _ _ _ => trivial)) trivial) rfl rfl hl.1 rfl (lv_room (Nat.le_of_ble_eq_true rfl)) dX6_compareTo_16 ⟨show 0 + 0 ≤ 0 from by first | decide | omega, show 0 + 0 ≤ 0 from by first | decide | omega⟩)
        (fun u_ H locs hq hph (hP : va_P G.1 CL [] H) (hD : va_D A []) hS hfz hfk => ?_)
    refine W.eq (g2 := F0 m 19 ls [.int (nI 0), .int (nI 0)]) rfl ?_
    have hF := hF_of (wc := []) hD hS hA [] rfl
    refine go_ct hS hP hD [] [] hF rfl rfl (by decide) (by decide)
        (va_runS (As := [.int (nI 0), .int (nI 0)]) (rest := []) cf (mJ19_compare l G (nI 0) (nI 0)  H.size) (va_cwS 2 hts (lw_S q772 q773 q75 q774) rfl rfl rfl (by decide +kernel) ⟨Nat.le_of_ble_eq_true rfl, Nat.le_of_ble_eq_true rfl⟩) (preS_of hKB hE hS hF (va_P.sub hP [] rfl) ((va_D.sub hD [] (by decide) rfl).weaken (fun _ _ _ _ => trivial)) trivial) rfl rfl hl.1 rfl (lv_room (Nat.le_of_ble_eq_true rfl)) dX6_compareTo_19 ⟨show 0 + 0 ≤ 0 from by first | decide | omega, show 0 + 0 ≤ 0 from by first | decide | omega⟩)
        (fun u_ H locs hq hph (hP : va_P G.1 CL [] H) (hD : va_D A []) hS hfz hfk => ?_)
    obtain ⟨cr_1016, rfl⟩ : ∃ z, z = u_ := ⟨_, rfl⟩
    have hP : va_P G.1 CL [] H := hP
    have hD : va_D A [] := hD
    have hq_1017 : (cr_1016 < 0 ↔ (nI 0) < (nI 0)) := hq
    refine W.eq (g2 := F0 m 22 ls [.int cr_1016]) rfl ?_
    refine lv_goto (tgt := 36) hx hb dX6_compareTo_22 (by decide) ?_
    have hP9 : va_P G.1 CL [] H := hP.sub [] rfl
    have hD9 : va_D A [] := hD.sub [] (by decide) rfl
    exact end_i hx hb hr hlk (rfl) (qc_of cr_1016 (v := some (.int cr_1016)) (by rfl) (hq_1017.trans (by first | exact nI_ltI (by omega) (by omega) | (constructor <;> intro h9 <;> first | omega | exact absurd h9 (by decide)))) hP9 hD9 (trivial) hS) hS dX6_compareTo_36 (show 0 ≤ 0 from by first | exact Nat.le_refl _ | decide | omega) (show 0 ≤ 0 from by first | exact Nat.le_refl _ | decide | omega)

set_option maxHeartbeats 4000000 in
theorem mX6_compareToS (l : Launch) (G : Gt) (a : Nat) (d : Nat) (sid : Nat) (mi : Nat) (it : Nat) (a2 : Nat) (d2 : Nat) (sid2 : Nat) (mi2 : Nat) (it2 : Nat) (hd : d < 2 ^ 31) (hd2 : d2 < 2 ^ 31) (hi : sid < 2 ^ 31) (hi2 : sid2 < 2 ^ 31) : CT l G yX6_compareTo cX6_compareTo 2 (some .int) ({ frames := 2, cells := 0, slots := 0, locals := 33 } : Room) [.ref a, .ref a2] [] (fun (A : Nat → Prop) (H : Heap) => roW G A H [(a, .inr (9, [.int (nI d), .int (nI sid), .ref mi, .ref it])), (a2, .inr (9, [.int (nI d2), .int (nI sid2), .ref mi2, .ref it2]))]) (S := Int32) (fun (u_ : Int32) => some (.int u_)) (fun (u_ : Int32) => (u_ < 0 ↔ d < d2 ∨ (d = d2 ∧ sid < sid2))) (fun (u_ : Int32) => []) (fun (u_ : Int32) (H : Heap) => True) := by
  refine CT.of (by decide) (Nat.le_of_ble_eq_true rfl) ?_
  intro p e s m below meth c ls A H locs h9 hH0 hP hS
  obtain ⟨cf, hr, hlk, hnm, hKB, hE, -, hD, -, hA, hAw, hR0, hl⟩ := h9
  have hx := cf.1
  have hb := cf.2.1
  have hml := cf.2.2.1
  have hown : s.vm.findClass RX6 = some m.cls := cf.2.2.2.1
  have hts := cf.2.2.2.2
  have hK := hKB.1
  have hl : lv_has ls 2 [(0, .ref a), (1, .ref a2)] := hl
  refine lv_aload_n hx hb dX6_compareTo_0 rfl (lv_at hl 0 rfl) ?_
  refine va_get hx hb hts in_X8 hown hK (hR0.w hS) 0 rfl rfl 0 (by decide) (hts _ q747) (fun _ h => h) rfl dX6_compareTo_1 ?_
  refine lv_aload_n hx hb dX6_compareTo_4 rfl (lv_at hl 1 rfl) ?_
  refine va_get hx hb hts in_X8 hown hK (hR0.w hS) 1 rfl rfl 0 (by decide) (hts _ q747) (fun _ h => h) rfl dX6_compareTo_5 ?_
  refine n_icmp_ne (tgt := 25) hx hb (by omega) (by omega) dX6_compareTo_8 (by decide) (fun c_1019 => ?_) (fun c_1019 => ?_)
  · refine lv_aload_n hx hb dX6_compareTo_25 rfl (lv_at hl 0 rfl) ?_
    refine va_get hx hb hts in_X8 hown hK (hR0.w hS) 0 rfl rfl 0 (by decide) (hts _ q747) (fun _ h => h) rfl dX6_compareTo_26 ?_
    refine lv_aload_n hx hb dX6_compareTo_29 rfl (lv_at hl 1 rfl) ?_
    refine va_get hx hb hts in_X8 hown hK (hR0.w hS) 1 rfl rfl 0 (by decide) (hts _ q747) (fun _ h => h) rfl dX6_compareTo_30 ?_
    have hF := hF_of (wc := []) hD hS hA [] rfl
    refine go_ct hS hP hD [] [] hF rfl rfl (by decide) (by decide)
        (va_runS (As := [.int (nI d), .int (nI d2)]) (rest := []) cf (mJ19_compare l G (nI d) (nI d2)  H.size) (va_cwS 2 hts (lw_S q772 q773 q75 q774) rfl rfl rfl (by decide +kernel) ⟨Nat.le_of_ble_eq_true rfl, Nat.le_of_ble_eq_true rfl⟩) (preS_of hKB hE hS hF (va_P.sub hP [] rfl) ((va_D.sub hD [] (by decide) rfl).weaken (fun _ _ _ _ => trivial)) trivial) rfl rfl hl.1 rfl (lv_room (Nat.le_of_ble_eq_true rfl)) dX6_compareTo_33 ⟨show 0 + 0 ≤ 0 from by first | decide | omega, show 0 + 0 ≤ 0 from by first | decide | omega⟩)
        (fun u_ H locs hq hph (hP : va_P G.1 CL [] H) (hD : va_D A []) hS hfz hfk => ?_)
    obtain ⟨cr_1020, rfl⟩ : ∃ z, z = u_ := ⟨_, rfl⟩
    have hP : va_P G.1 CL [] H := hP
    have hD : va_D A [] := hD
    have hq_1021 : (cr_1020 < 0 ↔ (nI d) < (nI d2)) := hq
    refine W.eq (g2 := F0 m 36 ls [.int cr_1020]) rfl ?_
    have hP9 : va_P G.1 CL [] H := hP.sub [] rfl
    have hD9 : va_D A [] := hD.sub [] (by decide) rfl
    exact end_i hx hb hr hlk (rfl) (qc_of cr_1020 (v := some (.int cr_1020)) (by rfl) (hq_1021.trans ((nI_ltI (by omega) (by omega)).trans (by omega))) hP9 hD9 (trivial) hS) hS dX6_compareTo_36 (show 0 ≤ 0 from by first | exact Nat.le_refl _ | decide | omega) (show 0 ≤ 0 from by first | exact Nat.le_refl _ | decide | omega)
  · refine lv_aload_n hx hb dX6_compareTo_11 rfl (lv_at hl 0 rfl) ?_
    have hF := hF_of (wc := []) hD hS hA [] rfl
    have hro_1022 : va_P G.1 CL [(a, .inr (9, [.int (nI d), .int (nI sid), .ref mi, .ref it]))] H := ((hR0.w hS).sub [0] rfl)
    refine go_ct hS hP hD [] [] hF rfl rfl (by decide) (by decide)
        (va_runU (As := []) (rest := []) cf (mX8_number l G a d sid mi it  H.size) (va_cwA (owner := "TrainingDiary$Dated") 0 hts (lw_U q763 q765 q766 q767 q78 q768) rfl rfl rfl (hKB.nest q764 rfl) (by decide +kernel) ⟨Nat.le_of_ble_eq_true rfl, Nat.le_of_ble_eq_true rfl⟩) (preV_of hKB hE hS hF (va_recv hK (hR0.w hS) (ci := 9) (q0 := 0) rfl rfl) (va_P.sub hP [] rfl) ((va_D.sub hD [] (by decide) rfl).weaken (fun _ _ _ _ => trivial)) (roW.nil hro_1022)) rfl rfl hl.1 rfl (lv_room (Nat.le_of_ble_eq_true rfl)) dX6_compareTo_12 ⟨show 0 + 0 ≤ 0 from by first | decide | omega, show 0 + 0 ≤ 0 from by first | decide | omega⟩)
        (fun u_ H locs hq hph (hP : va_P G.1 CL [] H) (hD : va_D A []) hS hfz hfk => ?_)
    refine W.eq (g2 := F0 m 15 ls [.int (nI sid)]) rfl ?_
    refine lv_aload_n hx hb dX6_compareTo_15 rfl (lv_at hl 1 rfl) ?_
    have hF := hF_of (wc := []) hD hS hA [] rfl
    have hro_1023 : va_P G.1 CL [(a2, .inr (9, [.int (nI d2), .int (nI sid2), .ref mi2, .ref it2]))] H := ((hR0.w hS).sub [1] rfl)
    refine go_ct hS hP hD [] [] hF rfl rfl (by decide) (by decide)
        (va_runU (As := []) (rest := [.int (nI sid)]) cf (mX8_number l G a2 d2 sid2 mi2 it2  H.size) (va_cwA (owner := "TrainingDiary$Dated") 0 hts (lw_U q763 q765 q766 q767 q78 q768) rfl rfl rfl (hKB.nest q764 rfl) (by decide +kernel) ⟨Nat.le_of_ble_eq_true rfl, Nat.le_of_ble_eq_true rfl⟩) (preV_of hKB hE hS hF (va_recv hK (hR0.w hS) (ci := 9) (q0 := 1) rfl rfl) (va_P.sub hP [] rfl) ((va_D.sub hD [] (by decide) rfl).weaken (fun _ _ _ _ => trivial)) (roW.nil hro_1023)) rfl rfl hl.1 rfl (lv_room (Nat.le_of_ble_eq_true rfl)) dX6_compareTo_16 ⟨show 0 + 0 ≤ 0 from by first | decide | omega, show 0 + 0 ≤ 0 from by first | decide | omega⟩)
        (fun u_ H locs hq hph (hP : va_P G.1 CL [] H) (hD : va_D A []) hS hfz hfk => ?_)
    refine W.eq (g2 := F0 m 19 ls [.int (nI sid2), .int (nI sid)]) rfl ?_
    have hF := hF_of (wc := []) hD hS hA [] rfl
    refine go_ct hS hP hD [] [] hF rfl rfl (by decide) (by decide)
        (va_runS (As := [.int (nI sid), .int (nI sid2)]) (rest := []) cf (mJ19_compare l G (nI sid) (nI sid2)  H.size) (va_cwS 2 hts (lw_S q772 q773 q75 q774) rfl rfl rfl (by decide +kernel) ⟨Nat.le_of_ble_eq_true rfl, Nat.le_of_ble_eq_true rfl⟩) (preS_of hKB hE hS hF (va_P.sub hP [] rfl) ((va_D.sub hD [] (by decide) rfl).weaken (fun _ _ _ _ => trivial)) trivial) rfl rfl hl.1 rfl (lv_room (Nat.le_of_ble_eq_true rfl)) dX6_compareTo_19 ⟨show 0 + 0 ≤ 0 from by first | decide | omega, show 0 + 0 ≤ 0 from by first | decide | omega⟩)
        (fun u_ H locs hq hph (hP : va_P G.1 CL [] H) (hD : va_D A []) hS hfz hfk => ?_)
    obtain ⟨cr_1024, rfl⟩ : ∃ z, z = u_ := ⟨_, rfl⟩
    have hP : va_P G.1 CL [] H := hP
    have hD : va_D A [] := hD
    have hq_1025 : (cr_1024 < 0 ↔ (nI sid) < (nI sid2)) := hq
    refine W.eq (g2 := F0 m 22 ls [.int cr_1024]) rfl ?_
    refine lv_goto (tgt := 36) hx hb dX6_compareTo_22 (by decide) ?_
    have hP9 : va_P G.1 CL [] H := hP.sub [] rfl
    have hD9 : va_D A [] := hD.sub [] (by decide) rfl
    exact end_i hx hb hr hlk (rfl) (qc_of cr_1024 (v := some (.int cr_1024)) (by rfl) (hq_1025.trans ((nI_ltI (by omega) (by omega)).trans (by omega))) hP9 hD9 (trivial) hS) hS dX6_compareTo_36 (show 0 ≤ 0 from by first | exact Nat.le_refl _ | decide | omega) (show 0 ≤ 0 from by first | exact Nat.le_refl _ | decide | omega)

set_option maxHeartbeats 4000000 in
theorem mX8_init (l : Launch) (G : Gt) (a : Nat) (sid : Nat) (d : Nat) : CT l G yX8_init cX8_init 3 none ({ frames := 3, cells := 2, slots := 0, locals := 57 } : Room) [.ref a, .int (nI sid), .int (nI d)] [(a, .inr (9, [.int (nI 0), .int (nI 0), .null, .null]))] RH0 (S := Nat × Nat) (fun (u_ : Nat × Nat) => (none : Option Value)) (fun (u_ : Nat × Nat) => True) (fun (u_ : Nat × Nat) => [(a, .inr (9, [.int (nI d), .int (nI sid), .ref u_.1, .ref u_.2])), (u_.1, .inl (G.2 1, 0, .inl (fun _ => 0))), (u_.2, .inl (G.2 1, 0, .inl (fun _ => 0)))]) (fun (u_ : Nat × Nat) (H : Heap) => True) := by
  refine CT.of (by decide) (Nat.le_of_ble_eq_true rfl) ?_
  intro p e s m below meth c ls A H locs h9 hH0 hP hS
  obtain ⟨cf, hr, hlk, hnm, hKB, hE, -, hD, -, hA, hAw, hRH, hl⟩ := h9
  have hx := cf.1
  have hb := cf.2.1
  have hml := cf.2.2.1
  have hown : s.vm.findClass RX8 = some m.cls := cf.2.2.2.1
  have hts := cf.2.2.2.2
  have hK := hKB.1
  have hl : lv_has ls 3 [(0, .ref a), (1, .int (nI sid)), (2, .int (nI d))] := hl
  refine lv_aload_n hx hb dX8_init_0 rfl (lv_at hl 0 rfl) ?_
  refine lv_iload_n hx hb dX8_init_1 rfl (lv_at hl 1 rfl) ?_
  refine lv_iload_n hx hb dX8_init_2 rfl (lv_at hl 2 rfl) ?_
  refine lv_iconst (v := nI 0) hx hb dX8_init_3 (by decide) ?_
  refine r_newa_S (n := 0) hx hb (hts _ q1126) hKB hP hD hS hA (by omega) (show 0 + 1 ≤ 2 from by first | decide | omega) (show 0 + 0 ≤ 0 from by first | decide | omega) dX8_init_4 (fun a_1026 H (hP : va_P G.1 CL [(a, .inr (9, [.int (nI 0), .int (nI 0), .null, .null])), (a_1026, .inl (G.2 1, 0, .inl (fun _ => 0)))] H) (hD : va_D A [(a, .inr (9, [.int (nI 0), .int (nI 0), .null, .null])), (a_1026, .inl (G.2 1, 0, .inl (fun _ => 0)))]) hS => ?_)
  refine lv_iconst (v := nI 0) hx hb dX8_init_6 (by decide) ?_
  refine r_newa_S (n := 0) hx hb (hts _ q1126) hKB hP hD hS hA (by omega) (show 0 + 1 + 1 ≤ 2 from by first | decide | omega) (show 0 + 0 + 0 ≤ 0 from by first | decide | omega) dX8_init_7 (fun a_1027 H (hP : va_P G.1 CL [(a, .inr (9, [.int (nI 0), .int (nI 0), .null, .null])), (a_1026, .inl (G.2 1, 0, .inl (fun _ => 0))), (a_1027, .inl (G.2 1, 0, .inl (fun _ => 0)))] H) (hD : va_D A [(a, .inr (9, [.int (nI 0), .int (nI 0), .null, .null])), (a_1026, .inl (G.2 1, 0, .inl (fun _ => 0))), (a_1027, .inl (G.2 1, 0, .inl (fun _ => 0)))]) hS => ?_)
  have hF := hF_of (wc := [(a, .inr (9, [.int (nI 0), .int (nI 0), .null, .null]))]) hD hS hA [0] rfl
  refine go_ct hS hP hD [0] [1, 2] hF rfl rfl (by decide) (by decide)
      (va_runI (As := [.int (nI sid), .int (nI d), .ref a_1026, .ref a_1027]) (rest := []) cf (mX8_init_2 l G a sid d a_1026 a_1027  H.size) (cwI 4 hts (lw_meth q1109) rfl rfl rfl (hts _ q78) (hts _ q1107) (hts _ q1108) rfl (by decide +kernel) ⟨Nat.le_of_ble_eq_true rfl, Nat.le_of_ble_eq_true rfl⟩) (preS_of hKB hE hS hF (va_P.sub hP [0] rfl) ((va_D.sub hD [0] (by decide) rfl).weaken (fun _ _ _ _ => trivial)) trivial) rfl rfl hl.1 rfl (lv_room (Nat.le_of_ble_eq_true rfl)) dX8_init_9 ⟨show 0 + 1 + 1 + 0 ≤ 2 from by first | decide | omega, show 0 + 0 + 0 + 0 ≤ 0 from by first | decide | omega⟩)
      (fun u_ H locs hq hph (hP : va_P G.1 CL [(a_1026, .inl (G.2 1, 0, .inl (fun _ => 0))), (a_1027, .inl (G.2 1, 0, .inl (fun _ => 0))), (a, .inr (9, [.int (nI d), .int (nI sid), .ref a_1026, .ref a_1027]))] H) (hD : va_D A [(a_1026, .inl (G.2 1, 0, .inl (fun _ => 0))), (a_1027, .inl (G.2 1, 0, .inl (fun _ => 0))), (a, .inr (9, [.int (nI d), .int (nI sid), .ref a_1026, .ref a_1027]))]) hS hfz hfk => ?_)
  refine W.eq (g2 := F0 m 12 ls []) rfl ?_
  have hP9 : va_P G.1 CL [(a, .inr (9, [.int (nI d), .int (nI sid), .ref a_1026, .ref a_1027])), (a_1026, .inl (G.2 1, 0, .inl (fun _ => 0))), (a_1027, .inl (G.2 1, 0, .inl (fun _ => 0)))] H := hP.sub [2, 0, 1] rfl
  have hD9 : va_D A [(a, .inr (9, [.int (nI d), .int (nI sid), .ref a_1026, .ref a_1027])), (a_1026, .inl (G.2 1, 0, .inl (fun _ => 0))), (a_1027, .inl (G.2 1, 0, .inl (fun _ => 0)))] := hD.sub [2, 0, 1] (by decide) rfl
  exact end_v hx hb hr hlk (qc_of (a_1026, a_1027) (v := none) (by rfl) (trivial) hP9 hD9 (trivial) hS) hS dX8_init_12 (show 0 + 1 + 1 ≤ 2 from by first | exact Nat.le_refl _ | decide | omega) (show 0 + 0 + 0 ≤ 0 from by first | exact Nat.le_refl _ | decide | omega)

set_option maxHeartbeats 4000000 in
theorem mX8_length (l : Launch) (G : Gt) (a : Nat) (xs : Sess) (mi : Nat) (it : Nat) (fm : Nat → Int32) (fi : Nat → Int32) (hx8 : nP xs ≤ 8) (hfm : ∀ p, p < nP xs → fm p = nI (pMin xs p)) (hfi : ∀ p, p < nP xs → fi p = nI (pInt xs p)) (hm2 : minOf xs ≤ 240) : CT l G yX8_length cX8_length 6 (some .int) ({ frames := 1, cells := 0, slots := 0, locals := 12 } : Room) [.ref a] [] (fun (A : Nat → Prop) (H : Heap) => roW G A H [(a, .inr (9, [.int (nI (sDay xs)), .int (nI (sId xs)), .ref mi, .ref it])), (mi, .inl (G.2 1, nP xs, .inl fm)), (it, .inl (G.2 1, nP xs, .inl fi))]) (S := Unit) (fun (u_ : Unit) => some (.int (nI (minOf xs)))) (fun (u_ : Unit) => True) (fun (u_ : Unit) => []) (fun (u_ : Unit) (H : Heap) => True) := by
  refine CT.of (by decide) (Nat.le_of_ble_eq_true rfl) ?_
  intro p e s m below meth c ls A H locs h9 hH0 hP hS
  obtain ⟨cf, hr, hlk, hnm, hKB, hE, -, hD, -, hA, hAw, hR0, hl⟩ := h9
  have hx := cf.1
  have hb := cf.2.1
  have hml := cf.2.2.1
  have hown : s.vm.findClass RX8 = some m.cls := cf.2.2.2.1
  have hts := cf.2.2.2.2
  have hK := hKB.1
  have hl : lv_has ls 6 [(0, .ref a)] := hl
  refine lv_iconst (v := nI 0) hx hb dX8_length_0 (by decide) ?_
  refine lv_istore_n (lv' := [(1, .int (nI 0)), (0, .ref a)]) hx hb dX8_length_1 rfl hl (by decide) rfl (fun ls hl => ?_)
  refine lv_aload_n hx hb dX8_length_2 rfl (lv_at hl 1 rfl) ?_
  refine va_get hx hb hts in_X8 hown hK (hR0.w hS) 0 rfl rfl 2 (by decide) (hts _ q1114) (fun _ h => h) rfl dX8_length_3 ?_
  refine lv_astore_n (lv' := [(2, .ref mi), (1, .int (nI 0)), (0, .ref a)]) hx hb dX8_length_6 rfl hl (by decide) rfl (fun ls hl => ?_)
  refine lv_aload_n hx hb dX8_length_7 rfl (lv_at hl 0 rfl) ?_
  refine r_alen hx hb hK (hR0.w hS) 1 1 rfl rfl dX8_length_8 ?_
  refine lv_istore_n (lv' := [(3, .int (nI (nP xs))), (2, .ref mi), (1, .int (nI 0)), (0, .ref a)]) hx hb dX8_length_9 rfl hl (by decide) rfl (fun ls hl => ?_)
  refine lv_iconst (v := nI 0) hx hb dX8_length_10 (by decide) ?_
  refine lv_istore (lv' := [(4, .int (nI 0)), (3, .int (nI (nP xs))), (2, .ref mi), (1, .int (nI 0)), (0, .ref a)]) hx hb dX8_length_11 hl (by decide) rfl (fun ls hl => ?_)
  have hl := lv_sub hl [4, 3, 2, 1, 0] (l' := [(0, .ref a), (1, .int (nI (psum (pMin xs) 0))), (2, .ref mi), (3, .int (nI (nP xs))), (4, .int (nI 0))]) rfl
  refine lp_W (σ := Nat) (hpc := 13) (fun x => nP xs - x) (fun x => 0) (fun x => 0) (fun x H locs ls => va_P G.1 CL [] H ∧ va_D A [] ∧ va_S A s.heap H locs ∧ lv_has ls 6 [(0, .ref a), (1, .int (nI (psum (pMin xs) x))), (2, .ref mi), (3, .int (nI (nP xs))), (4, .int (nI x))] ∧ (x ≤ nP xs)) ?_ (0) ⟨(show va_P G.1 CL [] H from hP), (show va_D A [] from hD), hS, hl, (show 0 ≤ nP xs from by omega)⟩ (show 0 ≤ 0 from by first | exact Nat.le_refl _ | omega) (show 0 ≤ 0 from by first | exact Nat.le_refl _ | omega)
  intro x H locs ls hI9 ih13
  obtain ⟨i_1029, rfl⟩ : ∃ z, z = x := ⟨_, rfl⟩
  obtain ⟨hP, hD, hS, hl, hp_1028⟩ := hI9
  have hP : va_P G.1 CL [] H := hP
  have hD : va_D A [] := hD
  have hl : lv_has ls 6 [(0, .ref a), (1, .int (nI (psum (pMin xs) i_1029))), (2, .ref mi), (3, .int (nI (nP xs))), (4, .int (nI i_1029))] := hl
  have hp_1028 : i_1029 ≤ nP xs := hp_1028
  refine lv_iload hx hb dX8_length_13 (lv_at hl 4 rfl) ?_
  refine lv_iload_n hx hb dX8_length_15 rfl (lv_at hl 3 rfl) ?_
  refine n_icmp_ge (tgt := 36) hx hb (by omega) (by omega) dX8_length_16 (by decide) (fun c_1031 => ?_) (fun c_1031 => ?_)
  · refine lv_iload_n hx hb dX8_length_36 rfl (lv_at hl 1 rfl) ?_
    have hP9 : va_P G.1 CL [] H := hP.sub [] rfl
    have hD9 : va_D A [] := hD.sub [] (by decide) rfl
    exact end_i hx hb hr hlk (rfl) (qc_of () (v := some (.int (nI (psum (pMin xs) i_1029)))) (by rw [show i_1029 = nP xs from by omega] <;> rfl) (trivial) hP9 hD9 (trivial) hS) hS dX8_length_37 (show 0 ≤ 0 from by first | exact Nat.le_refl _ | decide | omega) (show 0 ≤ 0 from by first | exact Nat.le_refl _ | decide | omega)
  · refine lv_aload_n hx hb dX8_length_19 rfl (lv_at hl 2 rfl) ?_
    refine lv_iload hx hb dX8_length_20 (lv_at hl 4 rfl) ?_
    refine r_sald (v := nI (pMin xs i_1029)) hx hb hK (hR0.w hS) 1 1 rfl rfl (i := i_1029) (by omega) (by omega) (hfm _ (by omega)) dX8_length_22 ?_
    refine lv_istore (lv' := [(5, .int (nI (pMin xs i_1029))), (0, .ref a), (1, .int (nI (psum (pMin xs) i_1029))), (2, .ref mi), (3, .int (nI (nP xs))), (4, .int (nI i_1029))]) hx hb dX8_length_23 hl (by decide) rfl (fun ls hl => ?_)
    refine lv_iload_n hx hb dX8_length_25 rfl (lv_at hl 2 rfl) ?_
    refine lv_iload hx hb dX8_length_26 (lv_at hl 0 rfl) ?_
    refine lv_iadd hx hb dX8_length_28 ?_
    refine lv_ton (n := (pMin xs i_1029) + (psum (pMin xs) i_1029)) (nadd (by omega)) ?_
    refine lv_ton (n := (psum (pMin xs) (i_1029 + 1))) (congrArg nI (by simp only [psum]; omega)) ?_
    refine lv_istore_n (lv' := [(1, .int (nI (psum (pMin xs) (i_1029 + 1)))), (5, .int (nI (pMin xs i_1029))), (0, .ref a), (2, .ref mi), (3, .int (nI (nP xs))), (4, .int (nI i_1029))]) hx hb dX8_length_29 rfl hl (by decide) rfl (fun ls hl => ?_)
    refine lv_iinc (v := nI (i_1029 + 1)) (lv' := [(4, .int (nI (i_1029 + 1))), (1, .int (nI (psum (pMin xs) (i_1029 + 1)))), (5, .int (nI (pMin xs i_1029))), (0, .ref a), (2, .ref mi), (3, .int (nI (nP xs)))]) hx hb dX8_length_30 hl (k := 5) rfl (ninc (b := 1) (by decide) (by omega)) (by decide) rfl (fun ls hl => ?_)
    refine lv_goto (tgt := 13) hx hb dX8_length_33 (by decide) ?_
    have hP : va_P G.1 CL [] H := hP.sub [] rfl
    have hD : va_D A [] := hD.sub [] (by decide) rfl
    have hl := lv_sub hl [3, 1, 4, 5, 0] (l' := [(0, .ref a), (1, .int (nI (psum (pMin xs) (i_1029 + 1)))), (2, .ref mi), (3, .int (nI (nP xs))), (4, .int (nI (i_1029 + 1)))]) rfl
    exact W.widen (show 0 ≤ 0 from by first | exact Nat.le_refl _ | omega) (show 0 ≤ 0 from by first | exact Nat.le_refl _ | omega) (ih13 (i_1029 + 1) H locs ls ⟨hP, hD, hS, hl, (show (i_1029 + 1) ≤ nP xs from by omega)⟩ (show nP xs - (i_1029 + 1) < nP xs - i_1029 from by omega))

set_option maxHeartbeats 4000000 in
theorem mX8_on (l : Launch) (G : Gt) (a : Nat) (d : Nat) (sid : Nat) (mi : Nat) (it : Nat) (d2 : Nat) : CT l G yX8_on cX8_on 2 (some (.object "TrainingDiary$Session")) ({ frames := 3, cells := 1, slots := 4, locals := 57 } : Room) [.ref a, .int (nI d2)] [] (fun (A : Nat → Prop) (H : Heap) => roW G A H [(a, .inr (9, [.int (nI d), .int (nI sid), .ref mi, .ref it]))]) (S := Nat) (fun (u_ : Nat) => some (.ref u_)) (fun (u_ : Nat) => True) (fun (u_ : Nat) => [(u_, .inr (9, [.int (nI d2), .int (nI sid), .ref mi, .ref it]))]) (fun (u_ : Nat) (H : Heap) => True) := by
  refine CT.of (by decide) (Nat.le_of_ble_eq_true rfl) ?_
  intro p e s m below meth c ls A H locs h9 hH0 hP hS
  obtain ⟨cf, hr, hlk, hnm, hKB, hE, -, hD, -, hA, hAw, hR0, hl⟩ := h9
  have hx := cf.1
  have hb := cf.2.1
  have hml := cf.2.2.1
  have hown : s.vm.findClass RX8 = some m.cls := cf.2.2.2.1
  have hts := cf.2.2.2.2
  have hK := hKB.1
  have hl : lv_has ls 2 [(0, .ref a), (1, .int (nI d2))] := hl
  refine va_new (ci := 9) (fs := [.int (nI 0), .int (nI 0), .null, .null]) hx hb hts in_X8 tyX8 tyX8_ok hown (hts _ q1151) (hts _ q1103) (hts _ q78) hK hP hD hS hA rfl (fun j hj => by rcases (show j = 0 ∨ j = 1 ∨ j = 2 ∨ j = 3 by omega) with rfl | rfl | rfl | rfl <;> rfl) (show 0 + 1 ≤ 1 from by first | decide | omega) (show 0 + 4 ≤ 4 from by first | decide | omega) dX8_on_0 (fun a_1032 H (hP : va_P G.1 CL [(a_1032, .inr (9, [.int (nI 0), .int (nI 0), .null, .null]))] H) (hD : va_D A [(a_1032, .inr (9, [.int (nI 0), .int (nI 0), .null, .null]))]) hS => ?_)
  refine lv_dup hx hb dX8_on_3 rfl ?_
  refine lv_aload_n hx hb dX8_on_4 rfl (lv_at hl 0 rfl) ?_
  refine va_get hx hb hts in_X8 hown hK (hR0.w hS) 0 rfl rfl 1 (by decide) (hts _ q1111) (fun _ h => h) rfl dX8_on_5 ?_
  refine lv_iload_n hx hb dX8_on_8 rfl (lv_at hl 1 rfl) ?_
  refine lv_aload_n hx hb dX8_on_9 rfl (lv_at hl 0 rfl) ?_
  refine va_get hx hb hts in_X8 hown hK (hR0.w hS) 0 rfl rfl 2 (by decide) (hts _ q1114) (fun _ h => h) rfl dX8_on_10 ?_
  refine lv_aload_n hx hb dX8_on_13 rfl (lv_at hl 0 rfl) ?_
  refine va_get hx hb hts in_X8 hown hK (hR0.w hS) 0 rfl rfl 3 (by decide) (hts _ q1116) (fun _ h => h) rfl dX8_on_14 ?_
  have hF := hF_of (wc := [(a_1032, .inr (9, [.int (nI 0), .int (nI 0), .null, .null]))]) hD hS hA [0] rfl
  refine go_ct hS hP hD [0] [] hF rfl rfl (by decide) (by decide)
      (va_runI (As := [.int (nI sid), .int (nI d2), .ref mi, .ref it]) (rest := [.ref a_1032]) cf (mX8_init_2 l G a_1032 sid d2 mi it  H.size) (cwI 4 hts (lw_meth q1109) rfl rfl rfl (hts _ q78) (hts _ q1107) (hts _ q1108) rfl (by decide +kernel) ⟨Nat.le_of_ble_eq_true rfl, Nat.le_of_ble_eq_true rfl⟩) (preS_of hKB hE hS hF (va_P.sub hP [0] rfl) ((va_D.sub hD [0] (by decide) rfl).weaken (fun _ _ _ _ => trivial)) trivial) rfl rfl hl.1 rfl (lv_room (Nat.le_of_ble_eq_true rfl)) dX8_on_17 ⟨show 0 + 1 + 0 ≤ 1 from by first | decide | omega, show 0 + 4 + 0 ≤ 4 from by first | decide | omega⟩)
      (fun u_ H locs hq hph (hP : va_P G.1 CL [(a_1032, .inr (9, [.int (nI d2), .int (nI sid), .ref mi, .ref it]))] H) (hD : va_D A [(a_1032, .inr (9, [.int (nI d2), .int (nI sid), .ref mi, .ref it]))]) hS hfz hfk => ?_)
  refine W.eq (g2 := F0 m 20 ls [.ref a_1032]) rfl ?_
  have hP9 : va_P G.1 CL [(a_1032, .inr (9, [.int (nI d2), .int (nI sid), .ref mi, .ref it]))] H := hP.sub [0] rfl
  have hD9 : va_D A [(a_1032, .inr (9, [.int (nI d2), .int (nI sid), .ref mi, .ref it]))] := hD.sub [0] (by decide) rfl
  exact end_a hx hb hr hlk (by first | exact Or.inl ⟨_, rfl⟩ | exact Or.inr ⟨_, rfl⟩) (Or.inr ⟨_, rfl⟩) (qc_of a_1032 (v := some (.ref a_1032)) (by rfl) (trivial) hP9 hD9 (trivial) hS) hS dX8_on_20 (show 0 + 1 ≤ 1 from by first | exact Nat.le_refl _ | decide | omega) (show 0 + 4 ≤ 4 from by first | exact Nat.le_refl _ | decide | omega)

theorem fits_sh {q : Nat} (h : q < 32768) : fits .short (.int (nI q)) = true := by
  have h1 : (-32768 : Int32) ≤ nI q := by rw [Int32.le_iff_toInt_le, nI_toInt (by omega)]; have : (-32768 : Int32).toInt = -32768 := by decide
                                          omega
  have h2 : nI q ≤ (32767 : Int32) := by rw [Int32.le_iff_toInt_le, nI_toInt (by omega)]; have : (32767 : Int32).toInt = 32767 := by decide
                                         omega
  show (decide ((-32768 : Int32) ≤ nI q) && decide (nI q ≤ 32767)) = true
  rw [decide_eq_true h1, decide_eq_true h2]; rfl
theorem with_min {x : Sess} {fm : Nat → Int32} {m i : Nat} (h : ∀ p, p < nP x → fm p = nI (pMin x p)) : ∀ p, p < nP x + 1 → upd (va_cpy fm (fun _ => 0) 0 0 (nP x)) (nP x) (nI m) p = nI (pMin (addP x m i) p) := by
  intro p hp
  rcases Nat.lt_succ_iff_lt_or_eq.mp hp with h1 | h1
  · rw [pk_un (Nat.ne_of_lt h1), cpy_lt h1, h p h1, (addP_old h1).1]
  · rw [h1, pk_us, (addP_new x m i).1]
theorem with_int {x : Sess} {fi : Nat → Int32} {m i : Nat} (h : ∀ p, p < nP x → fi p = nI (pInt x p)) : ∀ p, p < nP x + 1 → upd (va_cpy fi (fun _ => 0) 0 0 (nP x)) (nP x) (nI i) p = nI (pInt (addP x m i) p) := by
  intro p hp
  rcases Nat.lt_succ_iff_lt_or_eq.mp hp with h1 | h1
  · rw [pk_un (Nat.ne_of_lt h1), cpy_lt h1, h p h1, (addP_old h1).2]
  · rw [h1, pk_us, (addP_new x m i).2]

set_option maxHeartbeats 4000000 in
theorem mX8_with (l : Launch) (G : Gt) (a : Nat) (xs : Sess) (mi : Nat) (it : Nat) (fm : Nat → Int32) (fi : Nat → Int32) (pm : Nat) (pi : Nat) (hx8 : nP xs ≤ 8) (hfm : ∀ p, p < nP xs → fm p = nI (pMin xs p)) (hfi : ∀ p, p < nP xs → fi p = nI (pInt xs p)) (hpm : pm ≤ 240) (hpi : pi ≤ 500) (hbd : ∀ p, p < nP xs → pMin xs p ≤ 240 ∧ pInt xs p ≤ 500) : CT l G yX8_with cX8_with 6 (some (.object "TrainingDiary$Session")) ({ frames := 3, cells := 3, slots := 22, locals := 57 } : Room) [.ref a, .int (nI pm), .int (nI pi)] [] (fun (A : Nat → Prop) (H : Heap) => roW G A H [(a, .inr (9, [.int (nI (sDay xs)), .int (nI (sId xs)), .ref mi, .ref it])), (mi, .inl (G.2 1, nP xs, .inl fm)), (it, .inl (G.2 1, nP xs, .inl fi))]) (S := Nat × Nat × Nat × (Nat → Int32) × (Nat → Int32)) (fun (u_ : Nat × Nat × Nat × (Nat → Int32) × (Nat → Int32)) => some (.ref u_.1)) (fun (u_ : Nat × Nat × Nat × (Nat → Int32) × (Nat → Int32)) => (∀ p, p < nP xs + 1 → u_.2.2.2.1 p = nI (pMin (addP xs pm pi) p)) ∧ (∀ p, p < nP xs + 1 → u_.2.2.2.2 p = nI (pInt (addP xs pm pi) p))) (fun (u_ : Nat × Nat × Nat × (Nat → Int32) × (Nat → Int32)) => [(u_.1, .inr (9, [.int (nI (sDay xs)), .int (nI (sId xs)), .ref u_.2.1, .ref u_.2.2.1])), (u_.2.1, .inl (G.2 1, nP xs + 1, .inl u_.2.2.2.1)), (u_.2.2.1, .inl (G.2 1, nP xs + 1, .inl u_.2.2.2.2))]) (fun (u_ : Nat × Nat × Nat × (Nat → Int32) × (Nat → Int32)) (H : Heap) => True) := by
  refine CT.of (by decide) (Nat.le_of_ble_eq_true rfl) ?_
  intro p e s m below meth c ls A H locs h9 hH0 hP hS
  obtain ⟨cf, hr, hlk, hnm, hKB, hE, -, hD, -, hA, hAw, hR0, hl⟩ := h9
  have hx := cf.1
  have hb := cf.2.1
  have hml := cf.2.2.1
  have hown : s.vm.findClass RX8 = some m.cls := cf.2.2.2.1
  have hts := cf.2.2.2.2
  have hK := hKB.1
  have hl : lv_has ls 6 [(0, .ref a), (1, .int (nI pm)), (2, .int (nI pi))] := hl
  refine lv_aload_n hx hb dX8_with_0 rfl (lv_at hl 0 rfl) ?_
  refine va_get hx hb hts in_X8 hown hK (hR0.w hS) 0 rfl rfl 2 (by decide) (hts _ q1114) (fun _ h => h) rfl dX8_with_1 ?_
  refine r_alen hx hb hK (hR0.w hS) 1 1 rfl rfl dX8_with_4 ?_
  refine lv_istore_n (lv' := [(3, .int (nI (nP xs))), (0, .ref a), (1, .int (nI pm)), (2, .int (nI pi))]) hx hb dX8_with_5 rfl hl (by decide) rfl (fun ls hl => ?_)
  refine lv_iload_n hx hb dX8_with_6 rfl (lv_at hl 0 rfl) ?_
  refine lv_iconst (v := nI 1) hx hb dX8_with_7 (by decide) ?_
  refine lv_iadd hx hb dX8_with_8 ?_
  refine lv_ton (n := (nP xs) + 1) (nadd (by omega)) ?_
  refine r_newa_S (n := (nP xs) + 1) hx hb (hts _ q1126) hKB hP hD hS hA (by omega) (show 0 + 1 ≤ 3 from by first | decide | omega) (show 0 + ((nP xs) + 1) ≤ 22 from by first | decide | omega) dX8_with_9 (fun a_1033 H (hP : va_P G.1 CL [(a_1033, .inl (G.2 1, (nP xs) + 1, .inl (fun _ => 0)))] H) (hD : va_D A [(a_1033, .inl (G.2 1, (nP xs) + 1, .inl (fun _ => 0)))]) hS => ?_)
  refine lv_astore (lv' := [(4, .ref a_1033), (3, .int (nI (nP xs))), (0, .ref a), (1, .int (nI pm)), (2, .int (nI pi))]) hx hb dX8_with_11 hl (by decide) rfl (fun ls hl => ?_)
  refine lv_iload_n hx hb dX8_with_13 rfl (lv_at hl 1 rfl) ?_
  refine lv_iconst (v := nI 1) hx hb dX8_with_14 (by decide) ?_
  refine lv_iadd hx hb dX8_with_15 ?_
  refine lv_ton (n := (nP xs) + 1) (nadd (by omega)) ?_
  refine r_newa_S (n := (nP xs) + 1) hx hb (hts _ q1126) hKB hP hD hS hA (by omega) (show 0 + 1 + 1 ≤ 3 from by first | decide | omega) (show 0 + ((nP xs) + 1) + ((nP xs) + 1) ≤ 22 from by first | decide | omega) dX8_with_16 (fun a_1034 H (hP : va_P G.1 CL [(a_1033, .inl (G.2 1, (nP xs) + 1, .inl (fun _ => 0))), (a_1034, .inl (G.2 1, (nP xs) + 1, .inl (fun _ => 0)))] H) (hD : va_D A [(a_1033, .inl (G.2 1, (nP xs) + 1, .inl (fun _ => 0))), (a_1034, .inl (G.2 1, (nP xs) + 1, .inl (fun _ => 0)))]) hS => ?_)
  refine lv_astore (lv' := [(5, .ref a_1034), (4, .ref a_1033), (3, .int (nI (nP xs))), (0, .ref a), (1, .int (nI pm)), (2, .int (nI pi))]) hx hb dX8_with_18 hl (by decide) rfl (fun ls hl => ?_)
  refine lv_aload_n hx hb dX8_with_20 rfl (lv_at hl 3 rfl) ?_
  refine va_get hx hb hts in_X8 hown hK (hR0.w hS) 0 rfl rfl 2 (by decide) (hts _ q1114) (fun _ h => h) rfl dX8_with_21 ?_
  refine lv_iconst (v := nI 0) hx hb dX8_with_24 (by decide) ?_
  refine lv_aload hx hb dX8_with_25 (lv_at hl 1 rfl) ?_
  refine lv_iconst (v := nI 0) hx hb dX8_with_27 (by decide) ?_
  refine lv_iload_n hx hb dX8_with_28 rfl (lv_at hl 2 rfl) ?_
  refine r_copyI 1 rfl rfl hx hb (by rw [hml]; exact hl.1.symm) hown (hts _ q1150) (hts _ q547) (hts _ q546) (hts _ q69) hKB (hR0.w hS) 1 hP hD hS 0 (sp := 0) (dp := 0) (n := (nP xs)) rfl rfl (by omega) (by omega) (by omega) (by omega) (fun i hi => by rw [Nat.zero_add, hfm _ hi]; exact fits_sh (by have := hbd i hi; omega)) (Nat.le_of_ble_eq_true rfl) (Nat.le_of_ble_eq_true rfl) dX8_with_29 (fun H locs (hP : va_P G.1 CL [(a_1033, .inl (G.2 1, (nP xs) + 1, .inl (va_cpy fm (fun _ => 0) 0 0 (nP xs)))), (a_1034, .inl (G.2 1, (nP xs) + 1, .inl (fun _ => 0)))] H) (hD : va_D A [(a_1033, .inl (G.2 1, (nP xs) + 1, .inl (va_cpy fm (fun _ => 0) 0 0 (nP xs)))), (a_1034, .inl (G.2 1, (nP xs) + 1, .inl (fun _ => 0)))]) hS => ?_)
  refine lv_aload_n hx hb dX8_with_32 rfl (lv_at hl 3 rfl) ?_
  refine va_get hx hb hts in_X8 hown hK (hR0.w hS) 0 rfl rfl 3 (by decide) (hts _ q1116) (fun _ h => h) rfl dX8_with_33 ?_
  refine lv_iconst (v := nI 0) hx hb dX8_with_36 (by decide) ?_
  refine lv_aload hx hb dX8_with_37 (lv_at hl 0 rfl) ?_
  refine lv_iconst (v := nI 0) hx hb dX8_with_39 (by decide) ?_
  refine lv_iload_n hx hb dX8_with_40 rfl (lv_at hl 2 rfl) ?_
  refine r_copyI 1 rfl rfl hx hb (by rw [hml]; exact hl.1.symm) hown (hts _ q1150) (hts _ q547) (hts _ q546) (hts _ q69) hKB (hR0.w hS) 2 hP hD hS 1 (sp := 0) (dp := 0) (n := (nP xs)) rfl rfl (by omega) (by omega) (by omega) (by omega) (fun i hi => by rw [Nat.zero_add, hfi _ hi]; exact fits_sh (by have := hbd i hi; omega)) (Nat.le_of_ble_eq_true rfl) (Nat.le_of_ble_eq_true rfl) dX8_with_41 (fun H locs (hP : va_P G.1 CL [(a_1033, .inl (G.2 1, (nP xs) + 1, .inl (va_cpy fm (fun _ => 0) 0 0 (nP xs)))), (a_1034, .inl (G.2 1, (nP xs) + 1, .inl (va_cpy fi (fun _ => 0) 0 0 (nP xs))))] H) (hD : va_D A [(a_1033, .inl (G.2 1, (nP xs) + 1, .inl (va_cpy fm (fun _ => 0) 0 0 (nP xs)))), (a_1034, .inl (G.2 1, (nP xs) + 1, .inl (va_cpy fi (fun _ => 0) 0 0 (nP xs))))]) hS => ?_)
  refine lv_aload hx hb dX8_with_44 (lv_at hl 1 rfl) ?_
  refine lv_iload_n hx hb dX8_with_46 rfl (lv_at hl 2 rfl) ?_
  refine lv_iload_n hx hb dX8_with_47 rfl (lv_at hl 4 rfl) ?_
  refine lv_i2s (v := nI pm) hx hb dX8_with_48 (n2s (by omega)) ?_
  refine r_sast (v := nI pm) hx hb hK hP hD hS 0 1 rfl rfl (i := (nP xs)) (by omega) (by omega) (nar_s (by omega)) dX8_with_49 (fun H locs (hP : va_P G.1 CL [(a_1033, .inl (G.2 1, (nP xs) + 1, .inl (upd (va_cpy fm (fun _ => 0) 0 0 (nP xs)) (nP xs) (nI pm)))), (a_1034, .inl (G.2 1, (nP xs) + 1, .inl (va_cpy fi (fun _ => 0) 0 0 (nP xs))))] H) (hD : va_D A [(a_1033, .inl (G.2 1, (nP xs) + 1, .inl (upd (va_cpy fm (fun _ => 0) 0 0 (nP xs)) (nP xs) (nI pm)))), (a_1034, .inl (G.2 1, (nP xs) + 1, .inl (va_cpy fi (fun _ => 0) 0 0 (nP xs))))]) hS => ?_)
  refine lv_aload hx hb dX8_with_50 (lv_at hl 0 rfl) ?_
  refine lv_iload_n hx hb dX8_with_52 rfl (lv_at hl 2 rfl) ?_
  refine lv_iload_n hx hb dX8_with_53 rfl (lv_at hl 5 rfl) ?_
  refine lv_i2s (v := nI pi) hx hb dX8_with_54 (n2s (by omega)) ?_
  refine r_sast (v := nI pi) hx hb hK hP hD hS 1 1 rfl rfl (i := (nP xs)) (by omega) (by omega) (nar_s (by omega)) dX8_with_55 (fun H locs (hP : va_P G.1 CL [(a_1033, .inl (G.2 1, (nP xs) + 1, .inl (upd (va_cpy fm (fun _ => 0) 0 0 (nP xs)) (nP xs) (nI pm)))), (a_1034, .inl (G.2 1, (nP xs) + 1, .inl (upd (va_cpy fi (fun _ => 0) 0 0 (nP xs)) (nP xs) (nI pi))))] H) (hD : va_D A [(a_1033, .inl (G.2 1, (nP xs) + 1, .inl (upd (va_cpy fm (fun _ => 0) 0 0 (nP xs)) (nP xs) (nI pm)))), (a_1034, .inl (G.2 1, (nP xs) + 1, .inl (upd (va_cpy fi (fun _ => 0) 0 0 (nP xs)) (nP xs) (nI pi))))]) hS => ?_)
  refine va_new (ci := 9) (fs := [.int (nI 0), .int (nI 0), .null, .null]) hx hb hts in_X8 tyX8 tyX8_ok hown (hts _ q1151) (hts _ q1103) (hts _ q78) hK hP hD hS hA rfl (fun j hj => by rcases (show j = 0 ∨ j = 1 ∨ j = 2 ∨ j = 3 by omega) with rfl | rfl | rfl | rfl <;> rfl) (show 0 + 1 + 1 + 1 ≤ 3 from by first | decide | omega) (show 0 + ((nP xs) + 1) + ((nP xs) + 1) + 4 ≤ 22 from by first | decide | omega) dX8_with_56 (fun a_1035 H (hP : va_P G.1 CL [(a_1033, .inl (G.2 1, (nP xs) + 1, .inl (upd (va_cpy fm (fun _ => 0) 0 0 (nP xs)) (nP xs) (nI pm)))), (a_1034, .inl (G.2 1, (nP xs) + 1, .inl (upd (va_cpy fi (fun _ => 0) 0 0 (nP xs)) (nP xs) (nI pi)))), (a_1035, .inr (9, [.int (nI 0), .int (nI 0), .null, .null]))] H) (hD : va_D A [(a_1033, .inl (G.2 1, (nP xs) + 1, .inl (upd (va_cpy fm (fun _ => 0) 0 0 (nP xs)) (nP xs) (nI pm)))), (a_1034, .inl (G.2 1, (nP xs) + 1, .inl (upd (va_cpy fi (fun _ => 0) 0 0 (nP xs)) (nP xs) (nI pi)))), (a_1035, .inr (9, [.int (nI 0), .int (nI 0), .null, .null]))]) hS => ?_)
  refine lv_dup hx hb dX8_with_59 rfl ?_
  refine lv_aload_n hx hb dX8_with_60 rfl (lv_at hl 3 rfl) ?_
  refine va_get hx hb hts in_X8 hown hK (hR0.w hS) 0 rfl rfl 1 (by decide) (hts _ q1111) (fun _ h => h) rfl dX8_with_61 ?_
  refine lv_aload_n hx hb dX8_with_64 rfl (lv_at hl 3 rfl) ?_
  have hF := hF_of (wc := []) hD hS hA [] rfl
  have hro_1036 : va_P G.1 CL [(a, .inr (9, [.int (nI (sDay xs)), .int (nI (sId xs)), .ref mi, .ref it]))] H := ((hR0.w hS).sub [0] rfl)
  refine go_ct hS hP hD [] [0, 1, 2] hF rfl rfl (by decide) (by decide)
      (va_runU (As := []) (rest := [.int (nI (sId xs)), .ref a_1035, .ref a_1035]) cf (mX6_dayS l G a (sDay xs) (sId xs) mi it  H.size) (va_cwU (owner := "TrainingDiary$Dated") 0 hts (lw_U q1152 q420 q422 q423 q72 q424) rfl rfl rfl rfl (by decide +kernel) ⟨Nat.le_of_ble_eq_true rfl, Nat.le_of_ble_eq_true rfl⟩) (preV_of hKB hE hS hF (va_recv hK (hR0.w hS) (ci := 9) (q0 := 0) rfl rfl) (va_P.sub hP [] rfl) ((va_D.sub hD [] (by decide) rfl).weaken (fun _ _ _ _ => trivial)) (roW.nil hro_1036)) rfl rfl hl.1 rfl (lv_room (Nat.le_of_ble_eq_true rfl)) dX8_with_65 ⟨show 0 + 1 + 1 + 1 + 0 ≤ 3 from by first | decide | omega, show 0 + ((nP xs) + 1) + ((nP xs) + 1) + 4 + 0 ≤ 22 from by first | decide | omega⟩)
      (fun u_ H locs hq hph (hP : va_P G.1 CL [(a_1033, .inl (G.2 1, (nP xs) + 1, .inl (upd (va_cpy fm (fun _ => 0) 0 0 (nP xs)) (nP xs) (nI pm)))), (a_1034, .inl (G.2 1, (nP xs) + 1, .inl (upd (va_cpy fi (fun _ => 0) 0 0 (nP xs)) (nP xs) (nI pi)))), (a_1035, .inr (9, [.int (nI 0), .int (nI 0), .null, .null]))] H) (hD : va_D A [(a_1033, .inl (G.2 1, (nP xs) + 1, .inl (upd (va_cpy fm (fun _ => 0) 0 0 (nP xs)) (nP xs) (nI pm)))), (a_1034, .inl (G.2 1, (nP xs) + 1, .inl (upd (va_cpy fi (fun _ => 0) 0 0 (nP xs)) (nP xs) (nI pi)))), (a_1035, .inr (9, [.int (nI 0), .int (nI 0), .null, .null]))]) hS hfz hfk => ?_)
  refine W.eq (g2 := F0 m 68 ls [.int (nI (sDay xs)), .int (nI (sId xs)), .ref a_1035, .ref a_1035]) rfl ?_
  refine lv_aload hx hb dX8_with_68 (lv_at hl 1 rfl) ?_
  refine lv_aload hx hb dX8_with_70 (lv_at hl 0 rfl) ?_
  have hF := hF_of (wc := [(a_1035, .inr (9, [.int (nI 0), .int (nI 0), .null, .null]))]) hD hS hA [2] rfl
  refine go_ct hS hP hD [2] [0, 1] hF rfl rfl (by decide) (by decide)
      (va_runI (As := [.int (nI (sId xs)), .int (nI (sDay xs)), .ref a_1033, .ref a_1034]) (rest := [.ref a_1035]) cf (mX8_init_2 l G a_1035 (sId xs) (sDay xs) a_1033 a_1034  H.size) (cwI 4 hts (lw_meth q1109) rfl rfl rfl (hts _ q78) (hts _ q1107) (hts _ q1108) rfl (by decide +kernel) ⟨Nat.le_of_ble_eq_true rfl, Nat.le_of_ble_eq_true rfl⟩) (preS_of hKB hE hS hF (va_P.sub hP [2] rfl) ((va_D.sub hD [2] (by decide) rfl).weaken (fun _ _ _ _ => trivial)) trivial) rfl rfl hl.1 rfl (lv_room (Nat.le_of_ble_eq_true rfl)) dX8_with_72 ⟨show 0 + 1 + 1 + 1 + 0 ≤ 3 from by first | decide | omega, show 0 + ((nP xs) + 1) + ((nP xs) + 1) + 4 + 0 ≤ 22 from by first | decide | omega⟩)
      (fun u_ H locs hq hph (hP : va_P G.1 CL [(a_1033, .inl (G.2 1, (nP xs) + 1, .inl (upd (va_cpy fm (fun _ => 0) 0 0 (nP xs)) (nP xs) (nI pm)))), (a_1034, .inl (G.2 1, (nP xs) + 1, .inl (upd (va_cpy fi (fun _ => 0) 0 0 (nP xs)) (nP xs) (nI pi)))), (a_1035, .inr (9, [.int (nI (sDay xs)), .int (nI (sId xs)), .ref a_1033, .ref a_1034]))] H) (hD : va_D A [(a_1033, .inl (G.2 1, (nP xs) + 1, .inl (upd (va_cpy fm (fun _ => 0) 0 0 (nP xs)) (nP xs) (nI pm)))), (a_1034, .inl (G.2 1, (nP xs) + 1, .inl (upd (va_cpy fi (fun _ => 0) 0 0 (nP xs)) (nP xs) (nI pi)))), (a_1035, .inr (9, [.int (nI (sDay xs)), .int (nI (sId xs)), .ref a_1033, .ref a_1034]))]) hS hfz hfk => ?_)
  refine W.eq (g2 := F0 m 75 ls [.ref a_1035]) rfl ?_
  have hP9 : va_P G.1 CL [(a_1035, .inr (9, [.int (nI (sDay xs)), .int (nI (sId xs)), .ref a_1033, .ref a_1034])), (a_1033, .inl (G.2 1, (nP xs) + 1, .inl (upd (va_cpy fm (fun _ => 0) 0 0 (nP xs)) (nP xs) (nI pm)))), (a_1034, .inl (G.2 1, (nP xs) + 1, .inl (upd (va_cpy fi (fun _ => 0) 0 0 (nP xs)) (nP xs) (nI pi))))] H := hP.sub [2, 0, 1] rfl
  have hD9 : va_D A [(a_1035, .inr (9, [.int (nI (sDay xs)), .int (nI (sId xs)), .ref a_1033, .ref a_1034])), (a_1033, .inl (G.2 1, (nP xs) + 1, .inl (upd (va_cpy fm (fun _ => 0) 0 0 (nP xs)) (nP xs) (nI pm)))), (a_1034, .inl (G.2 1, (nP xs) + 1, .inl (upd (va_cpy fi (fun _ => 0) 0 0 (nP xs)) (nP xs) (nI pi))))] := hD.sub [2, 0, 1] (by decide) rfl
  exact end_a hx hb hr hlk (by first | exact Or.inl ⟨_, rfl⟩ | exact Or.inr ⟨_, rfl⟩) (Or.inr ⟨_, rfl⟩) (qc_of (a_1035, a_1033, a_1034, upd (va_cpy fm (fun _ => 0) 0 0 (nP xs)) (nP xs) (nI pm), upd (va_cpy fi (fun _ => 0) 0 0 (nP xs)) (nP xs) (nI pi)) (v := some (.ref a_1035)) (by rfl) (⟨with_min hfm, with_int hfi⟩) hP9 hD9 (trivial) hS) hS dX8_with_75 (show 0 + 1 + 1 + 1 ≤ 3 from by first | exact Nat.le_refl _ | decide | omega) (show 0 + ((nP xs) + 1) + ((nP xs) + 1) + 4 ≤ 22 from by first | exact Nat.le_refl _ | decide | omega)

theorem byM_step {x : Sess} {p j : Nat} {g : Nat → Int32} (hp : p < nP x) (hj : j < pMin x p) (h : ∀ m9, m9 < psum (pMin x) p + j → g m9 = nI (iAt x m9)) : ∀ m9, m9 < psum (pMin x) p + (j + 1) → upd g (psum (pMin x) p + j) (nI (pInt x p)) m9 = nI (iAt x m9) := by
  intro m9 hm
  by_cases e : m9 = psum (pMin x) p + j
  · rw [e, pk_us, iAt_eq (p := p) (by omega) (by omega) (by rw [psum_s]; omega)]
  · rw [pk_un e]
    exact h m9 (by omega)
theorem psum_lt {x : Sess} {p j : Nat} (hp : p < nP x) (hj : j < pMin x p) : psum (pMin x) p + j < minOf x := by
  have h1 := minOf_up (x := x) (p := p + 1) (by omega)
  rw [psum_s] at h1
  omega

set_option maxHeartbeats 4000000 in
theorem mX8_byMinutes (l : Launch) (G : Gt) (a : Nat) (xs : Sess) (mi : Nat) (it : Nat) (fm : Nat → Int32) (fi : Nat → Int32) (hx8 : nP xs ≤ 8) (hfm : ∀ p, p < nP xs → fm p = nI (pMin xs p)) (hfi : ∀ p, p < nP xs → fi p = nI (pInt xs p)) (hm2 : minOf xs ≤ 240) (hint : ∀ p, p < nP xs → pInt xs p ≤ 500) : CT l G yX8_byMinutes cX8_byMinutes 5 (some (.array .short)) ({ frames := 2, cells := 1, slots := 240, locals := 37 } : Room) [.ref a] [] (fun (A : Nat → Prop) (H : Heap) => roW G A H [(a, .inr (9, [.int (nI (sDay xs)), .int (nI (sId xs)), .ref mi, .ref it])), (mi, .inl (G.2 1, nP xs, .inl fm)), (it, .inl (G.2 1, nP xs, .inl fi))]) (S := Nat × (Nat → Int32)) (fun (u_ : Nat × (Nat → Int32)) => some (.ref u_.1)) (fun (u_ : Nat × (Nat → Int32)) => (∀ m9, m9 < minOf xs → u_.2 m9 = nI (iAt xs m9))) (fun (u_ : Nat × (Nat → Int32)) => [(u_.1, .inl (G.2 1, minOf xs, .inl u_.2))]) (fun (u_ : Nat × (Nat → Int32)) (H : Heap) => True) := by
  refine CT.of (by decide) (Nat.le_of_ble_eq_true rfl) ?_
  intro p e s m below meth c ls A H locs h9 hH0 hP hS
  obtain ⟨cf, hr, hlk, hnm, hKB, hE, -, hD, -, hA, hAw, hR0, hl⟩ := h9
  have hx := cf.1
  have hb := cf.2.1
  have hml := cf.2.2.1
  have hown : s.vm.findClass RX8 = some m.cls := cf.2.2.2.1
  have hts := cf.2.2.2.2
  have hK := hKB.1
  have hl : lv_has ls 5 [(0, .ref a)] := hl
  refine lv_aload_n hx hb dX8_byMinutes_0 rfl (lv_at hl 0 rfl) ?_
  have hF := hF_of (wc := []) hD hS hA [] rfl
  have hro_1037 : va_P G.1 CL [(a, .inr (9, [.int (nI (sDay xs)), .int (nI (sId xs)), .ref mi, .ref it])), (mi, .inl (G.2 1, (nP xs), .inl fm)), (it, .inl (G.2 1, (nP xs), .inl fi))] H := ((hR0.w hS).sub [0, 1, 2] rfl)
  refine go_ct hS hP hD [] [] hF rfl rfl (by decide) (by decide)
      (va_runV (As := []) (rest := []) cf (mX8_length l G a xs mi it fm fi (show nP xs ≤ 8 from by first | assumption | omega) (show ∀ p, p < nP xs → fm p = nI (pMin xs p) from by first | assumption | omega) (show ∀ p, p < nP xs → fi p = nI (pInt xs p) from by first | assumption | omega) (show minOf xs ≤ 240 from by first | assumption | omega) H.size) (cwV 0 hts (lw_V q1398 q1143 q1144 q78 q1145) rfl rfl rfl (by decide +kernel) ⟨Nat.le_of_ble_eq_true rfl, Nat.le_of_ble_eq_true rfl⟩) (preV_of hKB hE hS hF (va_recv hK (hR0.w hS) (ci := 9) (q0 := 0) rfl rfl) (va_P.sub hP [] rfl) ((va_D.sub hD [] (by decide) rfl).weaken (fun _ _ _ _ => trivial)) (roW.nil hro_1037)) rfl rfl hl.1 rfl (lv_room (Nat.le_of_ble_eq_true rfl)) dX8_byMinutes_1 ⟨show 0 + 0 ≤ 1 from by first | decide | omega, show 0 + 0 ≤ 240 from by first | decide | omega⟩)
      (fun u_ H locs hq hph (hP : va_P G.1 CL [] H) (hD : va_D A []) hS hfz hfk => ?_)
  refine W.eq (g2 := F0 m 4 ls [.int (nI (minOf xs))]) rfl ?_
  refine r_newa_S (n := (minOf xs)) hx hb (hts _ q1126) hKB hP hD hS hA (by omega) (show 0 + 1 ≤ 1 from by first | decide | omega) (show 0 + (minOf xs) ≤ 240 from by first | decide | omega) dX8_byMinutes_4 (fun a_1038 H (hP : va_P G.1 CL [(a_1038, .inl (G.2 1, (minOf xs), .inl (fun _ => 0)))] H) (hD : va_D A [(a_1038, .inl (G.2 1, (minOf xs), .inl (fun _ => 0)))]) hS => ?_)
  refine lv_astore_n (lv' := [(1, .ref a_1038), (0, .ref a)]) hx hb dX8_byMinutes_6 rfl hl (by decide) rfl (fun ls hl => ?_)
  refine lv_iconst (v := nI 0) hx hb dX8_byMinutes_7 (by decide) ?_
  refine lv_istore_n (lv' := [(2, .int (nI 0)), (1, .ref a_1038), (0, .ref a)]) hx hb dX8_byMinutes_8 rfl hl (by decide) rfl (fun ls hl => ?_)
  refine lv_iconst (v := nI 0) hx hb dX8_byMinutes_9 (by decide) ?_
  refine lv_istore_n (lv' := [(3, .int (nI 0)), (2, .int (nI 0)), (1, .ref a_1038), (0, .ref a)]) hx hb dX8_byMinutes_10 rfl hl (by decide) rfl (fun ls hl => ?_)
  have hl := lv_sub hl [3, 2, 1, 0] (l' := [(0, .ref a), (1, .ref a_1038), (2, .int (nI (psum (pMin xs) 0))), (3, .int (nI 0))]) rfl
  refine lp_W (σ := Nat × (Nat → Int32)) (hpc := 11) (fun x => nP xs - x.1) (fun x => 0 + 1) (fun x => 0 + (minOf xs)) (fun x H locs ls => va_P G.1 CL [(a_1038, .inl (G.2 1, (minOf xs), .inl x.2))] H ∧ va_D A [(a_1038, .inl (G.2 1, (minOf xs), .inl x.2))] ∧ va_S A s.heap H locs ∧ lv_has ls 5 [(0, .ref a), (1, .ref a_1038), (2, .int (nI (psum (pMin xs) x.1))), (3, .int (nI x.1))] ∧ (x.1 ≤ nP xs) ∧ (∀ m9, m9 < psum (pMin xs) x.1 → x.2 m9 = nI (iAt xs m9))) ?_ (0, (fun _ => 0)) ⟨(show va_P G.1 CL [(a_1038, .inl (G.2 1, (minOf xs), .inl (fun _ => 0)))] H from hP), (show va_D A [(a_1038, .inl (G.2 1, (minOf xs), .inl (fun _ => 0)))] from hD), hS, hl, (show 0 ≤ nP xs from by omega), (show ∀ m9, m9 < psum (pMin xs) 0 → (fun _ => 0) m9 = nI (iAt xs m9) from fun m9 h9 => absurd h9 (Nat.not_lt_zero _))⟩ (show 0 + 1 ≤ 0 + 1 from by first | exact Nat.le_refl _ | omega) (show 0 + (minOf xs) ≤ 0 + (minOf xs) from by first | exact Nat.le_refl _ | omega)
  intro x H locs ls hI9 ih11
  obtain ⟨p_1041, g_1042⟩ := x
  obtain ⟨hP, hD, hS, hl, hp_1039, hp_1040⟩ := hI9
  have hP : va_P G.1 CL [(a_1038, .inl (G.2 1, (minOf xs), .inl g_1042))] H := hP
  have hD : va_D A [(a_1038, .inl (G.2 1, (minOf xs), .inl g_1042))] := hD
  have hl : lv_has ls 5 [(0, .ref a), (1, .ref a_1038), (2, .int (nI (psum (pMin xs) p_1041))), (3, .int (nI p_1041))] := hl
  have hp_1039 : p_1041 ≤ nP xs := hp_1039
  have hp_1040 : ∀ m9, m9 < psum (pMin xs) p_1041 → g_1042 m9 = nI (iAt xs m9) := hp_1040
  refine W.widen (k := 0 + 1) (n := 0 + (minOf xs)) (Nat.le_refl _) (Nat.le_refl _) ?_
  refine lv_iload_n hx hb dX8_byMinutes_11 rfl (lv_at hl 3 rfl) ?_
  refine lv_aload_n hx hb dX8_byMinutes_12 rfl (lv_at hl 0 rfl) ?_
  refine va_get hx hb hts in_X8 hown hK (hR0.w hS) 0 rfl rfl 2 (by decide) (hts _ q1114) (fun _ h => h) rfl dX8_byMinutes_13 ?_
  refine r_alen hx hb hK (hR0.w hS) 1 1 rfl rfl dX8_byMinutes_16 ?_
  refine n_icmp_ge (tgt := 58) hx hb (by omega) (by omega) dX8_byMinutes_17 (by decide) (fun c_1044 => ?_) (fun c_1044 => ?_)
  · refine lv_aload_n hx hb dX8_byMinutes_58 rfl (lv_at hl 1 rfl) ?_
    have hP9 : va_P G.1 CL [(a_1038, .inl (G.2 1, (minOf xs), .inl g_1042))] H := hP.sub [0] rfl
    have hD9 : va_D A [(a_1038, .inl (G.2 1, (minOf xs), .inl g_1042))] := hD.sub [0] (by decide) rfl
    exact end_a hx hb hr hlk (by first | exact Or.inl ⟨_, rfl⟩ | exact Or.inr ⟨_, rfl⟩) (Or.inr ⟨_, rfl⟩) (qc_of (a_1038, g_1042) (v := some (.ref a_1038)) (by rfl) (fun m9 h9 => hp_1040 m9 (by rw [show p_1041 = nP xs by omega]; exact h9)) hP9 hD9 (trivial) hS) hS dX8_byMinutes_59 (show 0 + 1 ≤ 1 from by first | exact Nat.le_refl _ | decide | omega) (show 0 + (minOf xs) ≤ 240 from by first | exact Nat.le_refl _ | decide | omega)
  · refine lv_iconst (v := nI 0) hx hb dX8_byMinutes_20 (by decide) ?_
    refine lv_istore (lv' := [(4, .int (nI 0)), (0, .ref a), (1, .ref a_1038), (2, .int (nI (psum (pMin xs) p_1041))), (3, .int (nI p_1041))]) hx hb dX8_byMinutes_21 hl (by decide) rfl (fun ls hl => ?_)
    have hpm9 : pMin xs p_1041 ≤ 240 := by have h8 := minOf_up (x := xs) (p := p_1041 + 1) (by omega); rw [psum_s] at h8; omega
    have hl := lv_sub hl [1, 2, 3, 4, 0] (l' := [(0, .ref a), (1, .ref a_1038), (2, .int (nI (psum (pMin xs) p_1041))), (3, .int (nI p_1041)), (4, .int (nI 0))]) rfl
    refine lp_W (σ := Nat × (Nat → Int32)) (hpc := 23) (fun x => pMin xs p_1041 - x.1) (fun x => 0 + 1) (fun x => 0 + (minOf xs)) (fun x H locs ls => va_P G.1 CL [(a_1038, .inl (G.2 1, (minOf xs), .inl x.2))] H ∧ va_D A [(a_1038, .inl (G.2 1, (minOf xs), .inl x.2))] ∧ va_S A s.heap H locs ∧ lv_has ls 5 [(0, .ref a), (1, .ref a_1038), (2, .int (nI ((psum (pMin xs) p_1041) + x.1))), (3, .int (nI p_1041)), (4, .int (nI x.1))] ∧ (x.1 ≤ pMin xs p_1041) ∧ (∀ m9, m9 < psum (pMin xs) p_1041 + x.1 → x.2 m9 = nI (iAt xs m9))) ?_ (0, g_1042) ⟨(show va_P G.1 CL [(a_1038, .inl (G.2 1, (minOf xs), .inl g_1042))] H from hP), (show va_D A [(a_1038, .inl (G.2 1, (minOf xs), .inl g_1042))] from hD), hS, hl, (show 0 ≤ pMin xs p_1041 from by omega), (show ∀ m9, m9 < psum (pMin xs) p_1041 + 0 → g_1042 m9 = nI (iAt xs m9) from hp_1040)⟩ (show 0 + 1 ≤ 0 + 1 from by first | exact Nat.le_refl _ | omega) (show 0 + (minOf xs) ≤ 0 + (minOf xs) from by first | exact Nat.le_refl _ | omega)
    intro x H locs ls hI9 ih23
    obtain ⟨w_1047, g2_1048⟩ := x
    obtain ⟨hP, hD, hS, hl, hp_1045, hp_1046⟩ := hI9
    have hP : va_P G.1 CL [(a_1038, .inl (G.2 1, (minOf xs), .inl g2_1048))] H := hP
    have hD : va_D A [(a_1038, .inl (G.2 1, (minOf xs), .inl g2_1048))] := hD
    have hl : lv_has ls 5 [(0, .ref a), (1, .ref a_1038), (2, .int (nI ((psum (pMin xs) p_1041) + w_1047))), (3, .int (nI p_1041)), (4, .int (nI w_1047))] := hl
    have hp_1045 : w_1047 ≤ pMin xs p_1041 := hp_1045
    have hp_1046 : ∀ m9, m9 < psum (pMin xs) p_1041 + w_1047 → g2_1048 m9 = nI (iAt xs m9) := hp_1046
    refine W.widen (k := 0 + 1) (n := 0 + (minOf xs)) (Nat.le_refl _) (Nat.le_refl _) ?_
    refine lv_iload hx hb dX8_byMinutes_23 (lv_at hl 4 rfl) ?_
    refine lv_aload_n hx hb dX8_byMinutes_25 rfl (lv_at hl 0 rfl) ?_
    refine va_get hx hb hts in_X8 hown hK (hR0.w hS) 0 rfl rfl 2 (by decide) (hts _ q1114) (fun _ h => h) rfl dX8_byMinutes_26 ?_
    refine lv_iload_n hx hb dX8_byMinutes_29 rfl (lv_at hl 3 rfl) ?_
    refine r_sald (v := nI (pMin xs p_1041)) hx hb hK (hR0.w hS) 1 1 rfl rfl (i := p_1041) (by omega) (by omega) (hfm _ (by omega)) dX8_byMinutes_30 ?_
    refine n_icmp_ge (tgt := 52) hx hb (by omega) (by omega) dX8_byMinutes_31 (by decide) (fun c_1050 => ?_) (fun c_1050 => ?_)
    · have he_1051 : psum (pMin xs) (p_1041 + 1) = psum (pMin xs) p_1041 + w_1047 := by rw [psum_s]; omega
      have hl : lv_has ls 5 [(0, .ref a), (1, .ref a_1038), (2, .int (nI (psum (pMin xs) (p_1041 + 1)))), (3, .int (nI p_1041)), (4, .int (nI w_1047))] := by
        have e9 : ((.int (nI (psum (pMin xs) (p_1041 + 1)))) : Value) = .int (nI ((psum (pMin xs) p_1041) + w_1047)) := by rw [he_1051]
        rw [e9]; exact hl
      refine lv_iinc (v := nI (p_1041 + 1)) (lv' := [(3, .int (nI (p_1041 + 1))), (0, .ref a), (1, .ref a_1038), (2, .int (nI (psum (pMin xs) (p_1041 + 1)))), (4, .int (nI w_1047))]) hx hb dX8_byMinutes_52 hl (k := 3) rfl (ninc (b := 1) (by decide) (by omega)) (by decide) rfl (fun ls hl => ?_)
      refine lv_goto (tgt := 11) hx hb dX8_byMinutes_55 (by decide) ?_
      have hP : va_P G.1 CL [(a_1038, .inl (G.2 1, (minOf xs), .inl g2_1048))] H := hP.sub [0] rfl
      have hD : va_D A [(a_1038, .inl (G.2 1, (minOf xs), .inl g2_1048))] := hD.sub [0] (by decide) rfl
      have hl := lv_sub hl [1, 2, 3, 0] (l' := [(0, .ref a), (1, .ref a_1038), (2, .int (nI (psum (pMin xs) (p_1041 + 1)))), (3, .int (nI (p_1041 + 1)))]) rfl
      exact W.widen (show 0 + 1 ≤ 0 + 1 from by first | exact Nat.le_refl _ | omega) (show 0 + (minOf xs) ≤ 0 + (minOf xs) from by first | exact Nat.le_refl _ | omega) (ih11 (p_1041 + 1, g2_1048) H locs ls ⟨hP, hD, hS, hl, (show (p_1041 + 1) ≤ nP xs from by omega), (show ∀ m9, m9 < psum (pMin xs) (p_1041 + 1) → g2_1048 m9 = nI (iAt xs m9) from (fun m9 h9 => hp_1046 m9 (by omega)))⟩ (show nP xs - (p_1041 + 1) < nP xs - p_1041 from by omega))
    · have hplt := psum_lt (x := xs) (p := p_1041) (j := w_1047) (by omega) (by omega)
      have hpint := hint p_1041 (by omega)
      refine lv_aload_n hx hb dX8_byMinutes_34 rfl (lv_at hl 1 rfl) ?_
      refine lv_iload_n hx hb dX8_byMinutes_35 rfl (lv_at hl 2 rfl) ?_
      refine lv_aload_n hx hb dX8_byMinutes_36 rfl (lv_at hl 0 rfl) ?_
      refine va_get hx hb hts in_X8 hown hK (hR0.w hS) 0 rfl rfl 3 (by decide) (hts _ q1116) (fun _ h => h) rfl dX8_byMinutes_37 ?_
      refine lv_iload_n hx hb dX8_byMinutes_40 rfl (lv_at hl 3 rfl) ?_
      refine r_sald (v := nI (pInt xs p_1041)) hx hb hK (hR0.w hS) 2 1 rfl rfl (i := p_1041) (by omega) (by omega) (hfi _ (by omega)) dX8_byMinutes_41 ?_
      refine r_sast (v := nI (pInt xs p_1041)) hx hb hK hP hD hS 0 1 rfl rfl (i := (psum (pMin xs) p_1041) + w_1047) (by omega) (by omega) (nar_s (by omega)) dX8_byMinutes_42 (fun H locs (hP : va_P G.1 CL [(a_1038, .inl (G.2 1, (minOf xs), .inl (upd g2_1048 ((psum (pMin xs) p_1041) + w_1047) (nI (pInt xs p_1041)))))] H) (hD : va_D A [(a_1038, .inl (G.2 1, (minOf xs), .inl (upd g2_1048 ((psum (pMin xs) p_1041) + w_1047) (nI (pInt xs p_1041)))))]) hS => ?_)
      refine lv_iinc (v := nI ((psum (pMin xs) p_1041) + w_1047 + 1)) (lv' := [(2, .int (nI ((psum (pMin xs) p_1041) + w_1047 + 1))), (0, .ref a), (1, .ref a_1038), (3, .int (nI p_1041)), (4, .int (nI w_1047))]) hx hb dX8_byMinutes_43 hl (k := 2) rfl (ninc (b := 1) (by decide) (by omega)) (by decide) rfl (fun ls hl => ?_)
      refine lv_iinc (v := nI (w_1047 + 1)) (lv' := [(4, .int (nI (w_1047 + 1))), (2, .int (nI ((psum (pMin xs) p_1041) + w_1047 + 1))), (0, .ref a), (1, .ref a_1038), (3, .int (nI p_1041))]) hx hb dX8_byMinutes_46 hl (k := 4) rfl (ninc (b := 1) (by decide) (by omega)) (by decide) rfl (fun ls hl => ?_)
      refine lv_goto (tgt := 23) hx hb dX8_byMinutes_49 (by decide) ?_
      have hP : va_P G.1 CL [(a_1038, .inl (G.2 1, (minOf xs), .inl (upd g2_1048 ((psum (pMin xs) p_1041) + w_1047) (nI (pInt xs p_1041)))))] H := hP.sub [0] rfl
      have hD : va_D A [(a_1038, .inl (G.2 1, (minOf xs), .inl (upd g2_1048 ((psum (pMin xs) p_1041) + w_1047) (nI (pInt xs p_1041)))))] := hD.sub [0] (by decide) rfl
      have hl := lv_sub hl [2, 3, 1, 4, 0] (l' := [(0, .ref a), (1, .ref a_1038), (2, .int (nI ((psum (pMin xs) p_1041) + w_1047 + 1))), (3, .int (nI p_1041)), (4, .int (nI (w_1047 + 1)))]) rfl
      exact W.widen (show 0 + 1 ≤ 0 + 1 from by first | exact Nat.le_refl _ | omega) (show 0 + (minOf xs) ≤ 0 + (minOf xs) from by first | exact Nat.le_refl _ | omega) (ih23 (w_1047 + 1, upd g2_1048 ((psum (pMin xs) p_1041) + w_1047) (nI (pInt xs p_1041))) H locs ls ⟨hP, hD, hS, hl, (show (w_1047 + 1) ≤ pMin xs p_1041 from by omega), (show ∀ m9, m9 < psum (pMin xs) p_1041 + (w_1047 + 1) → (upd g2_1048 ((psum (pMin xs) p_1041) + w_1047) (nI (pInt xs p_1041))) m9 = nI (iAt xs m9) from byM_step (by omega) (by omega) hp_1046)⟩ (show pMin xs p_1041 - (w_1047 + 1) < pMin xs p_1041 - w_1047 from by omega))
