/-! the JDK: lists -/
set_option maxRecDepth 100000
set_option maxHeartbeats 4000000 in
theorem mJ0_init (l : Launch) (G : Gt) (a : Nat) : CT l G yJ0_init cJ0_init 1 none ({ frames := 1, cells := 0, slots := 0, locals := 12 } : Room) [.ref a] [] RH0 (S := Unit) (fun (u_ : Unit) => (none : Option Value)) (fun (u_ : Unit) => True) (fun (u_ : Unit) => []) (fun (u_ : Unit) (H : Heap) => True) := by
  refine CT.of (by decide) (Nat.le_of_ble_eq_true rfl) ?_
  intro p e s m below meth c ls A H locs h9 hH0 hP hS
  obtain ⟨cf, hr, hlk, hnm, hKB, hE, -, hD, -, hA, hAw, hRH, hl⟩ := h9
  have hx := cf.1
  have hb := cf.2.1
  have hml := cf.2.2.1
  have hown : s.vm.findClass RJ0 = some m.cls := cf.2.2.2.1
  have hts := cf.2.2.2.2
  have hK := hKB.1
  have hl : lv_has ls 1 [(0, .ref a)] := hl
  refine lv_aload_n hx hb dJ0_init_0 rfl (lv_at hl 0 rfl) ?_
  refine W.objInit hx hb hown (hts _ q114) (hts _ q89) (hts _ q90) rfl (by rw [hml]; exact hl.1) rfl dJ0_init_1 (Nat.le_of_ble_eq_true rfl) (Nat.le_of_ble_eq_true rfl) ?_
  refine W.eq (g2 := F0 m 4 ls []) rfl ?_
  have hP9 : va_P G.1 CL [] H := hP.sub [] rfl
  have hD9 : va_D A [] := hD.sub [] (by decide) rfl
  exact end_v hx hb hr hlk (qc_of () (v := none) (by rfl) (trivial) hP9 hD9 (trivial) hS) hS dJ0_init_4 (show 0 ≤ 0 from by first | exact Nat.le_refl _ | decide | omega) (show 0 ≤ 0 from by first | exact Nat.le_refl _ | decide | omega)

set_option maxHeartbeats 4000000 in
theorem mJ1_init (l : Launch) (G : Gt) (a : Nat) (m0 : Int32) (eo : Option Nat) (z : Int32) : CT l G yJ1_init cJ1_init 1 none ({ frames := 2, cells := 0, slots := 0, locals := 32 } : Room) [.ref a] [(a, .inr (3, [.int m0, va_rf eo, .int z]))] RH0 (S := Unit) (fun (u_ : Unit) => (none : Option Value)) (fun (u_ : Unit) => True) (fun (u_ : Unit) => [(a, .inr (3, [.int (nI 0), va_rf eo, .int z]))]) (fun (u_ : Unit) (H : Heap) => True) := by
  refine CT.of (by decide) (Nat.le_of_ble_eq_true rfl) ?_
  intro p e s m below meth c ls A H locs h9 hH0 hP hS
  obtain ⟨cf, hr, hlk, hnm, hKB, hE, -, hD, -, hA, hAw, hRH, hl⟩ := h9
  have hx := cf.1
  have hb := cf.2.1
  have hml := cf.2.2.1
  have hown : s.vm.findClass RJ1 = some m.cls := cf.2.2.2.1
  have hts := cf.2.2.2.2
  have hK := hKB.1
  have hl : lv_has ls 1 [(0, .ref a)] := hl
  refine lv_aload_n hx hb dJ1_init_0 rfl (lv_at hl 0 rfl) ?_
  have hF := hF_of (wc := []) hD hS hA [] rfl
  refine go_ct hS hP hD [] [0] hF rfl rfl (by decide) (by decide)
      (va_runI (As := []) (rest := []) cf (mJ0_init l G a  H.size) (cwI 0 hts (lw_meth q113) rfl rfl rfl (hts _ q50) (hts _ q111) (hts _ q112) rfl (by decide +kernel) ⟨Nat.le_of_ble_eq_true rfl, Nat.le_of_ble_eq_true rfl⟩) (preS_of hKB hE hS hF (va_P.sub hP [] rfl) ((va_D.sub hD [] (by decide) rfl).weaken (fun _ _ _ _ => trivial)) trivial) rfl rfl hl.1 rfl (lv_room (Nat.le_of_ble_eq_true rfl)) dJ1_init_1 ⟨show 0 + 0 ≤ 0 from by first | decide | omega, show 0 + 0 ≤ 0 from by first | decide | omega⟩)
      (fun u_ H locs hq hph (hP : va_P G.1 CL [(a, .inr (3, [.int m0, va_rf eo, .int z]))] H) (hD : va_D A [(a, .inr (3, [.int m0, va_rf eo, .int z]))]) hS hfz hfk => ?_)
  refine W.eq (g2 := F0 m 4 ls []) rfl ?_
  refine lv_aload_n hx hb dJ1_init_4 rfl (lv_at hl 0 rfl) ?_
  refine lv_iconst (v := nI 0) hx hb dJ1_init_5 (by decide) ?_
  refine va_put (v := .int (nI 0)) (ty := .int) hx hb hts in_J2 tyJ2 tyJ2_ok nmJ2 hown hK hP hD hS 0 rfl rfl 0 (by decide) (hts _ q119) (fun _ h => h) rfl (by decide +kernel) rfl rfl (Nat.le_of_ble_eq_true rfl) dJ1_init_6 (fun H locs (hP : va_P G.1 CL [(a, .inr (3, [.int (nI 0), va_rf eo, .int z]))] H) (hD : va_D A [(a, .inr (3, [.int (nI 0), va_rf eo, .int z]))]) hS => ?_)
  have hP9 : va_P G.1 CL [(a, .inr (3, [.int (nI 0), va_rf eo, .int z]))] H := hP.sub [0] rfl
  have hD9 : va_D A [(a, .inr (3, [.int (nI 0), va_rf eo, .int z]))] := hD.sub [0] (by decide) rfl
  exact end_v hx hb hr hlk (qc_of () (v := none) (by rfl) (trivial) hP9 hD9 (trivial) hS) hS dJ1_init_9 (show 0 ≤ 0 from by first | exact Nat.le_refl _ | decide | omega) (show 0 ≤ 0 from by first | exact Nat.le_refl _ | decide | omega)

set_option maxHeartbeats 4000000 in
theorem mJ2_init (l : Launch) (G : Gt) (a : Nat) : CT l G yJ2_init cJ2_init 1 none ({ frames := 3, cells := 0, slots := 0, locals := 52 } : Room) [.ref a] [(a, .inr (3, [.int (nI 0), .null, .int (nI 0)]))] RH0 (S := Unit) (fun (u_ : Unit) => (none : Option Value)) (fun (u_ : Unit) => True) (fun (u_ : Unit) => [(a, .inr (3, [.int (nI 0), .ref (G.2 99), .int (nI 0)]))]) (fun (u_ : Unit) (H : Heap) => True) := by
  refine CT.of (by decide) (Nat.le_of_ble_eq_true rfl) ?_
  intro p e s m below meth c ls A H locs h9 hH0 hP hS
  obtain ⟨cf, hr, hlk, hnm, hKB, hE, -, hD, -, hA, hAw, hRH, hl⟩ := h9
  have hx := cf.1
  have hb := cf.2.1
  have hml := cf.2.2.1
  have hown : s.vm.findClass RJ2 = some m.cls := cf.2.2.2.1
  have hts := cf.2.2.2.2
  have hK := hKB.1
  have hl : lv_has ls 1 [(0, .ref a)] := hl
  refine lv_aload_n hx hb dJ2_init_0 rfl (lv_at hl 0 rfl) ?_
  have hF := hF_of (wc := [(a, .inr (3, [.int (nI 0), va_rf none, .int (nI 0)]))]) hD hS hA [0] rfl
  refine go_ct hS hP hD [0] [] hF rfl rfl (by decide) (by decide)
      (va_runI (As := []) (rest := []) cf (mJ1_init l G a (nI 0) none (nI 0)  H.size) (cwI 0 hts (lw_meth q110) rfl rfl rfl (hts _ q51) (hts _ q108) (hts _ q109) rfl (by decide +kernel) ⟨Nat.le_of_ble_eq_true rfl, Nat.le_of_ble_eq_true rfl⟩) (preS_of hKB hE hS hF (va_P.sub hP [0] rfl) ((va_D.sub hD [0] (by decide) rfl).weaken (fun _ _ _ _ => trivial)) trivial) rfl rfl hl.1 rfl (lv_room (Nat.le_of_ble_eq_true rfl)) dJ2_init_1 ⟨show 0 + 0 ≤ 0 from by first | decide | omega, show 0 + 0 ≤ 0 from by first | decide | omega⟩)
      (fun u_ H locs hq hph (hP : va_P G.1 CL [(a, .inr (3, [.int (nI 0), va_rf none, .int (nI 0)]))] H) (hD : va_D A [(a, .inr (3, [.int (nI 0), va_rf none, .int (nI 0)]))]) hS hfz hfk => ?_)
  refine W.eq (g2 := F0 m 4 ls []) rfl ?_
  refine lv_aload_n hx hb dJ2_init_4 rfl (lv_at hl 0 rfl) ?_
  refine va_gets (v := .ref (G.2 99)) hx hb hE.2.2.2.1 hS hown (hts _ q115) (fun _ h => h) dJ2_init_5 ?_
  refine va_put (v := .ref (G.2 99)) (ty := (.array (.object "java/lang/Object"))) hx hb hts in_J2 tyJ2 tyJ2_ok nmJ2 hown hK hP hD hS 0 rfl rfl 1 (by decide) (hts _ q117) (fun _ h => h) rfl (by decide +kernel) rfl rfl (Nat.le_of_ble_eq_true rfl) dJ2_init_8 (fun H locs (hP : va_P G.1 CL [(a, .inr (3, [.int (nI 0), .ref (G.2 99), .int (nI 0)]))] H) (hD : va_D A [(a, .inr (3, [.int (nI 0), .ref (G.2 99), .int (nI 0)]))]) hS => ?_)
  have hP9 : va_P G.1 CL [(a, .inr (3, [.int (nI 0), .ref (G.2 99), .int (nI 0)]))] H := hP.sub [0] rfl
  have hD9 : va_D A [(a, .inr (3, [.int (nI 0), .ref (G.2 99), .int (nI 0)]))] := hD.sub [0] (by decide) rfl
  exact end_v hx hb hr hlk (qc_of () (v := none) (by rfl) (trivial) hP9 hD9 (trivial) hS) hS dJ2_init_11 (show 0 ≤ 0 from by first | exact Nat.le_refl _ | decide | omega) (show 0 ≤ 0 from by first | exact Nat.le_refl _ | decide | omega)

set_option maxHeartbeats 4000000 in
theorem mJ2_size (l : Launch) (G : Gt) (a : Nat) (m0 : Int32) (ea : Nat) (k : Nat) : CT l G yJ2_size cJ2_size 1 (some .int) ({ frames := 1, cells := 0, slots := 0, locals := 12 } : Room) [.ref a] [] (fun (A : Nat → Prop) (H : Heap) => roW G A H [(a, .inr (3, [.int m0, .ref ea, .int (nI k)]))]) (S := Unit) (fun (u_ : Unit) => some (.int (nI k))) (fun (u_ : Unit) => True) (fun (u_ : Unit) => []) (fun (u_ : Unit) (H : Heap) => True) := by
  refine CT.of (by decide) (Nat.le_of_ble_eq_true rfl) ?_
  intro p e s m below meth c ls A H locs h9 hH0 hP hS
  obtain ⟨cf, hr, hlk, hnm, hKB, hE, -, hD, -, hA, hAw, hR0, hl⟩ := h9
  have hx := cf.1
  have hb := cf.2.1
  have hml := cf.2.2.1
  have hown : s.vm.findClass RJ2 = some m.cls := cf.2.2.2.1
  have hts := cf.2.2.2.2
  have hK := hKB.1
  have hl : lv_has ls 1 [(0, .ref a)] := hl
  refine lv_aload_n hx hb dJ2_size_0 rfl (lv_at hl 0 rfl) ?_
  refine va_get hx hb hts in_J2 hown hK (hR0.w hS) 0 rfl rfl 2 (by decide) (hts _ q118) (fun _ h => h) rfl dJ2_size_1 ?_
  have hP9 : va_P G.1 CL [] H := hP.sub [] rfl
  have hD9 : va_D A [] := hD.sub [] (by decide) rfl
  exact end_i hx hb hr hlk (rfl) (qc_of () (v := some (.int (nI k))) (by rfl) (trivial) hP9 hD9 (trivial) hS) hS dJ2_size_4 (show 0 ≤ 0 from by first | exact Nat.le_refl _ | decide | omega) (show 0 ≤ 0 from by first | exact Nat.le_refl _ | decide | omega)

set_option maxHeartbeats 4000000 in
theorem mJ13_checkIndex (l : Launch) (G : Gt) (i : Nat) (k : Nat) (hi : i < k) (hk : k < 2 ^ 31) : CT l G yJ13_checkIndex cJ13_checkIndex 3 (some .int) ({ frames := 1, cells := 0, slots := 0, locals := 12 } : Room) [.int (nI i), .int (nI k), .null] [] RH0 (S := Unit) (fun (u_ : Unit) => some (.int (nI i))) (fun (u_ : Unit) => True) (fun (u_ : Unit) => []) (fun (u_ : Unit) (H : Heap) => True) := by
  refine CT.of (by decide) (Nat.le_of_ble_eq_true rfl) ?_
  intro p e s m below meth c ls A H locs h9 hH0 hP hS
  obtain ⟨cf, hr, hlk, hnm, hKB, hE, -, hD, -, hA, hAw, hRH, hl⟩ := h9
  have hx := cf.1
  have hb := cf.2.1
  have hml := cf.2.2.1
  have hown : s.vm.findClass RJ13 = some m.cls := cf.2.2.2.1
  have hts := cf.2.2.2.2
  have hK := hKB.1
  have hl : lv_has ls 3 [(0, .int (nI i)), (1, .int (nI k)), (2, .null)] := hl
  refine lv_iload_n hx hb dJ13_checkIndex_0 rfl (lv_at hl 0 rfl) ?_
  refine n_if_lt (tgt := 9) hx hb (by omega) dJ13_checkIndex_1 (by decide) ?_
  refine lv_iload_n hx hb dJ13_checkIndex_4 rfl (lv_at hl 0 rfl) ?_
  refine lv_iload_n hx hb dJ13_checkIndex_5 rfl (lv_at hl 1 rfl) ?_
  refine n_icmp_lt (tgt := 16) hx hb (by omega) (by omega) dJ13_checkIndex_6 (by decide) (fun c_945 => ?_) (fun c_945 => absurd c_945 (by omega))
  refine lv_iload_n hx hb dJ13_checkIndex_16 rfl (lv_at hl 0 rfl) ?_
  have hP9 : va_P G.1 CL [] H := hP.sub [] rfl
  have hD9 : va_D A [] := hD.sub [] (by decide) rfl
  exact end_i hx hb hr hlk (rfl) (qc_of () (v := some (.int (nI i))) (by rfl) (trivial) hP9 hD9 (trivial) hS) hS dJ13_checkIndex_17 (show 0 ≤ 0 from by first | exact Nat.le_refl _ | decide | omega) (show 0 ≤ 0 from by first | exact Nat.le_refl _ | decide | omega)

set_option maxHeartbeats 4000000 in
theorem mJ12_checkIndex (l : Launch) (G : Gt) (i : Nat) (k : Nat) (hi : i < k) (hk : k < 2 ^ 31) : CT l G yJ12_checkIndex cJ12_checkIndex 2 (some .int) ({ frames := 2, cells := 0, slots := 0, locals := 34 } : Room) [.int (nI i), .int (nI k)] [] RH0 (S := Unit) (fun (u_ : Unit) => some (.int (nI i))) (fun (u_ : Unit) => True) (fun (u_ : Unit) => []) (fun (u_ : Unit) (H : Heap) => True) := by
  refine CT.of (by decide) (Nat.le_of_ble_eq_true rfl) ?_
  intro p e s m below meth c ls A H locs h9 hH0 hP hS
  obtain ⟨cf, hr, hlk, hnm, hKB, hE, -, hD, -, hA, hAw, hRH, hl⟩ := h9
  have hx := cf.1
  have hb := cf.2.1
  have hml := cf.2.2.1
  have hown : s.vm.findClass RJ12 = some m.cls := cf.2.2.2.1
  have hts := cf.2.2.2.2
  have hK := hKB.1
  have hl : lv_has ls 2 [(0, .int (nI i)), (1, .int (nI k))] := hl
  refine lv_iload_n hx hb dJ12_checkIndex_0 rfl (lv_at hl 0 rfl) ?_
  refine lv_iload_n hx hb dJ12_checkIndex_1 rfl (lv_at hl 1 rfl) ?_
  refine lv_null hx hb dJ12_checkIndex_2 ?_
  have hF := hF_of (wc := []) hD hS hA [] rfl
  refine go_ct hS hP hD [] [] hF rfl rfl (by decide) (by decide)
      (va_runS (As := [.int (nI i), .int (nI k), .null]) (rest := []) cf (mJ13_checkIndex l G i k (show i < k from by first | assumption | omega) (show k < 2 ^ 31 from by first | assumption | omega) H.size) (va_cwS 3 hts (lw_S q410 q411 q65 q412) rfl rfl rfl (by decide +kernel) ⟨Nat.le_of_ble_eq_true rfl, Nat.le_of_ble_eq_true rfl⟩) (preS_of hKB hE hS hF (va_P.sub hP [] rfl) ((va_D.sub hD [] (by decide) rfl).weaken (fun _ _ _ _ => trivial)) trivial) rfl rfl hl.1 rfl (lv_room (Nat.le_of_ble_eq_true rfl)) dJ12_checkIndex_3 ⟨show 0 + 0 ≤ 0 from by first | decide | omega, show 0 + 0 ≤ 0 from by first | decide | omega⟩)
      (fun u_ H locs hq hph (hP : va_P G.1 CL [] H) (hD : va_D A []) hS hfz hfk => ?_)
  refine W.eq (g2 := F0 m 6 ls [.int (nI i)]) rfl ?_
  have hP9 : va_P G.1 CL [] H := hP.sub [] rfl
  have hD9 : va_D A [] := hD.sub [] (by decide) rfl
  exact end_i hx hb hr hlk (rfl) (qc_of () (v := some (.int (nI i))) (by rfl) (trivial) hP9 hD9 (trivial) hS) hS dJ12_checkIndex_6 (show 0 ≤ 0 from by first | exact Nat.le_refl _ | decide | omega) (show 0 ≤ 0 from by first | exact Nat.le_refl _ | decide | omega)

set_option maxHeartbeats 4000000 in
theorem mJ2_elementData (l : Launch) (G : Gt) (a : Nat) (m0 : Int32) (ea : Nat) (k : Nat) (cap : Nat) (f : Nat → Option Nat) (i : Nat) (g : Nat) (hi : i < cap) (hc : cap < 2 ^ 31) (hg : f i = some g) : CT l G yJ2_elementData cJ2_elementData 2 (some (.object "java/lang/Object")) ({ frames := 1, cells := 0, slots := 0, locals := 12 } : Room) [.ref a, .int (nI i)] [] (fun (A : Nat → Prop) (H : Heap) => roW G A H [(a, .inr (3, [.int m0, .ref ea, .int (nI k)])), (ea, .inl (G.2 3, cap, .inr (.inr (.inr (.inr f)))))]) (S := Unit) (fun (u_ : Unit) => some (.ref g)) (fun (u_ : Unit) => True) (fun (u_ : Unit) => []) (fun (u_ : Unit) (H : Heap) => True) := by
  refine CT.of (by decide) (Nat.le_of_ble_eq_true rfl) ?_
  intro p e s m below meth c ls A H locs h9 hH0 hP hS
  obtain ⟨cf, hr, hlk, hnm, hKB, hE, -, hD, -, hA, hAw, hR0, hl⟩ := h9
  have hx := cf.1
  have hb := cf.2.1
  have hml := cf.2.2.1
  have hown : s.vm.findClass RJ2 = some m.cls := cf.2.2.2.1
  have hts := cf.2.2.2.2
  have hK := hKB.1
  have hl : lv_has ls 2 [(0, .ref a), (1, .int (nI i))] := hl
  refine lv_aload_n hx hb dJ2_elementData_0 rfl (lv_at hl 0 rfl) ?_
  refine va_get hx hb hts in_J2 hown hK (hR0.w hS) 0 rfl rfl 1 (by decide) (hts _ q117) (fun _ h => h) rfl dJ2_elementData_1 ?_
  refine lv_iload_n hx hb dJ2_elementData_4 rfl (lv_at hl 1 rfl) ?_
  refine r_aaldO (v := g) hx hb hK (hR0.w hS) 1 3 rfl rfl (i := i) (by omega) (by omega) (hg) dJ2_elementData_5 ?_
  have hP9 : va_P G.1 CL [] H := hP.sub [] rfl
  have hD9 : va_D A [] := hD.sub [] (by decide) rfl
  exact end_a hx hb hr hlk (by first | exact Or.inl ⟨_, rfl⟩ | exact Or.inr ⟨_, rfl⟩) (Or.inr ⟨_, rfl⟩) (qc_of () (v := some (.ref g)) (by rfl) (trivial) hP9 hD9 (trivial) hS) hS dJ2_elementData_6 (show 0 ≤ 0 from by first | exact Nat.le_refl _ | decide | omega) (show 0 ≤ 0 from by first | exact Nat.le_refl _ | decide | omega)

set_option maxHeartbeats 4000000 in
theorem mJ2_get (l : Launch) (G : Gt) (a : Nat) (m0 : Int32) (ea : Nat) (k : Nat) (cap : Nat) (f : Nat → Option Nat) (i : Nat) (g : Nat) (hi : i < k) (hk : k ≤ cap) (hc : cap < 2 ^ 31) (hg : f i = some g) : CT l G yJ2_get cJ2_get 2 (some (.object "java/lang/Object")) ({ frames := 3, cells := 0, slots := 0, locals := 55 } : Room) [.ref a, .int (nI i)] [] (fun (A : Nat → Prop) (H : Heap) => roW G A H [(a, .inr (3, [.int m0, .ref ea, .int (nI k)])), (ea, .inl (G.2 3, cap, .inr (.inr (.inr (.inr f)))))]) (S := Unit) (fun (u_ : Unit) => some (.ref g)) (fun (u_ : Unit) => True) (fun (u_ : Unit) => []) (fun (u_ : Unit) (H : Heap) => True) := by
  refine CT.of (by decide) (Nat.le_of_ble_eq_true rfl) ?_
  intro p e s m below meth c ls A H locs h9 hH0 hP hS
  obtain ⟨cf, hr, hlk, hnm, hKB, hE, -, hD, -, hA, hAw, hR0, hl⟩ := h9
  have hx := cf.1
  have hb := cf.2.1
  have hml := cf.2.2.1
  have hown : s.vm.findClass RJ2 = some m.cls := cf.2.2.2.1
  have hts := cf.2.2.2.2
  have hK := hKB.1
  have hl : lv_has ls 2 [(0, .ref a), (1, .int (nI i))] := hl
  refine lv_iload_n hx hb dJ2_get_0 rfl (lv_at hl 1 rfl) ?_
  refine lv_aload_n hx hb dJ2_get_1 rfl (lv_at hl 0 rfl) ?_
  refine va_get hx hb hts in_J2 hown hK (hR0.w hS) 0 rfl rfl 2 (by decide) (hts _ q118) (fun _ h => h) rfl dJ2_get_2 ?_
  have hF := hF_of (wc := []) hD hS hA [] rfl
  refine go_ct hS hP hD [] [] hF rfl rfl (by decide) (by decide)
      (va_runS (As := [.int (nI i), .int (nI k)]) (rest := []) cf (mJ12_checkIndex l G i k (show i < k from by first | assumption | omega) (show k < 2 ^ 31 from by first | assumption | omega) H.size) (va_cwS 2 hts (lw_S q407 q408 q64 q409) rfl rfl rfl (by decide +kernel) ⟨Nat.le_of_ble_eq_true rfl, Nat.le_of_ble_eq_true rfl⟩) (preS_of hKB hE hS hF (va_P.sub hP [] rfl) ((va_D.sub hD [] (by decide) rfl).weaken (fun _ _ _ _ => trivial)) trivial) rfl rfl hl.1 rfl (lv_room (Nat.le_of_ble_eq_true rfl)) dJ2_get_5 ⟨show 0 + 0 ≤ 0 from by first | decide | omega, show 0 + 0 ≤ 0 from by first | decide | omega⟩)
      (fun u_ H locs hq hph (hP : va_P G.1 CL [] H) (hD : va_D A []) hS hfz hfk => ?_)
  refine W.eq (g2 := F0 m 8 ls [.int (nI i)]) rfl ?_
  refine lv_pop hx hb dJ2_get_8 rfl ?_
  refine lv_aload_n hx hb dJ2_get_9 rfl (lv_at hl 0 rfl) ?_
  refine lv_iload_n hx hb dJ2_get_10 rfl (lv_at hl 1 rfl) ?_
  have hF := hF_of (wc := []) hD hS hA [] rfl
  have hro_946 : va_P G.1 CL [(a, .inr (3, [.int m0, .ref ea, .int (nI k)])), (ea, .inl (G.2 3, cap, .inr (.inr (.inr (.inr f)))))] H := ((hR0.w hS).sub [0, 1] rfl)
  refine go_ct hS hP hD [] [] hF rfl rfl (by decide) (by decide)
      (va_runV (As := [.int (nI i)]) (rest := []) cf (mJ2_elementData l G a m0 ea k cap f i g (show i < cap from by first | assumption | omega) (show cap < 2 ^ 31 from by first | assumption | omega) (hg) H.size) (cwV 1 hts (lw_V q413 q414 q415 q52 q416) rfl rfl rfl (by decide +kernel) ⟨Nat.le_of_ble_eq_true rfl, Nat.le_of_ble_eq_true rfl⟩) (preV_of hKB hE hS hF (va_recv hK (hR0.w hS) (ci := 3) (q0 := 0) rfl rfl) (va_P.sub hP [] rfl) ((va_D.sub hD [] (by decide) rfl).weaken (fun _ _ _ _ => trivial)) (roW.nil hro_946)) rfl rfl hl.1 rfl (lv_room (Nat.le_of_ble_eq_true rfl)) dJ2_get_11 ⟨show 0 + 0 ≤ 0 from by first | decide | omega, show 0 + 0 ≤ 0 from by first | decide | omega⟩)
      (fun u_ H locs hq hph (hP : va_P G.1 CL [] H) (hD : va_D A []) hS hfz hfk => ?_)
  refine W.eq (g2 := F0 m 14 ls [.ref g]) rfl ?_
  have hP9 : va_P G.1 CL [] H := hP.sub [] rfl
  have hD9 : va_D A [] := hD.sub [] (by decide) rfl
  exact end_a hx hb hr hlk (by first | exact Or.inl ⟨_, rfl⟩ | exact Or.inr ⟨_, rfl⟩) (Or.inr ⟨_, rfl⟩) (qc_of () (v := some (.ref g)) (by rfl) (trivial) hP9 hD9 (trivial) hS) hS dJ2_get_14 (show 0 ≤ 0 from by first | exact Nat.le_refl _ | decide | omega) (show 0 ≤ 0 from by first | exact Nat.le_refl _ | decide | omega)

set_option maxHeartbeats 4000000 in
theorem mJ14_newLength (l : Launch) (G : Gt) (aol : Nat) (mg : Nat) (pg : Nat) (ho : aol ≤ 1000) (hm : 1 ≤ mg ∧ mg ≤ 1000) (hp : pg ≤ 1000) : CT l G yJ14_newLength cJ14_newLength 4 (some .int) ({ frames := 1, cells := 0, slots := 0, locals := 20 } : Room) [.int (nI aol), .int (nI mg), .int (nI pg)] [] RH0 (S := Unit) (fun (u_ : Unit) => some (.int (nI (aol + (max mg pg))))) (fun (u_ : Unit) => True) (fun (u_ : Unit) => []) (fun (u_ : Unit) (H : Heap) => True) := by
  refine CT.of (by decide) (Nat.le_of_ble_eq_true rfl) ?_
  intro p e s m below meth c ls A H locs h9 hH0 hP hS
  obtain ⟨cf, hr, hlk, hnm, hKB, hE, -, hD, -, hA, hAw, hRH, hl⟩ := h9
  have hx := cf.1
  have hb := cf.2.1
  have hml := cf.2.2.1
  have hown : s.vm.findClass RJ14 = some m.cls := cf.2.2.2.1
  have hts := cf.2.2.2.2
  have hK := hKB.1
  have hl : lv_has ls 4 [(0, .int (nI aol)), (1, .int (nI mg)), (2, .int (nI pg))] := hl
  refine lv_iload_n hx hb dJ14_newLength_0 rfl (lv_at hl 0 rfl) ?_
  refine lv_iload_n hx hb dJ14_newLength_1 rfl (lv_at hl 1 rfl) ?_
  refine lv_iload_n hx hb dJ14_newLength_2 rfl (lv_at hl 2 rfl) ?_
  refine va_mmax hx hb (by rw [hml]; exact hl.1.symm) hown (hts _ q504) (hts _ q505) (hts _ q67) (hts _ q506) (Nat.le_of_ble_eq_true rfl) (Nat.le_of_ble_eq_true rfl) (show 0 ≤ 0 from by first | decide | omega) (show 0 ≤ 0 from by first | decide | omega) dJ14_newLength_3 ?_
  refine lv_toi (y := imax (nI mg) (nI pg)) (rfl) ?_
  refine W.eq (g2 := F0 m 6 ls [.int (imax (nI mg) (nI pg)), .int (nI aol)]) rfl ?_
  refine lv_ton (n := (max mg pg)) (imax_n (by omega) (by omega)) ?_
  have hmx : 1 ≤ max mg pg ∧ max mg pg ≤ 1000 := ⟨Nat.le_trans hm.1 (Nat.le_max_left _ _), Nat.max_le.mpr ⟨hm.2, hp⟩⟩
  refine lv_iadd hx hb dJ14_newLength_6 ?_
  refine lv_ton (n := aol + (max mg pg)) (nadd (by omega)) ?_
  refine lv_istore_n (lv' := [(3, .int (nI (aol + (max mg pg)))), (0, .int (nI aol)), (1, .int (nI mg)), (2, .int (nI pg))]) hx hb dJ14_newLength_7 rfl hl (by decide) rfl (fun ls hl => ?_)
  refine lv_iconst (v := nI 0) hx hb dJ14_newLength_8 (by decide) ?_
  refine lv_iload_n hx hb dJ14_newLength_9 rfl (lv_at hl 0 rfl) ?_
  refine n_icmp_ge (tgt := 21) hx hb (by omega) (by omega) dJ14_newLength_10 (by decide) (fun c_948 => absurd c_948 (by omega)) (fun c_948 => ?_)
  refine lv_iload_n hx hb dJ14_newLength_13 rfl (lv_at hl 0 rfl) ?_
  refine lv_ldc (v := nI 2147483639) hx hb hown (hts _ q507) dJ14_newLength_14 ?_
  refine n_icmp_gt (tgt := 21) hx hb (by omega) (by omega) dJ14_newLength_16 (by decide) (fun c_950 => absurd c_950 (by omega)) (fun c_950 => ?_)
  refine lv_iload_n hx hb dJ14_newLength_19 rfl (lv_at hl 0 rfl) ?_
  have hP9 : va_P G.1 CL [] H := hP.sub [] rfl
  have hD9 : va_D A [] := hD.sub [] (by decide) rfl
  exact end_i hx hb hr hlk (rfl) (qc_of () (v := some (.int (nI (aol + (max mg pg))))) (by rfl) (trivial) hP9 hD9 (trivial) hS) hS dJ14_newLength_20 (show 0 ≤ 0 from by first | exact Nat.le_refl _ | decide | omega) (show 0 ≤ 0 from by first | exact Nat.le_refl _ | decide | omega)

set_option maxHeartbeats 4000000 in
theorem mJ16_copyOf_2 (l : Launch) (G : Gt) (a : Nat) (n1 : Nat) (f : Nat → Option Nat) (n2 : Nat) (Wi : va_W) (h12 : n1 ≤ n2) (hn2 : n2 ≤ 1000) (hel : ∀ i, i < n1 → ∀ y, f i = some y → ElIn Wi y) : CT l G yJ16_copyOf_2 cJ16_copyOf_2 4 (some (.array (.object "java/lang/Object"))) ({ frames := 1, cells := 1, slots := n2, locals := 34 } : Room) [.ref a, .int (nI n2), .ref (G.2 98)] [] (fun (A : Nat → Prop) (H : Heap) => roW G A H [(a, .inl (G.2 3, n1, .inr (.inr (.inr (.inr f)))))] ∧ roW G A H Wi) (S := Nat) (fun (u_ : Nat) => some (.ref u_)) (fun (u_ : Nat) => True) (fun (u_ : Nat) => [(u_, .inl (G.2 3, n2, .inr (.inr (.inr (.inr (va_cpy f (fun _ => none) 0 0 n1))))))]) (fun (u_ : Nat) (H : Heap) => True) := by
  refine CT.of (by decide) (Nat.le_of_ble_eq_true rfl) ?_
  intro p e s m below meth c ls A H locs h9 hH0 hP hS
  obtain ⟨cf, hr, hlk, hnm, hKB, hE, -, hD, -, hA, hAw, ⟨hR0, hR1⟩, hl⟩ := h9
  have hx := cf.1
  have hb := cf.2.1
  have hml := cf.2.2.1
  have hown : s.vm.findClass RJ16 = some m.cls := cf.2.2.2.1
  have hts := cf.2.2.2.2
  have hK := hKB.1
  have hl : lv_has ls 4 [(0, .ref a), (1, .int (nI n2)), (2, .ref (G.2 98))] := hl
  refine lv_aload_n hx hb dJ16_copyOf_2_0 rfl (lv_at hl 2 rfl) ?_
  refine va_ldcM hx hb hown (hts _ q540) hKB.2.2.2.2.2.2.1 dJ16_copyOf_2_1 ?_
  refine lv_acmp_ne (rx := some (G.2 98)) (ry := some (G.2 98)) (tgt := 13) hx hb dJ16_copyOf_2_3 (by decide) (fun c_951 => absurd rfl c_951) (fun c_951 => ?_)
  refine lv_iload_n hx hb dJ16_copyOf_2_6 rfl (lv_at hl 1 rfl) ?_
  refine r_newa_O (n := n2) hx hb hown (hts _ q541) hKB hP hD hS hA (by omega) (show 0 + 1 ≤ 1 from by first | decide | omega) (show 0 + n2 ≤ n2 from by first | decide | omega) dJ16_copyOf_2_7 (fun a_952 H (hP : va_P G.1 CL [(a_952, .inl (G.2 3, n2, .inr (.inr (.inr (.inr (fun _ => none))))))] H) (hD : va_D A [(a_952, .inl (G.2 3, n2, .inr (.inr (.inr (.inr (fun _ => none))))))]) hS => ?_)
  refine lv_goto (tgt := 24) hx hb dJ16_copyOf_2_10 (by decide) ?_
  refine lv_astore_n (lv' := [(3, .ref a_952), (0, .ref a), (1, .int (nI n2)), (2, .ref (G.2 98))]) hx hb dJ16_copyOf_2_24 rfl hl (by decide) rfl (fun ls hl => ?_)
  refine lv_aload_n hx hb dJ16_copyOf_2_25 rfl (lv_at hl 1 rfl) ?_
  refine lv_iconst (v := nI 0) hx hb dJ16_copyOf_2_26 (by decide) ?_
  refine lv_aload_n hx hb dJ16_copyOf_2_27 rfl (lv_at hl 0 rfl) ?_
  refine lv_iconst (v := nI 0) hx hb dJ16_copyOf_2_28 (by decide) ?_
  refine lv_aload_n hx hb dJ16_copyOf_2_29 rfl (lv_at hl 1 rfl) ?_
  refine r_alen hx hb hK (hR0.w hS) 0 3 rfl rfl dJ16_copyOf_2_30 ?_
  refine lv_iload_n hx hb dJ16_copyOf_2_31 rfl (lv_at hl 2 rfl) ?_
  refine va_mmin hx hb (by rw [hml]; exact hl.1.symm) hown (hts _ q542) (hts _ q543) (hts _ q67) (hts _ q544) (Nat.le_of_ble_eq_true rfl) (Nat.le_of_ble_eq_true rfl) (show 0 + 1 ≤ 1 from by first | decide | omega) (show 0 + n2 ≤ n2 from by first | decide | omega) dJ16_copyOf_2_32 ?_
  refine lv_toi (y := imin (nI n1) (nI n2)) (rfl) ?_
  refine W.eq (g2 := F0 m 35 ls [.int (imin (nI n1) (nI n2)), .int (nI 0), .ref a_952, .int (nI 0), .ref a]) rfl ?_
  refine lv_ton (n := n1) ((imin_n (by omega) (by omega)).trans (congrArg nI (Nat.min_eq_left h12))) ?_
  refine r_copyO hx hb (by rw [hml]; exact hl.1.symm) hown (hts _ q545) (hts _ q547) (hts _ q546) (hts _ q69) hKB (hR0.w hS) 0 hP hD hS 0 (sp := 0) (dp := 0) (n := n1) rfl rfl (by omega) (by omega) (by omega) (by omega) (fun i hi y hy => any_el hKB (hR1.w hS) (hel i hi y (by rw [Nat.zero_add] at hy; exact hy))) (Nat.le_of_ble_eq_true rfl) (Nat.le_of_ble_eq_true rfl) dJ16_copyOf_2_35 (fun H locs (hP : va_P G.1 CL [(a_952, .inl (G.2 3, n2, .inr (.inr (.inr (.inr (va_cpy f (fun _ => none) 0 0 n1))))))] H) (hD : va_D A [(a_952, .inl (G.2 3, n2, .inr (.inr (.inr (.inr (va_cpy f (fun _ => none) 0 0 n1))))))]) hS => ?_)
  refine lv_aload_n hx hb dJ16_copyOf_2_38 rfl (lv_at hl 0 rfl) ?_
  have hP9 : va_P G.1 CL [(a_952, .inl (G.2 3, n2, .inr (.inr (.inr (.inr (va_cpy f (fun _ => none) 0 0 n1))))))] H := hP.sub [0] rfl
  have hD9 : va_D A [(a_952, .inl (G.2 3, n2, .inr (.inr (.inr (.inr (va_cpy f (fun _ => none) 0 0 n1))))))] := hD.sub [0] (by decide) rfl
  exact end_a hx hb hr hlk (by first | exact Or.inl ⟨_, rfl⟩ | exact Or.inr ⟨_, rfl⟩) (Or.inr ⟨_, rfl⟩) (qc_of a_952 (v := some (.ref a_952)) (by rfl) (trivial) hP9 hD9 (trivial) hS) hS dJ16_copyOf_2_39 (show 0 + 1 ≤ 1 from by first | exact Nat.le_refl _ | decide | omega) (show 0 + n2 ≤ n2 from by first | exact Nat.le_refl _ | decide | omega)

set_option maxHeartbeats 4000000 in
theorem mJ16_copyOf (l : Launch) (G : Gt) (a : Nat) (n1 : Nat) (f : Nat → Option Nat) (n2 : Nat) (Wi : va_W) (h12 : n1 ≤ n2) (hn2 : n2 ≤ 1000) (hel : ∀ i, i < n1 → ∀ y, f i = some y → ElIn Wi y) : CT l G yJ16_copyOf cJ16_copyOf 2 (some (.array (.object "java/lang/Object"))) ({ frames := 2, cells := 1, slots := n2, locals := 57 } : Room) [.ref a, .int (nI n2)] [] (fun (A : Nat → Prop) (H : Heap) => roW G A H [(a, .inl (G.2 3, n1, .inr (.inr (.inr (.inr f)))))] ∧ roW G A H Wi) (S := Nat) (fun (u_ : Nat) => some (.ref u_)) (fun (u_ : Nat) => True) (fun (u_ : Nat) => [(u_, .inl (G.2 3, n2, .inr (.inr (.inr (.inr (va_cpy f (fun _ => none) 0 0 n1))))))]) (fun (u_ : Nat) (H : Heap) => True) := by
  refine CT.of (by decide) (Nat.le_of_ble_eq_true rfl) ?_
  intro p e s m below meth c ls A H locs h9 hH0 hP hS
  obtain ⟨cf, hr, hlk, hnm, hKB, hE, -, hD, -, hA, hAw, ⟨hR0, hR1⟩, hl⟩ := h9
  have hx := cf.1
  have hb := cf.2.1
  have hml := cf.2.2.1
  have hown : s.vm.findClass RJ16 = some m.cls := cf.2.2.2.1
  have hts := cf.2.2.2.2
  have hK := hKB.1
  have hl : lv_has ls 2 [(0, .ref a), (1, .int (nI n2))] := hl
  refine lv_aload_n hx hb dJ16_copyOf_0 rfl (lv_at hl 0 rfl) ?_
  refine lv_iload_n hx hb dJ16_copyOf_1 rfl (lv_at hl 1 rfl) ?_
  refine lv_aload_n hx hb dJ16_copyOf_2 rfl (lv_at hl 0 rfl) ?_
  refine va_getC (C := "[Ljava/lang/Object;") hx hb (by rw [hml]; exact hl.1.symm) hown (hts _ q514) (va_Nw.use rfl (hKB.nest q2008 rfl)) (hts _ q2007) (hts _ q515) (hts _ q536) hKB.2.2.2.2.2.2.1 (recvO hKB (hR0.w hS) (k := 0) rfl) (Nat.le_of_ble_eq_true rfl) (Nat.le_of_ble_eq_true rfl) dJ16_copyOf_3 ?_
  have hF := hF_of (wc := []) hD hS hA [] rfl
  have hro_953 : va_P G.1 CL [(a, .inl (G.2 3, n1, .inr (.inr (.inr (.inr f)))))] H := ((hR0.w hS).sub [0] rfl)
  refine go_ct hS hP hD [] [] hF rfl rfl (by decide) (by decide)
      (va_runS (As := [.ref a, .int (nI n2), .ref (G.2 98)]) (rest := []) cf (mJ16_copyOf_2 l G a n1 f n2 Wi (show n1 ≤ n2 from by first | assumption | omega) (show n2 ≤ 1000 from by first | assumption | omega) (show ∀ i, i < n1 → ∀ y, f i = some y → ElIn Wi y from by first | assumption | omega) H.size) (va_cwS 3 hts (lw_S q537 q538 q68 q539) rfl rfl rfl (by decide +kernel) ⟨Nat.le_of_ble_eq_true rfl, Nat.le_of_ble_eq_true rfl⟩) (preS_of hKB hE hS hF (va_P.sub hP [] rfl) ((va_D.sub hD [] (by decide) rfl).weaken (fun _ _ _ _ => trivial)) ⟨(roW.nil hro_953), (roW.nil (hR1.w hS))⟩) rfl rfl hl.1 rfl (lv_room (Nat.le_of_ble_eq_true rfl)) dJ16_copyOf_6 ⟨show 0 + 1 ≤ 1 from by first | decide | omega, show 0 + n2 ≤ n2 from by first | decide | omega⟩)
      (fun u_ H locs hq hph (hP : va_P G.1 CL [(u_, .inl (G.2 3, n2, .inr (.inr (.inr (.inr (va_cpy f (fun _ => none) 0 0 n1))))))] H) (hD : va_D A [(u_, .inl (G.2 3, n2, .inr (.inr (.inr (.inr (va_cpy f (fun _ => none) 0 0 n1))))))]) hS hfz hfk => ?_)
  obtain ⟨qa_954, rfl⟩ : ∃ z, z = u_ := ⟨_, rfl⟩
  have hP : va_P G.1 CL [(qa_954, .inl (G.2 3, n2, .inr (.inr (.inr (.inr (va_cpy f (fun _ => none) 0 0 n1))))))] H := hP
  have hD : va_D A [(qa_954, .inl (G.2 3, n2, .inr (.inr (.inr (.inr (va_cpy f (fun _ => none) 0 0 n1))))))] := hD
  refine W.eq (g2 := F0 m 9 ls [.ref qa_954]) rfl ?_
  have hP9 : va_P G.1 CL [(qa_954, .inl (G.2 3, n2, .inr (.inr (.inr (.inr (va_cpy f (fun _ => none) 0 0 n1))))))] H := hP.sub [0] rfl
  have hD9 : va_D A [(qa_954, .inl (G.2 3, n2, .inr (.inr (.inr (.inr (va_cpy f (fun _ => none) 0 0 n1))))))] := hD.sub [0] (by decide) rfl
  exact end_a hx hb hr hlk (by first | exact Or.inl ⟨_, rfl⟩ | exact Or.inr ⟨_, rfl⟩) (Or.inr ⟨_, rfl⟩) (qc_of qa_954 (v := some (.ref qa_954)) (by rfl) (trivial) hP9 hD9 (trivial) hS) hS dJ16_copyOf_9 (show 0 + 1 ≤ 1 from by first | exact Nat.le_refl _ | decide | omega) (show 0 + n2 ≤ n2 from by first | exact Nat.le_refl _ | decide | omega)

set_option maxHeartbeats 4000000 in
theorem mJ2_grow_2E (l : Launch) (G : Gt) (a : Nat) (m0 : Int32) (mn : Nat) (hmn : mn ≤ 10) : CT l G yJ2_grow_2 cJ2_grow_2 4 (some (.array (.object "java/lang/Object"))) ({ frames := 1, cells := 1, slots := 10, locals := 20 } : Room) [.ref a, .int (nI mn)] [(a, .inr (3, [.int m0, .ref (G.2 99), .int (nI 0)]))] RH0 (S := Nat) (fun (u_ : Nat) => some (.ref u_)) (fun (u_ : Nat) => True) (fun (u_ : Nat) => [(a, .inr (3, [.int m0, .ref u_, .int (nI 0)])), (u_, .inl (G.2 3, 10, .inr (.inr (.inr (.inr (fun _ => none))))))]) (fun (u_ : Nat) (H : Heap) => True) := by
  refine CT.of (by decide) (Nat.le_of_ble_eq_true rfl) ?_
  intro p e s m below meth c ls A H locs h9 hH0 hP hS
  obtain ⟨cf, hr, hlk, hnm, hKB, hE, -, hD, -, hA, hAw, hRH, hl⟩ := h9
  have hx := cf.1
  have hb := cf.2.1
  have hml := cf.2.2.1
  have hown : s.vm.findClass RJ2 = some m.cls := cf.2.2.2.1
  have hts := cf.2.2.2.2
  have hK := hKB.1
  have hl : lv_has ls 4 [(0, .ref a), (1, .int (nI mn))] := hl
  have hR99 : roW G A s.heap [(G.2 99, .inl (G.2 3, 0, .inr (.inr (.inr (.inr (fun _ => none))))))] := hE.2.2.2.2.2
  refine lv_aload_n hx hb dJ2_grow_2_0 rfl (lv_at hl 0 rfl) ?_
  refine va_get hx hb hts in_J2 hown hK hP 0 rfl rfl 1 (by decide) (hts _ q117) (fun _ h => h) rfl dJ2_grow_2_1 ?_
  refine r_alen hx hb hK (hR99.w hS) 0 3 rfl rfl dJ2_grow_2_4 ?_
  refine lv_istore_n (lv' := [(2, .int (nI 0)), (0, .ref a), (1, .int (nI mn))]) hx hb dJ2_grow_2_5 rfl hl (by decide) rfl (fun ls hl => ?_)
  refine lv_iload_n hx hb dJ2_grow_2_6 rfl (lv_at hl 0 rfl) ?_
  refine n_if_gt (tgt := 20) hx hb (by omega) dJ2_grow_2_7 (by decide) (fun c_955 => absurd c_955 (by omega)) (fun c_955 => ?_)
  refine lv_aload_n hx hb dJ2_grow_2_10 rfl (lv_at hl 1 rfl) ?_
  refine va_get hx hb hts in_J2 hown hK hP 0 rfl rfl 1 (by decide) (hts _ q117) (fun _ h => h) rfl dJ2_grow_2_11 ?_
  refine va_gets (v := .ref (G.2 99)) hx hb hE.2.2.2.1 hS hown (hts _ q115) (fun _ h => h) dJ2_grow_2_14 ?_
  refine lv_acmp_eq (rx := some (G.2 99)) (ry := some (G.2 99)) (tgt := 45) hx hb dJ2_grow_2_17 (by decide) (fun c_956 => ?_) (fun c_956 => absurd rfl c_956)
  refine lv_aload_n hx hb dJ2_grow_2_45 rfl (lv_at hl 1 rfl) ?_
  refine lv_bipush (v := nI 10) hx hb dJ2_grow_2_46 (by decide) ?_
  refine lv_iload_n hx hb dJ2_grow_2_48 rfl (lv_at hl 2 rfl) ?_
  refine va_mmax hx hb (by rw [hml]; exact hl.1.symm) hown (hts _ q548) (hts _ q505) (hts _ q67) (hts _ q506) (Nat.le_of_ble_eq_true rfl) (Nat.le_of_ble_eq_true rfl) (show 0 ≤ 1 from by first | decide | omega) (show 0 ≤ 10 from by first | decide | omega) dJ2_grow_2_49 ?_
  refine lv_toi (y := imax (nI 10) (nI mn)) (rfl) ?_
  refine W.eq (g2 := F0 m 52 ls [.int (imax (nI 10) (nI mn)), .ref a]) rfl ?_
  refine lv_ton (n := 10) ((imax_n (by omega) (by omega)).trans (congrArg nI (Nat.max_eq_left (by omega)))) ?_
  refine r_newa_O (n := 10) hx hb hown (hts _ q549) hKB hP hD hS hA (by omega) (show 0 + 1 ≤ 1 from by first | decide | omega) (show 0 + 10 ≤ 10 from by first | decide | omega) dJ2_grow_2_52 (fun a_957 H (hP : va_P G.1 CL [(a, .inr (3, [.int m0, .ref (G.2 99), .int (nI 0)])), (a_957, .inl (G.2 3, 10, .inr (.inr (.inr (.inr (fun _ => none))))))] H) (hD : va_D A [(a, .inr (3, [.int m0, .ref (G.2 99), .int (nI 0)])), (a_957, .inl (G.2 3, 10, .inr (.inr (.inr (.inr (fun _ => none))))))]) hS => ?_)
  refine lv_dup_x1 hx hb dJ2_grow_2_55 rfl rfl ?_
  refine va_put (v := .ref a_957) (ty := (.array (.object "java/lang/Object"))) hx hb hts in_J2 tyJ2 tyJ2_ok nmJ2 hown hK hP hD hS 0 rfl rfl 1 (by decide) (hts _ q117) (fun _ h => h) rfl (by decide +kernel) rfl rfl (Nat.le_of_ble_eq_true rfl) dJ2_grow_2_56 (fun H locs (hP : va_P G.1 CL [(a, .inr (3, [.int m0, .ref a_957, .int (nI 0)])), (a_957, .inl (G.2 3, 10, .inr (.inr (.inr (.inr (fun _ => none))))))] H) (hD : va_D A [(a, .inr (3, [.int m0, .ref a_957, .int (nI 0)])), (a_957, .inl (G.2 3, 10, .inr (.inr (.inr (.inr (fun _ => none))))))]) hS => ?_)
  have hP9 : va_P G.1 CL [(a, .inr (3, [.int m0, .ref a_957, .int (nI 0)])), (a_957, .inl (G.2 3, 10, .inr (.inr (.inr (.inr (fun _ => none))))))] H := hP.sub [0, 1] rfl
  have hD9 : va_D A [(a, .inr (3, [.int m0, .ref a_957, .int (nI 0)])), (a_957, .inl (G.2 3, 10, .inr (.inr (.inr (.inr (fun _ => none))))))] := hD.sub [0, 1] (by decide) rfl
  exact end_a hx hb hr hlk (by first | exact Or.inl ⟨_, rfl⟩ | exact Or.inr ⟨_, rfl⟩) (Or.inr ⟨_, rfl⟩) (qc_of a_957 (v := some (.ref a_957)) (by rfl) (trivial) hP9 hD9 (trivial) hS) hS dJ2_grow_2_59 (show 0 + 1 ≤ 1 from by first | exact Nat.le_refl _ | decide | omega) (show 0 + 10 ≤ 10 from by first | exact Nat.le_refl _ | decide | omega)

set_option maxHeartbeats 4000000 in
theorem mJ2_grow_2O (l : Launch) (G : Gt) (a : Nat) (m0 : Int32) (ea : Nat) (k : Nat) (cap : Nat) (f : Nat → Option Nat) (Wi : va_W) (hc : 2 ≤ cap ∧ cap ≤ 40) (hel : ∀ i, i < cap → ∀ y, f i = some y → ElIn Wi y) : CT l G yJ2_grow_2 cJ2_grow_2 4 (some (.array (.object "java/lang/Object"))) ({ frames := 3, cells := 1, slots := cap + cap / 2, locals := 78 } : Room) [.ref a, .int (nI (cap + 1))] [(a, .inr (3, [.int m0, .ref ea, .int (nI k)]))] (fun (A : Nat → Prop) (H : Heap) => roW G A H [(ea, .inl (G.2 3, cap, .inr (.inr (.inr (.inr f)))))] ∧ roW G A H Wi) (S := Nat) (fun (u_ : Nat) => some (.ref u_)) (fun (u_ : Nat) => True) (fun (u_ : Nat) => [(a, .inr (3, [.int m0, .ref u_, .int (nI k)])), (u_, .inl (G.2 3, cap + cap / 2, .inr (.inr (.inr (.inr (va_cpy f (fun _ => none) 0 0 cap))))))]) (fun (u_ : Nat) (H : Heap) => True) := by
  refine CT.of (by decide) (Nat.le_of_ble_eq_true rfl) ?_
  intro p e s m below meth c ls A H locs h9 hH0 hP hS
  obtain ⟨cf, hr, hlk, hnm, hKB, hE, -, hD, -, hA, hAw, ⟨hR0, hR1⟩, hl⟩ := h9
  have hx := cf.1
  have hb := cf.2.1
  have hml := cf.2.2.1
  have hown : s.vm.findClass RJ2 = some m.cls := cf.2.2.2.1
  have hts := cf.2.2.2.2
  have hK := hKB.1
  have hl : lv_has ls 4 [(0, .ref a), (1, .int (nI (cap + 1)))] := hl
  refine lv_aload_n hx hb dJ2_grow_2_0 rfl (lv_at hl 0 rfl) ?_
  refine va_get hx hb hts in_J2 hown hK hP 0 rfl rfl 1 (by decide) (hts _ q117) (fun _ h => h) rfl dJ2_grow_2_1 ?_
  refine r_alen hx hb hK (hR0.w hS) 0 3 rfl rfl dJ2_grow_2_4 ?_
  refine lv_istore_n (lv' := [(2, .int (nI cap)), (0, .ref a), (1, .int (nI (cap + 1)))]) hx hb dJ2_grow_2_5 rfl hl (by decide) rfl (fun ls hl => ?_)
  refine lv_iload_n hx hb dJ2_grow_2_6 rfl (lv_at hl 0 rfl) ?_
  refine n_if_gt (tgt := 20) hx hb (by omega) dJ2_grow_2_7 (by decide) (fun c_958 => ?_) (fun c_958 => absurd c_958 (by omega))
  refine lv_iload_n hx hb dJ2_grow_2_20 rfl (lv_at hl 0 rfl) ?_
  refine lv_iload_n hx hb dJ2_grow_2_21 rfl (lv_at hl 2 rfl) ?_
  refine lv_iload_n hx hb dJ2_grow_2_22 rfl (lv_at hl 0 rfl) ?_
  refine lv_isub hx hb dJ2_grow_2_23 ?_
  refine lv_ton (n := 1) (nsub (by omega)) ?_
  refine lv_iload_n hx hb dJ2_grow_2_24 rfl (lv_at hl 0 rfl) ?_
  refine lv_iconst (v := nI 1) hx hb dJ2_grow_2_25 (by decide) ?_
  refine lv_ishr hx hb dJ2_grow_2_26 ?_
  refine lv_ton (n := (cap / 2)) (pk_shrN (n := cap) (by omega) _ 1 (by decide)) ?_
  have hF := hF_of (wc := []) hD hS hA [] rfl
  refine go_ct hS hP hD [] [0] hF rfl rfl (by decide) (by decide)
      (va_runS (As := [.int (nI cap), .int (nI 1), .int (nI (cap / 2))]) (rest := []) cf (mJ14_newLength l G cap 1 (cap / 2) (show cap ≤ 1000 from by first | assumption | omega) (show 1 ≤ 1 ∧ 1 ≤ 1000 from by first | assumption | omega) (show (cap / 2) ≤ 1000 from by first | assumption | omega) H.size) (va_cwS 3 hts (lw_S q501 q502 q66 q503) rfl rfl rfl (by decide +kernel) ⟨Nat.le_of_ble_eq_true rfl, Nat.le_of_ble_eq_true rfl⟩) (preS_of hKB hE hS hF (va_P.sub hP [] rfl) ((va_D.sub hD [] (by decide) rfl).weaken (fun _ _ _ _ => trivial)) trivial) rfl rfl hl.1 rfl (lv_room (Nat.le_of_ble_eq_true rfl)) dJ2_grow_2_27 ⟨show 0 + 0 ≤ 1 from by first | decide | omega, show 0 + 0 ≤ cap + cap / 2 from by first | decide | omega⟩)
      (fun u_ H locs hq hph (hP : va_P G.1 CL [(a, .inr (3, [.int m0, .ref ea, .int (nI k)]))] H) (hD : va_D A [(a, .inr (3, [.int m0, .ref ea, .int (nI k)]))]) hS hfz hfk => ?_)
  refine W.eq (g2 := F0 m 30 ls [.int (nI (cap + (max 1 (cap / 2))))]) rfl ?_
  refine lv_ton (n := cap + (cap / 2)) (by rw [Nat.max_eq_right (by omega)]) ?_
  refine lv_istore_n (lv' := [(3, .int (nI (cap + (cap / 2)))), (2, .int (nI cap)), (0, .ref a), (1, .int (nI (cap + 1)))]) hx hb dJ2_grow_2_30 rfl hl (by decide) rfl (fun ls hl => ?_)
  refine lv_aload_n hx hb dJ2_grow_2_31 rfl (lv_at hl 2 rfl) ?_
  refine lv_aload_n hx hb dJ2_grow_2_32 rfl (lv_at hl 2 rfl) ?_
  refine va_get hx hb hts in_J2 hown hK hP 0 rfl rfl 1 (by decide) (hts _ q117) (fun _ h => h) rfl dJ2_grow_2_33 ?_
  refine lv_iload_n hx hb dJ2_grow_2_36 rfl (lv_at hl 0 rfl) ?_
  have hF := hF_of (wc := []) hD hS hA [] rfl
  have hro_959 : va_P G.1 CL [(ea, .inl (G.2 3, cap, .inr (.inr (.inr (.inr f)))))] H := ((hR0.w hS).sub [0] rfl)
  refine go_ct hS hP hD [] [0] hF rfl rfl (by decide) (by decide)
      (va_runS (As := [.ref ea, .int (nI (cap + (cap / 2)))]) (rest := [.ref a]) cf (mJ16_copyOf l G ea cap f (cap + cap / 2) Wi (show cap ≤ (cap + cap / 2) from by first | assumption | omega) (show (cap + cap / 2) ≤ 1000 from by first | assumption | omega) (show ∀ i, i < cap → ∀ y, f i = some y → ElIn Wi y from by first | assumption | omega) H.size) (va_cwS 2 hts (lw_S q511 q512 q68 q513) rfl rfl rfl (by decide +kernel) ⟨Nat.le_of_ble_eq_true rfl, Nat.le_of_ble_eq_true rfl⟩) (preS_of hKB hE hS hF (va_P.sub hP [] rfl) ((va_D.sub hD [] (by decide) rfl).weaken (fun _ _ _ _ => trivial)) ⟨(roW.nil hro_959), (roW.nil (hR1.w hS))⟩) rfl rfl hl.1 rfl (lv_room (Nat.le_of_ble_eq_true rfl)) dJ2_grow_2_37 ⟨show 0 + 1 ≤ 1 from by first | decide | omega, show 0 + (cap + cap / 2) ≤ cap + cap / 2 from by first | decide | omega⟩)
      (fun u_ H locs hq hph (hP : va_P G.1 CL [(a, .inr (3, [.int m0, .ref ea, .int (nI k)])), (u_, .inl (G.2 3, cap + (cap / 2), .inr (.inr (.inr (.inr (va_cpy f (fun _ => none) 0 0 cap))))))] H) (hD : va_D A [(a, .inr (3, [.int m0, .ref ea, .int (nI k)])), (u_, .inl (G.2 3, cap + (cap / 2), .inr (.inr (.inr (.inr (va_cpy f (fun _ => none) 0 0 cap))))))]) hS hfz hfk => ?_)
  obtain ⟨qa_960, rfl⟩ : ∃ z, z = u_ := ⟨_, rfl⟩
  have hP : va_P G.1 CL [(a, .inr (3, [.int m0, .ref ea, .int (nI k)])), (qa_960, .inl (G.2 3, cap + (cap / 2), .inr (.inr (.inr (.inr (va_cpy f (fun _ => none) 0 0 cap))))))] H := hP
  have hD : va_D A [(a, .inr (3, [.int m0, .ref ea, .int (nI k)])), (qa_960, .inl (G.2 3, cap + (cap / 2), .inr (.inr (.inr (.inr (va_cpy f (fun _ => none) 0 0 cap))))))] := hD
  refine W.eq (g2 := F0 m 40 ls [.ref qa_960, .ref a]) rfl ?_
  refine lv_dup_x1 hx hb dJ2_grow_2_40 rfl rfl ?_
  refine va_put (v := .ref qa_960) (ty := (.array (.object "java/lang/Object"))) hx hb hts in_J2 tyJ2 tyJ2_ok nmJ2 hown hK hP hD hS 0 rfl rfl 1 (by decide) (hts _ q117) (fun _ h => h) rfl (by decide +kernel) rfl rfl (Nat.le_of_ble_eq_true rfl) dJ2_grow_2_41 (fun H locs (hP : va_P G.1 CL [(a, .inr (3, [.int m0, .ref qa_960, .int (nI k)])), (qa_960, .inl (G.2 3, cap + (cap / 2), .inr (.inr (.inr (.inr (va_cpy f (fun _ => none) 0 0 cap))))))] H) (hD : va_D A [(a, .inr (3, [.int m0, .ref qa_960, .int (nI k)])), (qa_960, .inl (G.2 3, cap + (cap / 2), .inr (.inr (.inr (.inr (va_cpy f (fun _ => none) 0 0 cap))))))]) hS => ?_)
  have hP9 : va_P G.1 CL [(a, .inr (3, [.int m0, .ref qa_960, .int (nI k)])), (qa_960, .inl (G.2 3, cap + (cap / 2), .inr (.inr (.inr (.inr (va_cpy f (fun _ => none) 0 0 cap))))))] H := hP.sub [0, 1] rfl
  have hD9 : va_D A [(a, .inr (3, [.int m0, .ref qa_960, .int (nI k)])), (qa_960, .inl (G.2 3, cap + (cap / 2), .inr (.inr (.inr (.inr (va_cpy f (fun _ => none) 0 0 cap))))))] := hD.sub [0, 1] (by decide) rfl
  exact end_a hx hb hr hlk (by first | exact Or.inl ⟨_, rfl⟩ | exact Or.inr ⟨_, rfl⟩) (Or.inr ⟨_, rfl⟩) (qc_of qa_960 (v := some (.ref qa_960)) (by rfl) (trivial) hP9 hD9 (trivial) hS) hS dJ2_grow_2_44 (show 0 + 1 ≤ 1 from by first | exact Nat.le_refl _ | decide | omega) (show 0 + (cap + cap / 2) ≤ cap + cap / 2 from by first | exact Nat.le_refl _ | decide | omega)

theorem cpy_lt {α : Type} {f g : Nat → α} {n j : Nat} (h : j < n) : va_cpy f g 0 0 n j = f j := by
  unfold va_cpy
  rw [if_pos ⟨Nat.zero_le _, by omega⟩, Nat.zero_add, Nat.sub_zero]

set_option maxHeartbeats 4000000 in
theorem mJ2_growE (l : Launch) (G : Gt) (a : Nat) (m0 : Int32) : CT l G yJ2_grow cJ2_grow 1 (some (.array (.object "java/lang/Object"))) ({ frames := 2, cells := 1, slots := 10, locals := 43 } : Room) [.ref a] [(a, .inr (3, [.int m0, .ref (G.2 99), .int (nI 0)]))] RH0 (S := Nat) (fun (u_ : Nat) => some (.ref u_)) (fun (u_ : Nat) => True) (fun (u_ : Nat) => [(a, .inr (3, [.int m0, .ref u_, .int (nI 0)])), (u_, .inl (G.2 3, 10, .inr (.inr (.inr (.inr (fun _ => none))))))]) (fun (u_ : Nat) (H : Heap) => True) := by
  refine CT.of (by decide) (Nat.le_of_ble_eq_true rfl) ?_
  intro p e s m below meth c ls A H locs h9 hH0 hP hS
  obtain ⟨cf, hr, hlk, hnm, hKB, hE, -, hD, -, hA, hAw, hRH, hl⟩ := h9
  have hx := cf.1
  have hb := cf.2.1
  have hml := cf.2.2.1
  have hown : s.vm.findClass RJ2 = some m.cls := cf.2.2.2.1
  have hts := cf.2.2.2.2
  have hK := hKB.1
  have hl : lv_has ls 1 [(0, .ref a)] := hl
  refine lv_aload_n hx hb dJ2_grow_0 rfl (lv_at hl 0 rfl) ?_
  refine lv_aload_n hx hb dJ2_grow_1 rfl (lv_at hl 0 rfl) ?_
  refine va_get hx hb hts in_J2 hown hK hP 0 rfl rfl 2 (by decide) (hts _ q118) (fun _ h => h) rfl dJ2_grow_2 ?_
  refine lv_iconst (v := nI 1) hx hb dJ2_grow_5 (by decide) ?_
  refine lv_iadd hx hb dJ2_grow_6 ?_
  refine lv_ton (n := 1) (nadd (by omega)) ?_
  have hF := hF_of (wc := [(a, .inr (3, [.int m0, .ref (G.2 99), .int (nI 0)]))]) hD hS hA [0] rfl
  refine go_ct hS hP hD [0] [] hF rfl rfl (by decide) (by decide)
      (va_runV (As := [.int (nI 1)]) (rest := []) cf (mJ2_grow_2E l G a m0 1 (show 1 ≤ 10 from by first | assumption | omega) H.size) (cwV 1 hts (lw_V q497 q499 qs5 q52 q500) rfl rfl rfl (by decide +kernel) ⟨Nat.le_of_ble_eq_true rfl, Nat.le_of_ble_eq_true rfl⟩) (preV_of hKB hE hS hF (va_recv hK hP (ci := 3) (q0 := 0) rfl rfl) (va_P.sub hP [0] rfl) ((va_D.sub hD [0] (by decide) rfl).weaken (fun _ _ _ _ => trivial)) trivial) rfl rfl hl.1 rfl (lv_room (Nat.le_of_ble_eq_true rfl)) dJ2_grow_7 ⟨show 0 + 1 ≤ 1 from by first | decide | omega, show 0 + 10 ≤ 10 from by first | decide | omega⟩)
      (fun u_ H locs hq hph (hP : va_P G.1 CL [(a, .inr (3, [.int m0, .ref u_, .int (nI 0)])), (u_, .inl (G.2 3, 10, .inr (.inr (.inr (.inr (fun _ => none))))))] H) (hD : va_D A [(a, .inr (3, [.int m0, .ref u_, .int (nI 0)])), (u_, .inl (G.2 3, 10, .inr (.inr (.inr (.inr (fun _ => none))))))]) hS hfz hfk => ?_)
  obtain ⟨qa_961, rfl⟩ : ∃ z, z = u_ := ⟨_, rfl⟩
  have hP : va_P G.1 CL [(a, .inr (3, [.int m0, .ref qa_961, .int (nI 0)])), (qa_961, .inl (G.2 3, 10, .inr (.inr (.inr (.inr (fun _ => none))))))] H := hP
  have hD : va_D A [(a, .inr (3, [.int m0, .ref qa_961, .int (nI 0)])), (qa_961, .inl (G.2 3, 10, .inr (.inr (.inr (.inr (fun _ => none))))))] := hD
  refine W.eq (g2 := F0 m 10 ls [.ref qa_961]) rfl ?_
  have hP9 : va_P G.1 CL [(a, .inr (3, [.int m0, .ref qa_961, .int (nI 0)])), (qa_961, .inl (G.2 3, 10, .inr (.inr (.inr (.inr (fun _ => none))))))] H := hP.sub [0, 1] rfl
  have hD9 : va_D A [(a, .inr (3, [.int m0, .ref qa_961, .int (nI 0)])), (qa_961, .inl (G.2 3, 10, .inr (.inr (.inr (.inr (fun _ => none))))))] := hD.sub [0, 1] (by decide) rfl
  exact end_a hx hb hr hlk (by first | exact Or.inl ⟨_, rfl⟩ | exact Or.inr ⟨_, rfl⟩) (Or.inr ⟨_, rfl⟩) (qc_of qa_961 (v := some (.ref qa_961)) (by rfl) (trivial) hP9 hD9 (trivial) hS) hS dJ2_grow_10 (show 0 + 1 ≤ 1 from by first | exact Nat.le_refl _ | decide | omega) (show 0 + 10 ≤ 10 from by first | exact Nat.le_refl _ | decide | omega)

set_option maxHeartbeats 4000000 in
theorem mJ2_growO (l : Launch) (G : Gt) (a : Nat) (m0 : Int32) (ea : Nat) (cap : Nat) (f : Nat → Option Nat) (Wi : va_W) (hc : 2 ≤ cap ∧ cap ≤ 40) (hel : ∀ i, i < cap → ∀ y, f i = some y → ElIn Wi y) : CT l G yJ2_grow cJ2_grow 1 (some (.array (.object "java/lang/Object"))) ({ frames := 4, cells := 1, slots := cap + cap / 2, locals := 101 } : Room) [.ref a] [(a, .inr (3, [.int m0, .ref ea, .int (nI cap)]))] (fun (A : Nat → Prop) (H : Heap) => roW G A H [(ea, .inl (G.2 3, cap, .inr (.inr (.inr (.inr f)))))] ∧ roW G A H Wi) (S := Nat) (fun (u_ : Nat) => some (.ref u_)) (fun (u_ : Nat) => True) (fun (u_ : Nat) => [(a, .inr (3, [.int m0, .ref u_, .int (nI cap)])), (u_, .inl (G.2 3, cap + cap / 2, .inr (.inr (.inr (.inr (va_cpy f (fun _ => none) 0 0 cap))))))]) (fun (u_ : Nat) (H : Heap) => True) := by
  refine CT.of (by decide) (Nat.le_of_ble_eq_true rfl) ?_
  intro p e s m below meth c ls A H locs h9 hH0 hP hS
  obtain ⟨cf, hr, hlk, hnm, hKB, hE, -, hD, -, hA, hAw, ⟨hR0, hR1⟩, hl⟩ := h9
  have hx := cf.1
  have hb := cf.2.1
  have hml := cf.2.2.1
  have hown : s.vm.findClass RJ2 = some m.cls := cf.2.2.2.1
  have hts := cf.2.2.2.2
  have hK := hKB.1
  have hl : lv_has ls 1 [(0, .ref a)] := hl
  refine lv_aload_n hx hb dJ2_grow_0 rfl (lv_at hl 0 rfl) ?_
  refine lv_aload_n hx hb dJ2_grow_1 rfl (lv_at hl 0 rfl) ?_
  refine va_get hx hb hts in_J2 hown hK hP 0 rfl rfl 2 (by decide) (hts _ q118) (fun _ h => h) rfl dJ2_grow_2 ?_
  refine lv_iconst (v := nI 1) hx hb dJ2_grow_5 (by decide) ?_
  refine lv_iadd hx hb dJ2_grow_6 ?_
  refine lv_ton (n := cap + 1) (nadd (by omega)) ?_
  have hF := hF_of (wc := [(a, .inr (3, [.int m0, .ref ea, .int (nI cap)]))]) hD hS hA [0] rfl
  have hro_962 : roW G (va_A [(a, .inr (3, [.int m0, .ref ea, .int (nI cap)]))] H.size) H [(ea, .inl (G.2 3, cap, .inr (.inr (.inr (.inr f)))))] := ((hR0.kp hF hS.2.1).sub (ws' := [(ea, .inl (G.2 3, cap, .inr (.inr (.inr (.inr f)))))]) [0] rfl)
  refine go_ct hS hP hD [0] [] hF rfl rfl (by decide) (by decide)
      (va_runV (As := [.int (nI (cap + 1))]) (rest := []) cf (mJ2_grow_2O l G a m0 ea cap cap f Wi (show 2 ≤ cap ∧ cap ≤ 40 from by first | assumption | omega) (show ∀ i, i < cap → ∀ y, f i = some y → ElIn Wi y from by first | assumption | omega) H.size) (cwV 1 hts (lw_V q497 q499 qs5 q52 q500) rfl rfl rfl (by decide +kernel) ⟨Nat.le_of_ble_eq_true rfl, Nat.le_of_ble_eq_true rfl⟩) (preV_of hKB hE hS hF (va_recv hK hP (ci := 3) (q0 := 0) rfl rfl) (va_P.sub hP [0] rfl) ((va_D.sub hD [0] (by decide) rfl).weaken (fun _ _ _ _ => trivial)) ⟨hro_962, (hR1.kp hF hS.2.1)⟩) rfl rfl hl.1 rfl (lv_room (Nat.le_of_ble_eq_true rfl)) dJ2_grow_7 ⟨show 0 + 1 ≤ 1 from by first | decide | omega, show 0 + (cap + cap / 2) ≤ cap + cap / 2 from by first | decide | omega⟩)
      (fun u_ H locs hq hph (hP : va_P G.1 CL [(a, .inr (3, [.int m0, .ref u_, .int (nI cap)])), (u_, .inl (G.2 3, cap + (cap / 2), .inr (.inr (.inr (.inr (va_cpy f (fun _ => none) 0 0 cap))))))] H) (hD : va_D A [(a, .inr (3, [.int m0, .ref u_, .int (nI cap)])), (u_, .inl (G.2 3, cap + (cap / 2), .inr (.inr (.inr (.inr (va_cpy f (fun _ => none) 0 0 cap))))))]) hS hfz hfk => ?_)
  obtain ⟨qa_963, rfl⟩ : ∃ z, z = u_ := ⟨_, rfl⟩
  have hP : va_P G.1 CL [(a, .inr (3, [.int m0, .ref qa_963, .int (nI cap)])), (qa_963, .inl (G.2 3, cap + (cap / 2), .inr (.inr (.inr (.inr (va_cpy f (fun _ => none) 0 0 cap))))))] H := hP
  have hD : va_D A [(a, .inr (3, [.int m0, .ref qa_963, .int (nI cap)])), (qa_963, .inl (G.2 3, cap + (cap / 2), .inr (.inr (.inr (.inr (va_cpy f (fun _ => none) 0 0 cap))))))] := hD
  refine W.eq (g2 := F0 m 10 ls [.ref qa_963]) rfl ?_
  have hP9 : va_P G.1 CL [(a, .inr (3, [.int m0, .ref qa_963, .int (nI cap)])), (qa_963, .inl (G.2 3, cap + (cap / 2), .inr (.inr (.inr (.inr (va_cpy f (fun _ => none) 0 0 cap))))))] H := hP.sub [0, 1] rfl
  have hD9 : va_D A [(a, .inr (3, [.int m0, .ref qa_963, .int (nI cap)])), (qa_963, .inl (G.2 3, cap + (cap / 2), .inr (.inr (.inr (.inr (va_cpy f (fun _ => none) 0 0 cap))))))] := hD.sub [0, 1] (by decide) rfl
  exact end_a hx hb hr hlk (by first | exact Or.inl ⟨_, rfl⟩ | exact Or.inr ⟨_, rfl⟩) (Or.inr ⟨_, rfl⟩) (qc_of qa_963 (v := some (.ref qa_963)) (by rfl) (trivial) hP9 hD9 (trivial) hS) hS dJ2_grow_10 (show 0 + 1 ≤ 1 from by first | exact Nat.le_refl _ | decide | omega) (show 0 + (cap + cap / 2) ≤ cap + cap / 2 from by first | exact Nat.le_refl _ | decide | omega)

set_option maxHeartbeats 4000000 in
theorem mJ2_add_2E (l : Launch) (G : Gt) (a : Nat) (m0 : Int32) (x : Nat) (Wi : va_W) (hxe : ElIn Wi x) : CT l G yJ2_add_2 cJ2_add_2 4 none ({ frames := 3, cells := 1, slots := 10, locals := 63 } : Room) [.ref a, .ref x, .ref (G.2 99), .int (nI 0)] [(a, .inr (3, [.int m0, .ref (G.2 99), .int (nI 0)]))] (fun (A : Nat → Prop) (H : Heap) => roW G A H Wi) (S := Nat × (Nat → Option Nat)) (fun (u_ : Nat × (Nat → Option Nat)) => (none : Option Value)) (fun (u_ : Nat × (Nat → Option Nat)) => u_.2 0 = some x) (fun (u_ : Nat × (Nat → Option Nat)) => [(a, .inr (3, [.int m0, .ref u_.1, .int (nI 1)])), (u_.1, .inl (G.2 3, 10, .inr (.inr (.inr (.inr u_.2)))))]) (fun (u_ : Nat × (Nat → Option Nat)) (H : Heap) => True) := by
  refine CT.of (by decide) (Nat.le_of_ble_eq_true rfl) ?_
  intro p e s m below meth c ls A H locs h9 hH0 hP hS
  obtain ⟨cf, hr, hlk, hnm, hKB, hE, -, hD, -, hA, hAw, hR0, hl⟩ := h9
  have hx := cf.1
  have hb := cf.2.1
  have hml := cf.2.2.1
  have hown : s.vm.findClass RJ2 = some m.cls := cf.2.2.2.1
  have hts := cf.2.2.2.2
  have hK := hKB.1
  have hl : lv_has ls 4 [(0, .ref a), (1, .ref x), (2, .ref (G.2 99)), (3, .int (nI 0))] := hl
  have hR99 : roW G A s.heap [(G.2 99, .inl (G.2 3, 0, .inr (.inr (.inr (.inr (fun _ => none))))))] := hE.2.2.2.2.2
  refine lv_iload_n hx hb dJ2_add_2_0 rfl (lv_at hl 3 rfl) ?_
  refine lv_aload_n hx hb dJ2_add_2_1 rfl (lv_at hl 2 rfl) ?_
  refine r_alen hx hb hK (hR99.w hS) 0 3 rfl rfl dJ2_add_2_2 ?_
  refine n_icmp_ne (tgt := 11) hx hb (by omega) (by omega) dJ2_add_2_3 (by decide) (fun c_965 => absurd c_965 (by omega)) (fun c_965 => ?_)
  refine lv_aload_n hx hb dJ2_add_2_6 rfl (lv_at hl 0 rfl) ?_
  have hF := hF_of (wc := [(a, .inr (3, [.int m0, .ref (G.2 99), .int (nI 0)]))]) hD hS hA [0] rfl
  refine go_ct hS hP hD [0] [] hF rfl rfl (by decide) (by decide)
      (va_runV (As := []) (rest := []) cf (mJ2_growE l G a m0  H.size) (cwV 0 hts (lw_V q493 q495 qs4 q52 q496) rfl rfl rfl (by decide +kernel) ⟨Nat.le_of_ble_eq_true rfl, Nat.le_of_ble_eq_true rfl⟩) (preV_of hKB hE hS hF (va_recv hK hP (ci := 3) (q0 := 0) rfl rfl) (va_P.sub hP [0] rfl) ((va_D.sub hD [0] (by decide) rfl).weaken (fun _ _ _ _ => trivial)) trivial) rfl rfl hl.1 rfl (lv_room (Nat.le_of_ble_eq_true rfl)) dJ2_add_2_7 ⟨show 0 + 1 ≤ 1 from by first | decide | omega, show 0 + 10 ≤ 10 from by first | decide | omega⟩)
      (fun u_ H locs hq hph (hP : va_P G.1 CL [(a, .inr (3, [.int m0, .ref u_, .int (nI 0)])), (u_, .inl (G.2 3, 10, .inr (.inr (.inr (.inr (fun _ => none))))))] H) (hD : va_D A [(a, .inr (3, [.int m0, .ref u_, .int (nI 0)])), (u_, .inl (G.2 3, 10, .inr (.inr (.inr (.inr (fun _ => none))))))]) hS hfz hfk => ?_)
  obtain ⟨qa_966, rfl⟩ : ∃ z, z = u_ := ⟨_, rfl⟩
  have hP : va_P G.1 CL [(a, .inr (3, [.int m0, .ref qa_966, .int (nI 0)])), (qa_966, .inl (G.2 3, 10, .inr (.inr (.inr (.inr (fun _ => none))))))] H := hP
  have hD : va_D A [(a, .inr (3, [.int m0, .ref qa_966, .int (nI 0)])), (qa_966, .inl (G.2 3, 10, .inr (.inr (.inr (.inr (fun _ => none))))))] := hD
  refine W.eq (g2 := F0 m 10 ls [.ref qa_966]) rfl ?_
  refine lv_astore_n (lv' := [(2, .ref qa_966), (0, .ref a), (1, .ref x), (3, .int (nI 0))]) hx hb dJ2_add_2_10 rfl hl (by decide) rfl (fun ls hl => ?_)
  refine lv_aload_n hx hb dJ2_add_2_11 rfl (lv_at hl 0 rfl) ?_
  refine lv_iload_n hx hb dJ2_add_2_12 rfl (lv_at hl 3 rfl) ?_
  refine lv_aload_n hx hb dJ2_add_2_13 rfl (lv_at hl 2 rfl) ?_
  refine r_astO (i := 0) hx hb hKB hP hD hS 1 rfl (any_el hKB (hR0.w hS) hxe) (by omega) (by omega) dJ2_add_2_14 (fun H locs (hP : va_P G.1 CL [(a, .inr (3, [.int m0, .ref qa_966, .int (nI 0)])), (qa_966, .inl (G.2 3, 10, .inr (.inr (.inr (.inr (va_up (fun _ => none) 0 (some x)))))))] H) (hD : va_D A [(a, .inr (3, [.int m0, .ref qa_966, .int (nI 0)])), (qa_966, .inl (G.2 3, 10, .inr (.inr (.inr (.inr (va_up (fun _ => none) 0 (some x)))))))]) hS => ?_)
  refine lv_aload_n hx hb dJ2_add_2_15 rfl (lv_at hl 1 rfl) ?_
  refine lv_iload_n hx hb dJ2_add_2_16 rfl (lv_at hl 3 rfl) ?_
  refine lv_iconst (v := nI 1) hx hb dJ2_add_2_17 (by decide) ?_
  refine lv_iadd hx hb dJ2_add_2_18 ?_
  refine lv_ton (n := 1) (nadd (by omega)) ?_
  refine va_put (v := .int (nI 1)) (ty := .int) hx hb hts in_J2 tyJ2 tyJ2_ok nmJ2 hown hK hP hD hS 0 rfl rfl 2 (by decide) (hts _ q118) (fun _ h => h) rfl (by decide +kernel) rfl rfl (Nat.le_of_ble_eq_true rfl) dJ2_add_2_19 (fun H locs (hP : va_P G.1 CL [(a, .inr (3, [.int m0, .ref qa_966, .int (nI 1)])), (qa_966, .inl (G.2 3, 10, .inr (.inr (.inr (.inr (va_up (fun _ => none) 0 (some x)))))))] H) (hD : va_D A [(a, .inr (3, [.int m0, .ref qa_966, .int (nI 1)])), (qa_966, .inl (G.2 3, 10, .inr (.inr (.inr (.inr (va_up (fun _ => none) 0 (some x)))))))]) hS => ?_)
  have hP9 : va_P G.1 CL [(a, .inr (3, [.int m0, .ref qa_966, .int (nI 1)])), (qa_966, .inl (G.2 3, 10, .inr (.inr (.inr (.inr (va_up (fun _ => none) 0 (some x)))))))] H := hP.sub [0, 1] rfl
  have hD9 : va_D A [(a, .inr (3, [.int m0, .ref qa_966, .int (nI 1)])), (qa_966, .inl (G.2 3, 10, .inr (.inr (.inr (.inr (va_up (fun _ => none) 0 (some x)))))))] := hD.sub [0, 1] (by decide) rfl
  exact end_v hx hb hr hlk (qc_of (qa_966, va_up (fun _ => none) 0 (some x)) (v := none) (by rfl) (show (va_up (fun _ => none) 0 (some x)) 0 = some x from va_up_self _ _ _) hP9 hD9 (trivial) hS) hS dJ2_add_2_22 (show 0 + 1 ≤ 1 from by first | exact Nat.le_refl _ | decide | omega) (show 0 + 10 ≤ 10 from by first | exact Nat.le_refl _ | decide | omega)

set_option maxHeartbeats 4000000 in
theorem mJ2_addE (l : Launch) (G : Gt) (a : Nat) (m0 : Int32) (x : Nat) (Wi : va_W) (hxe : ElIn Wi x) : CT l G yJ2_add cJ2_add 2 (some .boolean) ({ frames := 4, cells := 1, slots := 10, locals := 86 } : Room) [.ref a, .ref x] [(a, .inr (3, [.int m0, .ref (G.2 99), .int (nI 0)]))] (fun (A : Nat → Prop) (H : Heap) => roW G A H Wi) (S := Nat × (Nat → Option Nat)) (fun (u_ : Nat × (Nat → Option Nat)) => some (.int (nI 1))) (fun (u_ : Nat × (Nat → Option Nat)) => u_.2 0 = some x) (fun (u_ : Nat × (Nat → Option Nat)) => [(a, .inr (3, [.int (m0 + nI 1), .ref u_.1, .int (nI 1)])), (u_.1, .inl (G.2 3, 10, .inr (.inr (.inr (.inr u_.2)))))]) (fun (u_ : Nat × (Nat → Option Nat)) (H : Heap) => True) := by
  refine CT.of (by decide) (Nat.le_of_ble_eq_true rfl) ?_
  intro p e s m below meth c ls A H locs h9 hH0 hP hS
  obtain ⟨cf, hr, hlk, hnm, hKB, hE, -, hD, -, hA, hAw, hR0, hl⟩ := h9
  have hx := cf.1
  have hb := cf.2.1
  have hml := cf.2.2.1
  have hown : s.vm.findClass RJ2 = some m.cls := cf.2.2.2.1
  have hts := cf.2.2.2.2
  have hK := hKB.1
  have hl : lv_has ls 2 [(0, .ref a), (1, .ref x)] := hl
  refine lv_aload_n hx hb dJ2_add_0 rfl (lv_at hl 0 rfl) ?_
  refine lv_dup hx hb dJ2_add_1 rfl ?_
  refine va_get hx hb hts in_J2 hown hK hP 0 rfl rfl 0 (by decide) (hts _ q120) (u_same (hts _ q121)) rfl dJ2_add_2 ?_
  refine lv_iconst (v := nI 1) hx hb dJ2_add_5 (by decide) ?_
  refine lv_iadd hx hb dJ2_add_6 ?_
  refine va_put (v := .int (m0 + (nI 1))) (ty := .int) hx hb hts in_J2 tyJ2 tyJ2_ok nmJ2 hown hK hP hD hS 0 rfl rfl 0 (by decide) (hts _ q120) (u_same (hts _ q121)) rfl (by decide +kernel) rfl rfl (Nat.le_of_ble_eq_true rfl) dJ2_add_7 (fun H locs (hP : va_P G.1 CL [(a, .inr (3, [.int (m0 + (nI 1)), .ref (G.2 99), .int (nI 0)]))] H) (hD : va_D A [(a, .inr (3, [.int (m0 + (nI 1)), .ref (G.2 99), .int (nI 0)]))]) hS => ?_)
  refine lv_aload_n hx hb dJ2_add_10 rfl (lv_at hl 0 rfl) ?_
  refine lv_aload_n hx hb dJ2_add_11 rfl (lv_at hl 1 rfl) ?_
  refine lv_aload_n hx hb dJ2_add_12 rfl (lv_at hl 0 rfl) ?_
  refine va_get hx hb hts in_J2 hown hK hP 0 rfl rfl 1 (by decide) (hts _ q117) (fun _ h => h) rfl dJ2_add_13 ?_
  refine lv_aload_n hx hb dJ2_add_16 rfl (lv_at hl 0 rfl) ?_
  refine va_get hx hb hts in_J2 hown hK hP 0 rfl rfl 2 (by decide) (hts _ q118) (fun _ h => h) rfl dJ2_add_17 ?_
  have hF := hF_of (wc := [(a, .inr (3, [.int (m0 + (nI 1)), .ref (G.2 99), .int (nI 0)]))]) hD hS hA [0] rfl
  refine go_ct hS hP hD [0] [] hF rfl rfl (by decide) (by decide)
      (va_runV (As := [.ref x, .ref (G.2 99), .int (nI 0)]) (rest := []) cf (mJ2_add_2E l G a (m0 + (nI 1)) x Wi (show ElIn Wi x from by first | assumption | omega) H.size) (cwV 3 hts (lw_V q489 q491 qs3 q52 q492) rfl rfl rfl (by decide +kernel) ⟨Nat.le_of_ble_eq_true rfl, Nat.le_of_ble_eq_true rfl⟩) (preV_of hKB hE hS hF (va_recv hK hP (ci := 3) (q0 := 0) rfl rfl) (va_P.sub hP [0] rfl) ((va_D.sub hD [0] (by decide) rfl).weaken (fun _ _ _ _ => trivial)) (hR0.kp hF hS.2.1)) rfl rfl hl.1 rfl (lv_room (Nat.le_of_ble_eq_true rfl)) dJ2_add_20 ⟨show 0 + 1 ≤ 1 from by first | decide | omega, show 0 + 10 ≤ 10 from by first | decide | omega⟩)
      (fun u_ H locs hq hph (hP : va_P G.1 CL [(a, .inr (3, [.int (m0 + (nI 1)), .ref u_.1, .int (nI 1)])), (u_.1, .inl (G.2 3, 10, .inr (.inr (.inr (.inr u_.2)))))] H) (hD : va_D A [(a, .inr (3, [.int (m0 + (nI 1)), .ref u_.1, .int (nI 1)])), (u_.1, .inl (G.2 3, 10, .inr (.inr (.inr (.inr u_.2)))))]) hS hfz hfk => ?_)
  obtain ⟨ea2_967, f2_968⟩ := u_
  have hP : va_P G.1 CL [(a, .inr (3, [.int (m0 + (nI 1)), .ref ea2_967, .int (nI 1)])), (ea2_967, .inl (G.2 3, 10, .inr (.inr (.inr (.inr f2_968)))))] H := hP
  have hD : va_D A [(a, .inr (3, [.int (m0 + (nI 1)), .ref ea2_967, .int (nI 1)])), (ea2_967, .inl (G.2 3, 10, .inr (.inr (.inr (.inr f2_968)))))] := hD
  have hq_969 : f2_968 0 = some x := hq
  refine W.eq (g2 := F0 m 23 ls []) rfl ?_
  refine lv_iconst (v := nI 1) hx hb dJ2_add_23 (by decide) ?_
  have hP9 : va_P G.1 CL [(a, .inr (3, [.int (m0 + (nI 1)), .ref ea2_967, .int (nI 1)])), (ea2_967, .inl (G.2 3, 10, .inr (.inr (.inr (.inr f2_968)))))] H := hP.sub [0, 1] rfl
  have hD9 : va_D A [(a, .inr (3, [.int (m0 + (nI 1)), .ref ea2_967, .int (nI 1)])), (ea2_967, .inl (G.2 3, 10, .inr (.inr (.inr (.inr f2_968)))))] := hD.sub [0, 1] (by decide) rfl
  exact end_i hx hb hr hlk (by decide) (qc_of (ea2_967, f2_968) (v := some (.int (nI 1))) (by rfl) (hq_969) hP9 hD9 (trivial) hS) hS dJ2_add_24 (show 0 + 1 ≤ 1 from by first | exact Nat.le_refl _ | decide | omega) (show 0 + 10 ≤ 10 from by first | exact Nat.le_refl _ | decide | omega)

set_option maxHeartbeats 4000000 in
theorem mJ2_add_2O (l : Launch) (G : Gt) (a : Nat) (m0 : Int32) (ea : Nat) (k : Nat) (cap : Nat) (f : Nat → Option Nat) (x : Nat) (Wi : va_W) (hk : k ≤ cap ∧ k ≤ 40) (hc : 2 ≤ cap ∧ cap ≤ 60) (hel : ∀ i, i < k → ∀ y, f i = some y → ElIn Wi y) (hxe : ElIn Wi x) : CT l G yJ2_add_2 cJ2_add_2 4 none ({ frames := 5, cells := 1, slots := 60, locals := 121 } : Room) [.ref a, .ref x, .ref ea, .int (nI k)] [(a, .inr (3, [.int m0, .ref ea, .int (nI k)])), (ea, .inl (G.2 3, cap, .inr (.inr (.inr (.inr f)))))] (fun (A : Nat → Prop) (H : Heap) => roW G A H Wi) (S := Nat × Nat × (Nat → Option Nat)) (fun (u_ : Nat × Nat × (Nat → Option Nat)) => (none : Option Value)) (fun (u_ : Nat × Nat × (Nat → Option Nat)) => k < u_.2.1 ∧ u_.2.1 ≤ 60 ∧ 2 ≤ u_.2.1 ∧ (∀ j, j < k → u_.2.2 j = f j) ∧ u_.2.2 k = some x) (fun (u_ : Nat × Nat × (Nat → Option Nat)) => [(a, .inr (3, [.int m0, .ref u_.1, .int (nI (k + 1))])), (u_.1, .inl (G.2 3, u_.2.1, .inr (.inr (.inr (.inr u_.2.2)))))]) (fun (u_ : Nat × Nat × (Nat → Option Nat)) (H : Heap) => True) := by
  refine CT.of (by decide) (Nat.le_of_ble_eq_true rfl) ?_
  intro p e s m below meth c ls A H locs h9 hH0 hP hS
  obtain ⟨cf, hr, hlk, hnm, hKB, hE, -, hD, -, hA, hAw, hR0, hl⟩ := h9
  have hx := cf.1
  have hb := cf.2.1
  have hml := cf.2.2.1
  have hown : s.vm.findClass RJ2 = some m.cls := cf.2.2.2.1
  have hts := cf.2.2.2.2
  have hK := hKB.1
  have hl : lv_has ls 4 [(0, .ref a), (1, .ref x), (2, .ref ea), (3, .int (nI k))] := hl
  refine lv_iload_n hx hb dJ2_add_2_0 rfl (lv_at hl 3 rfl) ?_
  refine lv_aload_n hx hb dJ2_add_2_1 rfl (lv_at hl 2 rfl) ?_
  refine r_alen hx hb hK hP 1 3 rfl rfl dJ2_add_2_2 ?_
  refine n_icmp_ne (tgt := 11) hx hb (by omega) (by omega) dJ2_add_2_3 (by decide) (fun c_971 => ?_) (fun c_971 => ?_)
  · refine lv_aload_n hx hb dJ2_add_2_11 rfl (lv_at hl 2 rfl) ?_
    refine lv_iload_n hx hb dJ2_add_2_12 rfl (lv_at hl 3 rfl) ?_
    refine lv_aload_n hx hb dJ2_add_2_13 rfl (lv_at hl 1 rfl) ?_
    refine r_astO (i := k) hx hb hKB hP hD hS 1 rfl (any_el hKB (hR0.w hS) hxe) (by omega) (by omega) dJ2_add_2_14 (fun H locs (hP : va_P G.1 CL [(a, .inr (3, [.int m0, .ref ea, .int (nI k)])), (ea, .inl (G.2 3, cap, .inr (.inr (.inr (.inr (va_up f k (some x)))))))] H) (hD : va_D A [(a, .inr (3, [.int m0, .ref ea, .int (nI k)])), (ea, .inl (G.2 3, cap, .inr (.inr (.inr (.inr (va_up f k (some x)))))))]) hS => ?_)
    refine lv_aload_n hx hb dJ2_add_2_15 rfl (lv_at hl 0 rfl) ?_
    refine lv_iload_n hx hb dJ2_add_2_16 rfl (lv_at hl 3 rfl) ?_
    refine lv_iconst (v := nI 1) hx hb dJ2_add_2_17 (by decide) ?_
    refine lv_iadd hx hb dJ2_add_2_18 ?_
    refine lv_ton (n := k + 1) (nadd (by omega)) ?_
    refine va_put (v := .int (nI (k + 1))) (ty := .int) hx hb hts in_J2 tyJ2 tyJ2_ok nmJ2 hown hK hP hD hS 0 rfl rfl 2 (by decide) (hts _ q118) (fun _ h => h) rfl (by decide +kernel) rfl rfl (Nat.le_of_ble_eq_true rfl) dJ2_add_2_19 (fun H locs (hP : va_P G.1 CL [(a, .inr (3, [.int m0, .ref ea, .int (nI (k + 1))])), (ea, .inl (G.2 3, cap, .inr (.inr (.inr (.inr (va_up f k (some x)))))))] H) (hD : va_D A [(a, .inr (3, [.int m0, .ref ea, .int (nI (k + 1))])), (ea, .inl (G.2 3, cap, .inr (.inr (.inr (.inr (va_up f k (some x)))))))]) hS => ?_)
    have hP9 : va_P G.1 CL [(a, .inr (3, [.int m0, .ref ea, .int (nI (k + 1))])), (ea, .inl (G.2 3, cap, .inr (.inr (.inr (.inr (va_up f k (some x)))))))] H := hP.sub [0, 1] rfl
    have hD9 : va_D A [(a, .inr (3, [.int m0, .ref ea, .int (nI (k + 1))])), (ea, .inl (G.2 3, cap, .inr (.inr (.inr (.inr (va_up f k (some x)))))))] := hD.sub [0, 1] (by decide) rfl
    exact end_v hx hb hr hlk (qc_of (ea, cap, va_up f k (some x)) (v := none) (by rfl) (⟨show k < cap by omega, show cap ≤ 60 by omega, show 2 ≤ cap by omega, fun j (hj : j < k) => va_up_ne _ _ (Nat.ne_of_lt hj), show (va_up f k (some x)) k = some x from va_up_self _ _ _⟩) hP9 hD9 (trivial) hS) hS dJ2_add_2_22 (show 0 ≤ 1 from by first | exact Nat.le_refl _ | decide | omega) (show 0 ≤ 60 from by first | exact Nat.le_refl _ | decide | omega)
  · obtain rfl : k = cap := by omega
    refine lv_aload_n hx hb dJ2_add_2_6 rfl (lv_at hl 0 rfl) ?_
    have hF := hF_of (wc := [(a, .inr (3, [.int m0, .ref ea, .int (nI k)]))]) hD hS hA [0] rfl
    refine go_ct hS hP hD [0] [1] hF rfl rfl (by decide) (by decide)
        (va_runV (As := []) (rest := []) cf (mJ2_growO l G a m0 ea k f Wi (show 2 ≤ k ∧ k ≤ 40 from by first | assumption | omega) (show ∀ i, i < k → ∀ y, f i = some y → ElIn Wi y from by first | assumption | omega) H.size) (cwV 0 hts (lw_V q493 q495 qs4 q52 q496) rfl rfl rfl (by decide +kernel) ⟨Nat.le_of_ble_eq_true rfl, Nat.le_of_ble_eq_true rfl⟩) (preV_of hKB hE hS hF (va_recv hK hP (ci := 3) (q0 := 0) rfl rfl) (va_P.sub hP [0] rfl) ((va_D.sub hD [0] (by decide) rfl).weaken (fun _ _ _ _ => trivial)) ⟨(roW.of (w' := [(ea, .inl (G.2 3, k, .inr (.inr (.inr (.inr f)))))]) hP hD [0] [1] rfl rfl (by decide)), (hR0.kp hF hS.2.1)⟩) rfl rfl hl.1 rfl (lv_room (Nat.le_of_ble_eq_true rfl)) dJ2_add_2_7 ⟨show 0 + 1 ≤ 1 from by first | decide | omega, show 0 + (k + k / 2) ≤ 60 from by first | decide | omega⟩)
        (fun u_ H locs hq hph (hP : va_P G.1 CL [(ea, .inl (G.2 3, k, .inr (.inr (.inr (.inr f))))), (a, .inr (3, [.int m0, .ref u_, .int (nI k)])), (u_, .inl (G.2 3, k + (k / 2), .inr (.inr (.inr (.inr (va_cpy f (fun _ => none) 0 0 k))))))] H) (hD : va_D A [(ea, .inl (G.2 3, k, .inr (.inr (.inr (.inr f))))), (a, .inr (3, [.int m0, .ref u_, .int (nI k)])), (u_, .inl (G.2 3, k + (k / 2), .inr (.inr (.inr (.inr (va_cpy f (fun _ => none) 0 0 k))))))]) hS hfz hfk => ?_)
    obtain ⟨qa_972, rfl⟩ : ∃ z, z = u_ := ⟨_, rfl⟩
    have hP : va_P G.1 CL [(ea, .inl (G.2 3, k, .inr (.inr (.inr (.inr f))))), (a, .inr (3, [.int m0, .ref qa_972, .int (nI k)])), (qa_972, .inl (G.2 3, k + (k / 2), .inr (.inr (.inr (.inr (va_cpy f (fun _ => none) 0 0 k))))))] H := hP
    have hD : va_D A [(ea, .inl (G.2 3, k, .inr (.inr (.inr (.inr f))))), (a, .inr (3, [.int m0, .ref qa_972, .int (nI k)])), (qa_972, .inl (G.2 3, k + (k / 2), .inr (.inr (.inr (.inr (va_cpy f (fun _ => none) 0 0 k))))))] := hD
    refine W.eq (g2 := F0 m 10 ls [.ref qa_972]) rfl ?_
    refine lv_astore_n (lv' := [(2, .ref qa_972), (0, .ref a), (1, .ref x), (3, .int (nI k))]) hx hb dJ2_add_2_10 rfl hl (by decide) rfl (fun ls hl => ?_)
    refine lv_aload_n hx hb dJ2_add_2_11 rfl (lv_at hl 0 rfl) ?_
    refine lv_iload_n hx hb dJ2_add_2_12 rfl (lv_at hl 3 rfl) ?_
    refine lv_aload_n hx hb dJ2_add_2_13 rfl (lv_at hl 2 rfl) ?_
    refine r_astO (i := k) hx hb hKB hP hD hS 2 rfl (any_el hKB (hR0.w hS) hxe) (by omega) (by omega) dJ2_add_2_14 (fun H locs (hP : va_P G.1 CL [(ea, .inl (G.2 3, k, .inr (.inr (.inr (.inr f))))), (a, .inr (3, [.int m0, .ref qa_972, .int (nI k)])), (qa_972, .inl (G.2 3, k + (k / 2), .inr (.inr (.inr (.inr (va_up (va_cpy f (fun _ => none) 0 0 k) k (some x)))))))] H) (hD : va_D A [(ea, .inl (G.2 3, k, .inr (.inr (.inr (.inr f))))), (a, .inr (3, [.int m0, .ref qa_972, .int (nI k)])), (qa_972, .inl (G.2 3, k + (k / 2), .inr (.inr (.inr (.inr (va_up (va_cpy f (fun _ => none) 0 0 k) k (some x)))))))]) hS => ?_)
    refine lv_aload_n hx hb dJ2_add_2_15 rfl (lv_at hl 1 rfl) ?_
    refine lv_iload_n hx hb dJ2_add_2_16 rfl (lv_at hl 3 rfl) ?_
    refine lv_iconst (v := nI 1) hx hb dJ2_add_2_17 (by decide) ?_
    refine lv_iadd hx hb dJ2_add_2_18 ?_
    refine lv_ton (n := k + 1) (nadd (by omega)) ?_
    refine va_put (v := .int (nI (k + 1))) (ty := .int) hx hb hts in_J2 tyJ2 tyJ2_ok nmJ2 hown hK hP hD hS 1 rfl rfl 2 (by decide) (hts _ q118) (fun _ h => h) rfl (by decide +kernel) rfl rfl (Nat.le_of_ble_eq_true rfl) dJ2_add_2_19 (fun H locs (hP : va_P G.1 CL [(ea, .inl (G.2 3, k, .inr (.inr (.inr (.inr f))))), (a, .inr (3, [.int m0, .ref qa_972, .int (nI (k + 1))])), (qa_972, .inl (G.2 3, k + (k / 2), .inr (.inr (.inr (.inr (va_up (va_cpy f (fun _ => none) 0 0 k) k (some x)))))))] H) (hD : va_D A [(ea, .inl (G.2 3, k, .inr (.inr (.inr (.inr f))))), (a, .inr (3, [.int m0, .ref qa_972, .int (nI (k + 1))])), (qa_972, .inl (G.2 3, k + (k / 2), .inr (.inr (.inr (.inr (va_up (va_cpy f (fun _ => none) 0 0 k) k (some x)))))))]) hS => ?_)
    have hP9 : va_P G.1 CL [(a, .inr (3, [.int m0, .ref qa_972, .int (nI (k + 1))])), (qa_972, .inl (G.2 3, k + (k / 2), .inr (.inr (.inr (.inr (va_up (va_cpy f (fun _ => none) 0 0 k) k (some x)))))))] H := hP.sub [1, 2] rfl
    have hD9 : va_D A [(a, .inr (3, [.int m0, .ref qa_972, .int (nI (k + 1))])), (qa_972, .inl (G.2 3, k + (k / 2), .inr (.inr (.inr (.inr (va_up (va_cpy f (fun _ => none) 0 0 k) k (some x)))))))] := hD.sub [1, 2] (by decide) rfl
    exact end_v hx hb hr hlk (qc_of (qa_972, k + (k / 2), va_up (va_cpy f (fun _ => none) 0 0 k) k (some x)) (v := none) (by rfl) (⟨show k < k + (k / 2) by omega, show k + (k / 2) ≤ 60 by omega, show 2 ≤ k + (k / 2) by omega, fun j (hj : j < k) => (va_up_ne _ _ (Nat.ne_of_lt hj)).trans (cpy_lt hj), show (va_up (va_cpy f (fun _ => none) 0 0 k) k (some x)) k = some x from va_up_self _ _ _⟩) hP9 hD9 (trivial) hS) hS dJ2_add_2_22 (show 0 + 1 ≤ 1 from by first | exact Nat.le_refl _ | decide | omega) (show 0 + (k + k / 2) ≤ 60 from by first | exact Nat.le_refl _ | decide | omega)

set_option maxHeartbeats 4000000 in
theorem mJ2_addO (l : Launch) (G : Gt) (a : Nat) (m0 : Int32) (ea : Nat) (k : Nat) (cap : Nat) (f : Nat → Option Nat) (x : Nat) (Wi : va_W) (hk : k ≤ cap ∧ k ≤ 40) (hc : 2 ≤ cap ∧ cap ≤ 60) (hel : ∀ i, i < k → ∀ y, f i = some y → ElIn Wi y) (hxe : ElIn Wi x) : CT l G yJ2_add cJ2_add 2 (some .boolean) ({ frames := 6, cells := 1, slots := 60, locals := 144 } : Room) [.ref a, .ref x] [(a, .inr (3, [.int m0, .ref ea, .int (nI k)])), (ea, .inl (G.2 3, cap, .inr (.inr (.inr (.inr f)))))] (fun (A : Nat → Prop) (H : Heap) => roW G A H Wi) (S := Nat × Nat × (Nat → Option Nat)) (fun (u_ : Nat × Nat × (Nat → Option Nat)) => some (.int (nI 1))) (fun (u_ : Nat × Nat × (Nat → Option Nat)) => k < u_.2.1 ∧ u_.2.1 ≤ 60 ∧ 2 ≤ u_.2.1 ∧ (∀ j, j < k → u_.2.2 j = f j) ∧ u_.2.2 k = some x) (fun (u_ : Nat × Nat × (Nat → Option Nat)) => [(a, .inr (3, [.int (m0 + nI 1), .ref u_.1, .int (nI (k + 1))])), (u_.1, .inl (G.2 3, u_.2.1, .inr (.inr (.inr (.inr u_.2.2)))))]) (fun (u_ : Nat × Nat × (Nat → Option Nat)) (H : Heap) => True) := by
  refine CT.of (by decide) (Nat.le_of_ble_eq_true rfl) ?_
  intro p e s m below meth c ls A H locs h9 hH0 hP hS
  obtain ⟨cf, hr, hlk, hnm, hKB, hE, -, hD, -, hA, hAw, hR0, hl⟩ := h9
  have hx := cf.1
  have hb := cf.2.1
  have hml := cf.2.2.1
  have hown : s.vm.findClass RJ2 = some m.cls := cf.2.2.2.1
  have hts := cf.2.2.2.2
  have hK := hKB.1
  have hl : lv_has ls 2 [(0, .ref a), (1, .ref x)] := hl
  refine lv_aload_n hx hb dJ2_add_0 rfl (lv_at hl 0 rfl) ?_
  refine lv_dup hx hb dJ2_add_1 rfl ?_
  refine va_get hx hb hts in_J2 hown hK hP 0 rfl rfl 0 (by decide) (hts _ q120) (u_same (hts _ q121)) rfl dJ2_add_2 ?_
  refine lv_iconst (v := nI 1) hx hb dJ2_add_5 (by decide) ?_
  refine lv_iadd hx hb dJ2_add_6 ?_
  refine va_put (v := .int (m0 + (nI 1))) (ty := .int) hx hb hts in_J2 tyJ2 tyJ2_ok nmJ2 hown hK hP hD hS 0 rfl rfl 0 (by decide) (hts _ q120) (u_same (hts _ q121)) rfl (by decide +kernel) rfl rfl (Nat.le_of_ble_eq_true rfl) dJ2_add_7 (fun H locs (hP : va_P G.1 CL [(a, .inr (3, [.int (m0 + (nI 1)), .ref ea, .int (nI k)])), (ea, .inl (G.2 3, cap, .inr (.inr (.inr (.inr f)))))] H) (hD : va_D A [(a, .inr (3, [.int (m0 + (nI 1)), .ref ea, .int (nI k)])), (ea, .inl (G.2 3, cap, .inr (.inr (.inr (.inr f)))))]) hS => ?_)
  refine lv_aload_n hx hb dJ2_add_10 rfl (lv_at hl 0 rfl) ?_
  refine lv_aload_n hx hb dJ2_add_11 rfl (lv_at hl 1 rfl) ?_
  refine lv_aload_n hx hb dJ2_add_12 rfl (lv_at hl 0 rfl) ?_
  refine va_get hx hb hts in_J2 hown hK hP 0 rfl rfl 1 (by decide) (hts _ q117) (fun _ h => h) rfl dJ2_add_13 ?_
  refine lv_aload_n hx hb dJ2_add_16 rfl (lv_at hl 0 rfl) ?_
  refine va_get hx hb hts in_J2 hown hK hP 0 rfl rfl 2 (by decide) (hts _ q118) (fun _ h => h) rfl dJ2_add_17 ?_
  have hF := hF_of (wc := [(a, .inr (3, [.int (m0 + (nI 1)), .ref ea, .int (nI k)])), (ea, .inl (G.2 3, cap, .inr (.inr (.inr (.inr f)))))]) hD hS hA [0, 1] rfl
  refine go_ct hS hP hD [0, 1] [] hF rfl rfl (by decide) (by decide)
      (va_runV (As := [.ref x, .ref ea, .int (nI k)]) (rest := []) cf (mJ2_add_2O l G a (m0 + (nI 1)) ea k cap f x Wi (show k ≤ cap ∧ k ≤ 40 from by first | assumption | omega) (show 2 ≤ cap ∧ cap ≤ 60 from by first | assumption | omega) (show ∀ i, i < k → ∀ y, f i = some y → ElIn Wi y from by first | assumption | omega) (show ElIn Wi x from by first | assumption | omega) H.size) (cwV 3 hts (lw_V q489 q491 qs3 q52 q492) rfl rfl rfl (by decide +kernel) ⟨Nat.le_of_ble_eq_true rfl, Nat.le_of_ble_eq_true rfl⟩) (preV_of hKB hE hS hF (va_recv hK hP (ci := 3) (q0 := 0) rfl rfl) (va_P.sub hP [0, 1] rfl) ((va_D.sub hD [0, 1] (by decide) rfl).weaken (fun _ _ _ _ => trivial)) (hR0.kp hF hS.2.1)) rfl rfl hl.1 rfl (lv_room (Nat.le_of_ble_eq_true rfl)) dJ2_add_20 ⟨show 0 + 1 ≤ 1 from by first | decide | omega, show 0 + 60 ≤ 60 from by first | decide | omega⟩)
      (fun u_ H locs hq hph (hP : va_P G.1 CL [(a, .inr (3, [.int (m0 + (nI 1)), .ref u_.1, .int (nI (k + 1))])), (u_.1, .inl (G.2 3, u_.2.1, .inr (.inr (.inr (.inr u_.2.2)))))] H) (hD : va_D A [(a, .inr (3, [.int (m0 + (nI 1)), .ref u_.1, .int (nI (k + 1))])), (u_.1, .inl (G.2 3, u_.2.1, .inr (.inr (.inr (.inr u_.2.2)))))]) hS hfz hfk => ?_)
  obtain ⟨ea2_973, cap2_974, f2_975⟩ := u_
  have hP : va_P G.1 CL [(a, .inr (3, [.int (m0 + (nI 1)), .ref ea2_973, .int (nI (k + 1))])), (ea2_973, .inl (G.2 3, cap2_974, .inr (.inr (.inr (.inr f2_975)))))] H := hP
  have hD : va_D A [(a, .inr (3, [.int (m0 + (nI 1)), .ref ea2_973, .int (nI (k + 1))])), (ea2_973, .inl (G.2 3, cap2_974, .inr (.inr (.inr (.inr f2_975)))))] := hD
  obtain ⟨hq_976, hq_977, hq_978, hq_979, hq_980⟩ : k < cap2_974 ∧ cap2_974 ≤ 60 ∧ 2 ≤ cap2_974 ∧ (∀ j, j < k → f2_975 j = f j) ∧ f2_975 k = some x := hq
  refine W.eq (g2 := F0 m 23 ls []) rfl ?_
  refine lv_iconst (v := nI 1) hx hb dJ2_add_23 (by decide) ?_
  have hP9 : va_P G.1 CL [(a, .inr (3, [.int (m0 + (nI 1)), .ref ea2_973, .int (nI (k + 1))])), (ea2_973, .inl (G.2 3, cap2_974, .inr (.inr (.inr (.inr f2_975)))))] H := hP.sub [0, 1] rfl
  have hD9 : va_D A [(a, .inr (3, [.int (m0 + (nI 1)), .ref ea2_973, .int (nI (k + 1))])), (ea2_973, .inl (G.2 3, cap2_974, .inr (.inr (.inr (.inr f2_975)))))] := hD.sub [0, 1] (by decide) rfl
  exact end_i hx hb hr hlk (by decide) (qc_of (ea2_973, cap2_974, f2_975) (v := some (.int (nI 1))) (by rfl) (⟨hq_976, hq_977, hq_978, hq_979, hq_980⟩) hP9 hD9 (trivial) hS) hS dJ2_add_24 (show 0 + 1 ≤ 1 from by first | exact Nat.le_refl _ | decide | omega) (show 0 + 60 ≤ 60 from by first | exact Nat.le_refl _ | decide | omega)

theorem cpy_at {α : Type} {f g : Nat → α} {sp dp n j : Nat} (h1 : dp ≤ j) (h2 : j < dp + n) : va_cpy f g sp dp n j = f (sp + (j - dp)) := by
  unfold va_cpy
  rw [if_pos ⟨h1, h2⟩]
theorem cpy_ne {α : Type} {f g : Nat → α} {sp dp n j : Nat} (h : j < dp ∨ dp + n ≤ j) : va_cpy f g sp dp n j = g j := by
  unfold va_cpy
  rw [if_neg (by omega)]

set_option maxHeartbeats 4000000 in
theorem mJ2_rangeCheckForAdd (l : Launch) (G : Gt) (a : Nat) (m0 : Int32) (ea : Nat) (k : Nat) (i : Nat) (hi : i ≤ k) (hk : k < 2 ^ 31) : CT l G yJ2_rangeCheckForAdd cJ2_rangeCheckForAdd 2 none ({ frames := 1, cells := 0, slots := 0, locals := 12 } : Room) [.ref a, .int (nI i)] [] (fun (A : Nat → Prop) (H : Heap) => roW G A H [(a, .inr (3, [.int m0, .ref ea, .int (nI k)]))]) (S := Unit) (fun (u_ : Unit) => (none : Option Value)) (fun (u_ : Unit) => True) (fun (u_ : Unit) => []) (fun (u_ : Unit) (H : Heap) => True) := by
  refine CT.of (by decide) (Nat.le_of_ble_eq_true rfl) ?_
  intro p e s m below meth c ls A H locs h9 hH0 hP hS
  obtain ⟨cf, hr, hlk, hnm, hKB, hE, -, hD, -, hA, hAw, hR0, hl⟩ := h9
  have hx := cf.1
  have hb := cf.2.1
  have hml := cf.2.2.1
  have hown : s.vm.findClass RJ2 = some m.cls := cf.2.2.2.1
  have hts := cf.2.2.2.2
  have hK := hKB.1
  have hl : lv_has ls 2 [(0, .ref a), (1, .int (nI i))] := hl
  refine lv_iload_n hx hb dJ2_rangeCheckForAdd_0 rfl (lv_at hl 1 rfl) ?_
  refine lv_aload_n hx hb dJ2_rangeCheckForAdd_1 rfl (lv_at hl 0 rfl) ?_
  refine va_get hx hb hts in_J2 hown hK (hR0.w hS) 0 rfl rfl 2 (by decide) (hts _ q118) (fun _ h => h) rfl dJ2_rangeCheckForAdd_2 ?_
  refine n_icmp_gt (tgt := 12) hx hb (by omega) (by omega) dJ2_rangeCheckForAdd_5 (by decide) (fun c_982 => absurd c_982 (by omega)) (fun c_982 => ?_)
  refine lv_iload_n hx hb dJ2_rangeCheckForAdd_8 rfl (lv_at hl 1 rfl) ?_
  refine n_if_ge (tgt := 25) hx hb (by omega) dJ2_rangeCheckForAdd_9 (by decide) ?_
  have hP9 : va_P G.1 CL [] H := hP.sub [] rfl
  have hD9 : va_D A [] := hD.sub [] (by decide) rfl
  exact end_v hx hb hr hlk (qc_of () (v := none) (by rfl) (trivial) hP9 hD9 (trivial) hS) hS dJ2_rangeCheckForAdd_25 (show 0 ≤ 0 from by first | exact Nat.le_refl _ | decide | omega) (show 0 ≤ 0 from by first | exact Nat.le_refl _ | decide | omega)

set_option maxHeartbeats 4000000 in
theorem mJ2_add_3E (l : Launch) (G : Gt) (a : Nat) (m0 : Int32) (x : Nat) (Wi : va_W) (hxe : ElIn Wi x) : CT l G yJ2_add_3 cJ2_add_3 5 none ({ frames := 3, cells := 1, slots := 10, locals := 63 } : Room) [.ref a, .int (nI 0), .ref x] [(a, .inr (3, [.int m0, .ref (G.2 99), .int (nI 0)]))] (fun (A : Nat → Prop) (H : Heap) => roW G A H Wi) (S := Nat × (Nat → Option Nat)) (fun (u_ : Nat × (Nat → Option Nat)) => (none : Option Value)) (fun (u_ : Nat × (Nat → Option Nat)) => u_.2 0 = some x) (fun (u_ : Nat × (Nat → Option Nat)) => [(a, .inr (3, [.int (m0 + nI 1), .ref u_.1, .int (nI 1)])), (u_.1, .inl (G.2 3, 10, .inr (.inr (.inr (.inr u_.2)))))]) (fun (u_ : Nat × (Nat → Option Nat)) (H : Heap) => True) := by
  refine CT.of (by decide) (Nat.le_of_ble_eq_true rfl) ?_
  intro p e s m below meth c ls A H locs h9 hH0 hP hS
  obtain ⟨cf, hr, hlk, hnm, hKB, hE, -, hD, -, hA, hAw, hR0, hl⟩ := h9
  have hx := cf.1
  have hb := cf.2.1
  have hml := cf.2.2.1
  have hown : s.vm.findClass RJ2 = some m.cls := cf.2.2.2.1
  have hts := cf.2.2.2.2
  have hK := hKB.1
  have hl : lv_has ls 5 [(0, .ref a), (1, .int (nI 0)), (2, .ref x)] := hl
  have hR99 : roW G A s.heap [(G.2 99, .inl (G.2 3, 0, .inr (.inr (.inr (.inr (fun _ => none))))))] := hE.2.2.2.2.2
  refine lv_aload_n hx hb dJ2_add_3_0 rfl (lv_at hl 0 rfl) ?_
  refine lv_iload_n hx hb dJ2_add_3_1 rfl (lv_at hl 1 rfl) ?_
  have hF := hF_of (wc := []) hD hS hA [] rfl
  have hro_983 : va_P G.1 CL [(a, .inr (3, [.int m0, .ref (G.2 99), .int (nI 0)]))] H := (va_P.sub hP [0] rfl)
  refine go_ct hS hP hD [] [0] hF rfl rfl (by decide) (by decide)
      (va_runV (As := [.int (nI 0)]) (rest := []) cf (mJ2_rangeCheckForAdd l G a m0 (G.2 99) 0 0 (show 0 ≤ 0 from by first | assumption | omega) (show 0 < 2 ^ 31 from by first | assumption | omega) H.size) (cwV 1 hts (lw_V q779 q781 qs11 q52 q782) rfl rfl rfl (by decide +kernel) ⟨Nat.le_of_ble_eq_true rfl, Nat.le_of_ble_eq_true rfl⟩) (preV_of hKB hE hS hF (va_recv hK hP (ci := 3) (q0 := 0) rfl rfl) (va_P.sub hP [] rfl) ((va_D.sub hD [] (by decide) rfl).weaken (fun _ _ _ _ => trivial)) (roW.nil hro_983)) rfl rfl hl.1 rfl (lv_room (Nat.le_of_ble_eq_true rfl)) dJ2_add_3_2 ⟨show 0 + 0 ≤ 1 from by first | decide | omega, show 0 + 0 ≤ 10 from by first | decide | omega⟩)
      (fun u_ H locs hq hph (hP : va_P G.1 CL [(a, .inr (3, [.int m0, .ref (G.2 99), .int (nI 0)]))] H) (hD : va_D A [(a, .inr (3, [.int m0, .ref (G.2 99), .int (nI 0)]))]) hS hfz hfk => ?_)
  refine W.eq (g2 := F0 m 5 ls []) rfl ?_
  refine lv_aload_n hx hb dJ2_add_3_5 rfl (lv_at hl 0 rfl) ?_
  refine lv_dup hx hb dJ2_add_3_6 rfl ?_
  refine va_get hx hb hts in_J2 hown hK hP 0 rfl rfl 0 (by decide) (hts _ q120) (u_same (hts _ q121)) rfl dJ2_add_3_7 ?_
  refine lv_iconst (v := nI 1) hx hb dJ2_add_3_10 (by decide) ?_
  refine lv_iadd hx hb dJ2_add_3_11 ?_
  refine va_put (v := .int (m0 + (nI 1))) (ty := .int) hx hb hts in_J2 tyJ2 tyJ2_ok nmJ2 hown hK hP hD hS 0 rfl rfl 0 (by decide) (hts _ q120) (u_same (hts _ q121)) rfl (by decide +kernel) rfl rfl (Nat.le_of_ble_eq_true rfl) dJ2_add_3_12 (fun H locs (hP : va_P G.1 CL [(a, .inr (3, [.int (m0 + (nI 1)), .ref (G.2 99), .int (nI 0)]))] H) (hD : va_D A [(a, .inr (3, [.int (m0 + (nI 1)), .ref (G.2 99), .int (nI 0)]))]) hS => ?_)
  refine lv_aload_n hx hb dJ2_add_3_15 rfl (lv_at hl 0 rfl) ?_
  refine va_get hx hb hts in_J2 hown hK hP 0 rfl rfl 2 (by decide) (hts _ q118) (fun _ h => h) rfl dJ2_add_3_16 ?_
  refine lv_dup hx hb dJ2_add_3_19 rfl ?_
  refine lv_istore_n (lv' := [(3, .int (nI 0)), (0, .ref a), (1, .int (nI 0)), (2, .ref x)]) hx hb dJ2_add_3_20 rfl hl (by decide) rfl (fun ls hl => ?_)
  refine lv_aload_n hx hb dJ2_add_3_21 rfl (lv_at hl 1 rfl) ?_
  refine va_get hx hb hts in_J2 hown hK hP 0 rfl rfl 1 (by decide) (hts _ q117) (fun _ h => h) rfl dJ2_add_3_22 ?_
  refine lv_dup hx hb dJ2_add_3_25 rfl ?_
  refine lv_astore (lv' := [(4, .ref (G.2 99)), (3, .int (nI 0)), (0, .ref a), (1, .int (nI 0)), (2, .ref x)]) hx hb dJ2_add_3_26 hl (by decide) rfl (fun ls hl => ?_)
  refine r_alen hx hb hK (hR99.w hS) 0 3 rfl rfl dJ2_add_3_28 ?_
  refine n_icmp_ne (tgt := 38) hx hb (by omega) (by omega) dJ2_add_3_29 (by decide) (fun c_985 => absurd c_985 (by omega)) (fun c_985 => ?_)
  refine lv_aload_n hx hb dJ2_add_3_32 rfl (lv_at hl 2 rfl) ?_
  have hF := hF_of (wc := [(a, .inr (3, [.int (m0 + (nI 1)), .ref (G.2 99), .int (nI 0)]))]) hD hS hA [0] rfl
  refine go_ct hS hP hD [0] [] hF rfl rfl (by decide) (by decide)
      (va_runV (As := []) (rest := []) cf (mJ2_growE l G a (m0 + (nI 1))  H.size) (cwV 0 hts (lw_V q493 q495 qs4 q52 q496) rfl rfl rfl (by decide +kernel) ⟨Nat.le_of_ble_eq_true rfl, Nat.le_of_ble_eq_true rfl⟩) (preV_of hKB hE hS hF (va_recv hK hP (ci := 3) (q0 := 0) rfl rfl) (va_P.sub hP [0] rfl) ((va_D.sub hD [0] (by decide) rfl).weaken (fun _ _ _ _ => trivial)) trivial) rfl rfl hl.1 rfl (lv_room (Nat.le_of_ble_eq_true rfl)) dJ2_add_3_33 ⟨show 0 + 1 ≤ 1 from by first | decide | omega, show 0 + 10 ≤ 10 from by first | decide | omega⟩)
      (fun u_ H locs hq hph (hP : va_P G.1 CL [(a, .inr (3, [.int (m0 + (nI 1)), .ref u_, .int (nI 0)])), (u_, .inl (G.2 3, 10, .inr (.inr (.inr (.inr (fun _ => none))))))] H) (hD : va_D A [(a, .inr (3, [.int (m0 + (nI 1)), .ref u_, .int (nI 0)])), (u_, .inl (G.2 3, 10, .inr (.inr (.inr (.inr (fun _ => none))))))]) hS hfz hfk => ?_)
  obtain ⟨qa_986, rfl⟩ : ∃ z, z = u_ := ⟨_, rfl⟩
  have hP : va_P G.1 CL [(a, .inr (3, [.int (m0 + (nI 1)), .ref qa_986, .int (nI 0)])), (qa_986, .inl (G.2 3, 10, .inr (.inr (.inr (.inr (fun _ => none))))))] H := hP
  have hD : va_D A [(a, .inr (3, [.int (m0 + (nI 1)), .ref qa_986, .int (nI 0)])), (qa_986, .inl (G.2 3, 10, .inr (.inr (.inr (.inr (fun _ => none))))))] := hD
  refine W.eq (g2 := F0 m 36 ls [.ref qa_986]) rfl ?_
  refine lv_astore (lv' := [(4, .ref qa_986), (3, .int (nI 0)), (0, .ref a), (1, .int (nI 0)), (2, .ref x)]) hx hb dJ2_add_3_36 hl (by decide) rfl (fun ls hl => ?_)
  refine lv_aload hx hb dJ2_add_3_38 (lv_at hl 0 rfl) ?_
  refine lv_iload_n hx hb dJ2_add_3_40 rfl (lv_at hl 3 rfl) ?_
  refine lv_aload hx hb dJ2_add_3_41 (lv_at hl 0 rfl) ?_
  refine lv_iload_n hx hb dJ2_add_3_43 rfl (lv_at hl 3 rfl) ?_
  refine lv_iconst (v := nI 1) hx hb dJ2_add_3_44 (by decide) ?_
  refine lv_iadd hx hb dJ2_add_3_45 ?_
  refine lv_ton (n := 1) (nadd (by omega)) ?_
  refine lv_iload_n hx hb dJ2_add_3_46 rfl (lv_at hl 1 rfl) ?_
  refine lv_iload_n hx hb dJ2_add_3_47 rfl (lv_at hl 3 rfl) ?_
  refine lv_isub hx hb dJ2_add_3_48 ?_
  refine lv_ton (n := 0) (nsub (by omega)) ?_
  refine r_copyO hx hb (by rw [hml]; exact hl.1.symm) hown (hts _ q1004) (hts _ q547) (hts _ q546) (hts _ q69) hKB hP 1 hP hD hS 1 (sp := 0) (dp := 1) (n := 0) rfl rfl (by omega) (by omega) (by omega) (by omega) (fun i hi => absurd hi (Nat.not_lt_zero _)) (Nat.le_of_ble_eq_true rfl) (Nat.le_of_ble_eq_true rfl) dJ2_add_3_49 (fun H locs (hP : va_P G.1 CL [(a, .inr (3, [.int (m0 + (nI 1)), .ref qa_986, .int (nI 0)])), (qa_986, .inl (G.2 3, 10, .inr (.inr (.inr (.inr (va_cpy (fun _ => none) (fun _ => none) 0 1 0))))))] H) (hD : va_D A [(a, .inr (3, [.int (m0 + (nI 1)), .ref qa_986, .int (nI 0)])), (qa_986, .inl (G.2 3, 10, .inr (.inr (.inr (.inr (va_cpy (fun _ => none) (fun _ => none) 0 1 0))))))]) hS => ?_)
  refine lv_aload hx hb dJ2_add_3_52 (lv_at hl 0 rfl) ?_
  refine lv_iload_n hx hb dJ2_add_3_54 rfl (lv_at hl 3 rfl) ?_
  refine lv_aload_n hx hb dJ2_add_3_55 rfl (lv_at hl 4 rfl) ?_
  refine r_astO (i := 0) hx hb hKB hP hD hS 1 rfl (any_el hKB (hR0.w hS) hxe) (by omega) (by omega) dJ2_add_3_56 (fun H locs (hP : va_P G.1 CL [(a, .inr (3, [.int (m0 + (nI 1)), .ref qa_986, .int (nI 0)])), (qa_986, .inl (G.2 3, 10, .inr (.inr (.inr (.inr (va_up (va_cpy (fun _ => none) (fun _ => none) 0 1 0) 0 (some x)))))))] H) (hD : va_D A [(a, .inr (3, [.int (m0 + (nI 1)), .ref qa_986, .int (nI 0)])), (qa_986, .inl (G.2 3, 10, .inr (.inr (.inr (.inr (va_up (va_cpy (fun _ => none) (fun _ => none) 0 1 0) 0 (some x)))))))]) hS => ?_)
  refine lv_aload_n hx hb dJ2_add_3_57 rfl (lv_at hl 2 rfl) ?_
  refine lv_iload_n hx hb dJ2_add_3_58 rfl (lv_at hl 1 rfl) ?_
  refine lv_iconst (v := nI 1) hx hb dJ2_add_3_59 (by decide) ?_
  refine lv_iadd hx hb dJ2_add_3_60 ?_
  refine lv_ton (n := 1) (nadd (by omega)) ?_
  refine va_put (v := .int (nI 1)) (ty := .int) hx hb hts in_J2 tyJ2 tyJ2_ok nmJ2 hown hK hP hD hS 0 rfl rfl 2 (by decide) (hts _ q118) (fun _ h => h) rfl (by decide +kernel) rfl rfl (Nat.le_of_ble_eq_true rfl) dJ2_add_3_61 (fun H locs (hP : va_P G.1 CL [(a, .inr (3, [.int (m0 + (nI 1)), .ref qa_986, .int (nI 1)])), (qa_986, .inl (G.2 3, 10, .inr (.inr (.inr (.inr (va_up (va_cpy (fun _ => none) (fun _ => none) 0 1 0) 0 (some x)))))))] H) (hD : va_D A [(a, .inr (3, [.int (m0 + (nI 1)), .ref qa_986, .int (nI 1)])), (qa_986, .inl (G.2 3, 10, .inr (.inr (.inr (.inr (va_up (va_cpy (fun _ => none) (fun _ => none) 0 1 0) 0 (some x)))))))]) hS => ?_)
  have hP9 : va_P G.1 CL [(a, .inr (3, [.int (m0 + (nI 1)), .ref qa_986, .int (nI 1)])), (qa_986, .inl (G.2 3, 10, .inr (.inr (.inr (.inr (va_up (va_cpy (fun _ => none) (fun _ => none) 0 1 0) 0 (some x)))))))] H := hP.sub [0, 1] rfl
  have hD9 : va_D A [(a, .inr (3, [.int (m0 + (nI 1)), .ref qa_986, .int (nI 1)])), (qa_986, .inl (G.2 3, 10, .inr (.inr (.inr (.inr (va_up (va_cpy (fun _ => none) (fun _ => none) 0 1 0) 0 (some x)))))))] := hD.sub [0, 1] (by decide) rfl
  exact end_v hx hb hr hlk (qc_of (qa_986, va_up (va_cpy (fun _ => none) (fun _ => none) 0 1 0) 0 (some x)) (v := none) (by rfl) (show (va_up (va_cpy (fun _ => none) (fun _ => none) 0 1 0) 0 (some x)) 0 = some x from va_up_self _ _ _) hP9 hD9 (trivial) hS) hS dJ2_add_3_64 (show 0 + 1 ≤ 1 from by first | exact Nat.le_refl _ | decide | omega) (show 0 + 10 ≤ 10 from by first | exact Nat.le_refl _ | decide | omega)

set_option maxHeartbeats 4000000 in
theorem mJ2_add_3O (l : Launch) (G : Gt) (a : Nat) (m0 : Int32) (ea : Nat) (k : Nat) (cap : Nat) (f : Nat → Option Nat) (x : Nat) (Wi : va_W) (i : Nat) (hk : k ≤ cap ∧ k ≤ 40) (hc : 2 ≤ cap ∧ cap ≤ 60) (hel : ∀ i, i < k → ∀ y, f i = some y → ElIn Wi y) (hxe : ElIn Wi x) (hi : i ≤ k) : CT l G yJ2_add_3 cJ2_add_3 5 none ({ frames := 5, cells := 1, slots := 60, locals := 121 } : Room) [.ref a, .int (nI i), .ref x] [(a, .inr (3, [.int m0, .ref ea, .int (nI k)])), (ea, .inl (G.2 3, cap, .inr (.inr (.inr (.inr f)))))] (fun (A : Nat → Prop) (H : Heap) => roW G A H Wi) (S := Nat × Nat × (Nat → Option Nat)) (fun (u_ : Nat × Nat × (Nat → Option Nat)) => (none : Option Value)) (fun (u_ : Nat × Nat × (Nat → Option Nat)) => k < u_.2.1 ∧ u_.2.1 ≤ 60 ∧ 2 ≤ u_.2.1 ∧ (∀ j, j < i → u_.2.2 j = f j) ∧ u_.2.2 i = some x ∧ (∀ j, i ≤ j → j < k → u_.2.2 (j + 1) = f j)) (fun (u_ : Nat × Nat × (Nat → Option Nat)) => [(a, .inr (3, [.int (m0 + nI 1), .ref u_.1, .int (nI (k + 1))])), (u_.1, .inl (G.2 3, u_.2.1, .inr (.inr (.inr (.inr u_.2.2)))))]) (fun (u_ : Nat × Nat × (Nat → Option Nat)) (H : Heap) => True) := by
  refine CT.of (by decide) (Nat.le_of_ble_eq_true rfl) ?_
  intro p e s m below meth c ls A H locs h9 hH0 hP hS
  obtain ⟨cf, hr, hlk, hnm, hKB, hE, -, hD, -, hA, hAw, hR0, hl⟩ := h9
  have hx := cf.1
  have hb := cf.2.1
  have hml := cf.2.2.1
  have hown : s.vm.findClass RJ2 = some m.cls := cf.2.2.2.1
  have hts := cf.2.2.2.2
  have hK := hKB.1
  have hl : lv_has ls 5 [(0, .ref a), (1, .int (nI i)), (2, .ref x)] := hl
  refine lv_aload_n hx hb dJ2_add_3_0 rfl (lv_at hl 0 rfl) ?_
  refine lv_iload_n hx hb dJ2_add_3_1 rfl (lv_at hl 1 rfl) ?_
  have hF := hF_of (wc := []) hD hS hA [] rfl
  have hro_987 : va_P G.1 CL [(a, .inr (3, [.int m0, .ref ea, .int (nI k)]))] H := (va_P.sub hP [0] rfl)
  refine go_ct hS hP hD [] [0, 1] hF rfl rfl (by decide) (by decide)
      (va_runV (As := [.int (nI i)]) (rest := []) cf (mJ2_rangeCheckForAdd l G a m0 ea k i (show i ≤ k from by first | assumption | omega) (show k < 2 ^ 31 from by first | assumption | omega) H.size) (cwV 1 hts (lw_V q779 q781 qs11 q52 q782) rfl rfl rfl (by decide +kernel) ⟨Nat.le_of_ble_eq_true rfl, Nat.le_of_ble_eq_true rfl⟩) (preV_of hKB hE hS hF (va_recv hK hP (ci := 3) (q0 := 0) rfl rfl) (va_P.sub hP [] rfl) ((va_D.sub hD [] (by decide) rfl).weaken (fun _ _ _ _ => trivial)) (roW.nil hro_987)) rfl rfl hl.1 rfl (lv_room (Nat.le_of_ble_eq_true rfl)) dJ2_add_3_2 ⟨show 0 + 0 ≤ 1 from by first | decide | omega, show 0 + 0 ≤ 60 from by first | decide | omega⟩)
      (fun u_ H locs hq hph (hP : va_P G.1 CL [(a, .inr (3, [.int m0, .ref ea, .int (nI k)])), (ea, .inl (G.2 3, cap, .inr (.inr (.inr (.inr f)))))] H) (hD : va_D A [(a, .inr (3, [.int m0, .ref ea, .int (nI k)])), (ea, .inl (G.2 3, cap, .inr (.inr (.inr (.inr f)))))]) hS hfz hfk => ?_)
  refine W.eq (g2 := F0 m 5 ls []) rfl ?_
  refine lv_aload_n hx hb dJ2_add_3_5 rfl (lv_at hl 0 rfl) ?_
  refine lv_dup hx hb dJ2_add_3_6 rfl ?_
  refine va_get hx hb hts in_J2 hown hK hP 0 rfl rfl 0 (by decide) (hts _ q120) (u_same (hts _ q121)) rfl dJ2_add_3_7 ?_
  refine lv_iconst (v := nI 1) hx hb dJ2_add_3_10 (by decide) ?_
  refine lv_iadd hx hb dJ2_add_3_11 ?_
  refine va_put (v := .int (m0 + (nI 1))) (ty := .int) hx hb hts in_J2 tyJ2 tyJ2_ok nmJ2 hown hK hP hD hS 0 rfl rfl 0 (by decide) (hts _ q120) (u_same (hts _ q121)) rfl (by decide +kernel) rfl rfl (Nat.le_of_ble_eq_true rfl) dJ2_add_3_12 (fun H locs (hP : va_P G.1 CL [(a, .inr (3, [.int (m0 + (nI 1)), .ref ea, .int (nI k)])), (ea, .inl (G.2 3, cap, .inr (.inr (.inr (.inr f)))))] H) (hD : va_D A [(a, .inr (3, [.int (m0 + (nI 1)), .ref ea, .int (nI k)])), (ea, .inl (G.2 3, cap, .inr (.inr (.inr (.inr f)))))]) hS => ?_)
  refine lv_aload_n hx hb dJ2_add_3_15 rfl (lv_at hl 0 rfl) ?_
  refine va_get hx hb hts in_J2 hown hK hP 0 rfl rfl 2 (by decide) (hts _ q118) (fun _ h => h) rfl dJ2_add_3_16 ?_
  refine lv_dup hx hb dJ2_add_3_19 rfl ?_
  refine lv_istore_n (lv' := [(3, .int (nI k)), (0, .ref a), (1, .int (nI i)), (2, .ref x)]) hx hb dJ2_add_3_20 rfl hl (by decide) rfl (fun ls hl => ?_)
  refine lv_aload_n hx hb dJ2_add_3_21 rfl (lv_at hl 1 rfl) ?_
  refine va_get hx hb hts in_J2 hown hK hP 0 rfl rfl 1 (by decide) (hts _ q117) (fun _ h => h) rfl dJ2_add_3_22 ?_
  refine lv_dup hx hb dJ2_add_3_25 rfl ?_
  refine lv_astore (lv' := [(4, .ref ea), (3, .int (nI k)), (0, .ref a), (1, .int (nI i)), (2, .ref x)]) hx hb dJ2_add_3_26 hl (by decide) rfl (fun ls hl => ?_)
  refine r_alen hx hb hK hP 1 3 rfl rfl dJ2_add_3_28 ?_
  refine n_icmp_ne (tgt := 38) hx hb (by omega) (by omega) dJ2_add_3_29 (by decide) (fun c_989 => ?_) (fun c_989 => ?_)
  · refine lv_aload hx hb dJ2_add_3_38 (lv_at hl 0 rfl) ?_
    refine lv_iload_n hx hb dJ2_add_3_40 rfl (lv_at hl 3 rfl) ?_
    refine lv_aload hx hb dJ2_add_3_41 (lv_at hl 0 rfl) ?_
    refine lv_iload_n hx hb dJ2_add_3_43 rfl (lv_at hl 3 rfl) ?_
    refine lv_iconst (v := nI 1) hx hb dJ2_add_3_44 (by decide) ?_
    refine lv_iadd hx hb dJ2_add_3_45 ?_
    refine lv_ton (n := i + 1) (nadd (by omega)) ?_
    refine lv_iload_n hx hb dJ2_add_3_46 rfl (lv_at hl 1 rfl) ?_
    refine lv_iload_n hx hb dJ2_add_3_47 rfl (lv_at hl 3 rfl) ?_
    refine lv_isub hx hb dJ2_add_3_48 ?_
    refine lv_ton (n := (k - i)) (nsub (by omega)) ?_
    refine lv_ton (n := (k - i)) (rfl) ?_
    refine r_copyO hx hb (by rw [hml]; exact hl.1.symm) hown (hts _ q1004) (hts _ q547) (hts _ q546) (hts _ q69) hKB hP 1 hP hD hS 1 (sp := i) (dp := i + 1) (n := (k - i)) rfl rfl (by omega) (by omega) (by omega) (by omega) (fun j hj y hy => any_el hKB (hR0.w hS) (hel _ (show i + j < k by omega) y (hy))) (Nat.le_of_ble_eq_true rfl) (Nat.le_of_ble_eq_true rfl) dJ2_add_3_49 (fun H locs (hP : va_P G.1 CL [(a, .inr (3, [.int (m0 + (nI 1)), .ref ea, .int (nI k)])), (ea, .inl (G.2 3, cap, .inr (.inr (.inr (.inr (va_cpy f f i (i + 1) (k - i)))))))] H) (hD : va_D A [(a, .inr (3, [.int (m0 + (nI 1)), .ref ea, .int (nI k)])), (ea, .inl (G.2 3, cap, .inr (.inr (.inr (.inr (va_cpy f f i (i + 1) (k - i)))))))]) hS => ?_)
    refine lv_aload hx hb dJ2_add_3_52 (lv_at hl 0 rfl) ?_
    refine lv_iload_n hx hb dJ2_add_3_54 rfl (lv_at hl 3 rfl) ?_
    refine lv_aload_n hx hb dJ2_add_3_55 rfl (lv_at hl 4 rfl) ?_
    refine r_astO (i := i) hx hb hKB hP hD hS 1 rfl (any_el hKB (hR0.w hS) hxe) (by omega) (by omega) dJ2_add_3_56 (fun H locs (hP : va_P G.1 CL [(a, .inr (3, [.int (m0 + (nI 1)), .ref ea, .int (nI k)])), (ea, .inl (G.2 3, cap, .inr (.inr (.inr (.inr (va_up (va_cpy f f i (i + 1) (k - i)) i (some x)))))))] H) (hD : va_D A [(a, .inr (3, [.int (m0 + (nI 1)), .ref ea, .int (nI k)])), (ea, .inl (G.2 3, cap, .inr (.inr (.inr (.inr (va_up (va_cpy f f i (i + 1) (k - i)) i (some x)))))))]) hS => ?_)
    refine lv_aload_n hx hb dJ2_add_3_57 rfl (lv_at hl 2 rfl) ?_
    refine lv_iload_n hx hb dJ2_add_3_58 rfl (lv_at hl 1 rfl) ?_
    refine lv_iconst (v := nI 1) hx hb dJ2_add_3_59 (by decide) ?_
    refine lv_iadd hx hb dJ2_add_3_60 ?_
    refine lv_ton (n := k + 1) (nadd (by omega)) ?_
    refine va_put (v := .int (nI (k + 1))) (ty := .int) hx hb hts in_J2 tyJ2 tyJ2_ok nmJ2 hown hK hP hD hS 0 rfl rfl 2 (by decide) (hts _ q118) (fun _ h => h) rfl (by decide +kernel) rfl rfl (Nat.le_of_ble_eq_true rfl) dJ2_add_3_61 (fun H locs (hP : va_P G.1 CL [(a, .inr (3, [.int (m0 + (nI 1)), .ref ea, .int (nI (k + 1))])), (ea, .inl (G.2 3, cap, .inr (.inr (.inr (.inr (va_up (va_cpy f f i (i + 1) (k - i)) i (some x)))))))] H) (hD : va_D A [(a, .inr (3, [.int (m0 + (nI 1)), .ref ea, .int (nI (k + 1))])), (ea, .inl (G.2 3, cap, .inr (.inr (.inr (.inr (va_up (va_cpy f f i (i + 1) (k - i)) i (some x)))))))]) hS => ?_)
    have hP9 : va_P G.1 CL [(a, .inr (3, [.int (m0 + (nI 1)), .ref ea, .int (nI (k + 1))])), (ea, .inl (G.2 3, cap, .inr (.inr (.inr (.inr (va_up (va_cpy f f i (i + 1) (k - i)) i (some x)))))))] H := hP.sub [0, 1] rfl
    have hD9 : va_D A [(a, .inr (3, [.int (m0 + (nI 1)), .ref ea, .int (nI (k + 1))])), (ea, .inl (G.2 3, cap, .inr (.inr (.inr (.inr (va_up (va_cpy f f i (i + 1) (k - i)) i (some x)))))))] := hD.sub [0, 1] (by decide) rfl
    exact end_v hx hb hr hlk (qc_of (ea, cap, va_up (va_cpy f f i (i + 1) (k - i)) i (some x)) (v := none) (by rfl) (⟨show k < cap by omega, show cap ≤ 60 by omega, show 2 ≤ cap by omega, fun j (hj : j < i) => (va_up_ne _ _ (Nat.ne_of_lt hj)).trans ((cpy_ne (Or.inl (by omega))).trans rfl), show (va_up (va_cpy f f i (i + 1) (k - i)) i (some x)) i = some x from va_up_self _ _ _, fun j (h1 : i ≤ j) (h2 : j < k) => (va_up_ne _ _ (by omega)).trans ((cpy_at (by omega) (by omega)).trans (by rw [show i + (j + 1 - (i + 1)) = j by omega]))⟩) hP9 hD9 (trivial) hS) hS dJ2_add_3_64 (show 0 ≤ 1 from by first | exact Nat.le_refl _ | decide | omega) (show 0 ≤ 60 from by first | exact Nat.le_refl _ | decide | omega)
  · obtain rfl : k = cap := by omega
    refine lv_aload_n hx hb dJ2_add_3_32 rfl (lv_at hl 2 rfl) ?_
    have hF := hF_of (wc := [(a, .inr (3, [.int (m0 + (nI 1)), .ref ea, .int (nI k)]))]) hD hS hA [0] rfl
    refine go_ct hS hP hD [0] [1] hF rfl rfl (by decide) (by decide)
        (va_runV (As := []) (rest := []) cf (mJ2_growO l G a (m0 + (nI 1)) ea k f Wi (show 2 ≤ k ∧ k ≤ 40 from by first | assumption | omega) (show ∀ i, i < k → ∀ y, f i = some y → ElIn Wi y from by first | assumption | omega) H.size) (cwV 0 hts (lw_V q493 q495 qs4 q52 q496) rfl rfl rfl (by decide +kernel) ⟨Nat.le_of_ble_eq_true rfl, Nat.le_of_ble_eq_true rfl⟩) (preV_of hKB hE hS hF (va_recv hK hP (ci := 3) (q0 := 0) rfl rfl) (va_P.sub hP [0] rfl) ((va_D.sub hD [0] (by decide) rfl).weaken (fun _ _ _ _ => trivial)) ⟨(roW.of (w' := [(ea, .inl (G.2 3, k, .inr (.inr (.inr (.inr f)))))]) hP hD [0] [1] rfl rfl (by decide)), (hR0.kp hF hS.2.1)⟩) rfl rfl hl.1 rfl (lv_room (Nat.le_of_ble_eq_true rfl)) dJ2_add_3_33 ⟨show 0 + 1 ≤ 1 from by first | decide | omega, show 0 + (k + k / 2) ≤ 60 from by first | decide | omega⟩)
        (fun u_ H locs hq hph (hP : va_P G.1 CL [(ea, .inl (G.2 3, k, .inr (.inr (.inr (.inr f))))), (a, .inr (3, [.int (m0 + (nI 1)), .ref u_, .int (nI k)])), (u_, .inl (G.2 3, k + (k / 2), .inr (.inr (.inr (.inr (va_cpy f (fun _ => none) 0 0 k))))))] H) (hD : va_D A [(ea, .inl (G.2 3, k, .inr (.inr (.inr (.inr f))))), (a, .inr (3, [.int (m0 + (nI 1)), .ref u_, .int (nI k)])), (u_, .inl (G.2 3, k + (k / 2), .inr (.inr (.inr (.inr (va_cpy f (fun _ => none) 0 0 k))))))]) hS hfz hfk => ?_)
    obtain ⟨qa_990, rfl⟩ : ∃ z, z = u_ := ⟨_, rfl⟩
    have hP : va_P G.1 CL [(ea, .inl (G.2 3, k, .inr (.inr (.inr (.inr f))))), (a, .inr (3, [.int (m0 + (nI 1)), .ref qa_990, .int (nI k)])), (qa_990, .inl (G.2 3, k + (k / 2), .inr (.inr (.inr (.inr (va_cpy f (fun _ => none) 0 0 k))))))] H := hP
    have hD : va_D A [(ea, .inl (G.2 3, k, .inr (.inr (.inr (.inr f))))), (a, .inr (3, [.int (m0 + (nI 1)), .ref qa_990, .int (nI k)])), (qa_990, .inl (G.2 3, k + (k / 2), .inr (.inr (.inr (.inr (va_cpy f (fun _ => none) 0 0 k))))))] := hD
    refine W.eq (g2 := F0 m 36 ls [.ref qa_990]) rfl ?_
    refine lv_astore (lv' := [(4, .ref qa_990), (3, .int (nI k)), (0, .ref a), (1, .int (nI i)), (2, .ref x)]) hx hb dJ2_add_3_36 hl (by decide) rfl (fun ls hl => ?_)
    refine lv_aload hx hb dJ2_add_3_38 (lv_at hl 0 rfl) ?_
    refine lv_iload_n hx hb dJ2_add_3_40 rfl (lv_at hl 3 rfl) ?_
    refine lv_aload hx hb dJ2_add_3_41 (lv_at hl 0 rfl) ?_
    refine lv_iload_n hx hb dJ2_add_3_43 rfl (lv_at hl 3 rfl) ?_
    refine lv_iconst (v := nI 1) hx hb dJ2_add_3_44 (by decide) ?_
    refine lv_iadd hx hb dJ2_add_3_45 ?_
    refine lv_ton (n := i + 1) (nadd (by omega)) ?_
    refine lv_iload_n hx hb dJ2_add_3_46 rfl (lv_at hl 1 rfl) ?_
    refine lv_iload_n hx hb dJ2_add_3_47 rfl (lv_at hl 3 rfl) ?_
    refine lv_isub hx hb dJ2_add_3_48 ?_
    refine lv_ton (n := (k - i)) (nsub (by omega)) ?_
    refine lv_ton (n := (k - i)) (rfl) ?_
    refine r_copyO hx hb (by rw [hml]; exact hl.1.symm) hown (hts _ q1004) (hts _ q547) (hts _ q546) (hts _ q69) hKB hP 2 hP hD hS 2 (sp := i) (dp := i + 1) (n := (k - i)) rfl rfl (by omega) (by omega) (by omega) (by omega) (fun j hj y hy => any_el hKB (hR0.w hS) (hel _ (show i + j < k by omega) y ((cpy_lt (by omega)).symm.trans hy))) (Nat.le_of_ble_eq_true rfl) (Nat.le_of_ble_eq_true rfl) dJ2_add_3_49 (fun H locs (hP : va_P G.1 CL [(ea, .inl (G.2 3, k, .inr (.inr (.inr (.inr f))))), (a, .inr (3, [.int (m0 + (nI 1)), .ref qa_990, .int (nI k)])), (qa_990, .inl (G.2 3, k + (k / 2), .inr (.inr (.inr (.inr (va_cpy (va_cpy f (fun _ => none) 0 0 k) (va_cpy f (fun _ => none) 0 0 k) i (i + 1) (k - i)))))))] H) (hD : va_D A [(ea, .inl (G.2 3, k, .inr (.inr (.inr (.inr f))))), (a, .inr (3, [.int (m0 + (nI 1)), .ref qa_990, .int (nI k)])), (qa_990, .inl (G.2 3, k + (k / 2), .inr (.inr (.inr (.inr (va_cpy (va_cpy f (fun _ => none) 0 0 k) (va_cpy f (fun _ => none) 0 0 k) i (i + 1) (k - i)))))))]) hS => ?_)
    refine lv_aload hx hb dJ2_add_3_52 (lv_at hl 0 rfl) ?_
    refine lv_iload_n hx hb dJ2_add_3_54 rfl (lv_at hl 3 rfl) ?_
    refine lv_aload_n hx hb dJ2_add_3_55 rfl (lv_at hl 4 rfl) ?_
    refine r_astO (i := i) hx hb hKB hP hD hS 2 rfl (any_el hKB (hR0.w hS) hxe) (by omega) (by omega) dJ2_add_3_56 (fun H locs (hP : va_P G.1 CL [(ea, .inl (G.2 3, k, .inr (.inr (.inr (.inr f))))), (a, .inr (3, [.int (m0 + (nI 1)), .ref qa_990, .int (nI k)])), (qa_990, .inl (G.2 3, k + (k / 2), .inr (.inr (.inr (.inr (va_up (va_cpy (va_cpy f (fun _ => none) 0 0 k) (va_cpy f (fun _ => none) 0 0 k) i (i + 1) (k - i)) i (some x)))))))] H) (hD : va_D A [(ea, .inl (G.2 3, k, .inr (.inr (.inr (.inr f))))), (a, .inr (3, [.int (m0 + (nI 1)), .ref qa_990, .int (nI k)])), (qa_990, .inl (G.2 3, k + (k / 2), .inr (.inr (.inr (.inr (va_up (va_cpy (va_cpy f (fun _ => none) 0 0 k) (va_cpy f (fun _ => none) 0 0 k) i (i + 1) (k - i)) i (some x)))))))]) hS => ?_)
    refine lv_aload_n hx hb dJ2_add_3_57 rfl (lv_at hl 2 rfl) ?_
    refine lv_iload_n hx hb dJ2_add_3_58 rfl (lv_at hl 1 rfl) ?_
    refine lv_iconst (v := nI 1) hx hb dJ2_add_3_59 (by decide) ?_
    refine lv_iadd hx hb dJ2_add_3_60 ?_
    refine lv_ton (n := k + 1) (nadd (by omega)) ?_
    refine va_put (v := .int (nI (k + 1))) (ty := .int) hx hb hts in_J2 tyJ2 tyJ2_ok nmJ2 hown hK hP hD hS 1 rfl rfl 2 (by decide) (hts _ q118) (fun _ h => h) rfl (by decide +kernel) rfl rfl (Nat.le_of_ble_eq_true rfl) dJ2_add_3_61 (fun H locs (hP : va_P G.1 CL [(ea, .inl (G.2 3, k, .inr (.inr (.inr (.inr f))))), (a, .inr (3, [.int (m0 + (nI 1)), .ref qa_990, .int (nI (k + 1))])), (qa_990, .inl (G.2 3, k + (k / 2), .inr (.inr (.inr (.inr (va_up (va_cpy (va_cpy f (fun _ => none) 0 0 k) (va_cpy f (fun _ => none) 0 0 k) i (i + 1) (k - i)) i (some x)))))))] H) (hD : va_D A [(ea, .inl (G.2 3, k, .inr (.inr (.inr (.inr f))))), (a, .inr (3, [.int (m0 + (nI 1)), .ref qa_990, .int (nI (k + 1))])), (qa_990, .inl (G.2 3, k + (k / 2), .inr (.inr (.inr (.inr (va_up (va_cpy (va_cpy f (fun _ => none) 0 0 k) (va_cpy f (fun _ => none) 0 0 k) i (i + 1) (k - i)) i (some x)))))))]) hS => ?_)
    have hP9 : va_P G.1 CL [(a, .inr (3, [.int (m0 + (nI 1)), .ref qa_990, .int (nI (k + 1))])), (qa_990, .inl (G.2 3, k + (k / 2), .inr (.inr (.inr (.inr (va_up (va_cpy (va_cpy f (fun _ => none) 0 0 k) (va_cpy f (fun _ => none) 0 0 k) i (i + 1) (k - i)) i (some x)))))))] H := hP.sub [1, 2] rfl
    have hD9 : va_D A [(a, .inr (3, [.int (m0 + (nI 1)), .ref qa_990, .int (nI (k + 1))])), (qa_990, .inl (G.2 3, k + (k / 2), .inr (.inr (.inr (.inr (va_up (va_cpy (va_cpy f (fun _ => none) 0 0 k) (va_cpy f (fun _ => none) 0 0 k) i (i + 1) (k - i)) i (some x)))))))] := hD.sub [1, 2] (by decide) rfl
    exact end_v hx hb hr hlk (qc_of (qa_990, k + (k / 2), va_up (va_cpy (va_cpy f (fun _ => none) 0 0 k) (va_cpy f (fun _ => none) 0 0 k) i (i + 1) (k - i)) i (some x)) (v := none) (by rfl) (⟨show k < k + (k / 2) by omega, show k + (k / 2) ≤ 60 by omega, show 2 ≤ k + (k / 2) by omega, fun j (hj : j < i) => (va_up_ne _ _ (Nat.ne_of_lt hj)).trans ((cpy_ne (Or.inl (by omega))).trans (cpy_lt (by omega))), show (va_up (va_cpy (va_cpy f (fun _ => none) 0 0 k) (va_cpy f (fun _ => none) 0 0 k) i (i + 1) (k - i)) i (some x)) i = some x from va_up_self _ _ _, fun j (h1 : i ≤ j) (h2 : j < k) => (va_up_ne _ _ (by omega)).trans ((cpy_at (by omega) (by omega)).trans (by rw [show i + (j + 1 - (i + 1)) = j by omega]; exact cpy_lt (by omega)))⟩) hP9 hD9 (trivial) hS) hS dJ2_add_3_64 (show 0 + 1 ≤ 1 from by first | exact Nat.le_refl _ | decide | omega) (show 0 + (k + k / 2) ≤ 60 from by first | exact Nat.le_refl _ | decide | omega)

set_option maxHeartbeats 4000000 in
theorem mJ2_fastRemove (l : Launch) (G : Gt) (a : Nat) (m0 : Int32) (ea : Nat) (k : Nat) (cap : Nat) (f : Nat → Option Nat) (i : Nat) (Wi : va_W) (hi : i < k) (hk : k ≤ cap) (hc : cap ≤ 60) (hel : ∀ i, i < k → ∀ y, f i = some y → ElIn Wi y) : CT l G yJ2_fastRemove cJ2_fastRemove 4 none ({ frames := 1, cells := 0, slots := 0, locals := 34 } : Room) [.ref a, .ref ea, .int (nI i)] [(a, .inr (3, [.int m0, .ref ea, .int (nI k)])), (ea, .inl (G.2 3, cap, .inr (.inr (.inr (.inr f)))))] (fun (A : Nat → Prop) (H : Heap) => roW G A H Wi) (S := (Nat → Option Nat)) (fun (u_ : (Nat → Option Nat)) => (none : Option Value)) (fun (u_ : (Nat → Option Nat)) => (∀ j, j < i → u_ j = f j) ∧ (∀ j, i ≤ j → j + 1 < k → u_ j = f (j + 1))) (fun (u_ : (Nat → Option Nat)) => [(a, .inr (3, [.int (m0 + nI 1), .ref ea, .int (nI (k - 1))])), (ea, .inl (G.2 3, cap, .inr (.inr (.inr (.inr u_)))))]) (fun (u_ : (Nat → Option Nat)) (H : Heap) => True) := by
  refine CT.of (by decide) (Nat.le_of_ble_eq_true rfl) ?_
  intro p e s m below meth c ls A H locs h9 hH0 hP hS
  obtain ⟨cf, hr, hlk, hnm, hKB, hE, -, hD, -, hA, hAw, hR0, hl⟩ := h9
  have hx := cf.1
  have hb := cf.2.1
  have hml := cf.2.2.1
  have hown : s.vm.findClass RJ2 = some m.cls := cf.2.2.2.1
  have hts := cf.2.2.2.2
  have hK := hKB.1
  have hl : lv_has ls 4 [(0, .ref a), (1, .ref ea), (2, .int (nI i))] := hl
  refine lv_aload_n hx hb dJ2_fastRemove_0 rfl (lv_at hl 0 rfl) ?_
  refine lv_dup hx hb dJ2_fastRemove_1 rfl ?_
  refine va_get hx hb hts in_J2 hown hK hP 0 rfl rfl 0 (by decide) (hts _ q120) (u_same (hts _ q121)) rfl dJ2_fastRemove_2 ?_
  refine lv_iconst (v := nI 1) hx hb dJ2_fastRemove_5 (by decide) ?_
  refine lv_iadd hx hb dJ2_fastRemove_6 ?_
  refine va_put (v := .int (m0 + (nI 1))) (ty := .int) hx hb hts in_J2 tyJ2 tyJ2_ok nmJ2 hown hK hP hD hS 0 rfl rfl 0 (by decide) (hts _ q120) (u_same (hts _ q121)) rfl (by decide +kernel) rfl rfl (Nat.le_of_ble_eq_true rfl) dJ2_fastRemove_7 (fun H locs (hP : va_P G.1 CL [(a, .inr (3, [.int (m0 + (nI 1)), .ref ea, .int (nI k)])), (ea, .inl (G.2 3, cap, .inr (.inr (.inr (.inr f)))))] H) (hD : va_D A [(a, .inr (3, [.int (m0 + (nI 1)), .ref ea, .int (nI k)])), (ea, .inl (G.2 3, cap, .inr (.inr (.inr (.inr f)))))]) hS => ?_)
  refine lv_aload_n hx hb dJ2_fastRemove_10 rfl (lv_at hl 0 rfl) ?_
  refine va_get hx hb hts in_J2 hown hK hP 0 rfl rfl 2 (by decide) (hts _ q118) (fun _ h => h) rfl dJ2_fastRemove_11 ?_
  refine lv_iconst (v := nI 1) hx hb dJ2_fastRemove_14 (by decide) ?_
  refine lv_isub hx hb dJ2_fastRemove_15 ?_
  refine lv_ton (n := (k - 1)) (nsub (by omega)) ?_
  refine lv_dup hx hb dJ2_fastRemove_16 rfl ?_
  refine lv_istore_n (lv' := [(3, .int (nI (k - 1))), (0, .ref a), (1, .ref ea), (2, .int (nI i))]) hx hb dJ2_fastRemove_17 rfl hl (by decide) rfl (fun ls hl => ?_)
  refine lv_iload_n hx hb dJ2_fastRemove_18 rfl (lv_at hl 3 rfl) ?_
  refine n_icmp_le (tgt := 34) hx hb (by omega) (by omega) dJ2_fastRemove_19 (by decide) (fun c_992 => ?_) (fun c_992 => ?_)
  · refine lv_aload_n hx hb dJ2_fastRemove_34 rfl (lv_at hl 2 rfl) ?_
    refine lv_aload_n hx hb dJ2_fastRemove_35 rfl (lv_at hl 1 rfl) ?_
    refine lv_iload_n hx hb dJ2_fastRemove_36 rfl (lv_at hl 0 rfl) ?_
    refine lv_dup_x1 hx hb dJ2_fastRemove_37 rfl rfl ?_
    refine va_put (v := .int (nI (k - 1))) (ty := .int) hx hb hts in_J2 tyJ2 tyJ2_ok nmJ2 hown hK hP hD hS 0 rfl rfl 2 (by decide) (hts _ q118) (fun _ h => h) rfl (by decide +kernel) rfl rfl (Nat.le_of_ble_eq_true rfl) dJ2_fastRemove_38 (fun H locs (hP : va_P G.1 CL [(a, .inr (3, [.int (m0 + (nI 1)), .ref ea, .int (nI (k - 1))])), (ea, .inl (G.2 3, cap, .inr (.inr (.inr (.inr f)))))] H) (hD : va_D A [(a, .inr (3, [.int (m0 + (nI 1)), .ref ea, .int (nI (k - 1))])), (ea, .inl (G.2 3, cap, .inr (.inr (.inr (.inr f)))))]) hS => ?_)
    refine lv_null hx hb dJ2_fastRemove_41 ?_
    refine r_astN (i := (k - 1)) hx hb hKB hP hD hS 1 rfl (by omega) (by omega) dJ2_fastRemove_42 (fun H locs (hP : va_P G.1 CL [(a, .inr (3, [.int (m0 + (nI 1)), .ref ea, .int (nI (k - 1))])), (ea, .inl (G.2 3, cap, .inr (.inr (.inr (.inr (va_up f (k - 1) none))))))] H) (hD : va_D A [(a, .inr (3, [.int (m0 + (nI 1)), .ref ea, .int (nI (k - 1))])), (ea, .inl (G.2 3, cap, .inr (.inr (.inr (.inr (va_up f (k - 1) none))))))]) hS => ?_)
    have hP9 : va_P G.1 CL [(a, .inr (3, [.int (m0 + (nI 1)), .ref ea, .int (nI (k - 1))])), (ea, .inl (G.2 3, cap, .inr (.inr (.inr (.inr (va_up f (k - 1) none))))))] H := hP.sub [0, 1] rfl
    have hD9 : va_D A [(a, .inr (3, [.int (m0 + (nI 1)), .ref ea, .int (nI (k - 1))])), (ea, .inl (G.2 3, cap, .inr (.inr (.inr (.inr (va_up f (k - 1) none))))))] := hD.sub [0, 1] (by decide) rfl
    exact end_v hx hb hr hlk (qc_of (va_up f (k - 1) none) (v := none) (by rfl) (⟨fun j (hj : j < i) => va_up_ne _ _ (by omega), fun j (h1 : i ≤ j) (h2 : j + 1 < k) => absurd h2 (by omega)⟩) hP9 hD9 (trivial) hS) hS dJ2_fastRemove_43 (show 0 ≤ 0 from by first | exact Nat.le_refl _ | decide | omega) (show 0 ≤ 0 from by first | exact Nat.le_refl _ | decide | omega)
  · refine lv_aload_n hx hb dJ2_fastRemove_22 rfl (lv_at hl 2 rfl) ?_
    refine lv_iload_n hx hb dJ2_fastRemove_23 rfl (lv_at hl 3 rfl) ?_
    refine lv_iconst (v := nI 1) hx hb dJ2_fastRemove_24 (by decide) ?_
    refine lv_iadd hx hb dJ2_fastRemove_25 ?_
    refine lv_ton (n := i + 1) (nadd (by omega)) ?_
    refine lv_aload_n hx hb dJ2_fastRemove_26 rfl (lv_at hl 2 rfl) ?_
    refine lv_iload_n hx hb dJ2_fastRemove_27 rfl (lv_at hl 3 rfl) ?_
    refine lv_iload_n hx hb dJ2_fastRemove_28 rfl (lv_at hl 0 rfl) ?_
    refine lv_iload_n hx hb dJ2_fastRemove_29 rfl (lv_at hl 3 rfl) ?_
    refine lv_isub hx hb dJ2_fastRemove_30 ?_
    refine lv_ton (n := ((k - 1) - i)) (nsub (by omega)) ?_
    refine r_copyO hx hb (by rw [hml]; exact hl.1.symm) hown (hts _ q1004) (hts _ q547) (hts _ q546) (hts _ q69) hKB hP 1 hP hD hS 1 (sp := i + 1) (dp := i) (n := ((k - 1) - i)) rfl rfl (by omega) (by omega) (by omega) (by omega) (fun j hj y hy => any_el hKB (hR0.w hS) (hel _ (show i + 1 + j < k by omega) y hy)) (Nat.le_of_ble_eq_true rfl) (Nat.le_of_ble_eq_true rfl) dJ2_fastRemove_31 (fun H locs (hP : va_P G.1 CL [(a, .inr (3, [.int (m0 + (nI 1)), .ref ea, .int (nI k)])), (ea, .inl (G.2 3, cap, .inr (.inr (.inr (.inr (va_cpy f f (i + 1) i ((k - 1) - i)))))))] H) (hD : va_D A [(a, .inr (3, [.int (m0 + (nI 1)), .ref ea, .int (nI k)])), (ea, .inl (G.2 3, cap, .inr (.inr (.inr (.inr (va_cpy f f (i + 1) i ((k - 1) - i)))))))]) hS => ?_)
    refine lv_aload_n hx hb dJ2_fastRemove_34 rfl (lv_at hl 2 rfl) ?_
    refine lv_aload_n hx hb dJ2_fastRemove_35 rfl (lv_at hl 1 rfl) ?_
    refine lv_iload_n hx hb dJ2_fastRemove_36 rfl (lv_at hl 0 rfl) ?_
    refine lv_dup_x1 hx hb dJ2_fastRemove_37 rfl rfl ?_
    refine va_put (v := .int (nI (k - 1))) (ty := .int) hx hb hts in_J2 tyJ2 tyJ2_ok nmJ2 hown hK hP hD hS 0 rfl rfl 2 (by decide) (hts _ q118) (fun _ h => h) rfl (by decide +kernel) rfl rfl (Nat.le_of_ble_eq_true rfl) dJ2_fastRemove_38 (fun H locs (hP : va_P G.1 CL [(a, .inr (3, [.int (m0 + (nI 1)), .ref ea, .int (nI (k - 1))])), (ea, .inl (G.2 3, cap, .inr (.inr (.inr (.inr (va_cpy f f (i + 1) i ((k - 1) - i)))))))] H) (hD : va_D A [(a, .inr (3, [.int (m0 + (nI 1)), .ref ea, .int (nI (k - 1))])), (ea, .inl (G.2 3, cap, .inr (.inr (.inr (.inr (va_cpy f f (i + 1) i ((k - 1) - i)))))))]) hS => ?_)
    refine lv_null hx hb dJ2_fastRemove_41 ?_
    refine r_astN (i := (k - 1)) hx hb hKB hP hD hS 1 rfl (by omega) (by omega) dJ2_fastRemove_42 (fun H locs (hP : va_P G.1 CL [(a, .inr (3, [.int (m0 + (nI 1)), .ref ea, .int (nI (k - 1))])), (ea, .inl (G.2 3, cap, .inr (.inr (.inr (.inr (va_up (va_cpy f f (i + 1) i ((k - 1) - i)) (k - 1) none))))))] H) (hD : va_D A [(a, .inr (3, [.int (m0 + (nI 1)), .ref ea, .int (nI (k - 1))])), (ea, .inl (G.2 3, cap, .inr (.inr (.inr (.inr (va_up (va_cpy f f (i + 1) i ((k - 1) - i)) (k - 1) none))))))]) hS => ?_)
    have hP9 : va_P G.1 CL [(a, .inr (3, [.int (m0 + (nI 1)), .ref ea, .int (nI (k - 1))])), (ea, .inl (G.2 3, cap, .inr (.inr (.inr (.inr (va_up (va_cpy f f (i + 1) i ((k - 1) - i)) (k - 1) none))))))] H := hP.sub [0, 1] rfl
    have hD9 : va_D A [(a, .inr (3, [.int (m0 + (nI 1)), .ref ea, .int (nI (k - 1))])), (ea, .inl (G.2 3, cap, .inr (.inr (.inr (.inr (va_up (va_cpy f f (i + 1) i ((k - 1) - i)) (k - 1) none))))))] := hD.sub [0, 1] (by decide) rfl
    exact end_v hx hb hr hlk (qc_of (va_up (va_cpy f f (i + 1) i ((k - 1) - i)) (k - 1) none) (v := none) (by rfl) (⟨fun j (hj : j < i) => (va_up_ne _ _ (by omega)).trans (cpy_ne (Or.inl (by omega))), fun j (h1 : i ≤ j) (h2 : j + 1 < k) => (va_up_ne _ _ (by omega)).trans ((cpy_at (by omega) (by omega)).trans (by rw [show i + 1 + (j - i) = j + 1 by omega]))⟩) hP9 hD9 (trivial) hS) hS dJ2_fastRemove_43 (show 0 ≤ 0 from by first | exact Nat.le_refl _ | decide | omega) (show 0 ≤ 0 from by first | exact Nat.le_refl _ | decide | omega)

set_option maxHeartbeats 4000000 in
theorem mJ2_remove (l : Launch) (G : Gt) (a : Nat) (m0 : Int32) (ea : Nat) (k : Nat) (cap : Nat) (f : Nat → Option Nat) (i : Nat) (Wi : va_W) (g : Nat) (hi : i < k) (hk : k ≤ cap) (hc : cap ≤ 60) (hel : ∀ i, i < k → ∀ y, f i = some y → ElIn Wi y) (hg : f i = some g) : CT l G yJ2_remove cJ2_remove 4 (some (.object "java/lang/Object")) ({ frames := 3, cells := 0, slots := 0, locals := 57 } : Room) [.ref a, .int (nI i)] [(a, .inr (3, [.int m0, .ref ea, .int (nI k)])), (ea, .inl (G.2 3, cap, .inr (.inr (.inr (.inr f)))))] (fun (A : Nat → Prop) (H : Heap) => roW G A H Wi) (S := (Nat → Option Nat)) (fun (u_ : (Nat → Option Nat)) => some (.ref g)) (fun (u_ : (Nat → Option Nat)) => (∀ j, j < i → u_ j = f j) ∧ (∀ j, i ≤ j → j + 1 < k → u_ j = f (j + 1))) (fun (u_ : (Nat → Option Nat)) => [(a, .inr (3, [.int (m0 + nI 1), .ref ea, .int (nI (k - 1))])), (ea, .inl (G.2 3, cap, .inr (.inr (.inr (.inr u_)))))]) (fun (u_ : (Nat → Option Nat)) (H : Heap) => True) := by
  refine CT.of (by decide) (Nat.le_of_ble_eq_true rfl) ?_
  intro p e s m below meth c ls A H locs h9 hH0 hP hS
  obtain ⟨cf, hr, hlk, hnm, hKB, hE, -, hD, -, hA, hAw, hR0, hl⟩ := h9
  have hx := cf.1
  have hb := cf.2.1
  have hml := cf.2.2.1
  have hown : s.vm.findClass RJ2 = some m.cls := cf.2.2.2.1
  have hts := cf.2.2.2.2
  have hK := hKB.1
  have hl : lv_has ls 4 [(0, .ref a), (1, .int (nI i))] := hl
  refine lv_iload_n hx hb dJ2_remove_0 rfl (lv_at hl 1 rfl) ?_
  refine lv_aload_n hx hb dJ2_remove_1 rfl (lv_at hl 0 rfl) ?_
  refine va_get hx hb hts in_J2 hown hK hP 0 rfl rfl 2 (by decide) (hts _ q118) (fun _ h => h) rfl dJ2_remove_2 ?_
  have hF := hF_of (wc := []) hD hS hA [] rfl
  refine go_ct hS hP hD [] [0, 1] hF rfl rfl (by decide) (by decide)
      (va_runS (As := [.int (nI i), .int (nI k)]) (rest := []) cf (mJ12_checkIndex l G i k (show i < k from by first | assumption | omega) (show k < 2 ^ 31 from by first | assumption | omega) H.size) (va_cwS 2 hts (lw_S q407 q408 q64 q409) rfl rfl rfl (by decide +kernel) ⟨Nat.le_of_ble_eq_true rfl, Nat.le_of_ble_eq_true rfl⟩) (preS_of hKB hE hS hF (va_P.sub hP [] rfl) ((va_D.sub hD [] (by decide) rfl).weaken (fun _ _ _ _ => trivial)) trivial) rfl rfl hl.1 rfl (lv_room (Nat.le_of_ble_eq_true rfl)) dJ2_remove_5 ⟨show 0 + 0 ≤ 0 from by first | decide | omega, show 0 + 0 ≤ 0 from by first | decide | omega⟩)
      (fun u_ H locs hq hph (hP : va_P G.1 CL [(a, .inr (3, [.int m0, .ref ea, .int (nI k)])), (ea, .inl (G.2 3, cap, .inr (.inr (.inr (.inr f)))))] H) (hD : va_D A [(a, .inr (3, [.int m0, .ref ea, .int (nI k)])), (ea, .inl (G.2 3, cap, .inr (.inr (.inr (.inr f)))))]) hS hfz hfk => ?_)
  refine W.eq (g2 := F0 m 8 ls [.int (nI i)]) rfl ?_
  refine lv_pop hx hb dJ2_remove_8 rfl ?_
  refine lv_aload_n hx hb dJ2_remove_9 rfl (lv_at hl 0 rfl) ?_
  refine va_get hx hb hts in_J2 hown hK hP 0 rfl rfl 1 (by decide) (hts _ q117) (fun _ h => h) rfl dJ2_remove_10 ?_
  refine lv_astore_n (lv' := [(2, .ref ea), (0, .ref a), (1, .int (nI i))]) hx hb dJ2_remove_13 rfl hl (by decide) rfl (fun ls hl => ?_)
  refine lv_aload_n hx hb dJ2_remove_14 rfl (lv_at hl 0 rfl) ?_
  refine lv_iload_n hx hb dJ2_remove_15 rfl (lv_at hl 2 rfl) ?_
  refine r_aaldO (v := g) hx hb hK hP 1 3 rfl rfl (i := i) (by omega) (by omega) (hg) dJ2_remove_16 ?_
  refine lv_astore_n (lv' := [(3, .ref g), (2, .ref ea), (0, .ref a), (1, .int (nI i))]) hx hb dJ2_remove_17 rfl hl (by decide) rfl (fun ls hl => ?_)
  refine lv_aload_n hx hb dJ2_remove_18 rfl (lv_at hl 2 rfl) ?_
  refine lv_aload_n hx hb dJ2_remove_19 rfl (lv_at hl 1 rfl) ?_
  refine lv_iload_n hx hb dJ2_remove_20 rfl (lv_at hl 3 rfl) ?_
  have hF := hF_of (wc := [(a, .inr (3, [.int m0, .ref ea, .int (nI k)])), (ea, .inl (G.2 3, cap, .inr (.inr (.inr (.inr f)))))]) hD hS hA [0, 1] rfl
  refine go_ct hS hP hD [0, 1] [] hF rfl rfl (by decide) (by decide)
      (va_runV (As := [.ref ea, .int (nI i)]) (rest := []) cf (mJ2_fastRemove l G a m0 ea k cap f i Wi (show i < k from by first | assumption | omega) (show k ≤ cap from by first | assumption | omega) (show cap ≤ 60 from by first | assumption | omega) (show ∀ i, i < k → ∀ y, f i = some y → ElIn Wi y from by first | assumption | omega) H.size) (cwV 2 hts (lw_V q1031 q1033 qs14 q52 q1034) rfl rfl rfl (by decide +kernel) ⟨Nat.le_of_ble_eq_true rfl, Nat.le_of_ble_eq_true rfl⟩) (preV_of hKB hE hS hF (va_recv hK hP (ci := 3) (q0 := 0) rfl rfl) (va_P.sub hP [0, 1] rfl) ((va_D.sub hD [0, 1] (by decide) rfl).weaken (fun _ _ _ _ => trivial)) (hR0.kp hF hS.2.1)) rfl rfl hl.1 rfl (lv_room (Nat.le_of_ble_eq_true rfl)) dJ2_remove_21 ⟨show 0 + 0 ≤ 0 from by first | decide | omega, show 0 + 0 ≤ 0 from by first | decide | omega⟩)
      (fun u_ H locs hq hph (hP : va_P G.1 CL [(a, .inr (3, [.int (m0 + nI 1), .ref ea, .int (nI (k - 1))])), (ea, .inl (G.2 3, cap, .inr (.inr (.inr (.inr u_)))))] H) (hD : va_D A [(a, .inr (3, [.int (m0 + nI 1), .ref ea, .int (nI (k - 1))])), (ea, .inl (G.2 3, cap, .inr (.inr (.inr (.inr u_)))))]) hS hfz hfk => ?_)
  obtain ⟨f2_993, rfl⟩ : ∃ z, z = u_ := ⟨_, rfl⟩
  have hP : va_P G.1 CL [(a, .inr (3, [.int (m0 + nI 1), .ref ea, .int (nI (k - 1))])), (ea, .inl (G.2 3, cap, .inr (.inr (.inr (.inr f2_993)))))] H := hP
  have hD : va_D A [(a, .inr (3, [.int (m0 + nI 1), .ref ea, .int (nI (k - 1))])), (ea, .inl (G.2 3, cap, .inr (.inr (.inr (.inr f2_993)))))] := hD
  obtain ⟨hq_994, hq_995⟩ : (∀ j, j < i → f2_993 j = f j) ∧ (∀ j, i ≤ j → j + 1 < k → f2_993 j = f (j + 1)) := hq
  refine W.eq (g2 := F0 m 24 ls []) rfl ?_
  refine lv_aload_n hx hb dJ2_remove_24 rfl (lv_at hl 0 rfl) ?_
  have hP9 : va_P G.1 CL [(a, .inr (3, [.int (m0 + nI 1), .ref ea, .int (nI (k - 1))])), (ea, .inl (G.2 3, cap, .inr (.inr (.inr (.inr f2_993)))))] H := hP.sub [0, 1] rfl
  have hD9 : va_D A [(a, .inr (3, [.int (m0 + nI 1), .ref ea, .int (nI (k - 1))])), (ea, .inl (G.2 3, cap, .inr (.inr (.inr (.inr f2_993)))))] := hD.sub [0, 1] (by decide) rfl
  exact end_a hx hb hr hlk (by first | exact Or.inl ⟨_, rfl⟩ | exact Or.inr ⟨_, rfl⟩) (Or.inr ⟨_, rfl⟩) (qc_of f2_993 (v := some (.ref g)) (by rfl) (⟨hq_994, hq_995⟩) hP9 hD9 (trivial) hS) hS dJ2_remove_25 (show 0 ≤ 0 from by first | exact Nat.le_refl _ | decide | omega) (show 0 ≤ 0 from by first | exact Nat.le_refl _ | decide | omega)
