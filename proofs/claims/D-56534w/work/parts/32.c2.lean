/-! the component: ordered lists -/
set_option maxRecDepth 100000
set_option maxHeartbeats 4000000 in
theorem mX3_init (l : Launch) (G : Gt) (o : Nat) : CT l G yX3_init cX3_init 1 none ({ frames := 4, cells := 1, slots := 3, locals := 72 } : Room) [.ref o] [(o, .inr (2, [.null]))] RH0 (S := Nat) (fun (u_ : Nat) => (none : Option Value)) (fun (u_ : Nat) => True) (fun (u_ : Nat) => [(o, .inr (2, [.ref u_])), (u_, .inr (3, [.int (nI 0), .ref (G.2 99), .int (nI 0)]))]) (fun (u_ : Nat) (H : Heap) => True) := by
  refine CT.of (by decide) (Nat.le_of_ble_eq_true rfl) ?_
  intro p e s m below meth c ls A H locs h9 hH0 hP hS
  obtain ⟨cf, hr, hlk, hnm, hKB, hE, -, hD, -, hA, hAw, hRH, hl⟩ := h9
  have hx := cf.1
  have hb := cf.2.1
  have hml := cf.2.2.1
  have hown : s.vm.findClass RX3 = some m.cls := cf.2.2.2.1
  have hts := cf.2.2.2.2
  have hK := hKB.1
  have hl : lv_has ls 1 [(0, .ref o)] := hl
  refine lv_aload_n hx hb dX3_init_0 rfl (lv_at hl 0 rfl) ?_
  refine W.objInit hx hb hown (hts _ q102) (hts _ q89) (hts _ q90) rfl (by rw [hml]; exact hl.1) rfl dX3_init_1 (Nat.le_of_ble_eq_true rfl) (Nat.le_of_ble_eq_true rfl) ?_
  refine W.eq (g2 := F0 m 4 ls []) rfl ?_
  refine lv_aload_n hx hb dX3_init_4 rfl (lv_at hl 0 rfl) ?_
  refine va_new (ci := 3) (fs := [.int (nI 0), .null, .int (nI 0)]) hx hb hts in_J2 tyJ2 tyJ2_ok hown (hts _ q103) (hts _ q104) (hts _ q52) hK hP hD hS hA rfl (fun j hj => by rcases (show j = 0 ∨ j = 1 ∨ j = 2 by omega) with rfl | rfl | rfl <;> rfl) (show 0 + 1 ≤ 1 from by first | decide | omega) (show 0 + 3 ≤ 3 from by first | decide | omega) dX3_init_5 (fun a_1052 H (hP : va_P G.1 CL [(o, .inr (2, [.null])), (a_1052, .inr (3, [.int (nI 0), .null, .int (nI 0)]))] H) (hD : va_D A [(o, .inr (2, [.null])), (a_1052, .inr (3, [.int (nI 0), .null, .int (nI 0)]))]) hS => ?_)
  refine lv_dup hx hb dX3_init_8 rfl ?_
  have hF := hF_of (wc := [(a_1052, .inr (3, [.int (nI 0), .null, .int (nI 0)]))]) hD hS hA [1] rfl
  refine go_ct hS hP hD [1] [0] hF rfl rfl (by decide) (by decide)
      (va_runI (As := []) (rest := [.ref a_1052, .ref o]) cf (mJ2_init l G a_1052  H.size) (cwI 0 hts (lw_meth q107) rfl rfl rfl (hts _ q52) (hts _ q105) (hts _ q106) rfl (by decide +kernel) ⟨Nat.le_of_ble_eq_true rfl, Nat.le_of_ble_eq_true rfl⟩) (preS_of hKB hE hS hF (va_P.sub hP [1] rfl) ((va_D.sub hD [1] (by decide) rfl).weaken (fun _ _ _ _ => trivial)) trivial) rfl rfl hl.1 rfl (lv_room (Nat.le_of_ble_eq_true rfl)) dX3_init_9 ⟨show 0 + 1 + 0 ≤ 1 from by first | decide | omega, show 0 + 3 + 0 ≤ 3 from by first | decide | omega⟩)
      (fun u_ H locs hq hph (hP : va_P G.1 CL [(o, .inr (2, [.null])), (a_1052, .inr (3, [.int (nI 0), .ref (G.2 99), .int (nI 0)]))] H) (hD : va_D A [(o, .inr (2, [.null])), (a_1052, .inr (3, [.int (nI 0), .ref (G.2 99), .int (nI 0)]))]) hS hfz hfk => ?_)
  refine W.eq (g2 := F0 m 12 ls [.ref a_1052, .ref o]) rfl ?_
  refine va_putF (v := .ref a_1052) (ty := (.object "java/util/ArrayList")) hx hb hts in_X3 tyX3 tyX3_ok nmX3 hown hK hP hD hS 0 rfl rfl 0 (by decide) (hts _ q130) (fun _ h => h) rfl hnm rfl (by decide +kernel) rfl rfl (Nat.le_of_ble_eq_true rfl) dX3_init_12 (fun H locs (hP : va_P G.1 CL [(o, .inr (2, [.ref a_1052])), (a_1052, .inr (3, [.int (nI 0), .ref (G.2 99), .int (nI 0)]))] H) (hD : va_D A [(o, .inr (2, [.ref a_1052])), (a_1052, .inr (3, [.int (nI 0), .ref (G.2 99), .int (nI 0)]))]) hS => ?_)
  have hP9 : va_P G.1 CL [(o, .inr (2, [.ref a_1052])), (a_1052, .inr (3, [.int (nI 0), .ref (G.2 99), .int (nI 0)]))] H := hP.sub [0, 1] rfl
  have hD9 : va_D A [(o, .inr (2, [.ref a_1052])), (a_1052, .inr (3, [.int (nI 0), .ref (G.2 99), .int (nI 0)]))] := hD.sub [0, 1] (by decide) rfl
  exact end_v hx hb hr hlk (qc_of a_1052 (v := none) (by rfl) (trivial) hP9 hD9 (trivial) hS) hS dX3_init_15 (show 0 + 1 ≤ 1 from by first | exact Nat.le_refl _ | decide | omega) (show 0 + 3 ≤ 3 from by first | exact Nat.le_refl _ | decide | omega)

set_option maxHeartbeats 4000000 in
theorem mX3_size (l : Launch) (G : Gt) (o : Nat) (a : Nat) (m0 : Int32) (ea : Nat) (k : Nat) (cap : Nat) (f : Nat → Option Nat) : CT l G yX3_size cX3_size 1 (some .int) ({ frames := 2, cells := 0, slots := 0, locals := 32 } : Room) [.ref o] [] (fun (A : Nat → Prop) (H : Heap) => roW G A H [(o, .inr (2, [.ref a])), (a, .inr (3, [.int m0, .ref ea, .int (nI k)])), (ea, .inl (G.2 3, cap, .inr (.inr (.inr (.inr f)))))]) (S := Unit) (fun (u_ : Unit) => some (.int (nI k))) (fun (u_ : Unit) => True) (fun (u_ : Unit) => []) (fun (u_ : Unit) (H : Heap) => True) := by
  refine CT.of (by decide) (Nat.le_of_ble_eq_true rfl) ?_
  intro p e s m below meth c ls A H locs h9 hH0 hP hS
  obtain ⟨cf, hr, hlk, hnm, hKB, hE, -, hD, -, hA, hAw, hR0, hl⟩ := h9
  have hx := cf.1
  have hb := cf.2.1
  have hml := cf.2.2.1
  have hown : s.vm.findClass RX3 = some m.cls := cf.2.2.2.1
  have hts := cf.2.2.2.2
  have hK := hKB.1
  have hl : lv_has ls 1 [(0, .ref o)] := hl
  refine lv_aload_n hx hb dX3_size_0 rfl (lv_at hl 0 rfl) ?_
  refine va_get hx hb hts in_X3 hown hK (hR0.w hS) 0 rfl rfl 0 (by decide) (hts _ q130) (fun _ h => h) rfl dX3_size_1 ?_
  have hF := hF_of (wc := []) hD hS hA [] rfl
  have hro_1053 : va_P G.1 CL [(a, .inr (3, [.int m0, .ref ea, .int (nI k)]))] H := ((hR0.w hS).sub [1] rfl)
  refine go_ct hS hP hD [] [] hF rfl rfl (by decide) (by decide)
      (va_runV (As := []) (rest := []) cf (mJ2_size l G a m0 ea k  H.size) (cwV 0 hts (lw_V q263 q264 q265 q52 q266) rfl rfl rfl (by decide +kernel) ⟨Nat.le_of_ble_eq_true rfl, Nat.le_of_ble_eq_true rfl⟩) (preV_of hKB hE hS hF (va_recv hK (hR0.w hS) (ci := 3) (q0 := 1) rfl rfl) (va_P.sub hP [] rfl) ((va_D.sub hD [] (by decide) rfl).weaken (fun _ _ _ _ => trivial)) (roW.nil hro_1053)) rfl rfl hl.1 rfl (lv_room (Nat.le_of_ble_eq_true rfl)) dX3_size_4 ⟨show 0 + 0 ≤ 0 from by first | decide | omega, show 0 + 0 ≤ 0 from by first | decide | omega⟩)
      (fun u_ H locs hq hph (hP : va_P G.1 CL [] H) (hD : va_D A []) hS hfz hfk => ?_)
  refine W.eq (g2 := F0 m 7 ls [.int (nI k)]) rfl ?_
  have hP9 : va_P G.1 CL [] H := hP.sub [] rfl
  have hD9 : va_D A [] := hD.sub [] (by decide) rfl
  exact end_i hx hb hr hlk (rfl) (qc_of () (v := some (.int (nI k))) (by rfl) (trivial) hP9 hD9 (trivial) hS) hS dX3_size_7 (show 0 ≤ 0 from by first | exact Nat.le_refl _ | decide | omega) (show 0 ≤ 0 from by first | exact Nat.le_refl _ | decide | omega)

set_option maxHeartbeats 4000000 in
theorem mX3_getT (l : Launch) (G : Gt) (o : Nat) (a : Nat) (m0 : Int32) (ea : Nat) (k : Nat) (cap : Nat) (f : Nat → Option Nat) (i : Nat) (g : Nat) (vs : List Value) (Wi : va_W) (hk : k ≤ cap) (hc : cap ≤ 60) (hi : i < k) (hg : f i = some g) (hgm : (g, Sum.inr (8, vs)) ∈ Wi) : CT l G yX3_get cX3_get 2 (some (.object "TrainingDiary$Dated")) ({ frames := 4, cells := 0, slots := 0, locals := 76 } : Room) [.ref o, .int (nI i)] [] (fun (A : Nat → Prop) (H : Heap) => roW G A H [(o, .inr (2, [.ref a])), (a, .inr (3, [.int m0, .ref ea, .int (nI k)])), (ea, .inl (G.2 3, cap, .inr (.inr (.inr (.inr f)))))] ∧ roW G A H Wi) (S := Unit) (fun (u_ : Unit) => some (.ref g)) (fun (u_ : Unit) => True) (fun (u_ : Unit) => []) (fun (u_ : Unit) (H : Heap) => True) := by
  refine CT.of (by decide) (Nat.le_of_ble_eq_true rfl) ?_
  intro p e s m below meth c ls A H locs h9 hH0 hP hS
  obtain ⟨cf, hr, hlk, hnm, hKB, hE, -, hD, -, hA, hAw, ⟨hR0, hR1⟩, hl⟩ := h9
  have hx := cf.1
  have hb := cf.2.1
  have hml := cf.2.2.1
  have hown : s.vm.findClass RX3 = some m.cls := cf.2.2.2.1
  have hts := cf.2.2.2.2
  have hK := hKB.1
  have hl : lv_has ls 2 [(0, .ref o), (1, .int (nI i))] := hl
  have hRm_1054 : roW G A s.heap [(g, .inr (8, vs))] := hR1.mem (hgm)
  refine lv_aload_n hx hb dX3_get_0 rfl (lv_at hl 0 rfl) ?_
  refine va_get hx hb hts in_X3 hown hK (hR0.w hS) 0 rfl rfl 0 (by decide) (hts _ q130) (fun _ h => h) rfl dX3_get_1 ?_
  refine lv_iload_n hx hb dX3_get_4 rfl (lv_at hl 1 rfl) ?_
  have hF := hF_of (wc := []) hD hS hA [] rfl
  have hro_1055 : va_P G.1 CL [(a, .inr (3, [.int m0, .ref ea, .int (nI k)])), (ea, .inl (G.2 3, cap, .inr (.inr (.inr (.inr f)))))] H := ((hR0.w hS).sub [1, 2] rfl)
  refine go_ct hS hP hD [] [] hF rfl rfl (by decide) (by decide)
      (va_runV (As := [.int (nI i)]) (rest := []) cf (mJ2_get l G a m0 ea k cap f i g (show i < k from by first | assumption | omega) (show k ≤ cap from by first | assumption | omega) (show cap < 2 ^ 31 from by first | assumption | omega) (hg) H.size) (cwV 1 hts (lw_V q447 q404 q405 q52 q406) rfl rfl rfl (by decide +kernel) ⟨Nat.le_of_ble_eq_true rfl, Nat.le_of_ble_eq_true rfl⟩) (preV_of hKB hE hS hF (va_recv hK (hR0.w hS) (ci := 3) (q0 := 1) rfl rfl) (va_P.sub hP [] rfl) ((va_D.sub hD [] (by decide) rfl).weaken (fun _ _ _ _ => trivial)) (roW.nil hro_1055)) rfl rfl hl.1 rfl (lv_room (Nat.le_of_ble_eq_true rfl)) dX3_get_5 ⟨show 0 + 0 ≤ 0 from by first | decide | omega, show 0 + 0 ≤ 0 from by first | decide | omega⟩)
      (fun u_ H locs hq hph (hP : va_P G.1 CL [] H) (hD : va_D A []) hS hfz hfk => ?_)
  refine W.eq (g2 := F0 m 8 ls [.ref g]) rfl ?_
  refine va_castY hx hb hown (hts _ q448) (hKB.nest q1985 rfl) (va_recv hK (hRm_1054.w hS) (ci := 8) (q0 := 0) rfl rfl) dX3_get_8 ?_
  have hP9 : va_P G.1 CL [] H := hP.sub [] rfl
  have hD9 : va_D A [] := hD.sub [] (by decide) rfl
  exact end_a hx hb hr hlk (by first | exact Or.inl ⟨_, rfl⟩ | exact Or.inr ⟨_, rfl⟩) (Or.inr ⟨_, rfl⟩) (qc_of () (v := some (.ref g)) (by rfl) (trivial) hP9 hD9 (trivial) hS) hS dX3_get_11 (show 0 ≤ 0 from by first | exact Nat.le_refl _ | decide | omega) (show 0 ≤ 0 from by first | exact Nat.le_refl _ | decide | omega)

set_option maxHeartbeats 4000000 in
theorem mX3_getS (l : Launch) (G : Gt) (o : Nat) (a : Nat) (m0 : Int32) (ea : Nat) (k : Nat) (cap : Nat) (f : Nat → Option Nat) (i : Nat) (g : Nat) (vs : List Value) (Wi : va_W) (hk : k ≤ cap) (hc : cap ≤ 60) (hi : i < k) (hg : f i = some g) (hgm : (g, Sum.inr (9, vs)) ∈ Wi) : CT l G yX3_get cX3_get 2 (some (.object "TrainingDiary$Dated")) ({ frames := 4, cells := 0, slots := 0, locals := 76 } : Room) [.ref o, .int (nI i)] [] (fun (A : Nat → Prop) (H : Heap) => roW G A H [(o, .inr (2, [.ref a])), (a, .inr (3, [.int m0, .ref ea, .int (nI k)])), (ea, .inl (G.2 3, cap, .inr (.inr (.inr (.inr f)))))] ∧ roW G A H Wi) (S := Unit) (fun (u_ : Unit) => some (.ref g)) (fun (u_ : Unit) => True) (fun (u_ : Unit) => []) (fun (u_ : Unit) (H : Heap) => True) := by
  refine CT.of (by decide) (Nat.le_of_ble_eq_true rfl) ?_
  intro p e s m below meth c ls A H locs h9 hH0 hP hS
  obtain ⟨cf, hr, hlk, hnm, hKB, hE, -, hD, -, hA, hAw, ⟨hR0, hR1⟩, hl⟩ := h9
  have hx := cf.1
  have hb := cf.2.1
  have hml := cf.2.2.1
  have hown : s.vm.findClass RX3 = some m.cls := cf.2.2.2.1
  have hts := cf.2.2.2.2
  have hK := hKB.1
  have hl : lv_has ls 2 [(0, .ref o), (1, .int (nI i))] := hl
  have hRm_1056 : roW G A s.heap [(g, .inr (9, vs))] := hR1.mem (hgm)
  refine lv_aload_n hx hb dX3_get_0 rfl (lv_at hl 0 rfl) ?_
  refine va_get hx hb hts in_X3 hown hK (hR0.w hS) 0 rfl rfl 0 (by decide) (hts _ q130) (fun _ h => h) rfl dX3_get_1 ?_
  refine lv_iload_n hx hb dX3_get_4 rfl (lv_at hl 1 rfl) ?_
  have hF := hF_of (wc := []) hD hS hA [] rfl
  have hro_1057 : va_P G.1 CL [(a, .inr (3, [.int m0, .ref ea, .int (nI k)])), (ea, .inl (G.2 3, cap, .inr (.inr (.inr (.inr f)))))] H := ((hR0.w hS).sub [1, 2] rfl)
  refine go_ct hS hP hD [] [] hF rfl rfl (by decide) (by decide)
      (va_runV (As := [.int (nI i)]) (rest := []) cf (mJ2_get l G a m0 ea k cap f i g (show i < k from by first | assumption | omega) (show k ≤ cap from by first | assumption | omega) (show cap < 2 ^ 31 from by first | assumption | omega) (hg) H.size) (cwV 1 hts (lw_V q447 q404 q405 q52 q406) rfl rfl rfl (by decide +kernel) ⟨Nat.le_of_ble_eq_true rfl, Nat.le_of_ble_eq_true rfl⟩) (preV_of hKB hE hS hF (va_recv hK (hR0.w hS) (ci := 3) (q0 := 1) rfl rfl) (va_P.sub hP [] rfl) ((va_D.sub hD [] (by decide) rfl).weaken (fun _ _ _ _ => trivial)) (roW.nil hro_1057)) rfl rfl hl.1 rfl (lv_room (Nat.le_of_ble_eq_true rfl)) dX3_get_5 ⟨show 0 + 0 ≤ 0 from by first | decide | omega, show 0 + 0 ≤ 0 from by first | decide | omega⟩)
      (fun u_ H locs hq hph (hP : va_P G.1 CL [] H) (hD : va_D A []) hS hfz hfk => ?_)
  refine W.eq (g2 := F0 m 8 ls [.ref g]) rfl ?_
  refine va_castY hx hb hown (hts _ q448) (hKB.nest q1984 rfl) (va_recv hK (hRm_1056.w hS) (ci := 9) (q0 := 0) rfl rfl) dX3_get_8 ?_
  have hP9 : va_P G.1 CL [] H := hP.sub [] rfl
  have hD9 : va_D A [] := hD.sub [] (by decide) rfl
  exact end_a hx hb hr hlk (by first | exact Or.inl ⟨_, rfl⟩ | exact Or.inr ⟨_, rfl⟩) (Or.inr ⟨_, rfl⟩) (qc_of () (v := some (.ref g)) (by rfl) (trivial) hP9 hD9 (trivial) hS) hS dX3_get_11 (show 0 ≤ 0 from by first | exact Nat.le_refl _ | decide | omega) (show 0 ≤ 0 from by first | exact Nat.le_refl _ | decide | omega)

set_option maxHeartbeats 4000000 in
theorem mX5_init (l : Launch) (G : Gt) (w : Nat) (o : Nat) : CT l G yX5_init cX5_init 2 none ({ frames := 1, cells := 0, slots := 0, locals := 12 } : Room) [.ref w, .ref o] [(w, .inr (7, [.int (nI 0), .null]))] RH0 (S := Unit) (fun (u_ : Unit) => (none : Option Value)) (fun (u_ : Unit) => True) (fun (u_ : Unit) => [(w, .inr (7, [.int (nI 0), .ref o]))]) (fun (u_ : Unit) (H : Heap) => True) := by
  refine CT.of (by decide) (Nat.le_of_ble_eq_true rfl) ?_
  intro p e s m below meth c ls A H locs h9 hH0 hP hS
  obtain ⟨cf, hr, hlk, hnm, hKB, hE, -, hD, -, hA, hAw, hRH, hl⟩ := h9
  have hx := cf.1
  have hb := cf.2.1
  have hml := cf.2.2.1
  have hown : s.vm.findClass RX5 = some m.cls := cf.2.2.2.1
  have hts := cf.2.2.2.2
  have hK := hKB.1
  have hl : lv_has ls 2 [(0, .ref w), (1, .ref o)] := hl
  refine lv_aload_n hx hb dX5_init_0 rfl (lv_at hl 0 rfl) ?_
  refine lv_aload_n hx hb dX5_init_1 rfl (lv_at hl 1 rfl) ?_
  refine va_putF (v := .ref o) (ty := (.object "TrainingDiary$Ordered")) hx hb hts in_X5 tyX5 tyX5_ok nmX5 hown hK hP hD hS 0 rfl rfl 1 (by decide) (hts _ q298) (fun _ h => h) rfl hnm rfl (by decide +kernel) rfl rfl (Nat.le_of_ble_eq_true rfl) dX5_init_2 (fun H locs (hP : va_P G.1 CL [(w, .inr (7, [.int (nI 0), .ref o]))] H) (hD : va_D A [(w, .inr (7, [.int (nI 0), .ref o]))]) hS => ?_)
  refine lv_aload_n hx hb dX5_init_5 rfl (lv_at hl 0 rfl) ?_
  refine W.objInit hx hb hown (hts _ q296) (hts _ q89) (hts _ q90) rfl (by rw [hml]; exact hl.1) rfl dX5_init_6 (Nat.le_of_ble_eq_true rfl) (Nat.le_of_ble_eq_true rfl) ?_
  refine W.eq (g2 := F0 m 9 ls []) rfl ?_
  have hP9 : va_P G.1 CL [(w, .inr (7, [.int (nI 0), .ref o]))] H := hP.sub [0] rfl
  have hD9 : va_D A [(w, .inr (7, [.int (nI 0), .ref o]))] := hD.sub [0] (by decide) rfl
  exact end_v hx hb hr hlk (qc_of () (v := none) (by rfl) (trivial) hP9 hD9 (trivial) hS) hS dX5_init_9 (show 0 ≤ 0 from by first | exact Nat.le_refl _ | decide | omega) (show 0 ≤ 0 from by first | exact Nat.le_refl _ | decide | omega)

set_option maxHeartbeats 4000000 in
theorem mX3_iterator (l : Launch) (G : Gt) (o : Nat) : CT l G yX3_iterator cX3_iterator 1 (some (.object "java/util/Iterator")) ({ frames := 2, cells := 1, slots := 2, locals := 33 } : Room) [.ref o] [] RH0 (S := Nat) (fun (u_ : Nat) => some (.ref u_)) (fun (u_ : Nat) => True) (fun (u_ : Nat) => [(u_, .inr (7, [.int (nI 0), .ref o]))]) (fun (u_ : Nat) (H : Heap) => True) := by
  refine CT.of (by decide) (Nat.le_of_ble_eq_true rfl) ?_
  intro p e s m below meth c ls A H locs h9 hH0 hP hS
  obtain ⟨cf, hr, hlk, hnm, hKB, hE, -, hD, -, hA, hAw, hRH, hl⟩ := h9
  have hx := cf.1
  have hb := cf.2.1
  have hml := cf.2.2.1
  have hown : s.vm.findClass RX3 = some m.cls := cf.2.2.2.1
  have hts := cf.2.2.2.2
  have hK := hKB.1
  have hl : lv_has ls 1 [(0, .ref o)] := hl
  refine va_new (ci := 7) (fs := [.int (nI 0), .null]) hx hb hts in_X5 tyX5 tyX5_ok hown (hts _ q291) (hts _ q292) (hts _ q59) hK hP hD hS hA rfl (fun j hj => by rcases (show j = 0 ∨ j = 1 by omega) with rfl | rfl <;> rfl) (show 0 + 1 ≤ 1 from by first | decide | omega) (show 0 + 2 ≤ 2 from by first | decide | omega) dX3_iterator_0 (fun a_1058 H (hP : va_P G.1 CL [(a_1058, .inr (7, [.int (nI 0), .null]))] H) (hD : va_D A [(a_1058, .inr (7, [.int (nI 0), .null]))]) hS => ?_)
  refine lv_dup hx hb dX3_iterator_3 rfl ?_
  refine lv_aload_n hx hb dX3_iterator_4 rfl (lv_at hl 0 rfl) ?_
  have hF := hF_of (wc := [(a_1058, .inr (7, [.int (nI 0), .null]))]) hD hS hA [0] rfl
  refine go_ct hS hP hD [0] [] hF rfl rfl (by decide) (by decide)
      (va_runIN (As := [.ref o]) (rest := [.ref a_1058]) cf (mX5_init l G a_1058 o  H.size) ⟨va_cnB 1 hts (lw_meth q295) rfl rfl rfl (hKB.nest q293 rfl) (hts _ q59) (by decide +kernel) ⟨Nat.le_of_ble_eq_true rfl, Nat.le_of_ble_eq_true rfl⟩, rfl, hts _ q294⟩ (preS_of hKB hE hS hF (va_P.sub hP [0] rfl) ((va_D.sub hD [0] (by decide) rfl).weaken (fun _ _ _ _ => trivial)) trivial) rfl rfl hl.1 rfl (lv_room (Nat.le_of_ble_eq_true rfl)) dX3_iterator_5 ⟨show 0 + 1 + 0 ≤ 1 from by first | decide | omega, show 0 + 2 + 0 ≤ 2 from by first | decide | omega⟩)
      (fun u_ H locs hq hph (hP : va_P G.1 CL [(a_1058, .inr (7, [.int (nI 0), .ref o]))] H) (hD : va_D A [(a_1058, .inr (7, [.int (nI 0), .ref o]))]) hS hfz hfk => ?_)
  refine W.eq (g2 := F0 m 8 ls [.ref a_1058]) rfl ?_
  have hP9 : va_P G.1 CL [(a_1058, .inr (7, [.int (nI 0), .ref o]))] H := hP.sub [0] rfl
  have hD9 : va_D A [(a_1058, .inr (7, [.int (nI 0), .ref o]))] := hD.sub [0] (by decide) rfl
  exact end_a hx hb hr hlk (by first | exact Or.inl ⟨_, rfl⟩ | exact Or.inr ⟨_, rfl⟩) (Or.inr ⟨_, rfl⟩) (qc_of a_1058 (v := some (.ref a_1058)) (by rfl) (trivial) hP9 hD9 (trivial) hS) hS dX3_iterator_8 (show 0 + 1 ≤ 1 from by first | exact Nat.le_refl _ | decide | omega) (show 0 + 2 ≤ 2 from by first | exact Nat.le_refl _ | decide | omega)

set_option maxHeartbeats 4000000 in
theorem mX5_hasNext (l : Launch) (G : Gt) (w : Nat) (nx : Nat) (o : Nat) (a : Nat) (m0 : Int32) (ea : Nat) (k : Nat) (cap : Nat) (f : Nat → Option Nat) (hk : k ≤ cap) (hc : cap ≤ 60) (hnx : nx ≤ k) : CT l G yX5_hasNext cX5_hasNext 1 (some .boolean) ({ frames := 2, cells := 0, slots := 0, locals := 32 } : Room) [.ref w] [] (fun (A : Nat → Prop) (H : Heap) => roW G A H [(w, .inr (7, [.int (nI nx), .ref o])), (o, .inr (2, [.ref a])), (a, .inr (3, [.int m0, .ref ea, .int (nI k)])), (ea, .inl (G.2 3, cap, .inr (.inr (.inr (.inr f)))))]) (S := Bool) (fun (u_ : Bool) => some (.int (bI u_))) (fun (u_ : Bool) => (u_ = true ↔ nx < k)) (fun (u_ : Bool) => []) (fun (u_ : Bool) (H : Heap) => True) := by
  refine CT.of (by decide) (Nat.le_of_ble_eq_true rfl) ?_
  intro p e s m below meth c ls A H locs h9 hH0 hP hS
  obtain ⟨cf, hr, hlk, hnm, hKB, hE, -, hD, -, hA, hAw, hR0, hl⟩ := h9
  have hx := cf.1
  have hb := cf.2.1
  have hml := cf.2.2.1
  have hown : s.vm.findClass RX5 = some m.cls := cf.2.2.2.1
  have hts := cf.2.2.2.2
  have hK := hKB.1
  have hl : lv_has ls 1 [(0, .ref w)] := hl
  refine lv_aload_n hx hb dX5_hasNext_0 rfl (lv_at hl 0 rfl) ?_
  refine va_get hx hb hts in_X5 hown hK (hR0.w hS) 0 rfl rfl 0 (by decide) (hts _ q297) (fun _ h => h) rfl dX5_hasNext_1 ?_
  refine lv_aload_n hx hb dX5_hasNext_4 rfl (lv_at hl 0 rfl) ?_
  refine va_get hx hb hts in_X5 hown hK (hR0.w hS) 0 rfl rfl 1 (by decide) (hts _ q298) (fun _ h => h) rfl dX5_hasNext_5 ?_
  refine va_getN hx hb hts in_X3 hown hK (hR0.w hS) 1 rfl rfl 0 (by decide) (va_Nw.use rfl (hKB.nest q131 rfl)) (fun _ h => h) rfl dX5_hasNext_8 ?_
  have hF := hF_of (wc := []) hD hS hA [] rfl
  have hro_1059 : va_P G.1 CL [(a, .inr (3, [.int m0, .ref ea, .int (nI k)]))] H := ((hR0.w hS).sub [2] rfl)
  refine go_ct hS hP hD [] [] hF rfl rfl (by decide) (by decide)
      (va_runV (As := []) (rest := [.int (nI nx)]) cf (mJ2_size l G a m0 ea k  H.size) (cwV 0 hts (lw_V q314 q264 q265 q52 q266) rfl rfl rfl (by decide +kernel) ⟨Nat.le_of_ble_eq_true rfl, Nat.le_of_ble_eq_true rfl⟩) (preV_of hKB hE hS hF (va_recv hK (hR0.w hS) (ci := 3) (q0 := 2) rfl rfl) (va_P.sub hP [] rfl) ((va_D.sub hD [] (by decide) rfl).weaken (fun _ _ _ _ => trivial)) (roW.nil hro_1059)) rfl rfl hl.1 rfl (lv_room (Nat.le_of_ble_eq_true rfl)) dX5_hasNext_11 ⟨show 0 + 0 ≤ 0 from by first | decide | omega, show 0 + 0 ≤ 0 from by first | decide | omega⟩)
      (fun u_ H locs hq hph (hP : va_P G.1 CL [] H) (hD : va_D A []) hS hfz hfk => ?_)
  refine W.eq (g2 := F0 m 14 ls [.int (nI k), .int (nI nx)]) rfl ?_
  refine n_icmp_ge (tgt := 21) hx hb (by omega) (by omega) dX5_hasNext_14 (by decide) (fun c_1061 => ?_) (fun c_1061 => ?_)
  · refine lv_iconst (v := nI 0) hx hb dX5_hasNext_21 (by decide) ?_
    have hP9 : va_P G.1 CL [] H := hP.sub [] rfl
    have hD9 : va_D A [] := hD.sub [] (by decide) rfl
    exact end_i hx hb hr hlk (by decide) (qc_of false (v := some (.int (nI 0))) (by rfl) (⟨fun h => absurd h (by decide), fun h => absurd h (by omega)⟩) hP9 hD9 (trivial) hS) hS dX5_hasNext_22 (show 0 ≤ 0 from by first | exact Nat.le_refl _ | decide | omega) (show 0 ≤ 0 from by first | exact Nat.le_refl _ | decide | omega)
  · refine lv_iconst (v := nI 1) hx hb dX5_hasNext_17 (by decide) ?_
    refine lv_goto (tgt := 22) hx hb dX5_hasNext_18 (by decide) ?_
    have hP9 : va_P G.1 CL [] H := hP.sub [] rfl
    have hD9 : va_D A [] := hD.sub [] (by decide) rfl
    exact end_i hx hb hr hlk (by decide) (qc_of true (v := some (.int (nI 1))) (by rfl) (⟨fun _ => by omega, fun _ => rfl⟩) hP9 hD9 (trivial) hS) hS dX5_hasNext_22 (show 0 ≤ 0 from by first | exact Nat.le_refl _ | decide | omega) (show 0 ≤ 0 from by first | exact Nat.le_refl _ | decide | omega)

set_option maxHeartbeats 4000000 in
theorem mX5_next_2T (l : Launch) (G : Gt) (w : Nat) (i : Nat) (o : Nat) (a : Nat) (m0 : Int32) (ea : Nat) (k : Nat) (cap : Nat) (f : Nat → Option Nat) (g : Nat) (vs : List Value) (Wi : va_W) (hk : k ≤ cap) (hc : cap ≤ 60) (hi : i < k) (hg : f i = some g) (hgm : (g, Sum.inr (8, vs)) ∈ Wi) : CT l G yX5_next_2 cX5_next_2 1 (some (.object "TrainingDiary$Dated")) ({ frames := 4, cells := 0, slots := 0, locals := 76 } : Room) [.ref w] [(w, .inr (7, [.int (nI i), .ref o]))] (fun (A : Nat → Prop) (H : Heap) => roW G A H [(o, .inr (2, [.ref a])), (a, .inr (3, [.int m0, .ref ea, .int (nI k)])), (ea, .inl (G.2 3, cap, .inr (.inr (.inr (.inr f)))))] ∧ roW G A H Wi) (S := Unit) (fun (u_ : Unit) => some (.ref g)) (fun (u_ : Unit) => True) (fun (u_ : Unit) => [(w, .inr (7, [.int (nI (i + 1)), .ref o]))]) (fun (u_ : Unit) (H : Heap) => True) := by
  refine CT.of (by decide) (Nat.le_of_ble_eq_true rfl) ?_
  intro p e s m below meth c ls A H locs h9 hH0 hP hS
  obtain ⟨cf, hr, hlk, hnm, hKB, hE, -, hD, -, hA, hAw, ⟨hR0, hR1⟩, hl⟩ := h9
  have hx := cf.1
  have hb := cf.2.1
  have hml := cf.2.2.1
  have hown : s.vm.findClass RX5 = some m.cls := cf.2.2.2.1
  have hts := cf.2.2.2.2
  have hK := hKB.1
  have hl : lv_has ls 1 [(0, .ref w)] := hl
  have hRm_1062 : roW G A s.heap [(g, .inr (8, vs))] := hR1.mem (hgm)
  refine lv_aload_n hx hb dX5_next_2_0 rfl (lv_at hl 0 rfl) ?_
  have hF := hF_of (wc := []) hD hS hA [] rfl
  have hro_1063 : va_P G.1 CL [(w, .inr (7, [.int (nI i), .ref o])), (o, .inr (2, [.ref a])), (a, .inr (3, [.int m0, .ref ea, .int (nI k)])), (ea, .inl (G.2 3, cap, .inr (.inr (.inr (.inr f)))))] H := ((va_P.sub hP [0] rfl).app ((hR0.w hS).sub [0, 1, 2] rfl))
  refine go_ct hS hP hD [] [0] hF rfl rfl (by decide) (by decide)
      (va_runV (As := []) (rest := []) cf (mX5_hasNext l G w i o a m0 ea k cap f (show k ≤ cap from by first | assumption | omega) (show cap ≤ 60 from by first | assumption | omega) (show i ≤ k from by first | assumption | omega) H.size) (cwV 0 hts (lw_V q328 q311 q1964 q59 q313) rfl rfl rfl (by decide +kernel) ⟨Nat.le_of_ble_eq_true rfl, Nat.le_of_ble_eq_true rfl⟩) (preV_of hKB hE hS hF (va_recv hK hP (ci := 7) (q0 := 0) rfl rfl) (va_P.sub hP [] rfl) ((va_D.sub hD [] (by decide) rfl).weaken (fun _ _ _ _ => trivial)) (roW.nil hro_1063)) rfl rfl hl.1 rfl (lv_room (Nat.le_of_ble_eq_true rfl)) dX5_next_2_1 ⟨show 0 + 0 ≤ 0 from by first | decide | omega, show 0 + 0 ≤ 0 from by first | decide | omega⟩)
      (fun u_ H locs hq hph (hP : va_P G.1 CL [(w, .inr (7, [.int (nI i), .ref o]))] H) (hD : va_D A [(w, .inr (7, [.int (nI i), .ref o]))]) hS hfz hfk => ?_)
  obtain ⟨b_1064, rfl⟩ : ∃ z, z = u_ := ⟨_, rfl⟩
  have hP : va_P G.1 CL [(w, .inr (7, [.int (nI i), .ref o]))] H := hP
  have hD : va_D A [(w, .inr (7, [.int (nI i), .ref o]))] := hD
  have hq_1065 : (b_1064 = true ↔ i < k) := hq
  refine W.eq (g2 := F0 m 4 ls [.int (bI b_1064)]) rfl ?_
  have hnb := hq_1065
  cases b_1064
  · refine lv_ton (n := 0) rfl ?_
    have hge9 : ¬ (i < k) := fun z => absurd (hnb.mpr z) (by decide)
    exact absurd hi hge9
  · refine lv_ton (n := 1) rfl ?_
    have hlt9 := hnb.mp rfl
    have hF := hF_of (wc := []) hD hS hA [] rfl
    refine go_ct hS hP hD [] [0] hF rfl rfl (by decide) (by decide)
        (va_runSN (As := [.int (nI 1)]) (rest := []) cf (mX1_requireElement_t l G   H.size) ⟨va_cnB 1 hts (lw_meth q331) rfl rfl rfl (hKB.nest q329 rfl) (hts _ q47) (by decide +kernel) ⟨Nat.le_of_ble_eq_true rfl, Nat.le_of_ble_eq_true rfl⟩, hts _ q330, trivial⟩ (preS_of hKB hE hS hF (va_P.sub hP [] rfl) ((va_D.sub hD [] (by decide) rfl).weaken (fun _ _ _ _ => trivial)) trivial) rfl rfl hl.1 rfl (lv_room (Nat.le_of_ble_eq_true rfl)) dX5_next_2_4 ⟨show 0 + 0 ≤ 0 from by first | decide | omega, show 0 + 0 ≤ 0 from by first | decide | omega⟩)
        (fun u_ H locs hq hph (hP : va_P G.1 CL [(w, .inr (7, [.int (nI i), .ref o]))] H) (hD : va_D A [(w, .inr (7, [.int (nI i), .ref o]))]) hS hfz hfk => ?_)
    refine W.eq (g2 := F0 m 7 ls []) rfl ?_
    refine lv_aload_n hx hb dX5_next_2_7 rfl (lv_at hl 0 rfl) ?_
    refine lv_dup hx hb dX5_next_2_8 rfl ?_
    refine va_get hx hb hts in_X5 hown hK hP 0 rfl rfl 0 (by decide) (hts _ q297) (fun _ h => h) rfl dX5_next_2_9 ?_
    refine lv_iconst (v := nI 1) hx hb dX5_next_2_12 (by decide) ?_
    refine lv_iadd hx hb dX5_next_2_13 ?_
    refine lv_ton (n := i + 1) (nadd (by omega)) ?_
    refine va_put (v := .int (nI (i + 1))) (ty := .int) hx hb hts in_X5 tyX5 tyX5_ok nmX5 hown hK hP hD hS 0 rfl rfl 0 (by decide) (hts _ q297) (fun _ h => h) rfl (by decide +kernel) rfl rfl (Nat.le_of_ble_eq_true rfl) dX5_next_2_14 (fun H locs (hP : va_P G.1 CL [(w, .inr (7, [.int (nI (i + 1)), .ref o]))] H) (hD : va_D A [(w, .inr (7, [.int (nI (i + 1)), .ref o]))]) hS => ?_)
    refine lv_aload_n hx hb dX5_next_2_17 rfl (lv_at hl 0 rfl) ?_
    refine va_get hx hb hts in_X5 hown hK hP 0 rfl rfl 1 (by decide) (hts _ q298) (fun _ h => h) rfl dX5_next_2_18 ?_
    refine va_getN hx hb hts in_X3 hown hK (hR0.w hS) 0 rfl rfl 0 (by decide) (va_Nw.use rfl (hKB.nest q131 rfl)) (fun _ h => h) rfl dX5_next_2_21 ?_
    refine lv_aload_n hx hb dX5_next_2_24 rfl (lv_at hl 0 rfl) ?_
    refine va_get hx hb hts in_X5 hown hK hP 0 rfl rfl 0 (by decide) (hts _ q297) (fun _ h => h) rfl dX5_next_2_25 ?_
    refine lv_iconst (v := nI 1) hx hb dX5_next_2_28 (by decide) ?_
    refine lv_isub hx hb dX5_next_2_29 ?_
    refine lv_ton (n := i) (nsub (by omega)) ?_
    have hF := hF_of (wc := []) hD hS hA [] rfl
    have hro_1066 : va_P G.1 CL [(a, .inr (3, [.int m0, .ref ea, .int (nI k)])), (ea, .inl (G.2 3, cap, .inr (.inr (.inr (.inr f)))))] H := ((hR0.w hS).sub [1, 2] rfl)
    refine go_ct hS hP hD [] [0] hF rfl rfl (by decide) (by decide)
        (va_runV (As := [.int (nI i)]) (rest := []) cf (mJ2_get l G a m0 ea k cap f i g (show i < k from by first | assumption | omega) (show k ≤ cap from by first | assumption | omega) (show cap < 2 ^ 31 from by first | assumption | omega) (hg) H.size) (cwV 1 hts (lw_V q403 q404 q405 q52 q406) rfl rfl rfl (by decide +kernel) ⟨Nat.le_of_ble_eq_true rfl, Nat.le_of_ble_eq_true rfl⟩) (preV_of hKB hE hS hF (va_recv hK (hR0.w hS) (ci := 3) (q0 := 1) rfl rfl) (va_P.sub hP [] rfl) ((va_D.sub hD [] (by decide) rfl).weaken (fun _ _ _ _ => trivial)) (roW.nil hro_1066)) rfl rfl hl.1 rfl (lv_room (Nat.le_of_ble_eq_true rfl)) dX5_next_2_30 ⟨show 0 + 0 ≤ 0 from by first | decide | omega, show 0 + 0 ≤ 0 from by first | decide | omega⟩)
        (fun u_ H locs hq hph (hP : va_P G.1 CL [(w, .inr (7, [.int (nI (i + 1)), .ref o]))] H) (hD : va_D A [(w, .inr (7, [.int (nI (i + 1)), .ref o]))]) hS hfz hfk => ?_)
    refine W.eq (g2 := F0 m 33 ls [.ref g]) rfl ?_
    refine va_castY hx hb hown (hts _ q417) (hKB.nest q1985 rfl) (va_recv hK (hRm_1062.w hS) (ci := 8) (q0 := 0) rfl rfl) dX5_next_2_33 ?_
    have hP9 : va_P G.1 CL [(w, .inr (7, [.int (nI (i + 1)), .ref o]))] H := hP.sub [0] rfl
    have hD9 : va_D A [(w, .inr (7, [.int (nI (i + 1)), .ref o]))] := hD.sub [0] (by decide) rfl
    exact end_a hx hb hr hlk (by first | exact Or.inl ⟨_, rfl⟩ | exact Or.inr ⟨_, rfl⟩) (Or.inr ⟨_, rfl⟩) (qc_of () (v := some (.ref g)) (by rfl) (trivial) hP9 hD9 (trivial) hS) hS dX5_next_2_36 (show 0 ≤ 0 from by first | exact Nat.le_refl _ | decide | omega) (show 0 ≤ 0 from by first | exact Nat.le_refl _ | decide | omega)

set_option maxHeartbeats 4000000 in
theorem mX5_nextT (l : Launch) (G : Gt) (w : Nat) (i : Nat) (o : Nat) (a : Nat) (m0 : Int32) (ea : Nat) (k : Nat) (cap : Nat) (f : Nat → Option Nat) (g : Nat) (vs : List Value) (Wi : va_W) (hk : k ≤ cap) (hc : cap ≤ 60) (hi : i < k) (hg : f i = some g) (hgm : (g, Sum.inr (8, vs)) ∈ Wi) : CT l G yX5_next cX5_next 1 (some (.object "java/lang/Object")) ({ frames := 5, cells := 0, slots := 0, locals := 96 } : Room) [.ref w] [(w, .inr (7, [.int (nI i), .ref o]))] (fun (A : Nat → Prop) (H : Heap) => roW G A H [(o, .inr (2, [.ref a])), (a, .inr (3, [.int m0, .ref ea, .int (nI k)])), (ea, .inl (G.2 3, cap, .inr (.inr (.inr (.inr f)))))] ∧ roW G A H Wi) (S := Unit) (fun (u_ : Unit) => some (.ref g)) (fun (u_ : Unit) => True) (fun (u_ : Unit) => [(w, .inr (7, [.int (nI (i + 1)), .ref o]))]) (fun (u_ : Unit) (H : Heap) => True) := by
  refine CT.of (by decide) (Nat.le_of_ble_eq_true rfl) ?_
  intro p e s m below meth c ls A H locs h9 hH0 hP hS
  obtain ⟨cf, hr, hlk, hnm, hKB, hE, -, hD, -, hA, hAw, ⟨hR0, hR1⟩, hl⟩ := h9
  have hx := cf.1
  have hb := cf.2.1
  have hml := cf.2.2.1
  have hown : s.vm.findClass RX5 = some m.cls := cf.2.2.2.1
  have hts := cf.2.2.2.2
  have hK := hKB.1
  have hl : lv_has ls 1 [(0, .ref w)] := hl
  refine lv_aload_n hx hb dX5_next_0 rfl (lv_at hl 0 rfl) ?_
  have hF := hF_of (wc := [(w, .inr (7, [.int (nI i), .ref o]))]) hD hS hA [0] rfl
  have hro_1067 : roW G (va_A [(w, .inr (7, [.int (nI i), .ref o]))] H.size) H [(o, .inr (2, [.ref a])), (a, .inr (3, [.int m0, .ref ea, .int (nI k)])), (ea, .inl (G.2 3, cap, .inr (.inr (.inr (.inr f)))))] := ((hR0.kp hF hS.2.1).sub (ws' := [(o, .inr (2, [.ref a])), (a, .inr (3, [.int m0, .ref ea, .int (nI k)])), (ea, .inl (G.2 3, cap, .inr (.inr (.inr (.inr f)))))]) [0, 1, 2] rfl)
  refine go_ct hS hP hD [0] [] hF rfl rfl (by decide) (by decide)
      (va_runV (As := []) (rest := []) cf (mX5_next_2T l G w i o a m0 ea k cap f g vs Wi (show k ≤ cap from by first | assumption | omega) (show cap ≤ 60 from by first | assumption | omega) (show i < k from by first | assumption | omega) (show f i = some g from by first | assumption | omega) (show (g, Sum.inr (8, vs)) ∈ Wi from by first | assumption | omega) H.size) (cwV 0 hts (lw_V q324 q325 q326 q59 q327) rfl rfl rfl (by decide +kernel) ⟨Nat.le_of_ble_eq_true rfl, Nat.le_of_ble_eq_true rfl⟩) (preV_of hKB hE hS hF (va_recv hK hP (ci := 7) (q0 := 0) rfl rfl) (va_P.sub hP [0] rfl) ((va_D.sub hD [0] (by decide) rfl).weaken (fun _ _ _ _ => trivial)) ⟨hro_1067, (hR1.kp hF hS.2.1)⟩) rfl rfl hl.1 rfl (lv_room (Nat.le_of_ble_eq_true rfl)) dX5_next_1 ⟨show 0 + 0 ≤ 0 from by first | decide | omega, show 0 + 0 ≤ 0 from by first | decide | omega⟩)
      (fun u_ H locs hq hph (hP : va_P G.1 CL [(w, .inr (7, [.int (nI (i + 1)), .ref o]))] H) (hD : va_D A [(w, .inr (7, [.int (nI (i + 1)), .ref o]))]) hS hfz hfk => ?_)
  refine W.eq (g2 := F0 m 4 ls [.ref g]) rfl ?_
  have hP9 : va_P G.1 CL [(w, .inr (7, [.int (nI (i + 1)), .ref o]))] H := hP.sub [0] rfl
  have hD9 : va_D A [(w, .inr (7, [.int (nI (i + 1)), .ref o]))] := hD.sub [0] (by decide) rfl
  exact end_a hx hb hr hlk (by first | exact Or.inl ⟨_, rfl⟩ | exact Or.inr ⟨_, rfl⟩) (Or.inr ⟨_, rfl⟩) (qc_of () (v := some (.ref g)) (by rfl) (trivial) hP9 hD9 (trivial) hS) hS dX5_next_4 (show 0 ≤ 0 from by first | exact Nat.le_refl _ | decide | omega) (show 0 ≤ 0 from by first | exact Nat.le_refl _ | decide | omega)

set_option maxHeartbeats 4000000 in
theorem mX5_next_2S (l : Launch) (G : Gt) (w : Nat) (i : Nat) (o : Nat) (a : Nat) (m0 : Int32) (ea : Nat) (k : Nat) (cap : Nat) (f : Nat → Option Nat) (g : Nat) (vs : List Value) (Wi : va_W) (hk : k ≤ cap) (hc : cap ≤ 60) (hi : i < k) (hg : f i = some g) (hgm : (g, Sum.inr (9, vs)) ∈ Wi) : CT l G yX5_next_2 cX5_next_2 1 (some (.object "TrainingDiary$Dated")) ({ frames := 4, cells := 0, slots := 0, locals := 76 } : Room) [.ref w] [(w, .inr (7, [.int (nI i), .ref o]))] (fun (A : Nat → Prop) (H : Heap) => roW G A H [(o, .inr (2, [.ref a])), (a, .inr (3, [.int m0, .ref ea, .int (nI k)])), (ea, .inl (G.2 3, cap, .inr (.inr (.inr (.inr f)))))] ∧ roW G A H Wi) (S := Unit) (fun (u_ : Unit) => some (.ref g)) (fun (u_ : Unit) => True) (fun (u_ : Unit) => [(w, .inr (7, [.int (nI (i + 1)), .ref o]))]) (fun (u_ : Unit) (H : Heap) => True) := by
  refine CT.of (by decide) (Nat.le_of_ble_eq_true rfl) ?_
  intro p e s m below meth c ls A H locs h9 hH0 hP hS
  obtain ⟨cf, hr, hlk, hnm, hKB, hE, -, hD, -, hA, hAw, ⟨hR0, hR1⟩, hl⟩ := h9
  have hx := cf.1
  have hb := cf.2.1
  have hml := cf.2.2.1
  have hown : s.vm.findClass RX5 = some m.cls := cf.2.2.2.1
  have hts := cf.2.2.2.2
  have hK := hKB.1
  have hl : lv_has ls 1 [(0, .ref w)] := hl
  have hRm_1068 : roW G A s.heap [(g, .inr (9, vs))] := hR1.mem (hgm)
  refine lv_aload_n hx hb dX5_next_2_0 rfl (lv_at hl 0 rfl) ?_
  have hF := hF_of (wc := []) hD hS hA [] rfl
  have hro_1069 : va_P G.1 CL [(w, .inr (7, [.int (nI i), .ref o])), (o, .inr (2, [.ref a])), (a, .inr (3, [.int m0, .ref ea, .int (nI k)])), (ea, .inl (G.2 3, cap, .inr (.inr (.inr (.inr f)))))] H := ((va_P.sub hP [0] rfl).app ((hR0.w hS).sub [0, 1, 2] rfl))
  refine go_ct hS hP hD [] [0] hF rfl rfl (by decide) (by decide)
      (va_runV (As := []) (rest := []) cf (mX5_hasNext l G w i o a m0 ea k cap f (show k ≤ cap from by first | assumption | omega) (show cap ≤ 60 from by first | assumption | omega) (show i ≤ k from by first | assumption | omega) H.size) (cwV 0 hts (lw_V q328 q311 q1964 q59 q313) rfl rfl rfl (by decide +kernel) ⟨Nat.le_of_ble_eq_true rfl, Nat.le_of_ble_eq_true rfl⟩) (preV_of hKB hE hS hF (va_recv hK hP (ci := 7) (q0 := 0) rfl rfl) (va_P.sub hP [] rfl) ((va_D.sub hD [] (by decide) rfl).weaken (fun _ _ _ _ => trivial)) (roW.nil hro_1069)) rfl rfl hl.1 rfl (lv_room (Nat.le_of_ble_eq_true rfl)) dX5_next_2_1 ⟨show 0 + 0 ≤ 0 from by first | decide | omega, show 0 + 0 ≤ 0 from by first | decide | omega⟩)
      (fun u_ H locs hq hph (hP : va_P G.1 CL [(w, .inr (7, [.int (nI i), .ref o]))] H) (hD : va_D A [(w, .inr (7, [.int (nI i), .ref o]))]) hS hfz hfk => ?_)
  obtain ⟨b_1070, rfl⟩ : ∃ z, z = u_ := ⟨_, rfl⟩
  have hP : va_P G.1 CL [(w, .inr (7, [.int (nI i), .ref o]))] H := hP
  have hD : va_D A [(w, .inr (7, [.int (nI i), .ref o]))] := hD
  have hq_1071 : (b_1070 = true ↔ i < k) := hq
  refine W.eq (g2 := F0 m 4 ls [.int (bI b_1070)]) rfl ?_
  have hnb := hq_1071
  cases b_1070
  · refine lv_ton (n := 0) rfl ?_
    have hge9 : ¬ (i < k) := fun z => absurd (hnb.mpr z) (by decide)
    exact absurd hi hge9
  · refine lv_ton (n := 1) rfl ?_
    have hlt9 := hnb.mp rfl
    have hF := hF_of (wc := []) hD hS hA [] rfl
    refine go_ct hS hP hD [] [0] hF rfl rfl (by decide) (by decide)
        (va_runSN (As := [.int (nI 1)]) (rest := []) cf (mX1_requireElement_t l G   H.size) ⟨va_cnB 1 hts (lw_meth q331) rfl rfl rfl (hKB.nest q329 rfl) (hts _ q47) (by decide +kernel) ⟨Nat.le_of_ble_eq_true rfl, Nat.le_of_ble_eq_true rfl⟩, hts _ q330, trivial⟩ (preS_of hKB hE hS hF (va_P.sub hP [] rfl) ((va_D.sub hD [] (by decide) rfl).weaken (fun _ _ _ _ => trivial)) trivial) rfl rfl hl.1 rfl (lv_room (Nat.le_of_ble_eq_true rfl)) dX5_next_2_4 ⟨show 0 + 0 ≤ 0 from by first | decide | omega, show 0 + 0 ≤ 0 from by first | decide | omega⟩)
        (fun u_ H locs hq hph (hP : va_P G.1 CL [(w, .inr (7, [.int (nI i), .ref o]))] H) (hD : va_D A [(w, .inr (7, [.int (nI i), .ref o]))]) hS hfz hfk => ?_)
    refine W.eq (g2 := F0 m 7 ls []) rfl ?_
    refine lv_aload_n hx hb dX5_next_2_7 rfl (lv_at hl 0 rfl) ?_
    refine lv_dup hx hb dX5_next_2_8 rfl ?_
    refine va_get hx hb hts in_X5 hown hK hP 0 rfl rfl 0 (by decide) (hts _ q297) (fun _ h => h) rfl dX5_next_2_9 ?_
    refine lv_iconst (v := nI 1) hx hb dX5_next_2_12 (by decide) ?_
    refine lv_iadd hx hb dX5_next_2_13 ?_
    refine lv_ton (n := i + 1) (nadd (by omega)) ?_
    refine va_put (v := .int (nI (i + 1))) (ty := .int) hx hb hts in_X5 tyX5 tyX5_ok nmX5 hown hK hP hD hS 0 rfl rfl 0 (by decide) (hts _ q297) (fun _ h => h) rfl (by decide +kernel) rfl rfl (Nat.le_of_ble_eq_true rfl) dX5_next_2_14 (fun H locs (hP : va_P G.1 CL [(w, .inr (7, [.int (nI (i + 1)), .ref o]))] H) (hD : va_D A [(w, .inr (7, [.int (nI (i + 1)), .ref o]))]) hS => ?_)
    refine lv_aload_n hx hb dX5_next_2_17 rfl (lv_at hl 0 rfl) ?_
    refine va_get hx hb hts in_X5 hown hK hP 0 rfl rfl 1 (by decide) (hts _ q298) (fun _ h => h) rfl dX5_next_2_18 ?_
    refine va_getN hx hb hts in_X3 hown hK (hR0.w hS) 0 rfl rfl 0 (by decide) (va_Nw.use rfl (hKB.nest q131 rfl)) (fun _ h => h) rfl dX5_next_2_21 ?_
    refine lv_aload_n hx hb dX5_next_2_24 rfl (lv_at hl 0 rfl) ?_
    refine va_get hx hb hts in_X5 hown hK hP 0 rfl rfl 0 (by decide) (hts _ q297) (fun _ h => h) rfl dX5_next_2_25 ?_
    refine lv_iconst (v := nI 1) hx hb dX5_next_2_28 (by decide) ?_
    refine lv_isub hx hb dX5_next_2_29 ?_
    refine lv_ton (n := i) (nsub (by omega)) ?_
    have hF := hF_of (wc := []) hD hS hA [] rfl
    have hro_1072 : va_P G.1 CL [(a, .inr (3, [.int m0, .ref ea, .int (nI k)])), (ea, .inl (G.2 3, cap, .inr (.inr (.inr (.inr f)))))] H := ((hR0.w hS).sub [1, 2] rfl)
    refine go_ct hS hP hD [] [0] hF rfl rfl (by decide) (by decide)
        (va_runV (As := [.int (nI i)]) (rest := []) cf (mJ2_get l G a m0 ea k cap f i g (show i < k from by first | assumption | omega) (show k ≤ cap from by first | assumption | omega) (show cap < 2 ^ 31 from by first | assumption | omega) (hg) H.size) (cwV 1 hts (lw_V q403 q404 q405 q52 q406) rfl rfl rfl (by decide +kernel) ⟨Nat.le_of_ble_eq_true rfl, Nat.le_of_ble_eq_true rfl⟩) (preV_of hKB hE hS hF (va_recv hK (hR0.w hS) (ci := 3) (q0 := 1) rfl rfl) (va_P.sub hP [] rfl) ((va_D.sub hD [] (by decide) rfl).weaken (fun _ _ _ _ => trivial)) (roW.nil hro_1072)) rfl rfl hl.1 rfl (lv_room (Nat.le_of_ble_eq_true rfl)) dX5_next_2_30 ⟨show 0 + 0 ≤ 0 from by first | decide | omega, show 0 + 0 ≤ 0 from by first | decide | omega⟩)
        (fun u_ H locs hq hph (hP : va_P G.1 CL [(w, .inr (7, [.int (nI (i + 1)), .ref o]))] H) (hD : va_D A [(w, .inr (7, [.int (nI (i + 1)), .ref o]))]) hS hfz hfk => ?_)
    refine W.eq (g2 := F0 m 33 ls [.ref g]) rfl ?_
    refine va_castY hx hb hown (hts _ q417) (hKB.nest q1984 rfl) (va_recv hK (hRm_1068.w hS) (ci := 9) (q0 := 0) rfl rfl) dX5_next_2_33 ?_
    have hP9 : va_P G.1 CL [(w, .inr (7, [.int (nI (i + 1)), .ref o]))] H := hP.sub [0] rfl
    have hD9 : va_D A [(w, .inr (7, [.int (nI (i + 1)), .ref o]))] := hD.sub [0] (by decide) rfl
    exact end_a hx hb hr hlk (by first | exact Or.inl ⟨_, rfl⟩ | exact Or.inr ⟨_, rfl⟩) (Or.inr ⟨_, rfl⟩) (qc_of () (v := some (.ref g)) (by rfl) (trivial) hP9 hD9 (trivial) hS) hS dX5_next_2_36 (show 0 ≤ 0 from by first | exact Nat.le_refl _ | decide | omega) (show 0 ≤ 0 from by first | exact Nat.le_refl _ | decide | omega)

set_option maxHeartbeats 4000000 in
theorem mX5_nextS (l : Launch) (G : Gt) (w : Nat) (i : Nat) (o : Nat) (a : Nat) (m0 : Int32) (ea : Nat) (k : Nat) (cap : Nat) (f : Nat → Option Nat) (g : Nat) (vs : List Value) (Wi : va_W) (hk : k ≤ cap) (hc : cap ≤ 60) (hi : i < k) (hg : f i = some g) (hgm : (g, Sum.inr (9, vs)) ∈ Wi) : CT l G yX5_next cX5_next 1 (some (.object "java/lang/Object")) ({ frames := 5, cells := 0, slots := 0, locals := 96 } : Room) [.ref w] [(w, .inr (7, [.int (nI i), .ref o]))] (fun (A : Nat → Prop) (H : Heap) => roW G A H [(o, .inr (2, [.ref a])), (a, .inr (3, [.int m0, .ref ea, .int (nI k)])), (ea, .inl (G.2 3, cap, .inr (.inr (.inr (.inr f)))))] ∧ roW G A H Wi) (S := Unit) (fun (u_ : Unit) => some (.ref g)) (fun (u_ : Unit) => True) (fun (u_ : Unit) => [(w, .inr (7, [.int (nI (i + 1)), .ref o]))]) (fun (u_ : Unit) (H : Heap) => True) := by
  refine CT.of (by decide) (Nat.le_of_ble_eq_true rfl) ?_
  intro p e s m below meth c ls A H locs h9 hH0 hP hS
  obtain ⟨cf, hr, hlk, hnm, hKB, hE, -, hD, -, hA, hAw, ⟨hR0, hR1⟩, hl⟩ := h9
  have hx := cf.1
  have hb := cf.2.1
  have hml := cf.2.2.1
  have hown : s.vm.findClass RX5 = some m.cls := cf.2.2.2.1
  have hts := cf.2.2.2.2
  have hK := hKB.1
  have hl : lv_has ls 1 [(0, .ref w)] := hl
  refine lv_aload_n hx hb dX5_next_0 rfl (lv_at hl 0 rfl) ?_
  have hF := hF_of (wc := [(w, .inr (7, [.int (nI i), .ref o]))]) hD hS hA [0] rfl
  have hro_1073 : roW G (va_A [(w, .inr (7, [.int (nI i), .ref o]))] H.size) H [(o, .inr (2, [.ref a])), (a, .inr (3, [.int m0, .ref ea, .int (nI k)])), (ea, .inl (G.2 3, cap, .inr (.inr (.inr (.inr f)))))] := ((hR0.kp hF hS.2.1).sub (ws' := [(o, .inr (2, [.ref a])), (a, .inr (3, [.int m0, .ref ea, .int (nI k)])), (ea, .inl (G.2 3, cap, .inr (.inr (.inr (.inr f)))))]) [0, 1, 2] rfl)
  refine go_ct hS hP hD [0] [] hF rfl rfl (by decide) (by decide)
      (va_runV (As := []) (rest := []) cf (mX5_next_2S l G w i o a m0 ea k cap f g vs Wi (show k ≤ cap from by first | assumption | omega) (show cap ≤ 60 from by first | assumption | omega) (show i < k from by first | assumption | omega) (show f i = some g from by first | assumption | omega) (show (g, Sum.inr (9, vs)) ∈ Wi from by first | assumption | omega) H.size) (cwV 0 hts (lw_V q324 q325 q326 q59 q327) rfl rfl rfl (by decide +kernel) ⟨Nat.le_of_ble_eq_true rfl, Nat.le_of_ble_eq_true rfl⟩) (preV_of hKB hE hS hF (va_recv hK hP (ci := 7) (q0 := 0) rfl rfl) (va_P.sub hP [0] rfl) ((va_D.sub hD [0] (by decide) rfl).weaken (fun _ _ _ _ => trivial)) ⟨hro_1073, (hR1.kp hF hS.2.1)⟩) rfl rfl hl.1 rfl (lv_room (Nat.le_of_ble_eq_true rfl)) dX5_next_1 ⟨show 0 + 0 ≤ 0 from by first | decide | omega, show 0 + 0 ≤ 0 from by first | decide | omega⟩)
      (fun u_ H locs hq hph (hP : va_P G.1 CL [(w, .inr (7, [.int (nI (i + 1)), .ref o]))] H) (hD : va_D A [(w, .inr (7, [.int (nI (i + 1)), .ref o]))]) hS hfz hfk => ?_)
  refine W.eq (g2 := F0 m 4 ls [.ref g]) rfl ?_
  have hP9 : va_P G.1 CL [(w, .inr (7, [.int (nI (i + 1)), .ref o]))] H := hP.sub [0] rfl
  have hD9 : va_D A [(w, .inr (7, [.int (nI (i + 1)), .ref o]))] := hD.sub [0] (by decide) rfl
  exact end_a hx hb hr hlk (by first | exact Or.inl ⟨_, rfl⟩ | exact Or.inr ⟨_, rfl⟩) (Or.inr ⟨_, rfl⟩) (qc_of () (v := some (.ref g)) (by rfl) (trivial) hP9 hD9 (trivial) hS) hS dX5_next_4 (show 0 ≤ 0 from by first | exact Nat.le_refl _ | decide | omega) (show 0 ≤ 0 from by first | exact Nat.le_refl _ | decide | omega)

/-- a test, a session among the cells of a world -/
def TestIn (Wi : va_W) (y d t : Nat) : Prop := (y, Sum.inr (8, [Value.int (nI d), Value.int (nI t)])) ∈ Wi
/-- the last place of so many with a day not behind d -/
def LU (td : Nat → Nat) (d i : Nat) : Option Nat → Prop
  | none => ∀ j, j < i → ¬ td j ≤ d
  | some j => j < i ∧ td j ≤ d ∧ ∀ m, j < m → m < i → ¬ td m ≤ d
theorem LU_yes {td d i} (h : td i ≤ d) : LU td d (i + 1) (some i) := ⟨by omega, h, fun m h1 h2 => by omega⟩
theorem LU_no {td d i o} (h : ¬ td i ≤ d) (ho : LU td d i o) : LU td d (i + 1) o := by
  cases o with
  | none => exact fun j hj => (Nat.lt_succ_iff_lt_or_eq.mp hj).elim (ho j) (fun e => e ▸ h)
  | some j => exact ⟨by have := ho.1; omega, ho.2.1, fun m h1 h2 => (Nat.lt_succ_iff_lt_or_eq.mp h2).elim (ho.2.2 m h1) (fun e => e ▸ h)⟩

set_option maxHeartbeats 4000000 in
theorem mX1_lastUpTo (l : Launch) (G : Gt) (o : Nat) (a : Nat) (m0 : Int32) (ea : Nat) (k : Nat) (cap : Nat) (f : Nat → Option Nat) (d : Nat) (td : Nat → Nat) (tt : Nat → Nat) (ga : Nat → Nat) (Wi : va_W) (hk : k ≤ cap) (hc : cap ≤ 60) (hd : d < 2 ^ 31) (hel : ∀ j, j < k → f j = some (ga j) ∧ TestIn Wi (ga j) (td j) (tt j) ∧ td j < 2 ^ 31) : CT l G yX1_lastUpTo cX1_lastUpTo 6 (some .int) ({ frames := 6, cells := 1, slots := 2, locals := 116 } : Room) [.ref o, .int (nI d)] [] (fun (A : Nat → Prop) (H : Heap) => roW G A H [(o, .inr (2, [.ref a])), (a, .inr (3, [.int m0, .ref ea, .int (nI k)])), (ea, .inl (G.2 3, cap, .inr (.inr (.inr (.inr f)))))] ∧ roW G A H Wi) (S := (Option Nat)) (fun (u_ : (Option Nat)) => some (.int (oI u_))) (fun (u_ : (Option Nat)) => LU td d k u_) (fun (u_ : (Option Nat)) => []) (fun (u_ : (Option Nat)) (H : Heap) => True) := by
  refine CT.of (by decide) (Nat.le_of_ble_eq_true rfl) ?_
  intro p e s m below meth c ls A H locs h9 hH0 hP hS
  obtain ⟨cf, hr, hlk, hnm, hKB, hE, -, hD, -, hA, hAw, ⟨hR0, hR1⟩, hl⟩ := h9
  have hx := cf.1
  have hb := cf.2.1
  have hml := cf.2.2.1
  have hown : s.vm.findClass RX1 = some m.cls := cf.2.2.2.1
  have hts := cf.2.2.2.2
  have hK := hKB.1
  have hl : lv_has ls 6 [(0, .ref o), (1, .int (nI d))] := hl
  refine lv_iconst (v := (-1)) hx hb dX1_lastUpTo_0 (by decide) ?_
  refine lv_istore_n (lv' := [(2, .int (-1)), (0, .ref o), (1, .int (nI d))]) hx hb dX1_lastUpTo_1 rfl hl (by decide) rfl (fun ls hl => ?_)
  refine lv_iconst (v := nI 0) hx hb dX1_lastUpTo_2 (by decide) ?_
  refine lv_istore_n (lv' := [(3, .int (nI 0)), (2, .int (-1)), (0, .ref o), (1, .int (nI d))]) hx hb dX1_lastUpTo_3 rfl hl (by decide) rfl (fun ls hl => ?_)
  refine lv_aload_n hx hb dX1_lastUpTo_4 rfl (lv_at hl 2 rfl) ?_
  have hF := hF_of (wc := []) hD hS hA [] rfl
  refine go_ct hS hP hD [] [] hF rfl rfl (by decide) (by decide)
      (va_runV (As := []) (rest := []) cf (mX3_iterator l G o  H.size) (cwV 0 hts (lw_V q436 q288 q289 q49 q290) rfl rfl rfl (by decide +kernel) ⟨Nat.le_of_ble_eq_true rfl, Nat.le_of_ble_eq_true rfl⟩) (preV_of hKB hE hS hF (va_recv hK (hR0.w hS) (ci := 2) (q0 := 0) rfl rfl) (va_P.sub hP [] rfl) ((va_D.sub hD [] (by decide) rfl).weaken (fun _ _ _ _ => trivial)) trivial) rfl rfl hl.1 rfl (lv_room (Nat.le_of_ble_eq_true rfl)) dX1_lastUpTo_5 ⟨show 0 + 1 ≤ 1 from by first | decide | omega, show 0 + 2 ≤ 2 from by first | decide | omega⟩)
      (fun u_ H locs hq hph (hP : va_P G.1 CL [(u_, .inr (7, [.int (nI 0), .ref o]))] H) (hD : va_D A [(u_, .inr (7, [.int (nI 0), .ref o]))]) hS hfz hfk => ?_)
  obtain ⟨qw_1074, rfl⟩ : ∃ z, z = u_ := ⟨_, rfl⟩
  have hP : va_P G.1 CL [(qw_1074, .inr (7, [.int (nI 0), .ref o]))] H := hP
  have hD : va_D A [(qw_1074, .inr (7, [.int (nI 0), .ref o]))] := hD
  refine W.eq (g2 := F0 m 8 ls [.ref qw_1074]) rfl ?_
  refine lv_astore (lv' := [(4, .ref qw_1074), (3, .int (nI 0)), (2, .int (-1)), (0, .ref o), (1, .int (nI d))]) hx hb dX1_lastUpTo_8 hl (by decide) rfl (fun ls hl => ?_)
  have hl := lv_sub hl [3, 4, 2, 1, 0] (l' := [(0, .ref o), (1, .int (nI d)), (2, .int (oI none)), (3, .int (nI 0)), (4, .ref qw_1074)]) rfl
  refine lp_W (σ := Nat × (Option Nat)) (hpc := 10) (fun x => k - x.1) (fun x => 0 + 1) (fun x => 0 + 2) (fun x H locs ls => va_P G.1 CL [(qw_1074, .inr (7, [.int (nI x.1), .ref o]))] H ∧ va_D A [(qw_1074, .inr (7, [.int (nI x.1), .ref o]))] ∧ va_S A s.heap H locs ∧ lv_has ls 6 [(0, .ref o), (1, .int (nI d)), (2, .int (oI x.2)), (3, .int (nI x.1)), (4, .ref qw_1074)] ∧ (x.1 ≤ k) ∧ (LU td d x.1 x.2)) ?_ (0, none) ⟨(show va_P G.1 CL [(qw_1074, .inr (7, [.int (nI 0), .ref o]))] H from hP), (show va_D A [(qw_1074, .inr (7, [.int (nI 0), .ref o]))] from hD), hS, hl, (show 0 ≤ k from by omega), (show LU td d 0 none from fun j hj => absurd hj (Nat.not_lt_zero _))⟩ (show 0 + 1 ≤ 0 + 1 from by first | exact Nat.le_refl _ | omega) (show 0 + 2 ≤ 0 + 2 from by first | exact Nat.le_refl _ | omega)
  intro x H locs ls hI9 ih10
  obtain ⟨i_1077, fo_1078⟩ := x
  obtain ⟨hP, hD, hS, hl, hp_1075, hp_1076⟩ := hI9
  have hP : va_P G.1 CL [(qw_1074, .inr (7, [.int (nI i_1077), .ref o]))] H := hP
  have hD : va_D A [(qw_1074, .inr (7, [.int (nI i_1077), .ref o]))] := hD
  have hl : lv_has ls 6 [(0, .ref o), (1, .int (nI d)), (2, .int (oI fo_1078)), (3, .int (nI i_1077)), (4, .ref qw_1074)] := hl
  have hp_1075 : i_1077 ≤ k := hp_1075
  have hp_1076 : LU td d i_1077 fo_1078 := hp_1076
  refine W.widen (k := 0 + 1) (n := 0 + 2) (Nat.le_refl _) (Nat.le_refl _) ?_
  refine lv_aload hx hb dX1_lastUpTo_10 (lv_at hl 4 rfl) ?_
  have hF := hF_of (wc := []) hD hS hA [] rfl
  have hro_1079 : va_P G.1 CL [(qw_1074, .inr (7, [.int (nI i_1077), .ref o])), (o, .inr (2, [.ref a])), (a, .inr (3, [.int m0, .ref ea, .int (nI k)])), (ea, .inl (G.2 3, cap, .inr (.inr (.inr (.inr f)))))] H := ((va_P.sub hP [0] rfl).app ((hR0.w hS).sub [0, 1, 2] rfl))
  refine go_ct5 hS hP hD [] [0] hF rfl rfl (by decide) (by decide)
      (va_runF (hK.1 7 _ rfl).2 (As := []) (rest := []) cf (mX5_hasNext l G qw_1074 i_1077 o a m0 ea k cap f (show k ≤ cap from by first | assumption | omega) (show cap ≤ 60 from by first | assumption | omega) (show i_1077 ≤ k from by first | assumption | omega) H.size) (va_cwF 0 hts (lw_F q438 q309 q311 q59 q313) rfl rfl rfl hKB.2.2.2.1 (by decide +kernel) ⟨Nat.le_of_ble_eq_true rfl, Nat.le_of_ble_eq_true rfl⟩) (preV_of hKB hE hS hF (va_recv hK hP (ci := 7) (q0 := 0) rfl rfl) (va_P.sub hP [] rfl) ((va_D.sub hD [] (by decide) rfl).weaken (fun _ _ _ _ => trivial)) (roW.nil hro_1079)) rfl rfl hl.1 rfl (lv_room (Nat.le_of_ble_eq_true rfl)) dX1_lastUpTo_12 ⟨show 0 + 1 + 0 ≤ 1 from by first | decide | omega, show 0 + 2 + 0 ≤ 2 from by first | decide | omega⟩)
      (fun u_ H locs hq hph (hP : va_P G.1 CL [(qw_1074, .inr (7, [.int (nI i_1077), .ref o]))] H) (hD : va_D A [(qw_1074, .inr (7, [.int (nI i_1077), .ref o]))]) hS hfz hfk => ?_)
  obtain ⟨b_1080, rfl⟩ : ∃ z, z = u_ := ⟨_, rfl⟩
  have hP : va_P G.1 CL [(qw_1074, .inr (7, [.int (nI i_1077), .ref o]))] H := hP
  have hD : va_D A [(qw_1074, .inr (7, [.int (nI i_1077), .ref o]))] := hD
  have hq_1081 : (b_1080 = true ↔ i_1077 < k) := hq
  refine W.eq (g2 := F0 m 17 ls [.int (bI b_1080)]) rfl ?_
  have hnb := hq_1081
  cases b_1080
  · refine lv_ton (n := 0) rfl ?_
    have hge9 : ¬ (i_1077 < k) := fun z => absurd (hnb.mpr z) (by decide)
    refine n_if_eq (tgt := 53) hx hb (by omega) dX1_lastUpTo_17 (by decide) (fun c_1082 => ?_) (fun c_1082 => absurd c_1082 (by omega))
    refine lv_iload_n hx hb dX1_lastUpTo_53 rfl (lv_at hl 2 rfl) ?_
    have hP9 : va_P G.1 CL [] H := hP.sub [] rfl
    have hD9 : va_D A [] := hD.sub [] (by decide) rfl
    exact end_i hx hb hr hlk (rfl) (qc_of fo_1078 (v := some (.int (oI fo_1078))) (by rfl) (by rw [show k = i_1077 by omega]; exact hp_1076) hP9 hD9 (trivial) hS) hS dX1_lastUpTo_54 (show 0 + 1 ≤ 1 from by first | exact Nat.le_refl _ | decide | omega) (show 0 + 2 ≤ 2 from by first | exact Nat.le_refl _ | decide | omega)
  · refine lv_ton (n := 1) rfl ?_
    have hlt9 := hnb.mp rfl
    refine n_if_eq (tgt := 53) hx hb (by omega) dX1_lastUpTo_17 (by decide) (fun c_1083 => absurd c_1083 (by omega)) (fun c_1083 => ?_)
    refine lv_aload hx hb dX1_lastUpTo_20 (lv_at hl 4 rfl) ?_
    obtain ⟨hg9, hgm9, hgd9⟩ := hel i_1077 hlt9
    have hRm_1084 : roW G A s.heap [((ga i_1077), .inr (8, [.int (nI (td i_1077)), .int (nI (tt i_1077))]))] := hR1.mem (hgm9)
    have hF := hF_of (wc := [(qw_1074, .inr (7, [.int (nI i_1077), .ref o]))]) hD hS hA [0] rfl
    have hro_1085 : roW G (va_A [(qw_1074, .inr (7, [.int (nI i_1077), .ref o]))] H.size) H [(o, .inr (2, [.ref a])), (a, .inr (3, [.int m0, .ref ea, .int (nI k)])), (ea, .inl (G.2 3, cap, .inr (.inr (.inr (.inr f)))))] := ((hR0.kp hF hS.2.1).sub (ws' := [(o, .inr (2, [.ref a])), (a, .inr (3, [.int m0, .ref ea, .int (nI k)])), (ea, .inl (G.2 3, cap, .inr (.inr (.inr (.inr f)))))]) [0, 1, 2] rfl)
    refine go_ct5 hS hP hD [0] [] hF rfl rfl (by decide) (by decide)
        (va_runF (hK.1 7 _ rfl).2 (As := []) (rest := []) cf (mX5_nextT l G qw_1074 i_1077 o a m0 ea k cap f (ga i_1077) ([.int (nI (td i_1077)), .int (nI (tt i_1077))]) Wi (show k ≤ cap from by first | assumption | omega) (show cap ≤ 60 from by first | assumption | omega) (show i_1077 < k from by first | assumption | omega) (hg9) (hgm9) H.size) (va_cwF 0 hts (lw_F q440 q319 q321 q59 q323) rfl rfl rfl hKB.2.2.2.2.1 (by decide +kernel) ⟨Nat.le_of_ble_eq_true rfl, Nat.le_of_ble_eq_true rfl⟩) (preV_of hKB hE hS hF (va_recv hK hP (ci := 7) (q0 := 0) rfl rfl) (va_P.sub hP [0] rfl) ((va_D.sub hD [0] (by decide) rfl).weaken (fun _ _ _ _ => trivial)) ⟨hro_1085, (hR1.kp hF hS.2.1)⟩) rfl rfl hl.1 rfl (lv_room (Nat.le_of_ble_eq_true rfl)) dX1_lastUpTo_22 ⟨show 0 + 1 + 0 ≤ 1 from by first | decide | omega, show 0 + 2 + 0 ≤ 2 from by first | decide | omega⟩)
        (fun u_ H locs hq hph (hP : va_P G.1 CL [(qw_1074, .inr (7, [.int (nI (i_1077 + 1)), .ref o]))] H) (hD : va_D A [(qw_1074, .inr (7, [.int (nI (i_1077 + 1)), .ref o]))]) hS hfz hfk => ?_)
    refine W.eq (g2 := F0 m 27 ls [.ref (ga i_1077)]) rfl ?_
    refine va_castY hx hb hown (hts _ q441) (hKB.nest q1985 rfl) (va_recv hK (hRm_1084.w hS) (ci := 8) (q0 := 0) rfl rfl) dX1_lastUpTo_27 ?_
    refine lv_astore (lv' := [(5, .ref (ga i_1077)), (0, .ref o), (1, .int (nI d)), (2, .int (oI fo_1078)), (3, .int (nI i_1077)), (4, .ref qw_1074)]) hx hb dX1_lastUpTo_30 hl (by decide) rfl (fun ls hl => ?_)
    refine lv_aload hx hb dX1_lastUpTo_32 (lv_at hl 0 rfl) ?_
    have hF := hF_of (wc := []) hD hS hA [] rfl
    have hro_1086 : va_P G.1 CL [(ga i_1077, .inr (8, [.int (nI (td i_1077)), .int (nI (tt i_1077))]))] H := ((hRm_1084.w hS).sub [0] rfl)
    refine go_ct hS hP hD [] [0] hF rfl rfl (by decide) (by decide)
        (va_runU (As := []) (rest := []) cf (mX6_dayT l G (ga i_1077) (td i_1077) (tt i_1077)  H.size) (va_cwU (owner := "TrainingDiary$Dated") 0 hts (lw_U q442 q1966 q1968 q423 q72 q424) rfl rfl rfl rfl (by decide +kernel) ⟨Nat.le_of_ble_eq_true rfl, Nat.le_of_ble_eq_true rfl⟩) (preV_of hKB hE hS hF (va_recv hK (hRm_1084.w hS) (ci := 8) (q0 := 0) rfl rfl) (va_P.sub hP [] rfl) ((va_D.sub hD [] (by decide) rfl).weaken (fun _ _ _ _ => trivial)) (roW.nil hro_1086)) rfl rfl hl.1 rfl (lv_room (Nat.le_of_ble_eq_true rfl)) dX1_lastUpTo_34 ⟨show 0 + 1 + 0 ≤ 1 from by first | decide | omega, show 0 + 2 + 0 ≤ 2 from by first | decide | omega⟩)
        (fun u_ H locs hq hph (hP : va_P G.1 CL [(qw_1074, .inr (7, [.int (nI (i_1077 + 1)), .ref o]))] H) (hD : va_D A [(qw_1074, .inr (7, [.int (nI (i_1077 + 1)), .ref o]))]) hS hfz hfk => ?_)
    refine W.eq (g2 := F0 m 37 ls [.int (nI (td i_1077))]) rfl ?_
    refine lv_iload_n hx hb dX1_lastUpTo_37 rfl (lv_at hl 2 rfl) ?_
    refine n_icmp_gt (tgt := 45) hx hb (by omega) (by omega) dX1_lastUpTo_38 (by decide) (fun c_1088 => ?_) (fun c_1088 => ?_)
    · refine lv_iload_n hx hb dX1_lastUpTo_45 rfl (lv_at hl 3 rfl) ?_
      refine lv_istore_n (lv' := [(2, .int (oI fo_1078)), (5, .ref (ga i_1077)), (0, .ref o), (1, .int (nI d)), (3, .int (nI i_1077)), (4, .ref qw_1074)]) hx hb dX1_lastUpTo_46 rfl hl (by decide) rfl (fun ls hl => ?_)
      refine lv_iinc (v := nI (i_1077 + 1)) (lv' := [(3, .int (nI (i_1077 + 1))), (2, .int (oI fo_1078)), (5, .ref (ga i_1077)), (0, .ref o), (1, .int (nI d)), (4, .ref qw_1074)]) hx hb dX1_lastUpTo_47 hl (k := 4) rfl (ninc (b := 1) (by decide) (by omega)) (by decide) rfl (fun ls hl => ?_)
      refine lv_goto (tgt := 10) hx hb dX1_lastUpTo_50 (by decide) ?_
      have hP : va_P G.1 CL [(qw_1074, .inr (7, [.int (nI (i_1077 + 1)), .ref o]))] H := hP.sub [0] rfl
      have hD : va_D A [(qw_1074, .inr (7, [.int (nI (i_1077 + 1)), .ref o]))] := hD.sub [0] (by decide) rfl
      have hl := lv_sub hl [3, 4, 1, 0, 5] (l' := [(0, .ref o), (1, .int (nI d)), (2, .int (oI fo_1078)), (3, .int (nI (i_1077 + 1))), (4, .ref qw_1074)]) rfl
      exact W.widen (show 0 + 1 ≤ 0 + 1 from by first | exact Nat.le_refl _ | omega) (show 0 + 2 ≤ 0 + 2 from by first | exact Nat.le_refl _ | omega) (ih10 (i_1077 + 1, fo_1078) H locs ls ⟨hP, hD, hS, hl, (show (i_1077 + 1) ≤ k from by omega), (show LU td d (i_1077 + 1) fo_1078 from LU_no (by omega) hp_1076)⟩ (show k - (i_1077 + 1) < k - i_1077 from by omega))
    · refine lv_iload_n hx hb dX1_lastUpTo_41 rfl (lv_at hl 4 rfl) ?_
      refine lv_goto (tgt := 46) hx hb dX1_lastUpTo_42 (by decide) ?_
      refine lv_toi (y := oI (some i_1077)) rfl ?_
      refine lv_istore_n (lv' := [(2, .int (oI (some i_1077))), (5, .ref (ga i_1077)), (0, .ref o), (1, .int (nI d)), (3, .int (nI i_1077)), (4, .ref qw_1074)]) hx hb dX1_lastUpTo_46 rfl hl (by decide) rfl (fun ls hl => ?_)
      refine lv_iinc (v := nI (i_1077 + 1)) (lv' := [(3, .int (nI (i_1077 + 1))), (2, .int (oI (some i_1077))), (5, .ref (ga i_1077)), (0, .ref o), (1, .int (nI d)), (4, .ref qw_1074)]) hx hb dX1_lastUpTo_47 hl (k := 4) rfl (ninc (b := 1) (by decide) (by omega)) (by decide) rfl (fun ls hl => ?_)
      refine lv_goto (tgt := 10) hx hb dX1_lastUpTo_50 (by decide) ?_
      have hP : va_P G.1 CL [(qw_1074, .inr (7, [.int (nI (i_1077 + 1)), .ref o]))] H := hP.sub [0] rfl
      have hD : va_D A [(qw_1074, .inr (7, [.int (nI (i_1077 + 1)), .ref o]))] := hD.sub [0] (by decide) rfl
      have hl := lv_sub hl [3, 4, 1, 0, 5] (l' := [(0, .ref o), (1, .int (nI d)), (2, .int (oI (some i_1077))), (3, .int (nI (i_1077 + 1))), (4, .ref qw_1074)]) rfl
      exact W.widen (show 0 + 1 ≤ 0 + 1 from by first | exact Nat.le_refl _ | omega) (show 0 + 2 ≤ 0 + 2 from by first | exact Nat.le_refl _ | omega) (ih10 (i_1077 + 1, (some i_1077)) H locs ls ⟨hP, hD, hS, hl, (show (i_1077 + 1) ≤ k from by omega), (show LU td d (i_1077 + 1) (some i_1077) from LU_yes (by omega))⟩ (show k - (i_1077 + 1) < k - i_1077 from by omega))

set_option maxHeartbeats 4000000 in
theorem mX3_removeAtT (l : Launch) (G : Gt) (o : Nat) (a : Nat) (m0 : Int32) (ea : Nat) (k : Nat) (cap : Nat) (f : Nat → Option Nat) (i : Nat) (g : Nat) (vs : List Value) (Wi : va_W) (hk : k ≤ cap) (hc : cap ≤ 60) (hi : i < k) (hel : ∀ i, i < k → ∀ y, f i = some y → ElIn Wi y) (hg : f i = some g) (hgm : (g, Sum.inr (8, vs)) ∈ Wi) : CT l G yX3_removeAt cX3_removeAt 3 none ({ frames := 4, cells := 0, slots := 0, locals := 80 } : Room) [.ref o, .int (nI i)] [(a, .inr (3, [.int m0, .ref ea, .int (nI k)])), (ea, .inl (G.2 3, cap, .inr (.inr (.inr (.inr f)))))] (fun (A : Nat → Prop) (H : Heap) => roW G A H [(o, .inr (2, [.ref a]))] ∧ roW G A H Wi) (S := (Nat → Option Nat)) (fun (u_ : (Nat → Option Nat)) => (none : Option Value)) (fun (u_ : (Nat → Option Nat)) => (∀ j, j < i → u_ j = f j) ∧ (∀ j, i ≤ j → j + 1 < k → u_ j = f (j + 1))) (fun (u_ : (Nat → Option Nat)) => [(a, .inr (3, [.int (m0 + nI 1), .ref ea, .int (nI (k - 1))])), (ea, .inl (G.2 3, cap, .inr (.inr (.inr (.inr u_)))))]) (fun (u_ : (Nat → Option Nat)) (H : Heap) => True) := by
  refine CT.of (by decide) (Nat.le_of_ble_eq_true rfl) ?_
  intro p e s m below meth c ls A H locs h9 hH0 hP hS
  obtain ⟨cf, hr, hlk, hnm, hKB, hE, -, hD, -, hA, hAw, ⟨hR0, hR1⟩, hl⟩ := h9
  have hx := cf.1
  have hb := cf.2.1
  have hml := cf.2.2.1
  have hown : s.vm.findClass RX3 = some m.cls := cf.2.2.2.1
  have hts := cf.2.2.2.2
  have hK := hKB.1
  have hl : lv_has ls 3 [(0, .ref o), (1, .int (nI i))] := hl
  have hRm_1089 : roW G A s.heap [(g, .inr (8, vs))] := hR1.mem (hgm)
  refine lv_aload_n hx hb dX3_removeAt_0 rfl (lv_at hl 0 rfl) ?_
  refine va_get hx hb hts in_X3 hown hK (hR0.w hS) 0 rfl rfl 0 (by decide) (hts _ q130) (fun _ h => h) rfl dX3_removeAt_1 ?_
  refine lv_iload_n hx hb dX3_removeAt_4 rfl (lv_at hl 1 rfl) ?_
  have hF := hF_of (wc := [(a, .inr (3, [.int m0, .ref ea, .int (nI k)])), (ea, .inl (G.2 3, cap, .inr (.inr (.inr (.inr f)))))]) hD hS hA [0, 1] rfl
  refine go_ct hS hP hD [0, 1] [] hF rfl rfl (by decide) (by decide)
      (va_runV (As := [.int (nI i)]) (rest := []) cf (mJ2_remove l G a m0 ea k cap f i Wi g (show i < k from by first | assumption | omega) (show k ≤ cap from by first | assumption | omega) (show cap ≤ 60 from by first | assumption | omega) (show ∀ i, i < k → ∀ y, f i = some y → ElIn Wi y from by first | assumption | omega) (hg) H.size) (cwV 1 hts (lw_V q1027 q1028 q1029 q52 q1030) rfl rfl rfl (by decide +kernel) ⟨Nat.le_of_ble_eq_true rfl, Nat.le_of_ble_eq_true rfl⟩) (preV_of hKB hE hS hF (va_recv hK hP (ci := 3) (q0 := 0) rfl rfl) (va_P.sub hP [0, 1] rfl) ((va_D.sub hD [0, 1] (by decide) rfl).weaken (fun _ _ _ _ => trivial)) (hR1.kp hF hS.2.1)) rfl rfl hl.1 rfl (lv_room (Nat.le_of_ble_eq_true rfl)) dX3_removeAt_5 ⟨show 0 + 0 ≤ 0 from by first | decide | omega, show 0 + 0 ≤ 0 from by first | decide | omega⟩)
      (fun u_ H locs hq hph (hP : va_P G.1 CL [(a, .inr (3, [.int (m0 + nI 1), .ref ea, .int (nI (k - 1))])), (ea, .inl (G.2 3, cap, .inr (.inr (.inr (.inr u_)))))] H) (hD : va_D A [(a, .inr (3, [.int (m0 + nI 1), .ref ea, .int (nI (k - 1))])), (ea, .inl (G.2 3, cap, .inr (.inr (.inr (.inr u_)))))]) hS hfz hfk => ?_)
  obtain ⟨f2_1090, rfl⟩ : ∃ z, z = u_ := ⟨_, rfl⟩
  have hP : va_P G.1 CL [(a, .inr (3, [.int (m0 + nI 1), .ref ea, .int (nI (k - 1))])), (ea, .inl (G.2 3, cap, .inr (.inr (.inr (.inr f2_1090)))))] H := hP
  have hD : va_D A [(a, .inr (3, [.int (m0 + nI 1), .ref ea, .int (nI (k - 1))])), (ea, .inl (G.2 3, cap, .inr (.inr (.inr (.inr f2_1090)))))] := hD
  obtain ⟨hq_1091, hq_1092⟩ : (∀ j, j < i → f2_1090 j = f j) ∧ (∀ j, i ≤ j → j + 1 < k → f2_1090 j = f (j + 1)) := hq
  refine W.eq (g2 := F0 m 8 ls [.ref g]) rfl ?_
  refine va_castY hx hb hown (hts _ q448) (hKB.nest q1985 rfl) (va_recv hK (hRm_1089.w hS) (ci := 8) (q0 := 0) rfl rfl) dX3_removeAt_8 ?_
  refine lv_astore_n (lv' := [(2, .ref g), (0, .ref o), (1, .int (nI i))]) hx hb dX3_removeAt_11 rfl hl (by decide) rfl (fun ls hl => ?_)
  have hP9 : va_P G.1 CL [(a, .inr (3, [.int (m0 + nI 1), .ref ea, .int (nI (k - 1))])), (ea, .inl (G.2 3, cap, .inr (.inr (.inr (.inr f2_1090)))))] H := hP.sub [0, 1] rfl
  have hD9 : va_D A [(a, .inr (3, [.int (m0 + nI 1), .ref ea, .int (nI (k - 1))])), (ea, .inl (G.2 3, cap, .inr (.inr (.inr (.inr f2_1090)))))] := hD.sub [0, 1] (by decide) rfl
  exact end_v hx hb hr hlk (qc_of f2_1090 (v := none) (by rfl) (⟨hq_1091, hq_1092⟩) hP9 hD9 (trivial) hS) hS dX3_removeAt_12 (show 0 ≤ 0 from by first | exact Nat.le_refl _ | decide | omega) (show 0 ≤ 0 from by first | exact Nat.le_refl _ | decide | omega)

set_option maxHeartbeats 4000000 in
theorem mX3_removeAtS (l : Launch) (G : Gt) (o : Nat) (a : Nat) (m0 : Int32) (ea : Nat) (k : Nat) (cap : Nat) (f : Nat → Option Nat) (i : Nat) (g : Nat) (vs : List Value) (Wi : va_W) (hk : k ≤ cap) (hc : cap ≤ 60) (hi : i < k) (hel : ∀ i, i < k → ∀ y, f i = some y → ElIn Wi y) (hg : f i = some g) (hgm : (g, Sum.inr (9, vs)) ∈ Wi) : CT l G yX3_removeAt cX3_removeAt 3 none ({ frames := 4, cells := 0, slots := 0, locals := 80 } : Room) [.ref o, .int (nI i)] [(a, .inr (3, [.int m0, .ref ea, .int (nI k)])), (ea, .inl (G.2 3, cap, .inr (.inr (.inr (.inr f)))))] (fun (A : Nat → Prop) (H : Heap) => roW G A H [(o, .inr (2, [.ref a]))] ∧ roW G A H Wi) (S := (Nat → Option Nat)) (fun (u_ : (Nat → Option Nat)) => (none : Option Value)) (fun (u_ : (Nat → Option Nat)) => (∀ j, j < i → u_ j = f j) ∧ (∀ j, i ≤ j → j + 1 < k → u_ j = f (j + 1))) (fun (u_ : (Nat → Option Nat)) => [(a, .inr (3, [.int (m0 + nI 1), .ref ea, .int (nI (k - 1))])), (ea, .inl (G.2 3, cap, .inr (.inr (.inr (.inr u_)))))]) (fun (u_ : (Nat → Option Nat)) (H : Heap) => True) := by
  refine CT.of (by decide) (Nat.le_of_ble_eq_true rfl) ?_
  intro p e s m below meth c ls A H locs h9 hH0 hP hS
  obtain ⟨cf, hr, hlk, hnm, hKB, hE, -, hD, -, hA, hAw, ⟨hR0, hR1⟩, hl⟩ := h9
  have hx := cf.1
  have hb := cf.2.1
  have hml := cf.2.2.1
  have hown : s.vm.findClass RX3 = some m.cls := cf.2.2.2.1
  have hts := cf.2.2.2.2
  have hK := hKB.1
  have hl : lv_has ls 3 [(0, .ref o), (1, .int (nI i))] := hl
  have hRm_1093 : roW G A s.heap [(g, .inr (9, vs))] := hR1.mem (hgm)
  refine lv_aload_n hx hb dX3_removeAt_0 rfl (lv_at hl 0 rfl) ?_
  refine va_get hx hb hts in_X3 hown hK (hR0.w hS) 0 rfl rfl 0 (by decide) (hts _ q130) (fun _ h => h) rfl dX3_removeAt_1 ?_
  refine lv_iload_n hx hb dX3_removeAt_4 rfl (lv_at hl 1 rfl) ?_
  have hF := hF_of (wc := [(a, .inr (3, [.int m0, .ref ea, .int (nI k)])), (ea, .inl (G.2 3, cap, .inr (.inr (.inr (.inr f)))))]) hD hS hA [0, 1] rfl
  refine go_ct hS hP hD [0, 1] [] hF rfl rfl (by decide) (by decide)
      (va_runV (As := [.int (nI i)]) (rest := []) cf (mJ2_remove l G a m0 ea k cap f i Wi g (show i < k from by first | assumption | omega) (show k ≤ cap from by first | assumption | omega) (show cap ≤ 60 from by first | assumption | omega) (show ∀ i, i < k → ∀ y, f i = some y → ElIn Wi y from by first | assumption | omega) (hg) H.size) (cwV 1 hts (lw_V q1027 q1028 q1029 q52 q1030) rfl rfl rfl (by decide +kernel) ⟨Nat.le_of_ble_eq_true rfl, Nat.le_of_ble_eq_true rfl⟩) (preV_of hKB hE hS hF (va_recv hK hP (ci := 3) (q0 := 0) rfl rfl) (va_P.sub hP [0, 1] rfl) ((va_D.sub hD [0, 1] (by decide) rfl).weaken (fun _ _ _ _ => trivial)) (hR1.kp hF hS.2.1)) rfl rfl hl.1 rfl (lv_room (Nat.le_of_ble_eq_true rfl)) dX3_removeAt_5 ⟨show 0 + 0 ≤ 0 from by first | decide | omega, show 0 + 0 ≤ 0 from by first | decide | omega⟩)
      (fun u_ H locs hq hph (hP : va_P G.1 CL [(a, .inr (3, [.int (m0 + nI 1), .ref ea, .int (nI (k - 1))])), (ea, .inl (G.2 3, cap, .inr (.inr (.inr (.inr u_)))))] H) (hD : va_D A [(a, .inr (3, [.int (m0 + nI 1), .ref ea, .int (nI (k - 1))])), (ea, .inl (G.2 3, cap, .inr (.inr (.inr (.inr u_)))))]) hS hfz hfk => ?_)
  obtain ⟨f2_1094, rfl⟩ : ∃ z, z = u_ := ⟨_, rfl⟩
  have hP : va_P G.1 CL [(a, .inr (3, [.int (m0 + nI 1), .ref ea, .int (nI (k - 1))])), (ea, .inl (G.2 3, cap, .inr (.inr (.inr (.inr f2_1094)))))] H := hP
  have hD : va_D A [(a, .inr (3, [.int (m0 + nI 1), .ref ea, .int (nI (k - 1))])), (ea, .inl (G.2 3, cap, .inr (.inr (.inr (.inr f2_1094)))))] := hD
  obtain ⟨hq_1095, hq_1096⟩ : (∀ j, j < i → f2_1094 j = f j) ∧ (∀ j, i ≤ j → j + 1 < k → f2_1094 j = f (j + 1)) := hq
  refine W.eq (g2 := F0 m 8 ls [.ref g]) rfl ?_
  refine va_castY hx hb hown (hts _ q448) (hKB.nest q1984 rfl) (va_recv hK (hRm_1093.w hS) (ci := 9) (q0 := 0) rfl rfl) dX3_removeAt_8 ?_
  refine lv_astore_n (lv' := [(2, .ref g), (0, .ref o), (1, .int (nI i))]) hx hb dX3_removeAt_11 rfl hl (by decide) rfl (fun ls hl => ?_)
  have hP9 : va_P G.1 CL [(a, .inr (3, [.int (m0 + nI 1), .ref ea, .int (nI (k - 1))])), (ea, .inl (G.2 3, cap, .inr (.inr (.inr (.inr f2_1094)))))] H := hP.sub [0, 1] rfl
  have hD9 : va_D A [(a, .inr (3, [.int (m0 + nI 1), .ref ea, .int (nI (k - 1))])), (ea, .inl (G.2 3, cap, .inr (.inr (.inr (.inr f2_1094)))))] := hD.sub [0, 1] (by decide) rfl
  exact end_v hx hb hr hlk (qc_of f2_1094 (v := none) (by rfl) (⟨hq_1095, hq_1096⟩) hP9 hD9 (trivial) hS) hS dX3_removeAt_12 (show 0 ≤ 0 from by first | exact Nat.le_refl _ | decide | omega) (show 0 ≤ 0 from by first | exact Nat.le_refl _ | decide | omega)

set_option maxHeartbeats 4000000 in
theorem mX3_insertTE (l : Launch) (G : Gt) (o : Nat) (a : Nat) (m0 : Int32) (x : Nat) (Wi : va_W) (hxe : ElIn Wi x) : CT l G yX3_insert cX3_insert 3 none ({ frames := 4, cells := 1, slots := 10, locals := 87 } : Room) [.ref o, .ref x] [(a, .inr (3, [.int m0, .ref (G.2 99), .int (nI 0)]))] (fun (A : Nat → Prop) (H : Heap) => roW G A H [(o, .inr (2, [.ref a]))] ∧ roW G A H Wi) (S := Nat × (Nat → Option Nat)) (fun (u_ : Nat × (Nat → Option Nat)) => (none : Option Value)) (fun (u_ : Nat × (Nat → Option Nat)) => u_.2 0 = some x) (fun (u_ : Nat × (Nat → Option Nat)) => [(a, .inr (3, [.int (m0 + nI 1), .ref u_.1, .int (nI 1)])), (u_.1, .inl (G.2 3, 10, .inr (.inr (.inr (.inr u_.2)))))]) (fun (u_ : Nat × (Nat → Option Nat)) (H : Heap) => True) := by
  refine CT.of (by decide) (Nat.le_of_ble_eq_true rfl) ?_
  intro p e s m below meth c ls A H locs h9 hH0 hP hS
  obtain ⟨cf, hr, hlk, hnm, hKB, hE, -, hD, -, hA, hAw, ⟨hR0, hR1⟩, hl⟩ := h9
  have hx := cf.1
  have hb := cf.2.1
  have hml := cf.2.2.1
  have hown : s.vm.findClass RX3 = some m.cls := cf.2.2.2.1
  have hts := cf.2.2.2.2
  have hK := hKB.1
  have hl : lv_has ls 3 [(0, .ref o), (1, .ref x)] := hl
  refine lv_iconst (v := nI 0) hx hb dX3_insert_0 (by decide) ?_
  refine lv_istore_n (lv' := [(2, .int (nI 0)), (0, .ref o), (1, .ref x)]) hx hb dX3_insert_1 rfl hl (by decide) rfl (fun ls hl => ?_)
  refine lv_iload_n hx hb dX3_insert_2 rfl (lv_at hl 0 rfl) ?_
  refine lv_aload_n hx hb dX3_insert_3 rfl (lv_at hl 1 rfl) ?_
  refine va_get hx hb hts in_X3 hown hK (hR0.w hS) 0 rfl rfl 0 (by decide) (hts _ q130) (fun _ h => h) rfl dX3_insert_4 ?_
  have hF := hF_of (wc := []) hD hS hA [] rfl
  have hro_1097 : va_P G.1 CL [(a, .inr (3, [.int m0, .ref (G.2 99), .int (nI 0)]))] H := (va_P.sub hP [0] rfl)
  refine go_ct hS hP hD [] [0] hF rfl rfl (by decide) (by decide)
      (va_runV (As := []) (rest := [.int (nI 0)]) cf (mJ2_size l G a m0 (G.2 99) 0  H.size) (cwV 0 hts (lw_V q263 q264 q265 q52 q266) rfl rfl rfl (by decide +kernel) ⟨Nat.le_of_ble_eq_true rfl, Nat.le_of_ble_eq_true rfl⟩) (preV_of hKB hE hS hF (va_recv hK hP (ci := 3) (q0 := 0) rfl rfl) (va_P.sub hP [] rfl) ((va_D.sub hD [] (by decide) rfl).weaken (fun _ _ _ _ => trivial)) (roW.nil hro_1097)) rfl rfl hl.1 rfl (lv_room (Nat.le_of_ble_eq_true rfl)) dX3_insert_7 ⟨show 0 + 0 ≤ 1 from by first | decide | omega, show 0 + 0 ≤ 10 from by first | decide | omega⟩)
      (fun u_ H locs hq hph (hP : va_P G.1 CL [(a, .inr (3, [.int m0, .ref (G.2 99), .int (nI 0)]))] H) (hD : va_D A [(a, .inr (3, [.int m0, .ref (G.2 99), .int (nI 0)]))]) hS hfz hfk => ?_)
  refine W.eq (g2 := F0 m 10 ls [.int (nI 0), .int (nI 0)]) rfl ?_
  refine n_icmp_ge (tgt := 37) hx hb (by omega) (by omega) dX3_insert_10 (by decide) (fun c_1099 => ?_) (fun c_1099 => absurd c_1099 (by omega))
  refine lv_aload_n hx hb dX3_insert_37 rfl (lv_at hl 1 rfl) ?_
  refine va_get hx hb hts in_X3 hown hK (hR0.w hS) 0 rfl rfl 0 (by decide) (hts _ q130) (fun _ h => h) rfl dX3_insert_38 ?_
  refine lv_iload_n hx hb dX3_insert_41 rfl (lv_at hl 0 rfl) ?_
  refine lv_aload_n hx hb dX3_insert_42 rfl (lv_at hl 2 rfl) ?_
  have hF := hF_of (wc := [(a, .inr (3, [.int m0, .ref (G.2 99), .int (nI 0)]))]) hD hS hA [0] rfl
  refine go_ct hS hP hD [0] [] hF rfl rfl (by decide) (by decide)
      (va_runV (As := [.int (nI 0), .ref x]) (rest := []) cf (mJ2_add_3E l G a m0 x Wi (show ElIn Wi x from by first | assumption | omega) H.size) (cwV 2 hts (lw_V q775 q776 q777 q52 q778) rfl rfl rfl (by decide +kernel) ⟨Nat.le_of_ble_eq_true rfl, Nat.le_of_ble_eq_true rfl⟩) (preV_of hKB hE hS hF (va_recv hK hP (ci := 3) (q0 := 0) rfl rfl) (va_P.sub hP [0] rfl) ((va_D.sub hD [0] (by decide) rfl).weaken (fun _ _ _ _ => trivial)) (hR1.kp hF hS.2.1)) rfl rfl hl.1 rfl (lv_room (Nat.le_of_ble_eq_true rfl)) dX3_insert_43 ⟨show 0 + 1 ≤ 1 from by first | decide | omega, show 0 + 10 ≤ 10 from by first | decide | omega⟩)
      (fun u_ H locs hq hph (hP : va_P G.1 CL [(a, .inr (3, [.int (m0 + nI 1), .ref u_.1, .int (nI 1)])), (u_.1, .inl (G.2 3, 10, .inr (.inr (.inr (.inr u_.2)))))] H) (hD : va_D A [(a, .inr (3, [.int (m0 + nI 1), .ref u_.1, .int (nI 1)])), (u_.1, .inl (G.2 3, 10, .inr (.inr (.inr (.inr u_.2)))))]) hS hfz hfk => ?_)
  obtain ⟨ea2_1100, f2_1101⟩ := u_
  have hP : va_P G.1 CL [(a, .inr (3, [.int (m0 + nI 1), .ref ea2_1100, .int (nI 1)])), (ea2_1100, .inl (G.2 3, 10, .inr (.inr (.inr (.inr f2_1101)))))] H := hP
  have hD : va_D A [(a, .inr (3, [.int (m0 + nI 1), .ref ea2_1100, .int (nI 1)])), (ea2_1100, .inl (G.2 3, 10, .inr (.inr (.inr (.inr f2_1101)))))] := hD
  have hq_1102 : f2_1101 0 = some x := hq
  refine W.eq (g2 := F0 m 46 ls []) rfl ?_
  have hP9 : va_P G.1 CL [(a, .inr (3, [.int (m0 + nI 1), .ref ea2_1100, .int (nI 1)])), (ea2_1100, .inl (G.2 3, 10, .inr (.inr (.inr (.inr f2_1101)))))] H := hP.sub [0, 1] rfl
  have hD9 : va_D A [(a, .inr (3, [.int (m0 + nI 1), .ref ea2_1100, .int (nI 1)])), (ea2_1100, .inl (G.2 3, 10, .inr (.inr (.inr (.inr f2_1101)))))] := hD.sub [0, 1] (by decide) rfl
  exact end_v hx hb hr hlk (qc_of (ea2_1100, f2_1101) (v := none) (by rfl) (hq_1102) hP9 hD9 (trivial) hS) hS dX3_insert_46 (show 0 + 1 ≤ 1 from by first | exact Nat.le_refl _ | decide | omega) (show 0 + 10 ≤ 10 from by first | exact Nat.le_refl _ | decide | omega)

set_option maxHeartbeats 4000000 in
theorem mX3_insertSE (l : Launch) (G : Gt) (o : Nat) (a : Nat) (m0 : Int32) (x : Nat) (Wi : va_W) (hxe : ElIn Wi x) : CT l G yX3_insert cX3_insert 3 none ({ frames := 4, cells := 1, slots := 10, locals := 87 } : Room) [.ref o, .ref x] [(a, .inr (3, [.int m0, .ref (G.2 99), .int (nI 0)]))] (fun (A : Nat → Prop) (H : Heap) => roW G A H [(o, .inr (2, [.ref a]))] ∧ roW G A H Wi) (S := Nat × (Nat → Option Nat)) (fun (u_ : Nat × (Nat → Option Nat)) => (none : Option Value)) (fun (u_ : Nat × (Nat → Option Nat)) => u_.2 0 = some x) (fun (u_ : Nat × (Nat → Option Nat)) => [(a, .inr (3, [.int (m0 + nI 1), .ref u_.1, .int (nI 1)])), (u_.1, .inl (G.2 3, 10, .inr (.inr (.inr (.inr u_.2)))))]) (fun (u_ : Nat × (Nat → Option Nat)) (H : Heap) => True) := by
  refine CT.of (by decide) (Nat.le_of_ble_eq_true rfl) ?_
  intro p e s m below meth c ls A H locs h9 hH0 hP hS
  obtain ⟨cf, hr, hlk, hnm, hKB, hE, -, hD, -, hA, hAw, ⟨hR0, hR1⟩, hl⟩ := h9
  have hx := cf.1
  have hb := cf.2.1
  have hml := cf.2.2.1
  have hown : s.vm.findClass RX3 = some m.cls := cf.2.2.2.1
  have hts := cf.2.2.2.2
  have hK := hKB.1
  have hl : lv_has ls 3 [(0, .ref o), (1, .ref x)] := hl
  refine lv_iconst (v := nI 0) hx hb dX3_insert_0 (by decide) ?_
  refine lv_istore_n (lv' := [(2, .int (nI 0)), (0, .ref o), (1, .ref x)]) hx hb dX3_insert_1 rfl hl (by decide) rfl (fun ls hl => ?_)
  refine lv_iload_n hx hb dX3_insert_2 rfl (lv_at hl 0 rfl) ?_
  refine lv_aload_n hx hb dX3_insert_3 rfl (lv_at hl 1 rfl) ?_
  refine va_get hx hb hts in_X3 hown hK (hR0.w hS) 0 rfl rfl 0 (by decide) (hts _ q130) (fun _ h => h) rfl dX3_insert_4 ?_
  have hF := hF_of (wc := []) hD hS hA [] rfl
  have hro_1103 : va_P G.1 CL [(a, .inr (3, [.int m0, .ref (G.2 99), .int (nI 0)]))] H := (va_P.sub hP [0] rfl)
  refine go_ct hS hP hD [] [0] hF rfl rfl (by decide) (by decide)
      (va_runV (As := []) (rest := [.int (nI 0)]) cf (mJ2_size l G a m0 (G.2 99) 0  H.size) (cwV 0 hts (lw_V q263 q264 q265 q52 q266) rfl rfl rfl (by decide +kernel) ⟨Nat.le_of_ble_eq_true rfl, Nat.le_of_ble_eq_true rfl⟩) (preV_of hKB hE hS hF (va_recv hK hP (ci := 3) (q0 := 0) rfl rfl) (va_P.sub hP [] rfl) ((va_D.sub hD [] (by decide) rfl).weaken (fun _ _ _ _ => trivial)) (roW.nil hro_1103)) rfl rfl hl.1 rfl (lv_room (Nat.le_of_ble_eq_true rfl)) dX3_insert_7 ⟨show 0 + 0 ≤ 1 from by first | decide | omega, show 0 + 0 ≤ 10 from by first | decide | omega⟩)
      (fun u_ H locs hq hph (hP : va_P G.1 CL [(a, .inr (3, [.int m0, .ref (G.2 99), .int (nI 0)]))] H) (hD : va_D A [(a, .inr (3, [.int m0, .ref (G.2 99), .int (nI 0)]))]) hS hfz hfk => ?_)
  refine W.eq (g2 := F0 m 10 ls [.int (nI 0), .int (nI 0)]) rfl ?_
  refine n_icmp_ge (tgt := 37) hx hb (by omega) (by omega) dX3_insert_10 (by decide) (fun c_1105 => ?_) (fun c_1105 => absurd c_1105 (by omega))
  refine lv_aload_n hx hb dX3_insert_37 rfl (lv_at hl 1 rfl) ?_
  refine va_get hx hb hts in_X3 hown hK (hR0.w hS) 0 rfl rfl 0 (by decide) (hts _ q130) (fun _ h => h) rfl dX3_insert_38 ?_
  refine lv_iload_n hx hb dX3_insert_41 rfl (lv_at hl 0 rfl) ?_
  refine lv_aload_n hx hb dX3_insert_42 rfl (lv_at hl 2 rfl) ?_
  have hF := hF_of (wc := [(a, .inr (3, [.int m0, .ref (G.2 99), .int (nI 0)]))]) hD hS hA [0] rfl
  refine go_ct hS hP hD [0] [] hF rfl rfl (by decide) (by decide)
      (va_runV (As := [.int (nI 0), .ref x]) (rest := []) cf (mJ2_add_3E l G a m0 x Wi (show ElIn Wi x from by first | assumption | omega) H.size) (cwV 2 hts (lw_V q775 q776 q777 q52 q778) rfl rfl rfl (by decide +kernel) ⟨Nat.le_of_ble_eq_true rfl, Nat.le_of_ble_eq_true rfl⟩) (preV_of hKB hE hS hF (va_recv hK hP (ci := 3) (q0 := 0) rfl rfl) (va_P.sub hP [0] rfl) ((va_D.sub hD [0] (by decide) rfl).weaken (fun _ _ _ _ => trivial)) (hR1.kp hF hS.2.1)) rfl rfl hl.1 rfl (lv_room (Nat.le_of_ble_eq_true rfl)) dX3_insert_43 ⟨show 0 + 1 ≤ 1 from by first | decide | omega, show 0 + 10 ≤ 10 from by first | decide | omega⟩)
      (fun u_ H locs hq hph (hP : va_P G.1 CL [(a, .inr (3, [.int (m0 + nI 1), .ref u_.1, .int (nI 1)])), (u_.1, .inl (G.2 3, 10, .inr (.inr (.inr (.inr u_.2)))))] H) (hD : va_D A [(a, .inr (3, [.int (m0 + nI 1), .ref u_.1, .int (nI 1)])), (u_.1, .inl (G.2 3, 10, .inr (.inr (.inr (.inr u_.2)))))]) hS hfz hfk => ?_)
  obtain ⟨ea2_1106, f2_1107⟩ := u_
  have hP : va_P G.1 CL [(a, .inr (3, [.int (m0 + nI 1), .ref ea2_1106, .int (nI 1)])), (ea2_1106, .inl (G.2 3, 10, .inr (.inr (.inr (.inr f2_1107)))))] H := hP
  have hD : va_D A [(a, .inr (3, [.int (m0 + nI 1), .ref ea2_1106, .int (nI 1)])), (ea2_1106, .inl (G.2 3, 10, .inr (.inr (.inr (.inr f2_1107)))))] := hD
  have hq_1108 : f2_1107 0 = some x := hq
  refine W.eq (g2 := F0 m 46 ls []) rfl ?_
  have hP9 : va_P G.1 CL [(a, .inr (3, [.int (m0 + nI 1), .ref ea2_1106, .int (nI 1)])), (ea2_1106, .inl (G.2 3, 10, .inr (.inr (.inr (.inr f2_1107)))))] H := hP.sub [0, 1] rfl
  have hD9 : va_D A [(a, .inr (3, [.int (m0 + nI 1), .ref ea2_1106, .int (nI 1)])), (ea2_1106, .inl (G.2 3, 10, .inr (.inr (.inr (.inr f2_1107)))))] := hD.sub [0, 1] (by decide) rfl
  exact end_v hx hb hr hlk (qc_of (ea2_1106, f2_1107) (v := none) (by rfl) (hq_1108) hP9 hD9 (trivial) hS) hS dX3_insert_46 (show 0 + 1 ≤ 1 from by first | exact Nat.le_refl _ | decide | omega) (show 0 + 10 ≤ 10 from by first | exact Nat.le_refl _ | decide | omega)

def SesCell (Wi : va_W) (y d sid mi it : Nat) : Prop := (y, Sum.inr (9, [Value.int (nI d), Value.int (nI sid), Value.ref mi, Value.ref it])) ∈ Wi
def ltT (td : Nat → Nat) (d j : Nat) : Prop := td j < d
def ltS (td ti : Nat → Nat) (d sid j : Nat) : Prop := td j < d ∨ (td j = d ∧ ti j < sid)

set_option maxHeartbeats 4000000 in
theorem mX3_insertTO (l : Launch) (G : Gt) (o : Nat) (a : Nat) (m0 : Int32) (ea : Nat) (k : Nat) (cap : Nat) (f : Nat → Option Nat) (xo : Nat) (Wi : va_W) (d : Nat) (th : Nat) (td : Nat → Nat) (tt : Nat → Nat) (ga : Nat → Nat) (hk : k ≤ cap ∧ k ≤ 40) (hc : 2 ≤ cap ∧ cap ≤ 60) (hxe : ElIn Wi xo) (hd : d < 2 ^ 31) (hxm : TestIn Wi xo d th) (hel : ∀ j, j < k → f j = some (ga j) ∧ TestIn Wi (ga j) (td j) (tt j) ∧ td j < 2 ^ 31) : CT l G yX3_insert cX3_insert 3 none ({ frames := 6, cells := 1, slots := 60, locals := 145 } : Room) [.ref o, .ref xo] [(a, .inr (3, [.int m0, .ref ea, .int (nI k)])), (ea, .inl (G.2 3, cap, .inr (.inr (.inr (.inr f)))))] (fun (A : Nat → Prop) (H : Heap) => roW G A H [(o, .inr (2, [.ref a]))] ∧ roW G A H Wi) (S := Nat × Nat × Nat × (Nat → Option Nat)) (fun (u_ : Nat × Nat × Nat × (Nat → Option Nat)) => (none : Option Value)) (fun (u_ : Nat × Nat × Nat × (Nat → Option Nat)) => u_.1 ≤ k ∧ (∀ j, j < u_.1 → ltT td d j) ∧ (u_.1 < k → ¬ ltT td d u_.1) ∧ k < u_.2.2.1 ∧ u_.2.2.1 ≤ 60 ∧ 2 ≤ u_.2.2.1 ∧ (∀ j, j < u_.1 → u_.2.2.2 j = f j) ∧ u_.2.2.2 u_.1 = some xo ∧ (∀ j, u_.1 ≤ j → j < k → u_.2.2.2 (j + 1) = f j)) (fun (u_ : Nat × Nat × Nat × (Nat → Option Nat)) => [(a, .inr (3, [.int (m0 + nI 1), .ref u_.2.1, .int (nI (k + 1))])), (u_.2.1, .inl (G.2 3, u_.2.2.1, .inr (.inr (.inr (.inr u_.2.2.2)))))]) (fun (u_ : Nat × Nat × Nat × (Nat → Option Nat)) (H : Heap) => True) := by
  refine CT.of (by decide) (Nat.le_of_ble_eq_true rfl) ?_
  intro p e s m below meth c ls A H locs h9 hH0 hP hS
  obtain ⟨cf, hr, hlk, hnm, hKB, hE, -, hD, -, hA, hAw, ⟨hR0, hR1⟩, hl⟩ := h9
  have hx := cf.1
  have hb := cf.2.1
  have hml := cf.2.2.1
  have hown : s.vm.findClass RX3 = some m.cls := cf.2.2.2.1
  have hts := cf.2.2.2.2
  have hK := hKB.1
  have hl : lv_has ls 3 [(0, .ref o), (1, .ref xo)] := hl
  refine lv_iconst (v := nI 0) hx hb dX3_insert_0 (by decide) ?_
  refine lv_istore_n (lv' := [(2, .int (nI 0)), (0, .ref o), (1, .ref xo)]) hx hb dX3_insert_1 rfl hl (by decide) rfl (fun ls hl => ?_)
  have hl := lv_sub hl [1, 2, 0] (l' := [(0, .ref o), (1, .ref xo), (2, .int (nI 0))]) rfl
  refine lp_W (σ := Nat) (hpc := 2) (fun x => k - x) (fun x => 0) (fun x => 0) (fun x H locs ls => va_P G.1 CL [(a, .inr (3, [.int m0, .ref ea, .int (nI k)])), (ea, .inl (G.2 3, cap, .inr (.inr (.inr (.inr f)))))] H ∧ va_D A [(a, .inr (3, [.int m0, .ref ea, .int (nI k)])), (ea, .inl (G.2 3, cap, .inr (.inr (.inr (.inr f)))))] ∧ va_S A s.heap H locs ∧ lv_has ls 3 [(0, .ref o), (1, .ref xo), (2, .int (nI x))] ∧ (x ≤ k) ∧ (∀ j, j < x → ltT td d j)) ?_ (0) ⟨(show va_P G.1 CL [(a, .inr (3, [.int m0, .ref ea, .int (nI k)])), (ea, .inl (G.2 3, cap, .inr (.inr (.inr (.inr f)))))] H from hP), (show va_D A [(a, .inr (3, [.int m0, .ref ea, .int (nI k)])), (ea, .inl (G.2 3, cap, .inr (.inr (.inr (.inr f)))))] from hD), hS, hl, (show 0 ≤ k from by omega), (show ∀ j, j < 0 → ltT td d j from fun j hj => absurd hj (Nat.not_lt_zero _))⟩ (show 0 ≤ 0 from by first | exact Nat.le_refl _ | omega) (show 0 ≤ 0 from by first | exact Nat.le_refl _ | omega)
  intro x H locs ls hI9 ih2
  obtain ⟨i_1111, rfl⟩ : ∃ z, z = x := ⟨_, rfl⟩
  obtain ⟨hP, hD, hS, hl, hp_1109, hp_1110⟩ := hI9
  have hP : va_P G.1 CL [(a, .inr (3, [.int m0, .ref ea, .int (nI k)])), (ea, .inl (G.2 3, cap, .inr (.inr (.inr (.inr f)))))] H := hP
  have hD : va_D A [(a, .inr (3, [.int m0, .ref ea, .int (nI k)])), (ea, .inl (G.2 3, cap, .inr (.inr (.inr (.inr f)))))] := hD
  have hl : lv_has ls 3 [(0, .ref o), (1, .ref xo), (2, .int (nI i_1111))] := hl
  have hp_1109 : i_1111 ≤ k := hp_1109
  have hp_1110 : ∀ j, j < i_1111 → ltT td d j := hp_1110
  refine lv_iload_n hx hb dX3_insert_2 rfl (lv_at hl 2 rfl) ?_
  refine lv_aload_n hx hb dX3_insert_3 rfl (lv_at hl 0 rfl) ?_
  refine va_get hx hb hts in_X3 hown hK (hR0.w hS) 0 rfl rfl 0 (by decide) (hts _ q130) (fun _ h => h) rfl dX3_insert_4 ?_
  have hF := hF_of (wc := []) hD hS hA [] rfl
  have hro_1112 : va_P G.1 CL [(a, .inr (3, [.int m0, .ref ea, .int (nI k)]))] H := (va_P.sub hP [0] rfl)
  refine go_ct hS hP hD [] [0, 1] hF rfl rfl (by decide) (by decide)
      (va_runV (As := []) (rest := [.int (nI i_1111)]) cf (mJ2_size l G a m0 ea k  H.size) (cwV 0 hts (lw_V q263 q264 q265 q52 q266) rfl rfl rfl (by decide +kernel) ⟨Nat.le_of_ble_eq_true rfl, Nat.le_of_ble_eq_true rfl⟩) (preV_of hKB hE hS hF (va_recv hK hP (ci := 3) (q0 := 0) rfl rfl) (va_P.sub hP [] rfl) ((va_D.sub hD [] (by decide) rfl).weaken (fun _ _ _ _ => trivial)) (roW.nil hro_1112)) rfl rfl hl.1 rfl (lv_room (Nat.le_of_ble_eq_true rfl)) dX3_insert_7 ⟨show 0 + 0 ≤ 1 from by first | decide | omega, show 0 + 0 ≤ 60 from by first | decide | omega⟩)
      (fun u_ H locs hq hph (hP : va_P G.1 CL [(a, .inr (3, [.int m0, .ref ea, .int (nI k)])), (ea, .inl (G.2 3, cap, .inr (.inr (.inr (.inr f)))))] H) (hD : va_D A [(a, .inr (3, [.int m0, .ref ea, .int (nI k)])), (ea, .inl (G.2 3, cap, .inr (.inr (.inr (.inr f)))))]) hS hfz hfk => ?_)
  refine W.eq (g2 := F0 m 10 ls [.int (nI k), .int (nI i_1111)]) rfl ?_
  refine n_icmp_ge (tgt := 37) hx hb (by omega) (by omega) dX3_insert_10 (by decide) (fun c_1114 => ?_) (fun c_1114 => ?_)
  · have hno : i_1111 < k → ¬ ltT td d i_1111 := fun z => absurd z (by omega)
    refine lv_aload_n hx hb dX3_insert_37 rfl (lv_at hl 0 rfl) ?_
    refine va_get hx hb hts in_X3 hown hK (hR0.w hS) 0 rfl rfl 0 (by decide) (hts _ q130) (fun _ h => h) rfl dX3_insert_38 ?_
    refine lv_iload_n hx hb dX3_insert_41 rfl (lv_at hl 2 rfl) ?_
    refine lv_aload_n hx hb dX3_insert_42 rfl (lv_at hl 1 rfl) ?_
    have hF := hF_of (wc := [(a, .inr (3, [.int m0, .ref ea, .int (nI k)])), (ea, .inl (G.2 3, cap, .inr (.inr (.inr (.inr f)))))]) hD hS hA [0, 1] rfl
    refine go_ct hS hP hD [0, 1] [] hF rfl rfl (by decide) (by decide)
        (va_runV (As := [.int (nI i_1111), .ref xo]) (rest := []) cf (mJ2_add_3O l G a m0 ea k cap f xo Wi i_1111 (hk) (hc) (fun j hj y hy => by obtain ⟨q1, q2, -⟩ := hel j hj; rw [q1] at hy; cases hy; exact ⟨_, _, q2⟩) (show ElIn Wi xo from by first | assumption | omega) (by omega) H.size) (cwV 2 hts (lw_V q775 q776 q777 q52 q778) rfl rfl rfl (by decide +kernel) ⟨Nat.le_of_ble_eq_true rfl, Nat.le_of_ble_eq_true rfl⟩) (preV_of hKB hE hS hF (va_recv hK hP (ci := 3) (q0 := 0) rfl rfl) (va_P.sub hP [0, 1] rfl) ((va_D.sub hD [0, 1] (by decide) rfl).weaken (fun _ _ _ _ => trivial)) (hR1.kp hF hS.2.1)) rfl rfl hl.1 rfl (lv_room (Nat.le_of_ble_eq_true rfl)) dX3_insert_43 ⟨show 0 + 1 ≤ 1 from by first | decide | omega, show 0 + 60 ≤ 60 from by first | decide | omega⟩)
        (fun u_ H locs hq hph (hP : va_P G.1 CL [(a, .inr (3, [.int (m0 + nI 1), .ref u_.1, .int (nI (k + 1))])), (u_.1, .inl (G.2 3, u_.2.1, .inr (.inr (.inr (.inr u_.2.2)))))] H) (hD : va_D A [(a, .inr (3, [.int (m0 + nI 1), .ref u_.1, .int (nI (k + 1))])), (u_.1, .inl (G.2 3, u_.2.1, .inr (.inr (.inr (.inr u_.2.2)))))]) hS hfz hfk => ?_)
    obtain ⟨ea2_1115, cap2_1116, f2_1117⟩ := u_
    have hP : va_P G.1 CL [(a, .inr (3, [.int (m0 + nI 1), .ref ea2_1115, .int (nI (k + 1))])), (ea2_1115, .inl (G.2 3, cap2_1116, .inr (.inr (.inr (.inr f2_1117)))))] H := hP
    have hD : va_D A [(a, .inr (3, [.int (m0 + nI 1), .ref ea2_1115, .int (nI (k + 1))])), (ea2_1115, .inl (G.2 3, cap2_1116, .inr (.inr (.inr (.inr f2_1117)))))] := hD
    obtain ⟨hq_1118, hq_1119, hq_1120, hq_1121, hq_1122, hq_1123⟩ : k < cap2_1116 ∧ cap2_1116 ≤ 60 ∧ 2 ≤ cap2_1116 ∧ (∀ j, j < i_1111 → f2_1117 j = f j) ∧ f2_1117 i_1111 = some xo ∧ (∀ j, i_1111 ≤ j → j < k → f2_1117 (j + 1) = f j) := hq
    refine W.eq (g2 := F0 m 46 ls []) rfl ?_
    have hP9 : va_P G.1 CL [(a, .inr (3, [.int (m0 + nI 1), .ref ea2_1115, .int (nI (k + 1))])), (ea2_1115, .inl (G.2 3, cap2_1116, .inr (.inr (.inr (.inr f2_1117)))))] H := hP.sub [0, 1] rfl
    have hD9 : va_D A [(a, .inr (3, [.int (m0 + nI 1), .ref ea2_1115, .int (nI (k + 1))])), (ea2_1115, .inl (G.2 3, cap2_1116, .inr (.inr (.inr (.inr f2_1117)))))] := hD.sub [0, 1] (by decide) rfl
    exact end_v hx hb hr hlk (qc_of (i_1111, ea2_1115, cap2_1116, f2_1117) (v := none) (by rfl) (⟨hp_1109, hp_1110, hno, hq_1118, hq_1119, hq_1120, hq_1121, hq_1122, hq_1123⟩) hP9 hD9 (trivial) hS) hS dX3_insert_46 (show 0 + 1 ≤ 1 from by first | exact Nat.le_refl _ | decide | omega) (show 0 + 60 ≤ 60 from by first | exact Nat.le_refl _ | decide | omega)
  · refine lv_aload_n hx hb dX3_insert_13 rfl (lv_at hl 0 rfl) ?_
    refine va_get hx hb hts in_X3 hown hK (hR0.w hS) 0 rfl rfl 0 (by decide) (hts _ q130) (fun _ h => h) rfl dX3_insert_14 ?_
    refine lv_iload_n hx hb dX3_insert_17 rfl (lv_at hl 2 rfl) ?_
    obtain ⟨hg9, hgm9, hgd9⟩ := hel i_1111 (by omega)
    have hRm_1124 : roW G A s.heap [((ga i_1111), .inr (8, [.int (nI (td i_1111)), .int (nI (tt i_1111))]))] := hR1.mem (hgm9)
    have hRm_1125 : roW G A s.heap [(xo, .inr (8, [.int (nI d), .int (nI th)]))] := hR1.mem (hxm)
    have hF := hF_of (wc := []) hD hS hA [] rfl
    have hro_1126 : va_P G.1 CL [(a, .inr (3, [.int m0, .ref ea, .int (nI k)])), (ea, .inl (G.2 3, cap, .inr (.inr (.inr (.inr f)))))] H := (va_P.sub hP [0, 1] rfl)
    refine go_ct hS hP hD [] [0, 1] hF rfl rfl (by decide) (by decide)
        (va_runV (As := [.int (nI i_1111)]) (rest := []) cf (mJ2_get l G a m0 ea k cap f i_1111 (ga i_1111) (by omega) (by omega) (by omega) (hg9) H.size) (cwV 1 hts (lw_V q447 q404 q405 q52 q406) rfl rfl rfl (by decide +kernel) ⟨Nat.le_of_ble_eq_true rfl, Nat.le_of_ble_eq_true rfl⟩) (preV_of hKB hE hS hF (va_recv hK hP (ci := 3) (q0 := 0) rfl rfl) (va_P.sub hP [] rfl) ((va_D.sub hD [] (by decide) rfl).weaken (fun _ _ _ _ => trivial)) (roW.nil hro_1126)) rfl rfl hl.1 rfl (lv_room (Nat.le_of_ble_eq_true rfl)) dX3_insert_18 ⟨show 0 + 0 ≤ 1 from by first | decide | omega, show 0 + 0 ≤ 60 from by first | decide | omega⟩)
        (fun u_ H locs hq hph (hP : va_P G.1 CL [(a, .inr (3, [.int m0, .ref ea, .int (nI k)])), (ea, .inl (G.2 3, cap, .inr (.inr (.inr (.inr f)))))] H) (hD : va_D A [(a, .inr (3, [.int m0, .ref ea, .int (nI k)])), (ea, .inl (G.2 3, cap, .inr (.inr (.inr (.inr f)))))]) hS hfz hfk => ?_)
    refine W.eq (g2 := F0 m 21 ls [.ref (ga i_1111)]) rfl ?_
    refine va_castY hx hb hown (hts _ q448) (hKB.nest q1985 rfl) (va_recv hK (hRm_1124.w hS) (ci := 8) (q0 := 0) rfl rfl) dX3_insert_21 ?_
    refine lv_aload_n hx hb dX3_insert_24 rfl (lv_at hl 1 rfl) ?_
    have hF := hF_of (wc := []) hD hS hA [] rfl
    have hro_1127 : va_P G.1 CL [(ga i_1111, .inr (8, [.int (nI (td i_1111)), .int (nI (tt i_1111))])), (xo, .inr (8, [.int (nI d), .int (nI th)]))] H := (((hRm_1124.w hS).sub [0] rfl).app ((hRm_1125.w hS).sub [0] rfl))
    refine go_ct hS hP hD [] [0, 1] hF rfl rfl (by decide) (by decide)
        (va_runU (As := [.ref xo]) (rest := []) cf (mX6_compareToT l G (ga i_1111) (td i_1111) (tt i_1111) xo d th (show (td i_1111) < 2 ^ 31 from by first | assumption | omega) (show d < 2 ^ 31 from by first | assumption | omega) H.size) (va_cwU (owner := "TrainingDiary$Dated") 1 hts (lw_U q757 q759 q761 q758 q72 q762) rfl rfl rfl rfl (by decide +kernel) ⟨Nat.le_of_ble_eq_true rfl, Nat.le_of_ble_eq_true rfl⟩) (preV_of hKB hE hS hF (va_recv hK (hRm_1124.w hS) (ci := 8) (q0 := 0) rfl rfl) (va_P.sub hP [] rfl) ((va_D.sub hD [] (by decide) rfl).weaken (fun _ _ _ _ => trivial)) (roW.nil hro_1127)) rfl rfl hl.1 rfl (lv_room (Nat.le_of_ble_eq_true rfl)) dX3_insert_25 ⟨show 0 + 0 ≤ 1 from by first | decide | omega, show 0 + 0 ≤ 60 from by first | decide | omega⟩)
        (fun u_ H locs hq hph (hP : va_P G.1 CL [(a, .inr (3, [.int m0, .ref ea, .int (nI k)])), (ea, .inl (G.2 3, cap, .inr (.inr (.inr (.inr f)))))] H) (hD : va_D A [(a, .inr (3, [.int m0, .ref ea, .int (nI k)])), (ea, .inl (G.2 3, cap, .inr (.inr (.inr (.inr f)))))]) hS hfz hfk => ?_)
    obtain ⟨cr_1128, rfl⟩ : ∃ z, z = u_ := ⟨_, rfl⟩
    have hP : va_P G.1 CL [(a, .inr (3, [.int m0, .ref ea, .int (nI k)])), (ea, .inl (G.2 3, cap, .inr (.inr (.inr (.inr f)))))] H := hP
    have hD : va_D A [(a, .inr (3, [.int m0, .ref ea, .int (nI k)])), (ea, .inl (G.2 3, cap, .inr (.inr (.inr (.inr f)))))] := hD
    have hq_1129 : (cr_1128 < 0 ↔ (td i_1111) < d) := hq
    refine W.eq (g2 := F0 m 28 ls [.int cr_1128]) rfl ?_
    refine lv_if_ge (tgt := 37) hx hb  dX3_insert_28 (by decide) (fun c_1130 => ?_) (fun c_1130 => ?_)
    · have hno : i_1111 < k → ¬ ltT td d i_1111 := fun _ z => absurd (hq_1129.mpr z) (by first | assumption | exact Int32.not_lt.mpr (by assumption))
      refine lv_aload_n hx hb dX3_insert_37 rfl (lv_at hl 0 rfl) ?_
      refine va_get hx hb hts in_X3 hown hK (hR0.w hS) 0 rfl rfl 0 (by decide) (hts _ q130) (fun _ h => h) rfl dX3_insert_38 ?_
      refine lv_iload_n hx hb dX3_insert_41 rfl (lv_at hl 2 rfl) ?_
      refine lv_aload_n hx hb dX3_insert_42 rfl (lv_at hl 1 rfl) ?_
      have hF := hF_of (wc := [(a, .inr (3, [.int m0, .ref ea, .int (nI k)])), (ea, .inl (G.2 3, cap, .inr (.inr (.inr (.inr f)))))]) hD hS hA [0, 1] rfl
      refine go_ct hS hP hD [0, 1] [] hF rfl rfl (by decide) (by decide)
          (va_runV (As := [.int (nI i_1111), .ref xo]) (rest := []) cf (mJ2_add_3O l G a m0 ea k cap f xo Wi i_1111 (hk) (hc) (fun j hj y hy => by obtain ⟨q1, q2, -⟩ := hel j hj; rw [q1] at hy; cases hy; exact ⟨_, _, q2⟩) (show ElIn Wi xo from by first | assumption | omega) (by omega) H.size) (cwV 2 hts (lw_V q775 q776 q777 q52 q778) rfl rfl rfl (by decide +kernel) ⟨Nat.le_of_ble_eq_true rfl, Nat.le_of_ble_eq_true rfl⟩) (preV_of hKB hE hS hF (va_recv hK hP (ci := 3) (q0 := 0) rfl rfl) (va_P.sub hP [0, 1] rfl) ((va_D.sub hD [0, 1] (by decide) rfl).weaken (fun _ _ _ _ => trivial)) (hR1.kp hF hS.2.1)) rfl rfl hl.1 rfl (lv_room (Nat.le_of_ble_eq_true rfl)) dX3_insert_43 ⟨show 0 + 1 ≤ 1 from by first | decide | omega, show 0 + 60 ≤ 60 from by first | decide | omega⟩)
          (fun u_ H locs hq hph (hP : va_P G.1 CL [(a, .inr (3, [.int (m0 + nI 1), .ref u_.1, .int (nI (k + 1))])), (u_.1, .inl (G.2 3, u_.2.1, .inr (.inr (.inr (.inr u_.2.2)))))] H) (hD : va_D A [(a, .inr (3, [.int (m0 + nI 1), .ref u_.1, .int (nI (k + 1))])), (u_.1, .inl (G.2 3, u_.2.1, .inr (.inr (.inr (.inr u_.2.2)))))]) hS hfz hfk => ?_)
      obtain ⟨ea2_1131, cap2_1132, f2_1133⟩ := u_
      have hP : va_P G.1 CL [(a, .inr (3, [.int (m0 + nI 1), .ref ea2_1131, .int (nI (k + 1))])), (ea2_1131, .inl (G.2 3, cap2_1132, .inr (.inr (.inr (.inr f2_1133)))))] H := hP
      have hD : va_D A [(a, .inr (3, [.int (m0 + nI 1), .ref ea2_1131, .int (nI (k + 1))])), (ea2_1131, .inl (G.2 3, cap2_1132, .inr (.inr (.inr (.inr f2_1133)))))] := hD
      obtain ⟨hq_1134, hq_1135, hq_1136, hq_1137, hq_1138, hq_1139⟩ : k < cap2_1132 ∧ cap2_1132 ≤ 60 ∧ 2 ≤ cap2_1132 ∧ (∀ j, j < i_1111 → f2_1133 j = f j) ∧ f2_1133 i_1111 = some xo ∧ (∀ j, i_1111 ≤ j → j < k → f2_1133 (j + 1) = f j) := hq
      refine W.eq (g2 := F0 m 46 ls []) rfl ?_
      have hP9 : va_P G.1 CL [(a, .inr (3, [.int (m0 + nI 1), .ref ea2_1131, .int (nI (k + 1))])), (ea2_1131, .inl (G.2 3, cap2_1132, .inr (.inr (.inr (.inr f2_1133)))))] H := hP.sub [0, 1] rfl
      have hD9 : va_D A [(a, .inr (3, [.int (m0 + nI 1), .ref ea2_1131, .int (nI (k + 1))])), (ea2_1131, .inl (G.2 3, cap2_1132, .inr (.inr (.inr (.inr f2_1133)))))] := hD.sub [0, 1] (by decide) rfl
      exact end_v hx hb hr hlk (qc_of (i_1111, ea2_1131, cap2_1132, f2_1133) (v := none) (by rfl) (⟨hp_1109, hp_1110, hno, hq_1134, hq_1135, hq_1136, hq_1137, hq_1138, hq_1139⟩) hP9 hD9 (trivial) hS) hS dX3_insert_46 (show 0 + 1 ≤ 1 from by first | exact Nat.le_refl _ | decide | omega) (show 0 + 60 ≤ 60 from by first | exact Nat.le_refl _ | decide | omega)
    · have hyes : ltT td d i_1111 := hq_1129.mp (by first | assumption | exact Int32.not_le.mp (by assumption))
      refine lv_iinc (v := nI (i_1111 + 1)) (lv' := [(2, .int (nI (i_1111 + 1))), (0, .ref o), (1, .ref xo)]) hx hb dX3_insert_31 hl (k := 2) rfl (ninc (b := 1) (by decide) (by omega)) (by decide) rfl (fun ls hl => ?_)
      refine lv_goto (tgt := 2) hx hb dX3_insert_34 (by decide) ?_
      have hP : va_P G.1 CL [(a, .inr (3, [.int m0, .ref ea, .int (nI k)])), (ea, .inl (G.2 3, cap, .inr (.inr (.inr (.inr f)))))] H := hP.sub [0, 1] rfl
      have hD : va_D A [(a, .inr (3, [.int m0, .ref ea, .int (nI k)])), (ea, .inl (G.2 3, cap, .inr (.inr (.inr (.inr f)))))] := hD.sub [0, 1] (by decide) rfl
      have hl := lv_sub hl [1, 2, 0] (l' := [(0, .ref o), (1, .ref xo), (2, .int (nI (i_1111 + 1)))]) rfl
      exact W.widen (show 0 ≤ 0 from by first | exact Nat.le_refl _ | omega) (show 0 ≤ 0 from by first | exact Nat.le_refl _ | omega) (ih2 (i_1111 + 1) H locs ls ⟨hP, hD, hS, hl, (show (i_1111 + 1) ≤ k from by omega), (show ∀ j, j < (i_1111 + 1) → ltT td d j from fun j hj => (Nat.lt_succ_iff_lt_or_eq.mp hj).elim (hp_1110 j) (fun e9 => by rw [e9]; exact hyes))⟩ (show k - (i_1111 + 1) < k - i_1111 from by omega))

set_option maxHeartbeats 4000000 in
theorem mX3_insertSO (l : Launch) (G : Gt) (o : Nat) (a : Nat) (m0 : Int32) (ea : Nat) (k : Nat) (cap : Nat) (f : Nat → Option Nat) (xo : Nat) (Wi : va_W) (d : Nat) (sid : Nat) (mi : Nat) (it : Nat) (td : Nat → Nat) (ti : Nat → Nat) (ga : Nat → Nat) (gm : Nat → Nat) (gi : Nat → Nat) (hk : k ≤ cap ∧ k ≤ 40) (hc : 2 ≤ cap ∧ cap ≤ 60) (hxe : ElIn Wi xo) (hd : d < 2 ^ 31 ∧ sid < 2 ^ 31) (hxm : SesCell Wi xo d sid mi it) (hel : ∀ j, j < k → f j = some (ga j) ∧ SesCell Wi (ga j) (td j) (ti j) (gm j) (gi j) ∧ td j < 2 ^ 31 ∧ ti j < 2 ^ 31) : CT l G yX3_insert cX3_insert 3 none ({ frames := 6, cells := 1, slots := 60, locals := 145 } : Room) [.ref o, .ref xo] [(a, .inr (3, [.int m0, .ref ea, .int (nI k)])), (ea, .inl (G.2 3, cap, .inr (.inr (.inr (.inr f)))))] (fun (A : Nat → Prop) (H : Heap) => roW G A H [(o, .inr (2, [.ref a]))] ∧ roW G A H Wi) (S := Nat × Nat × Nat × (Nat → Option Nat)) (fun (u_ : Nat × Nat × Nat × (Nat → Option Nat)) => (none : Option Value)) (fun (u_ : Nat × Nat × Nat × (Nat → Option Nat)) => u_.1 ≤ k ∧ (∀ j, j < u_.1 → ltS td ti d sid j) ∧ (u_.1 < k → ¬ ltS td ti d sid u_.1) ∧ k < u_.2.2.1 ∧ u_.2.2.1 ≤ 60 ∧ 2 ≤ u_.2.2.1 ∧ (∀ j, j < u_.1 → u_.2.2.2 j = f j) ∧ u_.2.2.2 u_.1 = some xo ∧ (∀ j, u_.1 ≤ j → j < k → u_.2.2.2 (j + 1) = f j)) (fun (u_ : Nat × Nat × Nat × (Nat → Option Nat)) => [(a, .inr (3, [.int (m0 + nI 1), .ref u_.2.1, .int (nI (k + 1))])), (u_.2.1, .inl (G.2 3, u_.2.2.1, .inr (.inr (.inr (.inr u_.2.2.2)))))]) (fun (u_ : Nat × Nat × Nat × (Nat → Option Nat)) (H : Heap) => True) := by
  refine CT.of (by decide) (Nat.le_of_ble_eq_true rfl) ?_
  intro p e s m below meth c ls A H locs h9 hH0 hP hS
  obtain ⟨cf, hr, hlk, hnm, hKB, hE, -, hD, -, hA, hAw, ⟨hR0, hR1⟩, hl⟩ := h9
  have hx := cf.1
  have hb := cf.2.1
  have hml := cf.2.2.1
  have hown : s.vm.findClass RX3 = some m.cls := cf.2.2.2.1
  have hts := cf.2.2.2.2
  have hK := hKB.1
  have hl : lv_has ls 3 [(0, .ref o), (1, .ref xo)] := hl
  refine lv_iconst (v := nI 0) hx hb dX3_insert_0 (by decide) ?_
  refine lv_istore_n (lv' := [(2, .int (nI 0)), (0, .ref o), (1, .ref xo)]) hx hb dX3_insert_1 rfl hl (by decide) rfl (fun ls hl => ?_)
  have hl := lv_sub hl [1, 2, 0] (l' := [(0, .ref o), (1, .ref xo), (2, .int (nI 0))]) rfl
  refine lp_W (σ := Nat) (hpc := 2) (fun x => k - x) (fun x => 0) (fun x => 0) (fun x H locs ls => va_P G.1 CL [(a, .inr (3, [.int m0, .ref ea, .int (nI k)])), (ea, .inl (G.2 3, cap, .inr (.inr (.inr (.inr f)))))] H ∧ va_D A [(a, .inr (3, [.int m0, .ref ea, .int (nI k)])), (ea, .inl (G.2 3, cap, .inr (.inr (.inr (.inr f)))))] ∧ va_S A s.heap H locs ∧ lv_has ls 3 [(0, .ref o), (1, .ref xo), (2, .int (nI x))] ∧ (x ≤ k) ∧ (∀ j, j < x → ltS td ti d sid j)) ?_ (0) ⟨(show va_P G.1 CL [(a, .inr (3, [.int m0, .ref ea, .int (nI k)])), (ea, .inl (G.2 3, cap, .inr (.inr (.inr (.inr f)))))] H from hP), (show va_D A [(a, .inr (3, [.int m0, .ref ea, .int (nI k)])), (ea, .inl (G.2 3, cap, .inr (.inr (.inr (.inr f)))))] from hD), hS, hl, (show 0 ≤ k from by omega), (show ∀ j, j < 0 → ltS td ti d sid j from fun j hj => absurd hj (Nat.not_lt_zero _))⟩ (show 0 ≤ 0 from by first | exact Nat.le_refl _ | omega) (show 0 ≤ 0 from by first | exact Nat.le_refl _ | omega)
  intro x H locs ls hI9 ih2
  obtain ⟨i_1142, rfl⟩ : ∃ z, z = x := ⟨_, rfl⟩
  obtain ⟨hP, hD, hS, hl, hp_1140, hp_1141⟩ := hI9
  have hP : va_P G.1 CL [(a, .inr (3, [.int m0, .ref ea, .int (nI k)])), (ea, .inl (G.2 3, cap, .inr (.inr (.inr (.inr f)))))] H := hP
  have hD : va_D A [(a, .inr (3, [.int m0, .ref ea, .int (nI k)])), (ea, .inl (G.2 3, cap, .inr (.inr (.inr (.inr f)))))] := hD
  have hl : lv_has ls 3 [(0, .ref o), (1, .ref xo), (2, .int (nI i_1142))] := hl
  have hp_1140 : i_1142 ≤ k := hp_1140
  have hp_1141 : ∀ j, j < i_1142 → ltS td ti d sid j := hp_1141
  refine lv_iload_n hx hb dX3_insert_2 rfl (lv_at hl 2 rfl) ?_
  refine lv_aload_n hx hb dX3_insert_3 rfl (lv_at hl 0 rfl) ?_
  refine va_get hx hb hts in_X3 hown hK (hR0.w hS) 0 rfl rfl 0 (by decide) (hts _ q130) (fun _ h => h) rfl dX3_insert_4 ?_
  have hF := hF_of (wc := []) hD hS hA [] rfl
  have hro_1143 : va_P G.1 CL [(a, .inr (3, [.int m0, .ref ea, .int (nI k)]))] H := (va_P.sub hP [0] rfl)
  refine go_ct hS hP hD [] [0, 1] hF rfl rfl (by decide) (by decide)
      (va_runV (As := []) (rest := [.int (nI i_1142)]) cf (mJ2_size l G a m0 ea k  H.size) (cwV 0 hts (lw_V q263 q264 q265 q52 q266) rfl rfl rfl (by decide +kernel) ⟨Nat.le_of_ble_eq_true rfl, Nat.le_of_ble_eq_true rfl⟩) (preV_of hKB hE hS hF (va_recv hK hP (ci := 3) (q0 := 0) rfl rfl) (va_P.sub hP [] rfl) ((va_D.sub hD [] (by decide) rfl).weaken (fun _ _ _ _ => trivial)) (roW.nil hro_1143)) rfl rfl hl.1 rfl (lv_room (Nat.le_of_ble_eq_true rfl)) dX3_insert_7 ⟨show 0 + 0 ≤ 1 from by first | decide | omega, show 0 + 0 ≤ 60 from by first | decide | omega⟩)
      (fun u_ H locs hq hph (hP : va_P G.1 CL [(a, .inr (3, [.int m0, .ref ea, .int (nI k)])), (ea, .inl (G.2 3, cap, .inr (.inr (.inr (.inr f)))))] H) (hD : va_D A [(a, .inr (3, [.int m0, .ref ea, .int (nI k)])), (ea, .inl (G.2 3, cap, .inr (.inr (.inr (.inr f)))))]) hS hfz hfk => ?_)
  refine W.eq (g2 := F0 m 10 ls [.int (nI k), .int (nI i_1142)]) rfl ?_
  refine n_icmp_ge (tgt := 37) hx hb (by omega) (by omega) dX3_insert_10 (by decide) (fun c_1145 => ?_) (fun c_1145 => ?_)
  · have hno : i_1142 < k → ¬ ltS td ti d sid i_1142 := fun z => absurd z (by omega)
    refine lv_aload_n hx hb dX3_insert_37 rfl (lv_at hl 0 rfl) ?_
    refine va_get hx hb hts in_X3 hown hK (hR0.w hS) 0 rfl rfl 0 (by decide) (hts _ q130) (fun _ h => h) rfl dX3_insert_38 ?_
    refine lv_iload_n hx hb dX3_insert_41 rfl (lv_at hl 2 rfl) ?_
    refine lv_aload_n hx hb dX3_insert_42 rfl (lv_at hl 1 rfl) ?_
    have hF := hF_of (wc := [(a, .inr (3, [.int m0, .ref ea, .int (nI k)])), (ea, .inl (G.2 3, cap, .inr (.inr (.inr (.inr f)))))]) hD hS hA [0, 1] rfl
    refine go_ct hS hP hD [0, 1] [] hF rfl rfl (by decide) (by decide)
        (va_runV (As := [.int (nI i_1142), .ref xo]) (rest := []) cf (mJ2_add_3O l G a m0 ea k cap f xo Wi i_1142 (hk) (hc) (fun j hj y hy => by obtain ⟨q1, q2, -⟩ := hel j hj; rw [q1] at hy; cases hy; exact ⟨_, _, q2⟩) (show ElIn Wi xo from by first | assumption | omega) (by omega) H.size) (cwV 2 hts (lw_V q775 q776 q777 q52 q778) rfl rfl rfl (by decide +kernel) ⟨Nat.le_of_ble_eq_true rfl, Nat.le_of_ble_eq_true rfl⟩) (preV_of hKB hE hS hF (va_recv hK hP (ci := 3) (q0 := 0) rfl rfl) (va_P.sub hP [0, 1] rfl) ((va_D.sub hD [0, 1] (by decide) rfl).weaken (fun _ _ _ _ => trivial)) (hR1.kp hF hS.2.1)) rfl rfl hl.1 rfl (lv_room (Nat.le_of_ble_eq_true rfl)) dX3_insert_43 ⟨show 0 + 1 ≤ 1 from by first | decide | omega, show 0 + 60 ≤ 60 from by first | decide | omega⟩)
        (fun u_ H locs hq hph (hP : va_P G.1 CL [(a, .inr (3, [.int (m0 + nI 1), .ref u_.1, .int (nI (k + 1))])), (u_.1, .inl (G.2 3, u_.2.1, .inr (.inr (.inr (.inr u_.2.2)))))] H) (hD : va_D A [(a, .inr (3, [.int (m0 + nI 1), .ref u_.1, .int (nI (k + 1))])), (u_.1, .inl (G.2 3, u_.2.1, .inr (.inr (.inr (.inr u_.2.2)))))]) hS hfz hfk => ?_)
    obtain ⟨ea2_1146, cap2_1147, f2_1148⟩ := u_
    have hP : va_P G.1 CL [(a, .inr (3, [.int (m0 + nI 1), .ref ea2_1146, .int (nI (k + 1))])), (ea2_1146, .inl (G.2 3, cap2_1147, .inr (.inr (.inr (.inr f2_1148)))))] H := hP
    have hD : va_D A [(a, .inr (3, [.int (m0 + nI 1), .ref ea2_1146, .int (nI (k + 1))])), (ea2_1146, .inl (G.2 3, cap2_1147, .inr (.inr (.inr (.inr f2_1148)))))] := hD
    obtain ⟨hq_1149, hq_1150, hq_1151, hq_1152, hq_1153, hq_1154⟩ : k < cap2_1147 ∧ cap2_1147 ≤ 60 ∧ 2 ≤ cap2_1147 ∧ (∀ j, j < i_1142 → f2_1148 j = f j) ∧ f2_1148 i_1142 = some xo ∧ (∀ j, i_1142 ≤ j → j < k → f2_1148 (j + 1) = f j) := hq
    refine W.eq (g2 := F0 m 46 ls []) rfl ?_
    have hP9 : va_P G.1 CL [(a, .inr (3, [.int (m0 + nI 1), .ref ea2_1146, .int (nI (k + 1))])), (ea2_1146, .inl (G.2 3, cap2_1147, .inr (.inr (.inr (.inr f2_1148)))))] H := hP.sub [0, 1] rfl
    have hD9 : va_D A [(a, .inr (3, [.int (m0 + nI 1), .ref ea2_1146, .int (nI (k + 1))])), (ea2_1146, .inl (G.2 3, cap2_1147, .inr (.inr (.inr (.inr f2_1148)))))] := hD.sub [0, 1] (by decide) rfl
    exact end_v hx hb hr hlk (qc_of (i_1142, ea2_1146, cap2_1147, f2_1148) (v := none) (by rfl) (⟨hp_1140, hp_1141, hno, hq_1149, hq_1150, hq_1151, hq_1152, hq_1153, hq_1154⟩) hP9 hD9 (trivial) hS) hS dX3_insert_46 (show 0 + 1 ≤ 1 from by first | exact Nat.le_refl _ | decide | omega) (show 0 + 60 ≤ 60 from by first | exact Nat.le_refl _ | decide | omega)
  · refine lv_aload_n hx hb dX3_insert_13 rfl (lv_at hl 0 rfl) ?_
    refine va_get hx hb hts in_X3 hown hK (hR0.w hS) 0 rfl rfl 0 (by decide) (hts _ q130) (fun _ h => h) rfl dX3_insert_14 ?_
    refine lv_iload_n hx hb dX3_insert_17 rfl (lv_at hl 2 rfl) ?_
    obtain ⟨hg9, hgm9, hgd9⟩ := hel i_1142 (by omega)
    have hRm_1155 : roW G A s.heap [((ga i_1142), .inr (9, [.int (nI (td i_1142)), .int (nI (ti i_1142)), .ref (gm i_1142), .ref (gi i_1142)]))] := hR1.mem (hgm9)
    have hRm_1156 : roW G A s.heap [(xo, .inr (9, [.int (nI d), .int (nI sid), .ref mi, .ref it]))] := hR1.mem (hxm)
    have hF := hF_of (wc := []) hD hS hA [] rfl
    have hro_1157 : va_P G.1 CL [(a, .inr (3, [.int m0, .ref ea, .int (nI k)])), (ea, .inl (G.2 3, cap, .inr (.inr (.inr (.inr f)))))] H := (va_P.sub hP [0, 1] rfl)
    refine go_ct hS hP hD [] [0, 1] hF rfl rfl (by decide) (by decide)
        (va_runV (As := [.int (nI i_1142)]) (rest := []) cf (mJ2_get l G a m0 ea k cap f i_1142 (ga i_1142) (by omega) (by omega) (by omega) (hg9) H.size) (cwV 1 hts (lw_V q447 q404 q405 q52 q406) rfl rfl rfl (by decide +kernel) ⟨Nat.le_of_ble_eq_true rfl, Nat.le_of_ble_eq_true rfl⟩) (preV_of hKB hE hS hF (va_recv hK hP (ci := 3) (q0 := 0) rfl rfl) (va_P.sub hP [] rfl) ((va_D.sub hD [] (by decide) rfl).weaken (fun _ _ _ _ => trivial)) (roW.nil hro_1157)) rfl rfl hl.1 rfl (lv_room (Nat.le_of_ble_eq_true rfl)) dX3_insert_18 ⟨show 0 + 0 ≤ 1 from by first | decide | omega, show 0 + 0 ≤ 60 from by first | decide | omega⟩)
        (fun u_ H locs hq hph (hP : va_P G.1 CL [(a, .inr (3, [.int m0, .ref ea, .int (nI k)])), (ea, .inl (G.2 3, cap, .inr (.inr (.inr (.inr f)))))] H) (hD : va_D A [(a, .inr (3, [.int m0, .ref ea, .int (nI k)])), (ea, .inl (G.2 3, cap, .inr (.inr (.inr (.inr f)))))]) hS hfz hfk => ?_)
    refine W.eq (g2 := F0 m 21 ls [.ref (ga i_1142)]) rfl ?_
    refine va_castY hx hb hown (hts _ q448) (hKB.nest q1984 rfl) (va_recv hK (hRm_1155.w hS) (ci := 9) (q0 := 0) rfl rfl) dX3_insert_21 ?_
    refine lv_aload_n hx hb dX3_insert_24 rfl (lv_at hl 1 rfl) ?_
    have hF := hF_of (wc := []) hD hS hA [] rfl
    have hro_1158 : va_P G.1 CL [(ga i_1142, .inr (9, [.int (nI (td i_1142)), .int (nI (ti i_1142)), .ref (gm i_1142), .ref (gi i_1142)])), (xo, .inr (9, [.int (nI d), .int (nI sid), .ref mi, .ref it]))] H := (((hRm_1155.w hS).sub [0] rfl).app ((hRm_1156.w hS).sub [0] rfl))
    refine go_ct hS hP hD [] [0, 1] hF rfl rfl (by decide) (by decide)
        (va_runU (As := [.ref xo]) (rest := []) cf (mX6_compareToS l G (ga i_1142) (td i_1142) (ti i_1142) (gm i_1142) (gi i_1142) xo d sid mi it (show (td i_1142) < 2 ^ 31 from by first | assumption | omega) (show d < 2 ^ 31 from by first | assumption | omega) (show (ti i_1142) < 2 ^ 31 from by first | assumption | omega) (show sid < 2 ^ 31 from by first | assumption | omega) H.size) (va_cwU (owner := "TrainingDiary$Dated") 1 hts (lw_U q757 q759 q760 q758 q72 q762) rfl rfl rfl rfl (by decide +kernel) ⟨Nat.le_of_ble_eq_true rfl, Nat.le_of_ble_eq_true rfl⟩) (preV_of hKB hE hS hF (va_recv hK (hRm_1155.w hS) (ci := 9) (q0 := 0) rfl rfl) (va_P.sub hP [] rfl) ((va_D.sub hD [] (by decide) rfl).weaken (fun _ _ _ _ => trivial)) (roW.nil hro_1158)) rfl rfl hl.1 rfl (lv_room (Nat.le_of_ble_eq_true rfl)) dX3_insert_25 ⟨show 0 + 0 ≤ 1 from by first | decide | omega, show 0 + 0 ≤ 60 from by first | decide | omega⟩)
        (fun u_ H locs hq hph (hP : va_P G.1 CL [(a, .inr (3, [.int m0, .ref ea, .int (nI k)])), (ea, .inl (G.2 3, cap, .inr (.inr (.inr (.inr f)))))] H) (hD : va_D A [(a, .inr (3, [.int m0, .ref ea, .int (nI k)])), (ea, .inl (G.2 3, cap, .inr (.inr (.inr (.inr f)))))]) hS hfz hfk => ?_)
    obtain ⟨cr_1159, rfl⟩ : ∃ z, z = u_ := ⟨_, rfl⟩
    have hP : va_P G.1 CL [(a, .inr (3, [.int m0, .ref ea, .int (nI k)])), (ea, .inl (G.2 3, cap, .inr (.inr (.inr (.inr f)))))] H := hP
    have hD : va_D A [(a, .inr (3, [.int m0, .ref ea, .int (nI k)])), (ea, .inl (G.2 3, cap, .inr (.inr (.inr (.inr f)))))] := hD
    have hq_1160 : (cr_1159 < 0 ↔ (td i_1142) < d ∨ ((td i_1142) = d ∧ (ti i_1142) < sid)) := hq
    refine W.eq (g2 := F0 m 28 ls [.int cr_1159]) rfl ?_
    refine lv_if_ge (tgt := 37) hx hb  dX3_insert_28 (by decide) (fun c_1161 => ?_) (fun c_1161 => ?_)
    · have hno : i_1142 < k → ¬ ltS td ti d sid i_1142 := fun _ z => absurd (hq_1160.mpr z) (by first | assumption | exact Int32.not_lt.mpr (by assumption))
      refine lv_aload_n hx hb dX3_insert_37 rfl (lv_at hl 0 rfl) ?_
      refine va_get hx hb hts in_X3 hown hK (hR0.w hS) 0 rfl rfl 0 (by decide) (hts _ q130) (fun _ h => h) rfl dX3_insert_38 ?_
      refine lv_iload_n hx hb dX3_insert_41 rfl (lv_at hl 2 rfl) ?_
      refine lv_aload_n hx hb dX3_insert_42 rfl (lv_at hl 1 rfl) ?_
      have hF := hF_of (wc := [(a, .inr (3, [.int m0, .ref ea, .int (nI k)])), (ea, .inl (G.2 3, cap, .inr (.inr (.inr (.inr f)))))]) hD hS hA [0, 1] rfl
      refine go_ct hS hP hD [0, 1] [] hF rfl rfl (by decide) (by decide)
          (va_runV (As := [.int (nI i_1142), .ref xo]) (rest := []) cf (mJ2_add_3O l G a m0 ea k cap f xo Wi i_1142 (hk) (hc) (fun j hj y hy => by obtain ⟨q1, q2, -⟩ := hel j hj; rw [q1] at hy; cases hy; exact ⟨_, _, q2⟩) (show ElIn Wi xo from by first | assumption | omega) (by omega) H.size) (cwV 2 hts (lw_V q775 q776 q777 q52 q778) rfl rfl rfl (by decide +kernel) ⟨Nat.le_of_ble_eq_true rfl, Nat.le_of_ble_eq_true rfl⟩) (preV_of hKB hE hS hF (va_recv hK hP (ci := 3) (q0 := 0) rfl rfl) (va_P.sub hP [0, 1] rfl) ((va_D.sub hD [0, 1] (by decide) rfl).weaken (fun _ _ _ _ => trivial)) (hR1.kp hF hS.2.1)) rfl rfl hl.1 rfl (lv_room (Nat.le_of_ble_eq_true rfl)) dX3_insert_43 ⟨show 0 + 1 ≤ 1 from by first | decide | omega, show 0 + 60 ≤ 60 from by first | decide | omega⟩)
          (fun u_ H locs hq hph (hP : va_P G.1 CL [(a, .inr (3, [.int (m0 + nI 1), .ref u_.1, .int (nI (k + 1))])), (u_.1, .inl (G.2 3, u_.2.1, .inr (.inr (.inr (.inr u_.2.2)))))] H) (hD : va_D A [(a, .inr (3, [.int (m0 + nI 1), .ref u_.1, .int (nI (k + 1))])), (u_.1, .inl (G.2 3, u_.2.1, .inr (.inr (.inr (.inr u_.2.2)))))]) hS hfz hfk => ?_)
      obtain ⟨ea2_1162, cap2_1163, f2_1164⟩ := u_
      have hP : va_P G.1 CL [(a, .inr (3, [.int (m0 + nI 1), .ref ea2_1162, .int (nI (k + 1))])), (ea2_1162, .inl (G.2 3, cap2_1163, .inr (.inr (.inr (.inr f2_1164)))))] H := hP
      have hD : va_D A [(a, .inr (3, [.int (m0 + nI 1), .ref ea2_1162, .int (nI (k + 1))])), (ea2_1162, .inl (G.2 3, cap2_1163, .inr (.inr (.inr (.inr f2_1164)))))] := hD
      obtain ⟨hq_1165, hq_1166, hq_1167, hq_1168, hq_1169, hq_1170⟩ : k < cap2_1163 ∧ cap2_1163 ≤ 60 ∧ 2 ≤ cap2_1163 ∧ (∀ j, j < i_1142 → f2_1164 j = f j) ∧ f2_1164 i_1142 = some xo ∧ (∀ j, i_1142 ≤ j → j < k → f2_1164 (j + 1) = f j) := hq
      refine W.eq (g2 := F0 m 46 ls []) rfl ?_
      have hP9 : va_P G.1 CL [(a, .inr (3, [.int (m0 + nI 1), .ref ea2_1162, .int (nI (k + 1))])), (ea2_1162, .inl (G.2 3, cap2_1163, .inr (.inr (.inr (.inr f2_1164)))))] H := hP.sub [0, 1] rfl
      have hD9 : va_D A [(a, .inr (3, [.int (m0 + nI 1), .ref ea2_1162, .int (nI (k + 1))])), (ea2_1162, .inl (G.2 3, cap2_1163, .inr (.inr (.inr (.inr f2_1164)))))] := hD.sub [0, 1] (by decide) rfl
      exact end_v hx hb hr hlk (qc_of (i_1142, ea2_1162, cap2_1163, f2_1164) (v := none) (by rfl) (⟨hp_1140, hp_1141, hno, hq_1165, hq_1166, hq_1167, hq_1168, hq_1169, hq_1170⟩) hP9 hD9 (trivial) hS) hS dX3_insert_46 (show 0 + 1 ≤ 1 from by first | exact Nat.le_refl _ | decide | omega) (show 0 + 60 ≤ 60 from by first | exact Nat.le_refl _ | decide | omega)
    · have hyes : ltS td ti d sid i_1142 := hq_1160.mp (by first | assumption | exact Int32.not_le.mp (by assumption))
      refine lv_iinc (v := nI (i_1142 + 1)) (lv' := [(2, .int (nI (i_1142 + 1))), (0, .ref o), (1, .ref xo)]) hx hb dX3_insert_31 hl (k := 2) rfl (ninc (b := 1) (by decide) (by omega)) (by decide) rfl (fun ls hl => ?_)
      refine lv_goto (tgt := 2) hx hb dX3_insert_34 (by decide) ?_
      have hP : va_P G.1 CL [(a, .inr (3, [.int m0, .ref ea, .int (nI k)])), (ea, .inl (G.2 3, cap, .inr (.inr (.inr (.inr f)))))] H := hP.sub [0, 1] rfl
      have hD : va_D A [(a, .inr (3, [.int m0, .ref ea, .int (nI k)])), (ea, .inl (G.2 3, cap, .inr (.inr (.inr (.inr f)))))] := hD.sub [0, 1] (by decide) rfl
      have hl := lv_sub hl [1, 2, 0] (l' := [(0, .ref o), (1, .ref xo), (2, .int (nI (i_1142 + 1)))]) rfl
      exact W.widen (show 0 ≤ 0 from by first | exact Nat.le_refl _ | omega) (show 0 ≤ 0 from by first | exact Nat.le_refl _ | omega) (ih2 (i_1142 + 1) H locs ls ⟨hP, hD, hS, hl, (show (i_1142 + 1) ≤ k from by omega), (show ∀ j, j < (i_1142 + 1) → ltS td ti d sid j from fun j hj => (Nat.lt_succ_iff_lt_or_eq.mp hj).elim (hp_1141 j) (fun e9 => by rw [e9]; exact hyes))⟩ (show k - (i_1142 + 1) < k - i_1142 from by omega))

set_option maxHeartbeats 4000000 in
theorem mX3_init_2E (l : Launch) (G : Gt) (o : Nat) (ob : Nat) (ab : Nat) (mb : Int32) (eb : Nat) (capb : Nat) (fb : Nat → Option Nat) (hcb : capb ≤ 60) : CT l G yX3_init_2 cX3_init_2 5 none ({ frames := 4, cells := 2, slots := 5, locals := 72 } : Room) [.ref o, .ref ob] [(o, .inr (2, [.null]))] (fun (A : Nat → Prop) (H : Heap) => roW G A H [(ob, .inr (2, [.ref ab])), (ab, .inr (3, [.int mb, .ref eb, .int (nI 0)])), (eb, .inl (G.2 3, capb, .inr (.inr (.inr (.inr fb)))))]) (S := Nat) (fun (u_ : Nat) => (none : Option Value)) (fun (u_ : Nat) => True) (fun (u_ : Nat) => [(o, .inr (2, [.ref u_])), (u_, .inr (3, [.int (nI 0), .ref (G.2 99), .int (nI 0)]))]) (fun (u_ : Nat) (H : Heap) => True) := by
  refine CT.of (by decide) (Nat.le_of_ble_eq_true rfl) ?_
  intro p e s m below meth c ls A H locs h9 hH0 hP hS
  obtain ⟨cf, hr, hlk, hnm, hKB, hE, -, hD, -, hA, hAw, hR0, hl⟩ := h9
  have hx := cf.1
  have hb := cf.2.1
  have hml := cf.2.2.1
  have hown : s.vm.findClass RX3 = some m.cls := cf.2.2.2.1
  have hts := cf.2.2.2.2
  have hK := hKB.1
  have hl : lv_has ls 5 [(0, .ref o), (1, .ref ob)] := hl
  refine lv_aload_n hx hb dX3_init_2_0 rfl (lv_at hl 0 rfl) ?_
  refine W.objInit hx hb hown (hts _ q102) (hts _ q89) (hts _ q90) rfl (by rw [hml]; exact hl.1) rfl dX3_init_2_1 (Nat.le_of_ble_eq_true rfl) (Nat.le_of_ble_eq_true rfl) ?_
  refine W.eq (g2 := F0 m 4 ls []) rfl ?_
  refine lv_aload_n hx hb dX3_init_2_4 rfl (lv_at hl 0 rfl) ?_
  refine va_new (ci := 3) (fs := [.int (nI 0), .null, .int (nI 0)]) hx hb hts in_J2 tyJ2 tyJ2_ok hown (hts _ q103) (hts _ q104) (hts _ q52) hK hP hD hS hA rfl (fun j hj => by rcases (show j = 0 ∨ j = 1 ∨ j = 2 by omega) with rfl | rfl | rfl <;> rfl) (show 0 + 1 ≤ 2 from by first | decide | omega) (show 0 + 3 ≤ 5 from by first | decide | omega) dX3_init_2_5 (fun a_1171 H (hP : va_P G.1 CL [(o, .inr (2, [.null])), (a_1171, .inr (3, [.int (nI 0), .null, .int (nI 0)]))] H) (hD : va_D A [(o, .inr (2, [.null])), (a_1171, .inr (3, [.int (nI 0), .null, .int (nI 0)]))]) hS => ?_)
  refine lv_dup hx hb dX3_init_2_8 rfl ?_
  have hF := hF_of (wc := [(a_1171, .inr (3, [.int (nI 0), .null, .int (nI 0)]))]) hD hS hA [1] rfl
  refine go_ct hS hP hD [1] [0] hF rfl rfl (by decide) (by decide)
      (va_runI (As := []) (rest := [.ref a_1171, .ref o]) cf (mJ2_init l G a_1171  H.size) (cwI 0 hts (lw_meth q107) rfl rfl rfl (hts _ q52) (hts _ q105) (hts _ q106) rfl (by decide +kernel) ⟨Nat.le_of_ble_eq_true rfl, Nat.le_of_ble_eq_true rfl⟩) (preS_of hKB hE hS hF (va_P.sub hP [1] rfl) ((va_D.sub hD [1] (by decide) rfl).weaken (fun _ _ _ _ => trivial)) trivial) rfl rfl hl.1 rfl (lv_room (Nat.le_of_ble_eq_true rfl)) dX3_init_2_9 ⟨show 0 + 1 + 0 ≤ 2 from by first | decide | omega, show 0 + 3 + 0 ≤ 5 from by first | decide | omega⟩)
      (fun u_ H locs hq hph (hP : va_P G.1 CL [(o, .inr (2, [.null])), (a_1171, .inr (3, [.int (nI 0), .ref (G.2 99), .int (nI 0)]))] H) (hD : va_D A [(o, .inr (2, [.null])), (a_1171, .inr (3, [.int (nI 0), .ref (G.2 99), .int (nI 0)]))]) hS hfz hfk => ?_)
  refine W.eq (g2 := F0 m 12 ls [.ref a_1171, .ref o]) rfl ?_
  refine va_putF (v := .ref a_1171) (ty := (.object "java/util/ArrayList")) hx hb hts in_X3 tyX3 tyX3_ok nmX3 hown hK hP hD hS 0 rfl rfl 0 (by decide) (hts _ q130) (fun _ h => h) rfl hnm rfl (by decide +kernel) rfl rfl (Nat.le_of_ble_eq_true rfl) dX3_init_2_12 (fun H locs (hP : va_P G.1 CL [(o, .inr (2, [.ref a_1171])), (a_1171, .inr (3, [.int (nI 0), .ref (G.2 99), .int (nI 0)]))] H) (hD : va_D A [(o, .inr (2, [.ref a_1171])), (a_1171, .inr (3, [.int (nI 0), .ref (G.2 99), .int (nI 0)]))]) hS => ?_)
  refine lv_aload_n hx hb dX3_init_2_15 rfl (lv_at hl 1 rfl) ?_
  have hF := hF_of (wc := []) hD hS hA [] rfl
  refine go_ct hS hP hD [] [0, 1] hF rfl rfl (by decide) (by decide)
      (va_runV (As := []) (rest := []) cf (mX3_iterator l G ob  H.size) (cwV 0 hts (lw_V q480 q288 q289 q49 q290) rfl rfl rfl (by decide +kernel) ⟨Nat.le_of_ble_eq_true rfl, Nat.le_of_ble_eq_true rfl⟩) (preV_of hKB hE hS hF (va_recv hK (hR0.w hS) (ci := 2) (q0 := 0) rfl rfl) (va_P.sub hP [] rfl) ((va_D.sub hD [] (by decide) rfl).weaken (fun _ _ _ _ => trivial)) trivial) rfl rfl hl.1 rfl (lv_room (Nat.le_of_ble_eq_true rfl)) dX3_init_2_16 ⟨show 0 + 1 + 1 ≤ 2 from by first | decide | omega, show 0 + 3 + 2 ≤ 5 from by first | decide | omega⟩)
      (fun u_ H locs hq hph (hP : va_P G.1 CL [(o, .inr (2, [.ref a_1171])), (a_1171, .inr (3, [.int (nI 0), .ref (G.2 99), .int (nI 0)])), (u_, .inr (7, [.int (nI 0), .ref ob]))] H) (hD : va_D A [(o, .inr (2, [.ref a_1171])), (a_1171, .inr (3, [.int (nI 0), .ref (G.2 99), .int (nI 0)])), (u_, .inr (7, [.int (nI 0), .ref ob]))]) hS hfz hfk => ?_)
  obtain ⟨qw_1172, rfl⟩ : ∃ z, z = u_ := ⟨_, rfl⟩
  have hP : va_P G.1 CL [(o, .inr (2, [.ref a_1171])), (a_1171, .inr (3, [.int (nI 0), .ref (G.2 99), .int (nI 0)])), (qw_1172, .inr (7, [.int (nI 0), .ref ob]))] H := hP
  have hD : va_D A [(o, .inr (2, [.ref a_1171])), (a_1171, .inr (3, [.int (nI 0), .ref (G.2 99), .int (nI 0)])), (qw_1172, .inr (7, [.int (nI 0), .ref ob]))] := hD
  refine W.eq (g2 := F0 m 19 ls [.ref qw_1172]) rfl ?_
  refine lv_astore_n (lv' := [(2, .ref qw_1172), (0, .ref o), (1, .ref ob)]) hx hb dX3_init_2_19 rfl hl (by decide) rfl (fun ls hl => ?_)
  refine lv_aload_n hx hb dX3_init_2_20 rfl (lv_at hl 0 rfl) ?_
  have hF := hF_of (wc := []) hD hS hA [] rfl
  have hro_1173 : va_P G.1 CL [(qw_1172, .inr (7, [.int (nI 0), .ref ob])), (ob, .inr (2, [.ref ab])), (ab, .inr (3, [.int mb, .ref eb, .int (nI 0)])), (eb, .inl (G.2 3, capb, .inr (.inr (.inr (.inr fb)))))] H := ((va_P.sub hP [2] rfl).app ((hR0.w hS).sub [0, 1, 2] rfl))
  refine go_ct5 hS hP hD [] [0, 1, 2] hF rfl rfl (by decide) (by decide)
      (va_runF (hK.1 7 _ rfl).2 (As := []) (rest := []) cf (mX5_hasNext l G qw_1172 0 ob ab mb eb 0 capb fb (show 0 ≤ capb from by first | assumption | omega) (show capb ≤ 60 from by first | assumption | omega) (show 0 ≤ 0 from by first | assumption | omega) H.size) (va_cwF 0 hts (lw_F q482 q309 q311 q59 q313) rfl rfl rfl hKB.2.2.2.1 (by decide +kernel) ⟨Nat.le_of_ble_eq_true rfl, Nat.le_of_ble_eq_true rfl⟩) (preV_of hKB hE hS hF (va_recv hK hP (ci := 7) (q0 := 2) rfl rfl) (va_P.sub hP [] rfl) ((va_D.sub hD [] (by decide) rfl).weaken (fun _ _ _ _ => trivial)) (roW.nil hro_1173)) rfl rfl hl.1 rfl (lv_room (Nat.le_of_ble_eq_true rfl)) dX3_init_2_21 ⟨show 0 + 1 + 1 + 0 ≤ 2 from by first | decide | omega, show 0 + 3 + 2 + 0 ≤ 5 from by first | decide | omega⟩)
      (fun u_ H locs hq hph (hP : va_P G.1 CL [(o, .inr (2, [.ref a_1171])), (a_1171, .inr (3, [.int (nI 0), .ref (G.2 99), .int (nI 0)])), (qw_1172, .inr (7, [.int (nI 0), .ref ob]))] H) (hD : va_D A [(o, .inr (2, [.ref a_1171])), (a_1171, .inr (3, [.int (nI 0), .ref (G.2 99), .int (nI 0)])), (qw_1172, .inr (7, [.int (nI 0), .ref ob]))]) hS hfz hfk => ?_)
  obtain ⟨b_1174, rfl⟩ : ∃ z, z = u_ := ⟨_, rfl⟩
  have hP : va_P G.1 CL [(o, .inr (2, [.ref a_1171])), (a_1171, .inr (3, [.int (nI 0), .ref (G.2 99), .int (nI 0)])), (qw_1172, .inr (7, [.int (nI 0), .ref ob]))] H := hP
  have hD : va_D A [(o, .inr (2, [.ref a_1171])), (a_1171, .inr (3, [.int (nI 0), .ref (G.2 99), .int (nI 0)])), (qw_1172, .inr (7, [.int (nI 0), .ref ob]))] := hD
  have hq_1175 : (b_1174 = true ↔ 0 < 0) := hq
  refine W.eq (g2 := F0 m 26 ls [.int (bI b_1174)]) rfl ?_
  have hnb := hq_1175
  cases b_1174
  · refine lv_ton (n := 0) rfl ?_
    have hge9 : ¬ (0 < 0) := fun z => absurd (hnb.mpr z) (by decide)
    refine n_if_eq (tgt := 52) hx hb (by omega) dX3_init_2_26 (by decide) (fun c_1176 => ?_) (fun c_1176 => absurd c_1176 (by omega))
    have hP9 : va_P G.1 CL [(o, .inr (2, [.ref a_1171])), (a_1171, .inr (3, [.int (nI 0), .ref (G.2 99), .int (nI 0)]))] H := hP.sub [0, 1] rfl
    have hD9 : va_D A [(o, .inr (2, [.ref a_1171])), (a_1171, .inr (3, [.int (nI 0), .ref (G.2 99), .int (nI 0)]))] := hD.sub [0, 1] (by decide) rfl
    exact end_v hx hb hr hlk (qc_of a_1171 (v := none) (by rfl) (trivial) hP9 hD9 (trivial) hS) hS dX3_init_2_52 (show 0 + 1 + 1 ≤ 2 from by first | exact Nat.le_refl _ | decide | omega) (show 0 + 3 + 2 ≤ 5 from by first | exact Nat.le_refl _ | decide | omega)
  · refine lv_ton (n := 1) rfl ?_
    have hlt9 := hnb.mp rfl
    refine n_if_eq (tgt := 52) hx hb (by omega) dX3_init_2_26 (by decide) (fun c_1177 => absurd c_1177 (by omega)) (fun c_1177 => ?_)
    exact absurd hlt9 (Nat.lt_irrefl 0)

set_option maxHeartbeats 4000000 in
theorem mX3_init_2T (l : Launch) (G : Gt) (o : Nat) (ob : Nat) (ab : Nat) (mb : Int32) (eb : Nat) (k : Nat) (capb : Nat) (fb : Nat → Option Nat) (ga : Nat → Nat) (vv : Nat → List Value) (Wi : va_W) (hk1 : 1 ≤ k ∧ k ≤ 40) (hk : k ≤ capb) (hcb : capb ≤ 60) (hel : ∀ j, j < k → fb j = some (ga j) ∧ (ga j, Sum.inr (8, vv j)) ∈ Wi) : CT l G yX3_init_2 cX3_init_2 5 none ({ frames := 7, cells := 42, slots := 2415, locals := 165 } : Room) [.ref o, .ref ob] [(o, .inr (2, [.null]))] (fun (A : Nat → Prop) (H : Heap) => roW G A H [(ob, .inr (2, [.ref ab])), (ab, .inr (3, [.int mb, .ref eb, .int (nI k)])), (eb, .inl (G.2 3, capb, .inr (.inr (.inr (.inr fb)))))] ∧ roW G A H Wi) (S := Nat × Int32 × Nat × Nat × (Nat → Option Nat)) (fun (u_ : Nat × Int32 × Nat × Nat × (Nat → Option Nat)) => (none : Option Value)) (fun (u_ : Nat × Int32 × Nat × Nat × (Nat → Option Nat)) => k ≤ u_.2.2.2.1 ∧ u_.2.2.2.1 ≤ 60 ∧ 2 ≤ u_.2.2.2.1 ∧ (∀ j, j < k → u_.2.2.2.2 j = fb j)) (fun (u_ : Nat × Int32 × Nat × Nat × (Nat → Option Nat)) => [(o, .inr (2, [.ref u_.1])), (u_.1, .inr (3, [.int u_.2.1, .ref u_.2.2.1, .int (nI k)])), (u_.2.2.1, .inl (G.2 3, u_.2.2.2.1, .inr (.inr (.inr (.inr u_.2.2.2.2)))))]) (fun (u_ : Nat × Int32 × Nat × Nat × (Nat → Option Nat)) (H : Heap) => True) := by
  refine CT.of (by decide) (Nat.le_of_ble_eq_true rfl) ?_
  intro p e s m below meth c ls A H locs h9 hH0 hP hS
  obtain ⟨cf, hr, hlk, hnm, hKB, hE, -, hD, -, hA, hAw, ⟨hR0, hR1⟩, hl⟩ := h9
  have hx := cf.1
  have hb := cf.2.1
  have hml := cf.2.2.1
  have hown : s.vm.findClass RX3 = some m.cls := cf.2.2.2.1
  have hts := cf.2.2.2.2
  have hK := hKB.1
  have hl : lv_has ls 5 [(0, .ref o), (1, .ref ob)] := hl
  refine lv_aload_n hx hb dX3_init_2_0 rfl (lv_at hl 0 rfl) ?_
  refine W.objInit hx hb hown (hts _ q102) (hts _ q89) (hts _ q90) rfl (by rw [hml]; exact hl.1) rfl dX3_init_2_1 (Nat.le_of_ble_eq_true rfl) (Nat.le_of_ble_eq_true rfl) ?_
  refine W.eq (g2 := F0 m 4 ls []) rfl ?_
  refine lv_aload_n hx hb dX3_init_2_4 rfl (lv_at hl 0 rfl) ?_
  refine va_new (ci := 3) (fs := [.int (nI 0), .null, .int (nI 0)]) hx hb hts in_J2 tyJ2 tyJ2_ok hown (hts _ q103) (hts _ q104) (hts _ q52) hK hP hD hS hA rfl (fun j hj => by rcases (show j = 0 ∨ j = 1 ∨ j = 2 by omega) with rfl | rfl | rfl <;> rfl) (show 0 + 1 ≤ 42 from by first | decide | omega) (show 0 + 3 ≤ 2415 from by first | decide | omega) dX3_init_2_5 (fun a_1178 H (hP : va_P G.1 CL [(o, .inr (2, [.null])), (a_1178, .inr (3, [.int (nI 0), .null, .int (nI 0)]))] H) (hD : va_D A [(o, .inr (2, [.null])), (a_1178, .inr (3, [.int (nI 0), .null, .int (nI 0)]))]) hS => ?_)
  refine lv_dup hx hb dX3_init_2_8 rfl ?_
  have hF := hF_of (wc := [(a_1178, .inr (3, [.int (nI 0), .null, .int (nI 0)]))]) hD hS hA [1] rfl
  refine go_ct hS hP hD [1] [0] hF rfl rfl (by decide) (by decide)
      (va_runI (As := []) (rest := [.ref a_1178, .ref o]) cf (mJ2_init l G a_1178  H.size) (cwI 0 hts (lw_meth q107) rfl rfl rfl (hts _ q52) (hts _ q105) (hts _ q106) rfl (by decide +kernel) ⟨Nat.le_of_ble_eq_true rfl, Nat.le_of_ble_eq_true rfl⟩) (preS_of hKB hE hS hF (va_P.sub hP [1] rfl) ((va_D.sub hD [1] (by decide) rfl).weaken (fun _ _ _ _ => trivial)) trivial) rfl rfl hl.1 rfl (lv_room (Nat.le_of_ble_eq_true rfl)) dX3_init_2_9 ⟨show 0 + 1 + 0 ≤ 42 from by first | decide | omega, show 0 + 3 + 0 ≤ 2415 from by first | decide | omega⟩)
      (fun u_ H locs hq hph (hP : va_P G.1 CL [(o, .inr (2, [.null])), (a_1178, .inr (3, [.int (nI 0), .ref (G.2 99), .int (nI 0)]))] H) (hD : va_D A [(o, .inr (2, [.null])), (a_1178, .inr (3, [.int (nI 0), .ref (G.2 99), .int (nI 0)]))]) hS hfz hfk => ?_)
  refine W.eq (g2 := F0 m 12 ls [.ref a_1178, .ref o]) rfl ?_
  refine va_putF (v := .ref a_1178) (ty := (.object "java/util/ArrayList")) hx hb hts in_X3 tyX3 tyX3_ok nmX3 hown hK hP hD hS 0 rfl rfl 0 (by decide) (hts _ q130) (fun _ h => h) rfl hnm rfl (by decide +kernel) rfl rfl (Nat.le_of_ble_eq_true rfl) dX3_init_2_12 (fun H locs (hP : va_P G.1 CL [(o, .inr (2, [.ref a_1178])), (a_1178, .inr (3, [.int (nI 0), .ref (G.2 99), .int (nI 0)]))] H) (hD : va_D A [(o, .inr (2, [.ref a_1178])), (a_1178, .inr (3, [.int (nI 0), .ref (G.2 99), .int (nI 0)]))]) hS => ?_)
  refine lv_aload_n hx hb dX3_init_2_15 rfl (lv_at hl 1 rfl) ?_
  have hF := hF_of (wc := []) hD hS hA [] rfl
  refine go_ct hS hP hD [] [0, 1] hF rfl rfl (by decide) (by decide)
      (va_runV (As := []) (rest := []) cf (mX3_iterator l G ob  H.size) (cwV 0 hts (lw_V q480 q288 q289 q49 q290) rfl rfl rfl (by decide +kernel) ⟨Nat.le_of_ble_eq_true rfl, Nat.le_of_ble_eq_true rfl⟩) (preV_of hKB hE hS hF (va_recv hK (hR0.w hS) (ci := 2) (q0 := 0) rfl rfl) (va_P.sub hP [] rfl) ((va_D.sub hD [] (by decide) rfl).weaken (fun _ _ _ _ => trivial)) trivial) rfl rfl hl.1 rfl (lv_room (Nat.le_of_ble_eq_true rfl)) dX3_init_2_16 ⟨show 0 + 1 + 1 ≤ 42 from by first | decide | omega, show 0 + 3 + 2 ≤ 2415 from by first | decide | omega⟩)
      (fun u_ H locs hq hph (hP : va_P G.1 CL [(o, .inr (2, [.ref a_1178])), (a_1178, .inr (3, [.int (nI 0), .ref (G.2 99), .int (nI 0)])), (u_, .inr (7, [.int (nI 0), .ref ob]))] H) (hD : va_D A [(o, .inr (2, [.ref a_1178])), (a_1178, .inr (3, [.int (nI 0), .ref (G.2 99), .int (nI 0)])), (u_, .inr (7, [.int (nI 0), .ref ob]))]) hS hfz hfk => ?_)
  obtain ⟨qw_1179, rfl⟩ : ∃ z, z = u_ := ⟨_, rfl⟩
  have hP : va_P G.1 CL [(o, .inr (2, [.ref a_1178])), (a_1178, .inr (3, [.int (nI 0), .ref (G.2 99), .int (nI 0)])), (qw_1179, .inr (7, [.int (nI 0), .ref ob]))] H := hP
  have hD : va_D A [(o, .inr (2, [.ref a_1178])), (a_1178, .inr (3, [.int (nI 0), .ref (G.2 99), .int (nI 0)])), (qw_1179, .inr (7, [.int (nI 0), .ref ob]))] := hD
  refine W.eq (g2 := F0 m 19 ls [.ref qw_1179]) rfl ?_
  refine lv_astore_n (lv' := [(2, .ref qw_1179), (0, .ref o), (1, .ref ob)]) hx hb dX3_init_2_19 rfl hl (by decide) rfl (fun ls hl => ?_)
  refine lv_aload_n hx hb dX3_init_2_20 rfl (lv_at hl 0 rfl) ?_
  have hF := hF_of (wc := []) hD hS hA [] rfl
  have hro_1180 : va_P G.1 CL [(qw_1179, .inr (7, [.int (nI 0), .ref ob])), (ob, .inr (2, [.ref ab])), (ab, .inr (3, [.int mb, .ref eb, .int (nI k)])), (eb, .inl (G.2 3, capb, .inr (.inr (.inr (.inr fb)))))] H := ((va_P.sub hP [2] rfl).app ((hR0.w hS).sub [0, 1, 2] rfl))
  refine go_ct5 hS hP hD [] [0, 1, 2] hF rfl rfl (by decide) (by decide)
      (va_runF (hK.1 7 _ rfl).2 (As := []) (rest := []) cf (mX5_hasNext l G qw_1179 0 ob ab mb eb k capb fb (show k ≤ capb from by first | assumption | omega) (show capb ≤ 60 from by first | assumption | omega) (show 0 ≤ k from by first | assumption | omega) H.size) (va_cwF 0 hts (lw_F q482 q309 q311 q59 q313) rfl rfl rfl hKB.2.2.2.1 (by decide +kernel) ⟨Nat.le_of_ble_eq_true rfl, Nat.le_of_ble_eq_true rfl⟩) (preV_of hKB hE hS hF (va_recv hK hP (ci := 7) (q0 := 2) rfl rfl) (va_P.sub hP [] rfl) ((va_D.sub hD [] (by decide) rfl).weaken (fun _ _ _ _ => trivial)) (roW.nil hro_1180)) rfl rfl hl.1 rfl (lv_room (Nat.le_of_ble_eq_true rfl)) dX3_init_2_21 ⟨show 0 + 1 + 1 + 0 ≤ 42 from by first | decide | omega, show 0 + 3 + 2 + 0 ≤ 2415 from by first | decide | omega⟩)
      (fun u_ H locs hq hph (hP : va_P G.1 CL [(o, .inr (2, [.ref a_1178])), (a_1178, .inr (3, [.int (nI 0), .ref (G.2 99), .int (nI 0)])), (qw_1179, .inr (7, [.int (nI 0), .ref ob]))] H) (hD : va_D A [(o, .inr (2, [.ref a_1178])), (a_1178, .inr (3, [.int (nI 0), .ref (G.2 99), .int (nI 0)])), (qw_1179, .inr (7, [.int (nI 0), .ref ob]))]) hS hfz hfk => ?_)
  obtain ⟨b_1181, rfl⟩ : ∃ z, z = u_ := ⟨_, rfl⟩
  have hP : va_P G.1 CL [(o, .inr (2, [.ref a_1178])), (a_1178, .inr (3, [.int (nI 0), .ref (G.2 99), .int (nI 0)])), (qw_1179, .inr (7, [.int (nI 0), .ref ob]))] H := hP
  have hD : va_D A [(o, .inr (2, [.ref a_1178])), (a_1178, .inr (3, [.int (nI 0), .ref (G.2 99), .int (nI 0)])), (qw_1179, .inr (7, [.int (nI 0), .ref ob]))] := hD
  have hq_1182 : (b_1181 = true ↔ 0 < k) := hq
  refine W.eq (g2 := F0 m 26 ls [.int (bI b_1181)]) rfl ?_
  have hnb := hq_1182
  cases b_1181
  · refine lv_ton (n := 0) rfl ?_
    have hge9 : ¬ (0 < k) := fun z => absurd (hnb.mpr z) (by decide)
    refine n_if_eq (tgt := 52) hx hb (by omega) dX3_init_2_26 (by decide) (fun c_1183 => ?_) (fun c_1183 => absurd c_1183 (by omega))
    exact absurd hk1.1 (by omega)
  · refine lv_ton (n := 1) rfl ?_
    have hlt9 := hnb.mp rfl
    refine n_if_eq (tgt := 52) hx hb (by omega) dX3_init_2_26 (by decide) (fun c_1184 => absurd c_1184 (by omega)) (fun c_1184 => ?_)
    refine lv_aload_n hx hb dX3_init_2_29 rfl (lv_at hl 0 rfl) ?_
    obtain ⟨hg9, hgm9⟩ := hel 0 hlt9
    have hRm_1185 : roW G A s.heap [((ga 0), .inr (8, (vv 0)))] := hR1.mem (hgm9)
    have hF := hF_of (wc := [(qw_1179, .inr (7, [.int (nI 0), .ref ob]))]) hD hS hA [2] rfl
    have hro_1186 : roW G (va_A [(qw_1179, .inr (7, [.int (nI 0), .ref ob]))] H.size) H [(ob, .inr (2, [.ref ab])), (ab, .inr (3, [.int mb, .ref eb, .int (nI k)])), (eb, .inl (G.2 3, capb, .inr (.inr (.inr (.inr fb)))))] := ((hR0.kp hF hS.2.1).sub (ws' := [(ob, .inr (2, [.ref ab])), (ab, .inr (3, [.int mb, .ref eb, .int (nI k)])), (eb, .inl (G.2 3, capb, .inr (.inr (.inr (.inr fb)))))]) [0, 1, 2] rfl)
    refine go_ct5 hS hP hD [2] [0, 1] hF rfl rfl (by decide) (by decide)
        (va_runF (hK.1 7 _ rfl).2 (As := []) (rest := []) cf (mX5_nextT l G qw_1179 0 ob ab mb eb k capb fb (ga 0) (vv 0) Wi (show k ≤ capb from by first | assumption | omega) (show capb ≤ 60 from by first | assumption | omega) (show 0 < k from by first | assumption | omega) (hg9) (hgm9) H.size) (va_cwF 0 hts (lw_F q484 q319 q321 q59 q323) rfl rfl rfl hKB.2.2.2.2.1 (by decide +kernel) ⟨Nat.le_of_ble_eq_true rfl, Nat.le_of_ble_eq_true rfl⟩) (preV_of hKB hE hS hF (va_recv hK hP (ci := 7) (q0 := 2) rfl rfl) (va_P.sub hP [2] rfl) ((va_D.sub hD [2] (by decide) rfl).weaken (fun _ _ _ _ => trivial)) ⟨hro_1186, (hR1.kp hF hS.2.1)⟩) rfl rfl hl.1 rfl (lv_room (Nat.le_of_ble_eq_true rfl)) dX3_init_2_30 ⟨show 0 + 1 + 1 + 0 ≤ 42 from by first | decide | omega, show 0 + 3 + 2 + 0 ≤ 2415 from by first | decide | omega⟩)
        (fun u_ H locs hq hph (hP : va_P G.1 CL [(o, .inr (2, [.ref a_1178])), (a_1178, .inr (3, [.int (nI 0), .ref (G.2 99), .int (nI 0)])), (qw_1179, .inr (7, [.int (nI 1), .ref ob]))] H) (hD : va_D A [(o, .inr (2, [.ref a_1178])), (a_1178, .inr (3, [.int (nI 0), .ref (G.2 99), .int (nI 0)])), (qw_1179, .inr (7, [.int (nI 1), .ref ob]))]) hS hfz hfk => ?_)
    refine W.eq (g2 := F0 m 35 ls [.ref (ga 0)]) rfl ?_
    refine va_castY hx hb hown (hts _ q448) (hKB.nest q1985 rfl) (va_recv hK (hRm_1185.w hS) (ci := 8) (q0 := 0) rfl rfl) dX3_init_2_35 ?_
    refine lv_astore_n (lv' := [(3, .ref (ga 0)), (2, .ref qw_1179), (0, .ref o), (1, .ref ob)]) hx hb dX3_init_2_38 rfl hl (by decide) rfl (fun ls hl => ?_)
    refine lv_aload_n hx hb dX3_init_2_39 rfl (lv_at hl 2 rfl) ?_
    refine va_get hx hb hts in_X3 hown hK hP 0 rfl rfl 0 (by decide) (hts _ q130) (fun _ h => h) rfl dX3_init_2_40 ?_
    refine lv_aload_n hx hb dX3_init_2_43 rfl (lv_at hl 0 rfl) ?_
    have hF := hF_of (wc := [(a_1178, .inr (3, [.int (nI 0), .ref (G.2 99), .int (nI 0)]))]) hD hS hA [1] rfl
    refine go_ct hS hP hD [1] [0, 2] hF rfl rfl (by decide) (by decide)
        (va_runV (As := [.ref (ga 0)]) (rest := []) cf (mJ2_addE l G a_1178 (nI 0) (ga 0) Wi (⟨_, _, hgm9⟩) H.size) (cwV 1 hts (lw_V q485 q486 q487 q52 q488) rfl rfl rfl (by decide +kernel) ⟨Nat.le_of_ble_eq_true rfl, Nat.le_of_ble_eq_true rfl⟩) (preV_of hKB hE hS hF (va_recv hK hP (ci := 3) (q0 := 1) rfl rfl) (va_P.sub hP [1] rfl) ((va_D.sub hD [1] (by decide) rfl).weaken (fun _ _ _ _ => trivial)) (hR1.kp hF hS.2.1)) rfl rfl hl.1 rfl (lv_room (Nat.le_of_ble_eq_true rfl)) dX3_init_2_44 ⟨show 0 + 1 + 1 + 1 ≤ 42 from by first | decide | omega, show 0 + 3 + 2 + 10 ≤ 2415 from by first | decide | omega⟩)
        (fun u_ H locs hq hph (hP : va_P G.1 CL [(o, .inr (2, [.ref a_1178])), (qw_1179, .inr (7, [.int (nI 1), .ref ob])), (a_1178, .inr (3, [.int ((nI 0) + nI 1), .ref u_.1, .int (nI 1)])), (u_.1, .inl (G.2 3, 10, .inr (.inr (.inr (.inr u_.2)))))] H) (hD : va_D A [(o, .inr (2, [.ref a_1178])), (qw_1179, .inr (7, [.int (nI 1), .ref ob])), (a_1178, .inr (3, [.int ((nI 0) + nI 1), .ref u_.1, .int (nI 1)])), (u_.1, .inl (G.2 3, 10, .inr (.inr (.inr (.inr u_.2)))))]) hS hfz hfk => ?_)
    obtain ⟨ea2_1187, f2_1188⟩ := u_
    have hP : va_P G.1 CL [(o, .inr (2, [.ref a_1178])), (qw_1179, .inr (7, [.int (nI 1), .ref ob])), (a_1178, .inr (3, [.int ((nI 0) + nI 1), .ref ea2_1187, .int (nI 1)])), (ea2_1187, .inl (G.2 3, 10, .inr (.inr (.inr (.inr f2_1188)))))] H := hP
    have hD : va_D A [(o, .inr (2, [.ref a_1178])), (qw_1179, .inr (7, [.int (nI 1), .ref ob])), (a_1178, .inr (3, [.int ((nI 0) + nI 1), .ref ea2_1187, .int (nI 1)])), (ea2_1187, .inl (G.2 3, 10, .inr (.inr (.inr (.inr f2_1188)))))] := hD
    have hq_1189 : f2_1188 0 = some (ga 0) := hq
    refine W.eq (g2 := F0 m 47 ls [.int (nI 1)]) rfl ?_
    refine lv_istore (lv' := [(4, .int (nI 1)), (3, .ref (ga 0)), (2, .ref qw_1179), (0, .ref o), (1, .ref ob)]) hx hb dX3_init_2_47 hl (by decide) rfl (fun ls hl => ?_)
    refine lv_goto (tgt := 20) hx hb dX3_init_2_49 (by decide) ?_
    have hf0 : ∀ j, j < 1 → f2_1188 j = fb j := fun j hj => by rw [show j = 0 by omega]; exact hq_1189.trans (hel 0 (by omega)).1.symm
    have hl := lv_sub hl [3, 4, 2] (l' := [(0, .ref o), (1, .ref ob), (2, .ref qw_1179)]) rfl
    refine lp_W (σ := Nat × Int32 × Nat × Nat × (Nat → Option Nat)) (hpc := 20) (fun x => k - x.1) (fun x => 2 + x.1) (fun x => 15 + 60 * x.1) (fun x H locs ls => va_P G.1 CL [(o, .inr (2, [.ref a_1178])), (qw_1179, .inr (7, [.int (nI x.1), .ref ob])), (a_1178, .inr (3, [.int x.2.1, .ref x.2.2.1, .int (nI x.1)])), (x.2.2.1, .inl (G.2 3, x.2.2.2.1, .inr (.inr (.inr (.inr x.2.2.2.2)))))] H ∧ va_D A [(o, .inr (2, [.ref a_1178])), (qw_1179, .inr (7, [.int (nI x.1), .ref ob])), (a_1178, .inr (3, [.int x.2.1, .ref x.2.2.1, .int (nI x.1)])), (x.2.2.1, .inl (G.2 3, x.2.2.2.1, .inr (.inr (.inr (.inr x.2.2.2.2)))))] ∧ va_S A s.heap H locs ∧ lv_has ls 5 [(0, .ref o), (1, .ref ob), (2, .ref qw_1179)] ∧ (1 ≤ x.1 ∧ x.1 ≤ k) ∧ (x.1 ≤ x.2.2.2.1 ∧ 2 ≤ x.2.2.2.1 ∧ x.2.2.2.1 ≤ 60) ∧ (∀ j, j < x.1 → x.2.2.2.2 j = fb j)) ?_ (1, (nI 0) + nI 1, ea2_1187, 10, f2_1188) ⟨(show va_P G.1 CL [(o, .inr (2, [.ref a_1178])), (qw_1179, .inr (7, [.int (nI 1), .ref ob])), (a_1178, .inr (3, [.int ((nI 0) + nI 1), .ref ea2_1187, .int (nI 1)])), (ea2_1187, .inl (G.2 3, 10, .inr (.inr (.inr (.inr f2_1188)))))] H from hP), (show va_D A [(o, .inr (2, [.ref a_1178])), (qw_1179, .inr (7, [.int (nI 1), .ref ob])), (a_1178, .inr (3, [.int ((nI 0) + nI 1), .ref ea2_1187, .int (nI 1)])), (ea2_1187, .inl (G.2 3, 10, .inr (.inr (.inr (.inr f2_1188)))))] from hD), hS, hl, (show 1 ≤ 1 ∧ 1 ≤ k from by omega), (show 1 ≤ 10 ∧ 2 ≤ 10 ∧ 10 ≤ 60 from by omega), (show ∀ j, j < 1 → f2_1188 j = fb j from hf0)⟩ (show 0 + 1 + 1 + 1 ≤ 2 + 1 from by first | exact Nat.le_refl _ | omega) (show 0 + 3 + 2 + 10 ≤ 15 + 60 * 1 from by first | exact Nat.le_refl _ | omega)
    intro x H locs ls hI9 ih20
    obtain ⟨i_1193, m1_1194, e1_1195, cap1_1196, f1_1197⟩ := x
    obtain ⟨hP, hD, hS, hl, hp_1190, hp_1191, hp_1192⟩ := hI9
    have hP : va_P G.1 CL [(o, .inr (2, [.ref a_1178])), (qw_1179, .inr (7, [.int (nI i_1193), .ref ob])), (a_1178, .inr (3, [.int m1_1194, .ref e1_1195, .int (nI i_1193)])), (e1_1195, .inl (G.2 3, cap1_1196, .inr (.inr (.inr (.inr f1_1197)))))] H := hP
    have hD : va_D A [(o, .inr (2, [.ref a_1178])), (qw_1179, .inr (7, [.int (nI i_1193), .ref ob])), (a_1178, .inr (3, [.int m1_1194, .ref e1_1195, .int (nI i_1193)])), (e1_1195, .inl (G.2 3, cap1_1196, .inr (.inr (.inr (.inr f1_1197)))))] := hD
    have hl : lv_has ls 5 [(0, .ref o), (1, .ref ob), (2, .ref qw_1179)] := hl
    have hp_1190 : 1 ≤ i_1193 ∧ i_1193 ≤ k := hp_1190
    have hp_1191 : i_1193 ≤ cap1_1196 ∧ 2 ≤ cap1_1196 ∧ cap1_1196 ≤ 60 := hp_1191
    have hp_1192 : ∀ j, j < i_1193 → f1_1197 j = fb j := hp_1192
    refine W.widen (k := 2 + i_1193) (n := 15 + 60 * i_1193) (Nat.le_refl _) (Nat.le_refl _) ?_
    refine lv_aload_n hx hb dX3_init_2_20 rfl (lv_at hl 2 rfl) ?_
    have hF := hF_of (wc := []) hD hS hA [] rfl
    have hro_1198 : va_P G.1 CL [(qw_1179, .inr (7, [.int (nI i_1193), .ref ob])), (ob, .inr (2, [.ref ab])), (ab, .inr (3, [.int mb, .ref eb, .int (nI k)])), (eb, .inl (G.2 3, capb, .inr (.inr (.inr (.inr fb)))))] H := ((va_P.sub hP [1] rfl).app ((hR0.w hS).sub [0, 1, 2] rfl))
    refine go_ct5 hS hP hD [] [0, 1, 2, 3] hF rfl rfl (by decide) (by decide)
        (va_runF (hK.1 7 _ rfl).2 (As := []) (rest := []) cf (mX5_hasNext l G qw_1179 i_1193 ob ab mb eb k capb fb (show k ≤ capb from by first | assumption | omega) (show capb ≤ 60 from by first | assumption | omega) (show i_1193 ≤ k from by first | assumption | omega) H.size) (va_cwF 0 hts (lw_F q482 q309 q311 q59 q313) rfl rfl rfl hKB.2.2.2.1 (by decide +kernel) ⟨Nat.le_of_ble_eq_true rfl, Nat.le_of_ble_eq_true rfl⟩) (preV_of hKB hE hS hF (va_recv hK hP (ci := 7) (q0 := 1) rfl rfl) (va_P.sub hP [] rfl) ((va_D.sub hD [] (by decide) rfl).weaken (fun _ _ _ _ => trivial)) (roW.nil hro_1198)) rfl rfl hl.1 rfl (lv_room (Nat.le_of_ble_eq_true rfl)) dX3_init_2_21 ⟨show 2 + i_1193 + 0 ≤ 42 from by first | decide | omega, show 15 + 60 * i_1193 + 0 ≤ 2415 from by first | decide | omega⟩)
        (fun u_ H locs hq hph (hP : va_P G.1 CL [(o, .inr (2, [.ref a_1178])), (qw_1179, .inr (7, [.int (nI i_1193), .ref ob])), (a_1178, .inr (3, [.int m1_1194, .ref e1_1195, .int (nI i_1193)])), (e1_1195, .inl (G.2 3, cap1_1196, .inr (.inr (.inr (.inr f1_1197)))))] H) (hD : va_D A [(o, .inr (2, [.ref a_1178])), (qw_1179, .inr (7, [.int (nI i_1193), .ref ob])), (a_1178, .inr (3, [.int m1_1194, .ref e1_1195, .int (nI i_1193)])), (e1_1195, .inl (G.2 3, cap1_1196, .inr (.inr (.inr (.inr f1_1197)))))]) hS hfz hfk => ?_)
    obtain ⟨b_1199, rfl⟩ : ∃ z, z = u_ := ⟨_, rfl⟩
    have hP : va_P G.1 CL [(o, .inr (2, [.ref a_1178])), (qw_1179, .inr (7, [.int (nI i_1193), .ref ob])), (a_1178, .inr (3, [.int m1_1194, .ref e1_1195, .int (nI i_1193)])), (e1_1195, .inl (G.2 3, cap1_1196, .inr (.inr (.inr (.inr f1_1197)))))] H := hP
    have hD : va_D A [(o, .inr (2, [.ref a_1178])), (qw_1179, .inr (7, [.int (nI i_1193), .ref ob])), (a_1178, .inr (3, [.int m1_1194, .ref e1_1195, .int (nI i_1193)])), (e1_1195, .inl (G.2 3, cap1_1196, .inr (.inr (.inr (.inr f1_1197)))))] := hD
    have hq_1200 : (b_1199 = true ↔ i_1193 < k) := hq
    refine W.eq (g2 := F0 m 26 ls [.int (bI b_1199)]) rfl ?_
    have hnb := hq_1200
    cases b_1199
    · refine lv_ton (n := 0) rfl ?_
      have hge9 : ¬ (i_1193 < k) := fun z => absurd (hnb.mpr z) (by decide)
      refine n_if_eq (tgt := 52) hx hb (by omega) dX3_init_2_26 (by decide) (fun c_1201 => ?_) (fun c_1201 => absurd c_1201 (by omega))
      obtain rfl : i_1193 = k := by omega
      have hP9 : va_P G.1 CL [(o, .inr (2, [.ref a_1178])), (a_1178, .inr (3, [.int m1_1194, .ref e1_1195, .int (nI i_1193)])), (e1_1195, .inl (G.2 3, cap1_1196, .inr (.inr (.inr (.inr f1_1197)))))] H := hP.sub [0, 2, 3] rfl
      have hD9 : va_D A [(o, .inr (2, [.ref a_1178])), (a_1178, .inr (3, [.int m1_1194, .ref e1_1195, .int (nI i_1193)])), (e1_1195, .inl (G.2 3, cap1_1196, .inr (.inr (.inr (.inr f1_1197)))))] := hD.sub [0, 2, 3] (by decide) rfl
      exact end_v hx hb hr hlk (qc_of (a_1178, m1_1194, e1_1195, cap1_1196, f1_1197) (v := none) (by rfl) (⟨hp_1191.1, hp_1191.2.2, hp_1191.2.1, hp_1192⟩) hP9 hD9 (trivial) hS) hS dX3_init_2_52 (show 2 + i_1193 ≤ 42 from by first | exact Nat.le_refl _ | decide | omega) (show 15 + 60 * i_1193 ≤ 2415 from by first | exact Nat.le_refl _ | decide | omega)
    · refine lv_ton (n := 1) rfl ?_
      have hlt9 := hnb.mp rfl
      refine n_if_eq (tgt := 52) hx hb (by omega) dX3_init_2_26 (by decide) (fun c_1202 => absurd c_1202 (by omega)) (fun c_1202 => ?_)
      refine lv_aload_n hx hb dX3_init_2_29 rfl (lv_at hl 2 rfl) ?_
      obtain ⟨hg9, hgm9⟩ := hel i_1193 hlt9
      have hRm_1203 : roW G A s.heap [((ga i_1193), .inr (8, (vv i_1193)))] := hR1.mem (hgm9)
      have hF := hF_of (wc := [(qw_1179, .inr (7, [.int (nI i_1193), .ref ob]))]) hD hS hA [1] rfl
      have hro_1204 : roW G (va_A [(qw_1179, .inr (7, [.int (nI i_1193), .ref ob]))] H.size) H [(ob, .inr (2, [.ref ab])), (ab, .inr (3, [.int mb, .ref eb, .int (nI k)])), (eb, .inl (G.2 3, capb, .inr (.inr (.inr (.inr fb)))))] := ((hR0.kp hF hS.2.1).sub (ws' := [(ob, .inr (2, [.ref ab])), (ab, .inr (3, [.int mb, .ref eb, .int (nI k)])), (eb, .inl (G.2 3, capb, .inr (.inr (.inr (.inr fb)))))]) [0, 1, 2] rfl)
      refine go_ct5 hS hP hD [1] [0, 2, 3] hF rfl rfl (by decide) (by decide)
          (va_runF (hK.1 7 _ rfl).2 (As := []) (rest := []) cf (mX5_nextT l G qw_1179 i_1193 ob ab mb eb k capb fb (ga i_1193) (vv i_1193) Wi (show k ≤ capb from by first | assumption | omega) (show capb ≤ 60 from by first | assumption | omega) (show i_1193 < k from by first | assumption | omega) (hg9) (hgm9) H.size) (va_cwF 0 hts (lw_F q484 q319 q321 q59 q323) rfl rfl rfl hKB.2.2.2.2.1 (by decide +kernel) ⟨Nat.le_of_ble_eq_true rfl, Nat.le_of_ble_eq_true rfl⟩) (preV_of hKB hE hS hF (va_recv hK hP (ci := 7) (q0 := 1) rfl rfl) (va_P.sub hP [1] rfl) ((va_D.sub hD [1] (by decide) rfl).weaken (fun _ _ _ _ => trivial)) ⟨hro_1204, (hR1.kp hF hS.2.1)⟩) rfl rfl hl.1 rfl (lv_room (Nat.le_of_ble_eq_true rfl)) dX3_init_2_30 ⟨show 2 + i_1193 + 0 ≤ 42 from by first | decide | omega, show 15 + 60 * i_1193 + 0 ≤ 2415 from by first | decide | omega⟩)
          (fun u_ H locs hq hph (hP : va_P G.1 CL [(o, .inr (2, [.ref a_1178])), (a_1178, .inr (3, [.int m1_1194, .ref e1_1195, .int (nI i_1193)])), (e1_1195, .inl (G.2 3, cap1_1196, .inr (.inr (.inr (.inr f1_1197))))), (qw_1179, .inr (7, [.int (nI (i_1193 + 1)), .ref ob]))] H) (hD : va_D A [(o, .inr (2, [.ref a_1178])), (a_1178, .inr (3, [.int m1_1194, .ref e1_1195, .int (nI i_1193)])), (e1_1195, .inl (G.2 3, cap1_1196, .inr (.inr (.inr (.inr f1_1197))))), (qw_1179, .inr (7, [.int (nI (i_1193 + 1)), .ref ob]))]) hS hfz hfk => ?_)
      refine W.eq (g2 := F0 m 35 ls [.ref (ga i_1193)]) rfl ?_
      refine va_castY hx hb hown (hts _ q448) (hKB.nest q1985 rfl) (va_recv hK (hRm_1203.w hS) (ci := 8) (q0 := 0) rfl rfl) dX3_init_2_35 ?_
      refine lv_astore_n (lv' := [(3, .ref (ga i_1193)), (0, .ref o), (1, .ref ob), (2, .ref qw_1179)]) hx hb dX3_init_2_38 rfl hl (by decide) rfl (fun ls hl => ?_)
      refine lv_aload_n hx hb dX3_init_2_39 rfl (lv_at hl 1 rfl) ?_
      refine va_get hx hb hts in_X3 hown hK hP 0 rfl rfl 0 (by decide) (hts _ q130) (fun _ h => h) rfl dX3_init_2_40 ?_
      refine lv_aload_n hx hb dX3_init_2_43 rfl (lv_at hl 0 rfl) ?_
      have hF := hF_of (wc := [(a_1178, .inr (3, [.int m1_1194, .ref e1_1195, .int (nI i_1193)])), (e1_1195, .inl (G.2 3, cap1_1196, .inr (.inr (.inr (.inr f1_1197)))))]) hD hS hA [1, 2] rfl
      refine go_ct hS hP hD [1, 2] [0, 3] hF rfl rfl (by decide) (by decide)
          (va_runV (As := [.ref (ga i_1193)]) (rest := []) cf (mJ2_addO l G a_1178 m1_1194 e1_1195 i_1193 cap1_1196 f1_1197 (ga i_1193) Wi (by omega) (by omega) (fun j hj y hy => by rw [hp_1192 j hj, (hel j (by omega)).1] at hy; cases hy; exact ⟨_, _, (hel j (by omega)).2⟩) (⟨_, _, hgm9⟩) H.size) (cwV 1 hts (lw_V q485 q486 q487 q52 q488) rfl rfl rfl (by decide +kernel) ⟨Nat.le_of_ble_eq_true rfl, Nat.le_of_ble_eq_true rfl⟩) (preV_of hKB hE hS hF (va_recv hK hP (ci := 3) (q0 := 1) rfl rfl) (va_P.sub hP [1, 2] rfl) ((va_D.sub hD [1, 2] (by decide) rfl).weaken (fun _ _ _ _ => trivial)) (hR1.kp hF hS.2.1)) rfl rfl hl.1 rfl (lv_room (Nat.le_of_ble_eq_true rfl)) dX3_init_2_44 ⟨show 2 + i_1193 + 1 ≤ 42 from by first | decide | omega, show 15 + 60 * i_1193 + 60 ≤ 2415 from by first | decide | omega⟩)
          (fun u_ H locs hq hph (hP : va_P G.1 CL [(o, .inr (2, [.ref a_1178])), (qw_1179, .inr (7, [.int (nI (i_1193 + 1)), .ref ob])), (a_1178, .inr (3, [.int (m1_1194 + nI 1), .ref u_.1, .int (nI (i_1193 + 1))])), (u_.1, .inl (G.2 3, u_.2.1, .inr (.inr (.inr (.inr u_.2.2)))))] H) (hD : va_D A [(o, .inr (2, [.ref a_1178])), (qw_1179, .inr (7, [.int (nI (i_1193 + 1)), .ref ob])), (a_1178, .inr (3, [.int (m1_1194 + nI 1), .ref u_.1, .int (nI (i_1193 + 1))])), (u_.1, .inl (G.2 3, u_.2.1, .inr (.inr (.inr (.inr u_.2.2)))))]) hS hfz hfk => ?_)
      obtain ⟨ea2_1205, cap2_1206, f2_1207⟩ := u_
      have hP : va_P G.1 CL [(o, .inr (2, [.ref a_1178])), (qw_1179, .inr (7, [.int (nI (i_1193 + 1)), .ref ob])), (a_1178, .inr (3, [.int (m1_1194 + nI 1), .ref ea2_1205, .int (nI (i_1193 + 1))])), (ea2_1205, .inl (G.2 3, cap2_1206, .inr (.inr (.inr (.inr f2_1207)))))] H := hP
      have hD : va_D A [(o, .inr (2, [.ref a_1178])), (qw_1179, .inr (7, [.int (nI (i_1193 + 1)), .ref ob])), (a_1178, .inr (3, [.int (m1_1194 + nI 1), .ref ea2_1205, .int (nI (i_1193 + 1))])), (ea2_1205, .inl (G.2 3, cap2_1206, .inr (.inr (.inr (.inr f2_1207)))))] := hD
      obtain ⟨hq_1208, hq_1209, hq_1210, hq_1211, hq_1212⟩ : i_1193 < cap2_1206 ∧ cap2_1206 ≤ 60 ∧ 2 ≤ cap2_1206 ∧ (∀ j, j < i_1193 → f2_1207 j = f1_1197 j) ∧ f2_1207 i_1193 = some (ga i_1193) := hq
      refine W.eq (g2 := F0 m 47 ls [.int (nI 1)]) rfl ?_
      refine lv_istore (lv' := [(4, .int (nI 1)), (3, .ref (ga i_1193)), (0, .ref o), (1, .ref ob), (2, .ref qw_1179)]) hx hb dX3_init_2_47 hl (by decide) rfl (fun ls hl => ?_)
      refine lv_goto (tgt := 20) hx hb dX3_init_2_49 (by decide) ?_
      have hP : va_P G.1 CL [(o, .inr (2, [.ref a_1178])), (qw_1179, .inr (7, [.int (nI (i_1193 + 1)), .ref ob])), (a_1178, .inr (3, [.int (m1_1194 + nI 1), .ref ea2_1205, .int (nI (i_1193 + 1))])), (ea2_1205, .inl (G.2 3, cap2_1206, .inr (.inr (.inr (.inr f2_1207)))))] H := hP.sub [0, 1, 2, 3] rfl
      have hD : va_D A [(o, .inr (2, [.ref a_1178])), (qw_1179, .inr (7, [.int (nI (i_1193 + 1)), .ref ob])), (a_1178, .inr (3, [.int (m1_1194 + nI 1), .ref ea2_1205, .int (nI (i_1193 + 1))])), (ea2_1205, .inl (G.2 3, cap2_1206, .inr (.inr (.inr (.inr f2_1207)))))] := hD.sub [0, 1, 2, 3] (by decide) rfl
      have hl := lv_sub hl [2, 3, 4] (l' := [(0, .ref o), (1, .ref ob), (2, .ref qw_1179)]) rfl
      exact W.widen (show 2 + i_1193 + 1 ≤ 2 + (i_1193 + 1) from by first | exact Nat.le_refl _ | omega) (show 15 + 60 * i_1193 + 60 ≤ 15 + 60 * (i_1193 + 1) from by first | exact Nat.le_refl _ | omega) (ih20 ((i_1193 + 1), m1_1194 + nI 1, ea2_1205, cap2_1206, f2_1207) H locs ls ⟨hP, hD, hS, hl, (show 1 ≤ (i_1193 + 1) ∧ (i_1193 + 1) ≤ k from by omega), (show (i_1193 + 1) ≤ cap2_1206 ∧ 2 ≤ cap2_1206 ∧ cap2_1206 ≤ 60 from by omega), (show ∀ j, j < (i_1193 + 1) → f2_1207 j = fb j from fun j hj => (Nat.lt_succ_iff_lt_or_eq.mp hj).elim (fun h9 => (hq_1211 j h9).trans (hp_1192 j h9)) (fun e9 => by rw [e9]; exact hq_1212.trans (hel _ (by omega)).1.symm))⟩ (show k - (i_1193 + 1) < k - i_1193 from by omega))

set_option maxHeartbeats 4000000 in
theorem mX3_init_2S (l : Launch) (G : Gt) (o : Nat) (ob : Nat) (ab : Nat) (mb : Int32) (eb : Nat) (k : Nat) (capb : Nat) (fb : Nat → Option Nat) (ga : Nat → Nat) (vv : Nat → List Value) (Wi : va_W) (hk1 : 1 ≤ k ∧ k ≤ 40) (hk : k ≤ capb) (hcb : capb ≤ 60) (hel : ∀ j, j < k → fb j = some (ga j) ∧ (ga j, Sum.inr (9, vv j)) ∈ Wi) : CT l G yX3_init_2 cX3_init_2 5 none ({ frames := 7, cells := 42, slots := 2415, locals := 165 } : Room) [.ref o, .ref ob] [(o, .inr (2, [.null]))] (fun (A : Nat → Prop) (H : Heap) => roW G A H [(ob, .inr (2, [.ref ab])), (ab, .inr (3, [.int mb, .ref eb, .int (nI k)])), (eb, .inl (G.2 3, capb, .inr (.inr (.inr (.inr fb)))))] ∧ roW G A H Wi) (S := Nat × Int32 × Nat × Nat × (Nat → Option Nat)) (fun (u_ : Nat × Int32 × Nat × Nat × (Nat → Option Nat)) => (none : Option Value)) (fun (u_ : Nat × Int32 × Nat × Nat × (Nat → Option Nat)) => k ≤ u_.2.2.2.1 ∧ u_.2.2.2.1 ≤ 60 ∧ 2 ≤ u_.2.2.2.1 ∧ (∀ j, j < k → u_.2.2.2.2 j = fb j)) (fun (u_ : Nat × Int32 × Nat × Nat × (Nat → Option Nat)) => [(o, .inr (2, [.ref u_.1])), (u_.1, .inr (3, [.int u_.2.1, .ref u_.2.2.1, .int (nI k)])), (u_.2.2.1, .inl (G.2 3, u_.2.2.2.1, .inr (.inr (.inr (.inr u_.2.2.2.2)))))]) (fun (u_ : Nat × Int32 × Nat × Nat × (Nat → Option Nat)) (H : Heap) => True) := by
  refine CT.of (by decide) (Nat.le_of_ble_eq_true rfl) ?_
  intro p e s m below meth c ls A H locs h9 hH0 hP hS
  obtain ⟨cf, hr, hlk, hnm, hKB, hE, -, hD, -, hA, hAw, ⟨hR0, hR1⟩, hl⟩ := h9
  have hx := cf.1
  have hb := cf.2.1
  have hml := cf.2.2.1
  have hown : s.vm.findClass RX3 = some m.cls := cf.2.2.2.1
  have hts := cf.2.2.2.2
  have hK := hKB.1
  have hl : lv_has ls 5 [(0, .ref o), (1, .ref ob)] := hl
  refine lv_aload_n hx hb dX3_init_2_0 rfl (lv_at hl 0 rfl) ?_
  refine W.objInit hx hb hown (hts _ q102) (hts _ q89) (hts _ q90) rfl (by rw [hml]; exact hl.1) rfl dX3_init_2_1 (Nat.le_of_ble_eq_true rfl) (Nat.le_of_ble_eq_true rfl) ?_
  refine W.eq (g2 := F0 m 4 ls []) rfl ?_
  refine lv_aload_n hx hb dX3_init_2_4 rfl (lv_at hl 0 rfl) ?_
  refine va_new (ci := 3) (fs := [.int (nI 0), .null, .int (nI 0)]) hx hb hts in_J2 tyJ2 tyJ2_ok hown (hts _ q103) (hts _ q104) (hts _ q52) hK hP hD hS hA rfl (fun j hj => by rcases (show j = 0 ∨ j = 1 ∨ j = 2 by omega) with rfl | rfl | rfl <;> rfl) (show 0 + 1 ≤ 42 from by first | decide | omega) (show 0 + 3 ≤ 2415 from by first | decide | omega) dX3_init_2_5 (fun a_1213 H (hP : va_P G.1 CL [(o, .inr (2, [.null])), (a_1213, .inr (3, [.int (nI 0), .null, .int (nI 0)]))] H) (hD : va_D A [(o, .inr (2, [.null])), (a_1213, .inr (3, [.int (nI 0), .null, .int (nI 0)]))]) hS => ?_)
  refine lv_dup hx hb dX3_init_2_8 rfl ?_
  have hF := hF_of (wc := [(a_1213, .inr (3, [.int (nI 0), .null, .int (nI 0)]))]) hD hS hA [1] rfl
  refine go_ct hS hP hD [1] [0] hF rfl rfl (by decide) (by decide)
      (va_runI (As := []) (rest := [.ref a_1213, .ref o]) cf (mJ2_init l G a_1213  H.size) (cwI 0 hts (lw_meth q107) rfl rfl rfl (hts _ q52) (hts _ q105) (hts _ q106) rfl (by decide +kernel) ⟨Nat.le_of_ble_eq_true rfl, Nat.le_of_ble_eq_true rfl⟩) (preS_of hKB hE hS hF (va_P.sub hP [1] rfl) ((va_D.sub hD [1] (by decide) rfl).weaken (fun _ _ _ _ => trivial)) trivial) rfl rfl hl.1 rfl (lv_room (Nat.le_of_ble_eq_true rfl)) dX3_init_2_9 ⟨show 0 + 1 + 0 ≤ 42 from by first | decide | omega, show 0 + 3 + 0 ≤ 2415 from by first | decide | omega⟩)
      (fun u_ H locs hq hph (hP : va_P G.1 CL [(o, .inr (2, [.null])), (a_1213, .inr (3, [.int (nI 0), .ref (G.2 99), .int (nI 0)]))] H) (hD : va_D A [(o, .inr (2, [.null])), (a_1213, .inr (3, [.int (nI 0), .ref (G.2 99), .int (nI 0)]))]) hS hfz hfk => ?_)
  refine W.eq (g2 := F0 m 12 ls [.ref a_1213, .ref o]) rfl ?_
  refine va_putF (v := .ref a_1213) (ty := (.object "java/util/ArrayList")) hx hb hts in_X3 tyX3 tyX3_ok nmX3 hown hK hP hD hS 0 rfl rfl 0 (by decide) (hts _ q130) (fun _ h => h) rfl hnm rfl (by decide +kernel) rfl rfl (Nat.le_of_ble_eq_true rfl) dX3_init_2_12 (fun H locs (hP : va_P G.1 CL [(o, .inr (2, [.ref a_1213])), (a_1213, .inr (3, [.int (nI 0), .ref (G.2 99), .int (nI 0)]))] H) (hD : va_D A [(o, .inr (2, [.ref a_1213])), (a_1213, .inr (3, [.int (nI 0), .ref (G.2 99), .int (nI 0)]))]) hS => ?_)
  refine lv_aload_n hx hb dX3_init_2_15 rfl (lv_at hl 1 rfl) ?_
  have hF := hF_of (wc := []) hD hS hA [] rfl
  refine go_ct hS hP hD [] [0, 1] hF rfl rfl (by decide) (by decide)
      (va_runV (As := []) (rest := []) cf (mX3_iterator l G ob  H.size) (cwV 0 hts (lw_V q480 q288 q289 q49 q290) rfl rfl rfl (by decide +kernel) ⟨Nat.le_of_ble_eq_true rfl, Nat.le_of_ble_eq_true rfl⟩) (preV_of hKB hE hS hF (va_recv hK (hR0.w hS) (ci := 2) (q0 := 0) rfl rfl) (va_P.sub hP [] rfl) ((va_D.sub hD [] (by decide) rfl).weaken (fun _ _ _ _ => trivial)) trivial) rfl rfl hl.1 rfl (lv_room (Nat.le_of_ble_eq_true rfl)) dX3_init_2_16 ⟨show 0 + 1 + 1 ≤ 42 from by first | decide | omega, show 0 + 3 + 2 ≤ 2415 from by first | decide | omega⟩)
      (fun u_ H locs hq hph (hP : va_P G.1 CL [(o, .inr (2, [.ref a_1213])), (a_1213, .inr (3, [.int (nI 0), .ref (G.2 99), .int (nI 0)])), (u_, .inr (7, [.int (nI 0), .ref ob]))] H) (hD : va_D A [(o, .inr (2, [.ref a_1213])), (a_1213, .inr (3, [.int (nI 0), .ref (G.2 99), .int (nI 0)])), (u_, .inr (7, [.int (nI 0), .ref ob]))]) hS hfz hfk => ?_)
  obtain ⟨qw_1214, rfl⟩ : ∃ z, z = u_ := ⟨_, rfl⟩
  have hP : va_P G.1 CL [(o, .inr (2, [.ref a_1213])), (a_1213, .inr (3, [.int (nI 0), .ref (G.2 99), .int (nI 0)])), (qw_1214, .inr (7, [.int (nI 0), .ref ob]))] H := hP
  have hD : va_D A [(o, .inr (2, [.ref a_1213])), (a_1213, .inr (3, [.int (nI 0), .ref (G.2 99), .int (nI 0)])), (qw_1214, .inr (7, [.int (nI 0), .ref ob]))] := hD
  refine W.eq (g2 := F0 m 19 ls [.ref qw_1214]) rfl ?_
  refine lv_astore_n (lv' := [(2, .ref qw_1214), (0, .ref o), (1, .ref ob)]) hx hb dX3_init_2_19 rfl hl (by decide) rfl (fun ls hl => ?_)
  refine lv_aload_n hx hb dX3_init_2_20 rfl (lv_at hl 0 rfl) ?_
  have hF := hF_of (wc := []) hD hS hA [] rfl
  have hro_1215 : va_P G.1 CL [(qw_1214, .inr (7, [.int (nI 0), .ref ob])), (ob, .inr (2, [.ref ab])), (ab, .inr (3, [.int mb, .ref eb, .int (nI k)])), (eb, .inl (G.2 3, capb, .inr (.inr (.inr (.inr fb)))))] H := ((va_P.sub hP [2] rfl).app ((hR0.w hS).sub [0, 1, 2] rfl))
  refine go_ct5 hS hP hD [] [0, 1, 2] hF rfl rfl (by decide) (by decide)
      (va_runF (hK.1 7 _ rfl).2 (As := []) (rest := []) cf (mX5_hasNext l G qw_1214 0 ob ab mb eb k capb fb (show k ≤ capb from by first | assumption | omega) (show capb ≤ 60 from by first | assumption | omega) (show 0 ≤ k from by first | assumption | omega) H.size) (va_cwF 0 hts (lw_F q482 q309 q311 q59 q313) rfl rfl rfl hKB.2.2.2.1 (by decide +kernel) ⟨Nat.le_of_ble_eq_true rfl, Nat.le_of_ble_eq_true rfl⟩) (preV_of hKB hE hS hF (va_recv hK hP (ci := 7) (q0 := 2) rfl rfl) (va_P.sub hP [] rfl) ((va_D.sub hD [] (by decide) rfl).weaken (fun _ _ _ _ => trivial)) (roW.nil hro_1215)) rfl rfl hl.1 rfl (lv_room (Nat.le_of_ble_eq_true rfl)) dX3_init_2_21 ⟨show 0 + 1 + 1 + 0 ≤ 42 from by first | decide | omega, show 0 + 3 + 2 + 0 ≤ 2415 from by first | decide | omega⟩)
      (fun u_ H locs hq hph (hP : va_P G.1 CL [(o, .inr (2, [.ref a_1213])), (a_1213, .inr (3, [.int (nI 0), .ref (G.2 99), .int (nI 0)])), (qw_1214, .inr (7, [.int (nI 0), .ref ob]))] H) (hD : va_D A [(o, .inr (2, [.ref a_1213])), (a_1213, .inr (3, [.int (nI 0), .ref (G.2 99), .int (nI 0)])), (qw_1214, .inr (7, [.int (nI 0), .ref ob]))]) hS hfz hfk => ?_)
  obtain ⟨b_1216, rfl⟩ : ∃ z, z = u_ := ⟨_, rfl⟩
  have hP : va_P G.1 CL [(o, .inr (2, [.ref a_1213])), (a_1213, .inr (3, [.int (nI 0), .ref (G.2 99), .int (nI 0)])), (qw_1214, .inr (7, [.int (nI 0), .ref ob]))] H := hP
  have hD : va_D A [(o, .inr (2, [.ref a_1213])), (a_1213, .inr (3, [.int (nI 0), .ref (G.2 99), .int (nI 0)])), (qw_1214, .inr (7, [.int (nI 0), .ref ob]))] := hD
  have hq_1217 : (b_1216 = true ↔ 0 < k) := hq
  refine W.eq (g2 := F0 m 26 ls [.int (bI b_1216)]) rfl ?_
  have hnb := hq_1217
  cases b_1216
  · refine lv_ton (n := 0) rfl ?_
    have hge9 : ¬ (0 < k) := fun z => absurd (hnb.mpr z) (by decide)
    refine n_if_eq (tgt := 52) hx hb (by omega) dX3_init_2_26 (by decide) (fun c_1218 => ?_) (fun c_1218 => absurd c_1218 (by omega))
    exact absurd hk1.1 (by omega)
  · refine lv_ton (n := 1) rfl ?_
    have hlt9 := hnb.mp rfl
    refine n_if_eq (tgt := 52) hx hb (by omega) dX3_init_2_26 (by decide) (fun c_1219 => absurd c_1219 (by omega)) (fun c_1219 => ?_)
    refine lv_aload_n hx hb dX3_init_2_29 rfl (lv_at hl 0 rfl) ?_
    obtain ⟨hg9, hgm9⟩ := hel 0 hlt9
    have hRm_1220 : roW G A s.heap [((ga 0), .inr (9, (vv 0)))] := hR1.mem (hgm9)
    have hF := hF_of (wc := [(qw_1214, .inr (7, [.int (nI 0), .ref ob]))]) hD hS hA [2] rfl
    have hro_1221 : roW G (va_A [(qw_1214, .inr (7, [.int (nI 0), .ref ob]))] H.size) H [(ob, .inr (2, [.ref ab])), (ab, .inr (3, [.int mb, .ref eb, .int (nI k)])), (eb, .inl (G.2 3, capb, .inr (.inr (.inr (.inr fb)))))] := ((hR0.kp hF hS.2.1).sub (ws' := [(ob, .inr (2, [.ref ab])), (ab, .inr (3, [.int mb, .ref eb, .int (nI k)])), (eb, .inl (G.2 3, capb, .inr (.inr (.inr (.inr fb)))))]) [0, 1, 2] rfl)
    refine go_ct5 hS hP hD [2] [0, 1] hF rfl rfl (by decide) (by decide)
        (va_runF (hK.1 7 _ rfl).2 (As := []) (rest := []) cf (mX5_nextS l G qw_1214 0 ob ab mb eb k capb fb (ga 0) (vv 0) Wi (show k ≤ capb from by first | assumption | omega) (show capb ≤ 60 from by first | assumption | omega) (show 0 < k from by first | assumption | omega) (hg9) (hgm9) H.size) (va_cwF 0 hts (lw_F q484 q319 q321 q59 q323) rfl rfl rfl hKB.2.2.2.2.1 (by decide +kernel) ⟨Nat.le_of_ble_eq_true rfl, Nat.le_of_ble_eq_true rfl⟩) (preV_of hKB hE hS hF (va_recv hK hP (ci := 7) (q0 := 2) rfl rfl) (va_P.sub hP [2] rfl) ((va_D.sub hD [2] (by decide) rfl).weaken (fun _ _ _ _ => trivial)) ⟨hro_1221, (hR1.kp hF hS.2.1)⟩) rfl rfl hl.1 rfl (lv_room (Nat.le_of_ble_eq_true rfl)) dX3_init_2_30 ⟨show 0 + 1 + 1 + 0 ≤ 42 from by first | decide | omega, show 0 + 3 + 2 + 0 ≤ 2415 from by first | decide | omega⟩)
        (fun u_ H locs hq hph (hP : va_P G.1 CL [(o, .inr (2, [.ref a_1213])), (a_1213, .inr (3, [.int (nI 0), .ref (G.2 99), .int (nI 0)])), (qw_1214, .inr (7, [.int (nI 1), .ref ob]))] H) (hD : va_D A [(o, .inr (2, [.ref a_1213])), (a_1213, .inr (3, [.int (nI 0), .ref (G.2 99), .int (nI 0)])), (qw_1214, .inr (7, [.int (nI 1), .ref ob]))]) hS hfz hfk => ?_)
    refine W.eq (g2 := F0 m 35 ls [.ref (ga 0)]) rfl ?_
    refine va_castY hx hb hown (hts _ q448) (hKB.nest q1984 rfl) (va_recv hK (hRm_1220.w hS) (ci := 9) (q0 := 0) rfl rfl) dX3_init_2_35 ?_
    refine lv_astore_n (lv' := [(3, .ref (ga 0)), (2, .ref qw_1214), (0, .ref o), (1, .ref ob)]) hx hb dX3_init_2_38 rfl hl (by decide) rfl (fun ls hl => ?_)
    refine lv_aload_n hx hb dX3_init_2_39 rfl (lv_at hl 2 rfl) ?_
    refine va_get hx hb hts in_X3 hown hK hP 0 rfl rfl 0 (by decide) (hts _ q130) (fun _ h => h) rfl dX3_init_2_40 ?_
    refine lv_aload_n hx hb dX3_init_2_43 rfl (lv_at hl 0 rfl) ?_
    have hF := hF_of (wc := [(a_1213, .inr (3, [.int (nI 0), .ref (G.2 99), .int (nI 0)]))]) hD hS hA [1] rfl
    refine go_ct hS hP hD [1] [0, 2] hF rfl rfl (by decide) (by decide)
        (va_runV (As := [.ref (ga 0)]) (rest := []) cf (mJ2_addE l G a_1213 (nI 0) (ga 0) Wi (⟨_, _, hgm9⟩) H.size) (cwV 1 hts (lw_V q485 q486 q487 q52 q488) rfl rfl rfl (by decide +kernel) ⟨Nat.le_of_ble_eq_true rfl, Nat.le_of_ble_eq_true rfl⟩) (preV_of hKB hE hS hF (va_recv hK hP (ci := 3) (q0 := 1) rfl rfl) (va_P.sub hP [1] rfl) ((va_D.sub hD [1] (by decide) rfl).weaken (fun _ _ _ _ => trivial)) (hR1.kp hF hS.2.1)) rfl rfl hl.1 rfl (lv_room (Nat.le_of_ble_eq_true rfl)) dX3_init_2_44 ⟨show 0 + 1 + 1 + 1 ≤ 42 from by first | decide | omega, show 0 + 3 + 2 + 10 ≤ 2415 from by first | decide | omega⟩)
        (fun u_ H locs hq hph (hP : va_P G.1 CL [(o, .inr (2, [.ref a_1213])), (qw_1214, .inr (7, [.int (nI 1), .ref ob])), (a_1213, .inr (3, [.int ((nI 0) + nI 1), .ref u_.1, .int (nI 1)])), (u_.1, .inl (G.2 3, 10, .inr (.inr (.inr (.inr u_.2)))))] H) (hD : va_D A [(o, .inr (2, [.ref a_1213])), (qw_1214, .inr (7, [.int (nI 1), .ref ob])), (a_1213, .inr (3, [.int ((nI 0) + nI 1), .ref u_.1, .int (nI 1)])), (u_.1, .inl (G.2 3, 10, .inr (.inr (.inr (.inr u_.2)))))]) hS hfz hfk => ?_)
    obtain ⟨ea2_1222, f2_1223⟩ := u_
    have hP : va_P G.1 CL [(o, .inr (2, [.ref a_1213])), (qw_1214, .inr (7, [.int (nI 1), .ref ob])), (a_1213, .inr (3, [.int ((nI 0) + nI 1), .ref ea2_1222, .int (nI 1)])), (ea2_1222, .inl (G.2 3, 10, .inr (.inr (.inr (.inr f2_1223)))))] H := hP
    have hD : va_D A [(o, .inr (2, [.ref a_1213])), (qw_1214, .inr (7, [.int (nI 1), .ref ob])), (a_1213, .inr (3, [.int ((nI 0) + nI 1), .ref ea2_1222, .int (nI 1)])), (ea2_1222, .inl (G.2 3, 10, .inr (.inr (.inr (.inr f2_1223)))))] := hD
    have hq_1224 : f2_1223 0 = some (ga 0) := hq
    refine W.eq (g2 := F0 m 47 ls [.int (nI 1)]) rfl ?_
    refine lv_istore (lv' := [(4, .int (nI 1)), (3, .ref (ga 0)), (2, .ref qw_1214), (0, .ref o), (1, .ref ob)]) hx hb dX3_init_2_47 hl (by decide) rfl (fun ls hl => ?_)
    refine lv_goto (tgt := 20) hx hb dX3_init_2_49 (by decide) ?_
    have hf0 : ∀ j, j < 1 → f2_1223 j = fb j := fun j hj => by rw [show j = 0 by omega]; exact hq_1224.trans (hel 0 (by omega)).1.symm
    have hl := lv_sub hl [3, 4, 2] (l' := [(0, .ref o), (1, .ref ob), (2, .ref qw_1214)]) rfl
    refine lp_W (σ := Nat × Int32 × Nat × Nat × (Nat → Option Nat)) (hpc := 20) (fun x => k - x.1) (fun x => 2 + x.1) (fun x => 15 + 60 * x.1) (fun x H locs ls => va_P G.1 CL [(o, .inr (2, [.ref a_1213])), (qw_1214, .inr (7, [.int (nI x.1), .ref ob])), (a_1213, .inr (3, [.int x.2.1, .ref x.2.2.1, .int (nI x.1)])), (x.2.2.1, .inl (G.2 3, x.2.2.2.1, .inr (.inr (.inr (.inr x.2.2.2.2)))))] H ∧ va_D A [(o, .inr (2, [.ref a_1213])), (qw_1214, .inr (7, [.int (nI x.1), .ref ob])), (a_1213, .inr (3, [.int x.2.1, .ref x.2.2.1, .int (nI x.1)])), (x.2.2.1, .inl (G.2 3, x.2.2.2.1, .inr (.inr (.inr (.inr x.2.2.2.2)))))] ∧ va_S A s.heap H locs ∧ lv_has ls 5 [(0, .ref o), (1, .ref ob), (2, .ref qw_1214)] ∧ (1 ≤ x.1 ∧ x.1 ≤ k) ∧ (x.1 ≤ x.2.2.2.1 ∧ 2 ≤ x.2.2.2.1 ∧ x.2.2.2.1 ≤ 60) ∧ (∀ j, j < x.1 → x.2.2.2.2 j = fb j)) ?_ (1, (nI 0) + nI 1, ea2_1222, 10, f2_1223) ⟨(show va_P G.1 CL [(o, .inr (2, [.ref a_1213])), (qw_1214, .inr (7, [.int (nI 1), .ref ob])), (a_1213, .inr (3, [.int ((nI 0) + nI 1), .ref ea2_1222, .int (nI 1)])), (ea2_1222, .inl (G.2 3, 10, .inr (.inr (.inr (.inr f2_1223)))))] H from hP), (show va_D A [(o, .inr (2, [.ref a_1213])), (qw_1214, .inr (7, [.int (nI 1), .ref ob])), (a_1213, .inr (3, [.int ((nI 0) + nI 1), .ref ea2_1222, .int (nI 1)])), (ea2_1222, .inl (G.2 3, 10, .inr (.inr (.inr (.inr f2_1223)))))] from hD), hS, hl, (show 1 ≤ 1 ∧ 1 ≤ k from by omega), (show 1 ≤ 10 ∧ 2 ≤ 10 ∧ 10 ≤ 60 from by omega), (show ∀ j, j < 1 → f2_1223 j = fb j from hf0)⟩ (show 0 + 1 + 1 + 1 ≤ 2 + 1 from by first | exact Nat.le_refl _ | omega) (show 0 + 3 + 2 + 10 ≤ 15 + 60 * 1 from by first | exact Nat.le_refl _ | omega)
    intro x H locs ls hI9 ih20
    obtain ⟨i_1228, m1_1229, e1_1230, cap1_1231, f1_1232⟩ := x
    obtain ⟨hP, hD, hS, hl, hp_1225, hp_1226, hp_1227⟩ := hI9
    have hP : va_P G.1 CL [(o, .inr (2, [.ref a_1213])), (qw_1214, .inr (7, [.int (nI i_1228), .ref ob])), (a_1213, .inr (3, [.int m1_1229, .ref e1_1230, .int (nI i_1228)])), (e1_1230, .inl (G.2 3, cap1_1231, .inr (.inr (.inr (.inr f1_1232)))))] H := hP
    have hD : va_D A [(o, .inr (2, [.ref a_1213])), (qw_1214, .inr (7, [.int (nI i_1228), .ref ob])), (a_1213, .inr (3, [.int m1_1229, .ref e1_1230, .int (nI i_1228)])), (e1_1230, .inl (G.2 3, cap1_1231, .inr (.inr (.inr (.inr f1_1232)))))] := hD
    have hl : lv_has ls 5 [(0, .ref o), (1, .ref ob), (2, .ref qw_1214)] := hl
    have hp_1225 : 1 ≤ i_1228 ∧ i_1228 ≤ k := hp_1225
    have hp_1226 : i_1228 ≤ cap1_1231 ∧ 2 ≤ cap1_1231 ∧ cap1_1231 ≤ 60 := hp_1226
    have hp_1227 : ∀ j, j < i_1228 → f1_1232 j = fb j := hp_1227
    refine W.widen (k := 2 + i_1228) (n := 15 + 60 * i_1228) (Nat.le_refl _) (Nat.le_refl _) ?_
    refine lv_aload_n hx hb dX3_init_2_20 rfl (lv_at hl 2 rfl) ?_
    have hF := hF_of (wc := []) hD hS hA [] rfl
    have hro_1233 : va_P G.1 CL [(qw_1214, .inr (7, [.int (nI i_1228), .ref ob])), (ob, .inr (2, [.ref ab])), (ab, .inr (3, [.int mb, .ref eb, .int (nI k)])), (eb, .inl (G.2 3, capb, .inr (.inr (.inr (.inr fb)))))] H := ((va_P.sub hP [1] rfl).app ((hR0.w hS).sub [0, 1, 2] rfl))
    refine go_ct5 hS hP hD [] [0, 1, 2, 3] hF rfl rfl (by decide) (by decide)
        (va_runF (hK.1 7 _ rfl).2 (As := []) (rest := []) cf (mX5_hasNext l G qw_1214 i_1228 ob ab mb eb k capb fb (show k ≤ capb from by first | assumption | omega) (show capb ≤ 60 from by first | assumption | omega) (show i_1228 ≤ k from by first | assumption | omega) H.size) (va_cwF 0 hts (lw_F q482 q309 q311 q59 q313) rfl rfl rfl hKB.2.2.2.1 (by decide +kernel) ⟨Nat.le_of_ble_eq_true rfl, Nat.le_of_ble_eq_true rfl⟩) (preV_of hKB hE hS hF (va_recv hK hP (ci := 7) (q0 := 1) rfl rfl) (va_P.sub hP [] rfl) ((va_D.sub hD [] (by decide) rfl).weaken (fun _ _ _ _ => trivial)) (roW.nil hro_1233)) rfl rfl hl.1 rfl (lv_room (Nat.le_of_ble_eq_true rfl)) dX3_init_2_21 ⟨show 2 + i_1228 + 0 ≤ 42 from by first | decide | omega, show 15 + 60 * i_1228 + 0 ≤ 2415 from by first | decide | omega⟩)
        (fun u_ H locs hq hph (hP : va_P G.1 CL [(o, .inr (2, [.ref a_1213])), (qw_1214, .inr (7, [.int (nI i_1228), .ref ob])), (a_1213, .inr (3, [.int m1_1229, .ref e1_1230, .int (nI i_1228)])), (e1_1230, .inl (G.2 3, cap1_1231, .inr (.inr (.inr (.inr f1_1232)))))] H) (hD : va_D A [(o, .inr (2, [.ref a_1213])), (qw_1214, .inr (7, [.int (nI i_1228), .ref ob])), (a_1213, .inr (3, [.int m1_1229, .ref e1_1230, .int (nI i_1228)])), (e1_1230, .inl (G.2 3, cap1_1231, .inr (.inr (.inr (.inr f1_1232)))))]) hS hfz hfk => ?_)
    obtain ⟨b_1234, rfl⟩ : ∃ z, z = u_ := ⟨_, rfl⟩
    have hP : va_P G.1 CL [(o, .inr (2, [.ref a_1213])), (qw_1214, .inr (7, [.int (nI i_1228), .ref ob])), (a_1213, .inr (3, [.int m1_1229, .ref e1_1230, .int (nI i_1228)])), (e1_1230, .inl (G.2 3, cap1_1231, .inr (.inr (.inr (.inr f1_1232)))))] H := hP
    have hD : va_D A [(o, .inr (2, [.ref a_1213])), (qw_1214, .inr (7, [.int (nI i_1228), .ref ob])), (a_1213, .inr (3, [.int m1_1229, .ref e1_1230, .int (nI i_1228)])), (e1_1230, .inl (G.2 3, cap1_1231, .inr (.inr (.inr (.inr f1_1232)))))] := hD
    have hq_1235 : (b_1234 = true ↔ i_1228 < k) := hq
    refine W.eq (g2 := F0 m 26 ls [.int (bI b_1234)]) rfl ?_
    have hnb := hq_1235
    cases b_1234
    · refine lv_ton (n := 0) rfl ?_
      have hge9 : ¬ (i_1228 < k) := fun z => absurd (hnb.mpr z) (by decide)
      refine n_if_eq (tgt := 52) hx hb (by omega) dX3_init_2_26 (by decide) (fun c_1236 => ?_) (fun c_1236 => absurd c_1236 (by omega))
      obtain rfl : i_1228 = k := by omega
      have hP9 : va_P G.1 CL [(o, .inr (2, [.ref a_1213])), (a_1213, .inr (3, [.int m1_1229, .ref e1_1230, .int (nI i_1228)])), (e1_1230, .inl (G.2 3, cap1_1231, .inr (.inr (.inr (.inr f1_1232)))))] H := hP.sub [0, 2, 3] rfl
      have hD9 : va_D A [(o, .inr (2, [.ref a_1213])), (a_1213, .inr (3, [.int m1_1229, .ref e1_1230, .int (nI i_1228)])), (e1_1230, .inl (G.2 3, cap1_1231, .inr (.inr (.inr (.inr f1_1232)))))] := hD.sub [0, 2, 3] (by decide) rfl
      exact end_v hx hb hr hlk (qc_of (a_1213, m1_1229, e1_1230, cap1_1231, f1_1232) (v := none) (by rfl) (⟨hp_1226.1, hp_1226.2.2, hp_1226.2.1, hp_1227⟩) hP9 hD9 (trivial) hS) hS dX3_init_2_52 (show 2 + i_1228 ≤ 42 from by first | exact Nat.le_refl _ | decide | omega) (show 15 + 60 * i_1228 ≤ 2415 from by first | exact Nat.le_refl _ | decide | omega)
    · refine lv_ton (n := 1) rfl ?_
      have hlt9 := hnb.mp rfl
      refine n_if_eq (tgt := 52) hx hb (by omega) dX3_init_2_26 (by decide) (fun c_1237 => absurd c_1237 (by omega)) (fun c_1237 => ?_)
      refine lv_aload_n hx hb dX3_init_2_29 rfl (lv_at hl 2 rfl) ?_
      obtain ⟨hg9, hgm9⟩ := hel i_1228 hlt9
      have hRm_1238 : roW G A s.heap [((ga i_1228), .inr (9, (vv i_1228)))] := hR1.mem (hgm9)
      have hF := hF_of (wc := [(qw_1214, .inr (7, [.int (nI i_1228), .ref ob]))]) hD hS hA [1] rfl
      have hro_1239 : roW G (va_A [(qw_1214, .inr (7, [.int (nI i_1228), .ref ob]))] H.size) H [(ob, .inr (2, [.ref ab])), (ab, .inr (3, [.int mb, .ref eb, .int (nI k)])), (eb, .inl (G.2 3, capb, .inr (.inr (.inr (.inr fb)))))] := ((hR0.kp hF hS.2.1).sub (ws' := [(ob, .inr (2, [.ref ab])), (ab, .inr (3, [.int mb, .ref eb, .int (nI k)])), (eb, .inl (G.2 3, capb, .inr (.inr (.inr (.inr fb)))))]) [0, 1, 2] rfl)
      refine go_ct5 hS hP hD [1] [0, 2, 3] hF rfl rfl (by decide) (by decide)
          (va_runF (hK.1 7 _ rfl).2 (As := []) (rest := []) cf (mX5_nextS l G qw_1214 i_1228 ob ab mb eb k capb fb (ga i_1228) (vv i_1228) Wi (show k ≤ capb from by first | assumption | omega) (show capb ≤ 60 from by first | assumption | omega) (show i_1228 < k from by first | assumption | omega) (hg9) (hgm9) H.size) (va_cwF 0 hts (lw_F q484 q319 q321 q59 q323) rfl rfl rfl hKB.2.2.2.2.1 (by decide +kernel) ⟨Nat.le_of_ble_eq_true rfl, Nat.le_of_ble_eq_true rfl⟩) (preV_of hKB hE hS hF (va_recv hK hP (ci := 7) (q0 := 1) rfl rfl) (va_P.sub hP [1] rfl) ((va_D.sub hD [1] (by decide) rfl).weaken (fun _ _ _ _ => trivial)) ⟨hro_1239, (hR1.kp hF hS.2.1)⟩) rfl rfl hl.1 rfl (lv_room (Nat.le_of_ble_eq_true rfl)) dX3_init_2_30 ⟨show 2 + i_1228 + 0 ≤ 42 from by first | decide | omega, show 15 + 60 * i_1228 + 0 ≤ 2415 from by first | decide | omega⟩)
          (fun u_ H locs hq hph (hP : va_P G.1 CL [(o, .inr (2, [.ref a_1213])), (a_1213, .inr (3, [.int m1_1229, .ref e1_1230, .int (nI i_1228)])), (e1_1230, .inl (G.2 3, cap1_1231, .inr (.inr (.inr (.inr f1_1232))))), (qw_1214, .inr (7, [.int (nI (i_1228 + 1)), .ref ob]))] H) (hD : va_D A [(o, .inr (2, [.ref a_1213])), (a_1213, .inr (3, [.int m1_1229, .ref e1_1230, .int (nI i_1228)])), (e1_1230, .inl (G.2 3, cap1_1231, .inr (.inr (.inr (.inr f1_1232))))), (qw_1214, .inr (7, [.int (nI (i_1228 + 1)), .ref ob]))]) hS hfz hfk => ?_)
      refine W.eq (g2 := F0 m 35 ls [.ref (ga i_1228)]) rfl ?_
      refine va_castY hx hb hown (hts _ q448) (hKB.nest q1984 rfl) (va_recv hK (hRm_1238.w hS) (ci := 9) (q0 := 0) rfl rfl) dX3_init_2_35 ?_
      refine lv_astore_n (lv' := [(3, .ref (ga i_1228)), (0, .ref o), (1, .ref ob), (2, .ref qw_1214)]) hx hb dX3_init_2_38 rfl hl (by decide) rfl (fun ls hl => ?_)
      refine lv_aload_n hx hb dX3_init_2_39 rfl (lv_at hl 1 rfl) ?_
      refine va_get hx hb hts in_X3 hown hK hP 0 rfl rfl 0 (by decide) (hts _ q130) (fun _ h => h) rfl dX3_init_2_40 ?_
      refine lv_aload_n hx hb dX3_init_2_43 rfl (lv_at hl 0 rfl) ?_
      have hF := hF_of (wc := [(a_1213, .inr (3, [.int m1_1229, .ref e1_1230, .int (nI i_1228)])), (e1_1230, .inl (G.2 3, cap1_1231, .inr (.inr (.inr (.inr f1_1232)))))]) hD hS hA [1, 2] rfl
      refine go_ct hS hP hD [1, 2] [0, 3] hF rfl rfl (by decide) (by decide)
          (va_runV (As := [.ref (ga i_1228)]) (rest := []) cf (mJ2_addO l G a_1213 m1_1229 e1_1230 i_1228 cap1_1231 f1_1232 (ga i_1228) Wi (by omega) (by omega) (fun j hj y hy => by rw [hp_1227 j hj, (hel j (by omega)).1] at hy; cases hy; exact ⟨_, _, (hel j (by omega)).2⟩) (⟨_, _, hgm9⟩) H.size) (cwV 1 hts (lw_V q485 q486 q487 q52 q488) rfl rfl rfl (by decide +kernel) ⟨Nat.le_of_ble_eq_true rfl, Nat.le_of_ble_eq_true rfl⟩) (preV_of hKB hE hS hF (va_recv hK hP (ci := 3) (q0 := 1) rfl rfl) (va_P.sub hP [1, 2] rfl) ((va_D.sub hD [1, 2] (by decide) rfl).weaken (fun _ _ _ _ => trivial)) (hR1.kp hF hS.2.1)) rfl rfl hl.1 rfl (lv_room (Nat.le_of_ble_eq_true rfl)) dX3_init_2_44 ⟨show 2 + i_1228 + 1 ≤ 42 from by first | decide | omega, show 15 + 60 * i_1228 + 60 ≤ 2415 from by first | decide | omega⟩)
          (fun u_ H locs hq hph (hP : va_P G.1 CL [(o, .inr (2, [.ref a_1213])), (qw_1214, .inr (7, [.int (nI (i_1228 + 1)), .ref ob])), (a_1213, .inr (3, [.int (m1_1229 + nI 1), .ref u_.1, .int (nI (i_1228 + 1))])), (u_.1, .inl (G.2 3, u_.2.1, .inr (.inr (.inr (.inr u_.2.2)))))] H) (hD : va_D A [(o, .inr (2, [.ref a_1213])), (qw_1214, .inr (7, [.int (nI (i_1228 + 1)), .ref ob])), (a_1213, .inr (3, [.int (m1_1229 + nI 1), .ref u_.1, .int (nI (i_1228 + 1))])), (u_.1, .inl (G.2 3, u_.2.1, .inr (.inr (.inr (.inr u_.2.2)))))]) hS hfz hfk => ?_)
      obtain ⟨ea2_1240, cap2_1241, f2_1242⟩ := u_
      have hP : va_P G.1 CL [(o, .inr (2, [.ref a_1213])), (qw_1214, .inr (7, [.int (nI (i_1228 + 1)), .ref ob])), (a_1213, .inr (3, [.int (m1_1229 + nI 1), .ref ea2_1240, .int (nI (i_1228 + 1))])), (ea2_1240, .inl (G.2 3, cap2_1241, .inr (.inr (.inr (.inr f2_1242)))))] H := hP
      have hD : va_D A [(o, .inr (2, [.ref a_1213])), (qw_1214, .inr (7, [.int (nI (i_1228 + 1)), .ref ob])), (a_1213, .inr (3, [.int (m1_1229 + nI 1), .ref ea2_1240, .int (nI (i_1228 + 1))])), (ea2_1240, .inl (G.2 3, cap2_1241, .inr (.inr (.inr (.inr f2_1242)))))] := hD
      obtain ⟨hq_1243, hq_1244, hq_1245, hq_1246, hq_1247⟩ : i_1228 < cap2_1241 ∧ cap2_1241 ≤ 60 ∧ 2 ≤ cap2_1241 ∧ (∀ j, j < i_1228 → f2_1242 j = f1_1232 j) ∧ f2_1242 i_1228 = some (ga i_1228) := hq
      refine W.eq (g2 := F0 m 47 ls [.int (nI 1)]) rfl ?_
      refine lv_istore (lv' := [(4, .int (nI 1)), (3, .ref (ga i_1228)), (0, .ref o), (1, .ref ob), (2, .ref qw_1214)]) hx hb dX3_init_2_47 hl (by decide) rfl (fun ls hl => ?_)
      refine lv_goto (tgt := 20) hx hb dX3_init_2_49 (by decide) ?_
      have hP : va_P G.1 CL [(o, .inr (2, [.ref a_1213])), (qw_1214, .inr (7, [.int (nI (i_1228 + 1)), .ref ob])), (a_1213, .inr (3, [.int (m1_1229 + nI 1), .ref ea2_1240, .int (nI (i_1228 + 1))])), (ea2_1240, .inl (G.2 3, cap2_1241, .inr (.inr (.inr (.inr f2_1242)))))] H := hP.sub [0, 1, 2, 3] rfl
      have hD : va_D A [(o, .inr (2, [.ref a_1213])), (qw_1214, .inr (7, [.int (nI (i_1228 + 1)), .ref ob])), (a_1213, .inr (3, [.int (m1_1229 + nI 1), .ref ea2_1240, .int (nI (i_1228 + 1))])), (ea2_1240, .inl (G.2 3, cap2_1241, .inr (.inr (.inr (.inr f2_1242)))))] := hD.sub [0, 1, 2, 3] (by decide) rfl
      have hl := lv_sub hl [2, 3, 4] (l' := [(0, .ref o), (1, .ref ob), (2, .ref qw_1214)]) rfl
      exact W.widen (show 2 + i_1228 + 1 ≤ 2 + (i_1228 + 1) from by first | exact Nat.le_refl _ | omega) (show 15 + 60 * i_1228 + 60 ≤ 15 + 60 * (i_1228 + 1) from by first | exact Nat.le_refl _ | omega) (ih20 ((i_1228 + 1), m1_1229 + nI 1, ea2_1240, cap2_1241, f2_1242) H locs ls ⟨hP, hD, hS, hl, (show 1 ≤ (i_1228 + 1) ∧ (i_1228 + 1) ≤ k from by omega), (show (i_1228 + 1) ≤ cap2_1241 ∧ 2 ≤ cap2_1241 ∧ cap2_1241 ≤ 60 from by omega), (show ∀ j, j < (i_1228 + 1) → f2_1242 j = fb j from fun j hj => (Nat.lt_succ_iff_lt_or_eq.mp hj).elim (fun h9 => (hq_1246 j h9).trans (hp_1227 j h9)) (fun e9 => by rw [e9]; exact hq_1247.trans (hel _ (by omega)).1.symm))⟩ (show k - (i_1228 + 1) < k - i_1228 from by omega))
