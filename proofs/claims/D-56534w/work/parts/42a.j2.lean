/-! the JDK: queues, text -/
set_option maxRecDepth 100000
theorem sub17 : ∀ hd, hd < 17 → ∀ k, k < 17 → 17 ≤ hd + k → (nI (hd + k - 17) - nI hd < 0 ∧ nI (hd + k - 17) - nI hd + nI 17 = nI k) := by decide +kernel
theorem lw_SU {own : String} {idx : Nat} {y : MethodName} {b : ByteArray} {L : Nat} {r : Option FieldType} (h1 : Cond.methodLink own idx y ∈ lw_all) (h2 : Cond.sameMethod y.cls y.cls y.name y.desc ∈ lw_all) (h3 : Cond.superclass own y.cls ∈ lw_all) (h4 : Cond.instanceMethod y ∈ lw_all) (h5 : Cond.initialized y.cls ∈ lw_all) (h6 : Cond.code y b L r ∈ lw_all) : GoodIn lw_all (va_wsSU own idx y (ws_ y b L r)) := by
  refine lw_app ?_ (lw_meth h6)
  intro w hw
  simp only [List.mem_cons, List.not_mem_nil, or_false] at hw
  rcases hw with e | e | e | e | e
  · rw [e]; exact h1
  · rw [e]; exact h2
  · rw [e]; exact h3
  · rw [e]; exact h4
  · rw [e]; exact h5
theorem r_ldcwS {p : Program} {l : Launch} {e : Env} {R : Room} {s : State} {m : MethodId} {args : Array Value} {below : List Frame} {meth : Method} {c : Code} {H : Heap} {locs : List Loc} {cells slots : Nat} {Q : State → Prop} {cc : ByteArray} {pc : Nat} {ls : Array Slot} {rest : List Value} (hexec : p.tables.exec = Jvm.exec) (hb : c.code = cc) {own tx : String} {index q : Nat} (hown : s.vm.findClass own = some m.cls) (hZ : vk_R own index tx q s) (hdg : decode cc pc = .ok (.ldc_w index, 3))
    (k : W p l e R s m args below meth c H locs cells slots Q (F0 m (pc + 3) ls (.ref q :: rest))) : W p l e R s m args below meth c H locs cells slots Q (F0 m pc ls rest) := by
  intro T hT X
  obtain ⟨t, a1, b1⟩ := k T hT X
  exact ⟨t, X.ldcStringW hexec hown (text := tx) (a := q) hZ.1 hZ.2 (g := F0 m pc ls rest) rfl (by rw [hb]; exact hdg) t a1, b1⟩

set_option maxHeartbeats 4000000 in
theorem mJ3_init (l : Launch) (G : Gt) (q : Nat) : CT l G yJ3_init cJ3_init 1 none ({ frames := 2, cells := 1, slots := 17, locals := 32 } : Room) [.ref q] [(q, .inr (4, [.null, .int (nI 0), .int (nI 0)]))] RH0 (S := Nat) (fun (u_ : Nat) => (none : Option Value)) (fun (u_ : Nat) => True) (fun (u_ : Nat) => [(q, .inr (4, [.ref u_, .int (nI 0), .int (nI 0)])), (u_, .inl (G.2 3, 17, .inr (.inr (.inr (.inr (fun _ => none))))))]) (fun (u_ : Nat) (H : Heap) => True) := by
  refine CT.of (by decide) (Nat.le_of_ble_eq_true rfl) ?_
  intro p e s m below meth c ls A H locs h9 hH0 hP hS
  obtain ⟨cf, hr, hlk, hnm, hKB, hE, -, hD, -, hA, hAw, hRH, hl⟩ := h9
  have hx := cf.1
  have hb := cf.2.1
  have hml := cf.2.2.1
  have hown : s.vm.findClass RJ3 = some m.cls := cf.2.2.2.1
  have hts := cf.2.2.2.2
  have hK := hKB.1
  have hl : lv_has ls 1 [(0, .ref q)] := hl
  refine lv_aload_n hx hb dJ3_init_0 rfl (lv_at hl 0 rfl) ?_
  have hF := hF_of (wc := []) hD hS hA [] rfl
  refine go_ct hS hP hD [] [0] hF rfl rfl (by decide) (by decide)
      (va_runI (As := []) (rest := []) cf (mJ0_init l G q  H.size) (cwI 0 hts (lw_meth q113) rfl rfl rfl (hts _ q50) (hts _ q192) (hts _ q112) rfl (by decide +kernel) ⟨Nat.le_of_ble_eq_true rfl, Nat.le_of_ble_eq_true rfl⟩) (preS_of hKB hE hS hF (va_P.sub hP [] rfl) ((va_D.sub hD [] (by decide) rfl).weaken (fun _ _ _ _ => trivial)) trivial) rfl rfl hl.1 rfl (lv_room (Nat.le_of_ble_eq_true rfl)) dJ3_init_1 ⟨show 0 + 0 ≤ 1 from by first | decide | omega, show 0 + 0 ≤ 17 from by first | decide | omega⟩)
      (fun u_ H locs hq hph (hP : va_P G.1 CL [(q, .inr (4, [.null, .int (nI 0), .int (nI 0)]))] H) (hD : va_D A [(q, .inr (4, [.null, .int (nI 0), .int (nI 0)]))]) hS hfz hfk => ?_)
  refine W.eq (g2 := F0 m 4 ls []) rfl ?_
  refine lv_aload_n hx hb dJ3_init_4 rfl (lv_at hl 0 rfl) ?_
  refine lv_bipush (v := nI 17) hx hb dJ3_init_5 (by decide) ?_
  refine r_newa_O (n := 17) hx hb hown (hts _ q193) hKB hP hD hS hA (by omega) (show 0 + 1 ≤ 1 from by first | decide | omega) (show 0 + 17 ≤ 17 from by first | decide | omega) dJ3_init_7 (fun a_2038 H (hP : va_P G.1 CL [(q, .inr (4, [.null, .int (nI 0), .int (nI 0)])), (a_2038, .inl (G.2 3, 17, .inr (.inr (.inr (.inr (fun _ => none))))))] H) (hD : va_D A [(q, .inr (4, [.null, .int (nI 0), .int (nI 0)])), (a_2038, .inl (G.2 3, 17, .inr (.inr (.inr (.inr (fun _ => none))))))]) hS => ?_)
  refine va_put (v := .ref a_2038) (ty := (.array (.object "java/lang/Object"))) hx hb hts in_J3 tyJ3 tyJ3_ok nmJ3 hown hK hP hD hS 0 rfl rfl 0 (by decide) (hts _ q195) (fun _ h => h) rfl (by decide +kernel) rfl rfl (Nat.le_of_ble_eq_true rfl) dJ3_init_10 (fun H locs (hP : va_P G.1 CL [(q, .inr (4, [.ref a_2038, .int (nI 0), .int (nI 0)])), (a_2038, .inl (G.2 3, 17, .inr (.inr (.inr (.inr (fun _ => none))))))] H) (hD : va_D A [(q, .inr (4, [.ref a_2038, .int (nI 0), .int (nI 0)])), (a_2038, .inl (G.2 3, 17, .inr (.inr (.inr (.inr (fun _ => none))))))]) hS => ?_)
  have hP9 : va_P G.1 CL [(q, .inr (4, [.ref a_2038, .int (nI 0), .int (nI 0)])), (a_2038, .inl (G.2 3, 17, .inr (.inr (.inr (.inr (fun _ => none))))))] H := hP.sub [0, 1] rfl
  have hD9 : va_D A [(q, .inr (4, [.ref a_2038, .int (nI 0), .int (nI 0)])), (a_2038, .inl (G.2 3, 17, .inr (.inr (.inr (.inr (fun _ => none))))))] := hD.sub [0, 1] (by decide) rfl
  exact end_v hx hb hr hlk (qc_of a_2038 (v := none) (by rfl) (trivial) hP9 hD9 (trivial) hS) hS dJ3_init_13 (show 0 + 1 ≤ 1 from by first | exact Nat.le_refl _ | decide | omega) (show 0 + 17 ≤ 17 from by first | exact Nat.le_refl _ | decide | omega)

set_option maxHeartbeats 4000000 in
theorem mJ3_inc (l : Launch) (G : Gt) (i : Nat) (hi : i < 17) : CT l G yJ3_inc cJ3_inc 2 (some .int) ({ frames := 1, cells := 0, slots := 0, locals := 12 } : Room) [.int (nI i), .int (nI 17)] [] RH0 (S := Unit) (fun (u_ : Unit) => some (.int (nI ((i + 1) % 17)))) (fun (u_ : Unit) => True) (fun (u_ : Unit) => []) (fun (u_ : Unit) (H : Heap) => True) := by
  refine CT.of (by decide) (Nat.le_of_ble_eq_true rfl) ?_
  intro p e s m below meth c ls A H locs h9 hH0 hP hS
  obtain ⟨cf, hr, hlk, hnm, hKB, hE, -, hD, -, hA, hAw, hRH, hl⟩ := h9
  have hx := cf.1
  have hb := cf.2.1
  have hml := cf.2.2.1
  have hown : s.vm.findClass RJ3 = some m.cls := cf.2.2.2.1
  have hts := cf.2.2.2.2
  have hK := hKB.1
  have hl : lv_has ls 2 [(0, .int (nI i)), (1, .int (nI 17))] := hl
  refine lv_iinc (v := nI (i + 1)) (lv' := [(0, .int (nI (i + 1))), (1, .int (nI 17))]) hx hb dJ3_inc_0 hl (k := 0) rfl (ninc (b := 1) (by decide) (by omega)) (by decide) rfl (fun ls hl => ?_)
  refine lv_iload_n hx hb dJ3_inc_3 rfl (lv_at hl 0 rfl) ?_
  refine lv_iload_n hx hb dJ3_inc_4 rfl (lv_at hl 1 rfl) ?_
  refine n_icmp_lt (tgt := 10) hx hb (by omega) (by omega) dJ3_inc_5 (by decide) (fun c_2041 => ?_) (fun c_2041 => ?_)
  · refine lv_iload_n hx hb dJ3_inc_10 rfl (lv_at hl 0 rfl) ?_
    have hP9 : va_P G.1 CL [] H := hP.sub [] rfl
    have hD9 : va_D A [] := hD.sub [] (by decide) rfl
    exact end_i hx hb hr hlk (rfl) (qc_of () (v := some (.int (nI (i + 1)))) (by rw [show (i + 1) % 17 = i + 1 by omega]) (trivial) hP9 hD9 (trivial) hS) hS dJ3_inc_11 (show 0 ≤ 0 from by first | exact Nat.le_refl _ | decide | omega) (show 0 ≤ 0 from by first | exact Nat.le_refl _ | decide | omega)
  · refine lv_iconst (v := nI 0) hx hb dJ3_inc_8 (by decide) ?_
    refine lv_istore_n (lv' := [(0, .int (nI 0)), (1, .int (nI 17))]) hx hb dJ3_inc_9 rfl hl (by decide) rfl (fun ls hl => ?_)
    refine lv_iload_n hx hb dJ3_inc_10 rfl (lv_at hl 0 rfl) ?_
    have hP9 : va_P G.1 CL [] H := hP.sub [] rfl
    have hD9 : va_D A [] := hD.sub [] (by decide) rfl
    exact end_i hx hb hr hlk (rfl) (qc_of () (v := some (.int (nI 0))) (by rw [show (i + 1) % 17 = 0 by omega]) (trivial) hP9 hD9 (trivial) hS) hS dJ3_inc_11 (show 0 ≤ 0 from by first | exact Nat.le_refl _ | decide | omega) (show 0 ≤ 0 from by first | exact Nat.le_refl _ | decide | omega)

set_option maxHeartbeats 4000000 in
theorem mJ3_dec (l : Launch) (G : Gt) (i : Nat) (hi : i < 17) : CT l G yJ3_dec cJ3_dec 2 (some .int) ({ frames := 1, cells := 0, slots := 0, locals := 12 } : Room) [.int (nI i), .int (nI 17)] [] RH0 (S := Unit) (fun (u_ : Unit) => some (.int (nI ((i + 16) % 17)))) (fun (u_ : Unit) => True) (fun (u_ : Unit) => []) (fun (u_ : Unit) (H : Heap) => True) := by
  refine CT.of (by decide) (Nat.le_of_ble_eq_true rfl) ?_
  intro p e s m below meth c ls A H locs h9 hH0 hP hS
  obtain ⟨cf, hr, hlk, hnm, hKB, hE, -, hD, -, hA, hAw, hRH, hl⟩ := h9
  have hx := cf.1
  have hb := cf.2.1
  have hml := cf.2.2.1
  have hown : s.vm.findClass RJ3 = some m.cls := cf.2.2.2.1
  have hts := cf.2.2.2.2
  have hK := hKB.1
  have hl : lv_has ls 2 [(0, .int (nI i)), (1, .int (nI 17))] := hl
  rcases i with _ | j_2042
  · refine lv_iinc (v := lI 0) (lv' := [(0, .int (lI 0)), (1, .int (nI 17))]) hx hb dJ3_dec_0 hl (k := 0) rfl (lI_dec _) (by decide) rfl (fun ls hl => ?_)
    have hl : lv_has ls 2 [(0, .int (-1)), (1, .int (nI 17))] := by
      have e9 : ((.int (-1)) : Value) = .int (lI 0) := rfl
      rw [e9]; exact hl
    refine lv_iload_n hx hb dJ3_dec_3 rfl (lv_at hl 0 rfl) ?_
    refine lv_if_ge (tgt := 11) hx hb dJ3_dec_4 (by decide) (fun c_2043 => absurd c_2043 (by decide)) (fun c_2043 => ?_)
    refine lv_iload_n hx hb dJ3_dec_7 rfl (lv_at hl 1 rfl) ?_
    refine lv_iconst (v := nI 1) hx hb dJ3_dec_8 (by decide) ?_
    refine lv_isub hx hb dJ3_dec_9 ?_
    refine lv_ton (n := 16) (nsub (by omega)) ?_
    refine lv_istore_n (lv' := [(0, .int (nI 16)), (1, .int (nI 17))]) hx hb dJ3_dec_10 rfl hl (by decide) rfl (fun ls hl => ?_)
    refine lv_iload_n hx hb dJ3_dec_11 rfl (lv_at hl 0 rfl) ?_
    have hP9 : va_P G.1 CL [] H := hP.sub [] rfl
    have hD9 : va_D A [] := hD.sub [] (by decide) rfl
    exact end_i hx hb hr hlk (rfl) (qc_of () (v := some (.int (nI 16))) (by rfl) (trivial) hP9 hD9 (trivial) hS) hS dJ3_dec_12 (show 0 ≤ 0 from by first | exact Nat.le_refl _ | decide | omega) (show 0 ≤ 0 from by first | exact Nat.le_refl _ | decide | omega)
  · refine lv_iinc (v := nI j_2042) (lv' := [(0, .int (nI j_2042)), (1, .int (nI 17))]) hx hb dJ3_dec_0 hl (k := 0) rfl (nm1 (by decide) (by omega)) (by decide) rfl (fun ls hl => ?_)
    refine lv_iload_n hx hb dJ3_dec_3 rfl (lv_at hl 0 rfl) ?_
    refine n_if_ge (tgt := 11) hx hb (by omega) dJ3_dec_4 (by decide) ?_
    refine lv_iload_n hx hb dJ3_dec_11 rfl (lv_at hl 0 rfl) ?_
    have hP9 : va_P G.1 CL [] H := hP.sub [] rfl
    have hD9 : va_D A [] := hD.sub [] (by decide) rfl
    exact end_i hx hb hr hlk (rfl) (qc_of () (v := some (.int (nI j_2042))) (by rw [show (j_2042 + 1 + 16) % 17 = j_2042 by omega]) (trivial) hP9 hD9 (trivial) hS) hS dJ3_dec_12 (show 0 ≤ 0 from by first | exact Nat.le_refl _ | decide | omega) (show 0 ≤ 0 from by first | exact Nat.le_refl _ | decide | omega)

set_option maxHeartbeats 4000000 in
theorem mJ3_sub (l : Launch) (G : Gt) (hd : Nat) (k : Nat) (hhd : hd < 17) (hk : k < 17) : CT l G yJ3_sub cJ3_sub 3 (some .int) ({ frames := 1, cells := 0, slots := 0, locals := 12 } : Room) [.int (nI ((hd + k) % 17)), .int (nI hd), .int (nI 17)] [] RH0 (S := Unit) (fun (u_ : Unit) => some (.int (nI k))) (fun (u_ : Unit) => True) (fun (u_ : Unit) => []) (fun (u_ : Unit) (H : Heap) => True) := by
  refine CT.of (by decide) (Nat.le_of_ble_eq_true rfl) ?_
  intro p e s m below meth c ls A H locs h9 hH0 hP hS
  obtain ⟨cf, hr, hlk, hnm, hKB, hE, -, hD, -, hA, hAw, hRH, hl⟩ := h9
  have hx := cf.1
  have hb := cf.2.1
  have hml := cf.2.2.1
  have hown : s.vm.findClass RJ3 = some m.cls := cf.2.2.2.1
  have hts := cf.2.2.2.2
  have hK := hKB.1
  have hl : lv_has ls 3 [(0, .int (nI ((hd + k) % 17))), (1, .int (nI hd)), (2, .int (nI 17))] := hl
  rcases Nat.lt_or_ge (hd + k) 17 with hc | hc
  · have hl : lv_has ls 3 [(0, .int (nI (hd + k))), (1, .int (nI hd)), (2, .int (nI 17))] := by
      have e9 : ((.int (nI (hd + k))) : Value) = .int (nI ((hd + k) % 17)) := by rw [show (hd + k) % 17 = hd + k by omega]
      rw [e9]; exact hl
    refine lv_iload_n hx hb dJ3_sub_0 rfl (lv_at hl 0 rfl) ?_
    refine lv_iload_n hx hb dJ3_sub_1 rfl (lv_at hl 1 rfl) ?_
    refine lv_isub hx hb dJ3_sub_2 ?_
    refine lv_ton (n := k) (nsub (by omega)) ?_
    refine lv_dup hx hb dJ3_sub_3 rfl ?_
    refine lv_istore_n (lv' := [(0, .int (nI k)), (1, .int (nI hd)), (2, .int (nI 17))]) hx hb dJ3_sub_4 rfl hl (by decide) rfl (fun ls hl => ?_)
    refine n_if_ge (tgt := 12) hx hb (by omega) dJ3_sub_5 (by decide) ?_
    refine lv_iload_n hx hb dJ3_sub_12 rfl (lv_at hl 0 rfl) ?_
    have hP9 : va_P G.1 CL [] H := hP.sub [] rfl
    have hD9 : va_D A [] := hD.sub [] (by decide) rfl
    exact end_i hx hb hr hlk (rfl) (qc_of () (v := some (.int (nI k))) (by rfl) (trivial) hP9 hD9 (trivial) hS) hS dJ3_sub_13 (show 0 ≤ 0 from by first | exact Nat.le_refl _ | decide | omega) (show 0 ≤ 0 from by first | exact Nat.le_refl _ | decide | omega)
  · have hl : lv_has ls 3 [(0, .int (nI (hd + k - 17))), (1, .int (nI hd)), (2, .int (nI 17))] := by
      have e9 : ((.int (nI (hd + k - 17))) : Value) = .int (nI ((hd + k) % 17)) := by rw [show (hd + k) % 17 = hd + k - 17 by omega]
      rw [e9]; exact hl
    have h17 := sub17 hd hhd k hk hc
    refine lv_iload_n hx hb dJ3_sub_0 rfl (lv_at hl 0 rfl) ?_
    refine lv_iload_n hx hb dJ3_sub_1 rfl (lv_at hl 1 rfl) ?_
    refine lv_isub hx hb dJ3_sub_2 ?_
    refine lv_dup hx hb dJ3_sub_3 rfl ?_
    refine lv_istore_n (lv' := [(0, .int ((nI (hd + k - 17)) - (nI hd))), (1, .int (nI hd)), (2, .int (nI 17))]) hx hb dJ3_sub_4 rfl hl (by decide) rfl (fun ls hl => ?_)
    refine lv_if_ge (tgt := 12) hx hb dJ3_sub_5 (by decide) (fun c_2044 => absurd h17.1 (Int32.not_lt.mpr c_2044)) (fun c_2044 => ?_)
    refine lv_iload_n hx hb dJ3_sub_8 rfl (lv_at hl 0 rfl) ?_
    refine lv_iload_n hx hb dJ3_sub_9 rfl (lv_at hl 2 rfl) ?_
    refine lv_iadd hx hb dJ3_sub_10 ?_
    refine lv_ton (n := k) (h17.2) ?_
    refine lv_istore_n (lv' := [(0, .int (nI k)), (1, .int (nI hd)), (2, .int (nI 17))]) hx hb dJ3_sub_11 rfl hl (by decide) rfl (fun ls hl => ?_)
    refine lv_iload_n hx hb dJ3_sub_12 rfl (lv_at hl 0 rfl) ?_
    have hP9 : va_P G.1 CL [] H := hP.sub [] rfl
    have hD9 : va_D A [] := hD.sub [] (by decide) rfl
    exact end_i hx hb hr hlk (rfl) (qc_of () (v := some (.int (nI k))) (by rfl) (trivial) hP9 hD9 (trivial) hS) hS dJ3_sub_13 (show 0 ≤ 0 from by first | exact Nat.le_refl _ | decide | omega) (show 0 ≤ 0 from by first | exact Nat.le_refl _ | decide | omega)

set_option maxHeartbeats 4000000 in
theorem mJ3_size (l : Launch) (G : Gt) (q : Nat) (da : Nat) (hd : Nat) (k : Nat) (f : Nat → Option Nat) (hhd : hd < 17) (hk : k ≤ 7) : CT l G yJ3_size cJ3_size 1 (some .int) ({ frames := 2, cells := 0, slots := 0, locals := 34 } : Room) [.ref q] [] (fun (A : Nat → Prop) (H : Heap) => roW G A H [(q, .inr (4, [.ref da, .int (nI hd), .int (nI ((hd + k) % 17))])), (da, .inl (G.2 3, 17, .inr (.inr (.inr (.inr f)))))]) (S := Unit) (fun (u_ : Unit) => some (.int (nI k))) (fun (u_ : Unit) => True) (fun (u_ : Unit) => []) (fun (u_ : Unit) (H : Heap) => True) := by
  refine CT.of (by decide) (Nat.le_of_ble_eq_true rfl) ?_
  intro p e s m below meth c ls A H locs h9 hH0 hP hS
  obtain ⟨cf, hr, hlk, hnm, hKB, hE, -, hD, -, hA, hAw, hR0, hl⟩ := h9
  have hx := cf.1
  have hb := cf.2.1
  have hml := cf.2.2.1
  have hown : s.vm.findClass RJ3 = some m.cls := cf.2.2.2.1
  have hts := cf.2.2.2.2
  have hK := hKB.1
  have hl : lv_has ls 1 [(0, .ref q)] := hl
  refine lv_aload_n hx hb dJ3_size_0 rfl (lv_at hl 0 rfl) ?_
  refine va_get hx hb hts in_J3 hown hK (hR0.w hS) 0 rfl rfl 2 (by decide) (hts _ q197) (fun _ h => h) rfl dJ3_size_1 ?_
  refine lv_aload_n hx hb dJ3_size_4 rfl (lv_at hl 0 rfl) ?_
  refine va_get hx hb hts in_J3 hown hK (hR0.w hS) 0 rfl rfl 1 (by decide) (hts _ q196) (fun _ h => h) rfl dJ3_size_5 ?_
  refine lv_aload_n hx hb dJ3_size_8 rfl (lv_at hl 0 rfl) ?_
  refine va_get hx hb hts in_J3 hown hK (hR0.w hS) 0 rfl rfl 0 (by decide) (hts _ q195) (fun _ h => h) rfl dJ3_size_9 ?_
  refine r_alen hx hb hK (hR0.w hS) 1 3 rfl rfl dJ3_size_12 ?_
  have hF := hF_of (wc := []) hD hS hA [] rfl
  refine go_ct hS hP hD [] [] hF rfl rfl (by decide) (by decide)
      (va_runS (As := [.int (nI ((hd + k) % 17)), .int (nI hd), .int (nI 17)]) (rest := []) cf (mJ3_sub l G hd k (show hd < 17 from by first | assumption | omega) (show k < 17 from by first | assumption | omega) H.size) (va_cwS 3 hts (lw_S q598 q599 q53 q600) rfl rfl rfl (by decide +kernel) ⟨Nat.le_of_ble_eq_true rfl, Nat.le_of_ble_eq_true rfl⟩) (preS_of hKB hE hS hF (va_P.sub hP [] rfl) ((va_D.sub hD [] (by decide) rfl).weaken (fun _ _ _ _ => trivial)) trivial) rfl rfl hl.1 rfl (lv_room (Nat.le_of_ble_eq_true rfl)) dJ3_size_13 ⟨show 0 + 0 ≤ 0 from by first | decide | omega, show 0 + 0 ≤ 0 from by first | decide | omega⟩)
      (fun u_ H locs hq hph (hP : va_P G.1 CL [] H) (hD : va_D A []) hS hfz hfk => ?_)
  refine W.eq (g2 := F0 m 16 ls [.int (nI k)]) rfl ?_
  have hP9 : va_P G.1 CL [] H := hP.sub [] rfl
  have hD9 : va_D A [] := hD.sub [] (by decide) rfl
  exact end_i hx hb hr hlk (rfl) (qc_of () (v := some (.int (nI k))) (by rfl) (trivial) hP9 hD9 (trivial) hS) hS dJ3_size_16 (show 0 ≤ 0 from by first | exact Nat.le_refl _ | decide | omega) (show 0 ≤ 0 from by first | exact Nat.le_refl _ | decide | omega)

set_option maxHeartbeats 4000000 in
theorem mJ3_isEmpty (l : Launch) (G : Gt) (q : Nat) (da : Nat) (hd : Nat) (k : Nat) (f : Nat → Option Nat) (hhd : hd < 17) (hk : k ≤ 7) : CT l G yJ3_isEmpty cJ3_isEmpty 1 (some .boolean) ({ frames := 1, cells := 0, slots := 0, locals := 12 } : Room) [.ref q] [] (fun (A : Nat → Prop) (H : Heap) => roW G A H [(q, .inr (4, [.ref da, .int (nI hd), .int (nI ((hd + k) % 17))]))]) (S := Bool) (fun (u_ : Bool) => some (.int (bI u_))) (fun (u_ : Bool) => (u_ = true ↔ k = 0)) (fun (u_ : Bool) => []) (fun (u_ : Bool) (H : Heap) => True) := by
  refine CT.of (by decide) (Nat.le_of_ble_eq_true rfl) ?_
  intro p e s m below meth c ls A H locs h9 hH0 hP hS
  obtain ⟨cf, hr, hlk, hnm, hKB, hE, -, hD, -, hA, hAw, hR0, hl⟩ := h9
  have hx := cf.1
  have hb := cf.2.1
  have hml := cf.2.2.1
  have hown : s.vm.findClass RJ3 = some m.cls := cf.2.2.2.1
  have hts := cf.2.2.2.2
  have hK := hKB.1
  have hl : lv_has ls 1 [(0, .ref q)] := hl
  refine lv_aload_n hx hb dJ3_isEmpty_0 rfl (lv_at hl 0 rfl) ?_
  refine va_get hx hb hts in_J3 hown hK (hR0.w hS) 0 rfl rfl 1 (by decide) (hts _ q196) (fun _ h => h) rfl dJ3_isEmpty_1 ?_
  refine lv_aload_n hx hb dJ3_isEmpty_4 rfl (lv_at hl 0 rfl) ?_
  refine va_get hx hb hts in_J3 hown hK (hR0.w hS) 0 rfl rfl 2 (by decide) (hts _ q197) (fun _ h => h) rfl dJ3_isEmpty_5 ?_
  refine n_icmp_ne (tgt := 15) hx hb (by omega) (by omega) dJ3_isEmpty_8 (by decide) (fun c_2047 => ?_) (fun c_2047 => ?_)
  · refine lv_iconst (v := nI 0) hx hb dJ3_isEmpty_15 (by decide) ?_
    have hP9 : va_P G.1 CL [] H := hP.sub [] rfl
    have hD9 : va_D A [] := hD.sub [] (by decide) rfl
    exact end_i hx hb hr hlk (by decide) (qc_of false (v := some (.int (nI 0))) (by rfl) (⟨fun h => absurd h (by decide), fun h => absurd h (by omega)⟩) hP9 hD9 (trivial) hS) hS dJ3_isEmpty_16 (show 0 ≤ 0 from by first | exact Nat.le_refl _ | decide | omega) (show 0 ≤ 0 from by first | exact Nat.le_refl _ | decide | omega)
  · refine lv_iconst (v := nI 1) hx hb dJ3_isEmpty_11 (by decide) ?_
    refine lv_goto (tgt := 16) hx hb dJ3_isEmpty_12 (by decide) ?_
    have hP9 : va_P G.1 CL [] H := hP.sub [] rfl
    have hD9 : va_D A [] := hD.sub [] (by decide) rfl
    exact end_i hx hb hr hlk (by decide) (qc_of true (v := some (.int (nI 1))) (by rfl) (⟨fun _ => by omega, fun _ => rfl⟩) hP9 hD9 (trivial) hS) hS dJ3_isEmpty_16 (show 0 ≤ 0 from by first | exact Nat.le_refl _ | decide | omega) (show 0 ≤ 0 from by first | exact Nat.le_refl _ | decide | omega)

set_option maxHeartbeats 4000000 in
theorem mJ3_addLast (l : Launch) (G : Gt) (q : Nat) (da : Nat) (hd : Nat) (k : Nat) (f : Nat → Option Nat) (x : Nat) (Wi : va_W) (hhd : hd < 17) (hk : k ≤ 7) (hxe : ElIn Wi x) : CT l G yJ3_addLast cJ3_addLast 3 none ({ frames := 2, cells := 0, slots := 0, locals := 33 } : Room) [.ref q, .ref x] [(q, .inr (4, [.ref da, .int (nI hd), .int (nI ((hd + k) % 17))])), (da, .inl (G.2 3, 17, .inr (.inr (.inr (.inr f)))))] (fun (A : Nat → Prop) (H : Heap) => roW G A H Wi) (S := Unit) (fun (u_ : Unit) => (none : Option Value)) (fun (u_ : Unit) => True) (fun (u_ : Unit) => [(q, .inr (4, [.ref da, .int (nI hd), .int (nI ((hd + (k + 1)) % 17))])), (da, .inl (G.2 3, 17, .inr (.inr (.inr (.inr (va_up f ((hd + k) % 17) (some x)))))))]) (fun (u_ : Unit) (H : Heap) => True) := by
  refine CT.of (by decide) (Nat.le_of_ble_eq_true rfl) ?_
  intro p e s m below meth c ls A H locs h9 hH0 hP hS
  obtain ⟨cf, hr, hlk, hnm, hKB, hE, -, hD, -, hA, hAw, hR0, hl⟩ := h9
  have hx := cf.1
  have hb := cf.2.1
  have hml := cf.2.2.1
  have hown : s.vm.findClass RJ3 = some m.cls := cf.2.2.2.1
  have hts := cf.2.2.2.2
  have hK := hKB.1
  have hl : lv_has ls 3 [(0, .ref q), (1, .ref x)] := hl
  refine lv_aload_n hx hb dJ3_addLast_0 rfl (lv_at hl 1 rfl) ?_
  refine lv_ifnonnull (tgt := 12) hx hb dJ3_addLast_1 (by decide) ?_
  refine lv_aload_n hx hb dJ3_addLast_12 rfl (lv_at hl 0 rfl) ?_
  refine va_get hx hb hts in_J3 hown hK hP 0 rfl rfl 0 (by decide) (hts _ q195) (fun _ h => h) rfl dJ3_addLast_13 ?_
  refine lv_astore_n (lv' := [(2, .ref da), (0, .ref q), (1, .ref x)]) hx hb dJ3_addLast_16 rfl hl (by decide) rfl (fun ls hl => ?_)
  refine lv_aload_n hx hb dJ3_addLast_17 rfl (lv_at hl 0 rfl) ?_
  refine lv_aload_n hx hb dJ3_addLast_18 rfl (lv_at hl 1 rfl) ?_
  refine va_get hx hb hts in_J3 hown hK hP 0 rfl rfl 2 (by decide) (hts _ q197) (fun _ h => h) rfl dJ3_addLast_19 ?_
  refine lv_aload_n hx hb dJ3_addLast_22 rfl (lv_at hl 2 rfl) ?_
  refine r_astO (i := ((hd + k) % 17)) hx hb hKB hP hD hS 1 rfl (any_el hKB (hR0.w hS) hxe) (by omega) (by omega) dJ3_addLast_23 (fun H locs (hP : va_P G.1 CL [(q, .inr (4, [.ref da, .int (nI hd), .int (nI ((hd + k) % 17))])), (da, .inl (G.2 3, 17, .inr (.inr (.inr (.inr (va_up f ((hd + k) % 17) (some x)))))))] H) (hD : va_D A [(q, .inr (4, [.ref da, .int (nI hd), .int (nI ((hd + k) % 17))])), (da, .inl (G.2 3, 17, .inr (.inr (.inr (.inr (va_up f ((hd + k) % 17) (some x)))))))]) hS => ?_)
  refine lv_aload_n hx hb dJ3_addLast_24 rfl (lv_at hl 1 rfl) ?_
  refine va_get hx hb hts in_J3 hown hK hP 0 rfl rfl 1 (by decide) (hts _ q196) (fun _ h => h) rfl dJ3_addLast_25 ?_
  refine lv_aload_n hx hb dJ3_addLast_28 rfl (lv_at hl 1 rfl) ?_
  refine lv_aload_n hx hb dJ3_addLast_29 rfl (lv_at hl 1 rfl) ?_
  refine va_get hx hb hts in_J3 hown hK hP 0 rfl rfl 2 (by decide) (hts _ q197) (fun _ h => h) rfl dJ3_addLast_30 ?_
  refine lv_aload_n hx hb dJ3_addLast_33 rfl (lv_at hl 0 rfl) ?_
  refine r_alen hx hb hK hP 1 3 rfl rfl dJ3_addLast_34 ?_
  have hF := hF_of (wc := []) hD hS hA [] rfl
  refine go_ct hS hP hD [] [0, 1] hF rfl rfl (by decide) (by decide)
      (va_runS (As := [.int (nI ((hd + k) % 17)), .int (nI 17)]) (rest := [.ref q, .int (nI hd)]) cf (mJ3_inc l G ((hd + k) % 17) (show ((hd + k) % 17) < 17 from by first | assumption | omega) H.size) (va_cwS 2 hts (lw_S q563 q564 q53 q565) rfl rfl rfl (by decide +kernel) ⟨Nat.le_of_ble_eq_true rfl, Nat.le_of_ble_eq_true rfl⟩) (preS_of hKB hE hS hF (va_P.sub hP [] rfl) ((va_D.sub hD [] (by decide) rfl).weaken (fun _ _ _ _ => trivial)) trivial) rfl rfl hl.1 rfl (lv_room (Nat.le_of_ble_eq_true rfl)) dJ3_addLast_35 ⟨show 0 + 0 ≤ 0 from by first | decide | omega, show 0 + 0 ≤ 0 from by first | decide | omega⟩)
      (fun u_ H locs hq hph (hP : va_P G.1 CL [(q, .inr (4, [.ref da, .int (nI hd), .int (nI ((hd + k) % 17))])), (da, .inl (G.2 3, 17, .inr (.inr (.inr (.inr (va_up f ((hd + k) % 17) (some x)))))))] H) (hD : va_D A [(q, .inr (4, [.ref da, .int (nI hd), .int (nI ((hd + k) % 17))])), (da, .inl (G.2 3, 17, .inr (.inr (.inr (.inr (va_up f ((hd + k) % 17) (some x)))))))]) hS hfz hfk => ?_)
  refine W.eq (g2 := F0 m 38 ls [.int (nI ((((hd + k) % 17) + 1) % 17)), .ref q, .int (nI hd)]) rfl ?_
  refine lv_dup_x1 hx hb dJ3_addLast_38 rfl rfl ?_
  refine va_put (v := .int (nI ((((hd + k) % 17) + 1) % 17))) (ty := .int) hx hb hts in_J3 tyJ3 tyJ3_ok nmJ3 hown hK hP hD hS 0 rfl rfl 2 (by decide) (hts _ q197) (fun _ h => h) rfl (by decide +kernel) rfl rfl (Nat.le_of_ble_eq_true rfl) dJ3_addLast_39 (fun H locs (hP : va_P G.1 CL [(q, .inr (4, [.ref da, .int (nI hd), .int (nI ((((hd + k) % 17) + 1) % 17))])), (da, .inl (G.2 3, 17, .inr (.inr (.inr (.inr (va_up f ((hd + k) % 17) (some x)))))))] H) (hD : va_D A [(q, .inr (4, [.ref da, .int (nI hd), .int (nI ((((hd + k) % 17) + 1) % 17))])), (da, .inl (G.2 3, 17, .inr (.inr (.inr (.inr (va_up f ((hd + k) % 17) (some x)))))))]) hS => ?_)
  refine n_icmp_ne (tgt := 50) hx hb (by omega) (by omega) dJ3_addLast_42 (by decide) (fun c_2050 => ?_) (fun c_2050 => absurd c_2050 (by omega))
  have hP : va_P G.1 CL [(q, .inr (4, [.ref da, .int (nI hd), .int (nI ((hd + (k + 1)) % 17))])), (da, .inl (G.2 3, 17, .inr (.inr (.inr (.inr (va_up f ((hd + k) % 17) (some x)))))))] H := by rw [show (hd + (k + 1)) % 17 = (((hd + k) % 17) + 1) % 17 by omega]; exact hP
  have hD : va_D A [(q, .inr (4, [.ref da, .int (nI hd), .int (nI ((hd + (k + 1)) % 17))])), (da, .inl (G.2 3, 17, .inr (.inr (.inr (.inr (va_up f ((hd + k) % 17) (some x)))))))] := by rw [show (hd + (k + 1)) % 17 = (((hd + k) % 17) + 1) % 17 by omega]; exact hD
  have hP9 : va_P G.1 CL [(q, .inr (4, [.ref da, .int (nI hd), .int (nI ((hd + (k + 1)) % 17))])), (da, .inl (G.2 3, 17, .inr (.inr (.inr (.inr (va_up f ((hd + k) % 17) (some x)))))))] H := hP.sub [0, 1] rfl
  have hD9 : va_D A [(q, .inr (4, [.ref da, .int (nI hd), .int (nI ((hd + (k + 1)) % 17))])), (da, .inl (G.2 3, 17, .inr (.inr (.inr (.inr (va_up f ((hd + k) % 17) (some x)))))))] := hD.sub [0, 1] (by decide) rfl
  exact end_v hx hb hr hlk (qc_of () (v := none) (by rfl) (trivial) hP9 hD9 (trivial) hS) hS dJ3_addLast_50 (show 0 ≤ 0 from by first | exact Nat.le_refl _ | decide | omega) (show 0 ≤ 0 from by first | exact Nat.le_refl _ | decide | omega)

set_option maxHeartbeats 4000000 in
theorem mJ3_elementAt (l : Launch) (G : Gt) (da : Nat) (f : Nat → Option Nat) (i : Nat) (xo : Nat) (hi : i < 17) (hxo : f i = some xo) : CT l G yJ3_elementAt cJ3_elementAt 2 (some (.object "java/lang/Object")) ({ frames := 1, cells := 0, slots := 0, locals := 12 } : Room) [.ref da, .int (nI i)] [] (fun (A : Nat → Prop) (H : Heap) => roW G A H [(da, .inl (G.2 3, 17, .inr (.inr (.inr (.inr f)))))]) (S := Unit) (fun (u_ : Unit) => some (.ref xo)) (fun (u_ : Unit) => True) (fun (u_ : Unit) => []) (fun (u_ : Unit) (H : Heap) => True) := by
  refine CT.of (by decide) (Nat.le_of_ble_eq_true rfl) ?_
  intro p e s m below meth c ls A H locs h9 hH0 hP hS
  obtain ⟨cf, hr, hlk, hnm, hKB, hE, -, hD, -, hA, hAw, hR0, hl⟩ := h9
  have hx := cf.1
  have hb := cf.2.1
  have hml := cf.2.2.1
  have hown : s.vm.findClass RJ3 = some m.cls := cf.2.2.2.1
  have hts := cf.2.2.2.2
  have hK := hKB.1
  have hl : lv_has ls 2 [(0, .ref da), (1, .int (nI i))] := hl
  refine lv_aload_n hx hb dJ3_elementAt_0 rfl (lv_at hl 0 rfl) ?_
  refine lv_iload_n hx hb dJ3_elementAt_1 rfl (lv_at hl 1 rfl) ?_
  refine r_aaldO (v := xo) hx hb hK (hR0.w hS) 0 3 rfl rfl (i := i) (by omega) (by omega) (hxo) dJ3_elementAt_2 ?_
  have hP9 : va_P G.1 CL [] H := hP.sub [] rfl
  have hD9 : va_D A [] := hD.sub [] (by decide) rfl
  exact end_a hx hb hr hlk (by first | exact Or.inl ⟨_, rfl⟩ | exact Or.inr ⟨_, rfl⟩) (Or.inr ⟨_, rfl⟩) (qc_of () (v := some (.ref xo)) (by rfl) (trivial) hP9 hD9 (trivial) hS) hS dJ3_elementAt_3 (show 0 ≤ 0 from by first | exact Nat.le_refl _ | decide | omega) (show 0 ≤ 0 from by first | exact Nat.le_refl _ | decide | omega)

set_option maxHeartbeats 4000000 in
theorem mJ3_pollFirst (l : Launch) (G : Gt) (q : Nat) (da : Nat) (hd : Nat) (k : Nat) (f : Nat → Option Nat) (xo : Nat) (hhd : hd < 17) (hk : k ≤ 7) (h1 : 1 ≤ k) (hxo : f hd = some xo) : CT l G yJ3_pollFirst cJ3_pollFirst 4 (some (.object "java/lang/Object")) ({ frames := 2, cells := 0, slots := 0, locals := 33 } : Room) [.ref q] [(q, .inr (4, [.ref da, .int (nI hd), .int (nI ((hd + k) % 17))])), (da, .inl (G.2 3, 17, .inr (.inr (.inr (.inr f)))))] RH0 (S := Unit) (fun (u_ : Unit) => some (.ref xo)) (fun (u_ : Unit) => True) (fun (u_ : Unit) => [(q, .inr (4, [.ref da, .int (nI ((hd + 1) % 17)), .int (nI ((hd + k) % 17))])), (da, .inl (G.2 3, 17, .inr (.inr (.inr (.inr (va_up f hd none))))))]) (fun (u_ : Unit) (H : Heap) => True) := by
  refine CT.of (by decide) (Nat.le_of_ble_eq_true rfl) ?_
  intro p e s m below meth c ls A H locs h9 hH0 hP hS
  obtain ⟨cf, hr, hlk, hnm, hKB, hE, -, hD, -, hA, hAw, hRH, hl⟩ := h9
  have hx := cf.1
  have hb := cf.2.1
  have hml := cf.2.2.1
  have hown : s.vm.findClass RJ3 = some m.cls := cf.2.2.2.1
  have hts := cf.2.2.2.2
  have hK := hKB.1
  have hl : lv_has ls 4 [(0, .ref q)] := hl
  refine lv_aload_n hx hb dJ3_pollFirst_0 rfl (lv_at hl 0 rfl) ?_
  refine va_get hx hb hts in_J3 hown hK hP 0 rfl rfl 0 (by decide) (hts _ q195) (fun _ h => h) rfl dJ3_pollFirst_1 ?_
  refine lv_dup hx hb dJ3_pollFirst_4 rfl ?_
  refine lv_astore_n (lv' := [(1, .ref da), (0, .ref q)]) hx hb dJ3_pollFirst_5 rfl hl (by decide) rfl (fun ls hl => ?_)
  refine lv_aload_n hx hb dJ3_pollFirst_6 rfl (lv_at hl 1 rfl) ?_
  refine va_get hx hb hts in_J3 hown hK hP 0 rfl rfl 1 (by decide) (hts _ q196) (fun _ h => h) rfl dJ3_pollFirst_7 ?_
  refine lv_dup hx hb dJ3_pollFirst_10 rfl ?_
  refine lv_istore_n (lv' := [(2, .int (nI hd)), (1, .ref da), (0, .ref q)]) hx hb dJ3_pollFirst_11 rfl hl (by decide) rfl (fun ls hl => ?_)
  have hF := hF_of (wc := []) hD hS hA [] rfl
  have hro_2051 : va_P G.1 CL [(da, .inl (G.2 3, 17, .inr (.inr (.inr (.inr f)))))] H := (va_P.sub hP [1] rfl)
  refine go_ct hS hP hD [] [0, 1] hF rfl rfl (by decide) (by decide)
      (va_runS (As := [.ref da, .int (nI hd)]) (rest := []) cf (mJ3_elementAt l G da f hd xo (show hd < 17 from by first | assumption | omega) (show f hd = some xo from by first | assumption | omega) H.size) (va_cwS 2 hts (lw_S q609 q610 q53 q611) rfl rfl rfl (by decide +kernel) ⟨Nat.le_of_ble_eq_true rfl, Nat.le_of_ble_eq_true rfl⟩) (preS_of hKB hE hS hF (va_P.sub hP [] rfl) ((va_D.sub hD [] (by decide) rfl).weaken (fun _ _ _ _ => trivial)) (roW.nil hro_2051)) rfl rfl hl.1 rfl (lv_room (Nat.le_of_ble_eq_true rfl)) dJ3_pollFirst_12 ⟨show 0 + 0 ≤ 0 from by first | decide | omega, show 0 + 0 ≤ 0 from by first | decide | omega⟩)
      (fun u_ H locs hq hph (hP : va_P G.1 CL [(q, .inr (4, [.ref da, .int (nI hd), .int (nI ((hd + k) % 17))])), (da, .inl (G.2 3, 17, .inr (.inr (.inr (.inr f)))))] H) (hD : va_D A [(q, .inr (4, [.ref da, .int (nI hd), .int (nI ((hd + k) % 17))])), (da, .inl (G.2 3, 17, .inr (.inr (.inr (.inr f)))))]) hS hfz hfk => ?_)
  refine W.eq (g2 := F0 m 15 ls [.ref xo]) rfl ?_
  refine lv_astore_n (lv' := [(3, .ref xo), (2, .int (nI hd)), (1, .ref da), (0, .ref q)]) hx hb dJ3_pollFirst_15 rfl hl (by decide) rfl (fun ls hl => ?_)
  refine lv_aload_n hx hb dJ3_pollFirst_16 rfl (lv_at hl 0 rfl) ?_
  refine lv_ifnull hx hb dJ3_pollFirst_17 ?_
  refine lv_aload_n hx hb dJ3_pollFirst_20 rfl (lv_at hl 2 rfl) ?_
  refine lv_iload_n hx hb dJ3_pollFirst_21 rfl (lv_at hl 1 rfl) ?_
  refine lv_null hx hb dJ3_pollFirst_22 ?_
  refine r_astN (i := hd) hx hb hKB hP hD hS 1 rfl (by omega) (by omega) dJ3_pollFirst_23 (fun H locs (hP : va_P G.1 CL [(q, .inr (4, [.ref da, .int (nI hd), .int (nI ((hd + k) % 17))])), (da, .inl (G.2 3, 17, .inr (.inr (.inr (.inr (va_up f hd none))))))] H) (hD : va_D A [(q, .inr (4, [.ref da, .int (nI hd), .int (nI ((hd + k) % 17))])), (da, .inl (G.2 3, 17, .inr (.inr (.inr (.inr (va_up f hd none))))))]) hS => ?_)
  refine lv_aload_n hx hb dJ3_pollFirst_24 rfl (lv_at hl 3 rfl) ?_
  refine lv_iload_n hx hb dJ3_pollFirst_25 rfl (lv_at hl 1 rfl) ?_
  refine lv_aload_n hx hb dJ3_pollFirst_26 rfl (lv_at hl 2 rfl) ?_
  refine r_alen hx hb hK hP 1 3 rfl rfl dJ3_pollFirst_27 ?_
  have hF := hF_of (wc := []) hD hS hA [] rfl
  refine go_ct hS hP hD [] [0, 1] hF rfl rfl (by decide) (by decide)
      (va_runS (As := [.int (nI hd), .int (nI 17)]) (rest := [.ref q]) cf (mJ3_inc l G hd (show hd < 17 from by first | assumption | omega) H.size) (va_cwS 2 hts (lw_S q563 q564 q53 q565) rfl rfl rfl (by decide +kernel) ⟨Nat.le_of_ble_eq_true rfl, Nat.le_of_ble_eq_true rfl⟩) (preS_of hKB hE hS hF (va_P.sub hP [] rfl) ((va_D.sub hD [] (by decide) rfl).weaken (fun _ _ _ _ => trivial)) trivial) rfl rfl hl.1 rfl (lv_room (Nat.le_of_ble_eq_true rfl)) dJ3_pollFirst_28 ⟨show 0 + 0 ≤ 0 from by first | decide | omega, show 0 + 0 ≤ 0 from by first | decide | omega⟩)
      (fun u_ H locs hq hph (hP : va_P G.1 CL [(q, .inr (4, [.ref da, .int (nI hd), .int (nI ((hd + k) % 17))])), (da, .inl (G.2 3, 17, .inr (.inr (.inr (.inr (va_up f hd none))))))] H) (hD : va_D A [(q, .inr (4, [.ref da, .int (nI hd), .int (nI ((hd + k) % 17))])), (da, .inl (G.2 3, 17, .inr (.inr (.inr (.inr (va_up f hd none))))))]) hS hfz hfk => ?_)
  refine W.eq (g2 := F0 m 31 ls [.int (nI ((hd + 1) % 17)), .ref q]) rfl ?_
  refine va_put (v := .int (nI ((hd + 1) % 17))) (ty := .int) hx hb hts in_J3 tyJ3 tyJ3_ok nmJ3 hown hK hP hD hS 0 rfl rfl 1 (by decide) (hts _ q196) (fun _ h => h) rfl (by decide +kernel) rfl rfl (Nat.le_of_ble_eq_true rfl) dJ3_pollFirst_31 (fun H locs (hP : va_P G.1 CL [(q, .inr (4, [.ref da, .int (nI ((hd + 1) % 17)), .int (nI ((hd + k) % 17))])), (da, .inl (G.2 3, 17, .inr (.inr (.inr (.inr (va_up f hd none))))))] H) (hD : va_D A [(q, .inr (4, [.ref da, .int (nI ((hd + 1) % 17)), .int (nI ((hd + k) % 17))])), (da, .inl (G.2 3, 17, .inr (.inr (.inr (.inr (va_up f hd none))))))]) hS => ?_)
  refine lv_aload_n hx hb dJ3_pollFirst_34 rfl (lv_at hl 0 rfl) ?_
  have hP9 : va_P G.1 CL [(q, .inr (4, [.ref da, .int (nI ((hd + 1) % 17)), .int (nI ((hd + k) % 17))])), (da, .inl (G.2 3, 17, .inr (.inr (.inr (.inr (va_up f hd none))))))] H := hP.sub [0, 1] rfl
  have hD9 : va_D A [(q, .inr (4, [.ref da, .int (nI ((hd + 1) % 17)), .int (nI ((hd + k) % 17))])), (da, .inl (G.2 3, 17, .inr (.inr (.inr (.inr (va_up f hd none))))))] := hD.sub [0, 1] (by decide) rfl
  exact end_a hx hb hr hlk (by first | exact Or.inl ⟨_, rfl⟩ | exact Or.inr ⟨_, rfl⟩) (Or.inr ⟨_, rfl⟩) (qc_of () (v := some (.ref xo)) (by rfl) (trivial) hP9 hD9 (trivial) hS) hS dJ3_pollFirst_35 (show 0 ≤ 0 from by first | exact Nat.le_refl _ | decide | omega) (show 0 ≤ 0 from by first | exact Nat.le_refl _ | decide | omega)

set_option maxHeartbeats 4000000 in
theorem mJ3_removeFirst (l : Launch) (G : Gt) (q : Nat) (da : Nat) (hd : Nat) (k : Nat) (f : Nat → Option Nat) (xo : Nat) (hhd : hd < 17) (hk : k ≤ 7) (h1 : 1 ≤ k) (hxo : f hd = some xo) : CT l G yJ3_removeFirst cJ3_removeFirst 2 (some (.object "java/lang/Object")) ({ frames := 3, cells := 0, slots := 0, locals := 56 } : Room) [.ref q] [(q, .inr (4, [.ref da, .int (nI hd), .int (nI ((hd + k) % 17))])), (da, .inl (G.2 3, 17, .inr (.inr (.inr (.inr f)))))] RH0 (S := Unit) (fun (u_ : Unit) => some (.ref xo)) (fun (u_ : Unit) => True) (fun (u_ : Unit) => [(q, .inr (4, [.ref da, .int (nI ((hd + 1) % 17)), .int (nI ((hd + k) % 17))])), (da, .inl (G.2 3, 17, .inr (.inr (.inr (.inr (va_up f hd none))))))]) (fun (u_ : Unit) (H : Heap) => True) := by
  refine CT.of (by decide) (Nat.le_of_ble_eq_true rfl) ?_
  intro p e s m below meth c ls A H locs h9 hH0 hP hS
  obtain ⟨cf, hr, hlk, hnm, hKB, hE, -, hD, -, hA, hAw, hRH, hl⟩ := h9
  have hx := cf.1
  have hb := cf.2.1
  have hml := cf.2.2.1
  have hown : s.vm.findClass RJ3 = some m.cls := cf.2.2.2.1
  have hts := cf.2.2.2.2
  have hK := hKB.1
  have hl : lv_has ls 2 [(0, .ref q)] := hl
  refine lv_aload_n hx hb dJ3_removeFirst_0 rfl (lv_at hl 0 rfl) ?_
  have hF := hF_of (wc := [(q, .inr (4, [.ref da, .int (nI hd), .int (nI ((hd + k) % 17))])), (da, .inl (G.2 3, 17, .inr (.inr (.inr (.inr f)))))]) hD hS hA [0, 1] rfl
  refine go_ct hS hP hD [0, 1] [] hF rfl rfl (by decide) (by decide)
      (va_runV (As := []) (rest := []) cf (mJ3_pollFirst l G q da hd k f xo (show hd < 17 from by first | assumption | omega) (show k ≤ 7 from by first | assumption | omega) (show 1 ≤ k from by first | assumption | omega) (show f hd = some xo from by first | assumption | omega) H.size) (cwV 0 hts (lw_V q605 q606 q607 q53 q608) rfl rfl rfl (by decide +kernel) ⟨Nat.le_of_ble_eq_true rfl, Nat.le_of_ble_eq_true rfl⟩) (preV_of hKB hE hS hF (va_recv hK hP (ci := 4) (q0 := 0) rfl rfl) (va_P.sub hP [0, 1] rfl) ((va_D.sub hD [0, 1] (by decide) rfl).weaken (fun _ _ _ _ => trivial)) trivial) rfl rfl hl.1 rfl (lv_room (Nat.le_of_ble_eq_true rfl)) dJ3_removeFirst_1 ⟨show 0 + 0 ≤ 0 from by first | decide | omega, show 0 + 0 ≤ 0 from by first | decide | omega⟩)
      (fun u_ H locs hq hph (hP : va_P G.1 CL [(q, .inr (4, [.ref da, .int (nI ((hd + 1) % 17)), .int (nI ((hd + k) % 17))])), (da, .inl (G.2 3, 17, .inr (.inr (.inr (.inr (va_up f hd none))))))] H) (hD : va_D A [(q, .inr (4, [.ref da, .int (nI ((hd + 1) % 17)), .int (nI ((hd + k) % 17))])), (da, .inl (G.2 3, 17, .inr (.inr (.inr (.inr (va_up f hd none))))))]) hS hfz hfk => ?_)
  refine W.eq (g2 := F0 m 4 ls [.ref xo]) rfl ?_
  refine lv_astore_n (lv' := [(1, .ref xo), (0, .ref q)]) hx hb dJ3_removeFirst_4 rfl hl (by decide) rfl (fun ls hl => ?_)
  refine lv_aload_n hx hb dJ3_removeFirst_5 rfl (lv_at hl 0 rfl) ?_
  refine lv_ifnonnull (tgt := 17) hx hb dJ3_removeFirst_6 (by decide) ?_
  refine lv_aload_n hx hb dJ3_removeFirst_17 rfl (lv_at hl 0 rfl) ?_
  have hP9 : va_P G.1 CL [(q, .inr (4, [.ref da, .int (nI ((hd + 1) % 17)), .int (nI ((hd + k) % 17))])), (da, .inl (G.2 3, 17, .inr (.inr (.inr (.inr (va_up f hd none))))))] H := hP.sub [0, 1] rfl
  have hD9 : va_D A [(q, .inr (4, [.ref da, .int (nI ((hd + 1) % 17)), .int (nI ((hd + k) % 17))])), (da, .inl (G.2 3, 17, .inr (.inr (.inr (.inr (va_up f hd none))))))] := hD.sub [0, 1] (by decide) rfl
  exact end_a hx hb hr hlk (by first | exact Or.inl ⟨_, rfl⟩ | exact Or.inr ⟨_, rfl⟩) (Or.inr ⟨_, rfl⟩) (qc_of () (v := some (.ref xo)) (by rfl) (trivial) hP9 hD9 (trivial) hS) hS dJ3_removeFirst_18 (show 0 ≤ 0 from by first | exact Nat.le_refl _ | decide | omega) (show 0 ≤ 0 from by first | exact Nat.le_refl _ | decide | omega)

set_option maxHeartbeats 4000000 in
theorem mJ3_pollLast (l : Launch) (G : Gt) (q : Nat) (da : Nat) (hd : Nat) (k : Nat) (f : Nat → Option Nat) (xo : Nat) (hhd : hd < 17) (hk : k ≤ 7) (h1 : 1 ≤ k) (hxo : f ((hd + (k - 1)) % 17) = some xo) : CT l G yJ3_pollLast cJ3_pollLast 4 (some (.object "java/lang/Object")) ({ frames := 2, cells := 0, slots := 0, locals := 33 } : Room) [.ref q] [(q, .inr (4, [.ref da, .int (nI hd), .int (nI ((hd + k) % 17))])), (da, .inl (G.2 3, 17, .inr (.inr (.inr (.inr f)))))] RH0 (S := Unit) (fun (u_ : Unit) => some (.ref xo)) (fun (u_ : Unit) => True) (fun (u_ : Unit) => [(q, .inr (4, [.ref da, .int (nI hd), .int (nI ((hd + (k - 1)) % 17))])), (da, .inl (G.2 3, 17, .inr (.inr (.inr (.inr (va_up f ((hd + (k - 1)) % 17) none))))))]) (fun (u_ : Unit) (H : Heap) => True) := by
  refine CT.of (by decide) (Nat.le_of_ble_eq_true rfl) ?_
  intro p e s m below meth c ls A H locs h9 hH0 hP hS
  obtain ⟨cf, hr, hlk, hnm, hKB, hE, -, hD, -, hA, hAw, hRH, hl⟩ := h9
  have hx := cf.1
  have hb := cf.2.1
  have hml := cf.2.2.1
  have hown : s.vm.findClass RJ3 = some m.cls := cf.2.2.2.1
  have hts := cf.2.2.2.2
  have hK := hKB.1
  have hl : lv_has ls 4 [(0, .ref q)] := hl
  refine lv_aload_n hx hb dJ3_pollLast_0 rfl (lv_at hl 0 rfl) ?_
  refine va_get hx hb hts in_J3 hown hK hP 0 rfl rfl 0 (by decide) (hts _ q195) (fun _ h => h) rfl dJ3_pollLast_1 ?_
  refine lv_dup hx hb dJ3_pollLast_4 rfl ?_
  refine lv_astore_n (lv' := [(1, .ref da), (0, .ref q)]) hx hb dJ3_pollLast_5 rfl hl (by decide) rfl (fun ls hl => ?_)
  refine lv_aload_n hx hb dJ3_pollLast_6 rfl (lv_at hl 1 rfl) ?_
  refine va_get hx hb hts in_J3 hown hK hP 0 rfl rfl 2 (by decide) (hts _ q197) (fun _ h => h) rfl dJ3_pollLast_7 ?_
  refine lv_aload_n hx hb dJ3_pollLast_10 rfl (lv_at hl 0 rfl) ?_
  refine r_alen hx hb hK hP 1 3 rfl rfl dJ3_pollLast_11 ?_
  have hF := hF_of (wc := []) hD hS hA [] rfl
  refine go_ct hS hP hD [] [0, 1] hF rfl rfl (by decide) (by decide)
      (va_runS (As := [.int (nI ((hd + k) % 17)), .int (nI 17)]) (rest := [.ref da]) cf (mJ3_dec l G ((hd + k) % 17) (show ((hd + k) % 17) < 17 from by first | assumption | omega) H.size) (va_cwS 2 hts (lw_S q1571 q1572 q53 q1573) rfl rfl rfl (by decide +kernel) ⟨Nat.le_of_ble_eq_true rfl, Nat.le_of_ble_eq_true rfl⟩) (preS_of hKB hE hS hF (va_P.sub hP [] rfl) ((va_D.sub hD [] (by decide) rfl).weaken (fun _ _ _ _ => trivial)) trivial) rfl rfl hl.1 rfl (lv_room (Nat.le_of_ble_eq_true rfl)) dJ3_pollLast_12 ⟨show 0 + 0 ≤ 0 from by first | decide | omega, show 0 + 0 ≤ 0 from by first | decide | omega⟩)
      (fun u_ H locs hq hph (hP : va_P G.1 CL [(q, .inr (4, [.ref da, .int (nI hd), .int (nI ((hd + k) % 17))])), (da, .inl (G.2 3, 17, .inr (.inr (.inr (.inr f)))))] H) (hD : va_D A [(q, .inr (4, [.ref da, .int (nI hd), .int (nI ((hd + k) % 17))])), (da, .inl (G.2 3, 17, .inr (.inr (.inr (.inr f)))))]) hS hfz hfk => ?_)
  refine W.eq (g2 := F0 m 15 ls [.int (nI ((((hd + k) % 17) + 16) % 17)), .ref da]) rfl ?_
  refine lv_ton (n := ((hd + (k - 1)) % 17)) (by rw [show (((hd + k) % 17) + 16) % 17 = (hd + (k - 1)) % 17 by omega]) ?_
  refine lv_dup hx hb dJ3_pollLast_15 rfl ?_
  refine lv_istore_n (lv' := [(2, .int (nI ((hd + (k - 1)) % 17))), (1, .ref da), (0, .ref q)]) hx hb dJ3_pollLast_16 rfl hl (by decide) rfl (fun ls hl => ?_)
  have hF := hF_of (wc := []) hD hS hA [] rfl
  have hro_2052 : va_P G.1 CL [(da, .inl (G.2 3, 17, .inr (.inr (.inr (.inr f)))))] H := (va_P.sub hP [1] rfl)
  refine go_ct hS hP hD [] [0, 1] hF rfl rfl (by decide) (by decide)
      (va_runS (As := [.ref da, .int (nI ((hd + (k - 1)) % 17))]) (rest := []) cf (mJ3_elementAt l G da f ((hd + (k - 1)) % 17) xo (show ((hd + (k - 1)) % 17) < 17 from by first | assumption | omega) (show f ((hd + (k - 1)) % 17) = some xo from by first | assumption | omega) H.size) (va_cwS 2 hts (lw_S q609 q610 q53 q611) rfl rfl rfl (by decide +kernel) ⟨Nat.le_of_ble_eq_true rfl, Nat.le_of_ble_eq_true rfl⟩) (preS_of hKB hE hS hF (va_P.sub hP [] rfl) ((va_D.sub hD [] (by decide) rfl).weaken (fun _ _ _ _ => trivial)) (roW.nil hro_2052)) rfl rfl hl.1 rfl (lv_room (Nat.le_of_ble_eq_true rfl)) dJ3_pollLast_17 ⟨show 0 + 0 ≤ 0 from by first | decide | omega, show 0 + 0 ≤ 0 from by first | decide | omega⟩)
      (fun u_ H locs hq hph (hP : va_P G.1 CL [(q, .inr (4, [.ref da, .int (nI hd), .int (nI ((hd + k) % 17))])), (da, .inl (G.2 3, 17, .inr (.inr (.inr (.inr f)))))] H) (hD : va_D A [(q, .inr (4, [.ref da, .int (nI hd), .int (nI ((hd + k) % 17))])), (da, .inl (G.2 3, 17, .inr (.inr (.inr (.inr f)))))]) hS hfz hfk => ?_)
  refine W.eq (g2 := F0 m 20 ls [.ref xo]) rfl ?_
  refine lv_astore_n (lv' := [(3, .ref xo), (2, .int (nI ((hd + (k - 1)) % 17))), (1, .ref da), (0, .ref q)]) hx hb dJ3_pollLast_20 rfl hl (by decide) rfl (fun ls hl => ?_)
  refine lv_aload_n hx hb dJ3_pollLast_21 rfl (lv_at hl 0 rfl) ?_
  refine lv_ifnull hx hb dJ3_pollLast_22 ?_
  refine lv_aload_n hx hb dJ3_pollLast_25 rfl (lv_at hl 2 rfl) ?_
  refine lv_aload_n hx hb dJ3_pollLast_26 rfl (lv_at hl 3 rfl) ?_
  refine lv_iload_n hx hb dJ3_pollLast_27 rfl (lv_at hl 1 rfl) ?_
  refine lv_dup_x1 hx hb dJ3_pollLast_28 rfl rfl ?_
  refine va_put (v := .int (nI ((hd + (k - 1)) % 17))) (ty := .int) hx hb hts in_J3 tyJ3 tyJ3_ok nmJ3 hown hK hP hD hS 0 rfl rfl 2 (by decide) (hts _ q197) (fun _ h => h) rfl (by decide +kernel) rfl rfl (Nat.le_of_ble_eq_true rfl) dJ3_pollLast_29 (fun H locs (hP : va_P G.1 CL [(q, .inr (4, [.ref da, .int (nI hd), .int (nI ((hd + (k - 1)) % 17))])), (da, .inl (G.2 3, 17, .inr (.inr (.inr (.inr f)))))] H) (hD : va_D A [(q, .inr (4, [.ref da, .int (nI hd), .int (nI ((hd + (k - 1)) % 17))])), (da, .inl (G.2 3, 17, .inr (.inr (.inr (.inr f)))))]) hS => ?_)
  refine lv_null hx hb dJ3_pollLast_32 ?_
  refine r_astN (i := ((hd + (k - 1)) % 17)) hx hb hKB hP hD hS 1 rfl (by omega) (by omega) dJ3_pollLast_33 (fun H locs (hP : va_P G.1 CL [(q, .inr (4, [.ref da, .int (nI hd), .int (nI ((hd + (k - 1)) % 17))])), (da, .inl (G.2 3, 17, .inr (.inr (.inr (.inr (va_up f ((hd + (k - 1)) % 17) none))))))] H) (hD : va_D A [(q, .inr (4, [.ref da, .int (nI hd), .int (nI ((hd + (k - 1)) % 17))])), (da, .inl (G.2 3, 17, .inr (.inr (.inr (.inr (va_up f ((hd + (k - 1)) % 17) none))))))]) hS => ?_)
  refine lv_aload_n hx hb dJ3_pollLast_34 rfl (lv_at hl 0 rfl) ?_
  have hP9 : va_P G.1 CL [(q, .inr (4, [.ref da, .int (nI hd), .int (nI ((hd + (k - 1)) % 17))])), (da, .inl (G.2 3, 17, .inr (.inr (.inr (.inr (va_up f ((hd + (k - 1)) % 17) none))))))] H := hP.sub [0, 1] rfl
  have hD9 : va_D A [(q, .inr (4, [.ref da, .int (nI hd), .int (nI ((hd + (k - 1)) % 17))])), (da, .inl (G.2 3, 17, .inr (.inr (.inr (.inr (va_up f ((hd + (k - 1)) % 17) none))))))] := hD.sub [0, 1] (by decide) rfl
  exact end_a hx hb hr hlk (by first | exact Or.inl ⟨_, rfl⟩ | exact Or.inr ⟨_, rfl⟩) (Or.inr ⟨_, rfl⟩) (qc_of () (v := some (.ref xo)) (by rfl) (trivial) hP9 hD9 (trivial) hS) hS dJ3_pollLast_35 (show 0 ≤ 0 from by first | exact Nat.le_refl _ | decide | omega) (show 0 ≤ 0 from by first | exact Nat.le_refl _ | decide | omega)

set_option maxHeartbeats 4000000 in
theorem mJ3_removeLast (l : Launch) (G : Gt) (q : Nat) (da : Nat) (hd : Nat) (k : Nat) (f : Nat → Option Nat) (xo : Nat) (hhd : hd < 17) (hk : k ≤ 7) (h1 : 1 ≤ k) (hxo : f ((hd + (k - 1)) % 17) = some xo) : CT l G yJ3_removeLast cJ3_removeLast 2 (some (.object "java/lang/Object")) ({ frames := 3, cells := 0, slots := 0, locals := 56 } : Room) [.ref q] [(q, .inr (4, [.ref da, .int (nI hd), .int (nI ((hd + k) % 17))])), (da, .inl (G.2 3, 17, .inr (.inr (.inr (.inr f)))))] RH0 (S := Unit) (fun (u_ : Unit) => some (.ref xo)) (fun (u_ : Unit) => True) (fun (u_ : Unit) => [(q, .inr (4, [.ref da, .int (nI hd), .int (nI ((hd + (k - 1)) % 17))])), (da, .inl (G.2 3, 17, .inr (.inr (.inr (.inr (va_up f ((hd + (k - 1)) % 17) none))))))]) (fun (u_ : Unit) (H : Heap) => True) := by
  refine CT.of (by decide) (Nat.le_of_ble_eq_true rfl) ?_
  intro p e s m below meth c ls A H locs h9 hH0 hP hS
  obtain ⟨cf, hr, hlk, hnm, hKB, hE, -, hD, -, hA, hAw, hRH, hl⟩ := h9
  have hx := cf.1
  have hb := cf.2.1
  have hml := cf.2.2.1
  have hown : s.vm.findClass RJ3 = some m.cls := cf.2.2.2.1
  have hts := cf.2.2.2.2
  have hK := hKB.1
  have hl : lv_has ls 2 [(0, .ref q)] := hl
  refine lv_aload_n hx hb dJ3_removeLast_0 rfl (lv_at hl 0 rfl) ?_
  have hF := hF_of (wc := [(q, .inr (4, [.ref da, .int (nI hd), .int (nI ((hd + k) % 17))])), (da, .inl (G.2 3, 17, .inr (.inr (.inr (.inr f)))))]) hD hS hA [0, 1] rfl
  refine go_ct hS hP hD [0, 1] [] hF rfl rfl (by decide) (by decide)
      (va_runV (As := []) (rest := []) cf (mJ3_pollLast l G q da hd k f xo (show hd < 17 from by first | assumption | omega) (show k ≤ 7 from by first | assumption | omega) (show 1 ≤ k from by first | assumption | omega) (show f ((hd + (k - 1)) % 17) = some xo from by first | assumption | omega) H.size) (cwV 0 hts (lw_V q1567 q1568 q1569 q53 q1570) rfl rfl rfl (by decide +kernel) ⟨Nat.le_of_ble_eq_true rfl, Nat.le_of_ble_eq_true rfl⟩) (preV_of hKB hE hS hF (va_recv hK hP (ci := 4) (q0 := 0) rfl rfl) (va_P.sub hP [0, 1] rfl) ((va_D.sub hD [0, 1] (by decide) rfl).weaken (fun _ _ _ _ => trivial)) trivial) rfl rfl hl.1 rfl (lv_room (Nat.le_of_ble_eq_true rfl)) dJ3_removeLast_1 ⟨show 0 + 0 ≤ 0 from by first | decide | omega, show 0 + 0 ≤ 0 from by first | decide | omega⟩)
      (fun u_ H locs hq hph (hP : va_P G.1 CL [(q, .inr (4, [.ref da, .int (nI hd), .int (nI ((hd + (k - 1)) % 17))])), (da, .inl (G.2 3, 17, .inr (.inr (.inr (.inr (va_up f ((hd + (k - 1)) % 17) none))))))] H) (hD : va_D A [(q, .inr (4, [.ref da, .int (nI hd), .int (nI ((hd + (k - 1)) % 17))])), (da, .inl (G.2 3, 17, .inr (.inr (.inr (.inr (va_up f ((hd + (k - 1)) % 17) none))))))]) hS hfz hfk => ?_)
  refine W.eq (g2 := F0 m 4 ls [.ref xo]) rfl ?_
  refine lv_astore_n (lv' := [(1, .ref xo), (0, .ref q)]) hx hb dJ3_removeLast_4 rfl hl (by decide) rfl (fun ls hl => ?_)
  refine lv_aload_n hx hb dJ3_removeLast_5 rfl (lv_at hl 0 rfl) ?_
  refine lv_ifnonnull (tgt := 17) hx hb dJ3_removeLast_6 (by decide) ?_
  refine lv_aload_n hx hb dJ3_removeLast_17 rfl (lv_at hl 0 rfl) ?_
  have hP9 : va_P G.1 CL [(q, .inr (4, [.ref da, .int (nI hd), .int (nI ((hd + (k - 1)) % 17))])), (da, .inl (G.2 3, 17, .inr (.inr (.inr (.inr (va_up f ((hd + (k - 1)) % 17) none))))))] H := hP.sub [0, 1] rfl
  have hD9 : va_D A [(q, .inr (4, [.ref da, .int (nI hd), .int (nI ((hd + (k - 1)) % 17))])), (da, .inl (G.2 3, 17, .inr (.inr (.inr (.inr (va_up f ((hd + (k - 1)) % 17) none))))))] := hD.sub [0, 1] (by decide) rfl
  exact end_a hx hb hr hlk (by first | exact Or.inl ⟨_, rfl⟩ | exact Or.inr ⟨_, rfl⟩) (Or.inr ⟨_, rfl⟩) (qc_of () (v := some (.ref xo)) (by rfl) (trivial) hP9 hD9 (trivial) hS) hS dJ3_removeLast_18 (show 0 ≤ 0 from by first | exact Nat.le_refl _ | decide | omega) (show 0 ≤ 0 from by first | exact Nat.le_refl _ | decide | omega)

set_option maxHeartbeats 4000000 in
theorem mJ3_circularClear (l : Launch) (G : Gt) (da : Nat) (f : Nat → Option Nat) (hd : Nat) (tl : Nat) (hhd : hd < 17) (htl : tl < 17) : CT l G yJ3_circularClear cJ3_circularClear 4 none ({ frames := 1, cells := 0, slots := 0, locals := 12 } : Room) [.ref da, .int (nI hd), .int (nI tl)] [(da, .inl (G.2 3, 17, .inr (.inr (.inr (.inr f)))))] RH0 (S := (Nat → Option Nat)) (fun (u_ : (Nat → Option Nat)) => (none : Option Value)) (fun (u_ : (Nat → Option Nat)) => True) (fun (u_ : (Nat → Option Nat)) => [(da, .inl (G.2 3, 17, .inr (.inr (.inr (.inr u_)))))]) (fun (u_ : (Nat → Option Nat)) (H : Heap) => True) := by
  refine CT.of (by decide) (Nat.le_of_ble_eq_true rfl) ?_
  intro p e s m below meth c ls A H locs h9 hH0 hP hS
  obtain ⟨cf, hr, hlk, hnm, hKB, hE, -, hD, -, hA, hAw, hRH, hl⟩ := h9
  have hx := cf.1
  have hb := cf.2.1
  have hml := cf.2.2.1
  have hown : s.vm.findClass RJ3 = some m.cls := cf.2.2.2.1
  have hts := cf.2.2.2.2
  have hK := hKB.1
  have hl : lv_has ls 4 [(0, .ref da), (1, .int (nI hd)), (2, .int (nI tl))] := hl
  refine lv_iload_n hx hb dJ3_circularClear_0 rfl (lv_at hl 1 rfl) ?_
  refine lv_iload_n hx hb dJ3_circularClear_1 rfl (lv_at hl 2 rfl) ?_
  refine n_icmp_gt (tgt := 9) hx hb (by omega) (by omega) dJ3_circularClear_2 (by decide) (fun c_2055 => ?_) (fun c_2055 => ?_)
  · refine lv_aload_n hx hb dJ3_circularClear_9 rfl (lv_at hl 0 rfl) ?_
    refine r_alen hx hb hK hP 0 3 rfl rfl dJ3_circularClear_10 ?_
    refine lv_istore_n (lv' := [(3, .int (nI 17)), (0, .ref da), (1, .int (nI hd)), (2, .int (nI tl))]) hx hb dJ3_circularClear_11 rfl hl (by decide) rfl (fun ls hl => ?_)
    have hl := lv_sub hl [1, 2, 3, 0] (l' := [(0, .ref da), (1, .int (nI hd)), (2, .int (nI tl)), (3, .int (nI 17))]) rfl
    refine lp_W (σ := Nat × Nat × Nat × (Nat → Option Nat)) (hpc := 12) (fun x => 40 * x.2.2.1 + (17 - x.1)) (fun x => 0) (fun x => 0) (fun x H locs ls => va_P G.1 CL [(da, .inl (G.2 3, 17, .inr (.inr (.inr (.inr x.2.2.2)))))] H ∧ va_D A [(da, .inl (G.2 3, 17, .inr (.inr (.inr (.inr x.2.2.2)))))] ∧ va_S A s.heap H locs ∧ lv_has ls 4 [(0, .ref da), (1, .int (nI x.1)), (2, .int (nI tl)), (3, .int (nI x.2.1))] ∧ (x.1 ≤ 17 ∧ x.2.1 ≤ 17 ∧ ((x.2.2.1 = 0 ∧ x.2.1 = tl) ∨ (x.2.2.1 = 1 ∧ x.2.1 = 17 ∧ tl ≠ 17)))) ?_ (hd, 17, 1, f) ⟨(show va_P G.1 CL [(da, .inl (G.2 3, 17, .inr (.inr (.inr (.inr f)))))] H from hP), (show va_D A [(da, .inl (G.2 3, 17, .inr (.inr (.inr (.inr f)))))] from hD), hS, hl, (show hd ≤ 17 ∧ 17 ≤ 17 ∧ ((1 = 0 ∧ 17 = tl) ∨ (1 = 1 ∧ 17 = 17 ∧ tl ≠ 17)) from by omega)⟩ (show 0 ≤ 0 from by first | exact Nat.le_refl _ | omega) (show 0 ≤ 0 from by first | exact Nat.le_refl _ | omega)
    intro x H locs ls hI9 ih12
    obtain ⟨i_2057, to_2058, ph_2059, g_2060⟩ := x
    obtain ⟨hP, hD, hS, hl, hp_2056⟩ := hI9
    have hP : va_P G.1 CL [(da, .inl (G.2 3, 17, .inr (.inr (.inr (.inr g_2060)))))] H := hP
    have hD : va_D A [(da, .inl (G.2 3, 17, .inr (.inr (.inr (.inr g_2060)))))] := hD
    have hl : lv_has ls 4 [(0, .ref da), (1, .int (nI i_2057)), (2, .int (nI tl)), (3, .int (nI to_2058))] := hl
    have hp_2056 : i_2057 ≤ 17 ∧ to_2058 ≤ 17 ∧ ((ph_2059 = 0 ∧ to_2058 = tl) ∨ (ph_2059 = 1 ∧ to_2058 = 17 ∧ tl ≠ 17)) := hp_2056
    refine lv_iload_n hx hb dJ3_circularClear_12 rfl (lv_at hl 1 rfl) ?_
    refine lv_iload_n hx hb dJ3_circularClear_13 rfl (lv_at hl 3 rfl) ?_
    refine n_icmp_ge (tgt := 27) hx hb (by omega) (by omega) dJ3_circularClear_14 (by decide) (fun c_2063 => ?_) (fun c_2063 => ?_)
    · refine lv_iload_n hx hb dJ3_circularClear_27 rfl (lv_at hl 3 rfl) ?_
      refine lv_iload_n hx hb dJ3_circularClear_28 rfl (lv_at hl 2 rfl) ?_
      refine n_icmp_ne (tgt := 35) hx hb (by omega) (by omega) dJ3_circularClear_29 (by decide) (fun c_2066 => ?_) (fun c_2066 => ?_)
      · refine lv_iconst (v := nI 0) hx hb dJ3_circularClear_35 (by decide) ?_
        refine lv_istore_n (lv' := [(1, .int (nI 0)), (0, .ref da), (2, .int (nI tl)), (3, .int (nI to_2058))]) hx hb dJ3_circularClear_36 rfl hl (by decide) rfl (fun ls hl => ?_)
        refine lv_iload_n hx hb dJ3_circularClear_37 rfl (lv_at hl 2 rfl) ?_
        refine lv_istore_n (lv' := [(3, .int (nI tl)), (1, .int (nI 0)), (0, .ref da), (2, .int (nI tl))]) hx hb dJ3_circularClear_38 rfl hl (by decide) rfl (fun ls hl => ?_)
        refine lv_goto (tgt := 12) hx hb dJ3_circularClear_39 (by decide) ?_
        have hP : va_P G.1 CL [(da, .inl (G.2 3, 17, .inr (.inr (.inr (.inr g_2060)))))] H := hP.sub [0] rfl
        have hD : va_D A [(da, .inl (G.2 3, 17, .inr (.inr (.inr (.inr g_2060)))))] := hD.sub [0] (by decide) rfl
        have hl := lv_sub hl [2, 1, 3, 0] (l' := [(0, .ref da), (1, .int (nI 0)), (2, .int (nI tl)), (3, .int (nI tl))]) rfl
        exact W.widen (show 0 ≤ 0 from by first | exact Nat.le_refl _ | omega) (show 0 ≤ 0 from by first | exact Nat.le_refl _ | omega) (ih12 (0, tl, 0, g_2060) H locs ls ⟨hP, hD, hS, hl, (show 0 ≤ 17 ∧ tl ≤ 17 ∧ ((0 = 0 ∧ tl = tl) ∨ (0 = 1 ∧ tl = 17 ∧ tl ≠ 17)) from by omega)⟩ (show 40 * 0 + (17 - 0) < 40 * ph_2059 + (17 - i_2057) from by omega))
      · refine lv_goto (tgt := 42) hx hb dJ3_circularClear_32 (by decide) ?_
        have hP9 : va_P G.1 CL [(da, .inl (G.2 3, 17, .inr (.inr (.inr (.inr g_2060)))))] H := hP.sub [0] rfl
        have hD9 : va_D A [(da, .inl (G.2 3, 17, .inr (.inr (.inr (.inr g_2060)))))] := hD.sub [0] (by decide) rfl
        exact end_v hx hb hr hlk (qc_of g_2060 (v := none) (by rfl) (trivial) hP9 hD9 (trivial) hS) hS dJ3_circularClear_42 (show 0 ≤ 0 from by first | exact Nat.le_refl _ | decide | omega) (show 0 ≤ 0 from by first | exact Nat.le_refl _ | decide | omega)
    · refine lv_aload_n hx hb dJ3_circularClear_17 rfl (lv_at hl 0 rfl) ?_
      refine lv_iload_n hx hb dJ3_circularClear_18 rfl (lv_at hl 1 rfl) ?_
      refine lv_null hx hb dJ3_circularClear_19 ?_
      refine r_astN (i := i_2057) hx hb hKB hP hD hS 0 rfl (by omega) (by omega) dJ3_circularClear_20 (fun H locs (hP : va_P G.1 CL [(da, .inl (G.2 3, 17, .inr (.inr (.inr (.inr (va_up g_2060 i_2057 none))))))] H) (hD : va_D A [(da, .inl (G.2 3, 17, .inr (.inr (.inr (.inr (va_up g_2060 i_2057 none))))))]) hS => ?_)
      refine lv_iinc (v := nI (i_2057 + 1)) (lv' := [(1, .int (nI (i_2057 + 1))), (0, .ref da), (2, .int (nI tl)), (3, .int (nI to_2058))]) hx hb dJ3_circularClear_21 hl (k := 1) rfl (ninc (b := 1) (by decide) (by omega)) (by decide) rfl (fun ls hl => ?_)
      refine lv_goto (tgt := 12) hx hb dJ3_circularClear_24 (by decide) ?_
      have hP : va_P G.1 CL [(da, .inl (G.2 3, 17, .inr (.inr (.inr (.inr (va_up g_2060 i_2057 none))))))] H := hP.sub [0] rfl
      have hD : va_D A [(da, .inl (G.2 3, 17, .inr (.inr (.inr (.inr (va_up g_2060 i_2057 none))))))] := hD.sub [0] (by decide) rfl
      have hl := lv_sub hl [1, 0, 2, 3] (l' := [(0, .ref da), (1, .int (nI (i_2057 + 1))), (2, .int (nI tl)), (3, .int (nI to_2058))]) rfl
      exact W.widen (show 0 ≤ 0 from by first | exact Nat.le_refl _ | omega) (show 0 ≤ 0 from by first | exact Nat.le_refl _ | omega) (ih12 (i_2057 + 1, to_2058, ph_2059, va_up g_2060 i_2057 none) H locs ls ⟨hP, hD, hS, hl, (show (i_2057 + 1) ≤ 17 ∧ to_2058 ≤ 17 ∧ ((ph_2059 = 0 ∧ to_2058 = tl) ∨ (ph_2059 = 1 ∧ to_2058 = 17 ∧ tl ≠ 17)) from by omega)⟩ (show 40 * ph_2059 + (17 - (i_2057 + 1)) < 40 * ph_2059 + (17 - i_2057) from by omega))
  · refine lv_iload_n hx hb dJ3_circularClear_5 rfl (lv_at hl 2 rfl) ?_
    refine lv_goto (tgt := 11) hx hb dJ3_circularClear_6 (by decide) ?_
    refine lv_istore_n (lv' := [(3, .int (nI tl)), (0, .ref da), (1, .int (nI hd)), (2, .int (nI tl))]) hx hb dJ3_circularClear_11 rfl hl (by decide) rfl (fun ls hl => ?_)
    have hl := lv_sub hl [1, 2, 3, 0] (l' := [(0, .ref da), (1, .int (nI hd)), (2, .int (nI tl)), (3, .int (nI tl))]) rfl
    refine lp_W (σ := Nat × Nat × Nat × (Nat → Option Nat)) (hpc := 12) (fun x => 40 * x.2.2.1 + (17 - x.1)) (fun x => 0) (fun x => 0) (fun x H locs ls => va_P G.1 CL [(da, .inl (G.2 3, 17, .inr (.inr (.inr (.inr x.2.2.2)))))] H ∧ va_D A [(da, .inl (G.2 3, 17, .inr (.inr (.inr (.inr x.2.2.2)))))] ∧ va_S A s.heap H locs ∧ lv_has ls 4 [(0, .ref da), (1, .int (nI x.1)), (2, .int (nI tl)), (3, .int (nI x.2.1))] ∧ (x.1 ≤ 17 ∧ x.2.1 ≤ 17 ∧ ((x.2.2.1 = 0 ∧ x.2.1 = tl) ∨ (x.2.2.1 = 1 ∧ x.2.1 = 17 ∧ tl ≠ 17)))) ?_ (hd, tl, 0, f) ⟨(show va_P G.1 CL [(da, .inl (G.2 3, 17, .inr (.inr (.inr (.inr f)))))] H from hP), (show va_D A [(da, .inl (G.2 3, 17, .inr (.inr (.inr (.inr f)))))] from hD), hS, hl, (show hd ≤ 17 ∧ tl ≤ 17 ∧ ((0 = 0 ∧ tl = tl) ∨ (0 = 1 ∧ tl = 17 ∧ tl ≠ 17)) from by omega)⟩ (show 0 ≤ 0 from by first | exact Nat.le_refl _ | omega) (show 0 ≤ 0 from by first | exact Nat.le_refl _ | omega)
    intro x H locs ls hI9 ih12
    obtain ⟨i_2068, to_2069, ph_2070, g_2071⟩ := x
    obtain ⟨hP, hD, hS, hl, hp_2067⟩ := hI9
    have hP : va_P G.1 CL [(da, .inl (G.2 3, 17, .inr (.inr (.inr (.inr g_2071)))))] H := hP
    have hD : va_D A [(da, .inl (G.2 3, 17, .inr (.inr (.inr (.inr g_2071)))))] := hD
    have hl : lv_has ls 4 [(0, .ref da), (1, .int (nI i_2068)), (2, .int (nI tl)), (3, .int (nI to_2069))] := hl
    have hp_2067 : i_2068 ≤ 17 ∧ to_2069 ≤ 17 ∧ ((ph_2070 = 0 ∧ to_2069 = tl) ∨ (ph_2070 = 1 ∧ to_2069 = 17 ∧ tl ≠ 17)) := hp_2067
    refine lv_iload_n hx hb dJ3_circularClear_12 rfl (lv_at hl 1 rfl) ?_
    refine lv_iload_n hx hb dJ3_circularClear_13 rfl (lv_at hl 3 rfl) ?_
    refine n_icmp_ge (tgt := 27) hx hb (by omega) (by omega) dJ3_circularClear_14 (by decide) (fun c_2074 => ?_) (fun c_2074 => ?_)
    · refine lv_iload_n hx hb dJ3_circularClear_27 rfl (lv_at hl 3 rfl) ?_
      refine lv_iload_n hx hb dJ3_circularClear_28 rfl (lv_at hl 2 rfl) ?_
      refine n_icmp_ne (tgt := 35) hx hb (by omega) (by omega) dJ3_circularClear_29 (by decide) (fun c_2077 => ?_) (fun c_2077 => ?_)
      · refine lv_iconst (v := nI 0) hx hb dJ3_circularClear_35 (by decide) ?_
        refine lv_istore_n (lv' := [(1, .int (nI 0)), (0, .ref da), (2, .int (nI tl)), (3, .int (nI to_2069))]) hx hb dJ3_circularClear_36 rfl hl (by decide) rfl (fun ls hl => ?_)
        refine lv_iload_n hx hb dJ3_circularClear_37 rfl (lv_at hl 2 rfl) ?_
        refine lv_istore_n (lv' := [(3, .int (nI tl)), (1, .int (nI 0)), (0, .ref da), (2, .int (nI tl))]) hx hb dJ3_circularClear_38 rfl hl (by decide) rfl (fun ls hl => ?_)
        refine lv_goto (tgt := 12) hx hb dJ3_circularClear_39 (by decide) ?_
        have hP : va_P G.1 CL [(da, .inl (G.2 3, 17, .inr (.inr (.inr (.inr g_2071)))))] H := hP.sub [0] rfl
        have hD : va_D A [(da, .inl (G.2 3, 17, .inr (.inr (.inr (.inr g_2071)))))] := hD.sub [0] (by decide) rfl
        have hl := lv_sub hl [2, 1, 3, 0] (l' := [(0, .ref da), (1, .int (nI 0)), (2, .int (nI tl)), (3, .int (nI tl))]) rfl
        exact W.widen (show 0 ≤ 0 from by first | exact Nat.le_refl _ | omega) (show 0 ≤ 0 from by first | exact Nat.le_refl _ | omega) (ih12 (0, tl, 0, g_2071) H locs ls ⟨hP, hD, hS, hl, (show 0 ≤ 17 ∧ tl ≤ 17 ∧ ((0 = 0 ∧ tl = tl) ∨ (0 = 1 ∧ tl = 17 ∧ tl ≠ 17)) from by omega)⟩ (show 40 * 0 + (17 - 0) < 40 * ph_2070 + (17 - i_2068) from by omega))
      · refine lv_goto (tgt := 42) hx hb dJ3_circularClear_32 (by decide) ?_
        have hP9 : va_P G.1 CL [(da, .inl (G.2 3, 17, .inr (.inr (.inr (.inr g_2071)))))] H := hP.sub [0] rfl
        have hD9 : va_D A [(da, .inl (G.2 3, 17, .inr (.inr (.inr (.inr g_2071)))))] := hD.sub [0] (by decide) rfl
        exact end_v hx hb hr hlk (qc_of g_2071 (v := none) (by rfl) (trivial) hP9 hD9 (trivial) hS) hS dJ3_circularClear_42 (show 0 ≤ 0 from by first | exact Nat.le_refl _ | decide | omega) (show 0 ≤ 0 from by first | exact Nat.le_refl _ | decide | omega)
    · refine lv_aload_n hx hb dJ3_circularClear_17 rfl (lv_at hl 0 rfl) ?_
      refine lv_iload_n hx hb dJ3_circularClear_18 rfl (lv_at hl 1 rfl) ?_
      refine lv_null hx hb dJ3_circularClear_19 ?_
      refine r_astN (i := i_2068) hx hb hKB hP hD hS 0 rfl (by omega) (by omega) dJ3_circularClear_20 (fun H locs (hP : va_P G.1 CL [(da, .inl (G.2 3, 17, .inr (.inr (.inr (.inr (va_up g_2071 i_2068 none))))))] H) (hD : va_D A [(da, .inl (G.2 3, 17, .inr (.inr (.inr (.inr (va_up g_2071 i_2068 none))))))]) hS => ?_)
      refine lv_iinc (v := nI (i_2068 + 1)) (lv' := [(1, .int (nI (i_2068 + 1))), (0, .ref da), (2, .int (nI tl)), (3, .int (nI to_2069))]) hx hb dJ3_circularClear_21 hl (k := 1) rfl (ninc (b := 1) (by decide) (by omega)) (by decide) rfl (fun ls hl => ?_)
      refine lv_goto (tgt := 12) hx hb dJ3_circularClear_24 (by decide) ?_
      have hP : va_P G.1 CL [(da, .inl (G.2 3, 17, .inr (.inr (.inr (.inr (va_up g_2071 i_2068 none))))))] H := hP.sub [0] rfl
      have hD : va_D A [(da, .inl (G.2 3, 17, .inr (.inr (.inr (.inr (va_up g_2071 i_2068 none))))))] := hD.sub [0] (by decide) rfl
      have hl := lv_sub hl [1, 0, 2, 3] (l' := [(0, .ref da), (1, .int (nI (i_2068 + 1))), (2, .int (nI tl)), (3, .int (nI to_2069))]) rfl
      exact W.widen (show 0 ≤ 0 from by first | exact Nat.le_refl _ | omega) (show 0 ≤ 0 from by first | exact Nat.le_refl _ | omega) (ih12 (i_2068 + 1, to_2069, ph_2070, va_up g_2071 i_2068 none) H locs ls ⟨hP, hD, hS, hl, (show (i_2068 + 1) ≤ 17 ∧ to_2069 ≤ 17 ∧ ((ph_2070 = 0 ∧ to_2069 = tl) ∨ (ph_2070 = 1 ∧ to_2069 = 17 ∧ tl ≠ 17)) from by omega)⟩ (show 40 * ph_2070 + (17 - (i_2068 + 1)) < 40 * ph_2070 + (17 - i_2068) from by omega))

set_option maxHeartbeats 4000000 in
theorem mJ3_clear (l : Launch) (G : Gt) (q : Nat) (da : Nat) (hd : Nat) (k : Nat) (f : Nat → Option Nat) (hhd : hd < 17) (hk : k ≤ 7) : CT l G yJ3_clear cJ3_clear 1 none ({ frames := 2, cells := 0, slots := 0, locals := 35 } : Room) [.ref q] [(q, .inr (4, [.ref da, .int (nI hd), .int (nI ((hd + k) % 17))])), (da, .inl (G.2 3, 17, .inr (.inr (.inr (.inr f)))))] RH0 (S := (Nat → Option Nat)) (fun (u_ : (Nat → Option Nat)) => (none : Option Value)) (fun (u_ : (Nat → Option Nat)) => True) (fun (u_ : (Nat → Option Nat)) => [(q, .inr (4, [.ref da, .int (nI 0), .int (nI 0)])), (da, .inl (G.2 3, 17, .inr (.inr (.inr (.inr u_)))))]) (fun (u_ : (Nat → Option Nat)) (H : Heap) => True) := by
  refine CT.of (by decide) (Nat.le_of_ble_eq_true rfl) ?_
  intro p e s m below meth c ls A H locs h9 hH0 hP hS
  obtain ⟨cf, hr, hlk, hnm, hKB, hE, -, hD, -, hA, hAw, hRH, hl⟩ := h9
  have hx := cf.1
  have hb := cf.2.1
  have hml := cf.2.2.1
  have hown : s.vm.findClass RJ3 = some m.cls := cf.2.2.2.1
  have hts := cf.2.2.2.2
  have hK := hKB.1
  have hl : lv_has ls 1 [(0, .ref q)] := hl
  refine lv_aload_n hx hb dJ3_clear_0 rfl (lv_at hl 0 rfl) ?_
  refine va_get hx hb hts in_J3 hown hK hP 0 rfl rfl 0 (by decide) (hts _ q195) (fun _ h => h) rfl dJ3_clear_1 ?_
  refine lv_aload_n hx hb dJ3_clear_4 rfl (lv_at hl 0 rfl) ?_
  refine va_get hx hb hts in_J3 hown hK hP 0 rfl rfl 1 (by decide) (hts _ q196) (fun _ h => h) rfl dJ3_clear_5 ?_
  refine lv_aload_n hx hb dJ3_clear_8 rfl (lv_at hl 0 rfl) ?_
  refine va_get hx hb hts in_J3 hown hK hP 0 rfl rfl 2 (by decide) (hts _ q197) (fun _ h => h) rfl dJ3_clear_9 ?_
  have hF := hF_of (wc := [(da, .inl (G.2 3, 17, .inr (.inr (.inr (.inr f)))))]) hD hS hA [1] rfl
  refine go_ct hS hP hD [1] [0] hF rfl rfl (by decide) (by decide)
      (va_runS (As := [.ref da, .int (nI hd), .int (nI ((hd + k) % 17))]) (rest := []) cf (mJ3_circularClear l G da f hd ((hd + k) % 17) (show hd < 17 from by first | assumption | omega) (show ((hd + k) % 17) < 17 from by first | assumption | omega) H.size) (va_cwS 3 hts (lw_S q1585 q1586 q53 q1587) rfl rfl rfl (by decide +kernel) ⟨Nat.le_of_ble_eq_true rfl, Nat.le_of_ble_eq_true rfl⟩) (preS_of hKB hE hS hF (va_P.sub hP [1] rfl) ((va_D.sub hD [1] (by decide) rfl).weaken (fun _ _ _ _ => trivial)) trivial) rfl rfl hl.1 rfl (lv_room (Nat.le_of_ble_eq_true rfl)) dJ3_clear_12 ⟨show 0 + 0 ≤ 0 from by first | decide | omega, show 0 + 0 ≤ 0 from by first | decide | omega⟩)
      (fun u_ H locs hq hph (hP : va_P G.1 CL [(q, .inr (4, [.ref da, .int (nI hd), .int (nI ((hd + k) % 17))])), (da, .inl (G.2 3, 17, .inr (.inr (.inr (.inr u_)))))] H) (hD : va_D A [(q, .inr (4, [.ref da, .int (nI hd), .int (nI ((hd + k) % 17))])), (da, .inl (G.2 3, 17, .inr (.inr (.inr (.inr u_)))))]) hS hfz hfk => ?_)
  obtain ⟨f2_2078, rfl⟩ : ∃ z, z = u_ := ⟨_, rfl⟩
  have hP : va_P G.1 CL [(q, .inr (4, [.ref da, .int (nI hd), .int (nI ((hd + k) % 17))])), (da, .inl (G.2 3, 17, .inr (.inr (.inr (.inr f2_2078)))))] H := hP
  have hD : va_D A [(q, .inr (4, [.ref da, .int (nI hd), .int (nI ((hd + k) % 17))])), (da, .inl (G.2 3, 17, .inr (.inr (.inr (.inr f2_2078)))))] := hD
  refine W.eq (g2 := F0 m 15 ls []) rfl ?_
  refine lv_aload_n hx hb dJ3_clear_15 rfl (lv_at hl 0 rfl) ?_
  refine lv_aload_n hx hb dJ3_clear_16 rfl (lv_at hl 0 rfl) ?_
  refine lv_iconst (v := nI 0) hx hb dJ3_clear_17 (by decide) ?_
  refine lv_dup_x1 hx hb dJ3_clear_18 rfl rfl ?_
  refine va_put (v := .int (nI 0)) (ty := .int) hx hb hts in_J3 tyJ3 tyJ3_ok nmJ3 hown hK hP hD hS 0 rfl rfl 2 (by decide) (hts _ q197) (fun _ h => h) rfl (by decide +kernel) rfl rfl (Nat.le_of_ble_eq_true rfl) dJ3_clear_19 (fun H locs (hP : va_P G.1 CL [(q, .inr (4, [.ref da, .int (nI hd), .int (nI 0)])), (da, .inl (G.2 3, 17, .inr (.inr (.inr (.inr f2_2078)))))] H) (hD : va_D A [(q, .inr (4, [.ref da, .int (nI hd), .int (nI 0)])), (da, .inl (G.2 3, 17, .inr (.inr (.inr (.inr f2_2078)))))]) hS => ?_)
  refine va_put (v := .int (nI 0)) (ty := .int) hx hb hts in_J3 tyJ3 tyJ3_ok nmJ3 hown hK hP hD hS 0 rfl rfl 1 (by decide) (hts _ q196) (fun _ h => h) rfl (by decide +kernel) rfl rfl (Nat.le_of_ble_eq_true rfl) dJ3_clear_22 (fun H locs (hP : va_P G.1 CL [(q, .inr (4, [.ref da, .int (nI 0), .int (nI 0)])), (da, .inl (G.2 3, 17, .inr (.inr (.inr (.inr f2_2078)))))] H) (hD : va_D A [(q, .inr (4, [.ref da, .int (nI 0), .int (nI 0)])), (da, .inl (G.2 3, 17, .inr (.inr (.inr (.inr f2_2078)))))]) hS => ?_)
  have hP9 : va_P G.1 CL [(q, .inr (4, [.ref da, .int (nI 0), .int (nI 0)])), (da, .inl (G.2 3, 17, .inr (.inr (.inr (.inr f2_2078)))))] H := hP.sub [0, 1] rfl
  have hD9 : va_D A [(q, .inr (4, [.ref da, .int (nI 0), .int (nI 0)])), (da, .inl (G.2 3, 17, .inr (.inr (.inr (.inr f2_2078)))))] := hD.sub [0, 1] (by decide) rfl
  exact end_v hx hb hr hlk (qc_of f2_2078 (v := none) (by rfl) (trivial) hP9 hD9 (trivial) hS) hS dJ3_clear_25 (show 0 ≤ 0 from by first | exact Nat.le_refl _ | decide | omega) (show 0 ≤ 0 from by first | exact Nat.le_refl _ | decide | omega)

set_option maxHeartbeats 4000000 in
theorem mJ4_init (l : Launch) (G : Gt) (sb : Nat) : CT l G yJ4_init cJ4_init 2 none ({ frames := 1, cells := 1, slots := 16, locals := 12 } : Room) [.ref sb, .int (nI 16)] [(sb, .inr (5, [.null, .int (nI 0), .int (nI 0), .int (nI 0)]))] RH0 (S := Nat) (fun (u_ : Nat) => (none : Option Value)) (fun (u_ : Nat) => True) (fun (u_ : Nat) => [(sb, .inr (5, [.ref u_, .int (nI 0), .int (nI 0), .int (nI 0)])), (u_, .inl (G.2 4, 16, .inl (fun _ => 0)))]) (fun (u_ : Nat) (H : Heap) => True) := by
  refine CT.of (by decide) (Nat.le_of_ble_eq_true rfl) ?_
  intro p e s m below meth c ls A H locs h9 hH0 hP hS
  obtain ⟨cf, hr, hlk, hnm, hKB, hE, -, hD, -, hA, hAw, hRH, hl⟩ := h9
  have hx := cf.1
  have hb := cf.2.1
  have hml := cf.2.2.1
  have hown : s.vm.findClass RJ4 = some m.cls := cf.2.2.2.1
  have hts := cf.2.2.2.2
  have hK := hKB.1
  have hl : lv_has ls 2 [(0, .ref sb), (1, .int (nI 16))] := hl
  refine lv_aload_n hx hb dJ4_init_0 rfl (lv_at hl 0 rfl) ?_
  refine W.objInit hx hb hown (hts _ q213) (hts _ q89) (hts _ q90) rfl (by rw [hml]; exact hl.1) rfl dJ4_init_1 (Nat.le_of_ble_eq_true rfl) (Nat.le_of_ble_eq_true rfl) ?_
  refine W.eq (g2 := F0 m 4 ls []) rfl ?_
  refine va_gets (v := .int (nI 1)) hx hb hE.2.2.2.2.1 hS hown (hts _ q214) (fun _ h => h) dJ4_init_4 ?_
  refine n_if_eq (tgt := 25) hx hb (by omega) dJ4_init_7 (by decide) (fun c_2079 => absurd c_2079 (by omega)) (fun c_2079 => ?_)
  refine lv_aload_n hx hb dJ4_init_10 rfl (lv_at hl 0 rfl) ?_
  refine lv_iload_n hx hb dJ4_init_11 rfl (lv_at hl 1 rfl) ?_
  refine r_newa_B (n := 16) hx hb (hts _ q237) hKB hP hD hS hA (by omega) (show 0 + 1 ≤ 1 from by first | decide | omega) (show 0 + 16 ≤ 16 from by first | decide | omega) dJ4_init_12 (fun a_2080 H (hP : va_P G.1 CL [(sb, .inr (5, [.null, .int (nI 0), .int (nI 0), .int (nI 0)])), (a_2080, .inl (G.2 4, 16, .inl (fun _ => 0)))] H) (hD : va_D A [(sb, .inr (5, [.null, .int (nI 0), .int (nI 0), .int (nI 0)])), (a_2080, .inl (G.2 4, 16, .inl (fun _ => 0)))]) hS => ?_)
  refine va_put (v := .ref a_2080) (ty := (.array .byte)) hx hb hts in_J5 tyJ5 tyJ5_ok nmJ5 hown hK hP hD hS 0 rfl rfl 0 (by decide) (hts _ q223) (fun _ h => h) rfl (by decide +kernel) rfl rfl (Nat.le_of_ble_eq_true rfl) dJ4_init_14 (fun H locs (hP : va_P G.1 CL [(sb, .inr (5, [.ref a_2080, .int (nI 0), .int (nI 0), .int (nI 0)])), (a_2080, .inl (G.2 4, 16, .inl (fun _ => 0)))] H) (hD : va_D A [(sb, .inr (5, [.ref a_2080, .int (nI 0), .int (nI 0), .int (nI 0)])), (a_2080, .inl (G.2 4, 16, .inl (fun _ => 0)))]) hS => ?_)
  refine lv_aload_n hx hb dJ4_init_17 rfl (lv_at hl 0 rfl) ?_
  refine lv_iconst (v := nI 0) hx hb dJ4_init_18 (by decide) ?_
  refine va_put (v := .int (nI 0)) (ty := .byte) hx hb hts in_J5 tyJ5 tyJ5_ok nmJ5 hown hK hP hD hS 0 rfl rfl 1 (by decide) (hts _ q224) (fun _ h => h) rfl (by decide +kernel) (by decide) (by decide) (Nat.le_of_ble_eq_true rfl) dJ4_init_19 (fun H locs (hP : va_P G.1 CL [(sb, .inr (5, [.ref a_2080, .int (nI 0), .int (nI 0), .int (nI 0)])), (a_2080, .inl (G.2 4, 16, .inl (fun _ => 0)))] H) (hD : va_D A [(sb, .inr (5, [.ref a_2080, .int (nI 0), .int (nI 0), .int (nI 0)])), (a_2080, .inl (G.2 4, 16, .inl (fun _ => 0)))]) hS => ?_)
  refine lv_goto (tgt := 38) hx hb dJ4_init_22 (by decide) ?_
  have hP9 : va_P G.1 CL [(sb, .inr (5, [.ref a_2080, .int (nI 0), .int (nI 0), .int (nI 0)])), (a_2080, .inl (G.2 4, 16, .inl (fun _ => 0)))] H := hP.sub [0, 1] rfl
  have hD9 : va_D A [(sb, .inr (5, [.ref a_2080, .int (nI 0), .int (nI 0), .int (nI 0)])), (a_2080, .inl (G.2 4, 16, .inl (fun _ => 0)))] := hD.sub [0, 1] (by decide) rfl
  exact end_v hx hb hr hlk (qc_of a_2080 (v := none) (by rfl) (trivial) hP9 hD9 (trivial) hS) hS dJ4_init_38 (show 0 + 1 ≤ 1 from by first | exact Nat.le_refl _ | decide | omega) (show 0 + 16 ≤ 16 from by first | exact Nat.le_refl _ | decide | omega)

set_option maxHeartbeats 4000000 in
theorem mJ5_init (l : Launch) (G : Gt) (sb : Nat) : CT l G yJ5_init cJ5_init 1 none ({ frames := 2, cells := 1, slots := 16, locals := 33 } : Room) [.ref sb] [(sb, .inr (5, [.null, .int (nI 0), .int (nI 0), .int (nI 0)]))] RH0 (S := Nat) (fun (u_ : Nat) => (none : Option Value)) (fun (u_ : Nat) => True) (fun (u_ : Nat) => [(sb, .inr (5, [.ref u_, .int (nI 0), .int (nI 0), .int (nI 0)])), (u_, .inl (G.2 4, 16, .inl (fun _ => 0)))]) (fun (u_ : Nat) (H : Heap) => True) := by
  refine CT.of (by decide) (Nat.le_of_ble_eq_true rfl) ?_
  intro p e s m below meth c ls A H locs h9 hH0 hP hS
  obtain ⟨cf, hr, hlk, hnm, hKB, hE, -, hD, -, hA, hAw, hRH, hl⟩ := h9
  have hx := cf.1
  have hb := cf.2.1
  have hml := cf.2.2.1
  have hown : s.vm.findClass RJ5 = some m.cls := cf.2.2.2.1
  have hts := cf.2.2.2.2
  have hK := hKB.1
  have hl : lv_has ls 1 [(0, .ref sb)] := hl
  refine lv_aload_n hx hb dJ5_init_0 rfl (lv_at hl 0 rfl) ?_
  refine lv_bipush (v := nI 16) hx hb dJ5_init_1 (by decide) ?_
  have hF := hF_of (wc := [(sb, .inr (5, [.null, .int (nI 0), .int (nI 0), .int (nI 0)]))]) hD hS hA [0] rfl
  refine go_ct hS hP hD [0] [] hF rfl rfl (by decide) (by decide)
      (va_runI (As := [.int (nI 16)]) (rest := []) cf (mJ4_init l G sb  H.size) (cwI 1 hts (lw_meth q212) rfl rfl rfl (hts _ q54) (hts _ q210) (hts _ q211) rfl (by decide +kernel) ⟨Nat.le_of_ble_eq_true rfl, Nat.le_of_ble_eq_true rfl⟩) (preS_of hKB hE hS hF (va_P.sub hP [0] rfl) ((va_D.sub hD [0] (by decide) rfl).weaken (fun _ _ _ _ => trivial)) trivial) rfl rfl hl.1 rfl (lv_room (Nat.le_of_ble_eq_true rfl)) dJ5_init_3 ⟨show 0 + 1 ≤ 1 from by first | decide | omega, show 0 + 16 ≤ 16 from by first | decide | omega⟩)
      (fun u_ H locs hq hph (hP : va_P G.1 CL [(sb, .inr (5, [.ref u_, .int (nI 0), .int (nI 0), .int (nI 0)])), (u_, .inl (G.2 4, 16, .inl (fun _ => 0)))] H) (hD : va_D A [(sb, .inr (5, [.ref u_, .int (nI 0), .int (nI 0), .int (nI 0)])), (u_, .inl (G.2 4, 16, .inl (fun _ => 0)))]) hS hfz hfk => ?_)
  obtain ⟨va_2081, rfl⟩ : ∃ z, z = u_ := ⟨_, rfl⟩
  have hP : va_P G.1 CL [(sb, .inr (5, [.ref va_2081, .int (nI 0), .int (nI 0), .int (nI 0)])), (va_2081, .inl (G.2 4, 16, .inl (fun _ => 0)))] H := hP
  have hD : va_D A [(sb, .inr (5, [.ref va_2081, .int (nI 0), .int (nI 0), .int (nI 0)])), (va_2081, .inl (G.2 4, 16, .inl (fun _ => 0)))] := hD
  refine W.eq (g2 := F0 m 6 ls []) rfl ?_
  have hP9 : va_P G.1 CL [(sb, .inr (5, [.ref va_2081, .int (nI 0), .int (nI 0), .int (nI 0)])), (va_2081, .inl (G.2 4, 16, .inl (fun _ => 0)))] H := hP.sub [0, 1] rfl
  have hD9 : va_D A [(sb, .inr (5, [.ref va_2081, .int (nI 0), .int (nI 0), .int (nI 0)])), (va_2081, .inl (G.2 4, 16, .inl (fun _ => 0)))] := hD.sub [0, 1] (by decide) rfl
  exact end_v hx hb hr hlk (qc_of va_2081 (v := none) (by rfl) (trivial) hP9 hD9 (trivial) hS) hS dJ5_init_6 (show 0 + 1 ≤ 1 from by first | exact Nat.le_refl _ | decide | omega) (show 0 + 16 ≤ 16 from by first | exact Nat.le_refl _ | decide | omega)

set_option maxHeartbeats 4000000 in
theorem mJ4_isLatin1 (l : Launch) (G : Gt) (sb : Nat) (va : Nat) (ml : Int32) (ct : Nat) : CT l G yJ4_isLatin1 cJ4_isLatin1 1 (some .boolean) ({ frames := 1, cells := 0, slots := 0, locals := 12 } : Room) [.ref sb] [] (fun (A : Nat → Prop) (H : Heap) => roW G A H [(sb, .inr (5, [.ref va, .int (nI 0), .int ml, .int (nI ct)]))]) (S := Unit) (fun (u_ : Unit) => some (.int (nI 1))) (fun (u_ : Unit) => True) (fun (u_ : Unit) => []) (fun (u_ : Unit) (H : Heap) => True) := by
  refine CT.of (by decide) (Nat.le_of_ble_eq_true rfl) ?_
  intro p e s m below meth c ls A H locs h9 hH0 hP hS
  obtain ⟨cf, hr, hlk, hnm, hKB, hE, -, hD, -, hA, hAw, hR0, hl⟩ := h9
  have hx := cf.1
  have hb := cf.2.1
  have hml := cf.2.2.1
  have hown : s.vm.findClass RJ4 = some m.cls := cf.2.2.2.1
  have hts := cf.2.2.2.2
  have hK := hKB.1
  have hl : lv_has ls 1 [(0, .ref sb)] := hl
  refine va_gets (v := .int (nI 1)) hx hb hE.2.2.2.2.1 hS hown (hts _ q214) (fun _ h => h) dJ4_isLatin1_0 ?_
  refine n_if_eq (tgt := 17) hx hb (by omega) dJ4_isLatin1_3 (by decide) (fun c_2082 => absurd c_2082 (by omega)) (fun c_2082 => ?_)
  refine lv_aload_n hx hb dJ4_isLatin1_6 rfl (lv_at hl 0 rfl) ?_
  refine va_get hx hb hts in_J5 hown hK (hR0.w hS) 0 rfl rfl 1 (by decide) (hts _ q224) (fun _ h => h) rfl dJ4_isLatin1_7 ?_
  refine n_if_ne (tgt := 17) hx hb (by omega) dJ4_isLatin1_10 (by decide) (fun c_2083 => absurd c_2083 (by omega)) (fun c_2083 => ?_)
  refine lv_iconst (v := nI 1) hx hb dJ4_isLatin1_13 (by decide) ?_
  refine lv_goto (tgt := 18) hx hb dJ4_isLatin1_14 (by decide) ?_
  have hP9 : va_P G.1 CL [] H := hP.sub [] rfl
  have hD9 : va_D A [] := hD.sub [] (by decide) rfl
  exact end_i hx hb hr hlk (by decide) (qc_of () (v := some (.int (nI 1))) (by rfl) (trivial) hP9 hD9 (trivial) hS) hS dJ4_isLatin1_18 (show 0 ≤ 0 from by first | exact Nat.le_refl _ | decide | omega) (show 0 ≤ 0 from by first | exact Nat.le_refl _ | decide | omega)

set_option maxHeartbeats 4000000 in
theorem mJ4_length (l : Launch) (G : Gt) (sb : Nat) (va : Nat) (ml : Int32) (ct : Nat) : CT l G yJ4_length cJ4_length 1 (some .int) ({ frames := 1, cells := 0, slots := 0, locals := 12 } : Room) [.ref sb] [] (fun (A : Nat → Prop) (H : Heap) => roW G A H [(sb, .inr (5, [.ref va, .int (nI 0), .int ml, .int (nI ct)]))]) (S := Unit) (fun (u_ : Unit) => some (.int (nI ct))) (fun (u_ : Unit) => True) (fun (u_ : Unit) => []) (fun (u_ : Unit) (H : Heap) => True) := by
  refine CT.of (by decide) (Nat.le_of_ble_eq_true rfl) ?_
  intro p e s m below meth c ls A H locs h9 hH0 hP hS
  obtain ⟨cf, hr, hlk, hnm, hKB, hE, -, hD, -, hA, hAw, hR0, hl⟩ := h9
  have hx := cf.1
  have hb := cf.2.1
  have hml := cf.2.2.1
  have hown : s.vm.findClass RJ4 = some m.cls := cf.2.2.2.1
  have hts := cf.2.2.2.2
  have hK := hKB.1
  have hl : lv_has ls 1 [(0, .ref sb)] := hl
  refine lv_aload_n hx hb dJ4_length_0 rfl (lv_at hl 0 rfl) ?_
  refine va_get hx hb hts in_J5 hown hK (hR0.w hS) 0 rfl rfl 3 (by decide) (hts _ q227) (fun _ h => h) rfl dJ4_length_1 ?_
  have hP9 : va_P G.1 CL [] H := hP.sub [] rfl
  have hD9 : va_D A [] := hD.sub [] (by decide) rfl
  exact end_i hx hb hr hlk (rfl) (qc_of () (v := some (.int (nI ct))) (by rfl) (trivial) hP9 hD9 (trivial) hS) hS dJ4_length_4 (show 0 ≤ 0 from by first | exact Nat.le_refl _ | decide | omega) (show 0 ≤ 0 from by first | exact Nat.le_refl _ | decide | omega)

set_option maxHeartbeats 4000000 in
theorem mJ5_length (l : Launch) (G : Gt) (sb : Nat) (va : Nat) (ml : Int32) (ct : Nat) : CT l G yJ5_length cJ5_length 1 (some .int) ({ frames := 2, cells := 0, slots := 0, locals := 32 } : Room) [.ref sb] [] (fun (A : Nat → Prop) (H : Heap) => roW G A H [(sb, .inr (5, [.ref va, .int (nI 0), .int ml, .int (nI ct)]))]) (S := Unit) (fun (u_ : Unit) => some (.int (nI ct))) (fun (u_ : Unit) => True) (fun (u_ : Unit) => []) (fun (u_ : Unit) (H : Heap) => True) := by
  refine CT.of (by decide) (Nat.le_of_ble_eq_true rfl) ?_
  intro p e s m below meth c ls A H locs h9 hH0 hP hS
  obtain ⟨cf, hr, hlk, hnm, hKB, hE, -, hD, -, hA, hAw, hR0, hl⟩ := h9
  have hx := cf.1
  have hb := cf.2.1
  have hml := cf.2.2.1
  have hown : s.vm.findClass RJ5 = some m.cls := cf.2.2.2.1
  have hts := cf.2.2.2.2
  have hK := hKB.1
  have hl : lv_has ls 1 [(0, .ref sb)] := hl
  refine lv_aload_n hx hb dJ5_length_0 rfl (lv_at hl 0 rfl) ?_
  have hF := hF_of (wc := []) hD hS hA [] rfl
  have hro_2084 : va_P G.1 CL [(sb, .inr (5, [.ref va, .int (nI 0), .int ml, .int (nI ct)]))] H := ((hR0.w hS).sub [0] rfl)
  refine go_ct hS hP hD [] [] hF rfl rfl (by decide) (by decide)
      (va_runSU (hK.1 5 _ rfl).2 (As := []) (rest := []) cf (mJ4_length l G sb va ml ct  H.size) (va_cwSU 0 hts (lw_SU q954 q950 q236 q949 q54 q955) rfl rfl rfl (by decide +kernel) ⟨Nat.le_of_ble_eq_true rfl, Nat.le_of_ble_eq_true rfl⟩) (preV_of hKB hE hS hF (va_recv hK (hR0.w hS) (ci := 5) (q0 := 0) rfl rfl) (va_P.sub hP [] rfl) ((va_D.sub hD [] (by decide) rfl).weaken (fun _ _ _ _ => trivial)) (roW.nil hro_2084)) rfl rfl hl.1 rfl (lv_room (Nat.le_of_ble_eq_true rfl)) dJ5_length_1 ⟨show 0 + 0 ≤ 0 from by first | decide | omega, show 0 + 0 ≤ 0 from by first | decide | omega⟩)
      (fun u_ H locs hq hph (hP : va_P G.1 CL [] H) (hD : va_D A []) hS hfz hfk => ?_)
  refine W.eq (g2 := F0 m 4 ls [.int (nI ct)]) rfl ?_
  have hP9 : va_P G.1 CL [] H := hP.sub [] rfl
  have hD9 : va_D A [] := hD.sub [] (by decide) rfl
  exact end_i hx hb hr hlk (rfl) (qc_of () (v := some (.int (nI ct))) (by rfl) (trivial) hP9 hD9 (trivial) hS) hS dJ5_length_4 (show 0 ≤ 0 from by first | exact Nat.le_refl _ | decide | omega) (show 0 ≤ 0 from by first | exact Nat.le_refl _ | decide | omega)

theorem le16 : ∀ m, m < 17 → nI m - nI 16 ≤ 0 := by decide +kernel
theorem nar_sb : ∀ x, x < 256 → vp_nar .byte (sb_b x) = sb_b x := by decide +kernel

set_option maxHeartbeats 4000000 in
theorem mJ4_ensureCapacityInternal (l : Launch) (G : Gt) (sb : Nat) (va : Nat) (ml : Int32) (ct : Nat) (g : Nat → Int32) (m9 : Nat) (hm9 : m9 ≤ 16) : CT l G yJ4_ensureCapacityInternal cJ4_ensureCapacityInternal 3 none ({ frames := 1, cells := 0, slots := 0, locals := 12 } : Room) [.ref sb, .int (nI m9)] [] (fun (A : Nat → Prop) (H : Heap) => roW G A H [(sb, .inr (5, [.ref va, .int (nI 0), .int ml, .int (nI ct)])), (va, .inl (G.2 4, 16, .inl g))]) (S := Unit) (fun (u_ : Unit) => (none : Option Value)) (fun (u_ : Unit) => True) (fun (u_ : Unit) => []) (fun (u_ : Unit) (H : Heap) => True) := by
  refine CT.of (by decide) (Nat.le_of_ble_eq_true rfl) ?_
  intro p e s m below meth c ls A H locs h9 hH0 hP hS
  obtain ⟨cf, hr, hlk, hnm, hKB, hE, -, hD, -, hA, hAw, hR0, hl⟩ := h9
  have hx := cf.1
  have hb := cf.2.1
  have hml := cf.2.2.1
  have hown : s.vm.findClass RJ4 = some m.cls := cf.2.2.2.1
  have hts := cf.2.2.2.2
  have hK := hKB.1
  have hl : lv_has ls 3 [(0, .ref sb), (1, .int (nI m9))] := hl
  refine lv_aload_n hx hb dJ4_ensureCapacityInternal_0 rfl (lv_at hl 0 rfl) ?_
  refine va_get hx hb hts in_J5 hown hK (hR0.w hS) 0 rfl rfl 0 (by decide) (hts _ q223) (fun _ h => h) rfl dJ4_ensureCapacityInternal_1 ?_
  refine r_alen hx hb hK (hR0.w hS) 1 4 rfl rfl dJ4_ensureCapacityInternal_4 ?_
  refine lv_aload_n hx hb dJ4_ensureCapacityInternal_5 rfl (lv_at hl 0 rfl) ?_
  refine va_get hx hb hts in_J5 hown hK (hR0.w hS) 0 rfl rfl 1 (by decide) (hts _ q224) (fun _ h => h) rfl dJ4_ensureCapacityInternal_6 ?_
  refine lv_ishr hx hb dJ4_ensureCapacityInternal_9 ?_
  refine lv_ton (n := 16) (sb_shr0 _) ?_
  refine lv_istore_n (lv' := [(2, .int (nI 16)), (0, .ref sb), (1, .int (nI m9))]) hx hb dJ4_ensureCapacityInternal_10 rfl hl (by decide) rfl (fun ls hl => ?_)
  refine lv_iload_n hx hb dJ4_ensureCapacityInternal_11 rfl (lv_at hl 2 rfl) ?_
  refine lv_iload_n hx hb dJ4_ensureCapacityInternal_12 rfl (lv_at hl 0 rfl) ?_
  refine lv_isub hx hb dJ4_ensureCapacityInternal_13 ?_
  refine lv_if_le (tgt := 38) hx hb dJ4_ensureCapacityInternal_14 (by decide) (fun c_2085 => ?_) (fun c_2085 => absurd (le16 m9 (by omega)) c_2085)
  have hP9 : va_P G.1 CL [] H := hP.sub [] rfl
  have hD9 : va_D A [] := hD.sub [] (by decide) rfl
  exact end_v hx hb hr hlk (qc_of () (v := none) (by rfl) (trivial) hP9 hD9 (trivial) hS) hS dJ4_ensureCapacityInternal_38 (show 0 ≤ 0 from by first | exact Nat.le_refl _ | decide | omega) (show 0 ≤ 0 from by first | exact Nat.le_refl _ | decide | omega)

set_option maxHeartbeats 4000000 in
theorem mJ4_setLength (l : Launch) (G : Gt) (sb : Nat) (va : Nat) (ml : Int32) (ct : Nat) (g : Nat → Int32) (hct : ct ≤ 16) : CT l G yJ4_setLength cJ4_setLength 2 none ({ frames := 2, cells := 0, slots := 0, locals := 34 } : Room) [.ref sb, .int (nI 0)] [(sb, .inr (5, [.ref va, .int (nI 0), .int ml, .int (nI ct)]))] (fun (A : Nat → Prop) (H : Heap) => roW G A H [(va, .inl (G.2 4, 16, .inl g))]) (S := Int32) (fun (u_ : Int32) => (none : Option Value)) (fun (u_ : Int32) => True) (fun (u_ : Int32) => [(sb, .inr (5, [.ref va, .int (nI 0), .int u_, .int (nI 0)]))]) (fun (u_ : Int32) (H : Heap) => True) := by
  refine CT.of (by decide) (Nat.le_of_ble_eq_true rfl) ?_
  intro p e s m below meth c ls A H locs h9 hH0 hP hS
  obtain ⟨cf, hr, hlk, hnm, hKB, hE, -, hD, -, hA, hAw, hR0, hl⟩ := h9
  have hx := cf.1
  have hb := cf.2.1
  have hml := cf.2.2.1
  have hown : s.vm.findClass RJ4 = some m.cls := cf.2.2.2.1
  have hts := cf.2.2.2.2
  have hK := hKB.1
  have hl : lv_has ls 2 [(0, .ref sb), (1, .int (nI 0))] := hl
  refine lv_iload_n hx hb dJ4_setLength_0 rfl (lv_at hl 1 rfl) ?_
  refine n_if_ge (tgt := 13) hx hb (by omega) dJ4_setLength_1 (by decide) ?_
  refine lv_aload_n hx hb dJ4_setLength_13 rfl (lv_at hl 0 rfl) ?_
  refine lv_iload_n hx hb dJ4_setLength_14 rfl (lv_at hl 1 rfl) ?_
  have hF := hF_of (wc := []) hD hS hA [] rfl
  have hro_2086 : va_P G.1 CL [(sb, .inr (5, [.ref va, .int (nI 0), .int ml, .int (nI ct)])), (va, .inl (G.2 4, 16, .inl g))] H := ((va_P.sub hP [0] rfl).app ((hR0.w hS).sub [0] rfl))
  refine go_ct hS hP hD [] [0] hF rfl rfl (by decide) (by decide)
      (va_runV (As := [.int (nI 0)]) (rest := []) cf (mJ4_ensureCapacityInternal l G sb va ml ct g 0 (show 0 ≤ 16 from by first | assumption | omega) H.size) ⟨callB_of 1 hts (lw_meth q813) rfl rfl rfl (hts _ q54) (hts _ q810) (by decide +kernel) ⟨Nat.le_of_ble_eq_true rfl, Nat.le_of_ble_eq_true rfl⟩, hts _ q812, hKB.sel (List.mem_of_getElem? (i := 0) rfl)⟩ (preV_of hKB hE hS hF (va_recv hK hP (ci := 5) (q0 := 0) rfl rfl) (va_P.sub hP [] rfl) ((va_D.sub hD [] (by decide) rfl).weaken (fun _ _ _ _ => trivial)) (roW.nil hro_2086)) rfl rfl hl.1 rfl (lv_room (Nat.le_of_ble_eq_true rfl)) dJ4_setLength_15 ⟨show 0 + 0 ≤ 0 from by first | decide | omega, show 0 + 0 ≤ 0 from by first | decide | omega⟩)
      (fun u_ H locs hq hph (hP : va_P G.1 CL [(sb, .inr (5, [.ref va, .int (nI 0), .int ml, .int (nI ct)]))] H) (hD : va_D A [(sb, .inr (5, [.ref va, .int (nI 0), .int ml, .int (nI ct)]))]) hS hfz hfk => ?_)
  refine W.eq (g2 := F0 m 18 ls []) rfl ?_
  refine lv_aload_n hx hb dJ4_setLength_18 rfl (lv_at hl 0 rfl) ?_
  refine va_get hx hb hts in_J5 hown hK hP 0 rfl rfl 3 (by decide) (hts _ q227) (fun _ h => h) rfl dJ4_setLength_19 ?_
  refine lv_iload_n hx hb dJ4_setLength_22 rfl (lv_at hl 1 rfl) ?_
  refine n_icmp_ge (tgt := 63) hx hb (by omega) (by omega) dJ4_setLength_23 (by decide) (fun c_2089 => ?_) (fun c_2089 => absurd c_2089 (by omega))
  refine lv_aload_n hx hb dJ4_setLength_63 rfl (lv_at hl 0 rfl) ?_
  refine va_get hx hb hts in_J5 hown hK hP 0 rfl rfl 3 (by decide) (hts _ q227) (fun _ h => h) rfl dJ4_setLength_64 ?_
  refine lv_iload_n hx hb dJ4_setLength_67 rfl (lv_at hl 1 rfl) ?_
  refine n_icmp_le (tgt := 76) hx hb (by omega) (by omega) dJ4_setLength_68 (by decide) (fun c_2092 => ?_) (fun c_2092 => ?_)
  · refine lv_aload_n hx hb dJ4_setLength_76 rfl (lv_at hl 0 rfl) ?_
    refine lv_iload_n hx hb dJ4_setLength_77 rfl (lv_at hl 1 rfl) ?_
    refine va_put (v := .int (nI 0)) (ty := .int) hx hb hts in_J5 tyJ5 tyJ5_ok nmJ5 hown hK hP hD hS 0 rfl rfl 3 (by decide) (hts _ q227) (fun _ h => h) rfl (by decide +kernel) rfl rfl (Nat.le_of_ble_eq_true rfl) dJ4_setLength_78 (fun H locs (hP : va_P G.1 CL [(sb, .inr (5, [.ref va, .int (nI 0), .int ml, .int (nI 0)]))] H) (hD : va_D A [(sb, .inr (5, [.ref va, .int (nI 0), .int ml, .int (nI 0)]))]) hS => ?_)
    have hP9 : va_P G.1 CL [(sb, .inr (5, [.ref va, .int (nI 0), .int ml, .int (nI 0)]))] H := hP.sub [0] rfl
    have hD9 : va_D A [(sb, .inr (5, [.ref va, .int (nI 0), .int ml, .int (nI 0)]))] := hD.sub [0] (by decide) rfl
    exact end_v hx hb hr hlk (qc_of ml (v := none) (by rfl) (trivial) hP9 hD9 (trivial) hS) hS dJ4_setLength_81 (show 0 ≤ 0 from by first | exact Nat.le_refl _ | decide | omega) (show 0 ≤ 0 from by first | exact Nat.le_refl _ | decide | omega)
  · refine lv_aload_n hx hb dJ4_setLength_71 rfl (lv_at hl 0 rfl) ?_
    refine lv_iconst (v := nI 1) hx hb dJ4_setLength_72 (by decide) ?_
    refine va_put (v := .int (nI 1)) (ty := .boolean) hx hb hts in_J5 tyJ5 tyJ5_ok nmJ5 hown hK hP hD hS 0 rfl rfl 2 (by decide) (hts _ q225) (fun _ h => h) rfl (by decide +kernel) (by decide) (by decide) (Nat.le_of_ble_eq_true rfl) dJ4_setLength_73 (fun H locs (hP : va_P G.1 CL [(sb, .inr (5, [.ref va, .int (nI 0), .int (nI 1), .int (nI ct)]))] H) (hD : va_D A [(sb, .inr (5, [.ref va, .int (nI 0), .int (nI 1), .int (nI ct)]))]) hS => ?_)
    refine lv_aload_n hx hb dJ4_setLength_76 rfl (lv_at hl 0 rfl) ?_
    refine lv_iload_n hx hb dJ4_setLength_77 rfl (lv_at hl 1 rfl) ?_
    refine va_put (v := .int (nI 0)) (ty := .int) hx hb hts in_J5 tyJ5 tyJ5_ok nmJ5 hown hK hP hD hS 0 rfl rfl 3 (by decide) (hts _ q227) (fun _ h => h) rfl (by decide +kernel) rfl rfl (Nat.le_of_ble_eq_true rfl) dJ4_setLength_78 (fun H locs (hP : va_P G.1 CL [(sb, .inr (5, [.ref va, .int (nI 0), .int (nI 1), .int (nI 0)]))] H) (hD : va_D A [(sb, .inr (5, [.ref va, .int (nI 0), .int (nI 1), .int (nI 0)]))]) hS => ?_)
    have hP9 : va_P G.1 CL [(sb, .inr (5, [.ref va, .int (nI 0), .int (nI 1), .int (nI 0)]))] H := hP.sub [0] rfl
    have hD9 : va_D A [(sb, .inr (5, [.ref va, .int (nI 0), .int (nI 1), .int (nI 0)]))] := hD.sub [0] (by decide) rfl
    exact end_v hx hb hr hlk (qc_of (nI 1) (v := none) (by rfl) (trivial) hP9 hD9 (trivial) hS) hS dJ4_setLength_81 (show 0 ≤ 0 from by first | exact Nat.le_refl _ | decide | omega) (show 0 ≤ 0 from by first | exact Nat.le_refl _ | decide | omega)

set_option maxHeartbeats 4000000 in
theorem mJ5_setLength (l : Launch) (G : Gt) (sb : Nat) (va : Nat) (ml : Int32) (ct : Nat) (g : Nat → Int32) (hct : ct ≤ 16) : CT l G yJ5_setLength cJ5_setLength 2 none ({ frames := 3, cells := 0, slots := 0, locals := 55 } : Room) [.ref sb, .int (nI 0)] [(sb, .inr (5, [.ref va, .int (nI 0), .int ml, .int (nI ct)]))] (fun (A : Nat → Prop) (H : Heap) => roW G A H [(va, .inl (G.2 4, 16, .inl g))]) (S := Int32) (fun (u_ : Int32) => (none : Option Value)) (fun (u_ : Int32) => True) (fun (u_ : Int32) => [(sb, .inr (5, [.ref va, .int (nI 0), .int u_, .int (nI 0)]))]) (fun (u_ : Int32) (H : Heap) => True) := by
  refine CT.of (by decide) (Nat.le_of_ble_eq_true rfl) ?_
  intro p e s m below meth c ls A H locs h9 hH0 hP hS
  obtain ⟨cf, hr, hlk, hnm, hKB, hE, -, hD, -, hA, hAw, hR0, hl⟩ := h9
  have hx := cf.1
  have hb := cf.2.1
  have hml := cf.2.2.1
  have hown : s.vm.findClass RJ5 = some m.cls := cf.2.2.2.1
  have hts := cf.2.2.2.2
  have hK := hKB.1
  have hl : lv_has ls 2 [(0, .ref sb), (1, .int (nI 0))] := hl
  refine lv_aload_n hx hb dJ5_setLength_0 rfl (lv_at hl 0 rfl) ?_
  refine lv_iload_n hx hb dJ5_setLength_1 rfl (lv_at hl 1 rfl) ?_
  have hF := hF_of (wc := [(sb, .inr (5, [.ref va, .int (nI 0), .int ml, .int (nI ct)]))]) hD hS hA [0] rfl
  have hro_2093 : roW G (va_A [(sb, .inr (5, [.ref va, .int (nI 0), .int ml, .int (nI ct)]))] H.size) H [(va, .inl (G.2 4, 16, .inl g))] := ((hR0.kp hF hS.2.1).sub (ws' := [(va, .inl (G.2 4, 16, .inl g))]) [0] rfl)
  refine go_ct hS hP hD [0] [] hF rfl rfl (by decide) (by decide)
      (va_runSU (hK.1 5 _ rfl).2 (As := [.int (nI 0)]) (rest := []) cf (mJ4_setLength l G sb va ml ct g (show ct ≤ 16 from by first | assumption | omega) H.size) (va_cwSU 1 hts (lw_SU q1456 q1977 q236 q1457 q54 q1458) rfl rfl rfl (by decide +kernel) ⟨Nat.le_of_ble_eq_true rfl, Nat.le_of_ble_eq_true rfl⟩) (preV_of hKB hE hS hF (va_recv hK hP (ci := 5) (q0 := 0) rfl rfl) (va_P.sub hP [0] rfl) ((va_D.sub hD [0] (by decide) rfl).weaken (fun _ _ _ _ => trivial)) hro_2093) rfl rfl hl.1 rfl (lv_room (Nat.le_of_ble_eq_true rfl)) dJ5_setLength_2 ⟨show 0 + 0 ≤ 0 from by first | decide | omega, show 0 + 0 ≤ 0 from by first | decide | omega⟩)
      (fun u_ H locs hq hph (hP : va_P G.1 CL [(sb, .inr (5, [.ref va, .int (nI 0), .int u_, .int (nI 0)]))] H) (hD : va_D A [(sb, .inr (5, [.ref va, .int (nI 0), .int u_, .int (nI 0)]))]) hS hfz hfk => ?_)
  obtain ⟨ml2_2094, rfl⟩ : ∃ z, z = u_ := ⟨_, rfl⟩
  have hP : va_P G.1 CL [(sb, .inr (5, [.ref va, .int (nI 0), .int ml2_2094, .int (nI 0)]))] H := hP
  have hD : va_D A [(sb, .inr (5, [.ref va, .int (nI 0), .int ml2_2094, .int (nI 0)]))] := hD
  refine W.eq (g2 := F0 m 5 ls []) rfl ?_
  have hP9 : va_P G.1 CL [(sb, .inr (5, [.ref va, .int (nI 0), .int ml2_2094, .int (nI 0)]))] H := hP.sub [0] rfl
  have hD9 : va_D A [(sb, .inr (5, [.ref va, .int (nI 0), .int ml2_2094, .int (nI 0)]))] := hD.sub [0] (by decide) rfl
  exact end_v hx hb hr hlk (qc_of ml2_2094 (v := none) (by rfl) (trivial) hP9 hD9 (trivial) hS) hS dJ5_setLength_5 (show 0 ≤ 0 from by first | exact Nat.le_refl _ | decide | omega) (show 0 ≤ 0 from by first | exact Nat.le_refl _ | decide | omega)

set_option maxHeartbeats 4000000 in
theorem mJ21_canEncode (l : Launch) (G : Gt) (x9 : Nat) (hx9 : x9 < 256) : CT l G yJ21_canEncode cJ21_canEncode 1 (some .boolean) ({ frames := 1, cells := 0, slots := 0, locals := 12 } : Room) [.int (nI x9)] [] RH0 (S := Unit) (fun (u_ : Unit) => some (.int (nI 1))) (fun (u_ : Unit) => True) (fun (u_ : Unit) => []) (fun (u_ : Unit) (H : Heap) => True) := by
  refine CT.of (by decide) (Nat.le_of_ble_eq_true rfl) ?_
  intro p e s m below meth c ls A H locs h9 hH0 hP hS
  obtain ⟨cf, hr, hlk, hnm, hKB, hE, -, hD, -, hA, hAw, hRH, hl⟩ := h9
  have hx := cf.1
  have hb := cf.2.1
  have hml := cf.2.2.1
  have hown : s.vm.findClass RJ21 = some m.cls := cf.2.2.2.1
  have hts := cf.2.2.2.2
  have hK := hKB.1
  have hl : lv_has ls 1 [(0, .int (nI x9))] := hl
  refine lv_iload_n hx hb dJ21_canEncode_0 rfl (lv_at hl 0 rfl) ?_
  refine lv_sipush (v := nI 255) hx hb dJ21_canEncode_1 (by decide) ?_
  refine n_icmp_gt (tgt := 11) hx hb (by omega) (by omega) dJ21_canEncode_4 (by decide) (fun c_2097 => absurd c_2097 (by omega)) (fun c_2097 => ?_)
  refine lv_iconst (v := nI 1) hx hb dJ21_canEncode_7 (by decide) ?_
  refine lv_goto (tgt := 12) hx hb dJ21_canEncode_8 (by decide) ?_
  have hP9 : va_P G.1 CL [] H := hP.sub [] rfl
  have hD9 : va_D A [] := hD.sub [] (by decide) rfl
  exact end_i hx hb hr hlk (by decide) (qc_of () (v := some (.int (nI 1))) (by rfl) (trivial) hP9 hD9 (trivial) hS) hS dJ21_canEncode_12 (show 0 ≤ 0 from by first | exact Nat.le_refl _ | decide | omega) (show 0 ≤ 0 from by first | exact Nat.le_refl _ | decide | omega)

set_option maxHeartbeats 4000000 in
theorem mJ4_append_3 (l : Launch) (G : Gt) (sb : Nat) (va : Nat) (ml : Int32) (ct : Nat) (g : Nat → Int32) (x9 : Nat) (hct : ct < 16) (hx9 : x9 < 256) : CT l G yJ4_append_3 cJ4_append_3 2 (some (.object "java/lang/AbstractStringBuilder")) ({ frames := 2, cells := 0, slots := 0, locals := 34 } : Room) [.ref sb, .int (nI x9)] [(sb, .inr (5, [.ref va, .int (nI 0), .int ml, .int (nI ct)])), (va, .inl (G.2 4, 16, .inl g))] RH0 (S := Unit) (fun (u_ : Unit) => some (.ref sb)) (fun (u_ : Unit) => True) (fun (u_ : Unit) => [(sb, .inr (5, [.ref va, .int (nI 0), .int ml, .int (nI (ct + 1))])), (va, .inl (G.2 4, 16, .inl (upd g ct (sb_b x9))))]) (fun (u_ : Unit) (H : Heap) => True) := by
  refine CT.of (by decide) (Nat.le_of_ble_eq_true rfl) ?_
  intro p e s m below meth c ls A H locs h9 hH0 hP hS
  obtain ⟨cf, hr, hlk, hnm, hKB, hE, -, hD, -, hA, hAw, hRH, hl⟩ := h9
  have hx := cf.1
  have hb := cf.2.1
  have hml := cf.2.2.1
  have hown : s.vm.findClass RJ4 = some m.cls := cf.2.2.2.1
  have hts := cf.2.2.2.2
  have hK := hKB.1
  have hl : lv_has ls 2 [(0, .ref sb), (1, .int (nI x9))] := hl
  refine lv_aload_n hx hb dJ4_append_3_0 rfl (lv_at hl 0 rfl) ?_
  refine lv_aload_n hx hb dJ4_append_3_1 rfl (lv_at hl 0 rfl) ?_
  refine va_get hx hb hts in_J5 hown hK hP 0 rfl rfl 3 (by decide) (hts _ q227) (fun _ h => h) rfl dJ4_append_3_2 ?_
  refine lv_iconst (v := nI 1) hx hb dJ4_append_3_5 (by decide) ?_
  refine lv_iadd hx hb dJ4_append_3_6 ?_
  refine lv_ton (n := ct + 1) (nadd (by omega)) ?_
  have hF := hF_of (wc := []) hD hS hA [] rfl
  have hro_2098 : va_P G.1 CL [(sb, .inr (5, [.ref va, .int (nI 0), .int ml, .int (nI ct)])), (va, .inl (G.2 4, 16, .inl g))] H := (va_P.sub hP [0, 1] rfl)
  refine go_ct hS hP hD [] [0, 1] hF rfl rfl (by decide) (by decide)
      (va_runV (As := [.int (nI (ct + 1))]) (rest := []) cf (mJ4_ensureCapacityInternal l G sb va ml ct g (ct + 1) (show (ct + 1) ≤ 16 from by first | assumption | omega) H.size) ⟨callB_of 1 hts (lw_meth q813) rfl rfl rfl (hts _ q54) (hts _ q810) (by decide +kernel) ⟨Nat.le_of_ble_eq_true rfl, Nat.le_of_ble_eq_true rfl⟩, hts _ q812, hKB.sel (List.mem_of_getElem? (i := 0) rfl)⟩ (preV_of hKB hE hS hF (va_recv hK hP (ci := 5) (q0 := 0) rfl rfl) (va_P.sub hP [] rfl) ((va_D.sub hD [] (by decide) rfl).weaken (fun _ _ _ _ => trivial)) (roW.nil hro_2098)) rfl rfl hl.1 rfl (lv_room (Nat.le_of_ble_eq_true rfl)) dJ4_append_3_7 ⟨show 0 + 0 ≤ 0 from by first | decide | omega, show 0 + 0 ≤ 0 from by first | decide | omega⟩)
      (fun u_ H locs hq hph (hP : va_P G.1 CL [(sb, .inr (5, [.ref va, .int (nI 0), .int ml, .int (nI ct)])), (va, .inl (G.2 4, 16, .inl g))] H) (hD : va_D A [(sb, .inr (5, [.ref va, .int (nI 0), .int ml, .int (nI ct)])), (va, .inl (G.2 4, 16, .inl g))]) hS hfz hfk => ?_)
  refine W.eq (g2 := F0 m 10 ls []) rfl ?_
  refine lv_aload_n hx hb dJ4_append_3_10 rfl (lv_at hl 0 rfl) ?_
  have hF := hF_of (wc := []) hD hS hA [] rfl
  have hro_2099 : va_P G.1 CL [(sb, .inr (5, [.ref va, .int (nI 0), .int ml, .int (nI ct)]))] H := (va_P.sub hP [0] rfl)
  refine go_ct hS hP hD [] [0, 1] hF rfl rfl (by decide) (by decide)
      (va_runU (As := []) (rest := []) cf (mJ4_isLatin1 l G sb va ml ct  H.size) (va_cwU (owner := "java/lang/AbstractStringBuilder") 0 hts (lw_U q830 q832 q833 q831 q54 q834) rfl rfl rfl rfl (by decide +kernel) ⟨Nat.le_of_ble_eq_true rfl, Nat.le_of_ble_eq_true rfl⟩) (preV_of hKB hE hS hF (va_recv hK hP (ci := 5) (q0 := 0) rfl rfl) (va_P.sub hP [] rfl) ((va_D.sub hD [] (by decide) rfl).weaken (fun _ _ _ _ => trivial)) (roW.nil hro_2099)) rfl rfl hl.1 rfl (lv_room (Nat.le_of_ble_eq_true rfl)) dJ4_append_3_11 ⟨show 0 + 0 ≤ 0 from by first | decide | omega, show 0 + 0 ≤ 0 from by first | decide | omega⟩)
      (fun u_ H locs hq hph (hP : va_P G.1 CL [(sb, .inr (5, [.ref va, .int (nI 0), .int ml, .int (nI ct)])), (va, .inl (G.2 4, 16, .inl g))] H) (hD : va_D A [(sb, .inr (5, [.ref va, .int (nI 0), .int ml, .int (nI ct)])), (va, .inl (G.2 4, 16, .inl g))]) hS hfz hfk => ?_)
  refine W.eq (g2 := F0 m 14 ls [.int (nI 1)]) rfl ?_
  refine n_if_eq (tgt := 45) hx hb (by omega) dJ4_append_3_14 (by decide) (fun c_2100 => absurd c_2100 (by omega)) (fun c_2100 => ?_)
  refine lv_iload_n hx hb dJ4_append_3_17 rfl (lv_at hl 1 rfl) ?_
  have hF := hF_of (wc := []) hD hS hA [] rfl
  refine go_ct hS hP hD [] [0, 1] hF rfl rfl (by decide) (by decide)
      (va_runS (As := [.int (nI x9)]) (rest := []) cf (mJ21_canEncode l G x9 (show x9 < 256 from by first | assumption | omega) H.size) (va_cwS 1 hts (lw_S q1519 q1520 q77 q1521) rfl rfl rfl (by decide +kernel) ⟨Nat.le_of_ble_eq_true rfl, Nat.le_of_ble_eq_true rfl⟩) (preS_of hKB hE hS hF (va_P.sub hP [] rfl) ((va_D.sub hD [] (by decide) rfl).weaken (fun _ _ _ _ => trivial)) trivial) rfl rfl hl.1 rfl (lv_room (Nat.le_of_ble_eq_true rfl)) dJ4_append_3_18 ⟨show 0 + 0 ≤ 0 from by first | decide | omega, show 0 + 0 ≤ 0 from by first | decide | omega⟩)
      (fun u_ H locs hq hph (hP : va_P G.1 CL [(sb, .inr (5, [.ref va, .int (nI 0), .int ml, .int (nI ct)])), (va, .inl (G.2 4, 16, .inl g))] H) (hD : va_D A [(sb, .inr (5, [.ref va, .int (nI 0), .int ml, .int (nI ct)])), (va, .inl (G.2 4, 16, .inl g))]) hS hfz hfk => ?_)
  refine W.eq (g2 := F0 m 21 ls [.int (nI 1)]) rfl ?_
  refine n_if_eq (tgt := 45) hx hb (by omega) dJ4_append_3_21 (by decide) (fun c_2101 => absurd c_2101 (by omega)) (fun c_2101 => ?_)
  refine lv_aload_n hx hb dJ4_append_3_24 rfl (lv_at hl 0 rfl) ?_
  refine va_get hx hb hts in_J5 hown hK hP 0 rfl rfl 0 (by decide) (hts _ q223) (fun _ h => h) rfl dJ4_append_3_25 ?_
  refine lv_aload_n hx hb dJ4_append_3_28 rfl (lv_at hl 0 rfl) ?_
  refine lv_dup hx hb dJ4_append_3_29 rfl ?_
  refine va_get hx hb hts in_J5 hown hK hP 0 rfl rfl 3 (by decide) (hts _ q227) (fun _ h => h) rfl dJ4_append_3_30 ?_
  refine lv_dup_x1 hx hb dJ4_append_3_33 rfl rfl ?_
  refine lv_iconst (v := nI 1) hx hb dJ4_append_3_34 (by decide) ?_
  refine lv_iadd hx hb dJ4_append_3_35 ?_
  refine lv_ton (n := ct + 1) (nadd (by omega)) ?_
  refine va_put (v := .int (nI (ct + 1))) (ty := .int) hx hb hts in_J5 tyJ5 tyJ5_ok nmJ5 hown hK hP hD hS 0 rfl rfl 3 (by decide) (hts _ q227) (fun _ h => h) rfl (by decide +kernel) rfl rfl (Nat.le_of_ble_eq_true rfl) dJ4_append_3_36 (fun H locs (hP : va_P G.1 CL [(sb, .inr (5, [.ref va, .int (nI 0), .int ml, .int (nI (ct + 1))])), (va, .inl (G.2 4, 16, .inl g))] H) (hD : va_D A [(sb, .inr (5, [.ref va, .int (nI 0), .int ml, .int (nI (ct + 1))])), (va, .inl (G.2 4, 16, .inl g))]) hS => ?_)
  refine lv_iload_n hx hb dJ4_append_3_39 rfl (lv_at hl 1 rfl) ?_
  refine lv_i2b (v := sb_b x9) hx hb dJ4_append_3_40 rfl ?_
  refine r_bast (v := sb_b x9) hx hb hK hP hD hS 1 4 rfl rfl (i := ct) (by omega) (by omega) (nar_sb _ (by omega)) dJ4_append_3_41 (fun H locs (hP : va_P G.1 CL [(sb, .inr (5, [.ref va, .int (nI 0), .int ml, .int (nI (ct + 1))])), (va, .inl (G.2 4, 16, .inl (upd g ct (sb_b x9))))] H) (hD : va_D A [(sb, .inr (5, [.ref va, .int (nI 0), .int ml, .int (nI (ct + 1))])), (va, .inl (G.2 4, 16, .inl (upd g ct (sb_b x9))))]) hS => ?_)
  refine lv_goto (tgt := 75) hx hb dJ4_append_3_42 (by decide) ?_
  refine lv_aload_n hx hb dJ4_append_3_75 rfl (lv_at hl 0 rfl) ?_
  have hP9 : va_P G.1 CL [(sb, .inr (5, [.ref va, .int (nI 0), .int ml, .int (nI (ct + 1))])), (va, .inl (G.2 4, 16, .inl (upd g ct (sb_b x9))))] H := hP.sub [0, 1] rfl
  have hD9 : va_D A [(sb, .inr (5, [.ref va, .int (nI 0), .int ml, .int (nI (ct + 1))])), (va, .inl (G.2 4, 16, .inl (upd g ct (sb_b x9))))] := hD.sub [0, 1] (by decide) rfl
  exact end_a hx hb hr hlk (by first | exact Or.inl ⟨_, rfl⟩ | exact Or.inr ⟨_, rfl⟩) (Or.inr ⟨_, rfl⟩) (qc_of () (v := some (.ref sb)) (by rfl) (trivial) hP9 hD9 (trivial) hS) hS dJ4_append_3_76 (show 0 ≤ 0 from by first | exact Nat.le_refl _ | decide | omega) (show 0 ≤ 0 from by first | exact Nat.le_refl _ | decide | omega)

set_option maxHeartbeats 4000000 in
theorem mJ5_append_3 (l : Launch) (G : Gt) (sb : Nat) (va : Nat) (ml : Int32) (ct : Nat) (g : Nat → Int32) (x9 : Nat) (hct : ct < 16) (hx9 : x9 < 256) : CT l G yJ5_append_3 cJ5_append_3 2 (some (.object "java/lang/StringBuilder")) ({ frames := 3, cells := 0, slots := 0, locals := 55 } : Room) [.ref sb, .int (nI x9)] [(sb, .inr (5, [.ref va, .int (nI 0), .int ml, .int (nI ct)])), (va, .inl (G.2 4, 16, .inl g))] RH0 (S := Unit) (fun (u_ : Unit) => some (.ref sb)) (fun (u_ : Unit) => True) (fun (u_ : Unit) => [(sb, .inr (5, [.ref va, .int (nI 0), .int ml, .int (nI (ct + 1))])), (va, .inl (G.2 4, 16, .inl (upd g ct (sb_b x9))))]) (fun (u_ : Unit) (H : Heap) => True) := by
  refine CT.of (by decide) (Nat.le_of_ble_eq_true rfl) ?_
  intro p e s m below meth c ls A H locs h9 hH0 hP hS
  obtain ⟨cf, hr, hlk, hnm, hKB, hE, -, hD, -, hA, hAw, hRH, hl⟩ := h9
  have hx := cf.1
  have hb := cf.2.1
  have hml := cf.2.2.1
  have hown : s.vm.findClass RJ5 = some m.cls := cf.2.2.2.1
  have hts := cf.2.2.2.2
  have hK := hKB.1
  have hl : lv_has ls 2 [(0, .ref sb), (1, .int (nI x9))] := hl
  refine lv_aload_n hx hb dJ5_append_3_0 rfl (lv_at hl 0 rfl) ?_
  refine lv_iload_n hx hb dJ5_append_3_1 rfl (lv_at hl 1 rfl) ?_
  have hF := hF_of (wc := [(sb, .inr (5, [.ref va, .int (nI 0), .int ml, .int (nI ct)])), (va, .inl (G.2 4, 16, .inl g))]) hD hS hA [0, 1] rfl
  refine go_ct hS hP hD [0, 1] [] hF rfl rfl (by decide) (by decide)
      (va_runSU (hK.1 5 _ rfl).2 (As := [.int (nI x9)]) (rest := []) cf (mJ4_append_3 l G sb va ml ct g x9 (show ct < 16 from by first | assumption | omega) (show x9 < 256 from by first | assumption | omega) H.size) (va_cwSU 1 hts (lw_SU q1516 q1978 q236 q1517 q54 q1518) rfl rfl rfl (by decide +kernel) ⟨Nat.le_of_ble_eq_true rfl, Nat.le_of_ble_eq_true rfl⟩) (preV_of hKB hE hS hF (va_recv hK hP (ci := 5) (q0 := 0) rfl rfl) (va_P.sub hP [0, 1] rfl) ((va_D.sub hD [0, 1] (by decide) rfl).weaken (fun _ _ _ _ => trivial)) trivial) rfl rfl hl.1 rfl (lv_room (Nat.le_of_ble_eq_true rfl)) dJ5_append_3_2 ⟨show 0 + 0 ≤ 0 from by first | decide | omega, show 0 + 0 ≤ 0 from by first | decide | omega⟩)
      (fun u_ H locs hq hph (hP : va_P G.1 CL [(sb, .inr (5, [.ref va, .int (nI 0), .int ml, .int (nI (ct + 1))])), (va, .inl (G.2 4, 16, .inl (upd g ct (sb_b x9))))] H) (hD : va_D A [(sb, .inr (5, [.ref va, .int (nI 0), .int ml, .int (nI (ct + 1))])), (va, .inl (G.2 4, 16, .inl (upd g ct (sb_b x9))))]) hS hfz hfk => ?_)
  refine W.eq (g2 := F0 m 5 ls [.ref sb]) rfl ?_
  refine lv_pop hx hb dJ5_append_3_5 rfl ?_
  refine lv_aload_n hx hb dJ5_append_3_6 rfl (lv_at hl 0 rfl) ?_
  have hP9 : va_P G.1 CL [(sb, .inr (5, [.ref va, .int (nI 0), .int ml, .int (nI (ct + 1))])), (va, .inl (G.2 4, 16, .inl (upd g ct (sb_b x9))))] H := hP.sub [0, 1] rfl
  have hD9 : va_D A [(sb, .inr (5, [.ref va, .int (nI 0), .int ml, .int (nI (ct + 1))])), (va, .inl (G.2 4, 16, .inl (upd g ct (sb_b x9))))] := hD.sub [0, 1] (by decide) rfl
  exact end_a hx hb hr hlk (by first | exact Or.inl ⟨_, rfl⟩ | exact Or.inr ⟨_, rfl⟩) (Or.inr ⟨_, rfl⟩) (qc_of () (v := some (.ref sb)) (by rfl) (trivial) hP9 hD9 (trivial) hS) hS dJ5_append_3_7 (show 0 ≤ 0 from by first | exact Nat.le_refl _ | decide | omega) (show 0 ≤ 0 from by first | exact Nat.le_refl _ | decide | omega)

set_option maxHeartbeats 4000000 in
theorem mJ13_checkIndexF (l : Launch) (G : Gt) (i : Nat) (k : Nat) (z : Nat) (hi : i < k) (hk : k < 2 ^ 31) : CT l G yJ13_checkIndex cJ13_checkIndex 3 (some .int) ({ frames := 1, cells := 0, slots := 0, locals := 12 } : Room) [.int (nI i), .int (nI k), .ref z] [] RH0 (S := Unit) (fun (u_ : Unit) => some (.int (nI i))) (fun (u_ : Unit) => True) (fun (u_ : Unit) => []) (fun (u_ : Unit) (H : Heap) => True) := by
  refine CT.of (by decide) (Nat.le_of_ble_eq_true rfl) ?_
  intro p e s m below meth c ls A H locs h9 hH0 hP hS
  obtain ⟨cf, hr, hlk, hnm, hKB, hE, -, hD, -, hA, hAw, hRH, hl⟩ := h9
  have hx := cf.1
  have hb := cf.2.1
  have hml := cf.2.2.1
  have hown : s.vm.findClass RJ13 = some m.cls := cf.2.2.2.1
  have hts := cf.2.2.2.2
  have hK := hKB.1
  have hl : lv_has ls 3 [(0, .int (nI i)), (1, .int (nI k)), (2, .ref z)] := hl
  refine lv_iload_n hx hb dJ13_checkIndex_0 rfl (lv_at hl 0 rfl) ?_
  refine n_if_lt (tgt := 9) hx hb (by omega) dJ13_checkIndex_1 (by decide) ?_
  refine lv_iload_n hx hb dJ13_checkIndex_4 rfl (lv_at hl 0 rfl) ?_
  refine lv_iload_n hx hb dJ13_checkIndex_5 rfl (lv_at hl 1 rfl) ?_
  refine n_icmp_lt (tgt := 16) hx hb (by omega) (by omega) dJ13_checkIndex_6 (by decide) (fun c_2104 => ?_) (fun c_2104 => absurd c_2104 (by omega))
  refine lv_iload_n hx hb dJ13_checkIndex_16 rfl (lv_at hl 0 rfl) ?_
  have hP9 : va_P G.1 CL [] H := hP.sub [] rfl
  have hD9 : va_D A [] := hD.sub [] (by decide) rfl
  exact end_i hx hb hr hlk (rfl) (qc_of () (v := some (.int (nI i))) (by rfl) (trivial) hP9 hD9 (trivial) hS) hS dJ13_checkIndex_17 (show 0 ≤ 0 from by first | exact Nat.le_refl _ | decide | omega) (show 0 ≤ 0 from by first | exact Nat.le_refl _ | decide | omega)

set_option maxHeartbeats 4000000 in
theorem mJ6_checkIndex (l : Launch) (G : Gt) (i : Nat) (k : Nat) (hi : i < k) (hk : k < 2 ^ 31) : CT l G yJ6_checkIndex cJ6_checkIndex 2 none ({ frames := 2, cells := 0, slots := 0, locals := 34 } : Room) [.int (nI i), .int (nI k)] [] RH0 (S := Unit) (fun (u_ : Unit) => (none : Option Value)) (fun (u_ : Unit) => True) (fun (u_ : Unit) => []) (fun (u_ : Unit) (H : Heap) => True) := by
  refine CT.of (by decide) (Nat.le_of_ble_eq_true rfl) ?_
  intro p e s m below meth c ls A H locs h9 hH0 hP hS
  obtain ⟨cf, hr, hlk, hnm, hKB, hE, -, hD, -, hA, hAw, hRH, hl⟩ := h9
  have hx := cf.1
  have hb := cf.2.1
  have hml := cf.2.2.1
  have hown : s.vm.findClass RJ6 = some m.cls := cf.2.2.2.1
  have hts := cf.2.2.2.2
  have hK := hKB.1
  have hl : lv_has ls 2 [(0, .int (nI i)), (1, .int (nI k))] := hl
  refine lv_iload_n hx hb dJ6_checkIndex_0 rfl (lv_at hl 0 rfl) ?_
  refine lv_iload_n hx hb dJ6_checkIndex_1 rfl (lv_at hl 1 rfl) ?_
  refine va_gets (v := .ref (G.2 97)) hx hb hE.2.2.1.2 hS hown (hts _ q847) (fun _ h => h) dJ6_checkIndex_2 ?_
  have hF := hF_of (wc := []) hD hS hA [] rfl
  refine go_ct hS hP hD [] [] hF rfl rfl (by decide) (by decide)
      (va_runS (As := [.int (nI i), .int (nI k), .ref (G.2 97)]) (rest := []) cf (mJ13_checkIndexF l G i k (G.2 97) (show i < k from by first | assumption | omega) (show k < 2 ^ 31 from by first | assumption | omega) H.size) (va_cwS 3 hts (lw_S q1531 q411 q65 q412) rfl rfl rfl (by decide +kernel) ⟨Nat.le_of_ble_eq_true rfl, Nat.le_of_ble_eq_true rfl⟩) (preS_of hKB hE hS hF (va_P.sub hP [] rfl) ((va_D.sub hD [] (by decide) rfl).weaken (fun _ _ _ _ => trivial)) trivial) rfl rfl hl.1 rfl (lv_room (Nat.le_of_ble_eq_true rfl)) dJ6_checkIndex_5 ⟨show 0 + 0 ≤ 0 from by first | decide | omega, show 0 + 0 ≤ 0 from by first | decide | omega⟩)
      (fun u_ H locs hq hph (hP : va_P G.1 CL [] H) (hD : va_D A []) hS hfz hfk => ?_)
  refine W.eq (g2 := F0 m 8 ls [.int (nI i)]) rfl ?_
  refine lv_pop hx hb dJ6_checkIndex_8 rfl ?_
  have hP9 : va_P G.1 CL [] H := hP.sub [] rfl
  have hD9 : va_D A [] := hD.sub [] (by decide) rfl
  exact end_v hx hb hr hlk (qc_of () (v := none) (by rfl) (trivial) hP9 hD9 (trivial) hS) hS dJ6_checkIndex_9 (show 0 ≤ 0 from by first | exact Nat.le_refl _ | decide | omega) (show 0 ≤ 0 from by first | exact Nat.le_refl _ | decide | omega)

set_option maxHeartbeats 4000000 in
theorem mJ4_charAt (l : Launch) (G : Gt) (sb : Nat) (va : Nat) (ml : Int32) (ct : Nat) (g : Nat → Int32) (i : Nat) (gc : Nat → Nat) (hct : ct ≤ 16) (hi : i < ct) (hgc : ∀ j, j < ct → g j = sb_b (gc j)) (hgl : gc i < 256) : CT l G yJ4_charAt cJ4_charAt 5 (some .char) ({ frames := 3, cells := 0, slots := 0, locals := 55 } : Room) [.ref sb, .int (nI i)] [] (fun (A : Nat → Prop) (H : Heap) => roW G A H [(sb, .inr (5, [.ref va, .int (nI 0), .int ml, .int (nI ct)])), (va, .inl (G.2 4, 16, .inl g))]) (S := Unit) (fun (u_ : Unit) => some (.int (nI (gc i)))) (fun (u_ : Unit) => True) (fun (u_ : Unit) => []) (fun (u_ : Unit) (H : Heap) => True) := by
  refine CT.of (by decide) (Nat.le_of_ble_eq_true rfl) ?_
  intro p e s m below meth c ls A H locs h9 hH0 hP hS
  obtain ⟨cf, hr, hlk, hnm, hKB, hE, -, hD, -, hA, hAw, hR0, hl⟩ := h9
  have hx := cf.1
  have hb := cf.2.1
  have hml := cf.2.2.1
  have hown : s.vm.findClass RJ4 = some m.cls := cf.2.2.2.1
  have hts := cf.2.2.2.2
  have hK := hKB.1
  have hl : lv_has ls 5 [(0, .ref sb), (1, .int (nI i))] := hl
  refine lv_aload_n hx hb dJ4_charAt_0 rfl (lv_at hl 0 rfl) ?_
  refine va_get hx hb hts in_J5 hown hK (hR0.w hS) 0 rfl rfl 1 (by decide) (hts _ q224) (fun _ h => h) rfl dJ4_charAt_1 ?_
  refine lv_istore_n (lv' := [(2, .int (nI 0)), (0, .ref sb), (1, .int (nI i))]) hx hb dJ4_charAt_4 rfl hl (by decide) rfl (fun ls hl => ?_)
  refine lv_aload_n hx hb dJ4_charAt_5 rfl (lv_at hl 1 rfl) ?_
  refine va_get hx hb hts in_J5 hown hK (hR0.w hS) 0 rfl rfl 0 (by decide) (hts _ q223) (fun _ h => h) rfl dJ4_charAt_6 ?_
  refine lv_astore_n (lv' := [(3, .ref va), (2, .int (nI 0)), (0, .ref sb), (1, .int (nI i))]) hx hb dJ4_charAt_9 rfl hl (by decide) rfl (fun ls hl => ?_)
  refine lv_aload_n hx hb dJ4_charAt_10 rfl (lv_at hl 2 rfl) ?_
  refine va_get hx hb hts in_J5 hown hK (hR0.w hS) 0 rfl rfl 3 (by decide) (hts _ q227) (fun _ h => h) rfl dJ4_charAt_11 ?_
  refine lv_aload_n hx hb dJ4_charAt_14 rfl (lv_at hl 0 rfl) ?_
  refine r_alen hx hb hK (hR0.w hS) 1 4 rfl rfl dJ4_charAt_15 ?_
  refine lv_iload_n hx hb dJ4_charAt_16 rfl (lv_at hl 1 rfl) ?_
  refine lv_ishr hx hb dJ4_charAt_17 ?_
  refine lv_ton (n := 16) (sb_shr0 _) ?_
  refine va_mmin hx hb (by rw [hml]; exact hl.1.symm) hown (hts _ q1548) (hts _ q543) (hts _ q67) (hts _ q544) (Nat.le_of_ble_eq_true rfl) (Nat.le_of_ble_eq_true rfl) (show 0 ≤ 0 from by first | decide | omega) (show 0 ≤ 0 from by first | decide | omega) dJ4_charAt_18 ?_
  refine lv_toi (y := imin (nI ct) (nI 16)) (rfl) ?_
  refine W.eq (g2 := F0 m 21 ls [.int (imin (nI ct) (nI 16))]) rfl ?_
  refine lv_ton (n := ct) ((imin_n (by omega) (by omega)).trans (congrArg nI (Nat.min_eq_left (by omega)))) ?_
  refine lv_istore (lv' := [(4, .int (nI ct)), (3, .ref va), (2, .int (nI 0)), (0, .ref sb), (1, .int (nI i))]) hx hb dJ4_charAt_21 hl (by decide) rfl (fun ls hl => ?_)
  refine lv_iload_n hx hb dJ4_charAt_23 rfl (lv_at hl 4 rfl) ?_
  refine lv_iload hx hb dJ4_charAt_24 (lv_at hl 0 rfl) ?_
  have hF := hF_of (wc := []) hD hS hA [] rfl
  refine go_ct hS hP hD [] [] hF rfl rfl (by decide) (by decide)
      (va_runS (As := [.int (nI i), .int (nI ct)]) (rest := []) cf (mJ6_checkIndex l G i ct (show i < ct from by first | assumption | omega) (show ct < 2 ^ 31 from by first | assumption | omega) H.size) (va_cwS 2 hts (lw_S q1549 q1529 q56 q1530) rfl rfl rfl (by decide +kernel) ⟨Nat.le_of_ble_eq_true rfl, Nat.le_of_ble_eq_true rfl⟩) (preS_of hKB hE hS hF (va_P.sub hP [] rfl) ((va_D.sub hD [] (by decide) rfl).weaken (fun _ _ _ _ => trivial)) trivial) rfl rfl hl.1 rfl (lv_room (Nat.le_of_ble_eq_true rfl)) dJ4_charAt_26 ⟨show 0 + 0 ≤ 0 from by first | decide | omega, show 0 + 0 ≤ 0 from by first | decide | omega⟩)
      (fun u_ H locs hq hph (hP : va_P G.1 CL [] H) (hD : va_D A []) hS hfz hfk => ?_)
  refine W.eq (g2 := F0 m 29 ls []) rfl ?_
  refine lv_iload_n hx hb dJ4_charAt_29 rfl (lv_at hl 2 rfl) ?_
  refine n_if_ne (tgt := 42) hx hb (by omega) dJ4_charAt_30 (by decide) (fun c_2105 => absurd c_2105 (by omega)) (fun c_2105 => ?_)
  refine lv_aload_n hx hb dJ4_charAt_33 rfl (lv_at hl 1 rfl) ?_
  refine lv_iload_n hx hb dJ4_charAt_34 rfl (lv_at hl 4 rfl) ?_
  refine r_bald (v := sb_b (gc i)) hx hb hK (hR0.w hS) 1 4 rfl rfl (i := i) (by omega) (by omega) (hgc _ (by omega)) dJ4_charAt_35 ?_
  refine lv_sipush (v := nI 255) hx hb dJ4_charAt_36 (by decide) ?_
  refine lv_iand hx hb dJ4_charAt_39 ?_
  refine lv_ton (n := (gc i)) ((sb_byte _ (by omega)).1) ?_
  refine lv_i2c (v := nI (gc i)) hx hb dJ4_charAt_40 (n2c (by omega)) ?_
  have hP9 : va_P G.1 CL [] H := hP.sub [] rfl
  have hD9 : va_D A [] := hD.sub [] (by decide) rfl
  exact end_i hx hb hr hlk (nar_cv (by omega)) (qc_of () (v := some (.int (nI (gc i)))) (by rfl) (trivial) hP9 hD9 (trivial) hS) hS dJ4_charAt_41 (show 0 ≤ 0 from by first | exact Nat.le_refl _ | decide | omega) (show 0 ≤ 0 from by first | exact Nat.le_refl _ | decide | omega)

set_option maxHeartbeats 4000000 in
theorem mJ5_charAt (l : Launch) (G : Gt) (sb : Nat) (va : Nat) (ml : Int32) (ct : Nat) (g : Nat → Int32) (i : Nat) (gc : Nat → Nat) (hct : ct ≤ 16) (hi : i < ct) (hgc : ∀ j, j < ct → g j = sb_b (gc j)) (hgl : gc i < 256) : CT l G yJ5_charAt cJ5_charAt 2 (some .char) ({ frames := 4, cells := 0, slots := 0, locals := 79 } : Room) [.ref sb, .int (nI i)] [] (fun (A : Nat → Prop) (H : Heap) => roW G A H [(sb, .inr (5, [.ref va, .int (nI 0), .int ml, .int (nI ct)])), (va, .inl (G.2 4, 16, .inl g))]) (S := Unit) (fun (u_ : Unit) => some (.int (nI (gc i)))) (fun (u_ : Unit) => True) (fun (u_ : Unit) => []) (fun (u_ : Unit) (H : Heap) => True) := by
  refine CT.of (by decide) (Nat.le_of_ble_eq_true rfl) ?_
  intro p e s m below meth c ls A H locs h9 hH0 hP hS
  obtain ⟨cf, hr, hlk, hnm, hKB, hE, -, hD, -, hA, hAw, hR0, hl⟩ := h9
  have hx := cf.1
  have hb := cf.2.1
  have hml := cf.2.2.1
  have hown : s.vm.findClass RJ5 = some m.cls := cf.2.2.2.1
  have hts := cf.2.2.2.2
  have hK := hKB.1
  have hl : lv_has ls 2 [(0, .ref sb), (1, .int (nI i))] := hl
  refine lv_aload_n hx hb dJ5_charAt_0 rfl (lv_at hl 0 rfl) ?_
  refine lv_iload_n hx hb dJ5_charAt_1 rfl (lv_at hl 1 rfl) ?_
  have hF := hF_of (wc := []) hD hS hA [] rfl
  have hro_2106 : va_P G.1 CL [(sb, .inr (5, [.ref va, .int (nI 0), .int ml, .int (nI ct)])), (va, .inl (G.2 4, 16, .inl g))] H := ((hR0.w hS).sub [0, 1] rfl)
  refine go_ct hS hP hD [] [] hF rfl rfl (by decide) (by decide)
      (va_runSU (hK.1 5 _ rfl).2 (As := [.int (nI i)]) (rest := []) cf (mJ4_charAt l G sb va ml ct g i gc (show ct ≤ 16 from by first | assumption | omega) (show i < ct from by first | assumption | omega) (show ∀ j, j < ct → g j = sb_b (gc j) from by first | assumption | omega) (show gc i < 256 from by first | assumption | omega) H.size) (va_cwSU 1 hts (lw_SU q1545 q1980 q236 q1546 q54 q1547) rfl rfl rfl (by decide +kernel) ⟨Nat.le_of_ble_eq_true rfl, Nat.le_of_ble_eq_true rfl⟩) (preV_of hKB hE hS hF (va_recv hK (hR0.w hS) (ci := 5) (q0 := 0) rfl rfl) (va_P.sub hP [] rfl) ((va_D.sub hD [] (by decide) rfl).weaken (fun _ _ _ _ => trivial)) (roW.nil hro_2106)) rfl rfl hl.1 rfl (lv_room (Nat.le_of_ble_eq_true rfl)) dJ5_charAt_2 ⟨show 0 + 0 ≤ 0 from by first | decide | omega, show 0 + 0 ≤ 0 from by first | decide | omega⟩)
      (fun u_ H locs hq hph (hP : va_P G.1 CL [] H) (hD : va_D A []) hS hfz hfk => ?_)
  refine W.eq (g2 := F0 m 5 ls [.int (nI (gc i))]) rfl ?_
  have hP9 : va_P G.1 CL [] H := hP.sub [] rfl
  have hD9 : va_D A [] := hD.sub [] (by decide) rfl
  exact end_i hx hb hr hlk (nar_cv (by omega)) (qc_of () (v := some (.int (nI (gc i)))) (by rfl) (trivial) hP9 hD9 (trivial) hS) hS dJ5_charAt_5 (show 0 ≤ 0 from by first | exact Nat.le_refl _ | decide | omega) (show 0 ≤ 0 from by first | exact Nat.le_refl _ | decide | omega)

set_option maxHeartbeats 4000000 in
theorem mJ6_coder0 (l : Launch) (G : Gt) : CT l G yJ6_coder cJ6_coder 1 (some .byte) ({ frames := 1, cells := 0, slots := 0, locals := 12 } : Room) [.ref (G.2 374)] [] RH0 (S := Unit) (fun (u_ : Unit) => some (.int (nI 0))) (fun (u_ : Unit) => True) (fun (u_ : Unit) => []) (fun (u_ : Unit) (H : Heap) => True) := by
  refine CT.of (by decide) (Nat.le_of_ble_eq_true rfl) ?_
  intro p e s m below meth c ls A H locs h9 hH0 hP hS
  obtain ⟨cf, hr, hlk, hnm, hKB, hE, -, hD, -, hA, hAw, hRH, hl⟩ := h9
  have hx := cf.1
  have hb := cf.2.1
  have hml := cf.2.2.1
  have hown : s.vm.findClass RJ6 = some m.cls := cf.2.2.2.1
  have hts := cf.2.2.2.2
  have hK := hKB.1
  have hl : lv_has ls 1 [(0, .ref (G.2 374))] := hl
  refine va_gets (v := .int (nI 1)) hx hb hE.2.2.2.2.1 hS hown (hts _ q869) (fun _ h => h) dJ6_coder_0 ?_
  refine n_if_eq (tgt := 13) hx hb (by omega) dJ6_coder_3 (by decide) (fun c_2107 => absurd c_2107 (by omega)) (fun c_2107 => ?_)
  refine lv_aload_n hx hb dJ6_coder_6 rfl (lv_at hl 0 rfl) ?_
  refine vk_getf (v := .int (nI 0)) hx hb (hE.2.2.1.1.1 0 (by decide)).2.1 hS hown (hts _ q988) (fun _ h => h) dJ6_coder_7 ?_
  refine lv_goto (tgt := 14) hx hb dJ6_coder_10 (by decide) ?_
  have hP9 : va_P G.1 CL [] H := hP.sub [] rfl
  have hD9 : va_D A [] := hD.sub [] (by decide) rfl
  exact end_i hx hb hr hlk (by decide) (qc_of () (v := some (.int (nI 0))) (by rfl) (trivial) hP9 hD9 (trivial) hS) hS dJ6_coder_14 (show 0 ≤ 0 from by first | exact Nat.le_refl _ | decide | omega) (show 0 ≤ 0 from by first | exact Nat.le_refl _ | decide | omega)

set_option maxHeartbeats 4000000 in
theorem mJ6_length0 (l : Launch) (G : Gt) : CT l G yJ6_length cJ6_length 1 (some .int) ({ frames := 2, cells := 0, slots := 0, locals := 32 } : Room) [.ref (G.2 374)] [] RH0 (S := Unit) (fun (u_ : Unit) => some (.int (nI 0))) (fun (u_ : Unit) => True) (fun (u_ : Unit) => []) (fun (u_ : Unit) (H : Heap) => True) := by
  refine CT.of (by decide) (Nat.le_of_ble_eq_true rfl) ?_
  intro p e s m below meth c ls A H locs h9 hH0 hP hS
  obtain ⟨cf, hr, hlk, hnm, hKB, hE, -, hD, -, hA, hAw, hRH, hl⟩ := h9
  have hx := cf.1
  have hb := cf.2.1
  have hml := cf.2.2.1
  have hown : s.vm.findClass RJ6 = some m.cls := cf.2.2.2.1
  have hts := cf.2.2.2.2
  have hK := hKB.1
  have hl : lv_has ls 1 [(0, .ref (G.2 374))] := hl
  refine lv_aload_n hx hb dJ6_length_0 rfl (lv_at hl 0 rfl) ?_
  refine vk_getf (v := .ref (G.2 574)) hx hb (hE.2.2.1.1.1 0 (by decide)).2.2.1 hS hown (hts _ q987) (fun _ h => h) dJ6_length_1 ?_
  refine va_tlen (v := nI 0) hx hb (hE.2.2.1.1.1 0 (by decide)).2.2.2 hS rfl dJ6_length_4 ?_
  refine lv_aload_n hx hb dJ6_length_5 rfl (lv_at hl 0 rfl) ?_
  have hF := hF_of (wc := []) hD hS hA [] rfl
  refine go_ct hS hP hD [] [] hF rfl rfl (by decide) (by decide)
      (va_runV (As := []) (rest := [.int (nI 0)]) cf (mJ6_coder0 l G   H.size) (cwV 0 hts (lw_V q865 q866 q867 q56 q868) rfl rfl rfl (by decide +kernel) ⟨Nat.le_of_ble_eq_true rfl, Nat.le_of_ble_eq_true rfl⟩) (preV_of hKB hE hS hF (vk_recv hE.2.2.1.1 (i := 0) (by decide) hS) (va_P.sub hP [] rfl) ((va_D.sub hD [] (by decide) rfl).weaken (fun _ _ _ _ => trivial)) trivial) rfl rfl hl.1 rfl (lv_room (Nat.le_of_ble_eq_true rfl)) dJ6_length_6 ⟨show 0 + 0 ≤ 0 from by first | decide | omega, show 0 + 0 ≤ 0 from by first | decide | omega⟩)
      (fun u_ H locs hq hph (hP : va_P G.1 CL [] H) (hD : va_D A []) hS hfz hfk => ?_)
  refine W.eq (g2 := F0 m 9 ls [.int (nI 0), .int (nI 0)]) rfl ?_
  refine lv_ishr hx hb dJ6_length_9 ?_
  refine lv_ton (n := 0) (sb_shr0 _) ?_
  have hP9 : va_P G.1 CL [] H := hP.sub [] rfl
  have hD9 : va_D A [] := hD.sub [] (by decide) rfl
  exact end_i hx hb hr hlk (rfl) (qc_of () (v := some (.int (nI 0))) (by rfl) (trivial) hP9 hD9 (trivial) hS) hS dJ6_length_10 (show 0 ≤ 0 from by first | exact Nat.le_refl _ | decide | omega) (show 0 ≤ 0 from by first | exact Nat.le_refl _ | decide | omega)

set_option maxHeartbeats 4000000 in
theorem mJ4_inflateIfNeededFor0 (l : Launch) (G : Gt) (sb : Nat) (va : Nat) (ml : Int32) (ct : Nat) : CT l G yJ4_inflateIfNeededFor cJ4_inflateIfNeededFor 2 none ({ frames := 2, cells := 0, slots := 0, locals := 32 } : Room) [.ref sb, .ref (G.2 374)] [] (fun (A : Nat → Prop) (H : Heap) => roW G A H [(sb, .inr (5, [.ref va, .int (nI 0), .int ml, .int (nI ct)]))]) (S := Unit) (fun (u_ : Unit) => (none : Option Value)) (fun (u_ : Unit) => True) (fun (u_ : Unit) => []) (fun (u_ : Unit) (H : Heap) => True) := by
  refine CT.of (by decide) (Nat.le_of_ble_eq_true rfl) ?_
  intro p e s m below meth c ls A H locs h9 hH0 hP hS
  obtain ⟨cf, hr, hlk, hnm, hKB, hE, -, hD, -, hA, hAw, hR0, hl⟩ := h9
  have hx := cf.1
  have hb := cf.2.1
  have hml := cf.2.2.1
  have hown : s.vm.findClass RJ4 = some m.cls := cf.2.2.2.1
  have hts := cf.2.2.2.2
  have hK := hKB.1
  have hl : lv_has ls 2 [(0, .ref sb), (1, .ref (G.2 374))] := hl
  refine va_gets (v := .int (nI 1)) hx hb hE.2.2.2.2.1 hS hown (hts _ q214) (fun _ h => h) dJ4_inflateIfNeededFor_0 ?_
  refine n_if_eq (tgt := 21) hx hb (by omega) dJ4_inflateIfNeededFor_3 (by decide) (fun c_2108 => absurd c_2108 (by omega)) (fun c_2108 => ?_)
  refine lv_aload_n hx hb dJ4_inflateIfNeededFor_6 rfl (lv_at hl 0 rfl) ?_
  refine va_get hx hb hts in_J5 hown hK (hR0.w hS) 0 rfl rfl 1 (by decide) (hts _ q224) (fun _ h => h) rfl dJ4_inflateIfNeededFor_7 ?_
  refine lv_aload_n hx hb dJ4_inflateIfNeededFor_10 rfl (lv_at hl 1 rfl) ?_
  have hF := hF_of (wc := []) hD hS hA [] rfl
  refine go_ct hS hP hD [] [] hF rfl rfl (by decide) (by decide)
      (va_runV (As := []) (rest := [.int (nI 0)]) cf (mJ6_coder0 l G   H.size) (cwV 0 hts (lw_V q878 q866 q867 q56 q868) rfl rfl rfl (by decide +kernel) ⟨Nat.le_of_ble_eq_true rfl, Nat.le_of_ble_eq_true rfl⟩) (preV_of hKB hE hS hF (vk_recv hE.2.2.1.1 (i := 0) (by decide) hS) (va_P.sub hP [] rfl) ((va_D.sub hD [] (by decide) rfl).weaken (fun _ _ _ _ => trivial)) trivial) rfl rfl hl.1 rfl (lv_room (Nat.le_of_ble_eq_true rfl)) dJ4_inflateIfNeededFor_11 ⟨show 0 + 0 ≤ 0 from by first | decide | omega, show 0 + 0 ≤ 0 from by first | decide | omega⟩)
      (fun u_ H locs hq hph (hP : va_P G.1 CL [] H) (hD : va_D A []) hS hfz hfk => ?_)
  refine W.eq (g2 := F0 m 14 ls [.int (nI 0), .int (nI 0)]) rfl ?_
  refine n_icmp_eq (tgt := 21) hx hb (by omega) (by omega) dJ4_inflateIfNeededFor_14 (by decide) (fun c_2111 => ?_) (fun c_2111 => absurd c_2111 (by omega))
  have hP9 : va_P G.1 CL [] H := hP.sub [] rfl
  have hD9 : va_D A [] := hD.sub [] (by decide) rfl
  exact end_v hx hb hr hlk (qc_of () (v := none) (by rfl) (trivial) hP9 hD9 (trivial) hS) hS dJ4_inflateIfNeededFor_21 (show 0 ≤ 0 from by first | exact Nat.le_refl _ | decide | omega) (show 0 ≤ 0 from by first | exact Nat.le_refl _ | decide | omega)

set_option maxHeartbeats 4000000 in
theorem mJ6_getBytes0 (l : Launch) (G : Gt) (va : Nat) (g : Nat → Int32) (ct : Nat) (hct : ct + 0 ≤ 16) : CT l G yJ6_getBytes cJ6_getBytes 4 none ({ frames := 2, cells := 0, slots := 0, locals := 34 } : Room) [.ref (G.2 374), .ref va, .int (nI ct), .int (nI 0)] [(va, .inl (G.2 4, 16, .inl g))] RH0 (S := (Nat → Int32)) (fun (u_ : (Nat → Int32)) => (none : Option Value)) (fun (u_ : (Nat → Int32)) => (∀ j, j < ct → u_ j = g j)) (fun (u_ : (Nat → Int32)) => [(va, .inl (G.2 4, 16, .inl u_))]) (fun (u_ : (Nat → Int32)) (H : Heap) => True) := by
  refine CT.of (by decide) (Nat.le_of_ble_eq_true rfl) ?_
  intro p e s m below meth c ls A H locs h9 hH0 hP hS
  obtain ⟨cf, hr, hlk, hnm, hKB, hE, -, hD, -, hA, hAw, hRH, hl⟩ := h9
  have hx := cf.1
  have hb := cf.2.1
  have hml := cf.2.2.1
  have hown : s.vm.findClass RJ6 = some m.cls := cf.2.2.2.1
  have hts := cf.2.2.2.2
  have hK := hKB.1
  have hl : lv_has ls 4 [(0, .ref (G.2 374)), (1, .ref va), (2, .int (nI ct)), (3, .int (nI 0))] := hl
  refine lv_aload_n hx hb dJ6_getBytes_0 rfl (lv_at hl 0 rfl) ?_
  have hF := hF_of (wc := []) hD hS hA [] rfl
  refine go_ct hS hP hD [] [0] hF rfl rfl (by decide) (by decide)
      (va_runV (As := []) (rest := []) cf (mJ6_coder0 l G   H.size) (cwV 0 hts (lw_V q865 q866 q867 q56 q868) rfl rfl rfl (by decide +kernel) ⟨Nat.le_of_ble_eq_true rfl, Nat.le_of_ble_eq_true rfl⟩) (preV_of hKB hE hS hF (vk_recv hE.2.2.1.1 (i := 0) (by decide) hS) (va_P.sub hP [] rfl) ((va_D.sub hD [] (by decide) rfl).weaken (fun _ _ _ _ => trivial)) trivial) rfl rfl hl.1 rfl (lv_room (Nat.le_of_ble_eq_true rfl)) dJ6_getBytes_1 ⟨show 0 + 0 ≤ 0 from by first | decide | omega, show 0 + 0 ≤ 0 from by first | decide | omega⟩)
      (fun u_ H locs hq hph (hP : va_P G.1 CL [(va, .inl (G.2 4, 16, .inl g))] H) (hD : va_D A [(va, .inl (G.2 4, 16, .inl g))]) hS hfz hfk => ?_)
  refine W.eq (g2 := F0 m 4 ls [.int (nI 0)]) rfl ?_
  refine lv_iload_n hx hb dJ6_getBytes_4 rfl (lv_at hl 3 rfl) ?_
  refine n_icmp_ne (tgt := 28) hx hb (by omega) (by omega) dJ6_getBytes_5 (by decide) (fun c_2114 => absurd c_2114 (by omega)) (fun c_2114 => ?_)
  refine lv_aload_n hx hb dJ6_getBytes_8 rfl (lv_at hl 0 rfl) ?_
  refine vk_getf (v := .ref (G.2 574)) hx hb (hE.2.2.1.1.1 0 (by decide)).2.2.1 hS hown (hts _ q987) (fun _ h => h) dJ6_getBytes_9 ?_
  refine lv_iconst (v := nI 0) hx hb dJ6_getBytes_12 (by decide) ?_
  refine lv_aload_n hx hb dJ6_getBytes_13 rfl (lv_at hl 1 rfl) ?_
  refine lv_iload_n hx hb dJ6_getBytes_14 rfl (lv_at hl 2 rfl) ?_
  refine lv_iload_n hx hb dJ6_getBytes_15 rfl (lv_at hl 3 rfl) ?_
  refine lv_ishl hx hb dJ6_getBytes_16 ?_
  refine lv_ton (n := ct) (sb_shl0 _) ?_
  refine lv_aload_n hx hb dJ6_getBytes_17 rfl (lv_at hl 0 rfl) ?_
  refine vk_getf (v := .ref (G.2 574)) hx hb (hE.2.2.1.1.1 0 (by decide)).2.2.1 hS hown (hts _ q987) (fun _ h => h) dJ6_getBytes_18 ?_
  refine va_tlen (v := nI 0) hx hb (hE.2.2.1.1.1 0 (by decide)).2.2.2 hS rfl dJ6_getBytes_21 ?_
  refine vk_copyt hx hb (by rw [hml]; exact hl.1.symm) hown (hts _ q902) (hts _ q547) (hts _ q546) (hts _ q69) hKB.1 hP hD hS (f := (fun j => (([[], [32]] : List (List Int32)).getD 0 []).getD j 0)) (hE.2.2.1.1.1 0 (by decide)).2.2.2 0 4 rfl rfl (nlt0 (by omega)) (nlt0 (by omega)) (nlt0 (by omega)) (by first | decide | (rw [nI_clamp (by omega), nI_clamp (by omega)] <;> decide)) (by first | (rw [nI_clamp (by omega), nI_clamp (by omega)] <;> omega) | (rw [nI_clamp (by omega)] <;> omega)) (fun i9 hi9 => by first | exact absurd hi9 (Nat.not_lt_zero _) | (rw [nI_clamp (by omega)] at hi9 ⊢; first | exact absurd hi9 (Nat.not_lt_zero _) | (rw [show i9 = 0 by omega]; decide))) (Nat.le_of_ble_eq_true rfl) (Nat.le_of_ble_eq_true rfl) dJ6_getBytes_22 (fun H locs (hP : va_P G.1 CL [(va, .inl (G.2 4, 16, .inl (va_cpy (fun j => (([[], [32]] : List (List Int32)).getD 0 []).getD j 0) g (nI 0).toNatClampNeg (nI ct).toNatClampNeg (nI 0).toNatClampNeg)))] H) (hD : va_D A [(va, .inl (G.2 4, 16, .inl (va_cpy (fun j => (([[], [32]] : List (List Int32)).getD 0 []).getD j 0) g (nI 0).toNatClampNeg (nI ct).toNatClampNeg (nI 0).toNatClampNeg)))]) hS => ?_)
  refine lv_goto (tgt := 43) hx hb dJ6_getBytes_25 (by decide) ?_
  have hP9 : va_P G.1 CL [(va, .inl (G.2 4, 16, .inl (va_cpy (fun j => (([[], [32]] : List (List Int32)).getD 0 []).getD j 0) g (nI 0).toNatClampNeg (nI ct).toNatClampNeg (nI 0).toNatClampNeg)))] H := hP.sub [0] rfl
  have hD9 : va_D A [(va, .inl (G.2 4, 16, .inl (va_cpy (fun j => (([[], [32]] : List (List Int32)).getD 0 []).getD j 0) g (nI 0).toNatClampNeg (nI ct).toNatClampNeg (nI 0).toNatClampNeg)))] := hD.sub [0] (by decide) rfl
  exact end_v hx hb hr hlk (qc_of (va_cpy (fun j => (([[], [32]] : List (List Int32)).getD 0 []).getD j 0) g (nI 0).toNatClampNeg (nI ct).toNatClampNeg (nI 0).toNatClampNeg) (v := none) (by rfl) ((fun j (hj : j < ct) => (cpy_ne (Or.inl (by rw [nI_clamp (by omega)]; omega))))) hP9 hD9 (trivial) hS) hS dJ6_getBytes_43 (show 0 ≤ 0 from by first | exact Nat.le_refl _ | decide | omega) (show 0 ≤ 0 from by first | exact Nat.le_refl _ | decide | omega)

set_option maxHeartbeats 4000000 in
theorem mJ4_putStringAt0 (l : Launch) (G : Gt) (sb : Nat) (va : Nat) (ml : Int32) (ct : Nat) (g : Nat → Int32) (hct : ct + 0 ≤ 16) : CT l G yJ4_putStringAt cJ4_putStringAt 3 none ({ frames := 3, cells := 0, slots := 0, locals := 57 } : Room) [.ref sb, .int (nI ct), .ref (G.2 374)] [(va, .inl (G.2 4, 16, .inl g))] (fun (A : Nat → Prop) (H : Heap) => roW G A H [(sb, .inr (5, [.ref va, .int (nI 0), .int ml, .int (nI ct)]))]) (S := (Nat → Int32)) (fun (u_ : (Nat → Int32)) => (none : Option Value)) (fun (u_ : (Nat → Int32)) => (∀ j, j < ct → u_ j = g j)) (fun (u_ : (Nat → Int32)) => [(va, .inl (G.2 4, 16, .inl u_))]) (fun (u_ : (Nat → Int32)) (H : Heap) => True) := by
  refine CT.of (by decide) (Nat.le_of_ble_eq_true rfl) ?_
  intro p e s m below meth c ls A H locs h9 hH0 hP hS
  obtain ⟨cf, hr, hlk, hnm, hKB, hE, -, hD, -, hA, hAw, hR0, hl⟩ := h9
  have hx := cf.1
  have hb := cf.2.1
  have hml := cf.2.2.1
  have hown : s.vm.findClass RJ4 = some m.cls := cf.2.2.2.1
  have hts := cf.2.2.2.2
  have hK := hKB.1
  have hl : lv_has ls 3 [(0, .ref sb), (1, .int (nI ct)), (2, .ref (G.2 374))] := hl
  refine lv_aload_n hx hb dJ4_putStringAt_0 rfl (lv_at hl 0 rfl) ?_
  refine lv_aload_n hx hb dJ4_putStringAt_1 rfl (lv_at hl 2 rfl) ?_
  have hF := hF_of (wc := []) hD hS hA [] rfl
  have hro_2115 : va_P G.1 CL [(sb, .inr (5, [.ref va, .int (nI 0), .int ml, .int (nI ct)]))] H := ((hR0.w hS).sub [0] rfl)
  refine go_ct hS hP hD [] [0] hF rfl rfl (by decide) (by decide)
      (va_runV (As := [.ref (G.2 374)]) (rest := []) cf (mJ4_inflateIfNeededFor0 l G sb va ml ct  H.size) ⟨callB_of 1 hts (lw_meth q877) rfl rfl rfl (hts _ q54) (hts _ q874) (by decide +kernel) ⟨Nat.le_of_ble_eq_true rfl, Nat.le_of_ble_eq_true rfl⟩, hts _ q876, hKB.sel (List.mem_of_getElem? (i := 2) rfl)⟩ (preV_of hKB hE hS hF (va_recv hK (hR0.w hS) (ci := 5) (q0 := 0) rfl rfl) (va_P.sub hP [] rfl) ((va_D.sub hD [] (by decide) rfl).weaken (fun _ _ _ _ => trivial)) (roW.nil hro_2115)) rfl rfl hl.1 rfl (lv_room (Nat.le_of_ble_eq_true rfl)) dJ4_putStringAt_2 ⟨show 0 + 0 ≤ 0 from by first | decide | omega, show 0 + 0 ≤ 0 from by first | decide | omega⟩)
      (fun u_ H locs hq hph (hP : va_P G.1 CL [(va, .inl (G.2 4, 16, .inl g))] H) (hD : va_D A [(va, .inl (G.2 4, 16, .inl g))]) hS hfz hfk => ?_)
  refine W.eq (g2 := F0 m 5 ls []) rfl ?_
  refine lv_aload_n hx hb dJ4_putStringAt_5 rfl (lv_at hl 2 rfl) ?_
  refine lv_aload_n hx hb dJ4_putStringAt_6 rfl (lv_at hl 0 rfl) ?_
  refine va_get hx hb hts in_J5 hown hK (hR0.w hS) 0 rfl rfl 0 (by decide) (hts _ q223) (fun _ h => h) rfl dJ4_putStringAt_7 ?_
  refine lv_iload_n hx hb dJ4_putStringAt_10 rfl (lv_at hl 1 rfl) ?_
  refine lv_aload_n hx hb dJ4_putStringAt_11 rfl (lv_at hl 0 rfl) ?_
  refine va_get hx hb hts in_J5 hown hK (hR0.w hS) 0 rfl rfl 1 (by decide) (hts _ q224) (fun _ h => h) rfl dJ4_putStringAt_12 ?_
  have hF := hF_of (wc := [(va, .inl (G.2 4, 16, .inl g))]) hD hS hA [0] rfl
  refine go_ct hS hP hD [0] [] hF rfl rfl (by decide) (by decide)
      (va_runV (As := [.ref va, .int (nI ct), .int (nI 0)]) (rest := []) cf (mJ6_getBytes0 l G va g ct (show ct + 0 ≤ 16 from by first | assumption | omega) H.size) (cwV 3 hts (lw_V q898 q899 q900 q56 q901) rfl rfl rfl (by decide +kernel) ⟨Nat.le_of_ble_eq_true rfl, Nat.le_of_ble_eq_true rfl⟩) (preV_of hKB hE hS hF (vk_recv hE.2.2.1.1 (i := 0) (by decide) hS) (va_P.sub hP [0] rfl) ((va_D.sub hD [0] (by decide) rfl).weaken (fun _ _ _ _ => trivial)) trivial) rfl rfl hl.1 rfl (lv_room (Nat.le_of_ble_eq_true rfl)) dJ4_putStringAt_15 ⟨show 0 + 0 ≤ 0 from by first | decide | omega, show 0 + 0 ≤ 0 from by first | decide | omega⟩)
      (fun u_ H locs hq hph (hP : va_P G.1 CL [(va, .inl (G.2 4, 16, .inl u_))] H) (hD : va_D A [(va, .inl (G.2 4, 16, .inl u_))]) hS hfz hfk => ?_)
  obtain ⟨g2_2116, rfl⟩ : ∃ z, z = u_ := ⟨_, rfl⟩
  have hP : va_P G.1 CL [(va, .inl (G.2 4, 16, .inl g2_2116))] H := hP
  have hD : va_D A [(va, .inl (G.2 4, 16, .inl g2_2116))] := hD
  have hq_2117 : (∀ j, j < ct → g2_2116 j = g j) := hq
  refine W.eq (g2 := F0 m 18 ls []) rfl ?_
  have hP9 : va_P G.1 CL [(va, .inl (G.2 4, 16, .inl g2_2116))] H := hP.sub [0] rfl
  have hD9 : va_D A [(va, .inl (G.2 4, 16, .inl g2_2116))] := hD.sub [0] (by decide) rfl
  exact end_v hx hb hr hlk (qc_of g2_2116 (v := none) (by rfl) (hq_2117) hP9 hD9 (trivial) hS) hS dJ4_putStringAt_18 (show 0 ≤ 0 from by first | exact Nat.le_refl _ | decide | omega) (show 0 ≤ 0 from by first | exact Nat.le_refl _ | decide | omega)

set_option maxHeartbeats 4000000 in
theorem mJ4_append0 (l : Launch) (G : Gt) (sb : Nat) (va : Nat) (ml : Int32) (ct : Nat) (g : Nat → Int32) (hct : ct + 0 ≤ 16) : CT l G yJ4_append cJ4_append 3 (some (.object "java/lang/AbstractStringBuilder")) ({ frames := 4, cells := 0, slots := 0, locals := 79 } : Room) [.ref sb, .ref (G.2 374)] [(sb, .inr (5, [.ref va, .int (nI 0), .int ml, .int (nI ct)])), (va, .inl (G.2 4, 16, .inl g))] RH0 (S := (Nat → Int32)) (fun (u_ : (Nat → Int32)) => some (.ref sb)) (fun (u_ : (Nat → Int32)) => (∀ j, j < ct → u_ j = g j)) (fun (u_ : (Nat → Int32)) => [(sb, .inr (5, [.ref va, .int (nI 0), .int ml, .int (nI ct)])), (va, .inl (G.2 4, 16, .inl u_))]) (fun (u_ : (Nat → Int32)) (H : Heap) => True) := by
  refine CT.of (by decide) (Nat.le_of_ble_eq_true rfl) ?_
  intro p e s m below meth c ls A H locs h9 hH0 hP hS
  obtain ⟨cf, hr, hlk, hnm, hKB, hE, -, hD, -, hA, hAw, hRH, hl⟩ := h9
  have hx := cf.1
  have hb := cf.2.1
  have hml := cf.2.2.1
  have hown : s.vm.findClass RJ4 = some m.cls := cf.2.2.2.1
  have hts := cf.2.2.2.2
  have hK := hKB.1
  have hl : lv_has ls 3 [(0, .ref sb), (1, .ref (G.2 374))] := hl
  refine lv_aload_n hx hb dJ4_append_0 rfl (lv_at hl 1 rfl) ?_
  refine lv_ifnonnull (tgt := 9) hx hb dJ4_append_1 (by decide) ?_
  refine lv_aload_n hx hb dJ4_append_9 rfl (lv_at hl 1 rfl) ?_
  have hF := hF_of (wc := []) hD hS hA [] rfl
  refine go_ct hS hP hD [] [0, 1] hF rfl rfl (by decide) (by decide)
      (va_runV (As := []) (rest := []) cf (mJ6_length0 l G   H.size) (cwV 0 hts (lw_V q861 q862 q863 q56 q864) rfl rfl rfl (by decide +kernel) ⟨Nat.le_of_ble_eq_true rfl, Nat.le_of_ble_eq_true rfl⟩) (preV_of hKB hE hS hF (vk_recv hE.2.2.1.1 (i := 0) (by decide) hS) (va_P.sub hP [] rfl) ((va_D.sub hD [] (by decide) rfl).weaken (fun _ _ _ _ => trivial)) trivial) rfl rfl hl.1 rfl (lv_room (Nat.le_of_ble_eq_true rfl)) dJ4_append_10 ⟨show 0 + 0 ≤ 0 from by first | decide | omega, show 0 + 0 ≤ 0 from by first | decide | omega⟩)
      (fun u_ H locs hq hph (hP : va_P G.1 CL [(sb, .inr (5, [.ref va, .int (nI 0), .int ml, .int (nI ct)])), (va, .inl (G.2 4, 16, .inl g))] H) (hD : va_D A [(sb, .inr (5, [.ref va, .int (nI 0), .int ml, .int (nI ct)])), (va, .inl (G.2 4, 16, .inl g))]) hS hfz hfk => ?_)
  refine W.eq (g2 := F0 m 13 ls [.int (nI 0)]) rfl ?_
  refine lv_istore_n (lv' := [(2, .int (nI 0)), (0, .ref sb), (1, .ref (G.2 374))]) hx hb dJ4_append_13 rfl hl (by decide) rfl (fun ls hl => ?_)
  refine lv_aload_n hx hb dJ4_append_14 rfl (lv_at hl 1 rfl) ?_
  refine lv_aload_n hx hb dJ4_append_15 rfl (lv_at hl 1 rfl) ?_
  refine va_get hx hb hts in_J5 hown hK hP 0 rfl rfl 3 (by decide) (hts _ q227) (fun _ h => h) rfl dJ4_append_16 ?_
  refine lv_iload_n hx hb dJ4_append_19 rfl (lv_at hl 0 rfl) ?_
  refine lv_iadd hx hb dJ4_append_20 ?_
  refine lv_ton (n := ct) (nadd (by omega)) ?_
  have hF := hF_of (wc := []) hD hS hA [] rfl
  have hro_2118 : va_P G.1 CL [(sb, .inr (5, [.ref va, .int (nI 0), .int ml, .int (nI ct)])), (va, .inl (G.2 4, 16, .inl g))] H := (va_P.sub hP [0, 1] rfl)
  refine go_ct hS hP hD [] [0, 1] hF rfl rfl (by decide) (by decide)
      (va_runV (As := [.int (nI ct)]) (rest := []) cf (mJ4_ensureCapacityInternal l G sb va ml ct g ct (show ct ≤ 16 from by first | assumption | omega) H.size) ⟨callB_of 1 hts (lw_meth q813) rfl rfl rfl (hts _ q54) (hts _ q810) (by decide +kernel) ⟨Nat.le_of_ble_eq_true rfl, Nat.le_of_ble_eq_true rfl⟩, hts _ q812, hKB.sel (List.mem_of_getElem? (i := 0) rfl)⟩ (preV_of hKB hE hS hF (va_recv hK hP (ci := 5) (q0 := 0) rfl rfl) (va_P.sub hP [] rfl) ((va_D.sub hD [] (by decide) rfl).weaken (fun _ _ _ _ => trivial)) (roW.nil hro_2118)) rfl rfl hl.1 rfl (lv_room (Nat.le_of_ble_eq_true rfl)) dJ4_append_21 ⟨show 0 + 0 ≤ 0 from by first | decide | omega, show 0 + 0 ≤ 0 from by first | decide | omega⟩)
      (fun u_ H locs hq hph (hP : va_P G.1 CL [(sb, .inr (5, [.ref va, .int (nI 0), .int ml, .int (nI ct)])), (va, .inl (G.2 4, 16, .inl g))] H) (hD : va_D A [(sb, .inr (5, [.ref va, .int (nI 0), .int ml, .int (nI ct)])), (va, .inl (G.2 4, 16, .inl g))]) hS hfz hfk => ?_)
  refine W.eq (g2 := F0 m 24 ls []) rfl ?_
  refine lv_aload_n hx hb dJ4_append_24 rfl (lv_at hl 1 rfl) ?_
  refine lv_aload_n hx hb dJ4_append_25 rfl (lv_at hl 1 rfl) ?_
  refine va_get hx hb hts in_J5 hown hK hP 0 rfl rfl 3 (by decide) (hts _ q227) (fun _ h => h) rfl dJ4_append_26 ?_
  refine lv_aload_n hx hb dJ4_append_29 rfl (lv_at hl 2 rfl) ?_
  have hF := hF_of (wc := [(va, .inl (G.2 4, 16, .inl g))]) hD hS hA [1] rfl
  refine go_ct hS hP hD [1] [0] hF rfl rfl (by decide) (by decide)
      (va_runV (As := [.int (nI ct), .ref (G.2 374)]) (rest := []) cf (mJ4_putStringAt0 l G sb va ml ct g (show ct + 0 ≤ 16 from by first | assumption | omega) H.size) ⟨callB_of 2 hts (lw_meth q873) rfl rfl rfl (hts _ q54) (hts _ q870) (by decide +kernel) ⟨Nat.le_of_ble_eq_true rfl, Nat.le_of_ble_eq_true rfl⟩, hts _ q872, hKB.sel (List.mem_of_getElem? (i := 1) rfl)⟩ (preV_of hKB hE hS hF (va_recv hK hP (ci := 5) (q0 := 0) rfl rfl) (va_P.sub hP [1] rfl) ((va_D.sub hD [1] (by decide) rfl).weaken (fun _ _ _ _ => trivial)) (roW.of (w' := [(sb, .inr (5, [.ref va, .int (nI 0), .int ml, .int (nI ct)]))]) hP hD [1] [0] rfl rfl (by decide))) rfl rfl hl.1 rfl (lv_room (Nat.le_of_ble_eq_true rfl)) dJ4_append_30 ⟨show 0 + 0 ≤ 0 from by first | decide | omega, show 0 + 0 ≤ 0 from by first | decide | omega⟩)
      (fun u_ H locs hq hph (hP : va_P G.1 CL [(sb, .inr (5, [.ref va, .int (nI 0), .int ml, .int (nI ct)])), (va, .inl (G.2 4, 16, .inl u_))] H) (hD : va_D A [(sb, .inr (5, [.ref va, .int (nI 0), .int ml, .int (nI ct)])), (va, .inl (G.2 4, 16, .inl u_))]) hS hfz hfk => ?_)
  obtain ⟨g2_2119, rfl⟩ : ∃ z, z = u_ := ⟨_, rfl⟩
  have hP : va_P G.1 CL [(sb, .inr (5, [.ref va, .int (nI 0), .int ml, .int (nI ct)])), (va, .inl (G.2 4, 16, .inl g2_2119))] H := hP
  have hD : va_D A [(sb, .inr (5, [.ref va, .int (nI 0), .int ml, .int (nI ct)])), (va, .inl (G.2 4, 16, .inl g2_2119))] := hD
  have hq_2120 : (∀ j, j < ct → g2_2119 j = g j) := hq
  refine W.eq (g2 := F0 m 33 ls []) rfl ?_
  refine lv_aload_n hx hb dJ4_append_33 rfl (lv_at hl 1 rfl) ?_
  refine lv_dup hx hb dJ4_append_34 rfl ?_
  refine va_get hx hb hts in_J5 hown hK hP 0 rfl rfl 3 (by decide) (hts _ q227) (fun _ h => h) rfl dJ4_append_35 ?_
  refine lv_iload_n hx hb dJ4_append_38 rfl (lv_at hl 0 rfl) ?_
  refine lv_iadd hx hb dJ4_append_39 ?_
  refine lv_ton (n := ct) (nadd (by omega)) ?_
  refine va_put (v := .int (nI ct)) (ty := .int) hx hb hts in_J5 tyJ5 tyJ5_ok nmJ5 hown hK hP hD hS 0 rfl rfl 3 (by decide) (hts _ q227) (fun _ h => h) rfl (by decide +kernel) rfl rfl (Nat.le_of_ble_eq_true rfl) dJ4_append_40 (fun H locs (hP : va_P G.1 CL [(sb, .inr (5, [.ref va, .int (nI 0), .int ml, .int (nI ct)])), (va, .inl (G.2 4, 16, .inl g2_2119))] H) (hD : va_D A [(sb, .inr (5, [.ref va, .int (nI 0), .int ml, .int (nI ct)])), (va, .inl (G.2 4, 16, .inl g2_2119))]) hS => ?_)
  refine lv_aload_n hx hb dJ4_append_43 rfl (lv_at hl 1 rfl) ?_
  have hP9 : va_P G.1 CL [(sb, .inr (5, [.ref va, .int (nI 0), .int ml, .int (nI ct)])), (va, .inl (G.2 4, 16, .inl g2_2119))] H := hP.sub [0, 1] rfl
  have hD9 : va_D A [(sb, .inr (5, [.ref va, .int (nI 0), .int ml, .int (nI ct)])), (va, .inl (G.2 4, 16, .inl g2_2119))] := hD.sub [0, 1] (by decide) rfl
  exact end_a hx hb hr hlk (by first | exact Or.inl ⟨_, rfl⟩ | exact Or.inr ⟨_, rfl⟩) (Or.inr ⟨_, rfl⟩) (qc_of g2_2119 (v := some (.ref sb)) (by rfl) (hq_2120) hP9 hD9 (trivial) hS) hS dJ4_append_44 (show 0 ≤ 0 from by first | exact Nat.le_refl _ | decide | omega) (show 0 ≤ 0 from by first | exact Nat.le_refl _ | decide | omega)

set_option maxHeartbeats 4000000 in
theorem mJ5_append0 (l : Launch) (G : Gt) (sb : Nat) (va : Nat) (ml : Int32) (ct : Nat) (g : Nat → Int32) (hct : ct + 0 ≤ 16) : CT l G yJ5_append cJ5_append 2 (some (.object "java/lang/StringBuilder")) ({ frames := 5, cells := 0, slots := 0, locals := 101 } : Room) [.ref sb, .ref (G.2 374)] [(sb, .inr (5, [.ref va, .int (nI 0), .int ml, .int (nI ct)])), (va, .inl (G.2 4, 16, .inl g))] RH0 (S := (Nat → Int32)) (fun (u_ : (Nat → Int32)) => some (.ref sb)) (fun (u_ : (Nat → Int32)) => (∀ j, j < ct → u_ j = g j)) (fun (u_ : (Nat → Int32)) => [(sb, .inr (5, [.ref va, .int (nI 0), .int ml, .int (nI ct)])), (va, .inl (G.2 4, 16, .inl u_))]) (fun (u_ : (Nat → Int32)) (H : Heap) => True) := by
  refine CT.of (by decide) (Nat.le_of_ble_eq_true rfl) ?_
  intro p e s m below meth c ls A H locs h9 hH0 hP hS
  obtain ⟨cf, hr, hlk, hnm, hKB, hE, -, hD, -, hA, hAw, hRH, hl⟩ := h9
  have hx := cf.1
  have hb := cf.2.1
  have hml := cf.2.2.1
  have hown : s.vm.findClass RJ5 = some m.cls := cf.2.2.2.1
  have hts := cf.2.2.2.2
  have hK := hKB.1
  have hl : lv_has ls 2 [(0, .ref sb), (1, .ref (G.2 374))] := hl
  refine lv_aload_n hx hb dJ5_append_0 rfl (lv_at hl 0 rfl) ?_
  refine lv_aload_n hx hb dJ5_append_1 rfl (lv_at hl 1 rfl) ?_
  have hF := hF_of (wc := [(sb, .inr (5, [.ref va, .int (nI 0), .int ml, .int (nI ct)])), (va, .inl (G.2 4, 16, .inl g))]) hD hS hA [0, 1] rfl
  refine go_ct hS hP hD [0, 1] [] hF rfl rfl (by decide) (by decide)
      (va_runSU (hK.1 5 _ rfl).2 (As := [.ref (G.2 374)]) (rest := []) cf (mJ4_append0 l G sb va ml ct g (show ct + 0 ≤ 16 from by first | assumption | omega) H.size) (va_cwSU 1 hts (lw_SU q803 q1969 q236 q804 q54 q805) rfl rfl rfl (by decide +kernel) ⟨Nat.le_of_ble_eq_true rfl, Nat.le_of_ble_eq_true rfl⟩) (preV_of hKB hE hS hF (va_recv hK hP (ci := 5) (q0 := 0) rfl rfl) (va_P.sub hP [0, 1] rfl) ((va_D.sub hD [0, 1] (by decide) rfl).weaken (fun _ _ _ _ => trivial)) trivial) rfl rfl hl.1 rfl (lv_room (Nat.le_of_ble_eq_true rfl)) dJ5_append_2 ⟨show 0 + 0 ≤ 0 from by first | decide | omega, show 0 + 0 ≤ 0 from by first | decide | omega⟩)
      (fun u_ H locs hq hph (hP : va_P G.1 CL [(sb, .inr (5, [.ref va, .int (nI 0), .int ml, .int (nI ct)])), (va, .inl (G.2 4, 16, .inl u_))] H) (hD : va_D A [(sb, .inr (5, [.ref va, .int (nI 0), .int ml, .int (nI ct)])), (va, .inl (G.2 4, 16, .inl u_))]) hS hfz hfk => ?_)
  obtain ⟨g2_2121, rfl⟩ : ∃ z, z = u_ := ⟨_, rfl⟩
  have hP : va_P G.1 CL [(sb, .inr (5, [.ref va, .int (nI 0), .int ml, .int (nI ct)])), (va, .inl (G.2 4, 16, .inl g2_2121))] H := hP
  have hD : va_D A [(sb, .inr (5, [.ref va, .int (nI 0), .int ml, .int (nI ct)])), (va, .inl (G.2 4, 16, .inl g2_2121))] := hD
  have hq_2122 : (∀ j, j < ct → g2_2121 j = g j) := hq
  refine W.eq (g2 := F0 m 5 ls [.ref sb]) rfl ?_
  refine lv_pop hx hb dJ5_append_5 rfl ?_
  refine lv_aload_n hx hb dJ5_append_6 rfl (lv_at hl 0 rfl) ?_
  have hP9 : va_P G.1 CL [(sb, .inr (5, [.ref va, .int (nI 0), .int ml, .int (nI ct)])), (va, .inl (G.2 4, 16, .inl g2_2121))] H := hP.sub [0, 1] rfl
  have hD9 : va_D A [(sb, .inr (5, [.ref va, .int (nI 0), .int ml, .int (nI ct)])), (va, .inl (G.2 4, 16, .inl g2_2121))] := hD.sub [0, 1] (by decide) rfl
  exact end_a hx hb hr hlk (by first | exact Or.inl ⟨_, rfl⟩ | exact Or.inr ⟨_, rfl⟩) (Or.inr ⟨_, rfl⟩) (qc_of g2_2121 (v := some (.ref sb)) (by rfl) (hq_2122) hP9 hD9 (trivial) hS) hS dJ5_append_7 (show 0 ≤ 0 from by first | exact Nat.le_refl _ | decide | omega) (show 0 ≤ 0 from by first | exact Nat.le_refl _ | decide | omega)

set_option maxHeartbeats 4000000 in
theorem mJ6_coder1 (l : Launch) (G : Gt) : CT l G yJ6_coder cJ6_coder 1 (some .byte) ({ frames := 1, cells := 0, slots := 0, locals := 12 } : Room) [.ref (G.2 376)] [] RH0 (S := Unit) (fun (u_ : Unit) => some (.int (nI 0))) (fun (u_ : Unit) => True) (fun (u_ : Unit) => []) (fun (u_ : Unit) (H : Heap) => True) := by
  refine CT.of (by decide) (Nat.le_of_ble_eq_true rfl) ?_
  intro p e s m below meth c ls A H locs h9 hH0 hP hS
  obtain ⟨cf, hr, hlk, hnm, hKB, hE, -, hD, -, hA, hAw, hRH, hl⟩ := h9
  have hx := cf.1
  have hb := cf.2.1
  have hml := cf.2.2.1
  have hown : s.vm.findClass RJ6 = some m.cls := cf.2.2.2.1
  have hts := cf.2.2.2.2
  have hK := hKB.1
  have hl : lv_has ls 1 [(0, .ref (G.2 376))] := hl
  refine va_gets (v := .int (nI 1)) hx hb hE.2.2.2.2.1 hS hown (hts _ q869) (fun _ h => h) dJ6_coder_0 ?_
  refine n_if_eq (tgt := 13) hx hb (by omega) dJ6_coder_3 (by decide) (fun c_2123 => absurd c_2123 (by omega)) (fun c_2123 => ?_)
  refine lv_aload_n hx hb dJ6_coder_6 rfl (lv_at hl 0 rfl) ?_
  refine vk_getf (v := .int (nI 0)) hx hb (hE.2.2.1.1.1 1 (by decide)).2.1 hS hown (hts _ q988) (fun _ h => h) dJ6_coder_7 ?_
  refine lv_goto (tgt := 14) hx hb dJ6_coder_10 (by decide) ?_
  have hP9 : va_P G.1 CL [] H := hP.sub [] rfl
  have hD9 : va_D A [] := hD.sub [] (by decide) rfl
  exact end_i hx hb hr hlk (by decide) (qc_of () (v := some (.int (nI 0))) (by rfl) (trivial) hP9 hD9 (trivial) hS) hS dJ6_coder_14 (show 0 ≤ 0 from by first | exact Nat.le_refl _ | decide | omega) (show 0 ≤ 0 from by first | exact Nat.le_refl _ | decide | omega)

set_option maxHeartbeats 4000000 in
theorem mJ6_length1 (l : Launch) (G : Gt) : CT l G yJ6_length cJ6_length 1 (some .int) ({ frames := 2, cells := 0, slots := 0, locals := 32 } : Room) [.ref (G.2 376)] [] RH0 (S := Unit) (fun (u_ : Unit) => some (.int (nI 1))) (fun (u_ : Unit) => True) (fun (u_ : Unit) => []) (fun (u_ : Unit) (H : Heap) => True) := by
  refine CT.of (by decide) (Nat.le_of_ble_eq_true rfl) ?_
  intro p e s m below meth c ls A H locs h9 hH0 hP hS
  obtain ⟨cf, hr, hlk, hnm, hKB, hE, -, hD, -, hA, hAw, hRH, hl⟩ := h9
  have hx := cf.1
  have hb := cf.2.1
  have hml := cf.2.2.1
  have hown : s.vm.findClass RJ6 = some m.cls := cf.2.2.2.1
  have hts := cf.2.2.2.2
  have hK := hKB.1
  have hl : lv_has ls 1 [(0, .ref (G.2 376))] := hl
  refine lv_aload_n hx hb dJ6_length_0 rfl (lv_at hl 0 rfl) ?_
  refine vk_getf (v := .ref (G.2 576)) hx hb (hE.2.2.1.1.1 1 (by decide)).2.2.1 hS hown (hts _ q987) (fun _ h => h) dJ6_length_1 ?_
  refine va_tlen (v := nI 1) hx hb (hE.2.2.1.1.1 1 (by decide)).2.2.2 hS rfl dJ6_length_4 ?_
  refine lv_aload_n hx hb dJ6_length_5 rfl (lv_at hl 0 rfl) ?_
  have hF := hF_of (wc := []) hD hS hA [] rfl
  refine go_ct hS hP hD [] [] hF rfl rfl (by decide) (by decide)
      (va_runV (As := []) (rest := [.int (nI 1)]) cf (mJ6_coder1 l G   H.size) (cwV 0 hts (lw_V q865 q866 q867 q56 q868) rfl rfl rfl (by decide +kernel) ⟨Nat.le_of_ble_eq_true rfl, Nat.le_of_ble_eq_true rfl⟩) (preV_of hKB hE hS hF (vk_recv hE.2.2.1.1 (i := 1) (by decide) hS) (va_P.sub hP [] rfl) ((va_D.sub hD [] (by decide) rfl).weaken (fun _ _ _ _ => trivial)) trivial) rfl rfl hl.1 rfl (lv_room (Nat.le_of_ble_eq_true rfl)) dJ6_length_6 ⟨show 0 + 0 ≤ 0 from by first | decide | omega, show 0 + 0 ≤ 0 from by first | decide | omega⟩)
      (fun u_ H locs hq hph (hP : va_P G.1 CL [] H) (hD : va_D A []) hS hfz hfk => ?_)
  refine W.eq (g2 := F0 m 9 ls [.int (nI 0), .int (nI 1)]) rfl ?_
  refine lv_ishr hx hb dJ6_length_9 ?_
  refine lv_ton (n := 1) (sb_shr0 _) ?_
  have hP9 : va_P G.1 CL [] H := hP.sub [] rfl
  have hD9 : va_D A [] := hD.sub [] (by decide) rfl
  exact end_i hx hb hr hlk (rfl) (qc_of () (v := some (.int (nI 1))) (by rfl) (trivial) hP9 hD9 (trivial) hS) hS dJ6_length_10 (show 0 ≤ 0 from by first | exact Nat.le_refl _ | decide | omega) (show 0 ≤ 0 from by first | exact Nat.le_refl _ | decide | omega)

set_option maxHeartbeats 4000000 in
theorem mJ4_inflateIfNeededFor1 (l : Launch) (G : Gt) (sb : Nat) (va : Nat) (ml : Int32) (ct : Nat) : CT l G yJ4_inflateIfNeededFor cJ4_inflateIfNeededFor 2 none ({ frames := 2, cells := 0, slots := 0, locals := 32 } : Room) [.ref sb, .ref (G.2 376)] [] (fun (A : Nat → Prop) (H : Heap) => roW G A H [(sb, .inr (5, [.ref va, .int (nI 0), .int ml, .int (nI ct)]))]) (S := Unit) (fun (u_ : Unit) => (none : Option Value)) (fun (u_ : Unit) => True) (fun (u_ : Unit) => []) (fun (u_ : Unit) (H : Heap) => True) := by
  refine CT.of (by decide) (Nat.le_of_ble_eq_true rfl) ?_
  intro p e s m below meth c ls A H locs h9 hH0 hP hS
  obtain ⟨cf, hr, hlk, hnm, hKB, hE, -, hD, -, hA, hAw, hR0, hl⟩ := h9
  have hx := cf.1
  have hb := cf.2.1
  have hml := cf.2.2.1
  have hown : s.vm.findClass RJ4 = some m.cls := cf.2.2.2.1
  have hts := cf.2.2.2.2
  have hK := hKB.1
  have hl : lv_has ls 2 [(0, .ref sb), (1, .ref (G.2 376))] := hl
  refine va_gets (v := .int (nI 1)) hx hb hE.2.2.2.2.1 hS hown (hts _ q214) (fun _ h => h) dJ4_inflateIfNeededFor_0 ?_
  refine n_if_eq (tgt := 21) hx hb (by omega) dJ4_inflateIfNeededFor_3 (by decide) (fun c_2124 => absurd c_2124 (by omega)) (fun c_2124 => ?_)
  refine lv_aload_n hx hb dJ4_inflateIfNeededFor_6 rfl (lv_at hl 0 rfl) ?_
  refine va_get hx hb hts in_J5 hown hK (hR0.w hS) 0 rfl rfl 1 (by decide) (hts _ q224) (fun _ h => h) rfl dJ4_inflateIfNeededFor_7 ?_
  refine lv_aload_n hx hb dJ4_inflateIfNeededFor_10 rfl (lv_at hl 1 rfl) ?_
  have hF := hF_of (wc := []) hD hS hA [] rfl
  refine go_ct hS hP hD [] [] hF rfl rfl (by decide) (by decide)
      (va_runV (As := []) (rest := [.int (nI 0)]) cf (mJ6_coder1 l G   H.size) (cwV 0 hts (lw_V q878 q866 q867 q56 q868) rfl rfl rfl (by decide +kernel) ⟨Nat.le_of_ble_eq_true rfl, Nat.le_of_ble_eq_true rfl⟩) (preV_of hKB hE hS hF (vk_recv hE.2.2.1.1 (i := 1) (by decide) hS) (va_P.sub hP [] rfl) ((va_D.sub hD [] (by decide) rfl).weaken (fun _ _ _ _ => trivial)) trivial) rfl rfl hl.1 rfl (lv_room (Nat.le_of_ble_eq_true rfl)) dJ4_inflateIfNeededFor_11 ⟨show 0 + 0 ≤ 0 from by first | decide | omega, show 0 + 0 ≤ 0 from by first | decide | omega⟩)
      (fun u_ H locs hq hph (hP : va_P G.1 CL [] H) (hD : va_D A []) hS hfz hfk => ?_)
  refine W.eq (g2 := F0 m 14 ls [.int (nI 0), .int (nI 0)]) rfl ?_
  refine n_icmp_eq (tgt := 21) hx hb (by omega) (by omega) dJ4_inflateIfNeededFor_14 (by decide) (fun c_2127 => ?_) (fun c_2127 => absurd c_2127 (by omega))
  have hP9 : va_P G.1 CL [] H := hP.sub [] rfl
  have hD9 : va_D A [] := hD.sub [] (by decide) rfl
  exact end_v hx hb hr hlk (qc_of () (v := none) (by rfl) (trivial) hP9 hD9 (trivial) hS) hS dJ4_inflateIfNeededFor_21 (show 0 ≤ 0 from by first | exact Nat.le_refl _ | decide | omega) (show 0 ≤ 0 from by first | exact Nat.le_refl _ | decide | omega)

set_option maxHeartbeats 4000000 in
theorem mJ6_getBytes1 (l : Launch) (G : Gt) (va : Nat) (g : Nat → Int32) (ct : Nat) (hct : ct + 1 ≤ 16) : CT l G yJ6_getBytes cJ6_getBytes 4 none ({ frames := 2, cells := 0, slots := 0, locals := 34 } : Room) [.ref (G.2 376), .ref va, .int (nI ct), .int (nI 0)] [(va, .inl (G.2 4, 16, .inl g))] RH0 (S := (Nat → Int32)) (fun (u_ : (Nat → Int32)) => (none : Option Value)) (fun (u_ : (Nat → Int32)) => (∀ j, j < ct → u_ j = g j) ∧ u_ ct = 32) (fun (u_ : (Nat → Int32)) => [(va, .inl (G.2 4, 16, .inl u_))]) (fun (u_ : (Nat → Int32)) (H : Heap) => True) := by
  refine CT.of (by decide) (Nat.le_of_ble_eq_true rfl) ?_
  intro p e s m below meth c ls A H locs h9 hH0 hP hS
  obtain ⟨cf, hr, hlk, hnm, hKB, hE, -, hD, -, hA, hAw, hRH, hl⟩ := h9
  have hx := cf.1
  have hb := cf.2.1
  have hml := cf.2.2.1
  have hown : s.vm.findClass RJ6 = some m.cls := cf.2.2.2.1
  have hts := cf.2.2.2.2
  have hK := hKB.1
  have hl : lv_has ls 4 [(0, .ref (G.2 376)), (1, .ref va), (2, .int (nI ct)), (3, .int (nI 0))] := hl
  refine lv_aload_n hx hb dJ6_getBytes_0 rfl (lv_at hl 0 rfl) ?_
  have hF := hF_of (wc := []) hD hS hA [] rfl
  refine go_ct hS hP hD [] [0] hF rfl rfl (by decide) (by decide)
      (va_runV (As := []) (rest := []) cf (mJ6_coder1 l G   H.size) (cwV 0 hts (lw_V q865 q866 q867 q56 q868) rfl rfl rfl (by decide +kernel) ⟨Nat.le_of_ble_eq_true rfl, Nat.le_of_ble_eq_true rfl⟩) (preV_of hKB hE hS hF (vk_recv hE.2.2.1.1 (i := 1) (by decide) hS) (va_P.sub hP [] rfl) ((va_D.sub hD [] (by decide) rfl).weaken (fun _ _ _ _ => trivial)) trivial) rfl rfl hl.1 rfl (lv_room (Nat.le_of_ble_eq_true rfl)) dJ6_getBytes_1 ⟨show 0 + 0 ≤ 0 from by first | decide | omega, show 0 + 0 ≤ 0 from by first | decide | omega⟩)
      (fun u_ H locs hq hph (hP : va_P G.1 CL [(va, .inl (G.2 4, 16, .inl g))] H) (hD : va_D A [(va, .inl (G.2 4, 16, .inl g))]) hS hfz hfk => ?_)
  refine W.eq (g2 := F0 m 4 ls [.int (nI 0)]) rfl ?_
  refine lv_iload_n hx hb dJ6_getBytes_4 rfl (lv_at hl 3 rfl) ?_
  refine n_icmp_ne (tgt := 28) hx hb (by omega) (by omega) dJ6_getBytes_5 (by decide) (fun c_2130 => absurd c_2130 (by omega)) (fun c_2130 => ?_)
  refine lv_aload_n hx hb dJ6_getBytes_8 rfl (lv_at hl 0 rfl) ?_
  refine vk_getf (v := .ref (G.2 576)) hx hb (hE.2.2.1.1.1 1 (by decide)).2.2.1 hS hown (hts _ q987) (fun _ h => h) dJ6_getBytes_9 ?_
  refine lv_iconst (v := nI 0) hx hb dJ6_getBytes_12 (by decide) ?_
  refine lv_aload_n hx hb dJ6_getBytes_13 rfl (lv_at hl 1 rfl) ?_
  refine lv_iload_n hx hb dJ6_getBytes_14 rfl (lv_at hl 2 rfl) ?_
  refine lv_iload_n hx hb dJ6_getBytes_15 rfl (lv_at hl 3 rfl) ?_
  refine lv_ishl hx hb dJ6_getBytes_16 ?_
  refine lv_ton (n := ct) (sb_shl0 _) ?_
  refine lv_aload_n hx hb dJ6_getBytes_17 rfl (lv_at hl 0 rfl) ?_
  refine vk_getf (v := .ref (G.2 576)) hx hb (hE.2.2.1.1.1 1 (by decide)).2.2.1 hS hown (hts _ q987) (fun _ h => h) dJ6_getBytes_18 ?_
  refine va_tlen (v := nI 1) hx hb (hE.2.2.1.1.1 1 (by decide)).2.2.2 hS rfl dJ6_getBytes_21 ?_
  refine vk_copyt hx hb (by rw [hml]; exact hl.1.symm) hown (hts _ q902) (hts _ q547) (hts _ q546) (hts _ q69) hKB.1 hP hD hS (f := (fun j => (([[], [32]] : List (List Int32)).getD 1 []).getD j 0)) (hE.2.2.1.1.1 1 (by decide)).2.2.2 0 4 rfl rfl (nlt0 (by omega)) (nlt0 (by omega)) (nlt0 (by omega)) (by first | decide | (rw [nI_clamp (by omega), nI_clamp (by omega)] <;> decide)) (by first | (rw [nI_clamp (by omega), nI_clamp (by omega)] <;> omega) | (rw [nI_clamp (by omega)] <;> omega)) (fun i9 hi9 => by first | exact absurd hi9 (Nat.not_lt_zero _) | (rw [nI_clamp (by omega)] at hi9 ⊢; first | exact absurd hi9 (Nat.not_lt_zero _) | (rw [show i9 = 0 by omega]; decide))) (Nat.le_of_ble_eq_true rfl) (Nat.le_of_ble_eq_true rfl) dJ6_getBytes_22 (fun H locs (hP : va_P G.1 CL [(va, .inl (G.2 4, 16, .inl (va_cpy (fun j => (([[], [32]] : List (List Int32)).getD 1 []).getD j 0) g (nI 0).toNatClampNeg (nI ct).toNatClampNeg (nI 1).toNatClampNeg)))] H) (hD : va_D A [(va, .inl (G.2 4, 16, .inl (va_cpy (fun j => (([[], [32]] : List (List Int32)).getD 1 []).getD j 0) g (nI 0).toNatClampNeg (nI ct).toNatClampNeg (nI 1).toNatClampNeg)))]) hS => ?_)
  refine lv_goto (tgt := 43) hx hb dJ6_getBytes_25 (by decide) ?_
  have hP9 : va_P G.1 CL [(va, .inl (G.2 4, 16, .inl (va_cpy (fun j => (([[], [32]] : List (List Int32)).getD 1 []).getD j 0) g (nI 0).toNatClampNeg (nI ct).toNatClampNeg (nI 1).toNatClampNeg)))] H := hP.sub [0] rfl
  have hD9 : va_D A [(va, .inl (G.2 4, 16, .inl (va_cpy (fun j => (([[], [32]] : List (List Int32)).getD 1 []).getD j 0) g (nI 0).toNatClampNeg (nI ct).toNatClampNeg (nI 1).toNatClampNeg)))] := hD.sub [0] (by decide) rfl
  exact end_v hx hb hr hlk (qc_of (va_cpy (fun j => (([[], [32]] : List (List Int32)).getD 1 []).getD j 0) g (nI 0).toNatClampNeg (nI ct).toNatClampNeg (nI 1).toNatClampNeg) (v := none) (by rfl) (⟨(fun j (hj : j < ct) => (cpy_ne (Or.inl (by rw [nI_clamp (by omega)]; omega)))), (cpy_at (by rw [nI_clamp (by omega)] <;> omega) (by rw [nI_clamp (by omega), nI_clamp (by omega)]; omega)).trans (by rw [nI_clamp (by omega), nI_clamp (by omega), show 0 + (ct - ct) = 0 by omega]; rfl)⟩) hP9 hD9 (trivial) hS) hS dJ6_getBytes_43 (show 0 ≤ 0 from by first | exact Nat.le_refl _ | decide | omega) (show 0 ≤ 0 from by first | exact Nat.le_refl _ | decide | omega)

set_option maxHeartbeats 4000000 in
theorem mJ4_putStringAt1 (l : Launch) (G : Gt) (sb : Nat) (va : Nat) (ml : Int32) (ct : Nat) (g : Nat → Int32) (hct : ct + 1 ≤ 16) : CT l G yJ4_putStringAt cJ4_putStringAt 3 none ({ frames := 3, cells := 0, slots := 0, locals := 57 } : Room) [.ref sb, .int (nI ct), .ref (G.2 376)] [(va, .inl (G.2 4, 16, .inl g))] (fun (A : Nat → Prop) (H : Heap) => roW G A H [(sb, .inr (5, [.ref va, .int (nI 0), .int ml, .int (nI ct)]))]) (S := (Nat → Int32)) (fun (u_ : (Nat → Int32)) => (none : Option Value)) (fun (u_ : (Nat → Int32)) => (∀ j, j < ct → u_ j = g j) ∧ u_ ct = 32) (fun (u_ : (Nat → Int32)) => [(va, .inl (G.2 4, 16, .inl u_))]) (fun (u_ : (Nat → Int32)) (H : Heap) => True) := by
  refine CT.of (by decide) (Nat.le_of_ble_eq_true rfl) ?_
  intro p e s m below meth c ls A H locs h9 hH0 hP hS
  obtain ⟨cf, hr, hlk, hnm, hKB, hE, -, hD, -, hA, hAw, hR0, hl⟩ := h9
  have hx := cf.1
  have hb := cf.2.1
  have hml := cf.2.2.1
  have hown : s.vm.findClass RJ4 = some m.cls := cf.2.2.2.1
  have hts := cf.2.2.2.2
  have hK := hKB.1
  have hl : lv_has ls 3 [(0, .ref sb), (1, .int (nI ct)), (2, .ref (G.2 376))] := hl
  refine lv_aload_n hx hb dJ4_putStringAt_0 rfl (lv_at hl 0 rfl) ?_
  refine lv_aload_n hx hb dJ4_putStringAt_1 rfl (lv_at hl 2 rfl) ?_
  have hF := hF_of (wc := []) hD hS hA [] rfl
  have hro_2131 : va_P G.1 CL [(sb, .inr (5, [.ref va, .int (nI 0), .int ml, .int (nI ct)]))] H := ((hR0.w hS).sub [0] rfl)
  refine go_ct hS hP hD [] [0] hF rfl rfl (by decide) (by decide)
      (va_runV (As := [.ref (G.2 376)]) (rest := []) cf (mJ4_inflateIfNeededFor1 l G sb va ml ct  H.size) ⟨callB_of 1 hts (lw_meth q877) rfl rfl rfl (hts _ q54) (hts _ q874) (by decide +kernel) ⟨Nat.le_of_ble_eq_true rfl, Nat.le_of_ble_eq_true rfl⟩, hts _ q876, hKB.sel (List.mem_of_getElem? (i := 2) rfl)⟩ (preV_of hKB hE hS hF (va_recv hK (hR0.w hS) (ci := 5) (q0 := 0) rfl rfl) (va_P.sub hP [] rfl) ((va_D.sub hD [] (by decide) rfl).weaken (fun _ _ _ _ => trivial)) (roW.nil hro_2131)) rfl rfl hl.1 rfl (lv_room (Nat.le_of_ble_eq_true rfl)) dJ4_putStringAt_2 ⟨show 0 + 0 ≤ 0 from by first | decide | omega, show 0 + 0 ≤ 0 from by first | decide | omega⟩)
      (fun u_ H locs hq hph (hP : va_P G.1 CL [(va, .inl (G.2 4, 16, .inl g))] H) (hD : va_D A [(va, .inl (G.2 4, 16, .inl g))]) hS hfz hfk => ?_)
  refine W.eq (g2 := F0 m 5 ls []) rfl ?_
  refine lv_aload_n hx hb dJ4_putStringAt_5 rfl (lv_at hl 2 rfl) ?_
  refine lv_aload_n hx hb dJ4_putStringAt_6 rfl (lv_at hl 0 rfl) ?_
  refine va_get hx hb hts in_J5 hown hK (hR0.w hS) 0 rfl rfl 0 (by decide) (hts _ q223) (fun _ h => h) rfl dJ4_putStringAt_7 ?_
  refine lv_iload_n hx hb dJ4_putStringAt_10 rfl (lv_at hl 1 rfl) ?_
  refine lv_aload_n hx hb dJ4_putStringAt_11 rfl (lv_at hl 0 rfl) ?_
  refine va_get hx hb hts in_J5 hown hK (hR0.w hS) 0 rfl rfl 1 (by decide) (hts _ q224) (fun _ h => h) rfl dJ4_putStringAt_12 ?_
  have hF := hF_of (wc := [(va, .inl (G.2 4, 16, .inl g))]) hD hS hA [0] rfl
  refine go_ct hS hP hD [0] [] hF rfl rfl (by decide) (by decide)
      (va_runV (As := [.ref va, .int (nI ct), .int (nI 0)]) (rest := []) cf (mJ6_getBytes1 l G va g ct (show ct + 1 ≤ 16 from by first | assumption | omega) H.size) (cwV 3 hts (lw_V q898 q899 q900 q56 q901) rfl rfl rfl (by decide +kernel) ⟨Nat.le_of_ble_eq_true rfl, Nat.le_of_ble_eq_true rfl⟩) (preV_of hKB hE hS hF (vk_recv hE.2.2.1.1 (i := 1) (by decide) hS) (va_P.sub hP [0] rfl) ((va_D.sub hD [0] (by decide) rfl).weaken (fun _ _ _ _ => trivial)) trivial) rfl rfl hl.1 rfl (lv_room (Nat.le_of_ble_eq_true rfl)) dJ4_putStringAt_15 ⟨show 0 + 0 ≤ 0 from by first | decide | omega, show 0 + 0 ≤ 0 from by first | decide | omega⟩)
      (fun u_ H locs hq hph (hP : va_P G.1 CL [(va, .inl (G.2 4, 16, .inl u_))] H) (hD : va_D A [(va, .inl (G.2 4, 16, .inl u_))]) hS hfz hfk => ?_)
  obtain ⟨g2_2132, rfl⟩ : ∃ z, z = u_ := ⟨_, rfl⟩
  have hP : va_P G.1 CL [(va, .inl (G.2 4, 16, .inl g2_2132))] H := hP
  have hD : va_D A [(va, .inl (G.2 4, 16, .inl g2_2132))] := hD
  obtain ⟨hq_2133, hq_2134⟩ : (∀ j, j < ct → g2_2132 j = g j) ∧ g2_2132 ct = 32 := hq
  refine W.eq (g2 := F0 m 18 ls []) rfl ?_
  have hP9 : va_P G.1 CL [(va, .inl (G.2 4, 16, .inl g2_2132))] H := hP.sub [0] rfl
  have hD9 : va_D A [(va, .inl (G.2 4, 16, .inl g2_2132))] := hD.sub [0] (by decide) rfl
  exact end_v hx hb hr hlk (qc_of g2_2132 (v := none) (by rfl) (⟨hq_2133, hq_2134⟩) hP9 hD9 (trivial) hS) hS dJ4_putStringAt_18 (show 0 ≤ 0 from by first | exact Nat.le_refl _ | decide | omega) (show 0 ≤ 0 from by first | exact Nat.le_refl _ | decide | omega)

set_option maxHeartbeats 4000000 in
theorem mJ4_append1 (l : Launch) (G : Gt) (sb : Nat) (va : Nat) (ml : Int32) (ct : Nat) (g : Nat → Int32) (hct : ct + 1 ≤ 16) : CT l G yJ4_append cJ4_append 3 (some (.object "java/lang/AbstractStringBuilder")) ({ frames := 4, cells := 0, slots := 0, locals := 79 } : Room) [.ref sb, .ref (G.2 376)] [(sb, .inr (5, [.ref va, .int (nI 0), .int ml, .int (nI ct)])), (va, .inl (G.2 4, 16, .inl g))] RH0 (S := (Nat → Int32)) (fun (u_ : (Nat → Int32)) => some (.ref sb)) (fun (u_ : (Nat → Int32)) => (∀ j, j < ct → u_ j = g j) ∧ u_ ct = 32) (fun (u_ : (Nat → Int32)) => [(sb, .inr (5, [.ref va, .int (nI 0), .int ml, .int (nI (ct + 1))])), (va, .inl (G.2 4, 16, .inl u_))]) (fun (u_ : (Nat → Int32)) (H : Heap) => True) := by
  refine CT.of (by decide) (Nat.le_of_ble_eq_true rfl) ?_
  intro p e s m below meth c ls A H locs h9 hH0 hP hS
  obtain ⟨cf, hr, hlk, hnm, hKB, hE, -, hD, -, hA, hAw, hRH, hl⟩ := h9
  have hx := cf.1
  have hb := cf.2.1
  have hml := cf.2.2.1
  have hown : s.vm.findClass RJ4 = some m.cls := cf.2.2.2.1
  have hts := cf.2.2.2.2
  have hK := hKB.1
  have hl : lv_has ls 3 [(0, .ref sb), (1, .ref (G.2 376))] := hl
  refine lv_aload_n hx hb dJ4_append_0 rfl (lv_at hl 1 rfl) ?_
  refine lv_ifnonnull (tgt := 9) hx hb dJ4_append_1 (by decide) ?_
  refine lv_aload_n hx hb dJ4_append_9 rfl (lv_at hl 1 rfl) ?_
  have hF := hF_of (wc := []) hD hS hA [] rfl
  refine go_ct hS hP hD [] [0, 1] hF rfl rfl (by decide) (by decide)
      (va_runV (As := []) (rest := []) cf (mJ6_length1 l G   H.size) (cwV 0 hts (lw_V q861 q862 q863 q56 q864) rfl rfl rfl (by decide +kernel) ⟨Nat.le_of_ble_eq_true rfl, Nat.le_of_ble_eq_true rfl⟩) (preV_of hKB hE hS hF (vk_recv hE.2.2.1.1 (i := 1) (by decide) hS) (va_P.sub hP [] rfl) ((va_D.sub hD [] (by decide) rfl).weaken (fun _ _ _ _ => trivial)) trivial) rfl rfl hl.1 rfl (lv_room (Nat.le_of_ble_eq_true rfl)) dJ4_append_10 ⟨show 0 + 0 ≤ 0 from by first | decide | omega, show 0 + 0 ≤ 0 from by first | decide | omega⟩)
      (fun u_ H locs hq hph (hP : va_P G.1 CL [(sb, .inr (5, [.ref va, .int (nI 0), .int ml, .int (nI ct)])), (va, .inl (G.2 4, 16, .inl g))] H) (hD : va_D A [(sb, .inr (5, [.ref va, .int (nI 0), .int ml, .int (nI ct)])), (va, .inl (G.2 4, 16, .inl g))]) hS hfz hfk => ?_)
  refine W.eq (g2 := F0 m 13 ls [.int (nI 1)]) rfl ?_
  refine lv_istore_n (lv' := [(2, .int (nI 1)), (0, .ref sb), (1, .ref (G.2 376))]) hx hb dJ4_append_13 rfl hl (by decide) rfl (fun ls hl => ?_)
  refine lv_aload_n hx hb dJ4_append_14 rfl (lv_at hl 1 rfl) ?_
  refine lv_aload_n hx hb dJ4_append_15 rfl (lv_at hl 1 rfl) ?_
  refine va_get hx hb hts in_J5 hown hK hP 0 rfl rfl 3 (by decide) (hts _ q227) (fun _ h => h) rfl dJ4_append_16 ?_
  refine lv_iload_n hx hb dJ4_append_19 rfl (lv_at hl 0 rfl) ?_
  refine lv_iadd hx hb dJ4_append_20 ?_
  refine lv_ton (n := ct + 1) (nadd (by omega)) ?_
  have hF := hF_of (wc := []) hD hS hA [] rfl
  have hro_2135 : va_P G.1 CL [(sb, .inr (5, [.ref va, .int (nI 0), .int ml, .int (nI ct)])), (va, .inl (G.2 4, 16, .inl g))] H := (va_P.sub hP [0, 1] rfl)
  refine go_ct hS hP hD [] [0, 1] hF rfl rfl (by decide) (by decide)
      (va_runV (As := [.int (nI (ct + 1))]) (rest := []) cf (mJ4_ensureCapacityInternal l G sb va ml ct g (ct + 1) (show (ct + 1) ≤ 16 from by first | assumption | omega) H.size) ⟨callB_of 1 hts (lw_meth q813) rfl rfl rfl (hts _ q54) (hts _ q810) (by decide +kernel) ⟨Nat.le_of_ble_eq_true rfl, Nat.le_of_ble_eq_true rfl⟩, hts _ q812, hKB.sel (List.mem_of_getElem? (i := 0) rfl)⟩ (preV_of hKB hE hS hF (va_recv hK hP (ci := 5) (q0 := 0) rfl rfl) (va_P.sub hP [] rfl) ((va_D.sub hD [] (by decide) rfl).weaken (fun _ _ _ _ => trivial)) (roW.nil hro_2135)) rfl rfl hl.1 rfl (lv_room (Nat.le_of_ble_eq_true rfl)) dJ4_append_21 ⟨show 0 + 0 ≤ 0 from by first | decide | omega, show 0 + 0 ≤ 0 from by first | decide | omega⟩)
      (fun u_ H locs hq hph (hP : va_P G.1 CL [(sb, .inr (5, [.ref va, .int (nI 0), .int ml, .int (nI ct)])), (va, .inl (G.2 4, 16, .inl g))] H) (hD : va_D A [(sb, .inr (5, [.ref va, .int (nI 0), .int ml, .int (nI ct)])), (va, .inl (G.2 4, 16, .inl g))]) hS hfz hfk => ?_)
  refine W.eq (g2 := F0 m 24 ls []) rfl ?_
  refine lv_aload_n hx hb dJ4_append_24 rfl (lv_at hl 1 rfl) ?_
  refine lv_aload_n hx hb dJ4_append_25 rfl (lv_at hl 1 rfl) ?_
  refine va_get hx hb hts in_J5 hown hK hP 0 rfl rfl 3 (by decide) (hts _ q227) (fun _ h => h) rfl dJ4_append_26 ?_
  refine lv_aload_n hx hb dJ4_append_29 rfl (lv_at hl 2 rfl) ?_
  have hF := hF_of (wc := [(va, .inl (G.2 4, 16, .inl g))]) hD hS hA [1] rfl
  refine go_ct hS hP hD [1] [0] hF rfl rfl (by decide) (by decide)
      (va_runV (As := [.int (nI ct), .ref (G.2 376)]) (rest := []) cf (mJ4_putStringAt1 l G sb va ml ct g (show ct + 1 ≤ 16 from by first | assumption | omega) H.size) ⟨callB_of 2 hts (lw_meth q873) rfl rfl rfl (hts _ q54) (hts _ q870) (by decide +kernel) ⟨Nat.le_of_ble_eq_true rfl, Nat.le_of_ble_eq_true rfl⟩, hts _ q872, hKB.sel (List.mem_of_getElem? (i := 1) rfl)⟩ (preV_of hKB hE hS hF (va_recv hK hP (ci := 5) (q0 := 0) rfl rfl) (va_P.sub hP [1] rfl) ((va_D.sub hD [1] (by decide) rfl).weaken (fun _ _ _ _ => trivial)) (roW.of (w' := [(sb, .inr (5, [.ref va, .int (nI 0), .int ml, .int (nI ct)]))]) hP hD [1] [0] rfl rfl (by decide))) rfl rfl hl.1 rfl (lv_room (Nat.le_of_ble_eq_true rfl)) dJ4_append_30 ⟨show 0 + 0 ≤ 0 from by first | decide | omega, show 0 + 0 ≤ 0 from by first | decide | omega⟩)
      (fun u_ H locs hq hph (hP : va_P G.1 CL [(sb, .inr (5, [.ref va, .int (nI 0), .int ml, .int (nI ct)])), (va, .inl (G.2 4, 16, .inl u_))] H) (hD : va_D A [(sb, .inr (5, [.ref va, .int (nI 0), .int ml, .int (nI ct)])), (va, .inl (G.2 4, 16, .inl u_))]) hS hfz hfk => ?_)
  obtain ⟨g2_2136, rfl⟩ : ∃ z, z = u_ := ⟨_, rfl⟩
  have hP : va_P G.1 CL [(sb, .inr (5, [.ref va, .int (nI 0), .int ml, .int (nI ct)])), (va, .inl (G.2 4, 16, .inl g2_2136))] H := hP
  have hD : va_D A [(sb, .inr (5, [.ref va, .int (nI 0), .int ml, .int (nI ct)])), (va, .inl (G.2 4, 16, .inl g2_2136))] := hD
  obtain ⟨hq_2137, hq_2138⟩ : (∀ j, j < ct → g2_2136 j = g j) ∧ g2_2136 ct = 32 := hq
  refine W.eq (g2 := F0 m 33 ls []) rfl ?_
  refine lv_aload_n hx hb dJ4_append_33 rfl (lv_at hl 1 rfl) ?_
  refine lv_dup hx hb dJ4_append_34 rfl ?_
  refine va_get hx hb hts in_J5 hown hK hP 0 rfl rfl 3 (by decide) (hts _ q227) (fun _ h => h) rfl dJ4_append_35 ?_
  refine lv_iload_n hx hb dJ4_append_38 rfl (lv_at hl 0 rfl) ?_
  refine lv_iadd hx hb dJ4_append_39 ?_
  refine lv_ton (n := ct + 1) (nadd (by omega)) ?_
  refine va_put (v := .int (nI (ct + 1))) (ty := .int) hx hb hts in_J5 tyJ5 tyJ5_ok nmJ5 hown hK hP hD hS 0 rfl rfl 3 (by decide) (hts _ q227) (fun _ h => h) rfl (by decide +kernel) rfl rfl (Nat.le_of_ble_eq_true rfl) dJ4_append_40 (fun H locs (hP : va_P G.1 CL [(sb, .inr (5, [.ref va, .int (nI 0), .int ml, .int (nI (ct + 1))])), (va, .inl (G.2 4, 16, .inl g2_2136))] H) (hD : va_D A [(sb, .inr (5, [.ref va, .int (nI 0), .int ml, .int (nI (ct + 1))])), (va, .inl (G.2 4, 16, .inl g2_2136))]) hS => ?_)
  refine lv_aload_n hx hb dJ4_append_43 rfl (lv_at hl 1 rfl) ?_
  have hP9 : va_P G.1 CL [(sb, .inr (5, [.ref va, .int (nI 0), .int ml, .int (nI (ct + 1))])), (va, .inl (G.2 4, 16, .inl g2_2136))] H := hP.sub [0, 1] rfl
  have hD9 : va_D A [(sb, .inr (5, [.ref va, .int (nI 0), .int ml, .int (nI (ct + 1))])), (va, .inl (G.2 4, 16, .inl g2_2136))] := hD.sub [0, 1] (by decide) rfl
  exact end_a hx hb hr hlk (by first | exact Or.inl ⟨_, rfl⟩ | exact Or.inr ⟨_, rfl⟩) (Or.inr ⟨_, rfl⟩) (qc_of g2_2136 (v := some (.ref sb)) (by rfl) (⟨hq_2137, hq_2138⟩) hP9 hD9 (trivial) hS) hS dJ4_append_44 (show 0 ≤ 0 from by first | exact Nat.le_refl _ | decide | omega) (show 0 ≤ 0 from by first | exact Nat.le_refl _ | decide | omega)

set_option maxHeartbeats 4000000 in
theorem mJ5_append1 (l : Launch) (G : Gt) (sb : Nat) (va : Nat) (ml : Int32) (ct : Nat) (g : Nat → Int32) (hct : ct + 1 ≤ 16) : CT l G yJ5_append cJ5_append 2 (some (.object "java/lang/StringBuilder")) ({ frames := 5, cells := 0, slots := 0, locals := 101 } : Room) [.ref sb, .ref (G.2 376)] [(sb, .inr (5, [.ref va, .int (nI 0), .int ml, .int (nI ct)])), (va, .inl (G.2 4, 16, .inl g))] RH0 (S := (Nat → Int32)) (fun (u_ : (Nat → Int32)) => some (.ref sb)) (fun (u_ : (Nat → Int32)) => (∀ j, j < ct → u_ j = g j) ∧ u_ ct = 32) (fun (u_ : (Nat → Int32)) => [(sb, .inr (5, [.ref va, .int (nI 0), .int ml, .int (nI (ct + 1))])), (va, .inl (G.2 4, 16, .inl u_))]) (fun (u_ : (Nat → Int32)) (H : Heap) => True) := by
  refine CT.of (by decide) (Nat.le_of_ble_eq_true rfl) ?_
  intro p e s m below meth c ls A H locs h9 hH0 hP hS
  obtain ⟨cf, hr, hlk, hnm, hKB, hE, -, hD, -, hA, hAw, hRH, hl⟩ := h9
  have hx := cf.1
  have hb := cf.2.1
  have hml := cf.2.2.1
  have hown : s.vm.findClass RJ5 = some m.cls := cf.2.2.2.1
  have hts := cf.2.2.2.2
  have hK := hKB.1
  have hl : lv_has ls 2 [(0, .ref sb), (1, .ref (G.2 376))] := hl
  refine lv_aload_n hx hb dJ5_append_0 rfl (lv_at hl 0 rfl) ?_
  refine lv_aload_n hx hb dJ5_append_1 rfl (lv_at hl 1 rfl) ?_
  have hF := hF_of (wc := [(sb, .inr (5, [.ref va, .int (nI 0), .int ml, .int (nI ct)])), (va, .inl (G.2 4, 16, .inl g))]) hD hS hA [0, 1] rfl
  refine go_ct hS hP hD [0, 1] [] hF rfl rfl (by decide) (by decide)
      (va_runSU (hK.1 5 _ rfl).2 (As := [.ref (G.2 376)]) (rest := []) cf (mJ4_append1 l G sb va ml ct g (show ct + 1 ≤ 16 from by first | assumption | omega) H.size) (va_cwSU 1 hts (lw_SU q803 q1969 q236 q804 q54 q805) rfl rfl rfl (by decide +kernel) ⟨Nat.le_of_ble_eq_true rfl, Nat.le_of_ble_eq_true rfl⟩) (preV_of hKB hE hS hF (va_recv hK hP (ci := 5) (q0 := 0) rfl rfl) (va_P.sub hP [0, 1] rfl) ((va_D.sub hD [0, 1] (by decide) rfl).weaken (fun _ _ _ _ => trivial)) trivial) rfl rfl hl.1 rfl (lv_room (Nat.le_of_ble_eq_true rfl)) dJ5_append_2 ⟨show 0 + 0 ≤ 0 from by first | decide | omega, show 0 + 0 ≤ 0 from by first | decide | omega⟩)
      (fun u_ H locs hq hph (hP : va_P G.1 CL [(sb, .inr (5, [.ref va, .int (nI 0), .int ml, .int (nI (ct + 1))])), (va, .inl (G.2 4, 16, .inl u_))] H) (hD : va_D A [(sb, .inr (5, [.ref va, .int (nI 0), .int ml, .int (nI (ct + 1))])), (va, .inl (G.2 4, 16, .inl u_))]) hS hfz hfk => ?_)
  obtain ⟨g2_2139, rfl⟩ : ∃ z, z = u_ := ⟨_, rfl⟩
  have hP : va_P G.1 CL [(sb, .inr (5, [.ref va, .int (nI 0), .int ml, .int (nI (ct + 1))])), (va, .inl (G.2 4, 16, .inl g2_2139))] H := hP
  have hD : va_D A [(sb, .inr (5, [.ref va, .int (nI 0), .int ml, .int (nI (ct + 1))])), (va, .inl (G.2 4, 16, .inl g2_2139))] := hD
  obtain ⟨hq_2140, hq_2141⟩ : (∀ j, j < ct → g2_2139 j = g j) ∧ g2_2139 ct = 32 := hq
  refine W.eq (g2 := F0 m 5 ls [.ref sb]) rfl ?_
  refine lv_pop hx hb dJ5_append_5 rfl ?_
  refine lv_aload_n hx hb dJ5_append_6 rfl (lv_at hl 0 rfl) ?_
  have hP9 : va_P G.1 CL [(sb, .inr (5, [.ref va, .int (nI 0), .int ml, .int (nI (ct + 1))])), (va, .inl (G.2 4, 16, .inl g2_2139))] H := hP.sub [0, 1] rfl
  have hD9 : va_D A [(sb, .inr (5, [.ref va, .int (nI 0), .int ml, .int (nI (ct + 1))])), (va, .inl (G.2 4, 16, .inl g2_2139))] := hD.sub [0, 1] (by decide) rfl
  exact end_a hx hb hr hlk (by first | exact Or.inl ⟨_, rfl⟩ | exact Or.inr ⟨_, rfl⟩) (Or.inr ⟨_, rfl⟩) (qc_of g2_2139 (v := some (.ref sb)) (by rfl) (⟨hq_2140, hq_2141⟩) hP9 hD9 (trivial) hS) hS dJ5_append_7 (show 0 ≤ 0 from by first | exact Nat.le_refl _ | decide | omega) (show 0 ≤ 0 from by first | exact Nat.le_refl _ | decide | omega)
