/-! the component: the book, what it reads -/
set_option maxRecDepth 100000
theorem nI_m1 {k : Nat} (h : k < 2 ^ 31) : nI k ≠ (-1) := fun e => by
  have h1 := congrArg Int32.toInt e
  rw [nI_toInt h] at h1
  have h2 : ((-1 : Int32)).toInt = -1 := by decide
  omega
/-- the tests by days, the sessions by days and ids -/
def SrtT (B : Bk) : Prop := ∀ j k, j < k → k < tN B → tDay B j < tDay B k
def SrtS (B : Bk) : Prop := ∀ j k, j < k → k < sN B → lt (sAt B j) (sAt B k)
def thrO (B : Bk) : Option Nat → Nat × Nat
  | none => (0, 200)
  | some j => (tDay B j + 1, tThr B j)
theorem LU_uniq {td d k o o2} (h : LU td d k o) (h2 : LU td d k o2) : o = o2 := by
  cases o with
  | none =>
    cases o2 with
    | none => rfl
    | some b => exact absurd h2.2.1 (h b h2.1)
  | some a =>
    cases o2 with
    | none => exact absurd h.2.1 (h2 a h.1)
    | some b =>
      rcases Nat.lt_trichotomy a b with g | g | g
      · exact absurd h2.2.1 (h.2.2 b g h2.1)
      · rw [g]
      · exact absurd h.2.1 (h2.2.2 a g h.1)
theorem thr_ex {B : Bk} (hs : SrtT B) (d : Nat) : ∀ k, k ≤ tN B → ∃ o, LU (tDay B) d k o ∧ thrW B d k = thrO B o
  | 0, _ => ⟨none, fun j hj => absurd hj (Nat.not_lt_zero _), rfl⟩
  | k + 1, hk => by
    obtain ⟨o, h1, h2⟩ := thr_ex hs d k (by omega)
    by_cases c : tDay B k ≤ d
    · refine ⟨some k, LU_yes c, ?_⟩
      rw [thrW_yes ⟨c, ?_⟩]
      · rfl
      · rw [h2]
        cases o with
        | none => exact Nat.zero_le _
        | some j => exact hs j k h1.1 (by omega)
    · exact ⟨o, LU_no c h1, by rw [thrW_no (fun z => c z.1)]; exact h2⟩
theorem thr_LU {B : Bk} (hs : SrtT B) {d : Nat} {o : Option Nat} (h : LU (tDay B) d (tN B) o) : thr B d = (thrO B o).2 := by
  obtain ⟨o2, h1, h2⟩ := thr_ex hs d (tN B) (Nat.le_refl _)
  rw [LU_uniq h h1]
  unfold thr
  rw [h2]
/-- the zone by going up -/
theorem zone_up {b : Nat → Nat} {pc : Nat} (hb : ∀ z, 2 ≤ z → z ≤ 4 → b z < b (z + 1)) {z : Nat} (h1 : 1 ≤ z) (h5 : z ≤ 5) (hl : ∀ y, 2 ≤ y → y ≤ z → b y ≤ pc) (hu : z < 5 → pc < b (z + 1)) : zoneB b pc = z := by
  have b2 : b 2 < b 3 := hb 2 (by omega) (by omega)
  have b3 : b 3 < b 4 := hb 3 (by omega) (by omega)
  have b4 : b 4 < b 5 := hb 4 (by omega) (by omega)
  show (if b 5 ≤ pc then 5 else if b 4 ≤ pc then 4 else if b 3 ≤ pc then 3 else if b 2 ≤ pc then 2 else 1) = z
  have hz : z = 1 ∨ z = 2 ∨ z = 3 ∨ z = 4 ∨ z = 5 := by omega
  rcases hz with e | e | e | e | e <;> subst e
  · have h : pc < b 2 := hu (by omega)
    rw [if_neg (by omega), if_neg (by omega), if_neg (by omega), if_neg (by omega)]
  · have h : pc < b 3 := hu (by omega)
    have g := hl 2 (by omega) (by omega)
    rw [if_neg (by omega), if_neg (by omega), if_neg (by omega), if_pos (by omega)]
  · have h : pc < b 4 := hu (by omega)
    have g := hl 3 (by omega) (by omega)
    rw [if_neg (by omega), if_neg (by omega), if_pos (by omega)]
  · have h : pc < b 5 := hu (by omega)
    have g := hl 4 (by omega) (by omega)
    rw [if_neg (by omega), if_pos (by omega)]
  · have g := hl 5 (by omega) (by omega)
    rw [if_pos (by omega)]

set_option maxHeartbeats 4000000 in
theorem mX2_thresholdOn (l : Launch) (G : Gt) (b : Nat) (to : Nat) (so : Nat) (bo : Nat) (we : Nat) (tg : Nat) (lo : Nat) (fi : Nat) (fa : Nat) (kn : Nat) (B : Bk) (ta : Nat) (tm : Int32) (te : Nat) (tcap : Nat) (tf : Nat → Option Nat) (ga : Nat → Nat) (Wi : va_W) (d : Nat) (hI : Inv B) (htc : tN B ≤ tcap ∧ tcap ≤ 60) (hT : ∀ j, j < tN B → tf j = some (ga j) ∧ TestIn Wi (ga j) (tDay B j) (tThr B j)) (hso : SrtT B) (hd : d < 2 ^ 31) : CT l G yX2_thresholdOn cX2_thresholdOn 3 (some .int) ({ frames := 7, cells := 1, slots := 2, locals := 141 } : Room) [.ref b, .int (nI d)] [] (fun (A : Nat → Prop) (H : Heap) => roW G A H [(b, .inr (1, [.ref to, .ref so, .ref bo, .ref we, .ref tg, .int (nI (bD B)), .int (nI (bI9 B)), .int (oI (bP B)), .int (nI (bE B)), .int (nI kn), .ref lo, .ref fi, .ref fa])), (to, .inr (2, [.ref ta])), (ta, .inr (3, [.int tm, .ref te, .int (nI (tN B))])), (te, .inl (G.2 3, tcap, .inr (.inr (.inr (.inr tf)))))] ∧ roW G A H Wi) (S := Unit) (fun (u_ : Unit) => some (.int (nI (thr B d)))) (fun (u_ : Unit) => True) (fun (u_ : Unit) => []) (fun (u_ : Unit) (H : Heap) => True) := by
  refine CT.of (by decide) (Nat.le_of_ble_eq_true rfl) ?_
  intro p e s m below meth c ls A H locs h9 hH0 hP hS
  obtain ⟨cf, hr, hlk, hnm, hKB, hE, -, hD, -, hA, hAw, ⟨hR0, hR1⟩, hl⟩ := h9
  have hx := cf.1
  have hb := cf.2.1
  have hml := cf.2.2.1
  have hown : s.vm.findClass RX2 = some m.cls := cf.2.2.2.1
  have hts := cf.2.2.2.2
  have hK := hKB.1
  have hl : lv_has ls 3 [(0, .ref b), (1, .int (nI d))] := hl
  have iT := iv_tN hI
  have iN := iv_sN hI
  have iD := iv_bD hI
  have iId := iv_id hI
  have iE := iv_bE hI
  refine lv_aload_n hx hb dX2_thresholdOn_0 rfl (lv_at hl 0 rfl) ?_
  refine va_get hx hb hts in_X2 hown hK (hR0.w hS) 0 rfl rfl 0 (by decide) (hts _ q135) (fun _ h => h) rfl dX2_thresholdOn_1 ?_
  refine lv_iload_n hx hb dX2_thresholdOn_4 rfl (lv_at hl 1 rfl) ?_
  have hF := hF_of (wc := []) hD hS hA [] rfl
  have hro_1248 : va_P G.1 CL [(to, .inr (2, [.ref ta])), (ta, .inr (3, [.int tm, .ref te, .int (nI (tN B))])), (te, .inl (G.2 3, tcap, .inr (.inr (.inr (.inr tf)))))] H := ((hR0.w hS).sub [1, 2, 3] rfl)
  refine go_ct hS hP hD [] [] hF rfl rfl (by decide) (by decide)
      (va_runSN (As := [.ref to, .int (nI d)]) (rest := []) cf (mX1_lastUpTo l G to ta tm te (tN B) tcap tf d (tDay B) (tThr B) ga Wi (htc.1) (htc.2) (by omega) (fun j hj => ⟨(hT j hj).1, (hT j hj).2, by have := (iv_tst hI hj).1; omega⟩) H.size) ⟨va_cnB 2 hts (lw_meth q435) rfl rfl rfl (hKB.nest q433 rfl) (hts _ q47) (by decide +kernel) ⟨Nat.le_of_ble_eq_true rfl, Nat.le_of_ble_eq_true rfl⟩, hts _ q434, trivial⟩ (preS_of hKB hE hS hF (va_P.sub hP [] rfl) ((va_D.sub hD [] (by decide) rfl).weaken (fun _ _ _ _ => trivial)) ⟨(roW.nil hro_1248), (roW.nil (hR1.w hS))⟩) rfl rfl hl.1 rfl (lv_room (Nat.le_of_ble_eq_true rfl)) dX2_thresholdOn_5 ⟨show 0 + 1 ≤ 1 from by first | decide | omega, show 0 + 2 ≤ 2 from by first | decide | omega⟩)
      (fun u_ H locs hq hph (hP : va_P G.1 CL [] H) (hD : va_D A []) hS hfz hfk => ?_)
  obtain ⟨fo_1249, rfl⟩ : ∃ z, z = u_ := ⟨_, rfl⟩
  have hP : va_P G.1 CL [] H := hP
  have hD : va_D A [] := hD
  have hq_1250 : LU (tDay B) d (tN B) fo_1249 := hq
  refine W.eq (g2 := F0 m 8 ls [.int (oI fo_1249)]) rfl ?_
  rcases fo_1249 with _ | k_1251
  · refine lv_toi (y := (-1)) rfl ?_
    refine lv_istore_n (lv' := [(2, .int (-1)), (0, .ref b), (1, .int (nI d))]) hx hb dX2_thresholdOn_8 rfl hl (by decide) rfl (fun ls hl => ?_)
    refine lv_iload_n hx hb dX2_thresholdOn_9 rfl (lv_at hl 0 rfl) ?_
    refine lv_iconst (v := (-1)) hx hb dX2_thresholdOn_10 (by decide) ?_
    refine lv_icmp_ne (tgt := 20) hx hb dX2_thresholdOn_11 (by decide) (fun c_1252 => absurd rfl c_1252) (fun c_1252 => ?_)
    refine lv_sipush (v := nI 200) hx hb dX2_thresholdOn_14 (by decide) ?_
    refine lv_goto (tgt := 34) hx hb dX2_thresholdOn_17 (by decide) ?_
    have hP9 : va_P G.1 CL [] H := hP.sub [] rfl
    have hD9 : va_D A [] := hD.sub [] (by decide) rfl
    exact end_i hx hb hr hlk (rfl) (qc_of () (v := some (.int (nI 200))) (by rw [thr_LU hso hq_1250] <;> rfl) (trivial) hP9 hD9 (trivial) hS) hS dX2_thresholdOn_34 (show 0 + 1 ≤ 1 from by first | exact Nat.le_refl _ | decide | omega) (show 0 + 2 ≤ 2 from by first | exact Nat.le_refl _ | decide | omega)
  · refine lv_ton (n := k_1251) rfl ?_
    have hk9 : k_1251 < tN B := (hq_1250).1
    refine lv_istore_n (lv' := [(2, .int (nI k_1251)), (0, .ref b), (1, .int (nI d))]) hx hb dX2_thresholdOn_8 rfl hl (by decide) rfl (fun ls hl => ?_)
    refine lv_iload_n hx hb dX2_thresholdOn_9 rfl (lv_at hl 0 rfl) ?_
    refine lv_iconst (v := (-1)) hx hb dX2_thresholdOn_10 (by decide) ?_
    refine lv_icmp_ne (tgt := 20) hx hb dX2_thresholdOn_11 (by decide) (fun c_1253 => ?_) (fun c_1253 => absurd c_1253 (nI_m1 (by omega)))
    refine lv_aload_n hx hb dX2_thresholdOn_20 rfl (lv_at hl 1 rfl) ?_
    refine va_get hx hb hts in_X2 hown hK (hR0.w hS) 0 rfl rfl 0 (by decide) (hts _ q135) (fun _ h => h) rfl dX2_thresholdOn_21 ?_
    refine lv_iload_n hx hb dX2_thresholdOn_24 rfl (lv_at hl 0 rfl) ?_
    obtain ⟨hg9, hgm9⟩ := hT k_1251 (hq_1250).1
    have ht9 := (iv_tst hI (k := k_1251) (hq_1250).1).2
    have hRm_1254 : roW G A s.heap [((ga k_1251), .inr (8, [.int (nI (tDay B k_1251)), .int (nI (tThr B k_1251))]))] := hR1.mem (hgm9)
    have hF := hF_of (wc := []) hD hS hA [] rfl
    have hro_1255 : va_P G.1 CL [(to, .inr (2, [.ref ta])), (ta, .inr (3, [.int tm, .ref te, .int (nI (tN B))])), (te, .inl (G.2 3, tcap, .inr (.inr (.inr (.inr tf)))))] H := ((hR0.w hS).sub [1, 2, 3] rfl)
    refine go_ct hS hP hD [] [] hF rfl rfl (by decide) (by decide)
        (va_runV (As := [.int (nI k_1251)]) (rest := []) cf (mX3_getT l G to ta tm te (tN B) tcap tf k_1251 (ga k_1251) ([.int (nI (tDay B k_1251)), .int (nI (tThr B k_1251))]) Wi (htc.1) (htc.2) ((hq_1250).1) (hg9) (hgm9) H.size) (cwV 1 hts (lw_V q443 q444 q445 q49 q446) rfl rfl rfl (by decide +kernel) ⟨Nat.le_of_ble_eq_true rfl, Nat.le_of_ble_eq_true rfl⟩) (preV_of hKB hE hS hF (va_recv hK (hR0.w hS) (ci := 2) (q0 := 1) rfl rfl) (va_P.sub hP [] rfl) ((va_D.sub hD [] (by decide) rfl).weaken (fun _ _ _ _ => trivial)) ⟨(roW.nil hro_1255), (roW.nil (hR1.w hS))⟩) rfl rfl hl.1 rfl (lv_room (Nat.le_of_ble_eq_true rfl)) dX2_thresholdOn_25 ⟨show 0 + 1 + 0 ≤ 1 from by first | decide | omega, show 0 + 2 + 0 ≤ 2 from by first | decide | omega⟩)
        (fun u_ H locs hq hph (hP : va_P G.1 CL [] H) (hD : va_D A []) hS hfz hfk => ?_)
    refine W.eq (g2 := F0 m 28 ls [.ref (ga k_1251)]) rfl ?_
    refine va_castS hx hb hown (hts _ q449) (hK.1 8 _ rfl).2 (va_recv hK (hRm_1254.w hS) (ci := 8) (q0 := 0) rfl rfl) dX2_thresholdOn_28 ?_
    refine va_getN hx hb hts in_X7 hown hK (hRm_1254.w hS) 0 rfl rfl 1 (by decide) (va_Nw.use rfl (hKB.nest q746 rfl)) (fun _ h => h) rfl dX2_thresholdOn_31 ?_
    have hP9 : va_P G.1 CL [] H := hP.sub [] rfl
    have hD9 : va_D A [] := hD.sub [] (by decide) rfl
    exact end_i hx hb hr hlk (rfl) (qc_of () (v := some (.int (nI (tThr B k_1251)))) (by rw [thr_LU hso hq_1250] <;> rfl) (trivial) hP9 hD9 (trivial) hS) hS dX2_thresholdOn_34 (show 0 + 1 ≤ 1 from by first | exact Nat.le_refl _ | decide | omega) (show 0 + 2 ≤ 2 from by first | exact Nat.le_refl _ | decide | omega)

set_option maxHeartbeats 4000000 in
theorem mX2_zoneOf (l : Launch) (G : Gt) (b : Nat) (to : Nat) (so : Nat) (bo : Nat) (we : Nat) (tg : Nat) (lo : Nat) (fi : Nat) (fa : Nat) (kn : Nat) (B : Bk) (fb : Nat → Int32) (t : Nat) (i : Nat) (hI : Inv B) (hfb : ∀ z, 2 ≤ z → z ≤ 5 → fb z = nI (bB B z)) (ht : 50 ≤ t ∧ t ≤ 400) (hi : i ≤ 500) : CT l G yX2_zoneOf cX2_zoneOf 5 (some .int) ({ frames := 1, cells := 0, slots := 0, locals := 12 } : Room) [.ref b, .int (nI t), .int (nI i)] [] (fun (A : Nat → Prop) (H : Heap) => roW G A H [(b, .inr (1, [.ref to, .ref so, .ref bo, .ref we, .ref tg, .int (nI (bD B)), .int (nI (bI9 B)), .int (oI (bP B)), .int (nI (bE B)), .int (nI kn), .ref lo, .ref fi, .ref fa])), (bo, .inl (G.2 0, 6, .inl fb))]) (S := Unit) (fun (u_ : Unit) => some (.int (nI (zoneB (bB B) (100 * i / t))))) (fun (u_ : Unit) => True) (fun (u_ : Unit) => []) (fun (u_ : Unit) (H : Heap) => True) := by
  refine CT.of (by decide) (Nat.le_of_ble_eq_true rfl) ?_
  intro p e s m below meth c ls A H locs h9 hH0 hP hS
  obtain ⟨cf, hr, hlk, hnm, hKB, hE, -, hD, -, hA, hAw, hR0, hl⟩ := h9
  have hx := cf.1
  have hb := cf.2.1
  have hml := cf.2.2.1
  have hown : s.vm.findClass RX2 = some m.cls := cf.2.2.2.1
  have hts := cf.2.2.2.2
  have hK := hKB.1
  have hl : lv_has ls 5 [(0, .ref b), (1, .int (nI t)), (2, .int (nI i))] := hl
  have iT := iv_tN hI
  have iN := iv_sN hI
  have iD := iv_bD hI
  have iId := iv_id hI
  have iE := iv_bE hI
  have hq9 : 100 * i / t ≤ 1000 := Nat.le_trans (Nat.div_le_div_left ht.1 (by omega)) (by omega)
  refine lv_bipush (v := nI 100) hx hb dX2_zoneOf_0 (by decide) ?_
  refine lv_iload_n hx hb dX2_zoneOf_2 rfl (lv_at hl 2 rfl) ?_
  refine lv_imul hx hb dX2_zoneOf_3 ?_
  refine lv_ton (n := 100 * i) (nmul (by omega)) ?_
  refine lv_iload_n hx hb dX2_zoneOf_4 rfl (lv_at hl 1 rfl) ?_
  refine lv_idiv hx hb dX2_zoneOf_5 (nI_ne0 (by omega) (by omega)) ?_
  refine lv_ton (n := ((100 * i) / t)) (ndiv (by omega) (by omega) (by omega) rfl) ?_
  refine lv_istore_n (lv' := [(3, .int (nI ((100 * i) / t))), (0, .ref b), (1, .int (nI t)), (2, .int (nI i))]) hx hb dX2_zoneOf_6 rfl hl (by decide) rfl (fun ls hl => ?_)
  refine lv_iconst (v := nI 1) hx hb dX2_zoneOf_7 (by decide) ?_
  refine lv_istore (lv' := [(4, .int (nI 1)), (3, .int (nI ((100 * i) / t))), (0, .ref b), (1, .int (nI t)), (2, .int (nI i))]) hx hb dX2_zoneOf_8 hl (by decide) rfl (fun ls hl => ?_)
  have hl := lv_sub hl [2, 3, 4, 1, 0] (l' := [(0, .ref b), (1, .int (nI t)), (2, .int (nI i)), (3, .int (nI ((100 * i) / t))), (4, .int (nI 1))]) rfl
  refine lp_W (σ := Nat) (hpc := 10) (fun x => 5 - x) (fun x => 0) (fun x => 0) (fun x H locs ls => va_P G.1 CL [] H ∧ va_D A [] ∧ va_S A s.heap H locs ∧ lv_has ls 5 [(0, .ref b), (1, .int (nI t)), (2, .int (nI i)), (3, .int (nI ((100 * i) / t))), (4, .int (nI x))] ∧ (1 ≤ x ∧ x ≤ 5) ∧ (∀ y, 2 ≤ y → y ≤ x → bB B y ≤ 100 * i / t)) ?_ (1) ⟨(show va_P G.1 CL [] H from hP), (show va_D A [] from hD), hS, hl, (show 1 ≤ 1 ∧ 1 ≤ 5 from by omega), (show ∀ y, 2 ≤ y → y ≤ 1 → bB B y ≤ 100 * i / t from fun y h1 h2 => absurd h1 (by omega))⟩ (show 0 ≤ 0 from by first | exact Nat.le_refl _ | omega) (show 0 ≤ 0 from by first | exact Nat.le_refl _ | omega)
  intro x H locs ls hI9 ih10
  obtain ⟨z_1258, rfl⟩ : ∃ z, z = x := ⟨_, rfl⟩
  obtain ⟨hP, hD, hS, hl, hp_1256, hp_1257⟩ := hI9
  have hP : va_P G.1 CL [] H := hP
  have hD : va_D A [] := hD
  have hl : lv_has ls 5 [(0, .ref b), (1, .int (nI t)), (2, .int (nI i)), (3, .int (nI ((100 * i) / t))), (4, .int (nI z_1258))] := hl
  have hp_1256 : 1 ≤ z_1258 ∧ z_1258 ≤ 5 := hp_1256
  have hp_1257 : ∀ y, 2 ≤ y → y ≤ z_1258 → bB B y ≤ 100 * i / t := hp_1257
  refine lv_iload hx hb dX2_zoneOf_10 (lv_at hl 4 rfl) ?_
  refine lv_iconst (v := nI 5) hx hb dX2_zoneOf_12 (by decide) ?_
  refine n_icmp_ge (tgt := 35) hx hb (by omega) (by omega) dX2_zoneOf_13 (by decide) (fun c_1260 => ?_) (fun c_1260 => ?_)
  · refine lv_iload hx hb dX2_zoneOf_35 (lv_at hl 4 rfl) ?_
    have hP9 : va_P G.1 CL [] H := hP.sub [] rfl
    have hD9 : va_D A [] := hD.sub [] (by decide) rfl
    exact end_i hx hb hr hlk (rfl) (qc_of () (v := some (.int (nI z_1258))) (by rw [zone_up (fun z h1 h2 => iv_up hI (z := z) h1 h2) hp_1256.1 hp_1256.2 hp_1257 (fun h9 => by omega)] <;> rfl) (trivial) hP9 hD9 (trivial) hS) hS dX2_zoneOf_37 (show 0 ≤ 0 from by first | exact Nat.le_refl _ | decide | omega) (show 0 ≤ 0 from by first | exact Nat.le_refl _ | decide | omega)
  · have hbb := iv_bB hI (z := z_1258 + 1) (by omega) (by omega)
    refine lv_aload_n hx hb dX2_zoneOf_16 rfl (lv_at hl 0 rfl) ?_
    refine va_get hx hb hts in_X2 hown hK (hR0.w hS) 0 rfl rfl 2 (by decide) (hts _ q139) (fun _ h => h) rfl dX2_zoneOf_17 ?_
    refine lv_iload hx hb dX2_zoneOf_20 (lv_at hl 4 rfl) ?_
    refine lv_iconst (v := nI 1) hx hb dX2_zoneOf_22 (by decide) ?_
    refine lv_iadd hx hb dX2_zoneOf_23 ?_
    refine lv_ton (n := z_1258 + 1) (nadd (by omega)) ?_
    refine r_iald (v := nI (bB B (z_1258 + 1))) hx hb hK (hR0.w hS) 1 0 rfl rfl (i := z_1258 + 1) (by omega) (by omega) (hfb _ (by omega) (by omega)) dX2_zoneOf_24 ?_
    refine lv_iload_n hx hb dX2_zoneOf_25 rfl (lv_at hl 3 rfl) ?_
    refine n_icmp_gt (tgt := 35) hx hb (by omega) (by omega) dX2_zoneOf_26 (by decide) (fun c_1262 => ?_) (fun c_1262 => ?_)
    · refine lv_iload hx hb dX2_zoneOf_35 (lv_at hl 4 rfl) ?_
      have hP9 : va_P G.1 CL [] H := hP.sub [] rfl
      have hD9 : va_D A [] := hD.sub [] (by decide) rfl
      exact end_i hx hb hr hlk (rfl) (qc_of () (v := some (.int (nI z_1258))) (by rw [zone_up (fun z h1 h2 => iv_up hI (z := z) h1 h2) hp_1256.1 hp_1256.2 hp_1257 (fun h9 => by omega)] <;> rfl) (trivial) hP9 hD9 (trivial) hS) hS dX2_zoneOf_37 (show 0 ≤ 0 from by first | exact Nat.le_refl _ | decide | omega) (show 0 ≤ 0 from by first | exact Nat.le_refl _ | decide | omega)
    · refine lv_iinc (v := nI (z_1258 + 1)) (lv' := [(4, .int (nI (z_1258 + 1))), (0, .ref b), (1, .int (nI t)), (2, .int (nI i)), (3, .int (nI ((100 * i) / t)))]) hx hb dX2_zoneOf_29 hl (k := 4) rfl (ninc (b := 1) (by decide) (by omega)) (by decide) rfl (fun ls hl => ?_)
      refine lv_goto (tgt := 10) hx hb dX2_zoneOf_32 (by decide) ?_
      have hP : va_P G.1 CL [] H := hP.sub [] rfl
      have hD : va_D A [] := hD.sub [] (by decide) rfl
      have hl := lv_sub hl [1, 2, 3, 4, 0] (l' := [(0, .ref b), (1, .int (nI t)), (2, .int (nI i)), (3, .int (nI ((100 * i) / t))), (4, .int (nI (z_1258 + 1)))]) rfl
      exact W.widen (show 0 ≤ 0 from by first | exact Nat.le_refl _ | omega) (show 0 ≤ 0 from by first | exact Nat.le_refl _ | omega) (ih10 (z_1258 + 1) H locs ls ⟨hP, hD, hS, hl, (show 1 ≤ (z_1258 + 1) ∧ (z_1258 + 1) ≤ 5 from by omega), (show ∀ y, 2 ≤ y → y ≤ (z_1258 + 1) → bB B y ≤ 100 * i / t from fun y h1 h2 => by rcases Nat.lt_or_ge y (z_1258 + 1) with h3 | h3; exact hp_1257 y h1 (by omega); rw [show y = z_1258 + 1 by omega]; omega)⟩ (show 5 - (z_1258 + 1) < 5 - z_1258 from by omega))

def zS (B : Bk) (x : Sess) (z p : Nat) : Nat := if zoneP B x p = z then pMin x p else 0
theorem zS_le (B : Bk) (x : Sess) (z : Nat) {p : Nat} (h : p ≤ nP x) : psum (zS B x z) p ≤ minOf x := zMin_le B x z h

set_option maxHeartbeats 4000000 in
theorem mX2_loadOf (l : Launch) (G : Gt) (b : Nat) (to : Nat) (so : Nat) (bo : Nat) (we : Nat) (tg : Nat) (lo : Nat) (fi : Nat) (fa : Nat) (kn : Nat) (B : Bk) (ta : Nat) (tm : Int32) (te : Nat) (tcap : Nat) (tf : Nat → Option Nat) (ga : Nat → Nat) (Wi : va_W) (fb : Nat → Int32) (fw : Nat → Int32) (sx : Nat) (xs : Sess) (mi : Nat) (it : Nat) (fm : Nat → Int32) (fi9 : Nat → Int32) (hI : Inv B) (htc : tN B ≤ tcap ∧ tcap ≤ 60) (hT : ∀ j, j < tN B → tf j = some (ga j) ∧ TestIn Wi (ga j) (tDay B j) (tThr B j)) (hso : SrtT B) (hfb : ∀ z, 2 ≤ z → z ≤ 5 → fb z = nI (bB B z)) (hfw : ∀ z, 1 ≤ z → z ≤ 5 → fw z = nI (bW B z)) (hX : InvS B xs) (hfm : ∀ p, p < nP xs → fm p = nI (pMin xs p)) (hfi : ∀ p, p < nP xs → fi9 p = nI (pInt xs p)) : CT l G yX2_loadOf cX2_loadOf 5 (some .int) ({ frames := 8, cells := 1, slots := 2, locals := 163 } : Room) [.ref b, .ref sx] [] (fun (A : Nat → Prop) (H : Heap) => roW G A H [(b, .inr (1, [.ref to, .ref so, .ref bo, .ref we, .ref tg, .int (nI (bD B)), .int (nI (bI9 B)), .int (oI (bP B)), .int (nI (bE B)), .int (nI kn), .ref lo, .ref fi, .ref fa])), (to, .inr (2, [.ref ta])), (ta, .inr (3, [.int tm, .ref te, .int (nI (tN B))])), (te, .inl (G.2 3, tcap, .inr (.inr (.inr (.inr tf))))), (bo, .inl (G.2 0, 6, .inl fb)), (we, .inl (G.2 0, 6, .inl fw)), (sx, .inr (9, [.int (nI (sDay xs)), .int (nI (sId xs)), .ref mi, .ref it])), (mi, .inl (G.2 1, (nP xs), .inl fm)), (it, .inl (G.2 1, (nP xs), .inl fi9))] ∧ roW G A H Wi) (S := Unit) (fun (u_ : Unit) => some (.int (nI (loadS B xs)))) (fun (u_ : Unit) => True) (fun (u_ : Unit) => []) (fun (u_ : Unit) (H : Heap) => True) := by
  refine CT.of (by decide) (Nat.le_of_ble_eq_true rfl) ?_
  intro p e s m below meth c ls A H locs h9 hH0 hP hS
  obtain ⟨cf, hr, hlk, hnm, hKB, hE, -, hD, -, hA, hAw, ⟨hR0, hR1⟩, hl⟩ := h9
  have hx := cf.1
  have hb := cf.2.1
  have hml := cf.2.2.1
  have hown : s.vm.findClass RX2 = some m.cls := cf.2.2.2.1
  have hts := cf.2.2.2.2
  have hK := hKB.1
  have hl : lv_has ls 5 [(0, .ref b), (1, .ref sx)] := hl
  have iT := iv_tN hI
  have iN := iv_sN hI
  have iD := iv_bD hI
  have iId := iv_id hI
  have iE := iv_bE hI
  obtain ⟨iS1, iS2, iS3, iS4, iS5⟩ := hX
  have iTh := thr_ok hI (sDay xs)
  refine lv_aload_n hx hb dX2_loadOf_0 rfl (lv_at hl 0 rfl) ?_
  refine lv_aload_n hx hb dX2_loadOf_1 rfl (lv_at hl 1 rfl) ?_
  have hF := hF_of (wc := []) hD hS hA [] rfl
  have hro_1263 : va_P G.1 CL [(sx, .inr (9, [.int (nI (sDay xs)), .int (nI (sId xs)), .ref mi, .ref it]))] H := ((hR0.w hS).sub [6] rfl)
  refine go_ct hS hP hD [] [] hF rfl rfl (by decide) (by decide)
      (va_runU (As := []) (rest := [.ref b]) cf (mX6_dayS l G sx (sDay xs) (sId xs) mi it  H.size) (va_cwU (owner := "TrainingDiary$Dated") 0 hts (lw_U q419 q420 q422 q423 q72 q424) rfl rfl rfl rfl (by decide +kernel) ⟨Nat.le_of_ble_eq_true rfl, Nat.le_of_ble_eq_true rfl⟩) (preV_of hKB hE hS hF (va_recv hK (hR0.w hS) (ci := 9) (q0 := 6) rfl rfl) (va_P.sub hP [] rfl) ((va_D.sub hD [] (by decide) rfl).weaken (fun _ _ _ _ => trivial)) (roW.nil hro_1263)) rfl rfl hl.1 rfl (lv_room (Nat.le_of_ble_eq_true rfl)) dX2_loadOf_2 ⟨show 0 + 0 ≤ 1 from by first | decide | omega, show 0 + 0 ≤ 2 from by first | decide | omega⟩)
      (fun u_ H locs hq hph (hP : va_P G.1 CL [] H) (hD : va_D A []) hS hfz hfk => ?_)
  refine W.eq (g2 := F0 m 5 ls [.int (nI (sDay xs)), .ref b]) rfl ?_
  have hF := hF_of (wc := []) hD hS hA [] rfl
  have hro_1264 : va_P G.1 CL [(b, .inr (1, [.ref to, .ref so, .ref bo, .ref we, .ref tg, .int (nI (bD B)), .int (nI (bI9 B)), .int (oI (bP B)), .int (nI (bE B)), .int (nI kn), .ref lo, .ref fi, .ref fa])), (to, .inr (2, [.ref ta])), (ta, .inr (3, [.int tm, .ref te, .int (nI (tN B))])), (te, .inl (G.2 3, tcap, .inr (.inr (.inr (.inr tf)))))] H := ((hR0.w hS).sub [0, 1, 2, 3] rfl)
  refine go_ct hS hP hD [] [] hF rfl rfl (by decide) (by decide)
      (va_runV (As := [.int (nI (sDay xs))]) (rest := []) cf (mX2_thresholdOn l G b to so bo we tg lo fi fa kn B ta tm te tcap tf ga Wi (sDay xs) (show Inv B from by first | assumption | omega) (show tN B ≤ tcap ∧ tcap ≤ 60 from by first | assumption | omega) (show ∀ j, j < tN B → tf j = some (ga j) ∧ TestIn Wi (ga j) (tDay B j) (tThr B j) from by first | assumption | omega) (show SrtT B from by first | assumption | omega) (show (sDay xs) < 2 ^ 31 from by first | assumption | omega) H.size) (cwV 1 hts (lw_V q429 q430 q431 q48 q432) rfl rfl rfl (by decide +kernel) ⟨Nat.le_of_ble_eq_true rfl, Nat.le_of_ble_eq_true rfl⟩) (preV_of hKB hE hS hF (va_recv hK (hR0.w hS) (ci := 1) (q0 := 0) rfl rfl) (va_P.sub hP [] rfl) ((va_D.sub hD [] (by decide) rfl).weaken (fun _ _ _ _ => trivial)) ⟨(roW.nil hro_1264), (roW.nil (hR1.w hS))⟩) rfl rfl hl.1 rfl (lv_room (Nat.le_of_ble_eq_true rfl)) dX2_loadOf_5 ⟨show 0 + 1 ≤ 1 from by first | decide | omega, show 0 + 2 ≤ 2 from by first | decide | omega⟩)
      (fun u_ H locs hq hph (hP : va_P G.1 CL [] H) (hD : va_D A []) hS hfz hfk => ?_)
  refine W.eq (g2 := F0 m 8 ls [.int (nI (thr B (sDay xs)))]) rfl ?_
  refine lv_istore_n (lv' := [(2, .int (nI (thr B (sDay xs)))), (0, .ref b), (1, .ref sx)]) hx hb dX2_loadOf_8 rfl hl (by decide) rfl (fun ls hl => ?_)
  refine lv_iconst (v := nI 0) hx hb dX2_loadOf_9 (by decide) ?_
  refine lv_istore_n (lv' := [(3, .int (nI 0)), (2, .int (nI (thr B (sDay xs)))), (0, .ref b), (1, .ref sx)]) hx hb dX2_loadOf_10 rfl hl (by decide) rfl (fun ls hl => ?_)
  refine lv_iconst (v := nI 0) hx hb dX2_loadOf_11 (by decide) ?_
  refine lv_istore (lv' := [(4, .int (nI 0)), (3, .int (nI 0)), (2, .int (nI (thr B (sDay xs)))), (0, .ref b), (1, .ref sx)]) hx hb dX2_loadOf_12 hl (by decide) rfl (fun ls hl => ?_)
  have hl := lv_sub hl [3, 4, 2, 1, 0] (l' := [(0, .ref b), (1, .ref sx), (2, .int (nI (thr B (sDay xs)))), (3, .int (nI (psum (fun p => pMin xs p * bW B (zoneP B xs p)) 0))), (4, .int (nI 0))]) rfl
  refine lp_W (σ := Nat) (hpc := 14) (fun x => nP xs - x) (fun x => 1) (fun x => 2) (fun x H locs ls => va_P G.1 CL [] H ∧ va_D A [] ∧ va_S A s.heap H locs ∧ lv_has ls 5 [(0, .ref b), (1, .ref sx), (2, .int (nI (thr B (sDay xs)))), (3, .int (nI (psum (fun p => pMin xs p * bW B (zoneP B xs p)) x))), (4, .int (nI x))] ∧ (x ≤ nP xs)) ?_ (0) ⟨(show va_P G.1 CL [] H from hP), (show va_D A [] from hD), hS, hl, (show 0 ≤ nP xs from by omega)⟩ (show 0 + 1 ≤ 1 from by first | exact Nat.le_refl _ | omega) (show 0 + 2 ≤ 2 from by first | exact Nat.le_refl _ | omega)
  intro x H locs ls hI9 ih14
  obtain ⟨i_1266, rfl⟩ : ∃ z, z = x := ⟨_, rfl⟩
  obtain ⟨hP, hD, hS, hl, hp_1265⟩ := hI9
  have hP : va_P G.1 CL [] H := hP
  have hD : va_D A [] := hD
  have hl : lv_has ls 5 [(0, .ref b), (1, .ref sx), (2, .int (nI (thr B (sDay xs)))), (3, .int (nI (psum (fun p => pMin xs p * bW B (zoneP B xs p)) i_1266))), (4, .int (nI i_1266))] := hl
  have hp_1265 : i_1266 ≤ nP xs := hp_1265
  refine W.widen (k := 1) (n := 2) (Nat.le_refl _) (Nat.le_refl _) ?_
  refine lv_iload hx hb dX2_loadOf_14 (lv_at hl 4 rfl) ?_
  refine lv_aload_n hx hb dX2_loadOf_16 rfl (lv_at hl 1 rfl) ?_
  refine va_getN hx hb hts in_X8 hown hK (hR0.w hS) 6 rfl rfl 2 (by decide) (va_Nw.use rfl (hKB.nest q1115 rfl)) (fun _ h => h) rfl dX2_loadOf_17 ?_
  refine r_alen hx hb hK (hR0.w hS) 7 1 rfl rfl dX2_loadOf_20 ?_
  refine n_icmp_ge (tgt := 58) hx hb (by omega) (by omega) dX2_loadOf_21 (by decide) (fun c_1268 => ?_) (fun c_1268 => ?_)
  · refine lv_iload_n hx hb dX2_loadOf_58 rfl (lv_at hl 3 rfl) ?_
    have hP9 : va_P G.1 CL [] H := hP.sub [] rfl
    have hD9 : va_D A [] := hD.sub [] (by decide) rfl
    exact end_i hx hb hr hlk (rfl) (qc_of () (v := some (.int (nI (psum (fun p => pMin xs p * bW B (zoneP B xs p)) i_1266)))) (by rw [show i_1266 = nP xs by omega] <;> rfl) (trivial) hP9 hD9 (trivial) hS) hS dX2_loadOf_59 (show 1 ≤ 1 from by first | exact Nat.le_refl _ | decide | omega) (show 2 ≤ 2 from by first | exact Nat.le_refl _ | decide | omega)
  · obtain ⟨ip1, ip2, ip3⟩ := iS5 i_1266 (by omega)
    have izp := zoneP_ok B xs i_1266
    refine lv_iload_n hx hb dX2_loadOf_24 rfl (lv_at hl 3 rfl) ?_
    refine lv_aload_n hx hb dX2_loadOf_25 rfl (lv_at hl 1 rfl) ?_
    refine va_getN hx hb hts in_X8 hown hK (hR0.w hS) 6 rfl rfl 2 (by decide) (va_Nw.use rfl (hKB.nest q1115 rfl)) (fun _ h => h) rfl dX2_loadOf_26 ?_
    refine lv_iload hx hb dX2_loadOf_29 (lv_at hl 4 rfl) ?_
    refine r_sald (v := nI (pMin xs i_1266)) hx hb hK (hR0.w hS) 7 1 rfl rfl (i := i_1266) (by omega) (by omega) (hfm _ (by omega)) dX2_loadOf_31 ?_
    refine lv_aload_n hx hb dX2_loadOf_32 rfl (lv_at hl 0 rfl) ?_
    refine va_get hx hb hts in_X2 hown hK (hR0.w hS) 0 rfl rfl 3 (by decide) (hts _ q141) (fun _ h => h) rfl dX2_loadOf_33 ?_
    refine lv_aload_n hx hb dX2_loadOf_36 rfl (lv_at hl 0 rfl) ?_
    refine lv_iload_n hx hb dX2_loadOf_37 rfl (lv_at hl 2 rfl) ?_
    refine lv_aload_n hx hb dX2_loadOf_38 rfl (lv_at hl 1 rfl) ?_
    refine va_getN hx hb hts in_X8 hown hK (hR0.w hS) 6 rfl rfl 3 (by decide) (va_Nw.use rfl (hKB.nest q1117 rfl)) (fun _ h => h) rfl dX2_loadOf_39 ?_
    refine lv_iload hx hb dX2_loadOf_42 (lv_at hl 4 rfl) ?_
    refine r_sald (v := nI (pInt xs i_1266)) hx hb hK (hR0.w hS) 8 1 rfl rfl (i := i_1266) (by omega) (by omega) (hfi _ (by omega)) dX2_loadOf_44 ?_
    have hF := hF_of (wc := []) hD hS hA [] rfl
    have hro_1269 : va_P G.1 CL [(b, .inr (1, [.ref to, .ref so, .ref bo, .ref we, .ref tg, .int (nI (bD B)), .int (nI (bI9 B)), .int (oI (bP B)), .int (nI (bE B)), .int (nI kn), .ref lo, .ref fi, .ref fa])), (bo, .inl (G.2 0, 6, .inl fb))] H := ((hR0.w hS).sub [0, 4] rfl)
    refine go_ct hS hP hD [] [] hF rfl rfl (by decide) (by decide)
        (va_runV (As := [.int (nI (thr B (sDay xs))), .int (nI (pInt xs i_1266))]) (rest := [.ref we, .int (nI (pMin xs i_1266)), .int (nI (psum (fun p => pMin xs p * bW B (zoneP B xs p)) i_1266))]) cf (mX2_zoneOf l G b to so bo we tg lo fi fa kn B fb (thr B (sDay xs)) (pInt xs i_1266) (show Inv B from by first | assumption | omega) (show ∀ z, 2 ≤ z → z ≤ 5 → fb z = nI (bB B z) from by first | assumption | omega) (show 50 ≤ (thr B (sDay xs)) ∧ (thr B (sDay xs)) ≤ 400 from by first | assumption | omega) (show (pInt xs i_1266) ≤ 500 from by first | assumption | omega) H.size) (cwV 2 hts (lw_V q450 q451 q452 q48 q453) rfl rfl rfl (by decide +kernel) ⟨Nat.le_of_ble_eq_true rfl, Nat.le_of_ble_eq_true rfl⟩) (preV_of hKB hE hS hF (va_recv hK (hR0.w hS) (ci := 1) (q0 := 0) rfl rfl) (va_P.sub hP [] rfl) ((va_D.sub hD [] (by decide) rfl).weaken (fun _ _ _ _ => trivial)) (roW.nil hro_1269)) rfl rfl hl.1 rfl (lv_room (Nat.le_of_ble_eq_true rfl)) dX2_loadOf_45 ⟨show 1 + 0 ≤ 1 from by first | decide | omega, show 2 + 0 ≤ 2 from by first | decide | omega⟩)
        (fun u_ H locs hq hph (hP : va_P G.1 CL [] H) (hD : va_D A []) hS hfz hfk => ?_)
    refine W.eq (g2 := F0 m 48 ls [.int (nI (zoneB (bB B) (100 * (pInt xs i_1266) / (thr B (sDay xs))))), .ref we, .int (nI (pMin xs i_1266)), .int (nI (psum (fun p => pMin xs p * bW B (zoneP B xs p)) i_1266))]) rfl ?_
    refine lv_ton (n := (zoneP B xs i_1266)) (rfl) ?_
    refine r_iald (v := nI (bW B ((zoneP B xs i_1266)))) hx hb hK (hR0.w hS) 5 0 rfl rfl (i := (zoneP B xs i_1266)) (by omega) (by omega) (hfw _ (by omega) (by omega)) dX2_loadOf_48 ?_
    have iwz := iv_bW hI izp.1 izp.2
    have iml : pMin xs i_1266 * bW B (zoneP B xs i_1266) ≤ 120 * 100 := Nat.mul_le_mul ip2 iwz
    refine lv_imul hx hb dX2_loadOf_49 ?_
    refine lv_ton (n := ((pMin xs i_1266) * (bW B ((zoneP B xs i_1266))))) (nmul rfl) ?_
    have isl := loadS_le' hI xs (p := i_1266) (by omega)
    refine lv_iadd hx hb dX2_loadOf_50 ?_
    refine lv_ton (n := ((pMin xs i_1266) * (bW B ((zoneP B xs i_1266)))) + (psum (fun p => pMin xs p * bW B (zoneP B xs p)) i_1266)) (nadd (by omega)) ?_
    refine lv_ton (n := (psum (fun p => pMin xs p * bW B (zoneP B xs p)) (i_1266 + 1))) (congrArg nI (by rw [psum_s] <;> omega)) ?_
    refine lv_istore_n (lv' := [(3, .int (nI (psum (fun p => pMin xs p * bW B (zoneP B xs p)) (i_1266 + 1)))), (0, .ref b), (1, .ref sx), (2, .int (nI (thr B (sDay xs)))), (4, .int (nI i_1266))]) hx hb dX2_loadOf_51 rfl hl (by decide) rfl (fun ls hl => ?_)
    refine lv_iinc (v := nI (i_1266 + 1)) (lv' := [(4, .int (nI (i_1266 + 1))), (3, .int (nI (psum (fun p => pMin xs p * bW B (zoneP B xs p)) (i_1266 + 1)))), (0, .ref b), (1, .ref sx), (2, .int (nI (thr B (sDay xs))))]) hx hb dX2_loadOf_52 hl (k := 4) rfl (ninc (b := 1) (by decide) (by omega)) (by decide) rfl (fun ls hl => ?_)
    refine lv_goto (tgt := 14) hx hb dX2_loadOf_55 (by decide) ?_
    have hP : va_P G.1 CL [] H := hP.sub [] rfl
    have hD : va_D A [] := hD.sub [] (by decide) rfl
    have hl := lv_sub hl [2, 3, 4, 1, 0] (l' := [(0, .ref b), (1, .ref sx), (2, .int (nI (thr B (sDay xs)))), (3, .int (nI (psum (fun p => pMin xs p * bW B (zoneP B xs p)) (i_1266 + 1)))), (4, .int (nI (i_1266 + 1)))]) rfl
    exact W.widen (show 1 ≤ 1 from by first | exact Nat.le_refl _ | omega) (show 2 ≤ 2 from by first | exact Nat.le_refl _ | omega) (ih14 (i_1266 + 1) H locs ls ⟨hP, hD, hS, hl, (show (i_1266 + 1) ≤ nP xs from by omega)⟩ (show nP xs - (i_1266 + 1) < nP xs - i_1266 from by omega))

set_option maxHeartbeats 4000000 in
theorem mX2_minutesInZone (l : Launch) (G : Gt) (b : Nat) (to : Nat) (so : Nat) (bo : Nat) (we : Nat) (tg : Nat) (lo : Nat) (fi : Nat) (fa : Nat) (kn : Nat) (B : Bk) (ta : Nat) (tm : Int32) (te : Nat) (tcap : Nat) (tf : Nat → Option Nat) (ga : Nat → Nat) (Wi : va_W) (fb : Nat → Int32) (sx : Nat) (xs : Sess) (mi : Nat) (it : Nat) (fm : Nat → Int32) (fi9 : Nat → Int32) (z : Nat) (hI : Inv B) (htc : tN B ≤ tcap ∧ tcap ≤ 60) (hT : ∀ j, j < tN B → tf j = some (ga j) ∧ TestIn Wi (ga j) (tDay B j) (tThr B j)) (hso : SrtT B) (hfb : ∀ z, 2 ≤ z → z ≤ 5 → fb z = nI (bB B z)) (hX : InvS B xs) (hfm : ∀ p, p < nP xs → fm p = nI (pMin xs p)) (hfi : ∀ p, p < nP xs → fi9 p = nI (pInt xs p)) (hz : z ≤ 5) : CT l G yX2_minutesInZone cX2_minutesInZone 6 (some .int) ({ frames := 8, cells := 1, slots := 2, locals := 163 } : Room) [.ref b, .ref sx, .int (nI z)] [] (fun (A : Nat → Prop) (H : Heap) => roW G A H [(b, .inr (1, [.ref to, .ref so, .ref bo, .ref we, .ref tg, .int (nI (bD B)), .int (nI (bI9 B)), .int (oI (bP B)), .int (nI (bE B)), .int (nI kn), .ref lo, .ref fi, .ref fa])), (to, .inr (2, [.ref ta])), (ta, .inr (3, [.int tm, .ref te, .int (nI (tN B))])), (te, .inl (G.2 3, tcap, .inr (.inr (.inr (.inr tf))))), (bo, .inl (G.2 0, 6, .inl fb)), (sx, .inr (9, [.int (nI (sDay xs)), .int (nI (sId xs)), .ref mi, .ref it])), (mi, .inl (G.2 1, (nP xs), .inl fm)), (it, .inl (G.2 1, (nP xs), .inl fi9))] ∧ roW G A H Wi) (S := Unit) (fun (u_ : Unit) => some (.int (nI (zMin B xs z)))) (fun (u_ : Unit) => True) (fun (u_ : Unit) => []) (fun (u_ : Unit) (H : Heap) => True) := by
  refine CT.of (by decide) (Nat.le_of_ble_eq_true rfl) ?_
  intro p e s m below meth c ls A H locs h9 hH0 hP hS
  obtain ⟨cf, hr, hlk, hnm, hKB, hE, -, hD, -, hA, hAw, ⟨hR0, hR1⟩, hl⟩ := h9
  have hx := cf.1
  have hb := cf.2.1
  have hml := cf.2.2.1
  have hown : s.vm.findClass RX2 = some m.cls := cf.2.2.2.1
  have hts := cf.2.2.2.2
  have hK := hKB.1
  have hl : lv_has ls 6 [(0, .ref b), (1, .ref sx), (2, .int (nI z))] := hl
  have iT := iv_tN hI
  have iN := iv_sN hI
  have iD := iv_bD hI
  have iId := iv_id hI
  have iE := iv_bE hI
  obtain ⟨iS1, iS2, iS3, iS4, iS5⟩ := hX
  have iTh := thr_ok hI (sDay xs)
  refine lv_aload_n hx hb dX2_minutesInZone_0 rfl (lv_at hl 0 rfl) ?_
  refine lv_aload_n hx hb dX2_minutesInZone_1 rfl (lv_at hl 1 rfl) ?_
  have hF := hF_of (wc := []) hD hS hA [] rfl
  have hro_1270 : va_P G.1 CL [(sx, .inr (9, [.int (nI (sDay xs)), .int (nI (sId xs)), .ref mi, .ref it]))] H := ((hR0.w hS).sub [5] rfl)
  refine go_ct hS hP hD [] [] hF rfl rfl (by decide) (by decide)
      (va_runU (As := []) (rest := [.ref b]) cf (mX6_dayS l G sx (sDay xs) (sId xs) mi it  H.size) (va_cwU (owner := "TrainingDiary$Dated") 0 hts (lw_U q419 q420 q422 q423 q72 q424) rfl rfl rfl rfl (by decide +kernel) ⟨Nat.le_of_ble_eq_true rfl, Nat.le_of_ble_eq_true rfl⟩) (preV_of hKB hE hS hF (va_recv hK (hR0.w hS) (ci := 9) (q0 := 5) rfl rfl) (va_P.sub hP [] rfl) ((va_D.sub hD [] (by decide) rfl).weaken (fun _ _ _ _ => trivial)) (roW.nil hro_1270)) rfl rfl hl.1 rfl (lv_room (Nat.le_of_ble_eq_true rfl)) dX2_minutesInZone_2 ⟨show 0 + 0 ≤ 1 from by first | decide | omega, show 0 + 0 ≤ 2 from by first | decide | omega⟩)
      (fun u_ H locs hq hph (hP : va_P G.1 CL [] H) (hD : va_D A []) hS hfz hfk => ?_)
  refine W.eq (g2 := F0 m 5 ls [.int (nI (sDay xs)), .ref b]) rfl ?_
  have hF := hF_of (wc := []) hD hS hA [] rfl
  have hro_1271 : va_P G.1 CL [(b, .inr (1, [.ref to, .ref so, .ref bo, .ref we, .ref tg, .int (nI (bD B)), .int (nI (bI9 B)), .int (oI (bP B)), .int (nI (bE B)), .int (nI kn), .ref lo, .ref fi, .ref fa])), (to, .inr (2, [.ref ta])), (ta, .inr (3, [.int tm, .ref te, .int (nI (tN B))])), (te, .inl (G.2 3, tcap, .inr (.inr (.inr (.inr tf)))))] H := ((hR0.w hS).sub [0, 1, 2, 3] rfl)
  refine go_ct hS hP hD [] [] hF rfl rfl (by decide) (by decide)
      (va_runV (As := [.int (nI (sDay xs))]) (rest := []) cf (mX2_thresholdOn l G b to so bo we tg lo fi fa kn B ta tm te tcap tf ga Wi (sDay xs) (show Inv B from by first | assumption | omega) (show tN B ≤ tcap ∧ tcap ≤ 60 from by first | assumption | omega) (show ∀ j, j < tN B → tf j = some (ga j) ∧ TestIn Wi (ga j) (tDay B j) (tThr B j) from by first | assumption | omega) (show SrtT B from by first | assumption | omega) (show (sDay xs) < 2 ^ 31 from by first | assumption | omega) H.size) (cwV 1 hts (lw_V q429 q430 q431 q48 q432) rfl rfl rfl (by decide +kernel) ⟨Nat.le_of_ble_eq_true rfl, Nat.le_of_ble_eq_true rfl⟩) (preV_of hKB hE hS hF (va_recv hK (hR0.w hS) (ci := 1) (q0 := 0) rfl rfl) (va_P.sub hP [] rfl) ((va_D.sub hD [] (by decide) rfl).weaken (fun _ _ _ _ => trivial)) ⟨(roW.nil hro_1271), (roW.nil (hR1.w hS))⟩) rfl rfl hl.1 rfl (lv_room (Nat.le_of_ble_eq_true rfl)) dX2_minutesInZone_5 ⟨show 0 + 1 ≤ 1 from by first | decide | omega, show 0 + 2 ≤ 2 from by first | decide | omega⟩)
      (fun u_ H locs hq hph (hP : va_P G.1 CL [] H) (hD : va_D A []) hS hfz hfk => ?_)
  refine W.eq (g2 := F0 m 8 ls [.int (nI (thr B (sDay xs)))]) rfl ?_
  refine lv_istore_n (lv' := [(3, .int (nI (thr B (sDay xs)))), (0, .ref b), (1, .ref sx), (2, .int (nI z))]) hx hb dX2_minutesInZone_8 rfl hl (by decide) rfl (fun ls hl => ?_)
  refine lv_iconst (v := nI 0) hx hb dX2_minutesInZone_9 (by decide) ?_
  refine lv_istore (lv' := [(4, .int (nI 0)), (3, .int (nI (thr B (sDay xs)))), (0, .ref b), (1, .ref sx), (2, .int (nI z))]) hx hb dX2_minutesInZone_10 hl (by decide) rfl (fun ls hl => ?_)
  refine lv_iconst (v := nI 0) hx hb dX2_minutesInZone_12 (by decide) ?_
  refine lv_istore (lv' := [(5, .int (nI 0)), (4, .int (nI 0)), (3, .int (nI (thr B (sDay xs)))), (0, .ref b), (1, .ref sx), (2, .int (nI z))]) hx hb dX2_minutesInZone_13 hl (by decide) rfl (fun ls hl => ?_)
  have hl := lv_sub hl [3, 4, 5, 2, 1, 0] (l' := [(0, .ref b), (1, .ref sx), (2, .int (nI z)), (3, .int (nI (thr B (sDay xs)))), (4, .int (nI (psum (zS B xs z) 0))), (5, .int (nI 0))]) rfl
  refine lp_W (σ := Nat) (hpc := 15) (fun x => nP xs - x) (fun x => 1) (fun x => 2) (fun x H locs ls => va_P G.1 CL [] H ∧ va_D A [] ∧ va_S A s.heap H locs ∧ lv_has ls 6 [(0, .ref b), (1, .ref sx), (2, .int (nI z)), (3, .int (nI (thr B (sDay xs)))), (4, .int (nI (psum (zS B xs z) x))), (5, .int (nI x))] ∧ (x ≤ nP xs)) ?_ (0) ⟨(show va_P G.1 CL [] H from hP), (show va_D A [] from hD), hS, hl, (show 0 ≤ nP xs from by omega)⟩ (show 0 + 1 ≤ 1 from by first | exact Nat.le_refl _ | omega) (show 0 + 2 ≤ 2 from by first | exact Nat.le_refl _ | omega)
  intro x H locs ls hI9 ih15
  obtain ⟨i_1273, rfl⟩ : ∃ z, z = x := ⟨_, rfl⟩
  obtain ⟨hP, hD, hS, hl, hp_1272⟩ := hI9
  have hP : va_P G.1 CL [] H := hP
  have hD : va_D A [] := hD
  have hl : lv_has ls 6 [(0, .ref b), (1, .ref sx), (2, .int (nI z)), (3, .int (nI (thr B (sDay xs)))), (4, .int (nI (psum (zS B xs z) i_1273))), (5, .int (nI i_1273))] := hl
  have hp_1272 : i_1273 ≤ nP xs := hp_1272
  refine W.widen (k := 1) (n := 2) (Nat.le_refl _) (Nat.le_refl _) ?_
  refine lv_iload hx hb dX2_minutesInZone_15 (lv_at hl 5 rfl) ?_
  refine lv_aload_n hx hb dX2_minutesInZone_17 rfl (lv_at hl 1 rfl) ?_
  refine va_getN hx hb hts in_X8 hown hK (hR0.w hS) 5 rfl rfl 2 (by decide) (va_Nw.use rfl (hKB.nest q1115 rfl)) (fun _ h => h) rfl dX2_minutesInZone_18 ?_
  refine r_alen hx hb hK (hR0.w hS) 6 1 rfl rfl dX2_minutesInZone_21 ?_
  refine n_icmp_ge (tgt := 63) hx hb (by omega) (by omega) dX2_minutesInZone_22 (by decide) (fun c_1275 => ?_) (fun c_1275 => ?_)
  · refine lv_iload hx hb dX2_minutesInZone_63 (lv_at hl 4 rfl) ?_
    have hP9 : va_P G.1 CL [] H := hP.sub [] rfl
    have hD9 : va_D A [] := hD.sub [] (by decide) rfl
    exact end_i hx hb hr hlk (rfl) (qc_of () (v := some (.int (nI (psum (zS B xs z) i_1273)))) (by rw [show i_1273 = nP xs by omega] <;> rfl) (trivial) hP9 hD9 (trivial) hS) hS dX2_minutesInZone_65 (show 1 ≤ 1 from by first | exact Nat.le_refl _ | decide | omega) (show 2 ≤ 2 from by first | exact Nat.le_refl _ | decide | omega)
  · obtain ⟨ip1, ip2, ip3⟩ := iS5 i_1273 (by omega)
    have izp := zoneP_ok B xs i_1273
    refine lv_iload hx hb dX2_minutesInZone_25 (lv_at hl 4 rfl) ?_
    refine lv_aload_n hx hb dX2_minutesInZone_27 rfl (lv_at hl 0 rfl) ?_
    refine lv_iload_n hx hb dX2_minutesInZone_28 rfl (lv_at hl 3 rfl) ?_
    refine lv_aload_n hx hb dX2_minutesInZone_29 rfl (lv_at hl 1 rfl) ?_
    refine va_getN hx hb hts in_X8 hown hK (hR0.w hS) 5 rfl rfl 3 (by decide) (va_Nw.use rfl (hKB.nest q1117 rfl)) (fun _ h => h) rfl dX2_minutesInZone_30 ?_
    refine lv_iload hx hb dX2_minutesInZone_33 (lv_at hl 5 rfl) ?_
    refine r_sald (v := nI (pInt xs i_1273)) hx hb hK (hR0.w hS) 7 1 rfl rfl (i := i_1273) (by omega) (by omega) (hfi _ (by omega)) dX2_minutesInZone_35 ?_
    have hF := hF_of (wc := []) hD hS hA [] rfl
    have hro_1276 : va_P G.1 CL [(b, .inr (1, [.ref to, .ref so, .ref bo, .ref we, .ref tg, .int (nI (bD B)), .int (nI (bI9 B)), .int (oI (bP B)), .int (nI (bE B)), .int (nI kn), .ref lo, .ref fi, .ref fa])), (bo, .inl (G.2 0, 6, .inl fb))] H := ((hR0.w hS).sub [0, 4] rfl)
    refine go_ct hS hP hD [] [] hF rfl rfl (by decide) (by decide)
        (va_runV (As := [.int (nI (thr B (sDay xs))), .int (nI (pInt xs i_1273))]) (rest := [.int (nI (psum (zS B xs z) i_1273))]) cf (mX2_zoneOf l G b to so bo we tg lo fi fa kn B fb (thr B (sDay xs)) (pInt xs i_1273) (show Inv B from by first | assumption | omega) (show ∀ z, 2 ≤ z → z ≤ 5 → fb z = nI (bB B z) from by first | assumption | omega) (show 50 ≤ (thr B (sDay xs)) ∧ (thr B (sDay xs)) ≤ 400 from by first | assumption | omega) (show (pInt xs i_1273) ≤ 500 from by first | assumption | omega) H.size) (cwV 2 hts (lw_V q450 q451 q452 q48 q453) rfl rfl rfl (by decide +kernel) ⟨Nat.le_of_ble_eq_true rfl, Nat.le_of_ble_eq_true rfl⟩) (preV_of hKB hE hS hF (va_recv hK (hR0.w hS) (ci := 1) (q0 := 0) rfl rfl) (va_P.sub hP [] rfl) ((va_D.sub hD [] (by decide) rfl).weaken (fun _ _ _ _ => trivial)) (roW.nil hro_1276)) rfl rfl hl.1 rfl (lv_room (Nat.le_of_ble_eq_true rfl)) dX2_minutesInZone_36 ⟨show 1 + 0 ≤ 1 from by first | decide | omega, show 2 + 0 ≤ 2 from by first | decide | omega⟩)
        (fun u_ H locs hq hph (hP : va_P G.1 CL [] H) (hD : va_D A []) hS hfz hfk => ?_)
    refine W.eq (g2 := F0 m 39 ls [.int (nI (zoneB (bB B) (100 * (pInt xs i_1273) / (thr B (sDay xs))))), .int (nI (psum (zS B xs z) i_1273))]) rfl ?_
    refine lv_ton (n := (zoneP B xs i_1273)) (rfl) ?_
    refine lv_iload_n hx hb dX2_minutesInZone_39 rfl (lv_at hl 2 rfl) ?_
    refine n_icmp_ne (tgt := 53) hx hb (by omega) (by omega) dX2_minutesInZone_40 (by decide) (fun c_1278 => ?_) (fun c_1278 => ?_)
    · refine lv_iconst (v := nI 0) hx hb dX2_minutesInZone_53 (by decide) ?_
      refine lv_ton (n := (zS B xs z i_1273)) (congrArg nI (show _ = (if zoneP B xs i_1273 = z then pMin xs i_1273 else (0 : Nat)) by rw [if_neg (by omega)])) ?_
      have izl := zS_le B xs z (p := i_1273) (by omega)
      have izw : zS B xs z i_1273 ≤ 120 := by unfold zS; split <;> omega
      refine lv_iadd hx hb dX2_minutesInZone_54 ?_
      refine lv_ton (n := (psum (zS B xs z) i_1273) + (zS B xs z i_1273)) (nadd (by omega)) ?_
      refine lv_ton (n := (psum (zS B xs z) (i_1273 + 1))) (congrArg nI (by rw [psum_s] <;> omega)) ?_
      refine lv_istore (lv' := [(4, .int (nI (psum (zS B xs z) (i_1273 + 1)))), (0, .ref b), (1, .ref sx), (2, .int (nI z)), (3, .int (nI (thr B (sDay xs)))), (5, .int (nI i_1273))]) hx hb dX2_minutesInZone_55 hl (by decide) rfl (fun ls hl => ?_)
      refine lv_iinc (v := nI (i_1273 + 1)) (lv' := [(5, .int (nI (i_1273 + 1))), (4, .int (nI (psum (zS B xs z) (i_1273 + 1)))), (0, .ref b), (1, .ref sx), (2, .int (nI z)), (3, .int (nI (thr B (sDay xs))))]) hx hb dX2_minutesInZone_57 hl (k := 5) rfl (ninc (b := 1) (by decide) (by omega)) (by decide) rfl (fun ls hl => ?_)
      refine lv_goto (tgt := 15) hx hb dX2_minutesInZone_60 (by decide) ?_
      have hP : va_P G.1 CL [] H := hP.sub [] rfl
      have hD : va_D A [] := hD.sub [] (by decide) rfl
      have hl := lv_sub hl [2, 3, 4, 5, 1, 0] (l' := [(0, .ref b), (1, .ref sx), (2, .int (nI z)), (3, .int (nI (thr B (sDay xs)))), (4, .int (nI (psum (zS B xs z) (i_1273 + 1)))), (5, .int (nI (i_1273 + 1)))]) rfl
      exact W.widen (show 1 ≤ 1 from by first | exact Nat.le_refl _ | omega) (show 2 ≤ 2 from by first | exact Nat.le_refl _ | omega) (ih15 (i_1273 + 1) H locs ls ⟨hP, hD, hS, hl, (show (i_1273 + 1) ≤ nP xs from by omega)⟩ (show nP xs - (i_1273 + 1) < nP xs - i_1273 from by omega))
    · refine lv_aload_n hx hb dX2_minutesInZone_43 rfl (lv_at hl 1 rfl) ?_
      refine va_getN hx hb hts in_X8 hown hK (hR0.w hS) 5 rfl rfl 2 (by decide) (va_Nw.use rfl (hKB.nest q1115 rfl)) (fun _ h => h) rfl dX2_minutesInZone_44 ?_
      refine lv_iload hx hb dX2_minutesInZone_47 (lv_at hl 5 rfl) ?_
      refine r_sald (v := nI (pMin xs i_1273)) hx hb hK (hR0.w hS) 6 1 rfl rfl (i := i_1273) (by omega) (by omega) (hfm _ (by omega)) dX2_minutesInZone_49 ?_
      refine lv_goto (tgt := 54) hx hb dX2_minutesInZone_50 (by decide) ?_
      refine lv_ton (n := (zS B xs z i_1273)) (congrArg nI (show _ = (if zoneP B xs i_1273 = z then pMin xs i_1273 else (0 : Nat)) by rw [if_pos (by omega)])) ?_
      have izl := zS_le B xs z (p := i_1273) (by omega)
      have izw : zS B xs z i_1273 ≤ 120 := by unfold zS; split <;> omega
      refine lv_iadd hx hb dX2_minutesInZone_54 ?_
      refine lv_ton (n := (psum (zS B xs z) i_1273) + (zS B xs z i_1273)) (nadd (by omega)) ?_
      refine lv_ton (n := (psum (zS B xs z) (i_1273 + 1))) (congrArg nI (by rw [psum_s] <;> omega)) ?_
      refine lv_istore (lv' := [(4, .int (nI (psum (zS B xs z) (i_1273 + 1)))), (0, .ref b), (1, .ref sx), (2, .int (nI z)), (3, .int (nI (thr B (sDay xs)))), (5, .int (nI i_1273))]) hx hb dX2_minutesInZone_55 hl (by decide) rfl (fun ls hl => ?_)
      refine lv_iinc (v := nI (i_1273 + 1)) (lv' := [(5, .int (nI (i_1273 + 1))), (4, .int (nI (psum (zS B xs z) (i_1273 + 1)))), (0, .ref b), (1, .ref sx), (2, .int (nI z)), (3, .int (nI (thr B (sDay xs))))]) hx hb dX2_minutesInZone_57 hl (k := 5) rfl (ninc (b := 1) (by decide) (by omega)) (by decide) rfl (fun ls hl => ?_)
      refine lv_goto (tgt := 15) hx hb dX2_minutesInZone_60 (by decide) ?_
      have hP : va_P G.1 CL [] H := hP.sub [] rfl
      have hD : va_D A [] := hD.sub [] (by decide) rfl
      have hl := lv_sub hl [2, 3, 4, 5, 1, 0] (l' := [(0, .ref b), (1, .ref sx), (2, .int (nI z)), (3, .int (nI (thr B (sDay xs)))), (4, .int (nI (psum (zS B xs z) (i_1273 + 1)))), (5, .int (nI (i_1273 + 1)))]) rfl
      exact W.widen (show 1 ≤ 1 from by first | exact Nat.le_refl _ | omega) (show 2 ≤ 2 from by first | exact Nat.le_refl _ | omega) (ih15 (i_1273 + 1) H locs ls ⟨hP, hD, hS, hl, (show (i_1273 + 1) ≤ nP xs from by omega)⟩ (show nP xs - (i_1273 + 1) < nP xs - i_1273 from by omega))

/-- a session among the cells of a world -/
def SesIn (G : Gt) (Wi : va_W) (y : Nat) (x : Sess) : Prop := ∃ (mi it : Nat) (fm fi : Nat → Int32), (y, Sum.inr (9, [Value.int (nI (sDay x)), Value.int (nI (sId x)), Value.ref mi, Value.ref it])) ∈ Wi ∧ (mi, Sum.inl (G.2 1, nP x, Sum.inl fm)) ∈ Wi ∧ (it, Sum.inl (G.2 1, nP x, Sum.inl fi)) ∈ Wi ∧ (∀ p, p < nP x → fm p = nI (pMin x p)) ∧ ∀ p, p < nP x → fi p = nI (pInt x p)
def lS9 (B : Bk) (d k : Nat) : Nat := if sDay (sAt B k) = d then loadS B (sAt B k) else 0
theorem lS9_le {B : Bk} (hI : Inv B) (d : Nat) {k : Nat} (hk : k ≤ sN B) : psum (lS9 B d) k ≤ 24000 * k := loadD_le' hI d hk

set_option maxHeartbeats 4000000 in
theorem mX2_loadFromSessions (l : Launch) (G : Gt) (b : Nat) (to : Nat) (so : Nat) (bo : Nat) (we : Nat) (tg : Nat) (lo : Nat) (fi : Nat) (fa : Nat) (kn : Nat) (B : Bk) (ta : Nat) (tm : Int32) (te : Nat) (tcap : Nat) (tf : Nat → Option Nat) (ga : Nat → Nat) (sa : Nat) (sm : Int32) (se : Nat) (scap : Nat) (sf : Nat → Option Nat) (gs : Nat → Nat) (Wi : va_W) (fb : Nat → Int32) (fw : Nat → Int32) (d : Nat) (hI : Inv B) (htc : tN B ≤ tcap ∧ tcap ≤ 60) (hT : ∀ j, j < tN B → tf j = some (ga j) ∧ TestIn Wi (ga j) (tDay B j) (tThr B j)) (hso : SrtT B) (hfb : ∀ z, 2 ≤ z → z ≤ 5 → fb z = nI (bB B z)) (hfw : ∀ z, 1 ≤ z → z ≤ 5 → fw z = nI (bW B z)) (hsc : sN B ≤ scap ∧ scap ≤ 60) (hSs : ∀ j, j < sN B → sf j = some (gs j) ∧ SesIn G Wi (gs j) (sAt B j)) (hss : SrtS B) (hd : d < 2 ^ 31) : CT l G yX2_loadFromSessions cX2_loadFromSessions 5 (some .int) ({ frames := 9, cells := 41, slots := 82, locals := 187 } : Room) [.ref b, .int (nI d)] [] (fun (A : Nat → Prop) (H : Heap) => roW G A H [(b, .inr (1, [.ref to, .ref so, .ref bo, .ref we, .ref tg, .int (nI (bD B)), .int (nI (bI9 B)), .int (oI (bP B)), .int (nI (bE B)), .int (nI kn), .ref lo, .ref fi, .ref fa])), (to, .inr (2, [.ref ta])), (ta, .inr (3, [.int tm, .ref te, .int (nI (tN B))])), (te, .inl (G.2 3, tcap, .inr (.inr (.inr (.inr tf))))), (so, .inr (2, [.ref sa])), (sa, .inr (3, [.int sm, .ref se, .int (nI (sN B))])), (se, .inl (G.2 3, scap, .inr (.inr (.inr (.inr sf))))), (bo, .inl (G.2 0, 6, .inl fb)), (we, .inl (G.2 0, 6, .inl fw))] ∧ roW G A H Wi) (S := Unit) (fun (u_ : Unit) => some (.int (nI (loadD B d)))) (fun (u_ : Unit) => True) (fun (u_ : Unit) => []) (fun (u_ : Unit) (H : Heap) => True) := by
  refine CT.of (by decide) (Nat.le_of_ble_eq_true rfl) ?_
  intro p e s m below meth c ls A H locs h9 hH0 hP hS
  obtain ⟨cf, hr, hlk, hnm, hKB, hE, -, hD, -, hA, hAw, ⟨hR0, hR1⟩, hl⟩ := h9
  have hx := cf.1
  have hb := cf.2.1
  have hml := cf.2.2.1
  have hown : s.vm.findClass RX2 = some m.cls := cf.2.2.2.1
  have hts := cf.2.2.2.2
  have hK := hKB.1
  have hl : lv_has ls 5 [(0, .ref b), (1, .int (nI d))] := hl
  have iT := iv_tN hI
  have iN := iv_sN hI
  have iD := iv_bD hI
  have iId := iv_id hI
  have iE := iv_bE hI
  refine lv_iconst (v := nI 0) hx hb dX2_loadFromSessions_0 (by decide) ?_
  refine lv_istore_n (lv' := [(2, .int (nI 0)), (0, .ref b), (1, .int (nI d))]) hx hb dX2_loadFromSessions_1 rfl hl (by decide) rfl (fun ls hl => ?_)
  refine lv_aload_n hx hb dX2_loadFromSessions_2 rfl (lv_at hl 1 rfl) ?_
  refine va_get hx hb hts in_X2 hown hK (hR0.w hS) 0 rfl rfl 1 (by decide) (hts _ q137) (fun _ h => h) rfl dX2_loadFromSessions_3 ?_
  have hF := hF_of (wc := []) hD hS hA [] rfl
  refine go_ct hS hP hD [] [] hF rfl rfl (by decide) (by decide)
      (va_runV (As := []) (rest := []) cf (mX3_iterator l G so  H.size) (cwV 0 hts (lw_V q287 q288 q289 q49 q290) rfl rfl rfl (by decide +kernel) ⟨Nat.le_of_ble_eq_true rfl, Nat.le_of_ble_eq_true rfl⟩) (preV_of hKB hE hS hF (va_recv hK (hR0.w hS) (ci := 2) (q0 := 4) rfl rfl) (va_P.sub hP [] rfl) ((va_D.sub hD [] (by decide) rfl).weaken (fun _ _ _ _ => trivial)) trivial) rfl rfl hl.1 rfl (lv_room (Nat.le_of_ble_eq_true rfl)) dX2_loadFromSessions_6 ⟨show 0 + 1 ≤ 41 from by first | decide | omega, show 0 + 2 ≤ 82 from by first | decide | omega⟩)
      (fun u_ H locs hq hph (hP : va_P G.1 CL [(u_, .inr (7, [.int (nI 0), .ref so]))] H) (hD : va_D A [(u_, .inr (7, [.int (nI 0), .ref so]))]) hS hfz hfk => ?_)
  obtain ⟨qw_1279, rfl⟩ : ∃ z, z = u_ := ⟨_, rfl⟩
  have hP : va_P G.1 CL [(qw_1279, .inr (7, [.int (nI 0), .ref so]))] H := hP
  have hD : va_D A [(qw_1279, .inr (7, [.int (nI 0), .ref so]))] := hD
  refine W.eq (g2 := F0 m 9 ls [.ref qw_1279]) rfl ?_
  refine lv_astore_n (lv' := [(3, .ref qw_1279), (2, .int (nI 0)), (0, .ref b), (1, .int (nI d))]) hx hb dX2_loadFromSessions_9 rfl hl (by decide) rfl (fun ls hl => ?_)
  have hl := lv_sub hl [2, 3, 1, 0] (l' := [(0, .ref b), (1, .int (nI d)), (2, .int (nI (psum (lS9 B d) 0))), (3, .ref qw_1279)]) rfl
  refine lp_W (σ := Nat) (hpc := 10) (fun x => sN B - x) (fun x => 1 + x) (fun x => 2 + 2 * x) (fun x H locs ls => va_P G.1 CL [(qw_1279, .inr (7, [.int (nI x), .ref so]))] H ∧ va_D A [(qw_1279, .inr (7, [.int (nI x), .ref so]))] ∧ va_S A s.heap H locs ∧ lv_has ls 5 [(0, .ref b), (1, .int (nI d)), (2, .int (nI (psum (lS9 B d) x))), (3, .ref qw_1279)] ∧ (x ≤ sN B)) ?_ (0) ⟨(show va_P G.1 CL [(qw_1279, .inr (7, [.int (nI 0), .ref so]))] H from hP), (show va_D A [(qw_1279, .inr (7, [.int (nI 0), .ref so]))] from hD), hS, hl, (show 0 ≤ sN B from by omega)⟩ (show 0 + 1 ≤ 1 + 0 from by first | exact Nat.le_refl _ | omega) (show 0 + 2 ≤ 2 + 2 * 0 from by first | exact Nat.le_refl _ | omega)
  intro x H locs ls hI9 ih10
  obtain ⟨i_1281, rfl⟩ : ∃ z, z = x := ⟨_, rfl⟩
  obtain ⟨hP, hD, hS, hl, hp_1280⟩ := hI9
  have hP : va_P G.1 CL [(qw_1279, .inr (7, [.int (nI i_1281), .ref so]))] H := hP
  have hD : va_D A [(qw_1279, .inr (7, [.int (nI i_1281), .ref so]))] := hD
  have hl : lv_has ls 5 [(0, .ref b), (1, .int (nI d)), (2, .int (nI (psum (lS9 B d) i_1281))), (3, .ref qw_1279)] := hl
  have hp_1280 : i_1281 ≤ sN B := hp_1280
  refine W.widen (k := 1 + i_1281) (n := 2 + 2 * i_1281) (Nat.le_refl _) (Nat.le_refl _) ?_
  refine lv_aload_n hx hb dX2_loadFromSessions_10 rfl (lv_at hl 3 rfl) ?_
  have hF := hF_of (wc := []) hD hS hA [] rfl
  have hro_1282 : va_P G.1 CL [(qw_1279, .inr (7, [.int (nI i_1281), .ref so])), (so, .inr (2, [.ref sa])), (sa, .inr (3, [.int sm, .ref se, .int (nI (sN B))])), (se, .inl (G.2 3, scap, .inr (.inr (.inr (.inr sf)))))] H := ((va_P.sub hP [0] rfl).app ((hR0.w hS).sub [4, 5, 6] rfl))
  refine go_ct5 hS hP hD [] [0] hF rfl rfl (by decide) (by decide)
      (va_runF (hK.1 7 _ rfl).2 (As := []) (rest := []) cf (mX5_hasNext l G qw_1279 i_1281 so sa sm se (sN B) scap sf (hsc.1) (hsc.2) (show i_1281 ≤ (sN B) from by first | assumption | omega) H.size) (va_cwF 0 hts (lw_F q305 q309 q311 q59 q313) rfl rfl rfl hKB.2.2.2.1 (by decide +kernel) ⟨Nat.le_of_ble_eq_true rfl, Nat.le_of_ble_eq_true rfl⟩) (preV_of hKB hE hS hF (va_recv hK hP (ci := 7) (q0 := 0) rfl rfl) (va_P.sub hP [] rfl) ((va_D.sub hD [] (by decide) rfl).weaken (fun _ _ _ _ => trivial)) (roW.nil hro_1282)) rfl rfl hl.1 rfl (lv_room (Nat.le_of_ble_eq_true rfl)) dX2_loadFromSessions_11 ⟨show 1 + i_1281 + 0 ≤ 41 from by first | decide | omega, show 2 + 2 * i_1281 + 0 ≤ 82 from by first | decide | omega⟩)
      (fun u_ H locs hq hph (hP : va_P G.1 CL [(qw_1279, .inr (7, [.int (nI i_1281), .ref so]))] H) (hD : va_D A [(qw_1279, .inr (7, [.int (nI i_1281), .ref so]))]) hS hfz hfk => ?_)
  obtain ⟨b_1283, rfl⟩ : ∃ z, z = u_ := ⟨_, rfl⟩
  have hP : va_P G.1 CL [(qw_1279, .inr (7, [.int (nI i_1281), .ref so]))] H := hP
  have hD : va_D A [(qw_1279, .inr (7, [.int (nI i_1281), .ref so]))] := hD
  have hq_1284 : (b_1283 = true ↔ i_1281 < (sN B)) := hq
  refine W.eq (g2 := F0 m 16 ls [.int (bI b_1283)]) rfl ?_
  have hnb := hq_1284
  cases b_1283
  · refine lv_ton (n := 0) rfl ?_
    have hge9 : ¬ (i_1281 < (sN B)) := fun z => absurd (hnb.mpr z) (by decide)
    refine n_if_eq (tgt := 55) hx hb (by omega) dX2_loadFromSessions_16 (by decide) (fun c_1285 => ?_) (fun c_1285 => absurd c_1285 (by omega))
    refine lv_iload_n hx hb dX2_loadFromSessions_55 rfl (lv_at hl 2 rfl) ?_
    have hP9 : va_P G.1 CL [] H := hP.sub [] rfl
    have hD9 : va_D A [] := hD.sub [] (by decide) rfl
    exact end_i hx hb hr hlk (rfl) (qc_of () (v := some (.int (nI (psum (lS9 B d) i_1281)))) (by rw [show i_1281 = sN B by omega] <;> rfl) (trivial) hP9 hD9 (trivial) hS) hS dX2_loadFromSessions_56 (show 1 + i_1281 ≤ 41 from by first | exact Nat.le_refl _ | decide | omega) (show 2 + 2 * i_1281 ≤ 82 from by first | exact Nat.le_refl _ | decide | omega)
  · refine lv_ton (n := 1) rfl ?_
    have hlt9 := hnb.mp rfl
    refine n_if_eq (tgt := 55) hx hb (by omega) dX2_loadFromSessions_16 (by decide) (fun c_1286 => absurd c_1286 (by omega)) (fun c_1286 => ?_)
    refine lv_aload_n hx hb dX2_loadFromSessions_19 rfl (lv_at hl 3 rfl) ?_
    obtain ⟨hg9, mi9, it9, fm9, fi99, hm1, hm2, hm3, hfm9, hfi9⟩ := hSs i_1281 hlt9
    have hRm_1287 : roW G A s.heap [((gs i_1281), .inr (9, [.int (nI (sDay (sAt B i_1281))), .int (nI (sId (sAt B i_1281))), .ref mi9, .ref it9]))] := hR1.mem (hm1)
    have hRm_1288 : roW G A s.heap [(mi9, .inl (G.2 1, (nP (sAt B i_1281)), .inl fm9))] := hR1.mem (hm2)
    have hRm_1289 : roW G A s.heap [(it9, .inl (G.2 1, (nP (sAt B i_1281)), .inl fi99))] := hR1.mem (hm3)
    have iX9 := iv_ses hI (k := i_1281) hlt9
    have iXd := iX9.2.1
    have iXl := loadS_le hI iX9
    have iXs := lS9_le hI d (k := i_1281) (by omega)
    have hF := hF_of (wc := [(qw_1279, .inr (7, [.int (nI i_1281), .ref so]))]) hD hS hA [0] rfl
    have hro_1290 : roW G (va_A [(qw_1279, .inr (7, [.int (nI i_1281), .ref so]))] H.size) H [(so, .inr (2, [.ref sa])), (sa, .inr (3, [.int sm, .ref se, .int (nI (sN B))])), (se, .inl (G.2 3, scap, .inr (.inr (.inr (.inr sf)))))] := ((hR0.kp hF hS.2.1).sub (ws' := [(so, .inr (2, [.ref sa])), (sa, .inr (3, [.int sm, .ref se, .int (nI (sN B))])), (se, .inl (G.2 3, scap, .inr (.inr (.inr (.inr sf)))))]) [4, 5, 6] rfl)
    refine go_ct5 hS hP hD [0] [] hF rfl rfl (by decide) (by decide)
        (va_runF (hK.1 7 _ rfl).2 (As := []) (rest := []) cf (mX5_nextS l G qw_1279 i_1281 so sa sm se (sN B) scap sf (gs i_1281) ([.int (nI (sDay (sAt B i_1281))), .int (nI (sId (sAt B i_1281))), .ref mi9, .ref it9]) Wi (hsc.1) (hsc.2) (show i_1281 < (sN B) from by first | assumption | omega) (hg9) (hm1) H.size) (va_cwF 0 hts (lw_F q316 q319 q321 q59 q323) rfl rfl rfl hKB.2.2.2.2.1 (by decide +kernel) ⟨Nat.le_of_ble_eq_true rfl, Nat.le_of_ble_eq_true rfl⟩) (preV_of hKB hE hS hF (va_recv hK hP (ci := 7) (q0 := 0) rfl rfl) (va_P.sub hP [0] rfl) ((va_D.sub hD [0] (by decide) rfl).weaken (fun _ _ _ _ => trivial)) ⟨hro_1290, (hR1.kp hF hS.2.1)⟩) rfl rfl hl.1 rfl (lv_room (Nat.le_of_ble_eq_true rfl)) dX2_loadFromSessions_20 ⟨show 1 + i_1281 + 0 ≤ 41 from by first | decide | omega, show 2 + 2 * i_1281 + 0 ≤ 82 from by first | decide | omega⟩)
        (fun u_ H locs hq hph (hP : va_P G.1 CL [(qw_1279, .inr (7, [.int (nI (i_1281 + 1)), .ref so]))] H) (hD : va_D A [(qw_1279, .inr (7, [.int (nI (i_1281 + 1)), .ref so]))]) hS hfz hfk => ?_)
    refine W.eq (g2 := F0 m 25 ls [.ref (gs i_1281)]) rfl ?_
    refine va_castS hx hb hown (hts _ q418) (hK.1 9 _ rfl).2 (va_recv hK (hRm_1287.w hS) (ci := 9) (q0 := 0) rfl rfl) dX2_loadFromSessions_25 ?_
    refine lv_astore (lv' := [(4, .ref (gs i_1281)), (0, .ref b), (1, .int (nI d)), (2, .int (nI (psum (lS9 B d) i_1281))), (3, .ref qw_1279)]) hx hb dX2_loadFromSessions_28 hl (by decide) rfl (fun ls hl => ?_)
    refine lv_iload_n hx hb dX2_loadFromSessions_30 rfl (lv_at hl 3 rfl) ?_
    refine lv_aload hx hb dX2_loadFromSessions_31 (lv_at hl 0 rfl) ?_
    have hF := hF_of (wc := []) hD hS hA [] rfl
    have hro_1291 : va_P G.1 CL [(gs i_1281, .inr (9, [.int (nI (sDay (sAt B i_1281))), .int (nI (sId (sAt B i_1281))), .ref mi9, .ref it9]))] H := ((hRm_1287.w hS).sub [0] rfl)
    refine go_ct hS hP hD [] [0] hF rfl rfl (by decide) (by decide)
        (va_runU (As := []) (rest := [.int (nI (psum (lS9 B d) i_1281))]) cf (mX6_dayS l G (gs i_1281) (sDay (sAt B i_1281)) (sId (sAt B i_1281)) mi9 it9  H.size) (va_cwU (owner := "TrainingDiary$Dated") 0 hts (lw_U q419 q420 q422 q423 q72 q424) rfl rfl rfl rfl (by decide +kernel) ⟨Nat.le_of_ble_eq_true rfl, Nat.le_of_ble_eq_true rfl⟩) (preV_of hKB hE hS hF (va_recv hK (hRm_1287.w hS) (ci := 9) (q0 := 0) rfl rfl) (va_P.sub hP [] rfl) ((va_D.sub hD [] (by decide) rfl).weaken (fun _ _ _ _ => trivial)) (roW.nil hro_1291)) rfl rfl hl.1 rfl (lv_room (Nat.le_of_ble_eq_true rfl)) dX2_loadFromSessions_33 ⟨show 1 + i_1281 + 0 ≤ 41 from by first | decide | omega, show 2 + 2 * i_1281 + 0 ≤ 82 from by first | decide | omega⟩)
        (fun u_ H locs hq hph (hP : va_P G.1 CL [(qw_1279, .inr (7, [.int (nI (i_1281 + 1)), .ref so]))] H) (hD : va_D A [(qw_1279, .inr (7, [.int (nI (i_1281 + 1)), .ref so]))]) hS hfz hfk => ?_)
    refine W.eq (g2 := F0 m 36 ls [.int (nI (sDay (sAt B i_1281))), .int (nI (psum (lS9 B d) i_1281))]) rfl ?_
    refine lv_iload_n hx hb dX2_loadFromSessions_36 rfl (lv_at hl 2 rfl) ?_
    refine n_icmp_ne (tgt := 49) hx hb (by omega) (by omega) dX2_loadFromSessions_37 (by decide) (fun c_1293 => ?_) (fun c_1293 => ?_)
    · refine lv_iconst (v := nI 0) hx hb dX2_loadFromSessions_49 (by decide) ?_
      refine lv_ton (n := (lS9 B d i_1281)) (congrArg nI (show _ = (if sDay (sAt B i_1281) = d then loadS B (sAt B i_1281) else (0 : Nat)) by rw [if_neg (by omega)])) ?_
      have iXw : lS9 B d i_1281 ≤ 24000 := by unfold lS9; split <;> omega
      refine lv_iadd hx hb dX2_loadFromSessions_50 ?_
      refine lv_ton (n := (lS9 B d i_1281) + (psum (lS9 B d) i_1281)) (nadd (by omega)) ?_
      refine lv_ton (n := (psum (lS9 B d) (i_1281 + 1))) (congrArg nI (by rw [psum_s] <;> omega)) ?_
      refine lv_istore_n (lv' := [(2, .int (nI (psum (lS9 B d) (i_1281 + 1)))), (4, .ref (gs i_1281)), (0, .ref b), (1, .int (nI d)), (3, .ref qw_1279)]) hx hb dX2_loadFromSessions_51 rfl hl (by decide) rfl (fun ls hl => ?_)
      refine lv_goto (tgt := 10) hx hb dX2_loadFromSessions_52 (by decide) ?_
      have hP : va_P G.1 CL [(qw_1279, .inr (7, [.int (nI (i_1281 + 1)), .ref so]))] H := hP.sub [0] rfl
      have hD : va_D A [(qw_1279, .inr (7, [.int (nI (i_1281 + 1)), .ref so]))] := hD.sub [0] (by decide) rfl
      have hl := lv_sub hl [2, 3, 0, 4] (l' := [(0, .ref b), (1, .int (nI d)), (2, .int (nI (psum (lS9 B d) (i_1281 + 1)))), (3, .ref qw_1279)]) rfl
      exact W.widen (show 1 + i_1281 ≤ 1 + (i_1281 + 1) from by first | exact Nat.le_refl _ | omega) (show 2 + 2 * i_1281 ≤ 2 + 2 * (i_1281 + 1) from by first | exact Nat.le_refl _ | omega) (ih10 ((i_1281 + 1)) H locs ls ⟨hP, hD, hS, hl, (show (i_1281 + 1) ≤ sN B from by omega)⟩ (show sN B - (i_1281 + 1) < sN B - i_1281 from by omega))
    · refine lv_aload_n hx hb dX2_loadFromSessions_40 rfl (lv_at hl 1 rfl) ?_
      refine lv_aload hx hb dX2_loadFromSessions_41 (lv_at hl 0 rfl) ?_
      have hF := hF_of (wc := []) hD hS hA [] rfl
      have hro_1294 : va_P G.1 CL [(b, .inr (1, [.ref to, .ref so, .ref bo, .ref we, .ref tg, .int (nI (bD B)), .int (nI (bI9 B)), .int (oI (bP B)), .int (nI (bE B)), .int (nI kn), .ref lo, .ref fi, .ref fa])), (to, .inr (2, [.ref ta])), (ta, .inr (3, [.int tm, .ref te, .int (nI (tN B))])), (te, .inl (G.2 3, tcap, .inr (.inr (.inr (.inr tf))))), (bo, .inl (G.2 0, 6, .inl fb)), (we, .inl (G.2 0, 6, .inl fw)), (gs i_1281, .inr (9, [.int (nI (sDay (sAt B i_1281))), .int (nI (sId (sAt B i_1281))), .ref mi9, .ref it9])), (mi9, .inl (G.2 1, (nP (sAt B i_1281)), .inl fm9)), (it9, .inl (G.2 1, (nP (sAt B i_1281)), .inl fi99))] H := (((((hR0.w hS).sub [0, 1, 2, 3, 7, 8] rfl).app ((hRm_1287.w hS).sub [0] rfl)).app ((hRm_1288.w hS).sub [0] rfl)).app ((hRm_1289.w hS).sub [0] rfl))
      refine go_ct hS hP hD [] [0] hF rfl rfl (by decide) (by decide)
          (va_runV (As := [.ref (gs i_1281)]) (rest := [.int (nI (psum (lS9 B d) i_1281))]) cf (mX2_loadOf l G b to so bo we tg lo fi fa kn B ta tm te tcap tf ga Wi fb fw (gs i_1281) (sAt B i_1281) mi9 it9 fm9 fi99 (show Inv B from by first | assumption | omega) (show tN B ≤ tcap ∧ tcap ≤ 60 from by first | assumption | omega) (show ∀ j, j < tN B → tf j = some (ga j) ∧ TestIn Wi (ga j) (tDay B j) (tThr B j) from by first | assumption | omega) (show SrtT B from by first | assumption | omega) (show ∀ z, 2 ≤ z → z ≤ 5 → fb z = nI (bB B z) from by first | assumption | omega) (show ∀ z, 1 ≤ z → z ≤ 5 → fw z = nI (bW B z) from by first | assumption | omega) (iX9) (hfm9) (hfi9) H.size) (cwV 1 hts (lw_V q425 q426 q427 q48 q428) rfl rfl rfl (by decide +kernel) ⟨Nat.le_of_ble_eq_true rfl, Nat.le_of_ble_eq_true rfl⟩) (preV_of hKB hE hS hF (va_recv hK (hR0.w hS) (ci := 1) (q0 := 0) rfl rfl) (va_P.sub hP [] rfl) ((va_D.sub hD [] (by decide) rfl).weaken (fun _ _ _ _ => trivial)) ⟨(roW.nil hro_1294), (roW.nil (hR1.w hS))⟩) rfl rfl hl.1 rfl (lv_room (Nat.le_of_ble_eq_true rfl)) dX2_loadFromSessions_43 ⟨show 1 + i_1281 + 1 ≤ 41 from by first | decide | omega, show 2 + 2 * i_1281 + 2 ≤ 82 from by first | decide | omega⟩)
          (fun u_ H locs hq hph (hP : va_P G.1 CL [(qw_1279, .inr (7, [.int (nI (i_1281 + 1)), .ref so]))] H) (hD : va_D A [(qw_1279, .inr (7, [.int (nI (i_1281 + 1)), .ref so]))]) hS hfz hfk => ?_)
      refine W.eq (g2 := F0 m 46 ls [.int (nI (loadS B (sAt B i_1281))), .int (nI (psum (lS9 B d) i_1281))]) rfl ?_
      refine lv_goto (tgt := 50) hx hb dX2_loadFromSessions_46 (by decide) ?_
      refine lv_ton (n := (lS9 B d i_1281)) (congrArg nI (show _ = (if sDay (sAt B i_1281) = d then loadS B (sAt B i_1281) else (0 : Nat)) by rw [if_pos (by omega)])) ?_
      have iXw : lS9 B d i_1281 ≤ 24000 := by unfold lS9; split <;> omega
      refine lv_iadd hx hb dX2_loadFromSessions_50 ?_
      refine lv_ton (n := (lS9 B d i_1281) + (psum (lS9 B d) i_1281)) (nadd (by omega)) ?_
      refine lv_ton (n := (psum (lS9 B d) (i_1281 + 1))) (congrArg nI (by rw [psum_s] <;> omega)) ?_
      refine lv_istore_n (lv' := [(2, .int (nI (psum (lS9 B d) (i_1281 + 1)))), (4, .ref (gs i_1281)), (0, .ref b), (1, .int (nI d)), (3, .ref qw_1279)]) hx hb dX2_loadFromSessions_51 rfl hl (by decide) rfl (fun ls hl => ?_)
      refine lv_goto (tgt := 10) hx hb dX2_loadFromSessions_52 (by decide) ?_
      have hP : va_P G.1 CL [(qw_1279, .inr (7, [.int (nI (i_1281 + 1)), .ref so]))] H := hP.sub [0] rfl
      have hD : va_D A [(qw_1279, .inr (7, [.int (nI (i_1281 + 1)), .ref so]))] := hD.sub [0] (by decide) rfl
      have hl := lv_sub hl [2, 3, 0, 4] (l' := [(0, .ref b), (1, .int (nI d)), (2, .int (nI (psum (lS9 B d) (i_1281 + 1)))), (3, .ref qw_1279)]) rfl
      exact W.widen (show 1 + i_1281 + 1 ≤ 1 + (i_1281 + 1) from by first | exact Nat.le_refl _ | omega) (show 2 + 2 * i_1281 + 2 ≤ 2 + 2 * (i_1281 + 1) from by first | exact Nat.le_refl _ | omega) (ih10 ((i_1281 + 1)) H locs ls ⟨hP, hD, hS, hl, (show (i_1281 + 1) ≤ sN B from by omega)⟩ (show sN B - (i_1281 + 1) < sN B - i_1281 from by omega))

def Cache (B : Bk) (kn : Nat) (fl ff fg : Nat → Int32) : Prop := ∀ d, d < kn → fl d = nI (loadD B d) ∧ ff d = decay 42 (loadD B) (d + 1) ∧ fg d = decay 7 (loadD B) (d + 1)
theorem Cache_s {B : Bk} {k : Nat} {fl ff fg : Nat → Int32} (h : Cache B k fl ff fg) {a b : Int32} (ha : a = decay 42 (loadD B) (k + 1)) (hb : b = decay 7 (loadD B) (k + 1)) : Cache B (k + 1) (upd fl k (nI (loadD B k))) (upd ff k a) (upd fg k b) := by
  intro d hd
  rcases Nat.lt_succ_iff_lt_or_eq.mp hd with h1 | h1
  · rw [pk_un (Nat.ne_of_lt h1), pk_un (Nat.ne_of_lt h1), pk_un (Nat.ne_of_lt h1)]; exact h d h1
  · rw [h1, pk_us, pk_us, pk_us]; exact ⟨rfl, ha, hb⟩

set_option maxHeartbeats 4000000 in
theorem mX2_learnUpTo (l : Launch) (G : Gt) (b : Nat) (to : Nat) (so : Nat) (bo : Nat) (we : Nat) (tg : Nat) (lo : Nat) (fi : Nat) (fa : Nat) (kn : Nat) (B : Bk) (ta : Nat) (tm : Int32) (te : Nat) (tcap : Nat) (tf : Nat → Option Nat) (ga : Nat → Nat) (sa : Nat) (sm : Int32) (se : Nat) (scap : Nat) (sf : Nat → Option Nat) (gs : Nat → Nat) (Wi : va_W) (fb : Nat → Int32) (fw : Nat → Int32) (fl : Nat → Int32) (ff : Nat → Int32) (fg : Nat → Int32) (d : Nat) (hI : Inv B) (htc : tN B ≤ tcap ∧ tcap ≤ 60) (hT : ∀ j, j < tN B → tf j = some (ga j) ∧ TestIn Wi (ga j) (tDay B j) (tThr B j)) (hso : SrtT B) (hfb : ∀ z, 2 ≤ z → z ≤ 5 → fb z = nI (bB B z)) (hfw : ∀ z, 1 ≤ z → z ≤ 5 → fw z = nI (bW B z)) (hsc : sN B ≤ scap ∧ scap ≤ 60) (hSs : ∀ j, j < sN B → sf j = some (gs j) ∧ SesIn G Wi (gs j) (sAt B j)) (hss : SrtS B) (hkn : kn ≤ 200) (hca : Cache B kn fl ff fg) (hd : d < 200) : CT l G yX2_learnUpTo cX2_learnUpTo 4 none ({ frames := 10, cells := 41 * ((max kn (d + 1)) - kn), slots := 82 * ((max kn (d + 1)) - kn), locals := 211 } : Room) [.ref b, .int (nI d)] [(b, .inr (1, [.ref to, .ref so, .ref bo, .ref we, .ref tg, .int (nI (bD B)), .int (nI (bI9 B)), .int (oI (bP B)), .int (nI (bE B)), .int (nI kn), .ref lo, .ref fi, .ref fa])), (lo, .inl (G.2 0, 200, .inl fl)), (fi, .inl (G.2 0, 200, .inl ff)), (fa, .inl (G.2 0, 200, .inl fg))] (fun (A : Nat → Prop) (H : Heap) => roW G A H [(to, .inr (2, [.ref ta])), (ta, .inr (3, [.int tm, .ref te, .int (nI (tN B))])), (te, .inl (G.2 3, tcap, .inr (.inr (.inr (.inr tf))))), (so, .inr (2, [.ref sa])), (sa, .inr (3, [.int sm, .ref se, .int (nI (sN B))])), (se, .inl (G.2 3, scap, .inr (.inr (.inr (.inr sf))))), (bo, .inl (G.2 0, 6, .inl fb)), (we, .inl (G.2 0, 6, .inl fw))] ∧ roW G A H Wi) (S := (Nat → Int32) × (Nat → Int32) × (Nat → Int32)) (fun (u_ : (Nat → Int32) × (Nat → Int32) × (Nat → Int32)) => (none : Option Value)) (fun (u_ : (Nat → Int32) × (Nat → Int32) × (Nat → Int32)) => Cache B (max kn (d + 1)) u_.1 u_.2.1 u_.2.2) (fun (u_ : (Nat → Int32) × (Nat → Int32) × (Nat → Int32)) => [(b, .inr (1, [.ref to, .ref so, .ref bo, .ref we, .ref tg, .int (nI (bD B)), .int (nI (bI9 B)), .int (oI (bP B)), .int (nI (bE B)), .int (nI (max kn (d + 1))), .ref lo, .ref fi, .ref fa])), (lo, .inl (G.2 0, 200, .inl u_.1)), (fi, .inl (G.2 0, 200, .inl u_.2.1)), (fa, .inl (G.2 0, 200, .inl u_.2.2))]) (fun (u_ : (Nat → Int32) × (Nat → Int32) × (Nat → Int32)) (H : Heap) => True) := by
  refine CT.of (by decide) (Nat.le_of_ble_eq_true rfl) ?_
  intro p e s m below meth c ls A H locs h9 hH0 hP hS
  obtain ⟨cf, hr, hlk, hnm, hKB, hE, -, hD, -, hA, hAw, ⟨hR0, hR1⟩, hl⟩ := h9
  have hx := cf.1
  have hb := cf.2.1
  have hml := cf.2.2.1
  have hown : s.vm.findClass RX2 = some m.cls := cf.2.2.2.1
  have hts := cf.2.2.2.2
  have hK := hKB.1
  have hl : lv_has ls 4 [(0, .ref b), (1, .int (nI d))] := hl
  have iT := iv_tN hI
  have iN := iv_sN hI
  have iD := iv_bD hI
  have iId := iv_id hI
  have iE := iv_bE hI
  have hmx9 : max kn (d + 1) ≤ 200 ∧ kn ≤ max kn (d + 1) ∧ d + 1 ≤ max kn (d + 1) ∧ (max kn (d + 1) = kn ∨ max kn (d + 1) = d + 1) := by omega
  have hl := lv_sub hl [0, 1] (l' := [(0, .ref b), (1, .int (nI d))]) rfl
  refine lp_W (σ := Nat × (Nat → Int32) × (Nat → Int32) × (Nat → Int32)) (hpc := 0) (fun x => d + 1 - x.1) (fun x => 41 * (x.1 - kn)) (fun x => 82 * (x.1 - kn)) (fun x H locs ls => va_P G.1 CL [(b, .inr (1, [.ref to, .ref so, .ref bo, .ref we, .ref tg, .int (nI (bD B)), .int (nI (bI9 B)), .int (oI (bP B)), .int (nI (bE B)), .int (nI x.1), .ref lo, .ref fi, .ref fa])), (lo, .inl (G.2 0, 200, .inl x.2.1)), (fi, .inl (G.2 0, 200, .inl x.2.2.1)), (fa, .inl (G.2 0, 200, .inl x.2.2.2))] H ∧ va_D A [(b, .inr (1, [.ref to, .ref so, .ref bo, .ref we, .ref tg, .int (nI (bD B)), .int (nI (bI9 B)), .int (oI (bP B)), .int (nI (bE B)), .int (nI x.1), .ref lo, .ref fi, .ref fa])), (lo, .inl (G.2 0, 200, .inl x.2.1)), (fi, .inl (G.2 0, 200, .inl x.2.2.1)), (fa, .inl (G.2 0, 200, .inl x.2.2.2))] ∧ va_S A s.heap H locs ∧ lv_has ls 4 [(0, .ref b), (1, .int (nI d))] ∧ (kn ≤ x.1 ∧ x.1 ≤ (max kn (d + 1))) ∧ (Cache B x.1 x.2.1 x.2.2.1 x.2.2.2)) ?_ (kn, fl, ff, fg) ⟨(show va_P G.1 CL [(b, .inr (1, [.ref to, .ref so, .ref bo, .ref we, .ref tg, .int (nI (bD B)), .int (nI (bI9 B)), .int (oI (bP B)), .int (nI (bE B)), .int (nI kn), .ref lo, .ref fi, .ref fa])), (lo, .inl (G.2 0, 200, .inl fl)), (fi, .inl (G.2 0, 200, .inl ff)), (fa, .inl (G.2 0, 200, .inl fg))] H from hP), (show va_D A [(b, .inr (1, [.ref to, .ref so, .ref bo, .ref we, .ref tg, .int (nI (bD B)), .int (nI (bI9 B)), .int (oI (bP B)), .int (nI (bE B)), .int (nI kn), .ref lo, .ref fi, .ref fa])), (lo, .inl (G.2 0, 200, .inl fl)), (fi, .inl (G.2 0, 200, .inl ff)), (fa, .inl (G.2 0, 200, .inl fg))] from hD), hS, hl, (show kn ≤ kn ∧ kn ≤ (max kn (d + 1)) from ⟨Nat.le_refl _, Nat.le_max_left _ _⟩), (show Cache B kn fl ff fg from hca)⟩ (show 0 ≤ 41 * (kn - kn) from by first | exact Nat.le_refl _ | omega) (show 0 ≤ 82 * (kn - kn) from by first | exact Nat.le_refl _ | omega)
  intro x H locs ls hI9 ih0
  obtain ⟨k_1297, l1_1298, l2_1299, l3_1300⟩ := x
  obtain ⟨hP, hD, hS, hl, hp_1295, hp_1296⟩ := hI9
  have hP : va_P G.1 CL [(b, .inr (1, [.ref to, .ref so, .ref bo, .ref we, .ref tg, .int (nI (bD B)), .int (nI (bI9 B)), .int (oI (bP B)), .int (nI (bE B)), .int (nI k_1297), .ref lo, .ref fi, .ref fa])), (lo, .inl (G.2 0, 200, .inl l1_1298)), (fi, .inl (G.2 0, 200, .inl l2_1299)), (fa, .inl (G.2 0, 200, .inl l3_1300))] H := hP
  have hD : va_D A [(b, .inr (1, [.ref to, .ref so, .ref bo, .ref we, .ref tg, .int (nI (bD B)), .int (nI (bI9 B)), .int (oI (bP B)), .int (nI (bE B)), .int (nI k_1297), .ref lo, .ref fi, .ref fa])), (lo, .inl (G.2 0, 200, .inl l1_1298)), (fi, .inl (G.2 0, 200, .inl l2_1299)), (fa, .inl (G.2 0, 200, .inl l3_1300))] := hD
  have hl : lv_has ls 4 [(0, .ref b), (1, .int (nI d))] := hl
  have hp_1295 : kn ≤ k_1297 ∧ k_1297 ≤ (max kn (d + 1)) := hp_1295
  have hp_1296 : Cache B k_1297 l1_1298 l2_1299 l3_1300 := hp_1296
  refine W.widen (k := 41 * (k_1297 - kn)) (n := 82 * (k_1297 - kn)) (Nat.le_refl _) (Nat.le_refl _) ?_
  refine lv_aload_n hx hb dX2_learnUpTo_0 rfl (lv_at hl 0 rfl) ?_
  refine va_get hx hb hts in_X2 hown hK hP 0 rfl rfl 9 (by decide) (hts _ q156) (fun _ h => h) rfl dX2_learnUpTo_1 ?_
  refine lv_iload_n hx hb dX2_learnUpTo_4 rfl (lv_at hl 1 rfl) ?_
  refine n_icmp_gt (tgt := 142) hx hb (by omega) (by omega) dX2_learnUpTo_5 (by decide) (fun c_1302 => ?_) (fun c_1302 => ?_)
  · have hkx : k_1297 = max kn (d + 1) := by omega
    have hP : va_P G.1 CL [(b, .inr (1, [.ref to, .ref so, .ref bo, .ref we, .ref tg, .int (nI (bD B)), .int (nI (bI9 B)), .int (oI (bP B)), .int (nI (bE B)), .int (nI (max kn (d + 1))), .ref lo, .ref fi, .ref fa])), (lo, .inl (G.2 0, 200, .inl l1_1298)), (fi, .inl (G.2 0, 200, .inl l2_1299)), (fa, .inl (G.2 0, 200, .inl l3_1300))] H := by rw [← hkx]; exact hP
    have hD : va_D A [(b, .inr (1, [.ref to, .ref so, .ref bo, .ref we, .ref tg, .int (nI (bD B)), .int (nI (bI9 B)), .int (oI (bP B)), .int (nI (bE B)), .int (nI (max kn (d + 1))), .ref lo, .ref fi, .ref fa])), (lo, .inl (G.2 0, 200, .inl l1_1298)), (fi, .inl (G.2 0, 200, .inl l2_1299)), (fa, .inl (G.2 0, 200, .inl l3_1300))] := by rw [← hkx]; exact hD
    have hP9 : va_P G.1 CL [(b, .inr (1, [.ref to, .ref so, .ref bo, .ref we, .ref tg, .int (nI (bD B)), .int (nI (bI9 B)), .int (oI (bP B)), .int (nI (bE B)), .int (nI (max kn (d + 1))), .ref lo, .ref fi, .ref fa])), (lo, .inl (G.2 0, 200, .inl l1_1298)), (fi, .inl (G.2 0, 200, .inl l2_1299)), (fa, .inl (G.2 0, 200, .inl l3_1300))] H := hP.sub [0, 1, 2, 3] rfl
    have hD9 : va_D A [(b, .inr (1, [.ref to, .ref so, .ref bo, .ref we, .ref tg, .int (nI (bD B)), .int (nI (bI9 B)), .int (oI (bP B)), .int (nI (bE B)), .int (nI (max kn (d + 1))), .ref lo, .ref fi, .ref fa])), (lo, .inl (G.2 0, 200, .inl l1_1298)), (fi, .inl (G.2 0, 200, .inl l2_1299)), (fa, .inl (G.2 0, 200, .inl l3_1300))] := hD.sub [0, 1, 2, 3] (by decide) rfl
    exact end_v hx hb hr hlk (qc_of (l1_1298, l2_1299, l3_1300) (v := none) (by rfl) (by rw [← hkx]; exact hp_1296) hP9 hD9 (trivial) hS) hS dX2_learnUpTo_142 (show 41 * (k_1297 - kn) ≤ 41 * ((max kn (d + 1)) - kn) from by first | exact Nat.le_refl _ | decide | omega) (show 82 * (k_1297 - kn) ≤ 82 * ((max kn (d + 1)) - kn) from by first | exact Nat.le_refl _ | decide | omega)
  · refine lv_aload_n hx hb dX2_learnUpTo_8 rfl (lv_at hl 0 rfl) ?_
    refine va_get hx hb hts in_X2 hown hK hP 0 rfl rfl 9 (by decide) (hts _ q156) (fun _ h => h) rfl dX2_learnUpTo_9 ?_
    refine n_if_ne (tgt := 19) hx hb (by omega) dX2_learnUpTo_12 (by decide) (fun c_1303 => ?_) (fun c_1303 => ?_)
    · refine lv_aload_n hx hb dX2_learnUpTo_19 rfl (lv_at hl 0 rfl) ?_
      refine va_get hx hb hts in_X2 hown hK hP 0 rfl rfl 11 (by decide) (hts _ q158) (fun _ h => h) rfl dX2_learnUpTo_20 ?_
      refine lv_aload_n hx hb dX2_learnUpTo_23 rfl (lv_at hl 0 rfl) ?_
      refine va_get hx hb hts in_X2 hown hK hP 0 rfl rfl 9 (by decide) (hts _ q156) (fun _ h => h) rfl dX2_learnUpTo_24 ?_
      refine lv_iconst (v := nI 1) hx hb dX2_learnUpTo_27 (by decide) ?_
      refine lv_isub hx hb dX2_learnUpTo_28 ?_
      refine lv_ton (n := (k_1297 - 1)) (nsub (by omega)) ?_
      refine r_iald (v := decay 42 (loadD B) k_1297) hx hb hK hP 2 0 rfl rfl (i := (k_1297 - 1)) (by omega) (by omega) (by have h9 := (hp_1296 (k_1297 - 1) (by omega)).2.1; rw [show k_1297 - 1 + 1 = k_1297 by omega] at h9; exact h9) dX2_learnUpTo_29 ?_
      refine lv_istore_n (lv' := [(2, .int (decay 42 (loadD B) k_1297)), (0, .ref b), (1, .int (nI d))]) hx hb dX2_learnUpTo_30 rfl hl (by decide) rfl (fun ls hl => ?_)
      refine lv_aload_n hx hb dX2_learnUpTo_31 rfl (lv_at hl 1 rfl) ?_
      refine va_get hx hb hts in_X2 hown hK hP 0 rfl rfl 9 (by decide) (hts _ q156) (fun _ h => h) rfl dX2_learnUpTo_32 ?_
      refine n_if_ne (tgt := 42) hx hb (by omega) dX2_learnUpTo_35 (by decide) (fun c_1304 => ?_) (fun c_1304 => ?_)
      · refine lv_aload_n hx hb dX2_learnUpTo_42 rfl (lv_at hl 1 rfl) ?_
        refine va_get hx hb hts in_X2 hown hK hP 0 rfl rfl 12 (by decide) (hts _ q159) (fun _ h => h) rfl dX2_learnUpTo_43 ?_
        refine lv_aload_n hx hb dX2_learnUpTo_46 rfl (lv_at hl 1 rfl) ?_
        refine va_get hx hb hts in_X2 hown hK hP 0 rfl rfl 9 (by decide) (hts _ q156) (fun _ h => h) rfl dX2_learnUpTo_47 ?_
        refine lv_iconst (v := nI 1) hx hb dX2_learnUpTo_50 (by decide) ?_
        refine lv_isub hx hb dX2_learnUpTo_51 ?_
        refine lv_ton (n := (k_1297 - 1)) (nsub (by omega)) ?_
        refine r_iald (v := decay 7 (loadD B) k_1297) hx hb hK hP 3 0 rfl rfl (i := (k_1297 - 1)) (by omega) (by omega) (by have h9 := (hp_1296 (k_1297 - 1) (by omega)).2.2; rw [show k_1297 - 1 + 1 = k_1297 by omega] at h9; exact h9) dX2_learnUpTo_52 ?_
        refine lv_istore_n (lv' := [(3, .int (decay 7 (loadD B) k_1297)), (2, .int (decay 42 (loadD B) k_1297)), (0, .ref b), (1, .int (nI d))]) hx hb dX2_learnUpTo_53 rfl hl (by decide) rfl (fun ls hl => ?_)
        refine lv_aload_n hx hb dX2_learnUpTo_54 rfl (lv_at hl 2 rfl) ?_
        refine va_get hx hb hts in_X2 hown hK hP 0 rfl rfl 10 (by decide) (hts _ q157) (fun _ h => h) rfl dX2_learnUpTo_55 ?_
        refine lv_aload_n hx hb dX2_learnUpTo_58 rfl (lv_at hl 2 rfl) ?_
        refine va_get hx hb hts in_X2 hown hK hP 0 rfl rfl 9 (by decide) (hts _ q156) (fun _ h => h) rfl dX2_learnUpTo_59 ?_
        refine lv_aload_n hx hb dX2_learnUpTo_62 rfl (lv_at hl 2 rfl) ?_
        refine lv_aload_n hx hb dX2_learnUpTo_63 rfl (lv_at hl 2 rfl) ?_
        refine va_get hx hb hts in_X2 hown hK hP 0 rfl rfl 9 (by decide) (hts _ q156) (fun _ h => h) rfl dX2_learnUpTo_64 ?_
        have hF := hF_of (wc := []) hD hS hA [] rfl
        have hro_1305 : va_P G.1 CL [(b, .inr (1, [.ref to, .ref so, .ref bo, .ref we, .ref tg, .int (nI (bD B)), .int (nI (bI9 B)), .int (oI (bP B)), .int (nI (bE B)), .int (nI k_1297), .ref lo, .ref fi, .ref fa])), (to, .inr (2, [.ref ta])), (ta, .inr (3, [.int tm, .ref te, .int (nI (tN B))])), (te, .inl (G.2 3, tcap, .inr (.inr (.inr (.inr tf))))), (so, .inr (2, [.ref sa])), (sa, .inr (3, [.int sm, .ref se, .int (nI (sN B))])), (se, .inl (G.2 3, scap, .inr (.inr (.inr (.inr sf))))), (bo, .inl (G.2 0, 6, .inl fb)), (we, .inl (G.2 0, 6, .inl fw))] H := ((va_P.sub hP [0] rfl).app ((hR0.w hS).sub [0, 1, 2, 3, 4, 5, 6, 7] rfl))
        refine go_ct hS hP hD [] [0, 1, 2, 3] hF rfl rfl (by decide) (by decide)
            (va_runV (As := [.int (nI k_1297)]) (rest := [.int (nI k_1297), .ref lo]) cf (mX2_loadFromSessions l G b to so bo we tg lo fi fa k_1297 B ta tm te tcap tf ga sa sm se scap sf gs Wi fb fw k_1297 (show Inv B from by first | assumption | omega) (show tN B ≤ tcap ∧ tcap ≤ 60 from by first | assumption | omega) (show ∀ j, j < tN B → tf j = some (ga j) ∧ TestIn Wi (ga j) (tDay B j) (tThr B j) from by first | assumption | omega) (show SrtT B from by first | assumption | omega) (show ∀ z, 2 ≤ z → z ≤ 5 → fb z = nI (bB B z) from by first | assumption | omega) (show ∀ z, 1 ≤ z → z ≤ 5 → fw z = nI (bW B z) from by first | assumption | omega) (show sN B ≤ scap ∧ scap ≤ 60 from by first | assumption | omega) (show ∀ j, j < sN B → sf j = some (gs j) ∧ SesIn G Wi (gs j) (sAt B j) from by first | assumption | omega) (show SrtS B from by first | assumption | omega) (show k_1297 < 2 ^ 31 from by first | assumption | omega) H.size) (cwV 1 hts (lw_V q283 q285 qs1 q48 q286) rfl rfl rfl (by decide +kernel) ⟨Nat.le_of_ble_eq_true rfl, Nat.le_of_ble_eq_true rfl⟩) (preV_of hKB hE hS hF (va_recv hK hP (ci := 1) (q0 := 0) rfl rfl) (va_P.sub hP [] rfl) ((va_D.sub hD [] (by decide) rfl).weaken (fun _ _ _ _ => trivial)) ⟨(roW.nil hro_1305), (roW.nil (hR1.w hS))⟩) rfl rfl hl.1 rfl (lv_room (Nat.le_of_ble_eq_true rfl)) dX2_learnUpTo_67 ⟨show 41 * (k_1297 - kn) + 41 ≤ 41 * ((max kn (d + 1)) - kn) from by first | decide | omega, show 82 * (k_1297 - kn) + 82 ≤ 82 * ((max kn (d + 1)) - kn) from by first | decide | omega⟩)
            (fun u_ H locs hq hph (hP : va_P G.1 CL [(b, .inr (1, [.ref to, .ref so, .ref bo, .ref we, .ref tg, .int (nI (bD B)), .int (nI (bI9 B)), .int (oI (bP B)), .int (nI (bE B)), .int (nI k_1297), .ref lo, .ref fi, .ref fa])), (lo, .inl (G.2 0, 200, .inl l1_1298)), (fi, .inl (G.2 0, 200, .inl l2_1299)), (fa, .inl (G.2 0, 200, .inl l3_1300))] H) (hD : va_D A [(b, .inr (1, [.ref to, .ref so, .ref bo, .ref we, .ref tg, .int (nI (bD B)), .int (nI (bI9 B)), .int (oI (bP B)), .int (nI (bE B)), .int (nI k_1297), .ref lo, .ref fi, .ref fa])), (lo, .inl (G.2 0, 200, .inl l1_1298)), (fi, .inl (G.2 0, 200, .inl l2_1299)), (fa, .inl (G.2 0, 200, .inl l3_1300))]) hS hfz hfk => ?_)
        refine W.eq (g2 := F0 m 70 ls [.int (nI (loadD B k_1297)), .int (nI k_1297), .ref lo]) rfl ?_
        refine r_iast hx hb hK hP hD hS 1 0 rfl rfl (i := k_1297) (by omega) (by omega) dX2_learnUpTo_70 (fun H locs (hP : va_P G.1 CL [(b, .inr (1, [.ref to, .ref so, .ref bo, .ref we, .ref tg, .int (nI (bD B)), .int (nI (bI9 B)), .int (oI (bP B)), .int (nI (bE B)), .int (nI k_1297), .ref lo, .ref fi, .ref fa])), (lo, .inl (G.2 0, 200, .inl (upd l1_1298 k_1297 (nI (loadD B k_1297))))), (fi, .inl (G.2 0, 200, .inl l2_1299)), (fa, .inl (G.2 0, 200, .inl l3_1300))] H) (hD : va_D A [(b, .inr (1, [.ref to, .ref so, .ref bo, .ref we, .ref tg, .int (nI (bD B)), .int (nI (bI9 B)), .int (oI (bP B)), .int (nI (bE B)), .int (nI k_1297), .ref lo, .ref fi, .ref fa])), (lo, .inl (G.2 0, 200, .inl (upd l1_1298 k_1297 (nI (loadD B k_1297))))), (fi, .inl (G.2 0, 200, .inl l2_1299)), (fa, .inl (G.2 0, 200, .inl l3_1300))]) hS => ?_)
        refine lv_aload_n hx hb dX2_learnUpTo_71 rfl (lv_at hl 2 rfl) ?_
        refine va_get hx hb hts in_X2 hown hK hP 0 rfl rfl 11 (by decide) (hts _ q158) (fun _ h => h) rfl dX2_learnUpTo_72 ?_
        refine lv_aload_n hx hb dX2_learnUpTo_75 rfl (lv_at hl 2 rfl) ?_
        refine va_get hx hb hts in_X2 hown hK hP 0 rfl rfl 9 (by decide) (hts _ q156) (fun _ h => h) rfl dX2_learnUpTo_76 ?_
        refine lv_iload_n hx hb dX2_learnUpTo_79 rfl (lv_at hl 1 rfl) ?_
        refine lv_sipush (v := nI 1000) hx hb dX2_learnUpTo_80 (by decide) ?_
        refine lv_aload_n hx hb dX2_learnUpTo_83 rfl (lv_at hl 2 rfl) ?_
        refine va_get hx hb hts in_X2 hown hK hP 0 rfl rfl 10 (by decide) (hts _ q157) (fun _ h => h) rfl dX2_learnUpTo_84 ?_
        refine lv_aload_n hx hb dX2_learnUpTo_87 rfl (lv_at hl 2 rfl) ?_
        refine va_get hx hb hts in_X2 hown hK hP 0 rfl rfl 9 (by decide) (hts _ q156) (fun _ h => h) rfl dX2_learnUpTo_88 ?_
        refine r_iald (v := nI (loadD B k_1297)) hx hb hK hP 1 0 rfl rfl (i := k_1297) (by omega) (by omega) (pk_us) dX2_learnUpTo_91 ?_
        refine lv_imul hx hb dX2_learnUpTo_92 ?_
        refine lv_ton (n := 1000 * (loadD B k_1297)) (nmul (by omega)) ?_
        refine lv_iload_n hx hb dX2_learnUpTo_93 rfl (lv_at hl 1 rfl) ?_
        refine lv_isub hx hb dX2_learnUpTo_94 ?_
        refine lv_bipush (v := nI 42) hx hb dX2_learnUpTo_95 (by decide) ?_
        refine lv_idiv hx hb dX2_learnUpTo_97 (by decide) ?_
        refine lv_iadd hx hb dX2_learnUpTo_98 ?_
        refine r_iast hx hb hK hP hD hS 2 0 rfl rfl (i := k_1297) (by omega) (by omega) dX2_learnUpTo_99 (fun H locs (hP : va_P G.1 CL [(b, .inr (1, [.ref to, .ref so, .ref bo, .ref we, .ref tg, .int (nI (bD B)), .int (nI (bI9 B)), .int (oI (bP B)), .int (nI (bE B)), .int (nI k_1297), .ref lo, .ref fi, .ref fa])), (lo, .inl (G.2 0, 200, .inl (upd l1_1298 k_1297 (nI (loadD B k_1297))))), (fi, .inl (G.2 0, 200, .inl (upd l2_1299 k_1297 ((decay 42 (loadD B) k_1297) + (((nI (1000 * (loadD B k_1297))) - (decay 42 (loadD B) k_1297)) / (nI 42)))))), (fa, .inl (G.2 0, 200, .inl l3_1300))] H) (hD : va_D A [(b, .inr (1, [.ref to, .ref so, .ref bo, .ref we, .ref tg, .int (nI (bD B)), .int (nI (bI9 B)), .int (oI (bP B)), .int (nI (bE B)), .int (nI k_1297), .ref lo, .ref fi, .ref fa])), (lo, .inl (G.2 0, 200, .inl (upd l1_1298 k_1297 (nI (loadD B k_1297))))), (fi, .inl (G.2 0, 200, .inl (upd l2_1299 k_1297 ((decay 42 (loadD B) k_1297) + (((nI (1000 * (loadD B k_1297))) - (decay 42 (loadD B) k_1297)) / (nI 42)))))), (fa, .inl (G.2 0, 200, .inl l3_1300))]) hS => ?_)
        refine lv_aload_n hx hb dX2_learnUpTo_100 rfl (lv_at hl 2 rfl) ?_
        refine va_get hx hb hts in_X2 hown hK hP 0 rfl rfl 12 (by decide) (hts _ q159) (fun _ h => h) rfl dX2_learnUpTo_101 ?_
        refine lv_aload_n hx hb dX2_learnUpTo_104 rfl (lv_at hl 2 rfl) ?_
        refine va_get hx hb hts in_X2 hown hK hP 0 rfl rfl 9 (by decide) (hts _ q156) (fun _ h => h) rfl dX2_learnUpTo_105 ?_
        refine lv_iload_n hx hb dX2_learnUpTo_108 rfl (lv_at hl 0 rfl) ?_
        refine lv_sipush (v := nI 1000) hx hb dX2_learnUpTo_109 (by decide) ?_
        refine lv_aload_n hx hb dX2_learnUpTo_112 rfl (lv_at hl 2 rfl) ?_
        refine va_get hx hb hts in_X2 hown hK hP 0 rfl rfl 10 (by decide) (hts _ q157) (fun _ h => h) rfl dX2_learnUpTo_113 ?_
        refine lv_aload_n hx hb dX2_learnUpTo_116 rfl (lv_at hl 2 rfl) ?_
        refine va_get hx hb hts in_X2 hown hK hP 0 rfl rfl 9 (by decide) (hts _ q156) (fun _ h => h) rfl dX2_learnUpTo_117 ?_
        refine r_iald (v := nI (loadD B k_1297)) hx hb hK hP 1 0 rfl rfl (i := k_1297) (by omega) (by omega) (pk_us) dX2_learnUpTo_120 ?_
        refine lv_imul hx hb dX2_learnUpTo_121 ?_
        refine lv_ton (n := 1000 * (loadD B k_1297)) (nmul (by omega)) ?_
        refine lv_iload_n hx hb dX2_learnUpTo_122 rfl (lv_at hl 0 rfl) ?_
        refine lv_isub hx hb dX2_learnUpTo_123 ?_
        refine lv_bipush (v := nI 7) hx hb dX2_learnUpTo_124 (by decide) ?_
        refine lv_idiv hx hb dX2_learnUpTo_126 (by decide) ?_
        refine lv_iadd hx hb dX2_learnUpTo_127 ?_
        refine r_iast hx hb hK hP hD hS 3 0 rfl rfl (i := k_1297) (by omega) (by omega) dX2_learnUpTo_128 (fun H locs (hP : va_P G.1 CL [(b, .inr (1, [.ref to, .ref so, .ref bo, .ref we, .ref tg, .int (nI (bD B)), .int (nI (bI9 B)), .int (oI (bP B)), .int (nI (bE B)), .int (nI k_1297), .ref lo, .ref fi, .ref fa])), (lo, .inl (G.2 0, 200, .inl (upd l1_1298 k_1297 (nI (loadD B k_1297))))), (fi, .inl (G.2 0, 200, .inl (upd l2_1299 k_1297 ((decay 42 (loadD B) k_1297) + (((nI (1000 * (loadD B k_1297))) - (decay 42 (loadD B) k_1297)) / (nI 42)))))), (fa, .inl (G.2 0, 200, .inl (upd l3_1300 k_1297 ((decay 7 (loadD B) k_1297) + (((nI (1000 * (loadD B k_1297))) - (decay 7 (loadD B) k_1297)) / (nI 7))))))] H) (hD : va_D A [(b, .inr (1, [.ref to, .ref so, .ref bo, .ref we, .ref tg, .int (nI (bD B)), .int (nI (bI9 B)), .int (oI (bP B)), .int (nI (bE B)), .int (nI k_1297), .ref lo, .ref fi, .ref fa])), (lo, .inl (G.2 0, 200, .inl (upd l1_1298 k_1297 (nI (loadD B k_1297))))), (fi, .inl (G.2 0, 200, .inl (upd l2_1299 k_1297 ((decay 42 (loadD B) k_1297) + (((nI (1000 * (loadD B k_1297))) - (decay 42 (loadD B) k_1297)) / (nI 42)))))), (fa, .inl (G.2 0, 200, .inl (upd l3_1300 k_1297 ((decay 7 (loadD B) k_1297) + (((nI (1000 * (loadD B k_1297))) - (decay 7 (loadD B) k_1297)) / (nI 7))))))]) hS => ?_)
        refine lv_aload_n hx hb dX2_learnUpTo_129 rfl (lv_at hl 2 rfl) ?_
        refine lv_dup hx hb dX2_learnUpTo_130 rfl ?_
        refine va_get hx hb hts in_X2 hown hK hP 0 rfl rfl 9 (by decide) (hts _ q156) (fun _ h => h) rfl dX2_learnUpTo_131 ?_
        refine lv_iconst (v := nI 1) hx hb dX2_learnUpTo_134 (by decide) ?_
        refine lv_iadd hx hb dX2_learnUpTo_135 ?_
        refine lv_ton (n := k_1297 + 1) (nadd (by omega)) ?_
        refine va_put (v := .int (nI (k_1297 + 1))) (ty := .int) hx hb hts in_X2 tyX2 tyX2_ok nmX2 hown hK hP hD hS 0 rfl rfl 9 (by decide) (hts _ q156) (fun _ h => h) rfl (by decide +kernel) rfl rfl (Nat.le_of_ble_eq_true rfl) dX2_learnUpTo_136 (fun H locs (hP : va_P G.1 CL [(b, .inr (1, [.ref to, .ref so, .ref bo, .ref we, .ref tg, .int (nI (bD B)), .int (nI (bI9 B)), .int (oI (bP B)), .int (nI (bE B)), .int (nI (k_1297 + 1)), .ref lo, .ref fi, .ref fa])), (lo, .inl (G.2 0, 200, .inl (upd l1_1298 k_1297 (nI (loadD B k_1297))))), (fi, .inl (G.2 0, 200, .inl (upd l2_1299 k_1297 ((decay 42 (loadD B) k_1297) + (((nI (1000 * (loadD B k_1297))) - (decay 42 (loadD B) k_1297)) / (nI 42)))))), (fa, .inl (G.2 0, 200, .inl (upd l3_1300 k_1297 ((decay 7 (loadD B) k_1297) + (((nI (1000 * (loadD B k_1297))) - (decay 7 (loadD B) k_1297)) / (nI 7))))))] H) (hD : va_D A [(b, .inr (1, [.ref to, .ref so, .ref bo, .ref we, .ref tg, .int (nI (bD B)), .int (nI (bI9 B)), .int (oI (bP B)), .int (nI (bE B)), .int (nI (k_1297 + 1)), .ref lo, .ref fi, .ref fa])), (lo, .inl (G.2 0, 200, .inl (upd l1_1298 k_1297 (nI (loadD B k_1297))))), (fi, .inl (G.2 0, 200, .inl (upd l2_1299 k_1297 ((decay 42 (loadD B) k_1297) + (((nI (1000 * (loadD B k_1297))) - (decay 42 (loadD B) k_1297)) / (nI 42)))))), (fa, .inl (G.2 0, 200, .inl (upd l3_1300 k_1297 ((decay 7 (loadD B) k_1297) + (((nI (1000 * (loadD B k_1297))) - (decay 7 (loadD B) k_1297)) / (nI 7))))))]) hS => ?_)
        refine lv_goto (tgt := 0) hx hb dX2_learnUpTo_139 (by decide) ?_
        have hP : va_P G.1 CL [(b, .inr (1, [.ref to, .ref so, .ref bo, .ref we, .ref tg, .int (nI (bD B)), .int (nI (bI9 B)), .int (oI (bP B)), .int (nI (bE B)), .int (nI (k_1297 + 1)), .ref lo, .ref fi, .ref fa])), (lo, .inl (G.2 0, 200, .inl (upd l1_1298 k_1297 (nI (loadD B k_1297))))), (fi, .inl (G.2 0, 200, .inl (upd l2_1299 k_1297 ((decay 42 (loadD B) k_1297) + (((nI (1000 * (loadD B k_1297))) - (decay 42 (loadD B) k_1297)) / (nI 42)))))), (fa, .inl (G.2 0, 200, .inl (upd l3_1300 k_1297 ((decay 7 (loadD B) k_1297) + (((nI (1000 * (loadD B k_1297))) - (decay 7 (loadD B) k_1297)) / (nI 7))))))] H := hP.sub [0, 1, 2, 3] rfl
        have hD : va_D A [(b, .inr (1, [.ref to, .ref so, .ref bo, .ref we, .ref tg, .int (nI (bD B)), .int (nI (bI9 B)), .int (oI (bP B)), .int (nI (bE B)), .int (nI (k_1297 + 1)), .ref lo, .ref fi, .ref fa])), (lo, .inl (G.2 0, 200, .inl (upd l1_1298 k_1297 (nI (loadD B k_1297))))), (fi, .inl (G.2 0, 200, .inl (upd l2_1299 k_1297 ((decay 42 (loadD B) k_1297) + (((nI (1000 * (loadD B k_1297))) - (decay 42 (loadD B) k_1297)) / (nI 42)))))), (fa, .inl (G.2 0, 200, .inl (upd l3_1300 k_1297 ((decay 7 (loadD B) k_1297) + (((nI (1000 * (loadD B k_1297))) - (decay 7 (loadD B) k_1297)) / (nI 7))))))] := hD.sub [0, 1, 2, 3] (by decide) rfl
        have hl := lv_sub hl [2, 3] (l' := [(0, .ref b), (1, .int (nI d))]) rfl
        exact W.widen (show 41 * (k_1297 - kn) + 41 ≤ 41 * ((k_1297 + 1) - kn) from by first | exact Nat.le_refl _ | omega) (show 82 * (k_1297 - kn) + 82 ≤ 82 * ((k_1297 + 1) - kn) from by first | exact Nat.le_refl _ | omega) (ih0 ((k_1297 + 1), upd l1_1298 k_1297 (nI (loadD B k_1297)), upd l2_1299 k_1297 ((decay 42 (loadD B) k_1297) + (((nI (1000 * (loadD B k_1297))) - (decay 42 (loadD B) k_1297)) / (nI 42))), upd l3_1300 k_1297 ((decay 7 (loadD B) k_1297) + (((nI (1000 * (loadD B k_1297))) - (decay 7 (loadD B) k_1297)) / (nI 7)))) H locs ls ⟨hP, hD, hS, hl, (show kn ≤ (k_1297 + 1) ∧ (k_1297 + 1) ≤ (max kn (d + 1)) from ⟨by omega, by omega⟩), (show Cache B (k_1297 + 1) (upd l1_1298 k_1297 (nI (loadD B k_1297))) (upd l2_1299 k_1297 ((decay 42 (loadD B) k_1297) + (((nI (1000 * (loadD B k_1297))) - (decay 42 (loadD B) k_1297)) / (nI 42)))) (upd l3_1300 k_1297 ((decay 7 (loadD B) k_1297) + (((nI (1000 * (loadD B k_1297))) - (decay 7 (loadD B) k_1297)) / (nI 7)))) from Cache_s hp_1296 rfl rfl)⟩ (show d + 1 - (k_1297 + 1) < d + 1 - k_1297 from by omega))
      · refine lv_iconst (v := nI 0) hx hb dX2_learnUpTo_38 (by decide) ?_
        refine lv_goto (tgt := 53) hx hb dX2_learnUpTo_39 (by decide) ?_
        refine lv_toi (y := decay 7 (loadD B) k_1297) (by rw [show k_1297 = 0 by omega]; rfl) ?_
        refine lv_istore_n (lv' := [(3, .int (decay 7 (loadD B) k_1297)), (2, .int (decay 42 (loadD B) k_1297)), (0, .ref b), (1, .int (nI d))]) hx hb dX2_learnUpTo_53 rfl hl (by decide) rfl (fun ls hl => ?_)
        refine lv_aload_n hx hb dX2_learnUpTo_54 rfl (lv_at hl 2 rfl) ?_
        refine va_get hx hb hts in_X2 hown hK hP 0 rfl rfl 10 (by decide) (hts _ q157) (fun _ h => h) rfl dX2_learnUpTo_55 ?_
        refine lv_aload_n hx hb dX2_learnUpTo_58 rfl (lv_at hl 2 rfl) ?_
        refine va_get hx hb hts in_X2 hown hK hP 0 rfl rfl 9 (by decide) (hts _ q156) (fun _ h => h) rfl dX2_learnUpTo_59 ?_
        refine lv_aload_n hx hb dX2_learnUpTo_62 rfl (lv_at hl 2 rfl) ?_
        refine lv_aload_n hx hb dX2_learnUpTo_63 rfl (lv_at hl 2 rfl) ?_
        refine va_get hx hb hts in_X2 hown hK hP 0 rfl rfl 9 (by decide) (hts _ q156) (fun _ h => h) rfl dX2_learnUpTo_64 ?_
        have hF := hF_of (wc := []) hD hS hA [] rfl
        have hro_1306 : va_P G.1 CL [(b, .inr (1, [.ref to, .ref so, .ref bo, .ref we, .ref tg, .int (nI (bD B)), .int (nI (bI9 B)), .int (oI (bP B)), .int (nI (bE B)), .int (nI k_1297), .ref lo, .ref fi, .ref fa])), (to, .inr (2, [.ref ta])), (ta, .inr (3, [.int tm, .ref te, .int (nI (tN B))])), (te, .inl (G.2 3, tcap, .inr (.inr (.inr (.inr tf))))), (so, .inr (2, [.ref sa])), (sa, .inr (3, [.int sm, .ref se, .int (nI (sN B))])), (se, .inl (G.2 3, scap, .inr (.inr (.inr (.inr sf))))), (bo, .inl (G.2 0, 6, .inl fb)), (we, .inl (G.2 0, 6, .inl fw))] H := ((va_P.sub hP [0] rfl).app ((hR0.w hS).sub [0, 1, 2, 3, 4, 5, 6, 7] rfl))
        refine go_ct hS hP hD [] [0, 1, 2, 3] hF rfl rfl (by decide) (by decide)
            (va_runV (As := [.int (nI k_1297)]) (rest := [.int (nI k_1297), .ref lo]) cf (mX2_loadFromSessions l G b to so bo we tg lo fi fa k_1297 B ta tm te tcap tf ga sa sm se scap sf gs Wi fb fw k_1297 (show Inv B from by first | assumption | omega) (show tN B ≤ tcap ∧ tcap ≤ 60 from by first | assumption | omega) (show ∀ j, j < tN B → tf j = some (ga j) ∧ TestIn Wi (ga j) (tDay B j) (tThr B j) from by first | assumption | omega) (show SrtT B from by first | assumption | omega) (show ∀ z, 2 ≤ z → z ≤ 5 → fb z = nI (bB B z) from by first | assumption | omega) (show ∀ z, 1 ≤ z → z ≤ 5 → fw z = nI (bW B z) from by first | assumption | omega) (show sN B ≤ scap ∧ scap ≤ 60 from by first | assumption | omega) (show ∀ j, j < sN B → sf j = some (gs j) ∧ SesIn G Wi (gs j) (sAt B j) from by first | assumption | omega) (show SrtS B from by first | assumption | omega) (show k_1297 < 2 ^ 31 from by first | assumption | omega) H.size) (cwV 1 hts (lw_V q283 q285 qs1 q48 q286) rfl rfl rfl (by decide +kernel) ⟨Nat.le_of_ble_eq_true rfl, Nat.le_of_ble_eq_true rfl⟩) (preV_of hKB hE hS hF (va_recv hK hP (ci := 1) (q0 := 0) rfl rfl) (va_P.sub hP [] rfl) ((va_D.sub hD [] (by decide) rfl).weaken (fun _ _ _ _ => trivial)) ⟨(roW.nil hro_1306), (roW.nil (hR1.w hS))⟩) rfl rfl hl.1 rfl (lv_room (Nat.le_of_ble_eq_true rfl)) dX2_learnUpTo_67 ⟨show 41 * (k_1297 - kn) + 41 ≤ 41 * ((max kn (d + 1)) - kn) from by first | decide | omega, show 82 * (k_1297 - kn) + 82 ≤ 82 * ((max kn (d + 1)) - kn) from by first | decide | omega⟩)
            (fun u_ H locs hq hph (hP : va_P G.1 CL [(b, .inr (1, [.ref to, .ref so, .ref bo, .ref we, .ref tg, .int (nI (bD B)), .int (nI (bI9 B)), .int (oI (bP B)), .int (nI (bE B)), .int (nI k_1297), .ref lo, .ref fi, .ref fa])), (lo, .inl (G.2 0, 200, .inl l1_1298)), (fi, .inl (G.2 0, 200, .inl l2_1299)), (fa, .inl (G.2 0, 200, .inl l3_1300))] H) (hD : va_D A [(b, .inr (1, [.ref to, .ref so, .ref bo, .ref we, .ref tg, .int (nI (bD B)), .int (nI (bI9 B)), .int (oI (bP B)), .int (nI (bE B)), .int (nI k_1297), .ref lo, .ref fi, .ref fa])), (lo, .inl (G.2 0, 200, .inl l1_1298)), (fi, .inl (G.2 0, 200, .inl l2_1299)), (fa, .inl (G.2 0, 200, .inl l3_1300))]) hS hfz hfk => ?_)
        refine W.eq (g2 := F0 m 70 ls [.int (nI (loadD B k_1297)), .int (nI k_1297), .ref lo]) rfl ?_
        refine r_iast hx hb hK hP hD hS 1 0 rfl rfl (i := k_1297) (by omega) (by omega) dX2_learnUpTo_70 (fun H locs (hP : va_P G.1 CL [(b, .inr (1, [.ref to, .ref so, .ref bo, .ref we, .ref tg, .int (nI (bD B)), .int (nI (bI9 B)), .int (oI (bP B)), .int (nI (bE B)), .int (nI k_1297), .ref lo, .ref fi, .ref fa])), (lo, .inl (G.2 0, 200, .inl (upd l1_1298 k_1297 (nI (loadD B k_1297))))), (fi, .inl (G.2 0, 200, .inl l2_1299)), (fa, .inl (G.2 0, 200, .inl l3_1300))] H) (hD : va_D A [(b, .inr (1, [.ref to, .ref so, .ref bo, .ref we, .ref tg, .int (nI (bD B)), .int (nI (bI9 B)), .int (oI (bP B)), .int (nI (bE B)), .int (nI k_1297), .ref lo, .ref fi, .ref fa])), (lo, .inl (G.2 0, 200, .inl (upd l1_1298 k_1297 (nI (loadD B k_1297))))), (fi, .inl (G.2 0, 200, .inl l2_1299)), (fa, .inl (G.2 0, 200, .inl l3_1300))]) hS => ?_)
        refine lv_aload_n hx hb dX2_learnUpTo_71 rfl (lv_at hl 2 rfl) ?_
        refine va_get hx hb hts in_X2 hown hK hP 0 rfl rfl 11 (by decide) (hts _ q158) (fun _ h => h) rfl dX2_learnUpTo_72 ?_
        refine lv_aload_n hx hb dX2_learnUpTo_75 rfl (lv_at hl 2 rfl) ?_
        refine va_get hx hb hts in_X2 hown hK hP 0 rfl rfl 9 (by decide) (hts _ q156) (fun _ h => h) rfl dX2_learnUpTo_76 ?_
        refine lv_iload_n hx hb dX2_learnUpTo_79 rfl (lv_at hl 1 rfl) ?_
        refine lv_sipush (v := nI 1000) hx hb dX2_learnUpTo_80 (by decide) ?_
        refine lv_aload_n hx hb dX2_learnUpTo_83 rfl (lv_at hl 2 rfl) ?_
        refine va_get hx hb hts in_X2 hown hK hP 0 rfl rfl 10 (by decide) (hts _ q157) (fun _ h => h) rfl dX2_learnUpTo_84 ?_
        refine lv_aload_n hx hb dX2_learnUpTo_87 rfl (lv_at hl 2 rfl) ?_
        refine va_get hx hb hts in_X2 hown hK hP 0 rfl rfl 9 (by decide) (hts _ q156) (fun _ h => h) rfl dX2_learnUpTo_88 ?_
        refine r_iald (v := nI (loadD B k_1297)) hx hb hK hP 1 0 rfl rfl (i := k_1297) (by omega) (by omega) (pk_us) dX2_learnUpTo_91 ?_
        refine lv_imul hx hb dX2_learnUpTo_92 ?_
        refine lv_ton (n := 1000 * (loadD B k_1297)) (nmul (by omega)) ?_
        refine lv_iload_n hx hb dX2_learnUpTo_93 rfl (lv_at hl 1 rfl) ?_
        refine lv_isub hx hb dX2_learnUpTo_94 ?_
        refine lv_bipush (v := nI 42) hx hb dX2_learnUpTo_95 (by decide) ?_
        refine lv_idiv hx hb dX2_learnUpTo_97 (by decide) ?_
        refine lv_iadd hx hb dX2_learnUpTo_98 ?_
        refine r_iast hx hb hK hP hD hS 2 0 rfl rfl (i := k_1297) (by omega) (by omega) dX2_learnUpTo_99 (fun H locs (hP : va_P G.1 CL [(b, .inr (1, [.ref to, .ref so, .ref bo, .ref we, .ref tg, .int (nI (bD B)), .int (nI (bI9 B)), .int (oI (bP B)), .int (nI (bE B)), .int (nI k_1297), .ref lo, .ref fi, .ref fa])), (lo, .inl (G.2 0, 200, .inl (upd l1_1298 k_1297 (nI (loadD B k_1297))))), (fi, .inl (G.2 0, 200, .inl (upd l2_1299 k_1297 ((decay 42 (loadD B) k_1297) + (((nI (1000 * (loadD B k_1297))) - (decay 42 (loadD B) k_1297)) / (nI 42)))))), (fa, .inl (G.2 0, 200, .inl l3_1300))] H) (hD : va_D A [(b, .inr (1, [.ref to, .ref so, .ref bo, .ref we, .ref tg, .int (nI (bD B)), .int (nI (bI9 B)), .int (oI (bP B)), .int (nI (bE B)), .int (nI k_1297), .ref lo, .ref fi, .ref fa])), (lo, .inl (G.2 0, 200, .inl (upd l1_1298 k_1297 (nI (loadD B k_1297))))), (fi, .inl (G.2 0, 200, .inl (upd l2_1299 k_1297 ((decay 42 (loadD B) k_1297) + (((nI (1000 * (loadD B k_1297))) - (decay 42 (loadD B) k_1297)) / (nI 42)))))), (fa, .inl (G.2 0, 200, .inl l3_1300))]) hS => ?_)
        refine lv_aload_n hx hb dX2_learnUpTo_100 rfl (lv_at hl 2 rfl) ?_
        refine va_get hx hb hts in_X2 hown hK hP 0 rfl rfl 12 (by decide) (hts _ q159) (fun _ h => h) rfl dX2_learnUpTo_101 ?_
        refine lv_aload_n hx hb dX2_learnUpTo_104 rfl (lv_at hl 2 rfl) ?_
        refine va_get hx hb hts in_X2 hown hK hP 0 rfl rfl 9 (by decide) (hts _ q156) (fun _ h => h) rfl dX2_learnUpTo_105 ?_
        refine lv_iload_n hx hb dX2_learnUpTo_108 rfl (lv_at hl 0 rfl) ?_
        refine lv_sipush (v := nI 1000) hx hb dX2_learnUpTo_109 (by decide) ?_
        refine lv_aload_n hx hb dX2_learnUpTo_112 rfl (lv_at hl 2 rfl) ?_
        refine va_get hx hb hts in_X2 hown hK hP 0 rfl rfl 10 (by decide) (hts _ q157) (fun _ h => h) rfl dX2_learnUpTo_113 ?_
        refine lv_aload_n hx hb dX2_learnUpTo_116 rfl (lv_at hl 2 rfl) ?_
        refine va_get hx hb hts in_X2 hown hK hP 0 rfl rfl 9 (by decide) (hts _ q156) (fun _ h => h) rfl dX2_learnUpTo_117 ?_
        refine r_iald (v := nI (loadD B k_1297)) hx hb hK hP 1 0 rfl rfl (i := k_1297) (by omega) (by omega) (pk_us) dX2_learnUpTo_120 ?_
        refine lv_imul hx hb dX2_learnUpTo_121 ?_
        refine lv_ton (n := 1000 * (loadD B k_1297)) (nmul (by omega)) ?_
        refine lv_iload_n hx hb dX2_learnUpTo_122 rfl (lv_at hl 0 rfl) ?_
        refine lv_isub hx hb dX2_learnUpTo_123 ?_
        refine lv_bipush (v := nI 7) hx hb dX2_learnUpTo_124 (by decide) ?_
        refine lv_idiv hx hb dX2_learnUpTo_126 (by decide) ?_
        refine lv_iadd hx hb dX2_learnUpTo_127 ?_
        refine r_iast hx hb hK hP hD hS 3 0 rfl rfl (i := k_1297) (by omega) (by omega) dX2_learnUpTo_128 (fun H locs (hP : va_P G.1 CL [(b, .inr (1, [.ref to, .ref so, .ref bo, .ref we, .ref tg, .int (nI (bD B)), .int (nI (bI9 B)), .int (oI (bP B)), .int (nI (bE B)), .int (nI k_1297), .ref lo, .ref fi, .ref fa])), (lo, .inl (G.2 0, 200, .inl (upd l1_1298 k_1297 (nI (loadD B k_1297))))), (fi, .inl (G.2 0, 200, .inl (upd l2_1299 k_1297 ((decay 42 (loadD B) k_1297) + (((nI (1000 * (loadD B k_1297))) - (decay 42 (loadD B) k_1297)) / (nI 42)))))), (fa, .inl (G.2 0, 200, .inl (upd l3_1300 k_1297 ((decay 7 (loadD B) k_1297) + (((nI (1000 * (loadD B k_1297))) - (decay 7 (loadD B) k_1297)) / (nI 7))))))] H) (hD : va_D A [(b, .inr (1, [.ref to, .ref so, .ref bo, .ref we, .ref tg, .int (nI (bD B)), .int (nI (bI9 B)), .int (oI (bP B)), .int (nI (bE B)), .int (nI k_1297), .ref lo, .ref fi, .ref fa])), (lo, .inl (G.2 0, 200, .inl (upd l1_1298 k_1297 (nI (loadD B k_1297))))), (fi, .inl (G.2 0, 200, .inl (upd l2_1299 k_1297 ((decay 42 (loadD B) k_1297) + (((nI (1000 * (loadD B k_1297))) - (decay 42 (loadD B) k_1297)) / (nI 42)))))), (fa, .inl (G.2 0, 200, .inl (upd l3_1300 k_1297 ((decay 7 (loadD B) k_1297) + (((nI (1000 * (loadD B k_1297))) - (decay 7 (loadD B) k_1297)) / (nI 7))))))]) hS => ?_)
        refine lv_aload_n hx hb dX2_learnUpTo_129 rfl (lv_at hl 2 rfl) ?_
        refine lv_dup hx hb dX2_learnUpTo_130 rfl ?_
        refine va_get hx hb hts in_X2 hown hK hP 0 rfl rfl 9 (by decide) (hts _ q156) (fun _ h => h) rfl dX2_learnUpTo_131 ?_
        refine lv_iconst (v := nI 1) hx hb dX2_learnUpTo_134 (by decide) ?_
        refine lv_iadd hx hb dX2_learnUpTo_135 ?_
        refine lv_ton (n := k_1297 + 1) (nadd (by omega)) ?_
        refine va_put (v := .int (nI (k_1297 + 1))) (ty := .int) hx hb hts in_X2 tyX2 tyX2_ok nmX2 hown hK hP hD hS 0 rfl rfl 9 (by decide) (hts _ q156) (fun _ h => h) rfl (by decide +kernel) rfl rfl (Nat.le_of_ble_eq_true rfl) dX2_learnUpTo_136 (fun H locs (hP : va_P G.1 CL [(b, .inr (1, [.ref to, .ref so, .ref bo, .ref we, .ref tg, .int (nI (bD B)), .int (nI (bI9 B)), .int (oI (bP B)), .int (nI (bE B)), .int (nI (k_1297 + 1)), .ref lo, .ref fi, .ref fa])), (lo, .inl (G.2 0, 200, .inl (upd l1_1298 k_1297 (nI (loadD B k_1297))))), (fi, .inl (G.2 0, 200, .inl (upd l2_1299 k_1297 ((decay 42 (loadD B) k_1297) + (((nI (1000 * (loadD B k_1297))) - (decay 42 (loadD B) k_1297)) / (nI 42)))))), (fa, .inl (G.2 0, 200, .inl (upd l3_1300 k_1297 ((decay 7 (loadD B) k_1297) + (((nI (1000 * (loadD B k_1297))) - (decay 7 (loadD B) k_1297)) / (nI 7))))))] H) (hD : va_D A [(b, .inr (1, [.ref to, .ref so, .ref bo, .ref we, .ref tg, .int (nI (bD B)), .int (nI (bI9 B)), .int (oI (bP B)), .int (nI (bE B)), .int (nI (k_1297 + 1)), .ref lo, .ref fi, .ref fa])), (lo, .inl (G.2 0, 200, .inl (upd l1_1298 k_1297 (nI (loadD B k_1297))))), (fi, .inl (G.2 0, 200, .inl (upd l2_1299 k_1297 ((decay 42 (loadD B) k_1297) + (((nI (1000 * (loadD B k_1297))) - (decay 42 (loadD B) k_1297)) / (nI 42)))))), (fa, .inl (G.2 0, 200, .inl (upd l3_1300 k_1297 ((decay 7 (loadD B) k_1297) + (((nI (1000 * (loadD B k_1297))) - (decay 7 (loadD B) k_1297)) / (nI 7))))))]) hS => ?_)
        refine lv_goto (tgt := 0) hx hb dX2_learnUpTo_139 (by decide) ?_
        have hP : va_P G.1 CL [(b, .inr (1, [.ref to, .ref so, .ref bo, .ref we, .ref tg, .int (nI (bD B)), .int (nI (bI9 B)), .int (oI (bP B)), .int (nI (bE B)), .int (nI (k_1297 + 1)), .ref lo, .ref fi, .ref fa])), (lo, .inl (G.2 0, 200, .inl (upd l1_1298 k_1297 (nI (loadD B k_1297))))), (fi, .inl (G.2 0, 200, .inl (upd l2_1299 k_1297 ((decay 42 (loadD B) k_1297) + (((nI (1000 * (loadD B k_1297))) - (decay 42 (loadD B) k_1297)) / (nI 42)))))), (fa, .inl (G.2 0, 200, .inl (upd l3_1300 k_1297 ((decay 7 (loadD B) k_1297) + (((nI (1000 * (loadD B k_1297))) - (decay 7 (loadD B) k_1297)) / (nI 7))))))] H := hP.sub [0, 1, 2, 3] rfl
        have hD : va_D A [(b, .inr (1, [.ref to, .ref so, .ref bo, .ref we, .ref tg, .int (nI (bD B)), .int (nI (bI9 B)), .int (oI (bP B)), .int (nI (bE B)), .int (nI (k_1297 + 1)), .ref lo, .ref fi, .ref fa])), (lo, .inl (G.2 0, 200, .inl (upd l1_1298 k_1297 (nI (loadD B k_1297))))), (fi, .inl (G.2 0, 200, .inl (upd l2_1299 k_1297 ((decay 42 (loadD B) k_1297) + (((nI (1000 * (loadD B k_1297))) - (decay 42 (loadD B) k_1297)) / (nI 42)))))), (fa, .inl (G.2 0, 200, .inl (upd l3_1300 k_1297 ((decay 7 (loadD B) k_1297) + (((nI (1000 * (loadD B k_1297))) - (decay 7 (loadD B) k_1297)) / (nI 7))))))] := hD.sub [0, 1, 2, 3] (by decide) rfl
        have hl := lv_sub hl [2, 3] (l' := [(0, .ref b), (1, .int (nI d))]) rfl
        exact W.widen (show 41 * (k_1297 - kn) + 41 ≤ 41 * ((k_1297 + 1) - kn) from by first | exact Nat.le_refl _ | omega) (show 82 * (k_1297 - kn) + 82 ≤ 82 * ((k_1297 + 1) - kn) from by first | exact Nat.le_refl _ | omega) (ih0 ((k_1297 + 1), upd l1_1298 k_1297 (nI (loadD B k_1297)), upd l2_1299 k_1297 ((decay 42 (loadD B) k_1297) + (((nI (1000 * (loadD B k_1297))) - (decay 42 (loadD B) k_1297)) / (nI 42))), upd l3_1300 k_1297 ((decay 7 (loadD B) k_1297) + (((nI (1000 * (loadD B k_1297))) - (decay 7 (loadD B) k_1297)) / (nI 7)))) H locs ls ⟨hP, hD, hS, hl, (show kn ≤ (k_1297 + 1) ∧ (k_1297 + 1) ≤ (max kn (d + 1)) from ⟨by omega, by omega⟩), (show Cache B (k_1297 + 1) (upd l1_1298 k_1297 (nI (loadD B k_1297))) (upd l2_1299 k_1297 ((decay 42 (loadD B) k_1297) + (((nI (1000 * (loadD B k_1297))) - (decay 42 (loadD B) k_1297)) / (nI 42)))) (upd l3_1300 k_1297 ((decay 7 (loadD B) k_1297) + (((nI (1000 * (loadD B k_1297))) - (decay 7 (loadD B) k_1297)) / (nI 7)))) from Cache_s hp_1296 rfl rfl)⟩ (show d + 1 - (k_1297 + 1) < d + 1 - k_1297 from by omega))
    · refine lv_iconst (v := nI 0) hx hb dX2_learnUpTo_15 (by decide) ?_
      refine lv_goto (tgt := 30) hx hb dX2_learnUpTo_16 (by decide) ?_
      refine lv_toi (y := decay 42 (loadD B) k_1297) (by rw [show k_1297 = 0 by omega]; rfl) ?_
      refine lv_istore_n (lv' := [(2, .int (decay 42 (loadD B) k_1297)), (0, .ref b), (1, .int (nI d))]) hx hb dX2_learnUpTo_30 rfl hl (by decide) rfl (fun ls hl => ?_)
      refine lv_aload_n hx hb dX2_learnUpTo_31 rfl (lv_at hl 1 rfl) ?_
      refine va_get hx hb hts in_X2 hown hK hP 0 rfl rfl 9 (by decide) (hts _ q156) (fun _ h => h) rfl dX2_learnUpTo_32 ?_
      refine n_if_ne (tgt := 42) hx hb (by omega) dX2_learnUpTo_35 (by decide) (fun c_1307 => ?_) (fun c_1307 => ?_)
      · refine lv_aload_n hx hb dX2_learnUpTo_42 rfl (lv_at hl 1 rfl) ?_
        refine va_get hx hb hts in_X2 hown hK hP 0 rfl rfl 12 (by decide) (hts _ q159) (fun _ h => h) rfl dX2_learnUpTo_43 ?_
        refine lv_aload_n hx hb dX2_learnUpTo_46 rfl (lv_at hl 1 rfl) ?_
        refine va_get hx hb hts in_X2 hown hK hP 0 rfl rfl 9 (by decide) (hts _ q156) (fun _ h => h) rfl dX2_learnUpTo_47 ?_
        refine lv_iconst (v := nI 1) hx hb dX2_learnUpTo_50 (by decide) ?_
        refine lv_isub hx hb dX2_learnUpTo_51 ?_
        refine lv_ton (n := (k_1297 - 1)) (nsub (by omega)) ?_
        refine r_iald (v := decay 7 (loadD B) k_1297) hx hb hK hP 3 0 rfl rfl (i := (k_1297 - 1)) (by omega) (by omega) (by have h9 := (hp_1296 (k_1297 - 1) (by omega)).2.2; rw [show k_1297 - 1 + 1 = k_1297 by omega] at h9; exact h9) dX2_learnUpTo_52 ?_
        refine lv_istore_n (lv' := [(3, .int (decay 7 (loadD B) k_1297)), (2, .int (decay 42 (loadD B) k_1297)), (0, .ref b), (1, .int (nI d))]) hx hb dX2_learnUpTo_53 rfl hl (by decide) rfl (fun ls hl => ?_)
        refine lv_aload_n hx hb dX2_learnUpTo_54 rfl (lv_at hl 2 rfl) ?_
        refine va_get hx hb hts in_X2 hown hK hP 0 rfl rfl 10 (by decide) (hts _ q157) (fun _ h => h) rfl dX2_learnUpTo_55 ?_
        refine lv_aload_n hx hb dX2_learnUpTo_58 rfl (lv_at hl 2 rfl) ?_
        refine va_get hx hb hts in_X2 hown hK hP 0 rfl rfl 9 (by decide) (hts _ q156) (fun _ h => h) rfl dX2_learnUpTo_59 ?_
        refine lv_aload_n hx hb dX2_learnUpTo_62 rfl (lv_at hl 2 rfl) ?_
        refine lv_aload_n hx hb dX2_learnUpTo_63 rfl (lv_at hl 2 rfl) ?_
        refine va_get hx hb hts in_X2 hown hK hP 0 rfl rfl 9 (by decide) (hts _ q156) (fun _ h => h) rfl dX2_learnUpTo_64 ?_
        have hF := hF_of (wc := []) hD hS hA [] rfl
        have hro_1308 : va_P G.1 CL [(b, .inr (1, [.ref to, .ref so, .ref bo, .ref we, .ref tg, .int (nI (bD B)), .int (nI (bI9 B)), .int (oI (bP B)), .int (nI (bE B)), .int (nI k_1297), .ref lo, .ref fi, .ref fa])), (to, .inr (2, [.ref ta])), (ta, .inr (3, [.int tm, .ref te, .int (nI (tN B))])), (te, .inl (G.2 3, tcap, .inr (.inr (.inr (.inr tf))))), (so, .inr (2, [.ref sa])), (sa, .inr (3, [.int sm, .ref se, .int (nI (sN B))])), (se, .inl (G.2 3, scap, .inr (.inr (.inr (.inr sf))))), (bo, .inl (G.2 0, 6, .inl fb)), (we, .inl (G.2 0, 6, .inl fw))] H := ((va_P.sub hP [0] rfl).app ((hR0.w hS).sub [0, 1, 2, 3, 4, 5, 6, 7] rfl))
        refine go_ct hS hP hD [] [0, 1, 2, 3] hF rfl rfl (by decide) (by decide)
            (va_runV (As := [.int (nI k_1297)]) (rest := [.int (nI k_1297), .ref lo]) cf (mX2_loadFromSessions l G b to so bo we tg lo fi fa k_1297 B ta tm te tcap tf ga sa sm se scap sf gs Wi fb fw k_1297 (show Inv B from by first | assumption | omega) (show tN B ≤ tcap ∧ tcap ≤ 60 from by first | assumption | omega) (show ∀ j, j < tN B → tf j = some (ga j) ∧ TestIn Wi (ga j) (tDay B j) (tThr B j) from by first | assumption | omega) (show SrtT B from by first | assumption | omega) (show ∀ z, 2 ≤ z → z ≤ 5 → fb z = nI (bB B z) from by first | assumption | omega) (show ∀ z, 1 ≤ z → z ≤ 5 → fw z = nI (bW B z) from by first | assumption | omega) (show sN B ≤ scap ∧ scap ≤ 60 from by first | assumption | omega) (show ∀ j, j < sN B → sf j = some (gs j) ∧ SesIn G Wi (gs j) (sAt B j) from by first | assumption | omega) (show SrtS B from by first | assumption | omega) (show k_1297 < 2 ^ 31 from by first | assumption | omega) H.size) (cwV 1 hts (lw_V q283 q285 qs1 q48 q286) rfl rfl rfl (by decide +kernel) ⟨Nat.le_of_ble_eq_true rfl, Nat.le_of_ble_eq_true rfl⟩) (preV_of hKB hE hS hF (va_recv hK hP (ci := 1) (q0 := 0) rfl rfl) (va_P.sub hP [] rfl) ((va_D.sub hD [] (by decide) rfl).weaken (fun _ _ _ _ => trivial)) ⟨(roW.nil hro_1308), (roW.nil (hR1.w hS))⟩) rfl rfl hl.1 rfl (lv_room (Nat.le_of_ble_eq_true rfl)) dX2_learnUpTo_67 ⟨show 41 * (k_1297 - kn) + 41 ≤ 41 * ((max kn (d + 1)) - kn) from by first | decide | omega, show 82 * (k_1297 - kn) + 82 ≤ 82 * ((max kn (d + 1)) - kn) from by first | decide | omega⟩)
            (fun u_ H locs hq hph (hP : va_P G.1 CL [(b, .inr (1, [.ref to, .ref so, .ref bo, .ref we, .ref tg, .int (nI (bD B)), .int (nI (bI9 B)), .int (oI (bP B)), .int (nI (bE B)), .int (nI k_1297), .ref lo, .ref fi, .ref fa])), (lo, .inl (G.2 0, 200, .inl l1_1298)), (fi, .inl (G.2 0, 200, .inl l2_1299)), (fa, .inl (G.2 0, 200, .inl l3_1300))] H) (hD : va_D A [(b, .inr (1, [.ref to, .ref so, .ref bo, .ref we, .ref tg, .int (nI (bD B)), .int (nI (bI9 B)), .int (oI (bP B)), .int (nI (bE B)), .int (nI k_1297), .ref lo, .ref fi, .ref fa])), (lo, .inl (G.2 0, 200, .inl l1_1298)), (fi, .inl (G.2 0, 200, .inl l2_1299)), (fa, .inl (G.2 0, 200, .inl l3_1300))]) hS hfz hfk => ?_)
        refine W.eq (g2 := F0 m 70 ls [.int (nI (loadD B k_1297)), .int (nI k_1297), .ref lo]) rfl ?_
        refine r_iast hx hb hK hP hD hS 1 0 rfl rfl (i := k_1297) (by omega) (by omega) dX2_learnUpTo_70 (fun H locs (hP : va_P G.1 CL [(b, .inr (1, [.ref to, .ref so, .ref bo, .ref we, .ref tg, .int (nI (bD B)), .int (nI (bI9 B)), .int (oI (bP B)), .int (nI (bE B)), .int (nI k_1297), .ref lo, .ref fi, .ref fa])), (lo, .inl (G.2 0, 200, .inl (upd l1_1298 k_1297 (nI (loadD B k_1297))))), (fi, .inl (G.2 0, 200, .inl l2_1299)), (fa, .inl (G.2 0, 200, .inl l3_1300))] H) (hD : va_D A [(b, .inr (1, [.ref to, .ref so, .ref bo, .ref we, .ref tg, .int (nI (bD B)), .int (nI (bI9 B)), .int (oI (bP B)), .int (nI (bE B)), .int (nI k_1297), .ref lo, .ref fi, .ref fa])), (lo, .inl (G.2 0, 200, .inl (upd l1_1298 k_1297 (nI (loadD B k_1297))))), (fi, .inl (G.2 0, 200, .inl l2_1299)), (fa, .inl (G.2 0, 200, .inl l3_1300))]) hS => ?_)
        refine lv_aload_n hx hb dX2_learnUpTo_71 rfl (lv_at hl 2 rfl) ?_
        refine va_get hx hb hts in_X2 hown hK hP 0 rfl rfl 11 (by decide) (hts _ q158) (fun _ h => h) rfl dX2_learnUpTo_72 ?_
        refine lv_aload_n hx hb dX2_learnUpTo_75 rfl (lv_at hl 2 rfl) ?_
        refine va_get hx hb hts in_X2 hown hK hP 0 rfl rfl 9 (by decide) (hts _ q156) (fun _ h => h) rfl dX2_learnUpTo_76 ?_
        refine lv_iload_n hx hb dX2_learnUpTo_79 rfl (lv_at hl 1 rfl) ?_
        refine lv_sipush (v := nI 1000) hx hb dX2_learnUpTo_80 (by decide) ?_
        refine lv_aload_n hx hb dX2_learnUpTo_83 rfl (lv_at hl 2 rfl) ?_
        refine va_get hx hb hts in_X2 hown hK hP 0 rfl rfl 10 (by decide) (hts _ q157) (fun _ h => h) rfl dX2_learnUpTo_84 ?_
        refine lv_aload_n hx hb dX2_learnUpTo_87 rfl (lv_at hl 2 rfl) ?_
        refine va_get hx hb hts in_X2 hown hK hP 0 rfl rfl 9 (by decide) (hts _ q156) (fun _ h => h) rfl dX2_learnUpTo_88 ?_
        refine r_iald (v := nI (loadD B k_1297)) hx hb hK hP 1 0 rfl rfl (i := k_1297) (by omega) (by omega) (pk_us) dX2_learnUpTo_91 ?_
        refine lv_imul hx hb dX2_learnUpTo_92 ?_
        refine lv_ton (n := 1000 * (loadD B k_1297)) (nmul (by omega)) ?_
        refine lv_iload_n hx hb dX2_learnUpTo_93 rfl (lv_at hl 1 rfl) ?_
        refine lv_isub hx hb dX2_learnUpTo_94 ?_
        refine lv_bipush (v := nI 42) hx hb dX2_learnUpTo_95 (by decide) ?_
        refine lv_idiv hx hb dX2_learnUpTo_97 (by decide) ?_
        refine lv_iadd hx hb dX2_learnUpTo_98 ?_
        refine r_iast hx hb hK hP hD hS 2 0 rfl rfl (i := k_1297) (by omega) (by omega) dX2_learnUpTo_99 (fun H locs (hP : va_P G.1 CL [(b, .inr (1, [.ref to, .ref so, .ref bo, .ref we, .ref tg, .int (nI (bD B)), .int (nI (bI9 B)), .int (oI (bP B)), .int (nI (bE B)), .int (nI k_1297), .ref lo, .ref fi, .ref fa])), (lo, .inl (G.2 0, 200, .inl (upd l1_1298 k_1297 (nI (loadD B k_1297))))), (fi, .inl (G.2 0, 200, .inl (upd l2_1299 k_1297 ((decay 42 (loadD B) k_1297) + (((nI (1000 * (loadD B k_1297))) - (decay 42 (loadD B) k_1297)) / (nI 42)))))), (fa, .inl (G.2 0, 200, .inl l3_1300))] H) (hD : va_D A [(b, .inr (1, [.ref to, .ref so, .ref bo, .ref we, .ref tg, .int (nI (bD B)), .int (nI (bI9 B)), .int (oI (bP B)), .int (nI (bE B)), .int (nI k_1297), .ref lo, .ref fi, .ref fa])), (lo, .inl (G.2 0, 200, .inl (upd l1_1298 k_1297 (nI (loadD B k_1297))))), (fi, .inl (G.2 0, 200, .inl (upd l2_1299 k_1297 ((decay 42 (loadD B) k_1297) + (((nI (1000 * (loadD B k_1297))) - (decay 42 (loadD B) k_1297)) / (nI 42)))))), (fa, .inl (G.2 0, 200, .inl l3_1300))]) hS => ?_)
        refine lv_aload_n hx hb dX2_learnUpTo_100 rfl (lv_at hl 2 rfl) ?_
        refine va_get hx hb hts in_X2 hown hK hP 0 rfl rfl 12 (by decide) (hts _ q159) (fun _ h => h) rfl dX2_learnUpTo_101 ?_
        refine lv_aload_n hx hb dX2_learnUpTo_104 rfl (lv_at hl 2 rfl) ?_
        refine va_get hx hb hts in_X2 hown hK hP 0 rfl rfl 9 (by decide) (hts _ q156) (fun _ h => h) rfl dX2_learnUpTo_105 ?_
        refine lv_iload_n hx hb dX2_learnUpTo_108 rfl (lv_at hl 0 rfl) ?_
        refine lv_sipush (v := nI 1000) hx hb dX2_learnUpTo_109 (by decide) ?_
        refine lv_aload_n hx hb dX2_learnUpTo_112 rfl (lv_at hl 2 rfl) ?_
        refine va_get hx hb hts in_X2 hown hK hP 0 rfl rfl 10 (by decide) (hts _ q157) (fun _ h => h) rfl dX2_learnUpTo_113 ?_
        refine lv_aload_n hx hb dX2_learnUpTo_116 rfl (lv_at hl 2 rfl) ?_
        refine va_get hx hb hts in_X2 hown hK hP 0 rfl rfl 9 (by decide) (hts _ q156) (fun _ h => h) rfl dX2_learnUpTo_117 ?_
        refine r_iald (v := nI (loadD B k_1297)) hx hb hK hP 1 0 rfl rfl (i := k_1297) (by omega) (by omega) (pk_us) dX2_learnUpTo_120 ?_
        refine lv_imul hx hb dX2_learnUpTo_121 ?_
        refine lv_ton (n := 1000 * (loadD B k_1297)) (nmul (by omega)) ?_
        refine lv_iload_n hx hb dX2_learnUpTo_122 rfl (lv_at hl 0 rfl) ?_
        refine lv_isub hx hb dX2_learnUpTo_123 ?_
        refine lv_bipush (v := nI 7) hx hb dX2_learnUpTo_124 (by decide) ?_
        refine lv_idiv hx hb dX2_learnUpTo_126 (by decide) ?_
        refine lv_iadd hx hb dX2_learnUpTo_127 ?_
        refine r_iast hx hb hK hP hD hS 3 0 rfl rfl (i := k_1297) (by omega) (by omega) dX2_learnUpTo_128 (fun H locs (hP : va_P G.1 CL [(b, .inr (1, [.ref to, .ref so, .ref bo, .ref we, .ref tg, .int (nI (bD B)), .int (nI (bI9 B)), .int (oI (bP B)), .int (nI (bE B)), .int (nI k_1297), .ref lo, .ref fi, .ref fa])), (lo, .inl (G.2 0, 200, .inl (upd l1_1298 k_1297 (nI (loadD B k_1297))))), (fi, .inl (G.2 0, 200, .inl (upd l2_1299 k_1297 ((decay 42 (loadD B) k_1297) + (((nI (1000 * (loadD B k_1297))) - (decay 42 (loadD B) k_1297)) / (nI 42)))))), (fa, .inl (G.2 0, 200, .inl (upd l3_1300 k_1297 ((decay 7 (loadD B) k_1297) + (((nI (1000 * (loadD B k_1297))) - (decay 7 (loadD B) k_1297)) / (nI 7))))))] H) (hD : va_D A [(b, .inr (1, [.ref to, .ref so, .ref bo, .ref we, .ref tg, .int (nI (bD B)), .int (nI (bI9 B)), .int (oI (bP B)), .int (nI (bE B)), .int (nI k_1297), .ref lo, .ref fi, .ref fa])), (lo, .inl (G.2 0, 200, .inl (upd l1_1298 k_1297 (nI (loadD B k_1297))))), (fi, .inl (G.2 0, 200, .inl (upd l2_1299 k_1297 ((decay 42 (loadD B) k_1297) + (((nI (1000 * (loadD B k_1297))) - (decay 42 (loadD B) k_1297)) / (nI 42)))))), (fa, .inl (G.2 0, 200, .inl (upd l3_1300 k_1297 ((decay 7 (loadD B) k_1297) + (((nI (1000 * (loadD B k_1297))) - (decay 7 (loadD B) k_1297)) / (nI 7))))))]) hS => ?_)
        refine lv_aload_n hx hb dX2_learnUpTo_129 rfl (lv_at hl 2 rfl) ?_
        refine lv_dup hx hb dX2_learnUpTo_130 rfl ?_
        refine va_get hx hb hts in_X2 hown hK hP 0 rfl rfl 9 (by decide) (hts _ q156) (fun _ h => h) rfl dX2_learnUpTo_131 ?_
        refine lv_iconst (v := nI 1) hx hb dX2_learnUpTo_134 (by decide) ?_
        refine lv_iadd hx hb dX2_learnUpTo_135 ?_
        refine lv_ton (n := k_1297 + 1) (nadd (by omega)) ?_
        refine va_put (v := .int (nI (k_1297 + 1))) (ty := .int) hx hb hts in_X2 tyX2 tyX2_ok nmX2 hown hK hP hD hS 0 rfl rfl 9 (by decide) (hts _ q156) (fun _ h => h) rfl (by decide +kernel) rfl rfl (Nat.le_of_ble_eq_true rfl) dX2_learnUpTo_136 (fun H locs (hP : va_P G.1 CL [(b, .inr (1, [.ref to, .ref so, .ref bo, .ref we, .ref tg, .int (nI (bD B)), .int (nI (bI9 B)), .int (oI (bP B)), .int (nI (bE B)), .int (nI (k_1297 + 1)), .ref lo, .ref fi, .ref fa])), (lo, .inl (G.2 0, 200, .inl (upd l1_1298 k_1297 (nI (loadD B k_1297))))), (fi, .inl (G.2 0, 200, .inl (upd l2_1299 k_1297 ((decay 42 (loadD B) k_1297) + (((nI (1000 * (loadD B k_1297))) - (decay 42 (loadD B) k_1297)) / (nI 42)))))), (fa, .inl (G.2 0, 200, .inl (upd l3_1300 k_1297 ((decay 7 (loadD B) k_1297) + (((nI (1000 * (loadD B k_1297))) - (decay 7 (loadD B) k_1297)) / (nI 7))))))] H) (hD : va_D A [(b, .inr (1, [.ref to, .ref so, .ref bo, .ref we, .ref tg, .int (nI (bD B)), .int (nI (bI9 B)), .int (oI (bP B)), .int (nI (bE B)), .int (nI (k_1297 + 1)), .ref lo, .ref fi, .ref fa])), (lo, .inl (G.2 0, 200, .inl (upd l1_1298 k_1297 (nI (loadD B k_1297))))), (fi, .inl (G.2 0, 200, .inl (upd l2_1299 k_1297 ((decay 42 (loadD B) k_1297) + (((nI (1000 * (loadD B k_1297))) - (decay 42 (loadD B) k_1297)) / (nI 42)))))), (fa, .inl (G.2 0, 200, .inl (upd l3_1300 k_1297 ((decay 7 (loadD B) k_1297) + (((nI (1000 * (loadD B k_1297))) - (decay 7 (loadD B) k_1297)) / (nI 7))))))]) hS => ?_)
        refine lv_goto (tgt := 0) hx hb dX2_learnUpTo_139 (by decide) ?_
        have hP : va_P G.1 CL [(b, .inr (1, [.ref to, .ref so, .ref bo, .ref we, .ref tg, .int (nI (bD B)), .int (nI (bI9 B)), .int (oI (bP B)), .int (nI (bE B)), .int (nI (k_1297 + 1)), .ref lo, .ref fi, .ref fa])), (lo, .inl (G.2 0, 200, .inl (upd l1_1298 k_1297 (nI (loadD B k_1297))))), (fi, .inl (G.2 0, 200, .inl (upd l2_1299 k_1297 ((decay 42 (loadD B) k_1297) + (((nI (1000 * (loadD B k_1297))) - (decay 42 (loadD B) k_1297)) / (nI 42)))))), (fa, .inl (G.2 0, 200, .inl (upd l3_1300 k_1297 ((decay 7 (loadD B) k_1297) + (((nI (1000 * (loadD B k_1297))) - (decay 7 (loadD B) k_1297)) / (nI 7))))))] H := hP.sub [0, 1, 2, 3] rfl
        have hD : va_D A [(b, .inr (1, [.ref to, .ref so, .ref bo, .ref we, .ref tg, .int (nI (bD B)), .int (nI (bI9 B)), .int (oI (bP B)), .int (nI (bE B)), .int (nI (k_1297 + 1)), .ref lo, .ref fi, .ref fa])), (lo, .inl (G.2 0, 200, .inl (upd l1_1298 k_1297 (nI (loadD B k_1297))))), (fi, .inl (G.2 0, 200, .inl (upd l2_1299 k_1297 ((decay 42 (loadD B) k_1297) + (((nI (1000 * (loadD B k_1297))) - (decay 42 (loadD B) k_1297)) / (nI 42)))))), (fa, .inl (G.2 0, 200, .inl (upd l3_1300 k_1297 ((decay 7 (loadD B) k_1297) + (((nI (1000 * (loadD B k_1297))) - (decay 7 (loadD B) k_1297)) / (nI 7))))))] := hD.sub [0, 1, 2, 3] (by decide) rfl
        have hl := lv_sub hl [2, 3] (l' := [(0, .ref b), (1, .int (nI d))]) rfl
        exact W.widen (show 41 * (k_1297 - kn) + 41 ≤ 41 * ((k_1297 + 1) - kn) from by first | exact Nat.le_refl _ | omega) (show 82 * (k_1297 - kn) + 82 ≤ 82 * ((k_1297 + 1) - kn) from by first | exact Nat.le_refl _ | omega) (ih0 ((k_1297 + 1), upd l1_1298 k_1297 (nI (loadD B k_1297)), upd l2_1299 k_1297 ((decay 42 (loadD B) k_1297) + (((nI (1000 * (loadD B k_1297))) - (decay 42 (loadD B) k_1297)) / (nI 42))), upd l3_1300 k_1297 ((decay 7 (loadD B) k_1297) + (((nI (1000 * (loadD B k_1297))) - (decay 7 (loadD B) k_1297)) / (nI 7)))) H locs ls ⟨hP, hD, hS, hl, (show kn ≤ (k_1297 + 1) ∧ (k_1297 + 1) ≤ (max kn (d + 1)) from ⟨by omega, by omega⟩), (show Cache B (k_1297 + 1) (upd l1_1298 k_1297 (nI (loadD B k_1297))) (upd l2_1299 k_1297 ((decay 42 (loadD B) k_1297) + (((nI (1000 * (loadD B k_1297))) - (decay 42 (loadD B) k_1297)) / (nI 42)))) (upd l3_1300 k_1297 ((decay 7 (loadD B) k_1297) + (((nI (1000 * (loadD B k_1297))) - (decay 7 (loadD B) k_1297)) / (nI 7)))) from Cache_s hp_1296 rfl rfl)⟩ (show d + 1 - (k_1297 + 1) < d + 1 - k_1297 from by omega))
      · refine lv_iconst (v := nI 0) hx hb dX2_learnUpTo_38 (by decide) ?_
        refine lv_goto (tgt := 53) hx hb dX2_learnUpTo_39 (by decide) ?_
        refine lv_toi (y := decay 7 (loadD B) k_1297) (by rw [show k_1297 = 0 by omega]; rfl) ?_
        refine lv_istore_n (lv' := [(3, .int (decay 7 (loadD B) k_1297)), (2, .int (decay 42 (loadD B) k_1297)), (0, .ref b), (1, .int (nI d))]) hx hb dX2_learnUpTo_53 rfl hl (by decide) rfl (fun ls hl => ?_)
        refine lv_aload_n hx hb dX2_learnUpTo_54 rfl (lv_at hl 2 rfl) ?_
        refine va_get hx hb hts in_X2 hown hK hP 0 rfl rfl 10 (by decide) (hts _ q157) (fun _ h => h) rfl dX2_learnUpTo_55 ?_
        refine lv_aload_n hx hb dX2_learnUpTo_58 rfl (lv_at hl 2 rfl) ?_
        refine va_get hx hb hts in_X2 hown hK hP 0 rfl rfl 9 (by decide) (hts _ q156) (fun _ h => h) rfl dX2_learnUpTo_59 ?_
        refine lv_aload_n hx hb dX2_learnUpTo_62 rfl (lv_at hl 2 rfl) ?_
        refine lv_aload_n hx hb dX2_learnUpTo_63 rfl (lv_at hl 2 rfl) ?_
        refine va_get hx hb hts in_X2 hown hK hP 0 rfl rfl 9 (by decide) (hts _ q156) (fun _ h => h) rfl dX2_learnUpTo_64 ?_
        have hF := hF_of (wc := []) hD hS hA [] rfl
        have hro_1309 : va_P G.1 CL [(b, .inr (1, [.ref to, .ref so, .ref bo, .ref we, .ref tg, .int (nI (bD B)), .int (nI (bI9 B)), .int (oI (bP B)), .int (nI (bE B)), .int (nI k_1297), .ref lo, .ref fi, .ref fa])), (to, .inr (2, [.ref ta])), (ta, .inr (3, [.int tm, .ref te, .int (nI (tN B))])), (te, .inl (G.2 3, tcap, .inr (.inr (.inr (.inr tf))))), (so, .inr (2, [.ref sa])), (sa, .inr (3, [.int sm, .ref se, .int (nI (sN B))])), (se, .inl (G.2 3, scap, .inr (.inr (.inr (.inr sf))))), (bo, .inl (G.2 0, 6, .inl fb)), (we, .inl (G.2 0, 6, .inl fw))] H := ((va_P.sub hP [0] rfl).app ((hR0.w hS).sub [0, 1, 2, 3, 4, 5, 6, 7] rfl))
        refine go_ct hS hP hD [] [0, 1, 2, 3] hF rfl rfl (by decide) (by decide)
            (va_runV (As := [.int (nI k_1297)]) (rest := [.int (nI k_1297), .ref lo]) cf (mX2_loadFromSessions l G b to so bo we tg lo fi fa k_1297 B ta tm te tcap tf ga sa sm se scap sf gs Wi fb fw k_1297 (show Inv B from by first | assumption | omega) (show tN B ≤ tcap ∧ tcap ≤ 60 from by first | assumption | omega) (show ∀ j, j < tN B → tf j = some (ga j) ∧ TestIn Wi (ga j) (tDay B j) (tThr B j) from by first | assumption | omega) (show SrtT B from by first | assumption | omega) (show ∀ z, 2 ≤ z → z ≤ 5 → fb z = nI (bB B z) from by first | assumption | omega) (show ∀ z, 1 ≤ z → z ≤ 5 → fw z = nI (bW B z) from by first | assumption | omega) (show sN B ≤ scap ∧ scap ≤ 60 from by first | assumption | omega) (show ∀ j, j < sN B → sf j = some (gs j) ∧ SesIn G Wi (gs j) (sAt B j) from by first | assumption | omega) (show SrtS B from by first | assumption | omega) (show k_1297 < 2 ^ 31 from by first | assumption | omega) H.size) (cwV 1 hts (lw_V q283 q285 qs1 q48 q286) rfl rfl rfl (by decide +kernel) ⟨Nat.le_of_ble_eq_true rfl, Nat.le_of_ble_eq_true rfl⟩) (preV_of hKB hE hS hF (va_recv hK hP (ci := 1) (q0 := 0) rfl rfl) (va_P.sub hP [] rfl) ((va_D.sub hD [] (by decide) rfl).weaken (fun _ _ _ _ => trivial)) ⟨(roW.nil hro_1309), (roW.nil (hR1.w hS))⟩) rfl rfl hl.1 rfl (lv_room (Nat.le_of_ble_eq_true rfl)) dX2_learnUpTo_67 ⟨show 41 * (k_1297 - kn) + 41 ≤ 41 * ((max kn (d + 1)) - kn) from by first | decide | omega, show 82 * (k_1297 - kn) + 82 ≤ 82 * ((max kn (d + 1)) - kn) from by first | decide | omega⟩)
            (fun u_ H locs hq hph (hP : va_P G.1 CL [(b, .inr (1, [.ref to, .ref so, .ref bo, .ref we, .ref tg, .int (nI (bD B)), .int (nI (bI9 B)), .int (oI (bP B)), .int (nI (bE B)), .int (nI k_1297), .ref lo, .ref fi, .ref fa])), (lo, .inl (G.2 0, 200, .inl l1_1298)), (fi, .inl (G.2 0, 200, .inl l2_1299)), (fa, .inl (G.2 0, 200, .inl l3_1300))] H) (hD : va_D A [(b, .inr (1, [.ref to, .ref so, .ref bo, .ref we, .ref tg, .int (nI (bD B)), .int (nI (bI9 B)), .int (oI (bP B)), .int (nI (bE B)), .int (nI k_1297), .ref lo, .ref fi, .ref fa])), (lo, .inl (G.2 0, 200, .inl l1_1298)), (fi, .inl (G.2 0, 200, .inl l2_1299)), (fa, .inl (G.2 0, 200, .inl l3_1300))]) hS hfz hfk => ?_)
        refine W.eq (g2 := F0 m 70 ls [.int (nI (loadD B k_1297)), .int (nI k_1297), .ref lo]) rfl ?_
        refine r_iast hx hb hK hP hD hS 1 0 rfl rfl (i := k_1297) (by omega) (by omega) dX2_learnUpTo_70 (fun H locs (hP : va_P G.1 CL [(b, .inr (1, [.ref to, .ref so, .ref bo, .ref we, .ref tg, .int (nI (bD B)), .int (nI (bI9 B)), .int (oI (bP B)), .int (nI (bE B)), .int (nI k_1297), .ref lo, .ref fi, .ref fa])), (lo, .inl (G.2 0, 200, .inl (upd l1_1298 k_1297 (nI (loadD B k_1297))))), (fi, .inl (G.2 0, 200, .inl l2_1299)), (fa, .inl (G.2 0, 200, .inl l3_1300))] H) (hD : va_D A [(b, .inr (1, [.ref to, .ref so, .ref bo, .ref we, .ref tg, .int (nI (bD B)), .int (nI (bI9 B)), .int (oI (bP B)), .int (nI (bE B)), .int (nI k_1297), .ref lo, .ref fi, .ref fa])), (lo, .inl (G.2 0, 200, .inl (upd l1_1298 k_1297 (nI (loadD B k_1297))))), (fi, .inl (G.2 0, 200, .inl l2_1299)), (fa, .inl (G.2 0, 200, .inl l3_1300))]) hS => ?_)
        refine lv_aload_n hx hb dX2_learnUpTo_71 rfl (lv_at hl 2 rfl) ?_
        refine va_get hx hb hts in_X2 hown hK hP 0 rfl rfl 11 (by decide) (hts _ q158) (fun _ h => h) rfl dX2_learnUpTo_72 ?_
        refine lv_aload_n hx hb dX2_learnUpTo_75 rfl (lv_at hl 2 rfl) ?_
        refine va_get hx hb hts in_X2 hown hK hP 0 rfl rfl 9 (by decide) (hts _ q156) (fun _ h => h) rfl dX2_learnUpTo_76 ?_
        refine lv_iload_n hx hb dX2_learnUpTo_79 rfl (lv_at hl 1 rfl) ?_
        refine lv_sipush (v := nI 1000) hx hb dX2_learnUpTo_80 (by decide) ?_
        refine lv_aload_n hx hb dX2_learnUpTo_83 rfl (lv_at hl 2 rfl) ?_
        refine va_get hx hb hts in_X2 hown hK hP 0 rfl rfl 10 (by decide) (hts _ q157) (fun _ h => h) rfl dX2_learnUpTo_84 ?_
        refine lv_aload_n hx hb dX2_learnUpTo_87 rfl (lv_at hl 2 rfl) ?_
        refine va_get hx hb hts in_X2 hown hK hP 0 rfl rfl 9 (by decide) (hts _ q156) (fun _ h => h) rfl dX2_learnUpTo_88 ?_
        refine r_iald (v := nI (loadD B k_1297)) hx hb hK hP 1 0 rfl rfl (i := k_1297) (by omega) (by omega) (pk_us) dX2_learnUpTo_91 ?_
        refine lv_imul hx hb dX2_learnUpTo_92 ?_
        refine lv_ton (n := 1000 * (loadD B k_1297)) (nmul (by omega)) ?_
        refine lv_iload_n hx hb dX2_learnUpTo_93 rfl (lv_at hl 1 rfl) ?_
        refine lv_isub hx hb dX2_learnUpTo_94 ?_
        refine lv_bipush (v := nI 42) hx hb dX2_learnUpTo_95 (by decide) ?_
        refine lv_idiv hx hb dX2_learnUpTo_97 (by decide) ?_
        refine lv_iadd hx hb dX2_learnUpTo_98 ?_
        refine r_iast hx hb hK hP hD hS 2 0 rfl rfl (i := k_1297) (by omega) (by omega) dX2_learnUpTo_99 (fun H locs (hP : va_P G.1 CL [(b, .inr (1, [.ref to, .ref so, .ref bo, .ref we, .ref tg, .int (nI (bD B)), .int (nI (bI9 B)), .int (oI (bP B)), .int (nI (bE B)), .int (nI k_1297), .ref lo, .ref fi, .ref fa])), (lo, .inl (G.2 0, 200, .inl (upd l1_1298 k_1297 (nI (loadD B k_1297))))), (fi, .inl (G.2 0, 200, .inl (upd l2_1299 k_1297 ((decay 42 (loadD B) k_1297) + (((nI (1000 * (loadD B k_1297))) - (decay 42 (loadD B) k_1297)) / (nI 42)))))), (fa, .inl (G.2 0, 200, .inl l3_1300))] H) (hD : va_D A [(b, .inr (1, [.ref to, .ref so, .ref bo, .ref we, .ref tg, .int (nI (bD B)), .int (nI (bI9 B)), .int (oI (bP B)), .int (nI (bE B)), .int (nI k_1297), .ref lo, .ref fi, .ref fa])), (lo, .inl (G.2 0, 200, .inl (upd l1_1298 k_1297 (nI (loadD B k_1297))))), (fi, .inl (G.2 0, 200, .inl (upd l2_1299 k_1297 ((decay 42 (loadD B) k_1297) + (((nI (1000 * (loadD B k_1297))) - (decay 42 (loadD B) k_1297)) / (nI 42)))))), (fa, .inl (G.2 0, 200, .inl l3_1300))]) hS => ?_)
        refine lv_aload_n hx hb dX2_learnUpTo_100 rfl (lv_at hl 2 rfl) ?_
        refine va_get hx hb hts in_X2 hown hK hP 0 rfl rfl 12 (by decide) (hts _ q159) (fun _ h => h) rfl dX2_learnUpTo_101 ?_
        refine lv_aload_n hx hb dX2_learnUpTo_104 rfl (lv_at hl 2 rfl) ?_
        refine va_get hx hb hts in_X2 hown hK hP 0 rfl rfl 9 (by decide) (hts _ q156) (fun _ h => h) rfl dX2_learnUpTo_105 ?_
        refine lv_iload_n hx hb dX2_learnUpTo_108 rfl (lv_at hl 0 rfl) ?_
        refine lv_sipush (v := nI 1000) hx hb dX2_learnUpTo_109 (by decide) ?_
        refine lv_aload_n hx hb dX2_learnUpTo_112 rfl (lv_at hl 2 rfl) ?_
        refine va_get hx hb hts in_X2 hown hK hP 0 rfl rfl 10 (by decide) (hts _ q157) (fun _ h => h) rfl dX2_learnUpTo_113 ?_
        refine lv_aload_n hx hb dX2_learnUpTo_116 rfl (lv_at hl 2 rfl) ?_
        refine va_get hx hb hts in_X2 hown hK hP 0 rfl rfl 9 (by decide) (hts _ q156) (fun _ h => h) rfl dX2_learnUpTo_117 ?_
        refine r_iald (v := nI (loadD B k_1297)) hx hb hK hP 1 0 rfl rfl (i := k_1297) (by omega) (by omega) (pk_us) dX2_learnUpTo_120 ?_
        refine lv_imul hx hb dX2_learnUpTo_121 ?_
        refine lv_ton (n := 1000 * (loadD B k_1297)) (nmul (by omega)) ?_
        refine lv_iload_n hx hb dX2_learnUpTo_122 rfl (lv_at hl 0 rfl) ?_
        refine lv_isub hx hb dX2_learnUpTo_123 ?_
        refine lv_bipush (v := nI 7) hx hb dX2_learnUpTo_124 (by decide) ?_
        refine lv_idiv hx hb dX2_learnUpTo_126 (by decide) ?_
        refine lv_iadd hx hb dX2_learnUpTo_127 ?_
        refine r_iast hx hb hK hP hD hS 3 0 rfl rfl (i := k_1297) (by omega) (by omega) dX2_learnUpTo_128 (fun H locs (hP : va_P G.1 CL [(b, .inr (1, [.ref to, .ref so, .ref bo, .ref we, .ref tg, .int (nI (bD B)), .int (nI (bI9 B)), .int (oI (bP B)), .int (nI (bE B)), .int (nI k_1297), .ref lo, .ref fi, .ref fa])), (lo, .inl (G.2 0, 200, .inl (upd l1_1298 k_1297 (nI (loadD B k_1297))))), (fi, .inl (G.2 0, 200, .inl (upd l2_1299 k_1297 ((decay 42 (loadD B) k_1297) + (((nI (1000 * (loadD B k_1297))) - (decay 42 (loadD B) k_1297)) / (nI 42)))))), (fa, .inl (G.2 0, 200, .inl (upd l3_1300 k_1297 ((decay 7 (loadD B) k_1297) + (((nI (1000 * (loadD B k_1297))) - (decay 7 (loadD B) k_1297)) / (nI 7))))))] H) (hD : va_D A [(b, .inr (1, [.ref to, .ref so, .ref bo, .ref we, .ref tg, .int (nI (bD B)), .int (nI (bI9 B)), .int (oI (bP B)), .int (nI (bE B)), .int (nI k_1297), .ref lo, .ref fi, .ref fa])), (lo, .inl (G.2 0, 200, .inl (upd l1_1298 k_1297 (nI (loadD B k_1297))))), (fi, .inl (G.2 0, 200, .inl (upd l2_1299 k_1297 ((decay 42 (loadD B) k_1297) + (((nI (1000 * (loadD B k_1297))) - (decay 42 (loadD B) k_1297)) / (nI 42)))))), (fa, .inl (G.2 0, 200, .inl (upd l3_1300 k_1297 ((decay 7 (loadD B) k_1297) + (((nI (1000 * (loadD B k_1297))) - (decay 7 (loadD B) k_1297)) / (nI 7))))))]) hS => ?_)
        refine lv_aload_n hx hb dX2_learnUpTo_129 rfl (lv_at hl 2 rfl) ?_
        refine lv_dup hx hb dX2_learnUpTo_130 rfl ?_
        refine va_get hx hb hts in_X2 hown hK hP 0 rfl rfl 9 (by decide) (hts _ q156) (fun _ h => h) rfl dX2_learnUpTo_131 ?_
        refine lv_iconst (v := nI 1) hx hb dX2_learnUpTo_134 (by decide) ?_
        refine lv_iadd hx hb dX2_learnUpTo_135 ?_
        refine lv_ton (n := k_1297 + 1) (nadd (by omega)) ?_
        refine va_put (v := .int (nI (k_1297 + 1))) (ty := .int) hx hb hts in_X2 tyX2 tyX2_ok nmX2 hown hK hP hD hS 0 rfl rfl 9 (by decide) (hts _ q156) (fun _ h => h) rfl (by decide +kernel) rfl rfl (Nat.le_of_ble_eq_true rfl) dX2_learnUpTo_136 (fun H locs (hP : va_P G.1 CL [(b, .inr (1, [.ref to, .ref so, .ref bo, .ref we, .ref tg, .int (nI (bD B)), .int (nI (bI9 B)), .int (oI (bP B)), .int (nI (bE B)), .int (nI (k_1297 + 1)), .ref lo, .ref fi, .ref fa])), (lo, .inl (G.2 0, 200, .inl (upd l1_1298 k_1297 (nI (loadD B k_1297))))), (fi, .inl (G.2 0, 200, .inl (upd l2_1299 k_1297 ((decay 42 (loadD B) k_1297) + (((nI (1000 * (loadD B k_1297))) - (decay 42 (loadD B) k_1297)) / (nI 42)))))), (fa, .inl (G.2 0, 200, .inl (upd l3_1300 k_1297 ((decay 7 (loadD B) k_1297) + (((nI (1000 * (loadD B k_1297))) - (decay 7 (loadD B) k_1297)) / (nI 7))))))] H) (hD : va_D A [(b, .inr (1, [.ref to, .ref so, .ref bo, .ref we, .ref tg, .int (nI (bD B)), .int (nI (bI9 B)), .int (oI (bP B)), .int (nI (bE B)), .int (nI (k_1297 + 1)), .ref lo, .ref fi, .ref fa])), (lo, .inl (G.2 0, 200, .inl (upd l1_1298 k_1297 (nI (loadD B k_1297))))), (fi, .inl (G.2 0, 200, .inl (upd l2_1299 k_1297 ((decay 42 (loadD B) k_1297) + (((nI (1000 * (loadD B k_1297))) - (decay 42 (loadD B) k_1297)) / (nI 42)))))), (fa, .inl (G.2 0, 200, .inl (upd l3_1300 k_1297 ((decay 7 (loadD B) k_1297) + (((nI (1000 * (loadD B k_1297))) - (decay 7 (loadD B) k_1297)) / (nI 7))))))]) hS => ?_)
        refine lv_goto (tgt := 0) hx hb dX2_learnUpTo_139 (by decide) ?_
        have hP : va_P G.1 CL [(b, .inr (1, [.ref to, .ref so, .ref bo, .ref we, .ref tg, .int (nI (bD B)), .int (nI (bI9 B)), .int (oI (bP B)), .int (nI (bE B)), .int (nI (k_1297 + 1)), .ref lo, .ref fi, .ref fa])), (lo, .inl (G.2 0, 200, .inl (upd l1_1298 k_1297 (nI (loadD B k_1297))))), (fi, .inl (G.2 0, 200, .inl (upd l2_1299 k_1297 ((decay 42 (loadD B) k_1297) + (((nI (1000 * (loadD B k_1297))) - (decay 42 (loadD B) k_1297)) / (nI 42)))))), (fa, .inl (G.2 0, 200, .inl (upd l3_1300 k_1297 ((decay 7 (loadD B) k_1297) + (((nI (1000 * (loadD B k_1297))) - (decay 7 (loadD B) k_1297)) / (nI 7))))))] H := hP.sub [0, 1, 2, 3] rfl
        have hD : va_D A [(b, .inr (1, [.ref to, .ref so, .ref bo, .ref we, .ref tg, .int (nI (bD B)), .int (nI (bI9 B)), .int (oI (bP B)), .int (nI (bE B)), .int (nI (k_1297 + 1)), .ref lo, .ref fi, .ref fa])), (lo, .inl (G.2 0, 200, .inl (upd l1_1298 k_1297 (nI (loadD B k_1297))))), (fi, .inl (G.2 0, 200, .inl (upd l2_1299 k_1297 ((decay 42 (loadD B) k_1297) + (((nI (1000 * (loadD B k_1297))) - (decay 42 (loadD B) k_1297)) / (nI 42)))))), (fa, .inl (G.2 0, 200, .inl (upd l3_1300 k_1297 ((decay 7 (loadD B) k_1297) + (((nI (1000 * (loadD B k_1297))) - (decay 7 (loadD B) k_1297)) / (nI 7))))))] := hD.sub [0, 1, 2, 3] (by decide) rfl
        have hl := lv_sub hl [2, 3] (l' := [(0, .ref b), (1, .int (nI d))]) rfl
        exact W.widen (show 41 * (k_1297 - kn) + 41 ≤ 41 * ((k_1297 + 1) - kn) from by first | exact Nat.le_refl _ | omega) (show 82 * (k_1297 - kn) + 82 ≤ 82 * ((k_1297 + 1) - kn) from by first | exact Nat.le_refl _ | omega) (ih0 ((k_1297 + 1), upd l1_1298 k_1297 (nI (loadD B k_1297)), upd l2_1299 k_1297 ((decay 42 (loadD B) k_1297) + (((nI (1000 * (loadD B k_1297))) - (decay 42 (loadD B) k_1297)) / (nI 42))), upd l3_1300 k_1297 ((decay 7 (loadD B) k_1297) + (((nI (1000 * (loadD B k_1297))) - (decay 7 (loadD B) k_1297)) / (nI 7)))) H locs ls ⟨hP, hD, hS, hl, (show kn ≤ (k_1297 + 1) ∧ (k_1297 + 1) ≤ (max kn (d + 1)) from ⟨by omega, by omega⟩), (show Cache B (k_1297 + 1) (upd l1_1298 k_1297 (nI (loadD B k_1297))) (upd l2_1299 k_1297 ((decay 42 (loadD B) k_1297) + (((nI (1000 * (loadD B k_1297))) - (decay 42 (loadD B) k_1297)) / (nI 42)))) (upd l3_1300 k_1297 ((decay 7 (loadD B) k_1297) + (((nI (1000 * (loadD B k_1297))) - (decay 7 (loadD B) k_1297)) / (nI 7)))) from Cache_s hp_1296 rfl rfl)⟩ (show d + 1 - (k_1297 + 1) < d + 1 - k_1297 from by omega))

set_option maxHeartbeats 4000000 in
theorem mX2_loadOn (l : Launch) (G : Gt) (b : Nat) (to : Nat) (so : Nat) (bo : Nat) (we : Nat) (tg : Nat) (lo : Nat) (fi : Nat) (fa : Nat) (kn : Nat) (B : Bk) (ta : Nat) (tm : Int32) (te : Nat) (tcap : Nat) (tf : Nat → Option Nat) (ga : Nat → Nat) (sa : Nat) (sm : Int32) (se : Nat) (scap : Nat) (sf : Nat → Option Nat) (gs : Nat → Nat) (Wi : va_W) (fb : Nat → Int32) (fw : Nat → Int32) (fl : Nat → Int32) (ff : Nat → Int32) (fg : Nat → Int32) (d : Nat) (hI : Inv B) (htc : tN B ≤ tcap ∧ tcap ≤ 60) (hT : ∀ j, j < tN B → tf j = some (ga j) ∧ TestIn Wi (ga j) (tDay B j) (tThr B j)) (hso : SrtT B) (hfb : ∀ z, 2 ≤ z → z ≤ 5 → fb z = nI (bB B z)) (hfw : ∀ z, 1 ≤ z → z ≤ 5 → fw z = nI (bW B z)) (hsc : sN B ≤ scap ∧ scap ≤ 60) (hSs : ∀ j, j < sN B → sf j = some (gs j) ∧ SesIn G Wi (gs j) (sAt B j)) (hss : SrtS B) (hkn : kn ≤ 200) (hca : Cache B kn fl ff fg) (hd : d < 200) : CT l G yX2_loadOn cX2_loadOn 2 (some .int) ({ frames := 11, cells := 41 * ((max kn (d + 1)) - kn), slots := 82 * ((max kn (d + 1)) - kn), locals := 234 } : Room) [.ref b, .int (nI d)] [(b, .inr (1, [.ref to, .ref so, .ref bo, .ref we, .ref tg, .int (nI (bD B)), .int (nI (bI9 B)), .int (oI (bP B)), .int (nI (bE B)), .int (nI kn), .ref lo, .ref fi, .ref fa])), (lo, .inl (G.2 0, 200, .inl fl)), (fi, .inl (G.2 0, 200, .inl ff)), (fa, .inl (G.2 0, 200, .inl fg))] (fun (A : Nat → Prop) (H : Heap) => roW G A H [(to, .inr (2, [.ref ta])), (ta, .inr (3, [.int tm, .ref te, .int (nI (tN B))])), (te, .inl (G.2 3, tcap, .inr (.inr (.inr (.inr tf))))), (so, .inr (2, [.ref sa])), (sa, .inr (3, [.int sm, .ref se, .int (nI (sN B))])), (se, .inl (G.2 3, scap, .inr (.inr (.inr (.inr sf))))), (bo, .inl (G.2 0, 6, .inl fb)), (we, .inl (G.2 0, 6, .inl fw))] ∧ roW G A H Wi) (S := (Nat → Int32) × (Nat → Int32) × (Nat → Int32)) (fun (u_ : (Nat → Int32) × (Nat → Int32) × (Nat → Int32)) => some (.int (nI (loadD B d)))) (fun (u_ : (Nat → Int32) × (Nat → Int32) × (Nat → Int32)) => Cache B (max kn (d + 1)) u_.1 u_.2.1 u_.2.2) (fun (u_ : (Nat → Int32) × (Nat → Int32) × (Nat → Int32)) => [(b, .inr (1, [.ref to, .ref so, .ref bo, .ref we, .ref tg, .int (nI (bD B)), .int (nI (bI9 B)), .int (oI (bP B)), .int (nI (bE B)), .int (nI (max kn (d + 1))), .ref lo, .ref fi, .ref fa])), (lo, .inl (G.2 0, 200, .inl u_.1)), (fi, .inl (G.2 0, 200, .inl u_.2.1)), (fa, .inl (G.2 0, 200, .inl u_.2.2))]) (fun (u_ : (Nat → Int32) × (Nat → Int32) × (Nat → Int32)) (H : Heap) => True) := by
  refine CT.of (by decide) (Nat.le_of_ble_eq_true rfl) ?_
  intro p e s m below meth c ls A H locs h9 hH0 hP hS
  obtain ⟨cf, hr, hlk, hnm, hKB, hE, -, hD, -, hA, hAw, ⟨hR0, hR1⟩, hl⟩ := h9
  have hx := cf.1
  have hb := cf.2.1
  have hml := cf.2.2.1
  have hown : s.vm.findClass RX2 = some m.cls := cf.2.2.2.1
  have hts := cf.2.2.2.2
  have hK := hKB.1
  have hl : lv_has ls 2 [(0, .ref b), (1, .int (nI d))] := hl
  have iT := iv_tN hI
  have iN := iv_sN hI
  have iD := iv_bD hI
  have iId := iv_id hI
  have iE := iv_bE hI
  have hmx9 : max kn (d + 1) ≤ 200 ∧ kn ≤ max kn (d + 1) ∧ d + 1 ≤ max kn (d + 1) ∧ (max kn (d + 1) = kn ∨ max kn (d + 1) = d + 1) := by omega
  refine lv_aload_n hx hb dX2_loadOn_0 rfl (lv_at hl 0 rfl) ?_
  refine lv_iload_n hx hb dX2_loadOn_1 rfl (lv_at hl 1 rfl) ?_
  have hF := hF_of (wc := [(b, .inr (1, [.ref to, .ref so, .ref bo, .ref we, .ref tg, .int (nI (bD B)), .int (nI (bI9 B)), .int (oI (bP B)), .int (nI (bE B)), .int (nI kn), .ref lo, .ref fi, .ref fa])), (lo, .inl (G.2 0, 200, .inl fl)), (fi, .inl (G.2 0, 200, .inl ff)), (fa, .inl (G.2 0, 200, .inl fg))]) hD hS hA [0, 1, 2, 3] rfl
  have hro_1310 : roW G (va_A [(b, .inr (1, [.ref to, .ref so, .ref bo, .ref we, .ref tg, .int (nI (bD B)), .int (nI (bI9 B)), .int (oI (bP B)), .int (nI (bE B)), .int (nI kn), .ref lo, .ref fi, .ref fa])), (lo, .inl (G.2 0, 200, .inl fl)), (fi, .inl (G.2 0, 200, .inl ff)), (fa, .inl (G.2 0, 200, .inl fg))] H.size) H [(to, .inr (2, [.ref ta])), (ta, .inr (3, [.int tm, .ref te, .int (nI (tN B))])), (te, .inl (G.2 3, tcap, .inr (.inr (.inr (.inr tf))))), (so, .inr (2, [.ref sa])), (sa, .inr (3, [.int sm, .ref se, .int (nI (sN B))])), (se, .inl (G.2 3, scap, .inr (.inr (.inr (.inr sf))))), (bo, .inl (G.2 0, 6, .inl fb)), (we, .inl (G.2 0, 6, .inl fw))] := ((hR0.kp hF hS.2.1).sub (ws' := [(to, .inr (2, [.ref ta])), (ta, .inr (3, [.int tm, .ref te, .int (nI (tN B))])), (te, .inl (G.2 3, tcap, .inr (.inr (.inr (.inr tf))))), (so, .inr (2, [.ref sa])), (sa, .inr (3, [.int sm, .ref se, .int (nI (sN B))])), (se, .inl (G.2 3, scap, .inr (.inr (.inr (.inr sf))))), (bo, .inl (G.2 0, 6, .inl fb)), (we, .inl (G.2 0, 6, .inl fw))]) [0, 1, 2, 3, 4, 5, 6, 7] rfl)
  refine go_ct hS hP hD [0, 1, 2, 3] [] hF rfl rfl (by decide) (by decide)
      (va_runV (As := [.int (nI d)]) (rest := []) cf (mX2_learnUpTo l G b to so bo we tg lo fi fa kn B ta tm te tcap tf ga sa sm se scap sf gs Wi fb fw fl ff fg d (show Inv B from by first | assumption | omega) (show tN B ≤ tcap ∧ tcap ≤ 60 from by first | assumption | omega) (show ∀ j, j < tN B → tf j = some (ga j) ∧ TestIn Wi (ga j) (tDay B j) (tThr B j) from by first | assumption | omega) (show SrtT B from by first | assumption | omega) (show ∀ z, 2 ≤ z → z ≤ 5 → fb z = nI (bB B z) from by first | assumption | omega) (show ∀ z, 1 ≤ z → z ≤ 5 → fw z = nI (bW B z) from by first | assumption | omega) (show sN B ≤ scap ∧ scap ≤ 60 from by first | assumption | omega) (show ∀ j, j < sN B → sf j = some (gs j) ∧ SesIn G Wi (gs j) (sAt B j) from by first | assumption | omega) (show SrtS B from by first | assumption | omega) (show kn ≤ 200 from by first | assumption | omega) (show Cache B kn fl ff fg from by first | assumption | omega) (show d < 200 from by first | assumption | omega) H.size) (cwV 1 hts (lw_V q279 q281 qs0 q48 q282) rfl rfl rfl (by decide +kernel) ⟨Nat.le_of_ble_eq_true rfl, Nat.le_of_ble_eq_true rfl⟩) (preV_of hKB hE hS hF (va_recv hK hP (ci := 1) (q0 := 0) rfl rfl) (va_P.sub hP [0, 1, 2, 3] rfl) ((va_D.sub hD [0, 1, 2, 3] (by decide) rfl).weaken (fun _ _ _ _ => trivial)) ⟨hro_1310, (hR1.kp hF hS.2.1)⟩) rfl rfl hl.1 rfl (lv_room (Nat.le_of_ble_eq_true rfl)) dX2_loadOn_2 ⟨show 0 + (41 * ((max kn (d + 1)) - kn)) ≤ 41 * ((max kn (d + 1)) - kn) from by first | decide | omega, show 0 + (82 * ((max kn (d + 1)) - kn)) ≤ 82 * ((max kn (d + 1)) - kn) from by first | decide | omega⟩)
      (fun u_ H locs hq hph (hP : va_P G.1 CL [(b, .inr (1, [.ref to, .ref so, .ref bo, .ref we, .ref tg, .int (nI (bD B)), .int (nI (bI9 B)), .int (oI (bP B)), .int (nI (bE B)), .int (nI (max kn (d + 1))), .ref lo, .ref fi, .ref fa])), (lo, .inl (G.2 0, 200, .inl u_.1)), (fi, .inl (G.2 0, 200, .inl u_.2.1)), (fa, .inl (G.2 0, 200, .inl u_.2.2))] H) (hD : va_D A [(b, .inr (1, [.ref to, .ref so, .ref bo, .ref we, .ref tg, .int (nI (bD B)), .int (nI (bI9 B)), .int (oI (bP B)), .int (nI (bE B)), .int (nI (max kn (d + 1))), .ref lo, .ref fi, .ref fa])), (lo, .inl (G.2 0, 200, .inl u_.1)), (fi, .inl (G.2 0, 200, .inl u_.2.1)), (fa, .inl (G.2 0, 200, .inl u_.2.2))]) hS hfz hfk => ?_)
  obtain ⟨fl2_1311, ff2_1312, fg2_1313⟩ := u_
  have hP : va_P G.1 CL [(b, .inr (1, [.ref to, .ref so, .ref bo, .ref we, .ref tg, .int (nI (bD B)), .int (nI (bI9 B)), .int (oI (bP B)), .int (nI (bE B)), .int (nI (max kn (d + 1))), .ref lo, .ref fi, .ref fa])), (lo, .inl (G.2 0, 200, .inl fl2_1311)), (fi, .inl (G.2 0, 200, .inl ff2_1312)), (fa, .inl (G.2 0, 200, .inl fg2_1313))] H := hP
  have hD : va_D A [(b, .inr (1, [.ref to, .ref so, .ref bo, .ref we, .ref tg, .int (nI (bD B)), .int (nI (bI9 B)), .int (oI (bP B)), .int (nI (bE B)), .int (nI (max kn (d + 1))), .ref lo, .ref fi, .ref fa])), (lo, .inl (G.2 0, 200, .inl fl2_1311)), (fi, .inl (G.2 0, 200, .inl ff2_1312)), (fa, .inl (G.2 0, 200, .inl fg2_1313))] := hD
  have hq_1314 : Cache B (max kn (d + 1)) fl2_1311 ff2_1312 fg2_1313 := hq
  refine W.eq (g2 := F0 m 5 ls []) rfl ?_
  refine lv_aload_n hx hb dX2_loadOn_5 rfl (lv_at hl 0 rfl) ?_
  refine va_get hx hb hts in_X2 hown hK hP 0 rfl rfl 10 (by decide) (hts _ q157) (fun _ h => h) rfl dX2_loadOn_6 ?_
  refine lv_iload_n hx hb dX2_loadOn_9 rfl (lv_at hl 1 rfl) ?_
  refine r_iald (v := nI (loadD B d)) hx hb hK hP 1 0 rfl rfl (i := d) (by omega) (by omega) ((hq_1314 d (by omega)).1) dX2_loadOn_10 ?_
  have hP9 : va_P G.1 CL [(b, .inr (1, [.ref to, .ref so, .ref bo, .ref we, .ref tg, .int (nI (bD B)), .int (nI (bI9 B)), .int (oI (bP B)), .int (nI (bE B)), .int (nI (max kn (d + 1))), .ref lo, .ref fi, .ref fa])), (lo, .inl (G.2 0, 200, .inl fl2_1311)), (fi, .inl (G.2 0, 200, .inl ff2_1312)), (fa, .inl (G.2 0, 200, .inl fg2_1313))] H := hP.sub [0, 1, 2, 3] rfl
  have hD9 : va_D A [(b, .inr (1, [.ref to, .ref so, .ref bo, .ref we, .ref tg, .int (nI (bD B)), .int (nI (bI9 B)), .int (oI (bP B)), .int (nI (bE B)), .int (nI (max kn (d + 1))), .ref lo, .ref fi, .ref fa])), (lo, .inl (G.2 0, 200, .inl fl2_1311)), (fi, .inl (G.2 0, 200, .inl ff2_1312)), (fa, .inl (G.2 0, 200, .inl fg2_1313))] := hD.sub [0, 1, 2, 3] (by decide) rfl
  exact end_i hx hb hr hlk (rfl) (qc_of (fl2_1311, ff2_1312, fg2_1313) (v := some (.int (nI (loadD B d)))) (by rfl) (hq_1314) hP9 hD9 (trivial) hS) hS dX2_loadOn_11 (show 0 + (41 * ((max kn (d + 1)) - kn)) ≤ 41 * ((max kn (d + 1)) - kn) from by first | exact Nat.le_refl _ | decide | omega) (show 0 + (82 * ((max kn (d + 1)) - kn)) ≤ 82 * ((max kn (d + 1)) - kn) from by first | exact Nat.le_refl _ | decide | omega)

set_option maxHeartbeats 4000000 in
theorem mX2_fitnessOn (l : Launch) (G : Gt) (b : Nat) (to : Nat) (so : Nat) (bo : Nat) (we : Nat) (tg : Nat) (lo : Nat) (fi : Nat) (fa : Nat) (kn : Nat) (B : Bk) (ta : Nat) (tm : Int32) (te : Nat) (tcap : Nat) (tf : Nat → Option Nat) (ga : Nat → Nat) (sa : Nat) (sm : Int32) (se : Nat) (scap : Nat) (sf : Nat → Option Nat) (gs : Nat → Nat) (Wi : va_W) (fb : Nat → Int32) (fw : Nat → Int32) (fl : Nat → Int32) (ff : Nat → Int32) (fg : Nat → Int32) (d : Nat) (hI : Inv B) (htc : tN B ≤ tcap ∧ tcap ≤ 60) (hT : ∀ j, j < tN B → tf j = some (ga j) ∧ TestIn Wi (ga j) (tDay B j) (tThr B j)) (hso : SrtT B) (hfb : ∀ z, 2 ≤ z → z ≤ 5 → fb z = nI (bB B z)) (hfw : ∀ z, 1 ≤ z → z ≤ 5 → fw z = nI (bW B z)) (hsc : sN B ≤ scap ∧ scap ≤ 60) (hSs : ∀ j, j < sN B → sf j = some (gs j) ∧ SesIn G Wi (gs j) (sAt B j)) (hss : SrtS B) (hkn : kn ≤ 200) (hca : Cache B kn fl ff fg) (hd : d < 200) : CT l G yX2_fitnessOn cX2_fitnessOn 2 (some .int) ({ frames := 11, cells := 41 * ((max kn (d + 1)) - kn), slots := 82 * ((max kn (d + 1)) - kn), locals := 234 } : Room) [.ref b, .int (nI d)] [(b, .inr (1, [.ref to, .ref so, .ref bo, .ref we, .ref tg, .int (nI (bD B)), .int (nI (bI9 B)), .int (oI (bP B)), .int (nI (bE B)), .int (nI kn), .ref lo, .ref fi, .ref fa])), (lo, .inl (G.2 0, 200, .inl fl)), (fi, .inl (G.2 0, 200, .inl ff)), (fa, .inl (G.2 0, 200, .inl fg))] (fun (A : Nat → Prop) (H : Heap) => roW G A H [(to, .inr (2, [.ref ta])), (ta, .inr (3, [.int tm, .ref te, .int (nI (tN B))])), (te, .inl (G.2 3, tcap, .inr (.inr (.inr (.inr tf))))), (so, .inr (2, [.ref sa])), (sa, .inr (3, [.int sm, .ref se, .int (nI (sN B))])), (se, .inl (G.2 3, scap, .inr (.inr (.inr (.inr sf))))), (bo, .inl (G.2 0, 6, .inl fb)), (we, .inl (G.2 0, 6, .inl fw))] ∧ roW G A H Wi) (S := (Nat → Int32) × (Nat → Int32) × (Nat → Int32)) (fun (u_ : (Nat → Int32) × (Nat → Int32) × (Nat → Int32)) => some (.int (decay 42 (loadD B) (d + 1)))) (fun (u_ : (Nat → Int32) × (Nat → Int32) × (Nat → Int32)) => Cache B (max kn (d + 1)) u_.1 u_.2.1 u_.2.2) (fun (u_ : (Nat → Int32) × (Nat → Int32) × (Nat → Int32)) => [(b, .inr (1, [.ref to, .ref so, .ref bo, .ref we, .ref tg, .int (nI (bD B)), .int (nI (bI9 B)), .int (oI (bP B)), .int (nI (bE B)), .int (nI (max kn (d + 1))), .ref lo, .ref fi, .ref fa])), (lo, .inl (G.2 0, 200, .inl u_.1)), (fi, .inl (G.2 0, 200, .inl u_.2.1)), (fa, .inl (G.2 0, 200, .inl u_.2.2))]) (fun (u_ : (Nat → Int32) × (Nat → Int32) × (Nat → Int32)) (H : Heap) => True) := by
  refine CT.of (by decide) (Nat.le_of_ble_eq_true rfl) ?_
  intro p e s m below meth c ls A H locs h9 hH0 hP hS
  obtain ⟨cf, hr, hlk, hnm, hKB, hE, -, hD, -, hA, hAw, ⟨hR0, hR1⟩, hl⟩ := h9
  have hx := cf.1
  have hb := cf.2.1
  have hml := cf.2.2.1
  have hown : s.vm.findClass RX2 = some m.cls := cf.2.2.2.1
  have hts := cf.2.2.2.2
  have hK := hKB.1
  have hl : lv_has ls 2 [(0, .ref b), (1, .int (nI d))] := hl
  have iT := iv_tN hI
  have iN := iv_sN hI
  have iD := iv_bD hI
  have iId := iv_id hI
  have iE := iv_bE hI
  have hmx9 : max kn (d + 1) ≤ 200 ∧ kn ≤ max kn (d + 1) ∧ d + 1 ≤ max kn (d + 1) ∧ (max kn (d + 1) = kn ∨ max kn (d + 1) = d + 1) := by omega
  refine lv_aload_n hx hb dX2_fitnessOn_0 rfl (lv_at hl 0 rfl) ?_
  refine lv_iload_n hx hb dX2_fitnessOn_1 rfl (lv_at hl 1 rfl) ?_
  have hF := hF_of (wc := [(b, .inr (1, [.ref to, .ref so, .ref bo, .ref we, .ref tg, .int (nI (bD B)), .int (nI (bI9 B)), .int (oI (bP B)), .int (nI (bE B)), .int (nI kn), .ref lo, .ref fi, .ref fa])), (lo, .inl (G.2 0, 200, .inl fl)), (fi, .inl (G.2 0, 200, .inl ff)), (fa, .inl (G.2 0, 200, .inl fg))]) hD hS hA [0, 1, 2, 3] rfl
  have hro_1315 : roW G (va_A [(b, .inr (1, [.ref to, .ref so, .ref bo, .ref we, .ref tg, .int (nI (bD B)), .int (nI (bI9 B)), .int (oI (bP B)), .int (nI (bE B)), .int (nI kn), .ref lo, .ref fi, .ref fa])), (lo, .inl (G.2 0, 200, .inl fl)), (fi, .inl (G.2 0, 200, .inl ff)), (fa, .inl (G.2 0, 200, .inl fg))] H.size) H [(to, .inr (2, [.ref ta])), (ta, .inr (3, [.int tm, .ref te, .int (nI (tN B))])), (te, .inl (G.2 3, tcap, .inr (.inr (.inr (.inr tf))))), (so, .inr (2, [.ref sa])), (sa, .inr (3, [.int sm, .ref se, .int (nI (sN B))])), (se, .inl (G.2 3, scap, .inr (.inr (.inr (.inr sf))))), (bo, .inl (G.2 0, 6, .inl fb)), (we, .inl (G.2 0, 6, .inl fw))] := ((hR0.kp hF hS.2.1).sub (ws' := [(to, .inr (2, [.ref ta])), (ta, .inr (3, [.int tm, .ref te, .int (nI (tN B))])), (te, .inl (G.2 3, tcap, .inr (.inr (.inr (.inr tf))))), (so, .inr (2, [.ref sa])), (sa, .inr (3, [.int sm, .ref se, .int (nI (sN B))])), (se, .inl (G.2 3, scap, .inr (.inr (.inr (.inr sf))))), (bo, .inl (G.2 0, 6, .inl fb)), (we, .inl (G.2 0, 6, .inl fw))]) [0, 1, 2, 3, 4, 5, 6, 7] rfl)
  refine go_ct hS hP hD [0, 1, 2, 3] [] hF rfl rfl (by decide) (by decide)
      (va_runV (As := [.int (nI d)]) (rest := []) cf (mX2_learnUpTo l G b to so bo we tg lo fi fa kn B ta tm te tcap tf ga sa sm se scap sf gs Wi fb fw fl ff fg d (show Inv B from by first | assumption | omega) (show tN B ≤ tcap ∧ tcap ≤ 60 from by first | assumption | omega) (show ∀ j, j < tN B → tf j = some (ga j) ∧ TestIn Wi (ga j) (tDay B j) (tThr B j) from by first | assumption | omega) (show SrtT B from by first | assumption | omega) (show ∀ z, 2 ≤ z → z ≤ 5 → fb z = nI (bB B z) from by first | assumption | omega) (show ∀ z, 1 ≤ z → z ≤ 5 → fw z = nI (bW B z) from by first | assumption | omega) (show sN B ≤ scap ∧ scap ≤ 60 from by first | assumption | omega) (show ∀ j, j < sN B → sf j = some (gs j) ∧ SesIn G Wi (gs j) (sAt B j) from by first | assumption | omega) (show SrtS B from by first | assumption | omega) (show kn ≤ 200 from by first | assumption | omega) (show Cache B kn fl ff fg from by first | assumption | omega) (show d < 200 from by first | assumption | omega) H.size) (cwV 1 hts (lw_V q279 q281 qs0 q48 q282) rfl rfl rfl (by decide +kernel) ⟨Nat.le_of_ble_eq_true rfl, Nat.le_of_ble_eq_true rfl⟩) (preV_of hKB hE hS hF (va_recv hK hP (ci := 1) (q0 := 0) rfl rfl) (va_P.sub hP [0, 1, 2, 3] rfl) ((va_D.sub hD [0, 1, 2, 3] (by decide) rfl).weaken (fun _ _ _ _ => trivial)) ⟨hro_1315, (hR1.kp hF hS.2.1)⟩) rfl rfl hl.1 rfl (lv_room (Nat.le_of_ble_eq_true rfl)) dX2_fitnessOn_2 ⟨show 0 + (41 * ((max kn (d + 1)) - kn)) ≤ 41 * ((max kn (d + 1)) - kn) from by first | decide | omega, show 0 + (82 * ((max kn (d + 1)) - kn)) ≤ 82 * ((max kn (d + 1)) - kn) from by first | decide | omega⟩)
      (fun u_ H locs hq hph (hP : va_P G.1 CL [(b, .inr (1, [.ref to, .ref so, .ref bo, .ref we, .ref tg, .int (nI (bD B)), .int (nI (bI9 B)), .int (oI (bP B)), .int (nI (bE B)), .int (nI (max kn (d + 1))), .ref lo, .ref fi, .ref fa])), (lo, .inl (G.2 0, 200, .inl u_.1)), (fi, .inl (G.2 0, 200, .inl u_.2.1)), (fa, .inl (G.2 0, 200, .inl u_.2.2))] H) (hD : va_D A [(b, .inr (1, [.ref to, .ref so, .ref bo, .ref we, .ref tg, .int (nI (bD B)), .int (nI (bI9 B)), .int (oI (bP B)), .int (nI (bE B)), .int (nI (max kn (d + 1))), .ref lo, .ref fi, .ref fa])), (lo, .inl (G.2 0, 200, .inl u_.1)), (fi, .inl (G.2 0, 200, .inl u_.2.1)), (fa, .inl (G.2 0, 200, .inl u_.2.2))]) hS hfz hfk => ?_)
  obtain ⟨fl2_1316, ff2_1317, fg2_1318⟩ := u_
  have hP : va_P G.1 CL [(b, .inr (1, [.ref to, .ref so, .ref bo, .ref we, .ref tg, .int (nI (bD B)), .int (nI (bI9 B)), .int (oI (bP B)), .int (nI (bE B)), .int (nI (max kn (d + 1))), .ref lo, .ref fi, .ref fa])), (lo, .inl (G.2 0, 200, .inl fl2_1316)), (fi, .inl (G.2 0, 200, .inl ff2_1317)), (fa, .inl (G.2 0, 200, .inl fg2_1318))] H := hP
  have hD : va_D A [(b, .inr (1, [.ref to, .ref so, .ref bo, .ref we, .ref tg, .int (nI (bD B)), .int (nI (bI9 B)), .int (oI (bP B)), .int (nI (bE B)), .int (nI (max kn (d + 1))), .ref lo, .ref fi, .ref fa])), (lo, .inl (G.2 0, 200, .inl fl2_1316)), (fi, .inl (G.2 0, 200, .inl ff2_1317)), (fa, .inl (G.2 0, 200, .inl fg2_1318))] := hD
  have hq_1319 : Cache B (max kn (d + 1)) fl2_1316 ff2_1317 fg2_1318 := hq
  refine W.eq (g2 := F0 m 5 ls []) rfl ?_
  refine lv_aload_n hx hb dX2_fitnessOn_5 rfl (lv_at hl 0 rfl) ?_
  refine va_get hx hb hts in_X2 hown hK hP 0 rfl rfl 11 (by decide) (hts _ q158) (fun _ h => h) rfl dX2_fitnessOn_6 ?_
  refine lv_iload_n hx hb dX2_fitnessOn_9 rfl (lv_at hl 1 rfl) ?_
  refine r_iald (v := decay 42 (loadD B) (d + 1)) hx hb hK hP 2 0 rfl rfl (i := d) (by omega) (by omega) ((hq_1319 d (by omega)).2.1) dX2_fitnessOn_10 ?_
  have hP9 : va_P G.1 CL [(b, .inr (1, [.ref to, .ref so, .ref bo, .ref we, .ref tg, .int (nI (bD B)), .int (nI (bI9 B)), .int (oI (bP B)), .int (nI (bE B)), .int (nI (max kn (d + 1))), .ref lo, .ref fi, .ref fa])), (lo, .inl (G.2 0, 200, .inl fl2_1316)), (fi, .inl (G.2 0, 200, .inl ff2_1317)), (fa, .inl (G.2 0, 200, .inl fg2_1318))] H := hP.sub [0, 1, 2, 3] rfl
  have hD9 : va_D A [(b, .inr (1, [.ref to, .ref so, .ref bo, .ref we, .ref tg, .int (nI (bD B)), .int (nI (bI9 B)), .int (oI (bP B)), .int (nI (bE B)), .int (nI (max kn (d + 1))), .ref lo, .ref fi, .ref fa])), (lo, .inl (G.2 0, 200, .inl fl2_1316)), (fi, .inl (G.2 0, 200, .inl ff2_1317)), (fa, .inl (G.2 0, 200, .inl fg2_1318))] := hD.sub [0, 1, 2, 3] (by decide) rfl
  exact end_i hx hb hr hlk (rfl) (qc_of (fl2_1316, ff2_1317, fg2_1318) (v := some (.int (decay 42 (loadD B) (d + 1)))) (by rfl) (hq_1319) hP9 hD9 (trivial) hS) hS dX2_fitnessOn_11 (show 0 + (41 * ((max kn (d + 1)) - kn)) ≤ 41 * ((max kn (d + 1)) - kn) from by first | exact Nat.le_refl _ | decide | omega) (show 0 + (82 * ((max kn (d + 1)) - kn)) ≤ 82 * ((max kn (d + 1)) - kn) from by first | exact Nat.le_refl _ | decide | omega)

set_option maxHeartbeats 4000000 in
theorem mX2_fatigueOn (l : Launch) (G : Gt) (b : Nat) (to : Nat) (so : Nat) (bo : Nat) (we : Nat) (tg : Nat) (lo : Nat) (fi : Nat) (fa : Nat) (kn : Nat) (B : Bk) (ta : Nat) (tm : Int32) (te : Nat) (tcap : Nat) (tf : Nat → Option Nat) (ga : Nat → Nat) (sa : Nat) (sm : Int32) (se : Nat) (scap : Nat) (sf : Nat → Option Nat) (gs : Nat → Nat) (Wi : va_W) (fb : Nat → Int32) (fw : Nat → Int32) (fl : Nat → Int32) (ff : Nat → Int32) (fg : Nat → Int32) (d : Nat) (hI : Inv B) (htc : tN B ≤ tcap ∧ tcap ≤ 60) (hT : ∀ j, j < tN B → tf j = some (ga j) ∧ TestIn Wi (ga j) (tDay B j) (tThr B j)) (hso : SrtT B) (hfb : ∀ z, 2 ≤ z → z ≤ 5 → fb z = nI (bB B z)) (hfw : ∀ z, 1 ≤ z → z ≤ 5 → fw z = nI (bW B z)) (hsc : sN B ≤ scap ∧ scap ≤ 60) (hSs : ∀ j, j < sN B → sf j = some (gs j) ∧ SesIn G Wi (gs j) (sAt B j)) (hss : SrtS B) (hkn : kn ≤ 200) (hca : Cache B kn fl ff fg) (hd : d < 200) : CT l G yX2_fatigueOn cX2_fatigueOn 2 (some .int) ({ frames := 11, cells := 41 * ((max kn (d + 1)) - kn), slots := 82 * ((max kn (d + 1)) - kn), locals := 234 } : Room) [.ref b, .int (nI d)] [(b, .inr (1, [.ref to, .ref so, .ref bo, .ref we, .ref tg, .int (nI (bD B)), .int (nI (bI9 B)), .int (oI (bP B)), .int (nI (bE B)), .int (nI kn), .ref lo, .ref fi, .ref fa])), (lo, .inl (G.2 0, 200, .inl fl)), (fi, .inl (G.2 0, 200, .inl ff)), (fa, .inl (G.2 0, 200, .inl fg))] (fun (A : Nat → Prop) (H : Heap) => roW G A H [(to, .inr (2, [.ref ta])), (ta, .inr (3, [.int tm, .ref te, .int (nI (tN B))])), (te, .inl (G.2 3, tcap, .inr (.inr (.inr (.inr tf))))), (so, .inr (2, [.ref sa])), (sa, .inr (3, [.int sm, .ref se, .int (nI (sN B))])), (se, .inl (G.2 3, scap, .inr (.inr (.inr (.inr sf))))), (bo, .inl (G.2 0, 6, .inl fb)), (we, .inl (G.2 0, 6, .inl fw))] ∧ roW G A H Wi) (S := (Nat → Int32) × (Nat → Int32) × (Nat → Int32)) (fun (u_ : (Nat → Int32) × (Nat → Int32) × (Nat → Int32)) => some (.int (decay 7 (loadD B) (d + 1)))) (fun (u_ : (Nat → Int32) × (Nat → Int32) × (Nat → Int32)) => Cache B (max kn (d + 1)) u_.1 u_.2.1 u_.2.2) (fun (u_ : (Nat → Int32) × (Nat → Int32) × (Nat → Int32)) => [(b, .inr (1, [.ref to, .ref so, .ref bo, .ref we, .ref tg, .int (nI (bD B)), .int (nI (bI9 B)), .int (oI (bP B)), .int (nI (bE B)), .int (nI (max kn (d + 1))), .ref lo, .ref fi, .ref fa])), (lo, .inl (G.2 0, 200, .inl u_.1)), (fi, .inl (G.2 0, 200, .inl u_.2.1)), (fa, .inl (G.2 0, 200, .inl u_.2.2))]) (fun (u_ : (Nat → Int32) × (Nat → Int32) × (Nat → Int32)) (H : Heap) => True) := by
  refine CT.of (by decide) (Nat.le_of_ble_eq_true rfl) ?_
  intro p e s m below meth c ls A H locs h9 hH0 hP hS
  obtain ⟨cf, hr, hlk, hnm, hKB, hE, -, hD, -, hA, hAw, ⟨hR0, hR1⟩, hl⟩ := h9
  have hx := cf.1
  have hb := cf.2.1
  have hml := cf.2.2.1
  have hown : s.vm.findClass RX2 = some m.cls := cf.2.2.2.1
  have hts := cf.2.2.2.2
  have hK := hKB.1
  have hl : lv_has ls 2 [(0, .ref b), (1, .int (nI d))] := hl
  have iT := iv_tN hI
  have iN := iv_sN hI
  have iD := iv_bD hI
  have iId := iv_id hI
  have iE := iv_bE hI
  have hmx9 : max kn (d + 1) ≤ 200 ∧ kn ≤ max kn (d + 1) ∧ d + 1 ≤ max kn (d + 1) ∧ (max kn (d + 1) = kn ∨ max kn (d + 1) = d + 1) := by omega
  refine lv_aload_n hx hb dX2_fatigueOn_0 rfl (lv_at hl 0 rfl) ?_
  refine lv_iload_n hx hb dX2_fatigueOn_1 rfl (lv_at hl 1 rfl) ?_
  have hF := hF_of (wc := [(b, .inr (1, [.ref to, .ref so, .ref bo, .ref we, .ref tg, .int (nI (bD B)), .int (nI (bI9 B)), .int (oI (bP B)), .int (nI (bE B)), .int (nI kn), .ref lo, .ref fi, .ref fa])), (lo, .inl (G.2 0, 200, .inl fl)), (fi, .inl (G.2 0, 200, .inl ff)), (fa, .inl (G.2 0, 200, .inl fg))]) hD hS hA [0, 1, 2, 3] rfl
  have hro_1320 : roW G (va_A [(b, .inr (1, [.ref to, .ref so, .ref bo, .ref we, .ref tg, .int (nI (bD B)), .int (nI (bI9 B)), .int (oI (bP B)), .int (nI (bE B)), .int (nI kn), .ref lo, .ref fi, .ref fa])), (lo, .inl (G.2 0, 200, .inl fl)), (fi, .inl (G.2 0, 200, .inl ff)), (fa, .inl (G.2 0, 200, .inl fg))] H.size) H [(to, .inr (2, [.ref ta])), (ta, .inr (3, [.int tm, .ref te, .int (nI (tN B))])), (te, .inl (G.2 3, tcap, .inr (.inr (.inr (.inr tf))))), (so, .inr (2, [.ref sa])), (sa, .inr (3, [.int sm, .ref se, .int (nI (sN B))])), (se, .inl (G.2 3, scap, .inr (.inr (.inr (.inr sf))))), (bo, .inl (G.2 0, 6, .inl fb)), (we, .inl (G.2 0, 6, .inl fw))] := ((hR0.kp hF hS.2.1).sub (ws' := [(to, .inr (2, [.ref ta])), (ta, .inr (3, [.int tm, .ref te, .int (nI (tN B))])), (te, .inl (G.2 3, tcap, .inr (.inr (.inr (.inr tf))))), (so, .inr (2, [.ref sa])), (sa, .inr (3, [.int sm, .ref se, .int (nI (sN B))])), (se, .inl (G.2 3, scap, .inr (.inr (.inr (.inr sf))))), (bo, .inl (G.2 0, 6, .inl fb)), (we, .inl (G.2 0, 6, .inl fw))]) [0, 1, 2, 3, 4, 5, 6, 7] rfl)
  refine go_ct hS hP hD [0, 1, 2, 3] [] hF rfl rfl (by decide) (by decide)
      (va_runV (As := [.int (nI d)]) (rest := []) cf (mX2_learnUpTo l G b to so bo we tg lo fi fa kn B ta tm te tcap tf ga sa sm se scap sf gs Wi fb fw fl ff fg d (show Inv B from by first | assumption | omega) (show tN B ≤ tcap ∧ tcap ≤ 60 from by first | assumption | omega) (show ∀ j, j < tN B → tf j = some (ga j) ∧ TestIn Wi (ga j) (tDay B j) (tThr B j) from by first | assumption | omega) (show SrtT B from by first | assumption | omega) (show ∀ z, 2 ≤ z → z ≤ 5 → fb z = nI (bB B z) from by first | assumption | omega) (show ∀ z, 1 ≤ z → z ≤ 5 → fw z = nI (bW B z) from by first | assumption | omega) (show sN B ≤ scap ∧ scap ≤ 60 from by first | assumption | omega) (show ∀ j, j < sN B → sf j = some (gs j) ∧ SesIn G Wi (gs j) (sAt B j) from by first | assumption | omega) (show SrtS B from by first | assumption | omega) (show kn ≤ 200 from by first | assumption | omega) (show Cache B kn fl ff fg from by first | assumption | omega) (show d < 200 from by first | assumption | omega) H.size) (cwV 1 hts (lw_V q279 q281 qs0 q48 q282) rfl rfl rfl (by decide +kernel) ⟨Nat.le_of_ble_eq_true rfl, Nat.le_of_ble_eq_true rfl⟩) (preV_of hKB hE hS hF (va_recv hK hP (ci := 1) (q0 := 0) rfl rfl) (va_P.sub hP [0, 1, 2, 3] rfl) ((va_D.sub hD [0, 1, 2, 3] (by decide) rfl).weaken (fun _ _ _ _ => trivial)) ⟨hro_1320, (hR1.kp hF hS.2.1)⟩) rfl rfl hl.1 rfl (lv_room (Nat.le_of_ble_eq_true rfl)) dX2_fatigueOn_2 ⟨show 0 + (41 * ((max kn (d + 1)) - kn)) ≤ 41 * ((max kn (d + 1)) - kn) from by first | decide | omega, show 0 + (82 * ((max kn (d + 1)) - kn)) ≤ 82 * ((max kn (d + 1)) - kn) from by first | decide | omega⟩)
      (fun u_ H locs hq hph (hP : va_P G.1 CL [(b, .inr (1, [.ref to, .ref so, .ref bo, .ref we, .ref tg, .int (nI (bD B)), .int (nI (bI9 B)), .int (oI (bP B)), .int (nI (bE B)), .int (nI (max kn (d + 1))), .ref lo, .ref fi, .ref fa])), (lo, .inl (G.2 0, 200, .inl u_.1)), (fi, .inl (G.2 0, 200, .inl u_.2.1)), (fa, .inl (G.2 0, 200, .inl u_.2.2))] H) (hD : va_D A [(b, .inr (1, [.ref to, .ref so, .ref bo, .ref we, .ref tg, .int (nI (bD B)), .int (nI (bI9 B)), .int (oI (bP B)), .int (nI (bE B)), .int (nI (max kn (d + 1))), .ref lo, .ref fi, .ref fa])), (lo, .inl (G.2 0, 200, .inl u_.1)), (fi, .inl (G.2 0, 200, .inl u_.2.1)), (fa, .inl (G.2 0, 200, .inl u_.2.2))]) hS hfz hfk => ?_)
  obtain ⟨fl2_1321, ff2_1322, fg2_1323⟩ := u_
  have hP : va_P G.1 CL [(b, .inr (1, [.ref to, .ref so, .ref bo, .ref we, .ref tg, .int (nI (bD B)), .int (nI (bI9 B)), .int (oI (bP B)), .int (nI (bE B)), .int (nI (max kn (d + 1))), .ref lo, .ref fi, .ref fa])), (lo, .inl (G.2 0, 200, .inl fl2_1321)), (fi, .inl (G.2 0, 200, .inl ff2_1322)), (fa, .inl (G.2 0, 200, .inl fg2_1323))] H := hP
  have hD : va_D A [(b, .inr (1, [.ref to, .ref so, .ref bo, .ref we, .ref tg, .int (nI (bD B)), .int (nI (bI9 B)), .int (oI (bP B)), .int (nI (bE B)), .int (nI (max kn (d + 1))), .ref lo, .ref fi, .ref fa])), (lo, .inl (G.2 0, 200, .inl fl2_1321)), (fi, .inl (G.2 0, 200, .inl ff2_1322)), (fa, .inl (G.2 0, 200, .inl fg2_1323))] := hD
  have hq_1324 : Cache B (max kn (d + 1)) fl2_1321 ff2_1322 fg2_1323 := hq
  refine W.eq (g2 := F0 m 5 ls []) rfl ?_
  refine lv_aload_n hx hb dX2_fatigueOn_5 rfl (lv_at hl 0 rfl) ?_
  refine va_get hx hb hts in_X2 hown hK hP 0 rfl rfl 12 (by decide) (hts _ q159) (fun _ h => h) rfl dX2_fatigueOn_6 ?_
  refine lv_iload_n hx hb dX2_fatigueOn_9 rfl (lv_at hl 1 rfl) ?_
  refine r_iald (v := decay 7 (loadD B) (d + 1)) hx hb hK hP 3 0 rfl rfl (i := d) (by omega) (by omega) ((hq_1324 d (by omega)).2.2) dX2_fatigueOn_10 ?_
  have hP9 : va_P G.1 CL [(b, .inr (1, [.ref to, .ref so, .ref bo, .ref we, .ref tg, .int (nI (bD B)), .int (nI (bI9 B)), .int (oI (bP B)), .int (nI (bE B)), .int (nI (max kn (d + 1))), .ref lo, .ref fi, .ref fa])), (lo, .inl (G.2 0, 200, .inl fl2_1321)), (fi, .inl (G.2 0, 200, .inl ff2_1322)), (fa, .inl (G.2 0, 200, .inl fg2_1323))] H := hP.sub [0, 1, 2, 3] rfl
  have hD9 : va_D A [(b, .inr (1, [.ref to, .ref so, .ref bo, .ref we, .ref tg, .int (nI (bD B)), .int (nI (bI9 B)), .int (oI (bP B)), .int (nI (bE B)), .int (nI (max kn (d + 1))), .ref lo, .ref fi, .ref fa])), (lo, .inl (G.2 0, 200, .inl fl2_1321)), (fi, .inl (G.2 0, 200, .inl ff2_1322)), (fa, .inl (G.2 0, 200, .inl fg2_1323))] := hD.sub [0, 1, 2, 3] (by decide) rfl
  exact end_i hx hb hr hlk (rfl) (qc_of (fl2_1321, ff2_1322, fg2_1323) (v := some (.int (decay 7 (loadD B) (d + 1)))) (by rfl) (hq_1324) hP9 hD9 (trivial) hS) hS dX2_fatigueOn_11 (show 0 + (41 * ((max kn (d + 1)) - kn)) ≤ 41 * ((max kn (d + 1)) - kn) from by first | exact Nat.le_refl _ | decide | omega) (show 0 + (82 * ((max kn (d + 1)) - kn)) ≤ 82 * ((max kn (d + 1)) - kn) from by first | exact Nat.le_refl _ | decide | omega)

set_option maxHeartbeats 4000000 in
theorem mX2_formOn (l : Launch) (G : Gt) (b : Nat) (to : Nat) (so : Nat) (bo : Nat) (we : Nat) (tg : Nat) (lo : Nat) (fi : Nat) (fa : Nat) (kn : Nat) (B : Bk) (ta : Nat) (tm : Int32) (te : Nat) (tcap : Nat) (tf : Nat → Option Nat) (ga : Nat → Nat) (sa : Nat) (sm : Int32) (se : Nat) (scap : Nat) (sf : Nat → Option Nat) (gs : Nat → Nat) (Wi : va_W) (fb : Nat → Int32) (fw : Nat → Int32) (fl : Nat → Int32) (ff : Nat → Int32) (fg : Nat → Int32) (d : Nat) (hI : Inv B) (htc : tN B ≤ tcap ∧ tcap ≤ 60) (hT : ∀ j, j < tN B → tf j = some (ga j) ∧ TestIn Wi (ga j) (tDay B j) (tThr B j)) (hso : SrtT B) (hfb : ∀ z, 2 ≤ z → z ≤ 5 → fb z = nI (bB B z)) (hfw : ∀ z, 1 ≤ z → z ≤ 5 → fw z = nI (bW B z)) (hsc : sN B ≤ scap ∧ scap ≤ 60) (hSs : ∀ j, j < sN B → sf j = some (gs j) ∧ SesIn G Wi (gs j) (sAt B j)) (hss : SrtS B) (hkn : kn ≤ 200) (hca : Cache B kn fl ff fg) (hd : d < 200) : CT l G yX2_formOn cX2_formOn 2 (some .int) ({ frames := 12, cells := 41 * ((max kn d) - kn), slots := 82 * ((max kn d) - kn), locals := 255 } : Room) [.ref b, .int (nI d)] [(b, .inr (1, [.ref to, .ref so, .ref bo, .ref we, .ref tg, .int (nI (bD B)), .int (nI (bI9 B)), .int (oI (bP B)), .int (nI (bE B)), .int (nI kn), .ref lo, .ref fi, .ref fa])), (lo, .inl (G.2 0, 200, .inl fl)), (fi, .inl (G.2 0, 200, .inl ff)), (fa, .inl (G.2 0, 200, .inl fg))] (fun (A : Nat → Prop) (H : Heap) => roW G A H [(to, .inr (2, [.ref ta])), (ta, .inr (3, [.int tm, .ref te, .int (nI (tN B))])), (te, .inl (G.2 3, tcap, .inr (.inr (.inr (.inr tf))))), (so, .inr (2, [.ref sa])), (sa, .inr (3, [.int sm, .ref se, .int (nI (sN B))])), (se, .inl (G.2 3, scap, .inr (.inr (.inr (.inr sf))))), (bo, .inl (G.2 0, 6, .inl fb)), (we, .inl (G.2 0, 6, .inl fw))] ∧ roW G A H Wi) (S := (Nat → Int32) × (Nat → Int32) × (Nat → Int32)) (fun (u_ : (Nat → Int32) × (Nat → Int32) × (Nat → Int32)) => some (.int (formS B d))) (fun (u_ : (Nat → Int32) × (Nat → Int32) × (Nat → Int32)) => Cache B (max kn d) u_.1 u_.2.1 u_.2.2) (fun (u_ : (Nat → Int32) × (Nat → Int32) × (Nat → Int32)) => [(b, .inr (1, [.ref to, .ref so, .ref bo, .ref we, .ref tg, .int (nI (bD B)), .int (nI (bI9 B)), .int (oI (bP B)), .int (nI (bE B)), .int (nI (max kn d)), .ref lo, .ref fi, .ref fa])), (lo, .inl (G.2 0, 200, .inl u_.1)), (fi, .inl (G.2 0, 200, .inl u_.2.1)), (fa, .inl (G.2 0, 200, .inl u_.2.2))]) (fun (u_ : (Nat → Int32) × (Nat → Int32) × (Nat → Int32)) (H : Heap) => True) := by
  refine CT.of (by decide) (Nat.le_of_ble_eq_true rfl) ?_
  intro p e s m below meth c ls A H locs h9 hH0 hP hS
  obtain ⟨cf, hr, hlk, hnm, hKB, hE, -, hD, -, hA, hAw, ⟨hR0, hR1⟩, hl⟩ := h9
  have hx := cf.1
  have hb := cf.2.1
  have hml := cf.2.2.1
  have hown : s.vm.findClass RX2 = some m.cls := cf.2.2.2.1
  have hts := cf.2.2.2.2
  have hK := hKB.1
  have hl : lv_has ls 2 [(0, .ref b), (1, .int (nI d))] := hl
  have iT := iv_tN hI
  have iN := iv_sN hI
  have iD := iv_bD hI
  have iId := iv_id hI
  have iE := iv_bE hI
  have hmx9 : max kn d ≤ 200 ∧ kn ≤ max kn d ∧ d ≤ max kn d ∧ (max kn d = kn ∨ max kn d = d) := by omega
  refine lv_iload_n hx hb dX2_formOn_0 rfl (lv_at hl 1 rfl) ?_
  refine n_if_ne (tgt := 8) hx hb (by omega) dX2_formOn_1 (by decide) (fun c_1325 => ?_) (fun c_1325 => ?_)
  · have hd8 : d - 1 + 1 = d := by omega
    refine lv_aload_n hx hb dX2_formOn_8 rfl (lv_at hl 0 rfl) ?_
    refine lv_iload_n hx hb dX2_formOn_9 rfl (lv_at hl 1 rfl) ?_
    refine lv_iconst (v := nI 1) hx hb dX2_formOn_10 (by decide) ?_
    refine lv_isub hx hb dX2_formOn_11 ?_
    refine lv_ton (n := (d - 1)) (nsub (by omega)) ?_
    have hF := hF_of (wc := [(b, .inr (1, [.ref to, .ref so, .ref bo, .ref we, .ref tg, .int (nI (bD B)), .int (nI (bI9 B)), .int (oI (bP B)), .int (nI (bE B)), .int (nI kn), .ref lo, .ref fi, .ref fa])), (lo, .inl (G.2 0, 200, .inl fl)), (fi, .inl (G.2 0, 200, .inl ff)), (fa, .inl (G.2 0, 200, .inl fg))]) hD hS hA [0, 1, 2, 3] rfl
    have hro_1326 : roW G (va_A [(b, .inr (1, [.ref to, .ref so, .ref bo, .ref we, .ref tg, .int (nI (bD B)), .int (nI (bI9 B)), .int (oI (bP B)), .int (nI (bE B)), .int (nI kn), .ref lo, .ref fi, .ref fa])), (lo, .inl (G.2 0, 200, .inl fl)), (fi, .inl (G.2 0, 200, .inl ff)), (fa, .inl (G.2 0, 200, .inl fg))] H.size) H [(to, .inr (2, [.ref ta])), (ta, .inr (3, [.int tm, .ref te, .int (nI (tN B))])), (te, .inl (G.2 3, tcap, .inr (.inr (.inr (.inr tf))))), (so, .inr (2, [.ref sa])), (sa, .inr (3, [.int sm, .ref se, .int (nI (sN B))])), (se, .inl (G.2 3, scap, .inr (.inr (.inr (.inr sf))))), (bo, .inl (G.2 0, 6, .inl fb)), (we, .inl (G.2 0, 6, .inl fw))] := ((hR0.kp hF hS.2.1).sub (ws' := [(to, .inr (2, [.ref ta])), (ta, .inr (3, [.int tm, .ref te, .int (nI (tN B))])), (te, .inl (G.2 3, tcap, .inr (.inr (.inr (.inr tf))))), (so, .inr (2, [.ref sa])), (sa, .inr (3, [.int sm, .ref se, .int (nI (sN B))])), (se, .inl (G.2 3, scap, .inr (.inr (.inr (.inr sf))))), (bo, .inl (G.2 0, 6, .inl fb)), (we, .inl (G.2 0, 6, .inl fw))]) [0, 1, 2, 3, 4, 5, 6, 7] rfl)
    refine go_ct hS hP hD [0, 1, 2, 3] [] hF rfl rfl (by decide) (by decide)
        (va_runV (As := [.int (nI (d - 1))]) (rest := []) cf (mX2_fitnessOn l G b to so bo we tg lo fi fa kn B ta tm te tcap tf ga sa sm se scap sf gs Wi fb fw fl ff fg (d - 1) (show Inv B from by first | assumption | omega) (show tN B ≤ tcap ∧ tcap ≤ 60 from by first | assumption | omega) (show ∀ j, j < tN B → tf j = some (ga j) ∧ TestIn Wi (ga j) (tDay B j) (tThr B j) from by first | assumption | omega) (show SrtT B from by first | assumption | omega) (show ∀ z, 2 ≤ z → z ≤ 5 → fb z = nI (bB B z) from by first | assumption | omega) (show ∀ z, 1 ≤ z → z ≤ 5 → fw z = nI (bW B z) from by first | assumption | omega) (show sN B ≤ scap ∧ scap ≤ 60 from by first | assumption | omega) (show ∀ j, j < sN B → sf j = some (gs j) ∧ SesIn G Wi (gs j) (sAt B j) from by first | assumption | omega) (show SrtS B from by first | assumption | omega) (show kn ≤ 200 from by first | assumption | omega) (show Cache B kn fl ff fg from by first | assumption | omega) (show (d - 1) < 200 from by first | assumption | omega) H.size) (cwV 1 hts (lw_V q462 q463 q464 q48 q465) rfl rfl rfl (by decide +kernel) ⟨Nat.le_of_ble_eq_true rfl, Nat.le_of_ble_eq_true rfl⟩) (preV_of hKB hE hS hF (va_recv hK hP (ci := 1) (q0 := 0) rfl rfl) (va_P.sub hP [0, 1, 2, 3] rfl) ((va_D.sub hD [0, 1, 2, 3] (by decide) rfl).weaken (fun _ _ _ _ => trivial)) ⟨hro_1326, (hR1.kp hF hS.2.1)⟩) rfl rfl hl.1 rfl (lv_room (Nat.le_of_ble_eq_true rfl)) dX2_formOn_12 ⟨show 0 + (41 * ((max kn ((d - 1) + 1)) - kn)) ≤ 41 * ((max kn d) - kn) from by first | decide | omega, show 0 + (82 * ((max kn ((d - 1) + 1)) - kn)) ≤ 82 * ((max kn d) - kn) from by first | decide | omega⟩)
        (fun u_ H locs hq hph (hP : va_P G.1 CL [(b, .inr (1, [.ref to, .ref so, .ref bo, .ref we, .ref tg, .int (nI (bD B)), .int (nI (bI9 B)), .int (oI (bP B)), .int (nI (bE B)), .int (nI (max kn ((d - 1) + 1))), .ref lo, .ref fi, .ref fa])), (lo, .inl (G.2 0, 200, .inl u_.1)), (fi, .inl (G.2 0, 200, .inl u_.2.1)), (fa, .inl (G.2 0, 200, .inl u_.2.2))] H) (hD : va_D A [(b, .inr (1, [.ref to, .ref so, .ref bo, .ref we, .ref tg, .int (nI (bD B)), .int (nI (bI9 B)), .int (oI (bP B)), .int (nI (bE B)), .int (nI (max kn ((d - 1) + 1))), .ref lo, .ref fi, .ref fa])), (lo, .inl (G.2 0, 200, .inl u_.1)), (fi, .inl (G.2 0, 200, .inl u_.2.1)), (fa, .inl (G.2 0, 200, .inl u_.2.2))]) hS hfz hfk => ?_)
    obtain ⟨fl2_1327, ff2_1328, fg2_1329⟩ := u_
    have hP : va_P G.1 CL [(b, .inr (1, [.ref to, .ref so, .ref bo, .ref we, .ref tg, .int (nI (bD B)), .int (nI (bI9 B)), .int (oI (bP B)), .int (nI (bE B)), .int (nI (max kn ((d - 1) + 1))), .ref lo, .ref fi, .ref fa])), (lo, .inl (G.2 0, 200, .inl fl2_1327)), (fi, .inl (G.2 0, 200, .inl ff2_1328)), (fa, .inl (G.2 0, 200, .inl fg2_1329))] H := hP
    have hD : va_D A [(b, .inr (1, [.ref to, .ref so, .ref bo, .ref we, .ref tg, .int (nI (bD B)), .int (nI (bI9 B)), .int (oI (bP B)), .int (nI (bE B)), .int (nI (max kn ((d - 1) + 1))), .ref lo, .ref fi, .ref fa])), (lo, .inl (G.2 0, 200, .inl fl2_1327)), (fi, .inl (G.2 0, 200, .inl ff2_1328)), (fa, .inl (G.2 0, 200, .inl fg2_1329))] := hD
    have hq_1330 : Cache B (max kn ((d - 1) + 1)) fl2_1327 ff2_1328 fg2_1329 := hq
    refine W.eq (g2 := F0 m 15 ls [.int (decay 42 (loadD B) ((d - 1) + 1))]) rfl ?_
    refine lv_aload_n hx hb dX2_formOn_15 rfl (lv_at hl 0 rfl) ?_
    refine lv_iload_n hx hb dX2_formOn_16 rfl (lv_at hl 1 rfl) ?_
    refine lv_iconst (v := nI 1) hx hb dX2_formOn_17 (by decide) ?_
    refine lv_isub hx hb dX2_formOn_18 ?_
    refine lv_ton (n := (d - 1)) (nsub (by omega)) ?_
    have hF := hF_of (wc := [(b, .inr (1, [.ref to, .ref so, .ref bo, .ref we, .ref tg, .int (nI (bD B)), .int (nI (bI9 B)), .int (oI (bP B)), .int (nI (bE B)), .int (nI (max kn ((d - 1) + 1))), .ref lo, .ref fi, .ref fa])), (lo, .inl (G.2 0, 200, .inl fl2_1327)), (fi, .inl (G.2 0, 200, .inl ff2_1328)), (fa, .inl (G.2 0, 200, .inl fg2_1329))]) hD hS hA [0, 1, 2, 3] rfl
    have hro_1331 : roW G (va_A [(b, .inr (1, [.ref to, .ref so, .ref bo, .ref we, .ref tg, .int (nI (bD B)), .int (nI (bI9 B)), .int (oI (bP B)), .int (nI (bE B)), .int (nI (max kn ((d - 1) + 1))), .ref lo, .ref fi, .ref fa])), (lo, .inl (G.2 0, 200, .inl fl2_1327)), (fi, .inl (G.2 0, 200, .inl ff2_1328)), (fa, .inl (G.2 0, 200, .inl fg2_1329))] H.size) H [(to, .inr (2, [.ref ta])), (ta, .inr (3, [.int tm, .ref te, .int (nI (tN B))])), (te, .inl (G.2 3, tcap, .inr (.inr (.inr (.inr tf))))), (so, .inr (2, [.ref sa])), (sa, .inr (3, [.int sm, .ref se, .int (nI (sN B))])), (se, .inl (G.2 3, scap, .inr (.inr (.inr (.inr sf))))), (bo, .inl (G.2 0, 6, .inl fb)), (we, .inl (G.2 0, 6, .inl fw))] := ((hR0.kp hF hS.2.1).sub (ws' := [(to, .inr (2, [.ref ta])), (ta, .inr (3, [.int tm, .ref te, .int (nI (tN B))])), (te, .inl (G.2 3, tcap, .inr (.inr (.inr (.inr tf))))), (so, .inr (2, [.ref sa])), (sa, .inr (3, [.int sm, .ref se, .int (nI (sN B))])), (se, .inl (G.2 3, scap, .inr (.inr (.inr (.inr sf))))), (bo, .inl (G.2 0, 6, .inl fb)), (we, .inl (G.2 0, 6, .inl fw))]) [0, 1, 2, 3, 4, 5, 6, 7] rfl)
    refine go_ct hS hP hD [0, 1, 2, 3] [] hF rfl rfl (by decide) (by decide)
        (va_runV (As := [.int (nI (d - 1))]) (rest := [.int (decay 42 (loadD B) ((d - 1) + 1))]) cf (mX2_fatigueOn l G b to so bo we tg lo fi fa (max kn ((d - 1) + 1)) B ta tm te tcap tf ga sa sm se scap sf gs Wi fb fw fl2_1327 ff2_1328 fg2_1329 (d - 1) (show Inv B from by first | assumption | omega) (show tN B ≤ tcap ∧ tcap ≤ 60 from by first | assumption | omega) (show ∀ j, j < tN B → tf j = some (ga j) ∧ TestIn Wi (ga j) (tDay B j) (tThr B j) from by first | assumption | omega) (show SrtT B from by first | assumption | omega) (show ∀ z, 2 ≤ z → z ≤ 5 → fb z = nI (bB B z) from by first | assumption | omega) (show ∀ z, 1 ≤ z → z ≤ 5 → fw z = nI (bW B z) from by first | assumption | omega) (show sN B ≤ scap ∧ scap ≤ 60 from by first | assumption | omega) (show ∀ j, j < sN B → sf j = some (gs j) ∧ SesIn G Wi (gs j) (sAt B j) from by first | assumption | omega) (show SrtS B from by first | assumption | omega) (by omega) (hq_1330) (show (d - 1) < 200 from by first | assumption | omega) H.size) (cwV 1 hts (lw_V q466 q467 q468 q48 q469) rfl rfl rfl (by decide +kernel) ⟨Nat.le_of_ble_eq_true rfl, Nat.le_of_ble_eq_true rfl⟩) (preV_of hKB hE hS hF (va_recv hK hP (ci := 1) (q0 := 0) rfl rfl) (va_P.sub hP [0, 1, 2, 3] rfl) ((va_D.sub hD [0, 1, 2, 3] (by decide) rfl).weaken (fun _ _ _ _ => trivial)) ⟨hro_1331, (hR1.kp hF hS.2.1)⟩) rfl rfl hl.1 rfl (lv_room (Nat.le_of_ble_eq_true rfl)) dX2_formOn_19 ⟨show 0 + (41 * ((max kn ((d - 1) + 1)) - kn)) + (41 * ((max (max kn ((d - 1) + 1)) ((d - 1) + 1)) - (max kn ((d - 1) + 1)))) ≤ 41 * ((max kn d) - kn) from by first | decide | omega, show 0 + (82 * ((max kn ((d - 1) + 1)) - kn)) + (82 * ((max (max kn ((d - 1) + 1)) ((d - 1) + 1)) - (max kn ((d - 1) + 1)))) ≤ 82 * ((max kn d) - kn) from by first | decide | omega⟩)
        (fun u_ H locs hq hph (hP : va_P G.1 CL [(b, .inr (1, [.ref to, .ref so, .ref bo, .ref we, .ref tg, .int (nI (bD B)), .int (nI (bI9 B)), .int (oI (bP B)), .int (nI (bE B)), .int (nI (max (max kn ((d - 1) + 1)) ((d - 1) + 1))), .ref lo, .ref fi, .ref fa])), (lo, .inl (G.2 0, 200, .inl u_.1)), (fi, .inl (G.2 0, 200, .inl u_.2.1)), (fa, .inl (G.2 0, 200, .inl u_.2.2))] H) (hD : va_D A [(b, .inr (1, [.ref to, .ref so, .ref bo, .ref we, .ref tg, .int (nI (bD B)), .int (nI (bI9 B)), .int (oI (bP B)), .int (nI (bE B)), .int (nI (max (max kn ((d - 1) + 1)) ((d - 1) + 1))), .ref lo, .ref fi, .ref fa])), (lo, .inl (G.2 0, 200, .inl u_.1)), (fi, .inl (G.2 0, 200, .inl u_.2.1)), (fa, .inl (G.2 0, 200, .inl u_.2.2))]) hS hfz hfk => ?_)
    obtain ⟨fl2_1332, ff2_1333, fg2_1334⟩ := u_
    have hP : va_P G.1 CL [(b, .inr (1, [.ref to, .ref so, .ref bo, .ref we, .ref tg, .int (nI (bD B)), .int (nI (bI9 B)), .int (oI (bP B)), .int (nI (bE B)), .int (nI (max (max kn ((d - 1) + 1)) ((d - 1) + 1))), .ref lo, .ref fi, .ref fa])), (lo, .inl (G.2 0, 200, .inl fl2_1332)), (fi, .inl (G.2 0, 200, .inl ff2_1333)), (fa, .inl (G.2 0, 200, .inl fg2_1334))] H := hP
    have hD : va_D A [(b, .inr (1, [.ref to, .ref so, .ref bo, .ref we, .ref tg, .int (nI (bD B)), .int (nI (bI9 B)), .int (oI (bP B)), .int (nI (bE B)), .int (nI (max (max kn ((d - 1) + 1)) ((d - 1) + 1))), .ref lo, .ref fi, .ref fa])), (lo, .inl (G.2 0, 200, .inl fl2_1332)), (fi, .inl (G.2 0, 200, .inl ff2_1333)), (fa, .inl (G.2 0, 200, .inl fg2_1334))] := hD
    have hq_1335 : Cache B (max (max kn ((d - 1) + 1)) ((d - 1) + 1)) fl2_1332 ff2_1333 fg2_1334 := hq
    refine W.eq (g2 := F0 m 22 ls [.int (decay 7 (loadD B) ((d - 1) + 1)), .int (decay 42 (loadD B) ((d - 1) + 1))]) rfl ?_
    refine lv_isub hx hb dX2_formOn_22 ?_
    refine lv_toi (y := formS B d) (by rw [hd8]; rfl) ?_
    have hk0 : (max (max kn ((d - 1) + 1)) ((d - 1) + 1)) = max kn d := by omega
    have hP : va_P G.1 CL [(b, .inr (1, [.ref to, .ref so, .ref bo, .ref we, .ref tg, .int (nI (bD B)), .int (nI (bI9 B)), .int (oI (bP B)), .int (nI (bE B)), .int (nI (max kn d)), .ref lo, .ref fi, .ref fa])), (lo, .inl (G.2 0, 200, .inl fl2_1332)), (fi, .inl (G.2 0, 200, .inl ff2_1333)), (fa, .inl (G.2 0, 200, .inl fg2_1334))] H := by rw [← hk0]; exact hP
    have hD : va_D A [(b, .inr (1, [.ref to, .ref so, .ref bo, .ref we, .ref tg, .int (nI (bD B)), .int (nI (bI9 B)), .int (oI (bP B)), .int (nI (bE B)), .int (nI (max kn d)), .ref lo, .ref fi, .ref fa])), (lo, .inl (G.2 0, 200, .inl fl2_1332)), (fi, .inl (G.2 0, 200, .inl ff2_1333)), (fa, .inl (G.2 0, 200, .inl fg2_1334))] := by rw [← hk0]; exact hD
    have hP9 : va_P G.1 CL [(b, .inr (1, [.ref to, .ref so, .ref bo, .ref we, .ref tg, .int (nI (bD B)), .int (nI (bI9 B)), .int (oI (bP B)), .int (nI (bE B)), .int (nI (max kn d)), .ref lo, .ref fi, .ref fa])), (lo, .inl (G.2 0, 200, .inl fl2_1332)), (fi, .inl (G.2 0, 200, .inl ff2_1333)), (fa, .inl (G.2 0, 200, .inl fg2_1334))] H := hP.sub [0, 1, 2, 3] rfl
    have hD9 : va_D A [(b, .inr (1, [.ref to, .ref so, .ref bo, .ref we, .ref tg, .int (nI (bD B)), .int (nI (bI9 B)), .int (oI (bP B)), .int (nI (bE B)), .int (nI (max kn d)), .ref lo, .ref fi, .ref fa])), (lo, .inl (G.2 0, 200, .inl fl2_1332)), (fi, .inl (G.2 0, 200, .inl ff2_1333)), (fa, .inl (G.2 0, 200, .inl fg2_1334))] := hD.sub [0, 1, 2, 3] (by decide) rfl
    exact end_i hx hb hr hlk (rfl) (qc_of (fl2_1332, ff2_1333, fg2_1334) (v := some (.int (formS B d))) (by rfl) (by rw [← hk0]; exact hq_1335) hP9 hD9 (trivial) hS) hS dX2_formOn_23 (show 0 + (41 * ((max kn ((d - 1) + 1)) - kn)) + (41 * ((max (max kn ((d - 1) + 1)) ((d - 1) + 1)) - (max kn ((d - 1) + 1)))) ≤ 41 * ((max kn d) - kn) from by first | exact Nat.le_refl _ | decide | omega) (show 0 + (82 * ((max kn ((d - 1) + 1)) - kn)) + (82 * ((max (max kn ((d - 1) + 1)) ((d - 1) + 1)) - (max kn ((d - 1) + 1)))) ≤ 82 * ((max kn d) - kn) from by first | exact Nat.le_refl _ | decide | omega)
  · refine lv_iconst (v := nI 0) hx hb dX2_formOn_4 (by decide) ?_
    refine lv_goto (tgt := 23) hx hb dX2_formOn_5 (by decide) ?_
    have hd0 : d = 0 := by omega
    have hk0 : kn = max kn d := by omega
    refine lv_toi (y := formS B d) (by rw [hd0]; show (0 : Int32) = 0 - 0; decide) ?_
    have hP : va_P G.1 CL [(b, .inr (1, [.ref to, .ref so, .ref bo, .ref we, .ref tg, .int (nI (bD B)), .int (nI (bI9 B)), .int (oI (bP B)), .int (nI (bE B)), .int (nI (max kn d)), .ref lo, .ref fi, .ref fa])), (lo, .inl (G.2 0, 200, .inl fl)), (fi, .inl (G.2 0, 200, .inl ff)), (fa, .inl (G.2 0, 200, .inl fg))] H := by rw [← hk0]; exact hP
    have hD : va_D A [(b, .inr (1, [.ref to, .ref so, .ref bo, .ref we, .ref tg, .int (nI (bD B)), .int (nI (bI9 B)), .int (oI (bP B)), .int (nI (bE B)), .int (nI (max kn d)), .ref lo, .ref fi, .ref fa])), (lo, .inl (G.2 0, 200, .inl fl)), (fi, .inl (G.2 0, 200, .inl ff)), (fa, .inl (G.2 0, 200, .inl fg))] := by rw [← hk0]; exact hD
    have hP9 : va_P G.1 CL [(b, .inr (1, [.ref to, .ref so, .ref bo, .ref we, .ref tg, .int (nI (bD B)), .int (nI (bI9 B)), .int (oI (bP B)), .int (nI (bE B)), .int (nI (max kn d)), .ref lo, .ref fi, .ref fa])), (lo, .inl (G.2 0, 200, .inl fl)), (fi, .inl (G.2 0, 200, .inl ff)), (fa, .inl (G.2 0, 200, .inl fg))] H := hP.sub [0, 1, 2, 3] rfl
    have hD9 : va_D A [(b, .inr (1, [.ref to, .ref so, .ref bo, .ref we, .ref tg, .int (nI (bD B)), .int (nI (bI9 B)), .int (oI (bP B)), .int (nI (bE B)), .int (nI (max kn d)), .ref lo, .ref fi, .ref fa])), (lo, .inl (G.2 0, 200, .inl fl)), (fi, .inl (G.2 0, 200, .inl ff)), (fa, .inl (G.2 0, 200, .inl fg))] := hD.sub [0, 1, 2, 3] (by decide) rfl
    exact end_i hx hb hr hlk (rfl) (qc_of (fl, ff, fg) (v := some (.int (formS B d))) (by rfl) (by rw [← hk0]; exact hca) hP9 hD9 (trivial) hS) hS dX2_formOn_23 (show 0 ≤ 41 * ((max kn d) - kn) from by first | exact Nat.le_refl _ | decide | omega) (show 0 ≤ 82 * ((max kn d) - kn) from by first | exact Nat.le_refl _ | decide | omega)

set_option maxHeartbeats 4000000 in
theorem mX2_fromStart (l : Launch) (G : Gt) (b : Nat) (to : Nat) (so : Nat) (bo : Nat) (we : Nat) (tg : Nat) (lo : Nat) (fi : Nat) (fa : Nat) (kn : Nat) (B : Bk) (ta : Nat) (tm : Int32) (te : Nat) (tcap : Nat) (tf : Nat → Option Nat) (ga : Nat → Nat) (sa : Nat) (sm : Int32) (se : Nat) (scap : Nat) (sf : Nat → Option Nat) (gs : Nat → Nat) (Wi : va_W) (fb : Nat → Int32) (fw : Nat → Int32) (d : Nat) (sl : Nat) (hI : Inv B) (htc : tN B ≤ tcap ∧ tcap ≤ 60) (hT : ∀ j, j < tN B → tf j = some (ga j) ∧ TestIn Wi (ga j) (tDay B j) (tThr B j)) (hso : SrtT B) (hfb : ∀ z, 2 ≤ z → z ≤ 5 → fb z = nI (bB B z)) (hfw : ∀ z, 1 ≤ z → z ≤ 5 → fw z = nI (bW B z)) (hsc : sN B ≤ scap ∧ scap ≤ 60) (hSs : ∀ j, j < sN B → sf j = some (gs j) ∧ SesIn G Wi (gs j) (sAt B j)) (hss : SrtS B) (hd : d < 200) (hsl : 0 < sl ∧ sl ≤ 100) : CT l G yX2_fromStart cX2_fromStart 5 (some .int) ({ frames := 10, cells := 41 * (d + 1), slots := 82 * (d + 1), locals := 211 } : Room) [.ref b, .int (nI d), .int (nI sl)] [] (fun (A : Nat → Prop) (H : Heap) => roW G A H [(b, .inr (1, [.ref to, .ref so, .ref bo, .ref we, .ref tg, .int (nI (bD B)), .int (nI (bI9 B)), .int (oI (bP B)), .int (nI (bE B)), .int (nI kn), .ref lo, .ref fi, .ref fa])), (to, .inr (2, [.ref ta])), (ta, .inr (3, [.int tm, .ref te, .int (nI (tN B))])), (te, .inl (G.2 3, tcap, .inr (.inr (.inr (.inr tf))))), (so, .inr (2, [.ref sa])), (sa, .inr (3, [.int sm, .ref se, .int (nI (sN B))])), (se, .inl (G.2 3, scap, .inr (.inr (.inr (.inr sf))))), (bo, .inl (G.2 0, 6, .inl fb)), (we, .inl (G.2 0, 6, .inl fw))] ∧ roW G A H Wi) (S := Unit) (fun (u_ : Unit) => some (.int (decay sl (loadD B) (d + 1)))) (fun (u_ : Unit) => True) (fun (u_ : Unit) => []) (fun (u_ : Unit) (H : Heap) => True) := by
  refine CT.of (by decide) (Nat.le_of_ble_eq_true rfl) ?_
  intro p e s m below meth c ls A H locs h9 hH0 hP hS
  obtain ⟨cf, hr, hlk, hnm, hKB, hE, -, hD, -, hA, hAw, ⟨hR0, hR1⟩, hl⟩ := h9
  have hx := cf.1
  have hb := cf.2.1
  have hml := cf.2.2.1
  have hown : s.vm.findClass RX2 = some m.cls := cf.2.2.2.1
  have hts := cf.2.2.2.2
  have hK := hKB.1
  have hl : lv_has ls 5 [(0, .ref b), (1, .int (nI d)), (2, .int (nI sl))] := hl
  have iT := iv_tN hI
  have iN := iv_sN hI
  have iD := iv_bD hI
  have iId := iv_id hI
  have iE := iv_bE hI
  refine lv_iconst (v := nI 0) hx hb dX2_fromStart_0 (by decide) ?_
  refine lv_istore_n (lv' := [(3, .int (nI 0)), (0, .ref b), (1, .int (nI d)), (2, .int (nI sl))]) hx hb dX2_fromStart_1 rfl hl (by decide) rfl (fun ls hl => ?_)
  refine lv_iconst (v := nI 0) hx hb dX2_fromStart_2 (by decide) ?_
  refine lv_istore (lv' := [(4, .int (nI 0)), (3, .int (nI 0)), (0, .ref b), (1, .int (nI d)), (2, .int (nI sl))]) hx hb dX2_fromStart_3 hl (by decide) rfl (fun ls hl => ?_)
  have hl := lv_sub hl [2, 3, 4, 1, 0] (l' := [(0, .ref b), (1, .int (nI d)), (2, .int (nI sl)), (3, .int (decay sl (loadD B) 0)), (4, .int (nI 0))]) rfl
  refine lp_W (σ := Nat) (hpc := 5) (fun x => d + 1 - x) (fun x => 41 * x) (fun x => 82 * x) (fun x H locs ls => va_P G.1 CL [] H ∧ va_D A [] ∧ va_S A s.heap H locs ∧ lv_has ls 5 [(0, .ref b), (1, .int (nI d)), (2, .int (nI sl)), (3, .int (decay sl (loadD B) x)), (4, .int (nI x))] ∧ (x ≤ d + 1)) ?_ (0) ⟨(show va_P G.1 CL [] H from hP), (show va_D A [] from hD), hS, hl, (show 0 ≤ d + 1 from by omega)⟩ (show 0 ≤ 41 * 0 from by first | exact Nat.le_refl _ | omega) (show 0 ≤ 82 * 0 from by first | exact Nat.le_refl _ | omega)
  intro x H locs ls hI9 ih5
  obtain ⟨i_1337, rfl⟩ : ∃ z, z = x := ⟨_, rfl⟩
  obtain ⟨hP, hD, hS, hl, hp_1336⟩ := hI9
  have hP : va_P G.1 CL [] H := hP
  have hD : va_D A [] := hD
  have hl : lv_has ls 5 [(0, .ref b), (1, .int (nI d)), (2, .int (nI sl)), (3, .int (decay sl (loadD B) i_1337)), (4, .int (nI i_1337))] := hl
  have hp_1336 : i_1337 ≤ d + 1 := hp_1336
  refine W.widen (k := 41 * i_1337) (n := 82 * i_1337) (Nat.le_refl _) (Nat.le_refl _) ?_
  refine lv_iload hx hb dX2_fromStart_5 (lv_at hl 4 rfl) ?_
  refine lv_iload_n hx hb dX2_fromStart_7 rfl (lv_at hl 1 rfl) ?_
  refine n_icmp_gt (tgt := 34) hx hb (by omega) (by omega) dX2_fromStart_8 (by decide) (fun c_1339 => ?_) (fun c_1339 => ?_)
  · refine lv_iload_n hx hb dX2_fromStart_34 rfl (lv_at hl 3 rfl) ?_
    have hP9 : va_P G.1 CL [] H := hP.sub [] rfl
    have hD9 : va_D A [] := hD.sub [] (by decide) rfl
    exact end_i hx hb hr hlk (rfl) (qc_of () (v := some (.int (decay sl (loadD B) i_1337))) (by rw [show i_1337 = d + 1 by omega] <;> rfl) (trivial) hP9 hD9 (trivial) hS) hS dX2_fromStart_35 (show 41 * i_1337 ≤ 41 * (d + 1) from by first | exact Nat.le_refl _ | decide | omega) (show 82 * i_1337 ≤ 82 * (d + 1) from by first | exact Nat.le_refl _ | decide | omega)
  · refine lv_iload_n hx hb dX2_fromStart_11 rfl (lv_at hl 3 rfl) ?_
    refine lv_sipush (v := nI 1000) hx hb dX2_fromStart_12 (by decide) ?_
    refine lv_aload_n hx hb dX2_fromStart_15 rfl (lv_at hl 0 rfl) ?_
    refine lv_iload hx hb dX2_fromStart_16 (lv_at hl 4 rfl) ?_
    have hF := hF_of (wc := []) hD hS hA [] rfl
    have hro_1340 : va_P G.1 CL [(b, .inr (1, [.ref to, .ref so, .ref bo, .ref we, .ref tg, .int (nI (bD B)), .int (nI (bI9 B)), .int (oI (bP B)), .int (nI (bE B)), .int (nI kn), .ref lo, .ref fi, .ref fa])), (to, .inr (2, [.ref ta])), (ta, .inr (3, [.int tm, .ref te, .int (nI (tN B))])), (te, .inl (G.2 3, tcap, .inr (.inr (.inr (.inr tf))))), (so, .inr (2, [.ref sa])), (sa, .inr (3, [.int sm, .ref se, .int (nI (sN B))])), (se, .inl (G.2 3, scap, .inr (.inr (.inr (.inr sf))))), (bo, .inl (G.2 0, 6, .inl fb)), (we, .inl (G.2 0, 6, .inl fw))] H := ((hR0.w hS).sub [0, 1, 2, 3, 4, 5, 6, 7, 8] rfl)
    refine go_ct hS hP hD [] [] hF rfl rfl (by decide) (by decide)
        (va_runV (As := [.int (nI i_1337)]) (rest := [.int (nI 1000), .int (decay sl (loadD B) i_1337)]) cf (mX2_loadFromSessions l G b to so bo we tg lo fi fa kn B ta tm te tcap tf ga sa sm se scap sf gs Wi fb fw i_1337 (show Inv B from by first | assumption | omega) (show tN B ≤ tcap ∧ tcap ≤ 60 from by first | assumption | omega) (show ∀ j, j < tN B → tf j = some (ga j) ∧ TestIn Wi (ga j) (tDay B j) (tThr B j) from by first | assumption | omega) (show SrtT B from by first | assumption | omega) (show ∀ z, 2 ≤ z → z ≤ 5 → fb z = nI (bB B z) from by first | assumption | omega) (show ∀ z, 1 ≤ z → z ≤ 5 → fw z = nI (bW B z) from by first | assumption | omega) (show sN B ≤ scap ∧ scap ≤ 60 from by first | assumption | omega) (show ∀ j, j < sN B → sf j = some (gs j) ∧ SesIn G Wi (gs j) (sAt B j) from by first | assumption | omega) (show SrtS B from by first | assumption | omega) (show i_1337 < 2 ^ 31 from by first | assumption | omega) H.size) (cwV 1 hts (lw_V q283 q285 qs1 q48 q286) rfl rfl rfl (by decide +kernel) ⟨Nat.le_of_ble_eq_true rfl, Nat.le_of_ble_eq_true rfl⟩) (preV_of hKB hE hS hF (va_recv hK (hR0.w hS) (ci := 1) (q0 := 0) rfl rfl) (va_P.sub hP [] rfl) ((va_D.sub hD [] (by decide) rfl).weaken (fun _ _ _ _ => trivial)) ⟨(roW.nil hro_1340), (roW.nil (hR1.w hS))⟩) rfl rfl hl.1 rfl (lv_room (Nat.le_of_ble_eq_true rfl)) dX2_fromStart_18 ⟨show 41 * i_1337 + 41 ≤ 41 * (d + 1) from by first | decide | omega, show 82 * i_1337 + 82 ≤ 82 * (d + 1) from by first | decide | omega⟩)
        (fun u_ H locs hq hph (hP : va_P G.1 CL [] H) (hD : va_D A []) hS hfz hfk => ?_)
    refine W.eq (g2 := F0 m 21 ls [.int (nI (loadD B i_1337)), .int (nI 1000), .int (decay sl (loadD B) i_1337)]) rfl ?_
    refine lv_imul hx hb dX2_fromStart_21 ?_
    refine lv_ton (n := 1000 * (loadD B i_1337)) (nmul (by omega)) ?_
    refine lv_iload_n hx hb dX2_fromStart_22 rfl (lv_at hl 3 rfl) ?_
    refine lv_isub hx hb dX2_fromStart_23 ?_
    refine lv_iload_n hx hb dX2_fromStart_24 rfl (lv_at hl 2 rfl) ?_
    refine lv_idiv hx hb dX2_fromStart_25 (nI_ne0 (by omega) (by omega)) ?_
    refine lv_iadd hx hb dX2_fromStart_26 ?_
    refine lv_toi (y := decay sl (loadD B) (i_1337 + 1)) (rfl) ?_
    refine lv_istore_n (lv' := [(3, .int (decay sl (loadD B) (i_1337 + 1))), (0, .ref b), (1, .int (nI d)), (2, .int (nI sl)), (4, .int (nI i_1337))]) hx hb dX2_fromStart_27 rfl hl (by decide) rfl (fun ls hl => ?_)
    refine lv_iinc (v := nI (i_1337 + 1)) (lv' := [(4, .int (nI (i_1337 + 1))), (3, .int (decay sl (loadD B) (i_1337 + 1))), (0, .ref b), (1, .int (nI d)), (2, .int (nI sl))]) hx hb dX2_fromStart_28 hl (k := 4) rfl (ninc (b := 1) (by decide) (by omega)) (by decide) rfl (fun ls hl => ?_)
    refine lv_goto (tgt := 5) hx hb dX2_fromStart_31 (by decide) ?_
    have hP : va_P G.1 CL [] H := hP.sub [] rfl
    have hD : va_D A [] := hD.sub [] (by decide) rfl
    have hl := lv_sub hl [2, 3, 4, 1, 0] (l' := [(0, .ref b), (1, .int (nI d)), (2, .int (nI sl)), (3, .int (decay sl (loadD B) (i_1337 + 1))), (4, .int (nI (i_1337 + 1)))]) rfl
    exact W.widen (show 41 * i_1337 + 41 ≤ 41 * (i_1337 + 1) from by first | exact Nat.le_refl _ | omega) (show 82 * i_1337 + 82 ≤ 82 * (i_1337 + 1) from by first | exact Nat.le_refl _ | omega) (ih5 ((i_1337 + 1)) H locs ls ⟨hP, hD, hS, hl, (show (i_1337 + 1) ≤ d + 1 from by omega)⟩ (show d + 1 - (i_1337 + 1) < d + 1 - i_1337 from by omega))

set_option maxHeartbeats 4000000 in
theorem mX2_placeOf (l : Launch) (G : Gt) (b : Nat) (to : Nat) (so : Nat) (bo : Nat) (we : Nat) (tg : Nat) (lo : Nat) (fi : Nat) (fa : Nat) (kn : Nat) (B : Bk) (sa : Nat) (sm : Int32) (se : Nat) (scap : Nat) (sf : Nat → Option Nat) (gs : Nat → Nat) (Wi : va_W) (v : Int32) (hI : Inv B) (hsc : sN B ≤ scap ∧ scap ≤ 60) (hSs : ∀ j, j < sN B → sf j = some (gs j) ∧ SesIn G Wi (gs j) (sAt B j)) (hss : SrtS B) (hfl : l.stackTraces = false) : CX l G yX2_placeOf cX2_placeOf 4 (some .int) ({ frames := 7, cells := 1, slots := 6, locals := 102 } : Room) [.ref b, .int v] [] (fun (A : Nat → Prop) (H : Heap) => roW G A H [(b, .inr (1, [.ref to, .ref so, .ref bo, .ref we, .ref tg, .int (nI (bD B)), .int (nI (bI9 B)), .int (oI (bP B)), .int (nI (bE B)), .int (nI kn), .ref lo, .ref fi, .ref fa])), (so, .inr (2, [.ref sa])), (sa, .inr (3, [.int sm, .ref se, .int (nI (sN B))])), (se, .inl (G.2 3, scap, .inr (.inr (.inr (.inr sf)))))] ∧ roW G A H Wi) (S := Nat) (fun (u_ : Nat) => some (.int (nI u_))) (fun (u_ : Nat) => ixS B v = some u_ ∧ u_ < sN B) (fun (u_ : Nat) => []) (fun (u_ : Nat) (H : Heap) => True) (SX := Unit) (fun (u_ : Unit) => eN) (fun (u_ : Unit) => ixS B v = none) (fun (u_ : Unit) => []) (fun (u_ : Unit) (H : Heap) => True) := by
  refine CX.of (by decide) (Nat.le_of_ble_eq_true rfl) ?_
  intro p e s m below meth c ls A H locs h9 hH0 hP hS hout
  obtain ⟨cf, hr, hlk, hnm, hKB, hE, -, hD, -, hA, hAw, ⟨hR0, hR1⟩, hl⟩ := h9
  have hx := cf.1
  have hb := cf.2.1
  have hml := cf.2.2.1
  have hown : s.vm.findClass RX2 = some m.cls := cf.2.2.2.1
  have hts := cf.2.2.2.2
  have hK := hKB.1
  have hl : lv_has ls 4 [(0, .ref b), (1, .int v)] := hl
  have iT := iv_tN hI
  have iN := iv_sN hI
  have iD := iv_bD hI
  have iId := iv_id hI
  have iE := iv_bE hI
  refine lv_iconst (v := (-1)) hx hb dX2_placeOf_0 (by decide) ?_
  refine lv_istore_n (lv' := [(2, .int (-1)), (0, .ref b), (1, .int v)]) hx hb dX2_placeOf_1 rfl hl (by decide) rfl (fun ls hl => ?_)
  refine lv_iconst (v := nI 0) hx hb dX2_placeOf_2 (by decide) ?_
  refine lv_istore_n (lv' := [(3, .int (nI 0)), (2, .int (-1)), (0, .ref b), (1, .int v)]) hx hb dX2_placeOf_3 rfl hl (by decide) rfl (fun ls hl => ?_)
  have hl := lv_sub hl [2, 3, 1, 0] (l' := [(0, .ref b), (1, .int v), (2, .int (oI none)), (3, .int (nI 0))]) rfl
  refine lp_W (σ := Nat × (Option Nat)) (hpc := 4) (fun x => sN B - x.1) (fun x => 0) (fun x => 0) (fun x H locs ls => va_P G.1 CL [] H ∧ va_D A [] ∧ va_S A s.heap H locs ∧ lv_has ls 4 [(0, .ref b), (1, .int v), (2, .int (oI x.2)), (3, .int (nI x.1))] ∧ (x.1 ≤ sN B) ∧ (PL B v x.1 x.2)) ?_ (0, none) ⟨(show va_P G.1 CL [] H from hP), (show va_D A [] from hD), hS, hl, (show 0 ≤ sN B from by omega), (show PL B v 0 none from fun k hk => absurd hk (Nat.not_lt_zero _))⟩ (show 0 ≤ 0 from by first | exact Nat.le_refl _ | omega) (show 0 ≤ 0 from by first | exact Nat.le_refl _ | omega)
  intro x H locs ls hI9 ih4
  obtain ⟨i_1343, fo_1344⟩ := x
  obtain ⟨hP, hD, hS, hl, hp_1341, hp_1342⟩ := hI9
  have hP : va_P G.1 CL [] H := hP
  have hD : va_D A [] := hD
  have hl : lv_has ls 4 [(0, .ref b), (1, .int v), (2, .int (oI fo_1344)), (3, .int (nI i_1343))] := hl
  have hp_1341 : i_1343 ≤ sN B := hp_1341
  have hp_1342 : PL B v i_1343 fo_1344 := hp_1342
  refine lv_iload_n hx hb dX2_placeOf_4 rfl (lv_at hl 3 rfl) ?_
  refine lv_aload_n hx hb dX2_placeOf_5 rfl (lv_at hl 0 rfl) ?_
  refine va_get hx hb hts in_X2 hown hK (hR0.w hS) 0 rfl rfl 1 (by decide) (hts _ q137) (fun _ h => h) rfl dX2_placeOf_6 ?_
  have hF := hF_of (wc := []) hD hS hA [] rfl
  have hro_1345 : va_P G.1 CL [(so, .inr (2, [.ref sa])), (sa, .inr (3, [.int sm, .ref se, .int (nI (sN B))])), (se, .inl (G.2 3, scap, .inr (.inr (.inr (.inr sf)))))] H := ((hR0.w hS).sub [1, 2, 3] rfl)
  refine go_ct hS hP hD [] [] hF rfl rfl (by decide) (by decide)
      (va_runV (As := []) (rest := [.int (nI i_1343)]) cf (mX3_size l G so sa sm se (sN B) scap sf  H.size) (cwV 0 hts (lw_V q729 q260 q261 q49 q262) rfl rfl rfl (by decide +kernel) ⟨Nat.le_of_ble_eq_true rfl, Nat.le_of_ble_eq_true rfl⟩) (preV_of hKB hE hS hF (va_recv hK (hR0.w hS) (ci := 2) (q0 := 1) rfl rfl) (va_P.sub hP [] rfl) ((va_D.sub hD [] (by decide) rfl).weaken (fun _ _ _ _ => trivial)) (roW.nil hro_1345)) rfl rfl hl.1 rfl (lv_room (Nat.le_of_ble_eq_true rfl)) dX2_placeOf_9 ⟨show 0 + 0 ≤ 1 from by first | decide | omega, show 0 + 0 ≤ 6 from by first | decide | omega⟩)
      (fun u_ H locs hq hph (hP : va_P G.1 CL [] H) (hD : va_D A []) hS hfz hfk => ?_)
  refine W.eq (g2 := F0 m 12 ls [.int (nI (sN B)), .int (nI i_1343)]) rfl ?_
  refine n_icmp_ge (tgt := 45) hx hb (by omega) (by omega) dX2_placeOf_12 (by decide) (fun c_1347 => ?_) (fun c_1347 => ?_)
  · have hpl : PL B v (sN B) fo_1344 := by rw [show sN B = i_1343 by omega]; exact hp_1342
    have hix := ixS_eq hI hpl
    have hl := lv_sub hl [0, 1, 2] (l' := [(0, .ref b), (1, .int v), (2, .int (oI fo_1344))]) rfl
    rcases fo_1344 with _ | k_1348
    · have hl : lv_has ls 4 [(0, .ref b), (1, .int v), (2, .int (-1))] := by
        have e9 : ((.int (-1)) : Value) = .int (oI none) := rfl
        rw [e9]; exact hl
      refine lv_iload_n hx hb dX2_placeOf_45 rfl (lv_at hl 2 rfl) ?_
      refine lv_iconst (v := (-1)) hx hb dX2_placeOf_46 (by decide) ?_
      refine lv_icmp_eq (tgt := 54) hx hb dX2_placeOf_47 (by decide) (fun c_1349 => ?_) (fun c_1349 => absurd rfl c_1349)
      refine lv_iconst (v := nI 0) hx hb dX2_placeOf_54 (by decide) ?_
      have hF := hF_of (wc := []) hD hS hA [] rfl
      refine go_cx hS hP hD [] [] hF rfl rfl (by decide) (by decide)
          (vx_runSN (As := [.int (nI 0)]) (rest := []) cf (mX1_requireElement_f l G   hfl H.size) ⟨va_cnB 1 hts (lw_meth q331) rfl rfl rfl (hKB.nest q1022 rfl) (hts _ q47) (by decide +kernel) ⟨Nat.le_of_ble_eq_true rfl, Nat.le_of_ble_eq_true rfl⟩, hts _ q330, trivial⟩ (preS_of hKB hE hS hF (va_P.sub hP [] rfl) ((va_D.sub hD [] (by decide) rfl).weaken (fun _ _ _ _ => trivial)) trivial) rfl rfl hl.1 rfl (lv_room (Nat.le_of_ble_eq_true rfl)) dX2_placeOf_55 ⟨show 0 + 1 ≤ 1 from by first | decide | omega, show 0 + 6 ≤ 6 from by first | decide | omega⟩)
          (fun u_ H locs ce q9 hq hph (hP : va_P G.1 CL [] H) (hD : va_D A []) hS hfz hfk hce hcv hcl => ?_) (fun u_ H locs hq hph (hP : va_P G.1 CL [] H) (hD : va_D A []) hS hfz hfk => ?_)
      · have hP9 : va_P G.1 CL [] H := hP.sub [] rfl
        have hD9 : va_D A [] := hD.sub [] (by decide) rfl
        exact out_x hout hlk () (by rfl) (hix) hP9 hD9 (trivial) hS hce hcv hcl (show 0 + 1 ≤ 1 from by first | exact Nat.le_refl _ | decide | omega) (show 0 + 6 ≤ 6 from by first | exact Nat.le_refl _ | decide | omega)
      · have hq_1350 : False := hq
        refine W.eq (g2 := F0 m 58 ls []) rfl ?_
        exact absurd hq_1350 id
    · have hl : lv_has ls 4 [(0, .ref b), (1, .int v), (2, .int (nI k_1348))] := by
        have e9 : ((.int (nI k_1348)) : Value) = .int (oI (some k_1348)) := rfl
        rw [e9]; exact hl
      have hkk : k_1348 < sN B := hpl.1
      refine lv_iload_n hx hb dX2_placeOf_45 rfl (lv_at hl 2 rfl) ?_
      refine lv_iconst (v := (-1)) hx hb dX2_placeOf_46 (by decide) ?_
      refine lv_icmp_eq (tgt := 54) hx hb dX2_placeOf_47 (by decide) (fun c_1351 => absurd c_1351 (nI_m1 (by omega))) (fun c_1351 => ?_)
      refine lv_iconst (v := nI 1) hx hb dX2_placeOf_50 (by decide) ?_
      refine lv_goto (tgt := 55) hx hb dX2_placeOf_51 (by decide) ?_
      have hF := hF_of (wc := []) hD hS hA [] rfl
      refine go_ct hS hP hD [] [] hF rfl rfl (by decide) (by decide)
          (va_runSN (As := [.int (nI 1)]) (rest := []) cf (mX1_requireElement_t l G   H.size) ⟨va_cnB 1 hts (lw_meth q331) rfl rfl rfl (hKB.nest q1022 rfl) (hts _ q47) (by decide +kernel) ⟨Nat.le_of_ble_eq_true rfl, Nat.le_of_ble_eq_true rfl⟩, hts _ q330, trivial⟩ (preS_of hKB hE hS hF (va_P.sub hP [] rfl) ((va_D.sub hD [] (by decide) rfl).weaken (fun _ _ _ _ => trivial)) trivial) rfl rfl hl.1 rfl (lv_room (Nat.le_of_ble_eq_true rfl)) dX2_placeOf_55 ⟨show 0 + 0 ≤ 1 from by first | decide | omega, show 0 + 0 ≤ 6 from by first | decide | omega⟩)
          (fun u_ H locs hq hph (hP : va_P G.1 CL [] H) (hD : va_D A []) hS hfz hfk => ?_)
      refine W.eq (g2 := F0 m 58 ls []) rfl ?_
      refine lv_iload_n hx hb dX2_placeOf_58 rfl (lv_at hl 2 rfl) ?_
      refine vx_ret ?_
      have hP9 : va_P G.1 CL [] H := hP.sub [] rfl
      have hD9 : va_D A [] := hD.sub [] (by decide) rfl
      exact end_i hx hb hr hlk (rfl) (qc_of k_1348 (v := some (.int (nI k_1348))) (by rfl) (⟨hix, hkk⟩) hP9 hD9 (trivial) hS) hS dX2_placeOf_59 (show 0 ≤ 1 from by first | exact Nat.le_refl _ | decide | omega) (show 0 ≤ 6 from by first | exact Nat.le_refl _ | decide | omega)
  · refine lv_aload_n hx hb dX2_placeOf_15 rfl (lv_at hl 0 rfl) ?_
    refine va_get hx hb hts in_X2 hown hK (hR0.w hS) 0 rfl rfl 1 (by decide) (hts _ q137) (fun _ h => h) rfl dX2_placeOf_16 ?_
    refine lv_iload_n hx hb dX2_placeOf_19 rfl (lv_at hl 3 rfl) ?_
    obtain ⟨hg9, mi9, it9, fm9, fi99, hm1, hm2, hm3, hfm9, hfi9⟩ := hSs i_1343 (by omega)
    have hRm_1352 : roW G A s.heap [((gs i_1343), .inr (9, [.int (nI (sDay (sAt B i_1343))), .int (nI (sId (sAt B i_1343))), .ref mi9, .ref it9]))] := hR1.mem (hm1)
    have hRm_1353 : roW G A s.heap [(mi9, .inl (G.2 1, (nP (sAt B i_1343)), .inl fm9))] := hR1.mem (hm2)
    have hRm_1354 : roW G A s.heap [(it9, .inl (G.2 1, (nP (sAt B i_1343)), .inl fi99))] := hR1.mem (hm3)
    have iX9 := iv_ses hI (k := i_1343) (by omega)
    have iXi := iX9.1
    have hF := hF_of (wc := []) hD hS hA [] rfl
    have hro_1355 : va_P G.1 CL [(so, .inr (2, [.ref sa])), (sa, .inr (3, [.int sm, .ref se, .int (nI (sN B))])), (se, .inl (G.2 3, scap, .inr (.inr (.inr (.inr sf)))))] H := ((hR0.w hS).sub [1, 2, 3] rfl)
    refine go_ct hS hP hD [] [] hF rfl rfl (by decide) (by decide)
        (va_runV (As := [.int (nI i_1343)]) (rest := []) cf (mX3_getS l G so sa sm se (sN B) scap sf i_1343 (gs i_1343) ([.int (nI (sDay (sAt B i_1343))), .int (nI (sId (sAt B i_1343))), .ref mi9, .ref it9]) Wi (hsc.1) (hsc.2) (by omega) (hg9) (hm1) H.size) (cwV 1 hts (lw_V q443 q444 q445 q49 q446) rfl rfl rfl (by decide +kernel) ⟨Nat.le_of_ble_eq_true rfl, Nat.le_of_ble_eq_true rfl⟩) (preV_of hKB hE hS hF (va_recv hK (hR0.w hS) (ci := 2) (q0 := 1) rfl rfl) (va_P.sub hP [] rfl) ((va_D.sub hD [] (by decide) rfl).weaken (fun _ _ _ _ => trivial)) ⟨(roW.nil hro_1355), (roW.nil (hR1.w hS))⟩) rfl rfl hl.1 rfl (lv_room (Nat.le_of_ble_eq_true rfl)) dX2_placeOf_20 ⟨show 0 + 0 ≤ 1 from by first | decide | omega, show 0 + 0 ≤ 6 from by first | decide | omega⟩)
        (fun u_ H locs hq hph (hP : va_P G.1 CL [] H) (hD : va_D A []) hS hfz hfk => ?_)
    refine W.eq (g2 := F0 m 23 ls [.ref (gs i_1343)]) rfl ?_
    refine va_castS hx hb hown (hts _ q418) (hK.1 9 _ rfl).2 (va_recv hK (hRm_1352.w hS) (ci := 9) (q0 := 0) rfl rfl) dX2_placeOf_23 ?_
    refine va_getN hx hb hts in_X8 hown hK (hRm_1352.w hS) 0 rfl rfl 1 (by decide) (va_Nw.use rfl (hKB.nest q1112 rfl)) (fun _ h => h) rfl dX2_placeOf_26 ?_
    refine lv_iload_n hx hb dX2_placeOf_29 rfl (lv_at hl 1 rfl) ?_
    refine lv_icmp_ne (tgt := 37) hx hb  dX2_placeOf_30 (by decide) (fun c_1357 => ?_) (fun c_1357 => ?_)
    · refine lv_iload_n hx hb dX2_placeOf_37 rfl (lv_at hl 2 rfl) ?_
      refine lv_istore_n (lv' := [(2, .int (oI fo_1344)), (0, .ref b), (1, .int v), (3, .int (nI i_1343))]) hx hb dX2_placeOf_38 rfl hl (by decide) rfl (fun ls hl => ?_)
      refine lv_iinc (v := nI (i_1343 + 1)) (lv' := [(3, .int (nI (i_1343 + 1))), (2, .int (oI fo_1344)), (0, .ref b), (1, .int v)]) hx hb dX2_placeOf_39 hl (k := 3) rfl (ninc (b := 1) (by decide) (by omega)) (by decide) rfl (fun ls hl => ?_)
      refine lv_goto (tgt := 4) hx hb dX2_placeOf_42 (by decide) ?_
      have hP : va_P G.1 CL [] H := hP.sub [] rfl
      have hD : va_D A [] := hD.sub [] (by decide) rfl
      have hl := lv_sub hl [2, 3, 1, 0] (l' := [(0, .ref b), (1, .int v), (2, .int (oI fo_1344)), (3, .int (nI (i_1343 + 1)))]) rfl
      exact W.widen (show 0 ≤ 0 from by first | exact Nat.le_refl _ | omega) (show 0 ≤ 0 from by first | exact Nat.le_refl _ | omega) (ih4 ((i_1343 + 1), fo_1344) H locs ls ⟨hP, hD, hS, hl, (show (i_1343 + 1) ≤ sN B from by omega), (show PL B v (i_1343 + 1) fo_1344 from (PL_no (by first | assumption | exact Classical.not_not.mp (by assumption)) hp_1342))⟩ (show sN B - (i_1343 + 1) < sN B - i_1343 from by omega))
    · refine lv_iload_n hx hb dX2_placeOf_33 rfl (lv_at hl 3 rfl) ?_
      refine lv_goto (tgt := 38) hx hb dX2_placeOf_34 (by decide) ?_
      refine lv_toi (y := oI (some i_1343)) rfl ?_
      refine lv_istore_n (lv' := [(2, .int (oI (some i_1343))), (0, .ref b), (1, .int v), (3, .int (nI i_1343))]) hx hb dX2_placeOf_38 rfl hl (by decide) rfl (fun ls hl => ?_)
      refine lv_iinc (v := nI (i_1343 + 1)) (lv' := [(3, .int (nI (i_1343 + 1))), (2, .int (oI (some i_1343))), (0, .ref b), (1, .int v)]) hx hb dX2_placeOf_39 hl (k := 3) rfl (ninc (b := 1) (by decide) (by omega)) (by decide) rfl (fun ls hl => ?_)
      refine lv_goto (tgt := 4) hx hb dX2_placeOf_42 (by decide) ?_
      have hP : va_P G.1 CL [] H := hP.sub [] rfl
      have hD : va_D A [] := hD.sub [] (by decide) rfl
      have hl := lv_sub hl [2, 3, 1, 0] (l' := [(0, .ref b), (1, .int v), (2, .int (oI (some i_1343))), (3, .int (nI (i_1343 + 1)))]) rfl
      exact W.widen (show 0 ≤ 0 from by first | exact Nat.le_refl _ | omega) (show 0 ≤ 0 from by first | exact Nat.le_refl _ | omega) (ih4 ((i_1343 + 1), (some i_1343)) H locs ls ⟨hP, hD, hS, hl, (show (i_1343 + 1) ≤ sN B from by omega), (show PL B v (i_1343 + 1) (some i_1343) from (PL_yes (by first | assumption | exact Classical.not_not.mp (by assumption))))⟩ (show sN B - (i_1343 + 1) < sN B - i_1343 from by omega))
