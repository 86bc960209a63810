/-! the component: the book, what it reads (sessions, signs, the course) -/
set_option maxRecDepth 100000
set_option maxHeartbeats 4000000 in
theorem mX2_session (l : Launch) (G : Gt) (b : Nat) (to : Nat) (so : Nat) (bo : Nat) (we : Nat) (tg : Nat) (lo : Nat) (fi : Nat) (fa : Nat) (kn : Nat) (B : Bk) (sa : Nat) (sm : Int32) (se : Nat) (scap : Nat) (sf : Nat → Option Nat) (gs : Nat → Nat) (Wi : va_W) (v : Int32) (hI : Inv B) (hsc : sN B ≤ scap ∧ scap ≤ 60) (hSs : ∀ j, j < sN B → sf j = some (gs j) ∧ SesIn G Wi (gs j) (sAt B j)) (hss : SrtS B) (hfl : l.stackTraces = false) : CX l G yX2_session cX2_session 2 (some (.object "TrainingDiary$Session")) ({ frames := 8, cells := 1, slots := 6, locals := 125 } : Room) [.ref b, .int v] [] (fun (A : Nat → Prop) (H : Heap) => roW G A H [(b, .inr (1, [.ref to, .ref so, .ref bo, .ref we, .ref tg, .int (nI (bD B)), .int (nI (bI9 B)), .int (oI (bP B)), .int (nI (bE B)), .int (nI kn), .ref lo, .ref fi, .ref fa])), (so, .inr (2, [.ref sa])), (sa, .inr (3, [.int sm, .ref se, .int (nI (sN B))])), (se, .inl (G.2 3, scap, .inr (.inr (.inr (.inr sf)))))] ∧ roW G A H Wi) (S := Nat) (fun (u_ : Nat) => some (.ref (gs u_))) (fun (u_ : Nat) => ixS B v = some u_ ∧ u_ < sN B) (fun (u_ : Nat) => []) (fun (u_ : Nat) (H : Heap) => True) (SX := Unit) (fun (u_ : Unit) => eN) (fun (u_ : Unit) => ixS B v = none) (fun (u_ : Unit) => []) (fun (u_ : Unit) (H : Heap) => True) := by
  refine CX.of (by decide) (Nat.le_of_ble_eq_true rfl) ?_
  intro p e s m below meth c ls A H locs h9 hH0 hP hS hout
  obtain ⟨cf, hr, hlk, hnm, hKB, hE, -, hD, -, hA, hAw, ⟨hR0, hR1⟩, hl⟩ := h9
  have hx := cf.1
  have hb := cf.2.1
  have hml := cf.2.2.1
  have hown : s.vm.findClass RX2 = some m.cls := cf.2.2.2.1
  have hts := cf.2.2.2.2
  have hK := hKB.1
  have hl : lv_has ls 2 [(0, .ref b), (1, .int v)] := hl
  have iT := iv_tN hI
  have iN := iv_sN hI
  have iD := iv_bD hI
  have iId := iv_id hI
  have iE := iv_bE hI
  refine lv_aload_n hx hb dX2_session_0 rfl (lv_at hl 0 rfl) ?_
  refine va_get hx hb hts in_X2 hown hK (hR0.w hS) 0 rfl rfl 1 (by decide) (hts _ q137) (fun _ h => h) rfl dX2_session_1 ?_
  refine lv_aload_n hx hb dX2_session_4 rfl (lv_at hl 0 rfl) ?_
  refine lv_iload_n hx hb dX2_session_5 rfl (lv_at hl 1 rfl) ?_
  have hF := hF_of (wc := []) hD hS hA [] rfl
  have hro_1358 : va_P G.1 CL [(b, .inr (1, [.ref to, .ref so, .ref bo, .ref we, .ref tg, .int (nI (bD B)), .int (nI (bI9 B)), .int (oI (bP B)), .int (nI (bE B)), .int (nI kn), .ref lo, .ref fi, .ref fa])), (so, .inr (2, [.ref sa])), (sa, .inr (3, [.int sm, .ref se, .int (nI (sN B))])), (se, .inl (G.2 3, scap, .inr (.inr (.inr (.inr sf)))))] H := ((hR0.w hS).sub [0, 1, 2, 3] rfl)
  refine go_cx hS hP hD [] [] hF rfl rfl (by decide) (by decide)
      (vx_runV (As := [.int v]) (rest := [.ref so]) cf (mX2_placeOf l G b to so bo we tg lo fi fa kn B sa sm se scap sf gs Wi v (show Inv B from by first | assumption | omega) (show sN B ≤ scap ∧ scap ≤ 60 from by first | assumption | omega) (show ∀ j, j < sN B → sf j = some (gs j) ∧ SesIn G Wi (gs j) (sAt B j) from by first | assumption | omega) (show SrtS B from by first | assumption | omega) hfl H.size) (cwV 1 hts (lw_V q1138 q1139 q1140 q48 q1141) rfl rfl rfl (by decide +kernel) ⟨Nat.le_of_ble_eq_true rfl, Nat.le_of_ble_eq_true rfl⟩) (preV_of hKB hE hS hF (va_recv hK (hR0.w hS) (ci := 1) (q0 := 0) rfl rfl) (va_P.sub hP [] rfl) ((va_D.sub hD [] (by decide) rfl).weaken (fun _ _ _ _ => trivial)) ⟨(roW.nil hro_1358), (roW.nil (hR1.w hS))⟩) rfl rfl hl.1 rfl (lv_room (Nat.le_of_ble_eq_true rfl)) dX2_session_6 ⟨show 0 + 1 ≤ 1 from by first | decide | omega, show 0 + 6 ≤ 6 from by first | decide | omega⟩)
      (fun u_ H locs ce q9 hq hph (hP : va_P G.1 CL [] H) (hD : va_D A []) hS hfz hfk hce hcv hcl => ?_) (fun u_ H locs hq hph (hP : va_P G.1 CL [] H) (hD : va_D A []) hS hfz hfk => ?_)
  · have hq_1360 : ixS B v = none := hq
    have hP9 : va_P G.1 CL [] H := hP.sub [] rfl
    have hD9 : va_D A [] := hD.sub [] (by decide) rfl
    exact out_x hout hlk () (by rfl) (hq_1360) hP9 hD9 (trivial) hS hce hcv hcl (show 0 + 1 ≤ 1 from by first | exact Nat.le_refl _ | decide | omega) (show 0 + 6 ≤ 6 from by first | exact Nat.le_refl _ | decide | omega)
  · obtain ⟨k_1359, rfl⟩ : ∃ z, z = u_ := ⟨_, rfl⟩
    have hP : va_P G.1 CL [] H := hP
    have hD : va_D A [] := hD
    obtain ⟨hq_1361, hq_1362⟩ : ixS B v = some k_1359 ∧ k_1359 < sN B := hq
    refine W.eq (g2 := F0 m 9 ls [.int (nI k_1359), .ref so]) rfl ?_
    obtain ⟨hg9, mi9, it9, fm9, fi99, hm1, hm2, hm3, hfm9, hfi9⟩ := hSs k_1359 (by omega)
    have hRm_1363 : roW G A s.heap [((gs k_1359), .inr (9, [.int (nI (sDay (sAt B k_1359))), .int (nI (sId (sAt B k_1359))), .ref mi9, .ref it9]))] := hR1.mem (hm1)
    have hRm_1364 : roW G A s.heap [(mi9, .inl (G.2 1, (nP (sAt B k_1359)), .inl fm9))] := hR1.mem (hm2)
    have hRm_1365 : roW G A s.heap [(it9, .inl (G.2 1, (nP (sAt B k_1359)), .inl fi99))] := hR1.mem (hm3)
    have iX9 := iv_ses hI (k := k_1359) (by omega)
    have hF := hF_of (wc := []) hD hS hA [] rfl
    have hro_1366 : va_P G.1 CL [(so, .inr (2, [.ref sa])), (sa, .inr (3, [.int sm, .ref se, .int (nI (sN B))])), (se, .inl (G.2 3, scap, .inr (.inr (.inr (.inr sf)))))] H := ((hR0.w hS).sub [1, 2, 3] rfl)
    refine go_ct hS hP hD [] [] hF rfl rfl (by decide) (by decide)
        (va_runV (As := [.int (nI k_1359)]) (rest := []) cf (mX3_getS l G so sa sm se (sN B) scap sf k_1359 (gs k_1359) ([.int (nI (sDay (sAt B k_1359))), .int (nI (sId (sAt B k_1359))), .ref mi9, .ref it9]) Wi (hsc.1) (hsc.2) (by omega) (hg9) (hm1) H.size) (cwV 1 hts (lw_V q443 q444 q445 q49 q446) rfl rfl rfl (by decide +kernel) ⟨Nat.le_of_ble_eq_true rfl, Nat.le_of_ble_eq_true rfl⟩) (preV_of hKB hE hS hF (va_recv hK (hR0.w hS) (ci := 2) (q0 := 1) rfl rfl) (va_P.sub hP [] rfl) ((va_D.sub hD [] (by decide) rfl).weaken (fun _ _ _ _ => trivial)) ⟨(roW.nil hro_1366), (roW.nil (hR1.w hS))⟩) rfl rfl hl.1 rfl (lv_room (Nat.le_of_ble_eq_true rfl)) dX2_session_9 ⟨show 0 + 1 + 0 ≤ 1 from by first | decide | omega, show 0 + 6 + 0 ≤ 6 from by first | decide | omega⟩)
        (fun u_ H locs hq hph (hP : va_P G.1 CL [] H) (hD : va_D A []) hS hfz hfk => ?_)
    refine W.eq (g2 := F0 m 12 ls [.ref (gs k_1359)]) rfl ?_
    refine va_castS hx hb hown (hts _ q418) (hK.1 9 _ rfl).2 (va_recv hK (hRm_1363.w hS) (ci := 9) (q0 := 0) rfl rfl) dX2_session_12 ?_
    refine vx_ret ?_
    have hP9 : va_P G.1 CL [] H := hP.sub [] rfl
    have hD9 : va_D A [] := hD.sub [] (by decide) rfl
    exact end_a hx hb hr hlk (by first | exact Or.inl ⟨_, rfl⟩ | exact Or.inr ⟨_, rfl⟩) (Or.inr ⟨_, rfl⟩) (qc_of k_1359 (v := some (.ref (gs k_1359))) (by rfl) (⟨hq_1361, hq_1362⟩) hP9 hD9 (trivial) hS) hS dX2_session_15 (show 0 + 1 ≤ 1 from by first | exact Nat.le_refl _ | decide | omega) (show 0 + 6 ≤ 6 from by first | exact Nat.le_refl _ | decide | omega)

theorem psum_0 {g : Nat → Nat} {k : Nat} (h : psum g k = 0) : ∀ j, j < k → g j = 0 := by
  induction k with
  | zero => exact fun j hj => absurd hj (Nat.not_lt_zero _)
  | succ k ih =>
    rw [psum_s] at h
    intro j hj
    rcases Nat.lt_succ_iff_lt_or_eq.mp hj with e | e
    · exact ih (by omega) j e
    · rw [e]; omega
theorem psum_n0 {g : Nat → Nat} {k : Nat} (h : psum g k ≠ 0) : ∃ j, j < k ∧ g j ≠ 0 := by
  induction k with
  | zero => exact absurd rfl h
  | succ k ih =>
    rw [psum_s] at h
    by_cases e : g k = 0
    · obtain ⟨j, h1, h2⟩ := ih (by omega)
      exact ⟨j, by omega, h2⟩
    · exact ⟨k, by omega, e⟩
theorem zMin_z0 (B : Bk) (x : Sess) : zMin B x 0 = 0 := by
  unfold zMin
  rw [psum_congr (h := fun _ => 0) (fun j _ => if_neg (by have := zoneP_ok B x j; omega)), psum_zero]
theorem zDk_z0 (B : Bk) (d k : Nat) : zDk B d k 0 = 0 := by
  unfold zDk
  rw [psum_congr (h := fun _ => 0) (fun j _ => by split; exact zMin_z0 _ _; rfl), psum_zero]
/-- the greatest zone so far -/
def moW (Z : Nat → Nat) : Nat → Nat
  | 0 => 0
  | j + 1 => if Z (moW Z j) < Z (j + 1) then j + 1 else moW Z j
theorem moW_le (Z : Nat → Nat) : ∀ j, moW Z j ≤ j
  | 0 => Nat.le_refl _
  | j + 1 => by have := moW_le Z j; simp only [moW]; split <;> omega
theorem moW_0 {Z : Nat → Nat} (h0 : Z 0 = 0) : ∀ k, (∀ z, 1 ≤ z → z ≤ k → Z z = 0) → moW Z k = 0
  | 0, _ => rfl
  | k + 1, h => by
    have h1 := moW_0 h0 k (fun z a b => h z a (by omega))
    simp only [moW]
    rw [h1, h0, h (k + 1) (by omega) (Nat.le_refl _)]
    rfl
theorem moW_zb {Z : Nat → Nat} (h0 : Z 0 = 0) : ∀ k, (∃ z, 1 ≤ z ∧ z ≤ k + 1 ∧ Z z ≠ 0) → moW Z (k + 1) = zbW Z k
  | 0, h => by
    obtain ⟨z, h1, h2, h3⟩ := h
    have e : z = 1 := by omega
    subst e
    show (if Z 0 < Z 1 then 1 else 0) = 1
    rw [h0, if_pos (by omega)]
  | k + 1, h => by
    show (if Z (moW Z (k + 1)) < Z (k + 2) then k + 2 else moW Z (k + 1)) = (if Z (zbW Z k) < Z (k + 2) then k + 2 else zbW Z k)
    by_cases c : ∃ z, 1 ≤ z ∧ z ≤ k + 1 ∧ Z z ≠ 0
    · rw [moW_zb h0 k c]
    · have hz : ∀ z, 1 ≤ z → z ≤ k + 1 → Z z = 0 := fun z a b => Classical.byContradiction fun n => c ⟨z, a, b, n⟩
      obtain ⟨z, h1, h2, h3⟩ := h
      have e : z = k + 2 := by
        rcases Nat.lt_or_ge z (k + 2) with g | g
        · exact absurd (hz z h1 (by omega)) h3
        · omega
      subst e
      have hb := zbW_ok Z k
      rw [moW_0 h0 _ hz, h0, hz _ hb.1 hb.2, if_pos (by omega), if_pos (by omega)]
theorem aDk_0 {B : Bk} {d k : Nat} (h : aDk B d k = 0) (z : Nat) : zDk B d k z = 0 := by
  unfold zDk
  rw [psum_congr (h := fun _ => 0) (fun j hj => ?_), psum_zero]
  have h1 := psum_0 h j hj
  split
  · rename_i e
    rw [if_pos e] at h1
    unfold zMin
    rw [h1]
    rfl
  · rfl
theorem aDk_n0 {B : Bk} (hI : Inv B) {d k : Nat} (hk : k ≤ sN B) (h : aDk B d k ≠ 0) : ∃ z, 1 ≤ z ∧ z ≤ 5 ∧ zDk B d k z ≠ 0 := by
  obtain ⟨j, h1, h2⟩ := psum_n0 h
  by_cases e : sDay (sAt B j) = d
  · rw [if_pos e] at h2
    have hz := zoneP_ok B (sAt B j) 0
    have hp := ((iv_ses hI (k := j) (by omega)).2.2.2.2 0 (by omega)).1
    refine ⟨zoneP B (sAt B j) 0, hz.1, hz.2, fun h3 => ?_⟩
    have h4 := psum_0 h3 j h1
    rw [if_pos e] at h4
    have h5 := psum_0 h4 0 (by omega)
    rw [if_pos rfl] at h5
    omega
  · rw [if_neg e] at h2
    exact absurd rfl h2
theorem sign_mo {B : Bk} (hI : Inv B) {d : Nat} (h1 : ¬ bD B < d) (h2 : nDk B d (sN B) ≠ 0) : moW (zDk B d (sN B)) 5 + 48 = signS B d := by
  unfold signS
  rw [if_neg h1, if_neg h2]
  by_cases c : aDk B d (sN B) = 0
  · rw [if_pos c, moW_0 (zDk_z0 _ _ _) 5 (fun z _ _ => aDk_0 c z)]
  · rw [if_neg c, moW_zb (zDk_z0 _ _ _) 4 (by obtain ⟨z, a, b, e⟩ := aDk_n0 hI (Nat.le_refl _) c; exact ⟨z, a, by omega, e⟩), Nat.add_comm]
def zIn (B : Bk) (d i w z : Nat) : Nat := if z < w then zDk B d (i + 1) z else zDk B d i z
theorem zIn_1 (B : Bk) (d i z : Nat) : zIn B d i 1 z = zDk B d i z := by
  unfold zIn
  split
  · rw [show z = 0 by omega, zDk_z0, zDk_z0]
  · rfl
theorem zIn_s {B : Bk} {d i w : Nat} {g : Nat → Int32} (hd : sDay (sAt B i) = d) (h : ∀ z, z ≤ 5 → g z = nI (zIn B d i w z)) : ∀ z, z ≤ 5 → upd g w (nI (zDk B d i w + zMin B (sAt B i) w)) z = nI (zIn B d i (w + 1) z) := by
  intro z hz
  by_cases e : z = w
  · rw [e, pk_us]
    unfold zIn
    rw [if_pos (by omega)]
    unfold zDk
    rw [psum_s, if_pos hd]
  · rw [pk_un e, h z hz]
    unfold zIn
    by_cases q : z < w
    · rw [if_pos q, if_pos (by omega)]
    · rw [if_neg q, if_neg (by omega)]
theorem zDk_no {B : Bk} {d i : Nat} (hd : ¬ sDay (sAt B i) = d) (z : Nat) : zDk B d (i + 1) z = zDk B d i z := by
  show psum _ (i + 1) = _
  rw [psum_s, if_neg hd]
  rfl
def nz (c : Nat) : Nat := if c = 0 then 0 else 1
theorem nz_ok (c : Nat) : (nz c = 0 ∧ c = 0) ∨ (nz c = 1 ∧ c ≠ 0) := by
  unfold nz
  by_cases h : c = 0
  · rw [if_pos h]; exact Or.inl ⟨rfl, h⟩
  · rw [if_neg h]; exact Or.inr ⟨rfl, h⟩
theorem nDk_yes {B : Bk} {d i : Nat} (h : sDay (sAt B i) = d) : nz (nDk B d (i + 1)) = 1 := by
  unfold nDk
  rw [psum_s, if_pos h]
  unfold nz
  rw [if_neg (by omega)]
theorem nDk_no {B : Bk} {d i : Nat} (h : ¬ sDay (sAt B i) = d) : nDk B d (i + 1) = nDk B d i := by
  show psum _ (i + 1) = _
  rw [psum_s, if_neg h]
  rfl

set_option maxHeartbeats 4000000 in
theorem mX2_sign (l : Launch) (G : Gt) (b : Nat) (to : Nat) (so : Nat) (bo : Nat) (we : Nat) (tg : Nat) (lo : Nat) (fi : Nat) (fa : Nat) (kn : Nat) (B : Bk) (ta : Nat) (tm : Int32) (te : Nat) (tcap : Nat) (tf : Nat → Option Nat) (ga : Nat → Nat) (sa : Nat) (sm : Int32) (se : Nat) (scap : Nat) (sf : Nat → Option Nat) (gs : Nat → Nat) (Wi : va_W) (fb : Nat → Int32) (d : Nat) (hI : Inv B) (htc : tN B ≤ tcap ∧ tcap ≤ 60) (hT : ∀ j, j < tN B → tf j = some (ga j) ∧ TestIn Wi (ga j) (tDay B j) (tThr B j)) (hso : SrtT B) (hfb : ∀ z, 2 ≤ z → z ≤ 5 → fb z = nI (bB B z)) (hsc : sN B ≤ scap ∧ scap ≤ 60) (hSs : ∀ j, j < sN B → sf j = some (gs j) ∧ SesIn G Wi (gs j) (sAt B j)) (hss : SrtS B) (hd : d < 2 ^ 31) : CT l G yX2_sign cX2_sign 7 (some .char) ({ frames := 9, cells := 202, slots := 408, locals := 188 } : Room) [.ref b, .int (nI d)] [] (fun (A : Nat → Prop) (H : Heap) => roW G A H [(b, .inr (1, [.ref to, .ref so, .ref bo, .ref we, .ref tg, .int (nI (bD B)), .int (nI (bI9 B)), .int (oI (bP B)), .int (nI (bE B)), .int (nI kn), .ref lo, .ref fi, .ref fa])), (to, .inr (2, [.ref ta])), (ta, .inr (3, [.int tm, .ref te, .int (nI (tN B))])), (te, .inl (G.2 3, tcap, .inr (.inr (.inr (.inr tf))))), (so, .inr (2, [.ref sa])), (sa, .inr (3, [.int sm, .ref se, .int (nI (sN B))])), (se, .inl (G.2 3, scap, .inr (.inr (.inr (.inr sf))))), (bo, .inl (G.2 0, 6, .inl fb))] ∧ roW G A H Wi) (S := Unit) (fun (u_ : Unit) => some (.int (nI (signS B d)))) (fun (u_ : Unit) => True) (fun (u_ : Unit) => []) (fun (u_ : Unit) (H : Heap) => True) := by
  refine CT.of (by decide) (Nat.le_of_ble_eq_true rfl) ?_
  intro p e s m below meth c ls A H locs h9 hH0 hP hS
  obtain ⟨cf, hr, hlk, hnm, hKB, hE, -, hD, -, hA, hAw, ⟨hR0, hR1⟩, hl⟩ := h9
  have hx := cf.1
  have hb := cf.2.1
  have hml := cf.2.2.1
  have hown : s.vm.findClass RX2 = some m.cls := cf.2.2.2.1
  have hts := cf.2.2.2.2
  have hK := hKB.1
  have hl : lv_has ls 7 [(0, .ref b), (1, .int (nI d))] := hl
  have iT := iv_tN hI
  have iN := iv_sN hI
  have iD := iv_bD hI
  have iId := iv_id hI
  have iE := iv_bE hI
  refine lv_iload_n hx hb dX2_sign_0 rfl (lv_at hl 1 rfl) ?_
  refine lv_aload_n hx hb dX2_sign_1 rfl (lv_at hl 0 rfl) ?_
  refine va_get hx hb hts in_X2 hown hK (hR0.w hS) 0 rfl rfl 5 (by decide) (hts _ q147) (fun _ h => h) rfl dX2_sign_2 ?_
  refine n_icmp_le (tgt := 11) hx hb (by omega) (by omega) dX2_sign_5 (by decide) (fun c_1368 => ?_) (fun c_1368 => ?_)
  · refine lv_bipush (v := nI 6) hx hb dX2_sign_11 (by decide) ?_
    refine r_newa_C (n := 6) hx hb (hts _ q1533) hKB hP hD hS hA (by omega) (show 0 + 1 ≤ 202 from by first | decide | omega) (show 0 + 6 ≤ 408 from by first | decide | omega) dX2_sign_13 (fun a_1369 H (hP : va_P G.1 CL [(a_1369, .inl (G.2 2, 6, .inl (fun _ => 0)))] H) (hD : va_D A [(a_1369, .inl (G.2 2, 6, .inl (fun _ => 0)))]) hS => ?_)
    refine lv_astore_n (lv' := [(2, .ref a_1369), (0, .ref b), (1, .int (nI d))]) hx hb dX2_sign_15 rfl hl (by decide) rfl (fun ls hl => ?_)
    refine lv_iconst (v := nI 0) hx hb dX2_sign_16 (by decide) ?_
    refine lv_istore_n (lv' := [(3, .int (nI 0)), (2, .ref a_1369), (0, .ref b), (1, .int (nI d))]) hx hb dX2_sign_17 rfl hl (by decide) rfl (fun ls hl => ?_)
    refine lv_aload_n hx hb dX2_sign_18 rfl (lv_at hl 2 rfl) ?_
    refine va_get hx hb hts in_X2 hown hK (hR0.w hS) 0 rfl rfl 1 (by decide) (hts _ q137) (fun _ h => h) rfl dX2_sign_19 ?_
    have hF := hF_of (wc := []) hD hS hA [] rfl
    refine go_ct hS hP hD [] [0] hF rfl rfl (by decide) (by decide)
        (va_runV (As := []) (rest := []) cf (mX3_iterator l G so  H.size) (cwV 0 hts (lw_V q287 q288 q289 q49 q290) rfl rfl rfl (by decide +kernel) ⟨Nat.le_of_ble_eq_true rfl, Nat.le_of_ble_eq_true rfl⟩) (preV_of hKB hE hS hF (va_recv hK (hR0.w hS) (ci := 2) (q0 := 4) rfl rfl) (va_P.sub hP [] rfl) ((va_D.sub hD [] (by decide) rfl).weaken (fun _ _ _ _ => trivial)) trivial) rfl rfl hl.1 rfl (lv_room (Nat.le_of_ble_eq_true rfl)) dX2_sign_22 ⟨show 0 + 1 + 1 ≤ 202 from by first | decide | omega, show 0 + 6 + 2 ≤ 408 from by first | decide | omega⟩)
        (fun u_ H locs hq hph (hP : va_P G.1 CL [(a_1369, .inl (G.2 2, 6, .inl (fun _ => 0))), (u_, .inr (7, [.int (nI 0), .ref so]))] H) (hD : va_D A [(a_1369, .inl (G.2 2, 6, .inl (fun _ => 0))), (u_, .inr (7, [.int (nI 0), .ref so]))]) hS hfz hfk => ?_)
    obtain ⟨qw_1370, rfl⟩ : ∃ z, z = u_ := ⟨_, rfl⟩
    have hP : va_P G.1 CL [(a_1369, .inl (G.2 2, 6, .inl (fun _ => 0))), (qw_1370, .inr (7, [.int (nI 0), .ref so]))] H := hP
    have hD : va_D A [(a_1369, .inl (G.2 2, 6, .inl (fun _ => 0))), (qw_1370, .inr (7, [.int (nI 0), .ref so]))] := hD
    refine W.eq (g2 := F0 m 25 ls [.ref qw_1370]) rfl ?_
    refine lv_astore (lv' := [(4, .ref qw_1370), (3, .int (nI 0)), (2, .ref a_1369), (0, .ref b), (1, .int (nI d))]) hx hb dX2_sign_25 hl (by decide) rfl (fun ls hl => ?_)
    have hl := lv_sub hl [3, 4, 2, 1, 0] (l' := [(0, .ref b), (1, .int (nI d)), (2, .ref a_1369), (3, .int (nI (nz (nDk B d 0)))), (4, .ref qw_1370)]) rfl
    refine lp_W (σ := Nat × (Nat → Int32)) (hpc := 27) (fun x => sN B - x.1) (fun x => 2 + 5 * x.1) (fun x => 8 + 10 * x.1) (fun x H locs ls => va_P G.1 CL [(a_1369, .inl (G.2 2, 6, .inl x.2)), (qw_1370, .inr (7, [.int (nI x.1), .ref so]))] H ∧ va_D A [(a_1369, .inl (G.2 2, 6, .inl x.2)), (qw_1370, .inr (7, [.int (nI x.1), .ref so]))] ∧ va_S A s.heap H locs ∧ lv_has ls 7 [(0, .ref b), (1, .int (nI d)), (2, .ref a_1369), (3, .int (nI (nz (nDk B d x.1)))), (4, .ref qw_1370)] ∧ (x.1 ≤ sN B) ∧ (∀ z, z ≤ 5 → x.2 z = nI (zDk B d x.1 z))) ?_ (0, (fun _ => 0)) ⟨(show va_P G.1 CL [(a_1369, .inl (G.2 2, 6, .inl (fun _ => 0))), (qw_1370, .inr (7, [.int (nI 0), .ref so]))] H from hP), (show va_D A [(a_1369, .inl (G.2 2, 6, .inl (fun _ => 0))), (qw_1370, .inr (7, [.int (nI 0), .ref so]))] from hD), hS, hl, (show 0 ≤ sN B from by omega), (show ∀ z, z ≤ 5 → (fun _ => 0) z = nI (zDk B d 0 z) from fun z _ => rfl)⟩ (show 0 + 1 + 1 ≤ 2 + 5 * 0 from by first | exact Nat.le_refl _ | omega) (show 0 + 6 + 2 ≤ 8 + 10 * 0 from by first | exact Nat.le_refl _ | omega)
    intro x H locs ls hI9 ih27
    obtain ⟨i_1373, g_1374⟩ := x
    obtain ⟨hP, hD, hS, hl, hp_1371, hp_1372⟩ := hI9
    have hP : va_P G.1 CL [(a_1369, .inl (G.2 2, 6, .inl g_1374)), (qw_1370, .inr (7, [.int (nI i_1373), .ref so]))] H := hP
    have hD : va_D A [(a_1369, .inl (G.2 2, 6, .inl g_1374)), (qw_1370, .inr (7, [.int (nI i_1373), .ref so]))] := hD
    have hl : lv_has ls 7 [(0, .ref b), (1, .int (nI d)), (2, .ref a_1369), (3, .int (nI (nz (nDk B d i_1373)))), (4, .ref qw_1370)] := hl
    have hp_1371 : i_1373 ≤ sN B := hp_1371
    have hp_1372 : ∀ z, z ≤ 5 → g_1374 z = nI (zDk B d i_1373 z) := hp_1372
    refine W.widen (k := 2 + 5 * i_1373) (n := 8 + 10 * i_1373) (Nat.le_refl _) (Nat.le_refl _) ?_
    have iNz := nz_ok (nDk B d i_1373)
    refine lv_aload hx hb dX2_sign_27 (lv_at hl 4 rfl) ?_
    have hF := hF_of (wc := []) hD hS hA [] rfl
    have hro_1375 : va_P G.1 CL [(qw_1370, .inr (7, [.int (nI i_1373), .ref so])), (so, .inr (2, [.ref sa])), (sa, .inr (3, [.int sm, .ref se, .int (nI (sN B))])), (se, .inl (G.2 3, scap, .inr (.inr (.inr (.inr sf)))))] H := ((va_P.sub hP [1] rfl).app ((hR0.w hS).sub [4, 5, 6] rfl))
    refine go_ct5 hS hP hD [] [0, 1] hF rfl rfl (by decide) (by decide)
        (va_runF (hK.1 7 _ rfl).2 (As := []) (rest := []) cf (mX5_hasNext l G qw_1370 i_1373 so sa sm se (sN B) scap sf (hsc.1) (hsc.2) (show i_1373 ≤ (sN B) from by first | assumption | omega) H.size) (va_cwF 0 hts (lw_F q305 q309 q311 q59 q313) rfl rfl rfl hKB.2.2.2.1 (by decide +kernel) ⟨Nat.le_of_ble_eq_true rfl, Nat.le_of_ble_eq_true rfl⟩) (preV_of hKB hE hS hF (va_recv hK hP (ci := 7) (q0 := 1) rfl rfl) (va_P.sub hP [] rfl) ((va_D.sub hD [] (by decide) rfl).weaken (fun _ _ _ _ => trivial)) (roW.nil hro_1375)) rfl rfl hl.1 rfl (lv_room (Nat.le_of_ble_eq_true rfl)) dX2_sign_29 ⟨show 2 + 5 * i_1373 + 0 ≤ 202 from by first | decide | omega, show 8 + 10 * i_1373 + 0 ≤ 408 from by first | decide | omega⟩)
        (fun u_ H locs hq hph (hP : va_P G.1 CL [(a_1369, .inl (G.2 2, 6, .inl g_1374)), (qw_1370, .inr (7, [.int (nI i_1373), .ref so]))] H) (hD : va_D A [(a_1369, .inl (G.2 2, 6, .inl g_1374)), (qw_1370, .inr (7, [.int (nI i_1373), .ref so]))]) hS hfz hfk => ?_)
    obtain ⟨b_1376, rfl⟩ : ∃ z, z = u_ := ⟨_, rfl⟩
    have hP : va_P G.1 CL [(a_1369, .inl (G.2 2, 6, .inl g_1374)), (qw_1370, .inr (7, [.int (nI i_1373), .ref so]))] H := hP
    have hD : va_D A [(a_1369, .inl (G.2 2, 6, .inl g_1374)), (qw_1370, .inr (7, [.int (nI i_1373), .ref so]))] := hD
    have hq_1377 : (b_1376 = true ↔ i_1373 < (sN B)) := hq
    refine W.eq (g2 := F0 m 34 ls [.int (bI b_1376)]) rfl ?_
    have hnb := hq_1377
    cases b_1376
    · refine lv_ton (n := 0) rfl ?_
      have hge9 : ¬ (i_1373 < (sN B)) := fun z => absurd (hnb.mpr z) (by decide)
      refine n_if_eq (tgt := 94) hx hb (by omega) dX2_sign_34 (by decide) (fun c_1378 => ?_) (fun c_1378 => absurd c_1378 (by omega))
      have hk9 : i_1373 = sN B := by omega
      have hgz : ∀ z, z ≤ 5 → g_1374 z = nI (zDk B d (sN B) z) := by rw [← hk9]; exact hp_1372
      have hl := lv_sub hl [0, 1, 2, 3] (l' := [(0, .ref b), (1, .int (nI d)), (2, .ref a_1369), (3, .int (nI (nz (nDk B d i_1373))))]) rfl
      have hl : lv_has ls 7 [(0, .ref b), (1, .int (nI d)), (2, .ref a_1369), (3, .int (nI (nz (nDk B d (sN B)))))] := by rw [← hk9]; exact hl
      have hz7 : ∀ z, zDk B d (sN B) z ≤ 240 * sN B := fun z => zDk_le hI d z (Nat.le_refl _)
      have iNz9 := nz_ok (nDk B d (sN B))
      refine lv_iconst (v := nI 0) hx hb dX2_sign_94 (by decide) ?_
      refine lv_istore (lv' := [(4, .int (nI 0)), (0, .ref b), (1, .int (nI d)), (2, .ref a_1369), (3, .int (nI (nz (nDk B d (sN B)))))]) hx hb dX2_sign_95 hl (by decide) rfl (fun ls hl => ?_)
      refine lv_iconst (v := nI 1) hx hb dX2_sign_97 (by decide) ?_
      refine lv_istore (lv' := [(5, .int (nI 1)), (4, .int (nI 0)), (0, .ref b), (1, .int (nI d)), (2, .ref a_1369), (3, .int (nI (nz (nDk B d (sN B)))))]) hx hb dX2_sign_98 hl (by decide) rfl (fun ls hl => ?_)
      have hl := lv_sub hl [2, 3, 4, 5, 1, 0] (l' := [(0, .ref b), (1, .int (nI d)), (2, .ref a_1369), (3, .int (nI (nz (nDk B d (sN B))))), (4, .int (nI (moW (zDk B d (sN B)) 0))), (5, .int (nI 1))]) rfl
      refine lp_W (σ := Nat) (hpc := 100) (fun x => 5 - x) (fun x => 202) (fun x => 408) (fun x H locs ls => va_P G.1 CL [(a_1369, .inl (G.2 2, 6, .inl g_1374)), (qw_1370, .inr (7, [.int (nI i_1373), .ref so]))] H ∧ va_D A [(a_1369, .inl (G.2 2, 6, .inl g_1374)), (qw_1370, .inr (7, [.int (nI i_1373), .ref so]))] ∧ va_S A s.heap H locs ∧ lv_has ls 7 [(0, .ref b), (1, .int (nI d)), (2, .ref a_1369), (3, .int (nI (nz (nDk B d (sN B))))), (4, .int (nI (moW (zDk B d (sN B)) x))), (5, .int (nI (x + 1)))] ∧ (x ≤ 5)) ?_ (0) ⟨(show va_P G.1 CL [(a_1369, .inl (G.2 2, 6, .inl g_1374)), (qw_1370, .inr (7, [.int (nI i_1373), .ref so]))] H from hP), (show va_D A [(a_1369, .inl (G.2 2, 6, .inl g_1374)), (qw_1370, .inr (7, [.int (nI i_1373), .ref so]))] from hD), hS, hl, (show 0 ≤ 5 from by omega)⟩ (show 2 + 5 * i_1373 ≤ 202 from by first | exact Nat.le_refl _ | omega) (show 8 + 10 * i_1373 ≤ 408 from by first | exact Nat.le_refl _ | omega)
      intro x H locs ls hI9 ih100
      obtain ⟨j_1380, rfl⟩ : ∃ z, z = x := ⟨_, rfl⟩
      obtain ⟨hP, hD, hS, hl, hp_1379⟩ := hI9
      have hP : va_P G.1 CL [(a_1369, .inl (G.2 2, 6, .inl g_1374)), (qw_1370, .inr (7, [.int (nI i_1373), .ref so]))] H := hP
      have hD : va_D A [(a_1369, .inl (G.2 2, 6, .inl g_1374)), (qw_1370, .inr (7, [.int (nI i_1373), .ref so]))] := hD
      have hl : lv_has ls 7 [(0, .ref b), (1, .int (nI d)), (2, .ref a_1369), (3, .int (nI (nz (nDk B d (sN B))))), (4, .int (nI (moW (zDk B d (sN B)) j_1380))), (5, .int (nI (j_1380 + 1)))] := hl
      have hp_1379 : j_1380 ≤ 5 := hp_1379
      refine W.widen (k := 202) (n := 408) (Nat.le_refl _) (Nat.le_refl _) ?_
      have hb9 := moW_le (zDk B d (sN B)) j_1380
      have hz6 := hz7 (j_1380 + 1)
      have hz5 := hz7 (moW (zDk B d (sN B)) j_1380)
      refine lv_iload hx hb dX2_sign_100 (lv_at hl 5 rfl) ?_
      refine lv_iconst (v := nI 5) hx hb dX2_sign_102 (by decide) ?_
      refine n_icmp_gt (tgt := 132) hx hb (by omega) (by omega) dX2_sign_103 (by decide) (fun c_1382 => ?_) (fun c_1382 => ?_)
      · have hj9 : j_1380 = 5 := by omega
        have hl := lv_sub hl [0, 1, 2, 3, 4] (l' := [(0, .ref b), (1, .int (nI d)), (2, .ref a_1369), (3, .int (nI (nz (nDk B d (sN B))))), (4, .int (nI (moW (zDk B d (sN B)) j_1380)))]) rfl
        have hl : lv_has ls 7 [(0, .ref b), (1, .int (nI d)), (2, .ref a_1369), (3, .int (nI (nz (nDk B d (sN B))))), (4, .int (nI (moW (zDk B d (sN B)) 5)))] := by rw [hj9] at hl; exact hl
        have hb8 := moW_le (zDk B d (sN B)) 5
        refine lv_iload_n hx hb dX2_sign_132 rfl (lv_at hl 3 rfl) ?_
        refine n_if_eq (tgt := 145) hx hb (by omega) dX2_sign_133 (by decide) (fun c_1383 => ?_) (fun c_1383 => ?_)
        · refine lv_bipush (v := nI 46) hx hb dX2_sign_145 (by decide) ?_
          refine lv_ton (n := (signS B d)) (congrArg nI (by unfold signS; rw [if_neg (by omega), if_pos (by omega)])) ?_
          have hs8 := signS_lt B d
          have hP9 : va_P G.1 CL [] H := hP.sub [] rfl
          have hD9 : va_D A [] := hD.sub [] (by decide) rfl
          exact end_i hx hb hr hlk (nar_cv (by omega)) (qc_of () (v := some (.int (nI (signS B d)))) (by rfl) (trivial) hP9 hD9 (trivial) hS) hS dX2_sign_147 (show 202 ≤ 202 from by first | exact Nat.le_refl _ | decide | omega) (show 408 ≤ 408 from by first | exact Nat.le_refl _ | decide | omega)
        · refine lv_bipush (v := nI 48) hx hb dX2_sign_136 (by decide) ?_
          refine lv_iload hx hb dX2_sign_138 (lv_at hl 4 rfl) ?_
          refine lv_iadd hx hb dX2_sign_140 ?_
          refine lv_ton (n := (moW (zDk B d (sN B)) 5) + 48) (nadd (by omega)) ?_
          refine lv_i2c (v := nI ((moW (zDk B d (sN B)) 5) + 48)) hx hb dX2_sign_141 (n2c (by omega)) ?_
          refine lv_goto (tgt := 147) hx hb dX2_sign_142 (by decide) ?_
          refine lv_ton (n := (signS B d)) (congrArg nI (sign_mo hI (by omega) (by omega))) ?_
          have hs8 := signS_lt B d
          have hP9 : va_P G.1 CL [] H := hP.sub [] rfl
          have hD9 : va_D A [] := hD.sub [] (by decide) rfl
          exact end_i hx hb hr hlk (nar_cv (by omega)) (qc_of () (v := some (.int (nI (signS B d)))) (by rfl) (trivial) hP9 hD9 (trivial) hS) hS dX2_sign_147 (show 202 ≤ 202 from by first | exact Nat.le_refl _ | decide | omega) (show 408 ≤ 408 from by first | exact Nat.le_refl _ | decide | omega)
      · refine lv_aload_n hx hb dX2_sign_106 rfl (lv_at hl 2 rfl) ?_
        refine lv_iload hx hb dX2_sign_107 (lv_at hl 5 rfl) ?_
        refine r_cald (v := nI (zDk B d (sN B) (j_1380 + 1))) hx hb hK hP 0 2 rfl rfl (i := j_1380 + 1) (by omega) (by omega) (hgz _ (by omega)) dX2_sign_109 ?_
        refine lv_aload_n hx hb dX2_sign_110 rfl (lv_at hl 2 rfl) ?_
        refine lv_iload hx hb dX2_sign_111 (lv_at hl 4 rfl) ?_
        refine r_cald (v := nI (zDk B d (sN B) ((moW (zDk B d (sN B)) j_1380)))) hx hb hK hP 0 2 rfl rfl (i := (moW (zDk B d (sN B)) j_1380)) (by omega) (by omega) (hgz _ (by omega)) dX2_sign_113 ?_
        refine n_icmp_le (tgt := 122) hx hb (by omega) (by omega) dX2_sign_114 (by decide) (fun c_1385 => ?_) (fun c_1385 => ?_)
        · refine lv_iload hx hb dX2_sign_122 (lv_at hl 4 rfl) ?_
          refine lv_ton (n := (moW (zDk B d (sN B)) (j_1380 + 1))) (congrArg nI (by simp only [moW]; first | rw [if_pos (by omega)] | rw [if_neg (by omega)])) ?_
          refine lv_istore (lv' := [(4, .int (nI (moW (zDk B d (sN B)) (j_1380 + 1)))), (0, .ref b), (1, .int (nI d)), (2, .ref a_1369), (3, .int (nI (nz (nDk B d (sN B))))), (5, .int (nI (j_1380 + 1)))]) hx hb dX2_sign_124 hl (by decide) rfl (fun ls hl => ?_)
          refine lv_iinc (v := nI (j_1380 + 2)) (lv' := [(5, .int (nI (j_1380 + 2))), (4, .int (nI (moW (zDk B d (sN B)) (j_1380 + 1)))), (0, .ref b), (1, .int (nI d)), (2, .ref a_1369), (3, .int (nI (nz (nDk B d (sN B)))))]) hx hb dX2_sign_126 hl (k := 5) rfl (ninc (b := 1) (by decide) (by omega)) (by decide) rfl (fun ls hl => ?_)
          refine lv_goto (tgt := 100) hx hb dX2_sign_129 (by decide) ?_
          have hP : va_P G.1 CL [(a_1369, .inl (G.2 2, 6, .inl g_1374)), (qw_1370, .inr (7, [.int (nI i_1373), .ref so]))] H := hP.sub [0, 1] rfl
          have hD : va_D A [(a_1369, .inl (G.2 2, 6, .inl g_1374)), (qw_1370, .inr (7, [.int (nI i_1373), .ref so]))] := hD.sub [0, 1] (by decide) rfl
          have hl := lv_sub hl [2, 3, 4, 5, 1, 0] (l' := [(0, .ref b), (1, .int (nI d)), (2, .ref a_1369), (3, .int (nI (nz (nDk B d (sN B))))), (4, .int (nI (moW (zDk B d (sN B)) (j_1380 + 1)))), (5, .int (nI (j_1380 + 2)))]) rfl
          exact W.widen (show 202 ≤ 202 from by first | exact Nat.le_refl _ | omega) (show 408 ≤ 408 from by first | exact Nat.le_refl _ | omega) (ih100 ((j_1380 + 1)) H locs ls ⟨hP, hD, hS, hl, (show (j_1380 + 1) ≤ 5 from by omega)⟩ (show 5 - (j_1380 + 1) < 5 - j_1380 from by omega))
        · refine lv_iload hx hb dX2_sign_117 (lv_at hl 5 rfl) ?_
          refine lv_goto (tgt := 124) hx hb dX2_sign_119 (by decide) ?_
          refine lv_ton (n := (moW (zDk B d (sN B)) (j_1380 + 1))) (congrArg nI (by simp only [moW]; first | rw [if_pos (by omega)] | rw [if_neg (by omega)])) ?_
          refine lv_istore (lv' := [(4, .int (nI (moW (zDk B d (sN B)) (j_1380 + 1)))), (0, .ref b), (1, .int (nI d)), (2, .ref a_1369), (3, .int (nI (nz (nDk B d (sN B))))), (5, .int (nI (j_1380 + 1)))]) hx hb dX2_sign_124 hl (by decide) rfl (fun ls hl => ?_)
          refine lv_iinc (v := nI (j_1380 + 2)) (lv' := [(5, .int (nI (j_1380 + 2))), (4, .int (nI (moW (zDk B d (sN B)) (j_1380 + 1)))), (0, .ref b), (1, .int (nI d)), (2, .ref a_1369), (3, .int (nI (nz (nDk B d (sN B)))))]) hx hb dX2_sign_126 hl (k := 5) rfl (ninc (b := 1) (by decide) (by omega)) (by decide) rfl (fun ls hl => ?_)
          refine lv_goto (tgt := 100) hx hb dX2_sign_129 (by decide) ?_
          have hP : va_P G.1 CL [(a_1369, .inl (G.2 2, 6, .inl g_1374)), (qw_1370, .inr (7, [.int (nI i_1373), .ref so]))] H := hP.sub [0, 1] rfl
          have hD : va_D A [(a_1369, .inl (G.2 2, 6, .inl g_1374)), (qw_1370, .inr (7, [.int (nI i_1373), .ref so]))] := hD.sub [0, 1] (by decide) rfl
          have hl := lv_sub hl [2, 3, 4, 5, 1, 0] (l' := [(0, .ref b), (1, .int (nI d)), (2, .ref a_1369), (3, .int (nI (nz (nDk B d (sN B))))), (4, .int (nI (moW (zDk B d (sN B)) (j_1380 + 1)))), (5, .int (nI (j_1380 + 2)))]) rfl
          exact W.widen (show 202 ≤ 202 from by first | exact Nat.le_refl _ | omega) (show 408 ≤ 408 from by first | exact Nat.le_refl _ | omega) (ih100 ((j_1380 + 1)) H locs ls ⟨hP, hD, hS, hl, (show (j_1380 + 1) ≤ 5 from by omega)⟩ (show 5 - (j_1380 + 1) < 5 - j_1380 from by omega))
    · refine lv_ton (n := 1) rfl ?_
      have hlt9 := hnb.mp rfl
      refine n_if_eq (tgt := 94) hx hb (by omega) dX2_sign_34 (by decide) (fun c_1386 => absurd c_1386 (by omega)) (fun c_1386 => ?_)
      refine lv_aload hx hb dX2_sign_37 (lv_at hl 4 rfl) ?_
      obtain ⟨hg9, mi9, it9, fm9, fi99, hm1, hm2, hm3, hfm9, hfi9⟩ := hSs i_1373 (by omega)
      have hRm_1387 : roW G A s.heap [((gs i_1373), .inr (9, [.int (nI (sDay (sAt B i_1373))), .int (nI (sId (sAt B i_1373))), .ref mi9, .ref it9]))] := hR1.mem (hm1)
      have hRm_1388 : roW G A s.heap [(mi9, .inl (G.2 1, (nP (sAt B i_1373)), .inl fm9))] := hR1.mem (hm2)
      have hRm_1389 : roW G A s.heap [(it9, .inl (G.2 1, (nP (sAt B i_1373)), .inl fi99))] := hR1.mem (hm3)
      have iX9 := iv_ses hI (k := i_1373) (by omega)
      have iXd := iX9.2.1
      have iXz : ∀ z, zDk B d i_1373 z ≤ 240 * i_1373 := fun z => zDk_le hI d z (by omega)
      have iXm : ∀ z, zMin B (sAt B i_1373) z ≤ 240 := fun z => Nat.le_trans (zMin_le B (sAt B i_1373) z (Nat.le_refl _)) iX9.2.2.2.1
      have hF := hF_of (wc := [(qw_1370, .inr (7, [.int (nI i_1373), .ref so]))]) hD hS hA [1] rfl
      have hro_1390 : roW G (va_A [(qw_1370, .inr (7, [.int (nI i_1373), .ref so]))] H.size) H [(so, .inr (2, [.ref sa])), (sa, .inr (3, [.int sm, .ref se, .int (nI (sN B))])), (se, .inl (G.2 3, scap, .inr (.inr (.inr (.inr sf)))))] := ((hR0.kp hF hS.2.1).sub (ws' := [(so, .inr (2, [.ref sa])), (sa, .inr (3, [.int sm, .ref se, .int (nI (sN B))])), (se, .inl (G.2 3, scap, .inr (.inr (.inr (.inr sf)))))]) [4, 5, 6] rfl)
      refine go_ct5 hS hP hD [1] [0] hF rfl rfl (by decide) (by decide)
          (va_runF (hK.1 7 _ rfl).2 (As := []) (rest := []) cf (mX5_nextS l G qw_1370 i_1373 so sa sm se (sN B) scap sf (gs i_1373) ([.int (nI (sDay (sAt B i_1373))), .int (nI (sId (sAt B i_1373))), .ref mi9, .ref it9]) Wi (hsc.1) (hsc.2) (show i_1373 < (sN B) from by first | assumption | omega) (hg9) (hm1) H.size) (va_cwF 0 hts (lw_F q316 q319 q321 q59 q323) rfl rfl rfl hKB.2.2.2.2.1 (by decide +kernel) ⟨Nat.le_of_ble_eq_true rfl, Nat.le_of_ble_eq_true rfl⟩) (preV_of hKB hE hS hF (va_recv hK hP (ci := 7) (q0 := 1) rfl rfl) (va_P.sub hP [1] rfl) ((va_D.sub hD [1] (by decide) rfl).weaken (fun _ _ _ _ => trivial)) ⟨hro_1390, (hR1.kp hF hS.2.1)⟩) rfl rfl hl.1 rfl (lv_room (Nat.le_of_ble_eq_true rfl)) dX2_sign_39 ⟨show 2 + 5 * i_1373 + 0 ≤ 202 from by first | decide | omega, show 8 + 10 * i_1373 + 0 ≤ 408 from by first | decide | omega⟩)
          (fun u_ H locs hq hph (hP : va_P G.1 CL [(a_1369, .inl (G.2 2, 6, .inl g_1374)), (qw_1370, .inr (7, [.int (nI (i_1373 + 1)), .ref so]))] H) (hD : va_D A [(a_1369, .inl (G.2 2, 6, .inl g_1374)), (qw_1370, .inr (7, [.int (nI (i_1373 + 1)), .ref so]))]) hS hfz hfk => ?_)
      refine W.eq (g2 := F0 m 44 ls [.ref (gs i_1373)]) rfl ?_
      refine va_castS hx hb hown (hts _ q418) (hK.1 9 _ rfl).2 (va_recv hK (hRm_1387.w hS) (ci := 9) (q0 := 0) rfl rfl) dX2_sign_44 ?_
      refine lv_astore (lv' := [(5, .ref (gs i_1373)), (0, .ref b), (1, .int (nI d)), (2, .ref a_1369), (3, .int (nI (nz (nDk B d i_1373)))), (4, .ref qw_1370)]) hx hb dX2_sign_47 hl (by decide) rfl (fun ls hl => ?_)
      refine lv_aload hx hb dX2_sign_49 (lv_at hl 0 rfl) ?_
      have hF := hF_of (wc := []) hD hS hA [] rfl
      have hro_1391 : va_P G.1 CL [(gs i_1373, .inr (9, [.int (nI (sDay (sAt B i_1373))), .int (nI (sId (sAt B i_1373))), .ref mi9, .ref it9]))] H := ((hRm_1387.w hS).sub [0] rfl)
      refine go_ct hS hP hD [] [0, 1] hF rfl rfl (by decide) (by decide)
          (va_runU (As := []) (rest := []) cf (mX6_dayS l G (gs i_1373) (sDay (sAt B i_1373)) (sId (sAt B i_1373)) mi9 it9  H.size) (va_cwU (owner := "TrainingDiary$Dated") 0 hts (lw_U q419 q420 q422 q423 q72 q424) rfl rfl rfl rfl (by decide +kernel) ⟨Nat.le_of_ble_eq_true rfl, Nat.le_of_ble_eq_true rfl⟩) (preV_of hKB hE hS hF (va_recv hK (hRm_1387.w hS) (ci := 9) (q0 := 0) rfl rfl) (va_P.sub hP [] rfl) ((va_D.sub hD [] (by decide) rfl).weaken (fun _ _ _ _ => trivial)) (roW.nil hro_1391)) rfl rfl hl.1 rfl (lv_room (Nat.le_of_ble_eq_true rfl)) dX2_sign_51 ⟨show 2 + 5 * i_1373 + 0 ≤ 202 from by first | decide | omega, show 8 + 10 * i_1373 + 0 ≤ 408 from by first | decide | omega⟩)
          (fun u_ H locs hq hph (hP : va_P G.1 CL [(a_1369, .inl (G.2 2, 6, .inl g_1374)), (qw_1370, .inr (7, [.int (nI (i_1373 + 1)), .ref so]))] H) (hD : va_D A [(a_1369, .inl (G.2 2, 6, .inl g_1374)), (qw_1370, .inr (7, [.int (nI (i_1373 + 1)), .ref so]))]) hS hfz hfk => ?_)
      refine W.eq (g2 := F0 m 54 ls [.int (nI (sDay (sAt B i_1373)))]) rfl ?_
      refine lv_iload_n hx hb dX2_sign_54 rfl (lv_at hl 2 rfl) ?_
      refine n_icmp_ne (tgt := 91) hx hb (by omega) (by omega) dX2_sign_55 (by decide) (fun c_1393 => ?_) (fun c_1393 => ?_)
      · have hnn : nDk B d (i_1373 + 1) = nDk B d i_1373 := nDk_no (by omega)
        have hl : lv_has ls 7 [(5, .ref (gs i_1373)), (0, .ref b), (1, .int (nI d)), (2, .ref a_1369), (3, .int (nI (nz (nDk B d (i_1373 + 1))))), (4, .ref qw_1370)] := by
          have e9 : ((.int (nI (nz (nDk B d (i_1373 + 1))))) : Value) = .int (nI (nz (nDk B d i_1373))) := by rw [hnn]
          rw [e9]; exact hl
        refine lv_goto (tgt := 27) hx hb dX2_sign_91 (by decide) ?_
        have hP : va_P G.1 CL [(a_1369, .inl (G.2 2, 6, .inl g_1374)), (qw_1370, .inr (7, [.int (nI (i_1373 + 1)), .ref so]))] H := hP.sub [0, 1] rfl
        have hD : va_D A [(a_1369, .inl (G.2 2, 6, .inl g_1374)), (qw_1370, .inr (7, [.int (nI (i_1373 + 1)), .ref so]))] := hD.sub [0, 1] (by decide) rfl
        have hl := lv_sub hl [1, 2, 3, 4, 5] (l' := [(0, .ref b), (1, .int (nI d)), (2, .ref a_1369), (3, .int (nI (nz (nDk B d (i_1373 + 1))))), (4, .ref qw_1370)]) rfl
        exact W.widen (show 2 + 5 * i_1373 ≤ 2 + 5 * (i_1373 + 1) from by first | exact Nat.le_refl _ | omega) (show 8 + 10 * i_1373 ≤ 8 + 10 * (i_1373 + 1) from by first | exact Nat.le_refl _ | omega) (ih27 ((i_1373 + 1), g_1374) H locs ls ⟨hP, hD, hS, hl, (show (i_1373 + 1) ≤ sN B from by omega), (show ∀ z, z ≤ 5 → g_1374 z = nI (zDk B d (i_1373 + 1) z) from (fun z hz => (hp_1372 z hz).trans (congrArg nI (zDk_no (by omega) z).symm)))⟩ (show sN B - (i_1373 + 1) < sN B - i_1373 from by omega))
      · refine lv_iconst (v := nI 1) hx hb dX2_sign_58 (by decide) ?_
        refine lv_istore_n (lv' := [(3, .int (nI 1)), (5, .ref (gs i_1373)), (0, .ref b), (1, .int (nI d)), (2, .ref a_1369), (4, .ref qw_1370)]) hx hb dX2_sign_59 rfl hl (by decide) rfl (fun ls hl => ?_)
        refine lv_iconst (v := nI 1) hx hb dX2_sign_60 (by decide) ?_
        refine lv_istore (lv' := [(6, .int (nI 1)), (3, .int (nI 1)), (5, .ref (gs i_1373)), (0, .ref b), (1, .int (nI d)), (2, .ref a_1369), (4, .ref qw_1370)]) hx hb dX2_sign_61 hl (by decide) rfl (fun ls hl => ?_)
        have hl := lv_sub hl [3, 4, 5, 1, 6, 2, 0] (l' := [(0, .ref b), (1, .int (nI d)), (2, .ref a_1369), (3, .int (nI 1)), (4, .ref qw_1370), (5, .ref (gs i_1373)), (6, .int (nI 1))]) rfl
        refine lp_W (σ := Nat × (Nat → Int32)) (hpc := 63) (fun x => 6 - x.1) (fun x => 2 + 5 * i_1373 + (x.1 - 1)) (fun x => 8 + 10 * i_1373 + 2 * (x.1 - 1)) (fun x H locs ls => va_P G.1 CL [(a_1369, .inl (G.2 2, 6, .inl x.2)), (qw_1370, .inr (7, [.int (nI (i_1373 + 1)), .ref so]))] H ∧ va_D A [(a_1369, .inl (G.2 2, 6, .inl x.2)), (qw_1370, .inr (7, [.int (nI (i_1373 + 1)), .ref so]))] ∧ va_S A s.heap H locs ∧ lv_has ls 7 [(0, .ref b), (1, .int (nI d)), (2, .ref a_1369), (3, .int (nI 1)), (4, .ref qw_1370), (5, .ref (gs i_1373)), (6, .int (nI x.1))] ∧ (1 ≤ x.1 ∧ x.1 ≤ 6) ∧ (∀ z, z ≤ 5 → x.2 z = nI (zIn B d i_1373 x.1 z))) ?_ (1, g_1374) ⟨(show va_P G.1 CL [(a_1369, .inl (G.2 2, 6, .inl g_1374)), (qw_1370, .inr (7, [.int (nI (i_1373 + 1)), .ref so]))] H from hP), (show va_D A [(a_1369, .inl (G.2 2, 6, .inl g_1374)), (qw_1370, .inr (7, [.int (nI (i_1373 + 1)), .ref so]))] from hD), hS, hl, (show 1 ≤ 1 ∧ 1 ≤ 6 from by omega), (show ∀ z, z ≤ 5 → g_1374 z = nI (zIn B d i_1373 1 z) from fun z hz => (hp_1372 z hz).trans (congrArg nI (zIn_1 B d i_1373 z).symm))⟩ (show 2 + 5 * i_1373 ≤ 2 + 5 * i_1373 + (1 - 1) from by first | exact Nat.le_refl _ | omega) (show 8 + 10 * i_1373 ≤ 8 + 10 * i_1373 + 2 * (1 - 1) from by first | exact Nat.le_refl _ | omega)
        intro x H locs ls hI9 ih63
        obtain ⟨w_1396, g2_1397⟩ := x
        obtain ⟨hP, hD, hS, hl, hp_1394, hp_1395⟩ := hI9
        have hP : va_P G.1 CL [(a_1369, .inl (G.2 2, 6, .inl g2_1397)), (qw_1370, .inr (7, [.int (nI (i_1373 + 1)), .ref so]))] H := hP
        have hD : va_D A [(a_1369, .inl (G.2 2, 6, .inl g2_1397)), (qw_1370, .inr (7, [.int (nI (i_1373 + 1)), .ref so]))] := hD
        have hl : lv_has ls 7 [(0, .ref b), (1, .int (nI d)), (2, .ref a_1369), (3, .int (nI 1)), (4, .ref qw_1370), (5, .ref (gs i_1373)), (6, .int (nI w_1396))] := hl
        have hp_1394 : 1 ≤ w_1396 ∧ w_1396 ≤ 6 := hp_1394
        have hp_1395 : ∀ z, z ≤ 5 → g2_1397 z = nI (zIn B d i_1373 w_1396 z) := hp_1395
        refine W.widen (k := 2 + 5 * i_1373 + (w_1396 - 1)) (n := 8 + 10 * i_1373 + 2 * (w_1396 - 1)) (Nat.le_refl _) (Nat.le_refl _) ?_
        have iWz := iXz w_1396
        have iWm := iXm w_1396
        refine lv_iload hx hb dX2_sign_63 (lv_at hl 6 rfl) ?_
        refine lv_iconst (v := nI 5) hx hb dX2_sign_65 (by decide) ?_
        refine n_icmp_gt (tgt := 91) hx hb (by omega) (by omega) dX2_sign_66 (by decide) (fun c_1399 => ?_) (fun c_1399 => ?_)
        · have hnn : nz (nDk B d (i_1373 + 1)) = 1 := nDk_yes (by omega)
          have hl : lv_has ls 7 [(0, .ref b), (1, .int (nI d)), (2, .ref a_1369), (3, .int (nI (nz (nDk B d (i_1373 + 1))))), (4, .ref qw_1370), (5, .ref (gs i_1373)), (6, .int (nI w_1396))] := by
            have e9 : ((.int (nI (nz (nDk B d (i_1373 + 1))))) : Value) = .int (nI 1) := by rw [hnn]
            rw [e9]; exact hl
          refine lv_goto (tgt := 27) hx hb dX2_sign_91 (by decide) ?_
          have hP : va_P G.1 CL [(a_1369, .inl (G.2 2, 6, .inl g2_1397)), (qw_1370, .inr (7, [.int (nI (i_1373 + 1)), .ref so]))] H := hP.sub [0, 1] rfl
          have hD : va_D A [(a_1369, .inl (G.2 2, 6, .inl g2_1397)), (qw_1370, .inr (7, [.int (nI (i_1373 + 1)), .ref so]))] := hD.sub [0, 1] (by decide) rfl
          have hl := lv_sub hl [0, 1, 2, 3, 4] (l' := [(0, .ref b), (1, .int (nI d)), (2, .ref a_1369), (3, .int (nI (nz (nDk B d (i_1373 + 1))))), (4, .ref qw_1370)]) rfl
          exact W.widen (show 2 + 5 * i_1373 + (w_1396 - 1) ≤ 2 + 5 * (i_1373 + 1) from by first | exact Nat.le_refl _ | omega) (show 8 + 10 * i_1373 + 2 * (w_1396 - 1) ≤ 8 + 10 * (i_1373 + 1) from by first | exact Nat.le_refl _ | omega) (ih27 ((i_1373 + 1), g2_1397) H locs ls ⟨hP, hD, hS, hl, (show (i_1373 + 1) ≤ sN B from by omega), (show ∀ z, z ≤ 5 → g2_1397 z = nI (zDk B d (i_1373 + 1) z) from (fun z hz => (hp_1395 z hz).trans (congrArg nI (if_pos (by omega)))))⟩ (show sN B - (i_1373 + 1) < sN B - i_1373 from by omega))
        · refine lv_aload_n hx hb dX2_sign_69 rfl (lv_at hl 2 rfl) ?_
          refine lv_iload hx hb dX2_sign_70 (lv_at hl 6 rfl) ?_
          refine lv_dup2_11 hx hb dX2_sign_72 rfl rfl ?_
          refine r_cald (v := nI (zDk B d i_1373 w_1396)) hx hb hK hP 0 2 rfl rfl (i := w_1396) (by omega) (by omega) ((hp_1395 w_1396 (by omega)).trans (congrArg nI (if_neg (Nat.lt_irrefl _)))) dX2_sign_73 ?_
          refine lv_aload_n hx hb dX2_sign_74 rfl (lv_at hl 0 rfl) ?_
          refine lv_aload hx hb dX2_sign_75 (lv_at hl 5 rfl) ?_
          refine lv_iload hx hb dX2_sign_77 (lv_at hl 6 rfl) ?_
          have hF := hF_of (wc := []) hD hS hA [] rfl
          have hro_1400 : va_P G.1 CL [(b, .inr (1, [.ref to, .ref so, .ref bo, .ref we, .ref tg, .int (nI (bD B)), .int (nI (bI9 B)), .int (oI (bP B)), .int (nI (bE B)), .int (nI kn), .ref lo, .ref fi, .ref fa])), (to, .inr (2, [.ref ta])), (ta, .inr (3, [.int tm, .ref te, .int (nI (tN B))])), (te, .inl (G.2 3, tcap, .inr (.inr (.inr (.inr tf))))), (bo, .inl (G.2 0, 6, .inl fb)), (gs i_1373, .inr (9, [.int (nI (sDay (sAt B i_1373))), .int (nI (sId (sAt B i_1373))), .ref mi9, .ref it9])), (mi9, .inl (G.2 1, (nP (sAt B i_1373)), .inl fm9)), (it9, .inl (G.2 1, (nP (sAt B i_1373)), .inl fi99))] H := (((((hR0.w hS).sub [0, 1, 2, 3, 7] rfl).app ((hRm_1387.w hS).sub [0] rfl)).app ((hRm_1388.w hS).sub [0] rfl)).app ((hRm_1389.w hS).sub [0] rfl))
          refine go_ct hS hP hD [] [0, 1] hF rfl rfl (by decide) (by decide)
              (va_runV (As := [.ref (gs i_1373), .int (nI w_1396)]) (rest := [.int (nI (zDk B d i_1373 w_1396)), .int (nI w_1396), .ref a_1369]) cf (mX2_minutesInZone l G b to so bo we tg lo fi fa kn B ta tm te tcap tf ga Wi fb (gs i_1373) (sAt B i_1373) mi9 it9 fm9 fi99 w_1396 (show Inv B from by first | assumption | omega) (show tN B ≤ tcap ∧ tcap ≤ 60 from by first | assumption | omega) (show ∀ j, j < tN B → tf j = some (ga j) ∧ TestIn Wi (ga j) (tDay B j) (tThr B j) from by first | assumption | omega) (show SrtT B from by first | assumption | omega) (show ∀ w_1396, 2 ≤ w_1396 → w_1396 ≤ 5 → fb w_1396 = nI (bB B w_1396) from by first | assumption | omega) (iX9) (hfm9) (hfi9) (show w_1396 ≤ 5 from by first | assumption | omega) H.size) (cwV 2 hts (lw_V q1511 q1253 q1254 q48 q1255) rfl rfl rfl (by decide +kernel) ⟨Nat.le_of_ble_eq_true rfl, Nat.le_of_ble_eq_true rfl⟩) (preV_of hKB hE hS hF (va_recv hK (hR0.w hS) (ci := 1) (q0 := 0) rfl rfl) (va_P.sub hP [] rfl) ((va_D.sub hD [] (by decide) rfl).weaken (fun _ _ _ _ => trivial)) ⟨(roW.nil hro_1400), (roW.nil (hR1.w hS))⟩) rfl rfl hl.1 rfl (lv_room (Nat.le_of_ble_eq_true rfl)) dX2_sign_79 ⟨show 2 + 5 * i_1373 + (w_1396 - 1) + 1 ≤ 202 from by first | decide | omega, show 8 + 10 * i_1373 + 2 * (w_1396 - 1) + 2 ≤ 408 from by first | decide | omega⟩)
              (fun u_ H locs hq hph (hP : va_P G.1 CL [(a_1369, .inl (G.2 2, 6, .inl g2_1397)), (qw_1370, .inr (7, [.int (nI (i_1373 + 1)), .ref so]))] H) (hD : va_D A [(a_1369, .inl (G.2 2, 6, .inl g2_1397)), (qw_1370, .inr (7, [.int (nI (i_1373 + 1)), .ref so]))]) hS hfz hfk => ?_)
          refine W.eq (g2 := F0 m 82 ls [.int (nI (zMin B (sAt B i_1373) w_1396)), .int (nI (zDk B d i_1373 w_1396)), .int (nI w_1396), .ref a_1369]) rfl ?_
          refine lv_iadd hx hb dX2_sign_82 ?_
          refine lv_ton (n := (zDk B d i_1373 w_1396) + (zMin B (sAt B i_1373) w_1396)) (nadd (by omega)) ?_
          refine lv_i2c (v := nI ((zDk B d i_1373 w_1396) + (zMin B (sAt B i_1373) w_1396))) hx hb dX2_sign_83 (n2c (by omega)) ?_
          refine r_cast (v := nI ((zDk B d i_1373 w_1396) + (zMin B (sAt B i_1373) w_1396))) hx hb hK hP hD hS 0 2 rfl rfl (i := w_1396) (by omega) (by omega) (nar_c (by omega)) dX2_sign_84 (fun H locs (hP : va_P G.1 CL [(a_1369, .inl (G.2 2, 6, .inl (upd g2_1397 w_1396 (nI ((zDk B d i_1373 w_1396) + (zMin B (sAt B i_1373) w_1396)))))), (qw_1370, .inr (7, [.int (nI (i_1373 + 1)), .ref so]))] H) (hD : va_D A [(a_1369, .inl (G.2 2, 6, .inl (upd g2_1397 w_1396 (nI ((zDk B d i_1373 w_1396) + (zMin B (sAt B i_1373) w_1396)))))), (qw_1370, .inr (7, [.int (nI (i_1373 + 1)), .ref so]))]) hS => ?_)
          refine lv_iinc (v := nI (w_1396 + 1)) (lv' := [(6, .int (nI (w_1396 + 1))), (0, .ref b), (1, .int (nI d)), (2, .ref a_1369), (3, .int (nI 1)), (4, .ref qw_1370), (5, .ref (gs i_1373))]) hx hb dX2_sign_85 hl (k := 6) rfl (ninc (b := 1) (by decide) (by omega)) (by decide) rfl (fun ls hl => ?_)
          refine lv_goto (tgt := 63) hx hb dX2_sign_88 (by decide) ?_
          have hP : va_P G.1 CL [(a_1369, .inl (G.2 2, 6, .inl (upd g2_1397 w_1396 (nI ((zDk B d i_1373 w_1396) + (zMin B (sAt B i_1373) w_1396)))))), (qw_1370, .inr (7, [.int (nI (i_1373 + 1)), .ref so]))] H := hP.sub [0, 1] rfl
          have hD : va_D A [(a_1369, .inl (G.2 2, 6, .inl (upd g2_1397 w_1396 (nI ((zDk B d i_1373 w_1396) + (zMin B (sAt B i_1373) w_1396)))))), (qw_1370, .inr (7, [.int (nI (i_1373 + 1)), .ref so]))] := hD.sub [0, 1] (by decide) rfl
          have hl := lv_sub hl [1, 2, 3, 4, 5, 6, 0] (l' := [(0, .ref b), (1, .int (nI d)), (2, .ref a_1369), (3, .int (nI 1)), (4, .ref qw_1370), (5, .ref (gs i_1373)), (6, .int (nI (w_1396 + 1)))]) rfl
          exact W.widen (show 2 + 5 * i_1373 + (w_1396 - 1) + 1 ≤ 2 + 5 * i_1373 + ((w_1396 + 1) - 1) from by first | exact Nat.le_refl _ | omega) (show 8 + 10 * i_1373 + 2 * (w_1396 - 1) + 2 ≤ 8 + 10 * i_1373 + 2 * ((w_1396 + 1) - 1) from by first | exact Nat.le_refl _ | omega) (ih63 ((w_1396 + 1), upd g2_1397 w_1396 (nI ((zDk B d i_1373 w_1396) + (zMin B (sAt B i_1373) w_1396)))) H locs ls ⟨hP, hD, hS, hl, (show 1 ≤ (w_1396 + 1) ∧ (w_1396 + 1) ≤ 6 from by omega), (show ∀ z, z ≤ 5 → (upd g2_1397 w_1396 (nI ((zDk B d i_1373 w_1396) + (zMin B (sAt B i_1373) w_1396)))) z = nI (zIn B d i_1373 (w_1396 + 1) z) from zIn_s (by omega) hp_1395)⟩ (show 6 - (w_1396 + 1) < 6 - w_1396 from by omega))
  · refine lv_bipush (v := nI 45) hx hb dX2_sign_8 (by decide) ?_
    refine lv_ton (n := (signS B d)) (congrArg nI (by unfold signS; rw [if_pos (by omega)])) ?_
    have hs8 := signS_lt B d
    have hP9 : va_P G.1 CL [] H := hP.sub [] rfl
    have hD9 : va_D A [] := hD.sub [] (by decide) rfl
    exact end_i hx hb hr hlk (nar_cv (by omega)) (qc_of () (v := some (.int (nI (signS B d)))) (by rfl) (trivial) hP9 hD9 (trivial) hS) hS dX2_sign_10 (show 0 ≤ 202 from by first | exact Nat.le_refl _ | decide | omega) (show 0 ≤ 408 from by first | exact Nat.le_refl _ | decide | omega)

def stepC (z : Nat) (c : Nat × Nat × Nat × Nat) : Nat × Nat × Nat × Nat :=
  if z = 1 then (if c.2.2.2 + 1 = 3 then (c.1 + 1, c.2.1 + 1, c.2.2.1 + 1, 0) else (c.1, c.2.1 + 1, c.2.2.1, c.2.2.2 + 1)) else (c.1 + 1, c.2.1, c.2.2.1, 0)
theorem stepC_0 (c : Nat × Nat × Nat × Nat) : stepC 0 c = (c.1 + 1, c.2.1, c.2.2.1, 0) := if_neg (by decide)
theorem stepC_3 {c : Nat × Nat × Nat × Nat} (h : c.2.2.2 + 1 = 3) : stepC 1 c = (c.1 + 1, c.2.1 + 1, c.2.2.1 + 1, 0) := by unfold stepC; rw [if_pos rfl, if_pos h]
theorem stepC_1 {c : Nat × Nat × Nat × Nat} (h : ¬ c.2.2.2 + 1 = 3) : stepC 1 c = (c.1, c.2.1 + 1, c.2.2.1, c.2.2.2 + 1) := by unfold stepC; rw [if_pos rfl, if_neg h]
theorem crS_1 {B : Bk} {d : Nat} {c : Nat × Nat × Nat × Nat} (h1 : c.1 < bE B) (h2 : 2 * loadD B d < bG B c.1) : crS B d c = stepC 1 c := by unfold crS stepC; rw [if_pos h1, if_pos h2, if_pos rfl]
theorem crS_0 {B : Bk} {d : Nat} {c : Nat × Nat × Nat × Nat} (h1 : c.1 < bE B) (h2 : ¬ 2 * loadD B d < bG B c.1) : crS B d c = stepC 0 c := by unfold crS stepC; rw [if_pos h1, if_neg h2, if_neg (by decide)]

set_option maxHeartbeats 4000000 in
theorem mX9_step_0 (l : Launch) (G : Gt) (c9 : Nat) (b : Nat) (cc : Nat × Nat × Nat × Nat) (hc : cc.2.2.2 < 3) : CT l G yX9_step cX9_step 2 none ({ frames := 1, cells := 0, slots := 0, locals := 12 } : Room) [.ref c9, .int (nI 0)] [(c9, .inr (10, [.int (nI cc.1), .int (nI cc.2.1), .int (nI cc.2.2.1), .int (nI cc.2.2.2), .ref b]))] RH0 (S := Unit) (fun (u_ : Unit) => (none : Option Value)) (fun (u_ : Unit) => True) (fun (u_ : Unit) => [(c9, .inr (10, [.int (nI ((stepC 0 cc).1)), .int (nI ((stepC 0 cc).2.1)), .int (nI ((stepC 0 cc).2.2.1)), .int (nI ((stepC 0 cc).2.2.2)), .ref b]))]) (fun (u_ : Unit) (H : Heap) => True) := by
  refine CT.of (by decide) (Nat.le_of_ble_eq_true rfl) ?_
  intro p e s m below meth c ls A H locs h9 hH0 hP hS
  obtain ⟨cf, hr, hlk, hnm, hKB, hE, -, hD, -, hA, hAw, hRH, hl⟩ := h9
  have hx := cf.1
  have hb := cf.2.1
  have hml := cf.2.2.1
  have hown : s.vm.findClass RX9 = some m.cls := cf.2.2.2.1
  have hts := cf.2.2.2.2
  have hK := hKB.1
  have hl : lv_has ls 2 [(0, .ref c9), (1, .int (nI 0))] := hl
  refine lv_aload_n hx hb dX9_step_0 rfl (lv_at hl 0 rfl) ?_
  refine lv_dup hx hb dX9_step_1 rfl ?_
  refine va_get hx hb hts in_X9 hown hK hP 0 rfl rfl 1 (by decide) (hts _ q644) (fun _ h => h) rfl dX9_step_2 ?_
  refine lv_iload_n hx hb dX9_step_5 rfl (lv_at hl 1 rfl) ?_
  refine n_if_eq (tgt := 13) hx hb (by omega) dX9_step_6 (by decide) (fun c_1401 => ?_) (fun c_1401 => absurd c_1401 (by omega))
  refine lv_iconst (v := nI 0) hx hb dX9_step_13 (by decide) ?_
  refine lv_iadd hx hb dX9_step_14 ?_
  refine lv_ton (n := cc.2.1) (nadd (by omega)) ?_
  refine va_put (v := .int (nI cc.2.1)) (ty := .int) hx hb hts in_X9 tyX9 tyX9_ok nmX9 hown hK hP hD hS 0 rfl rfl 1 (by decide) (hts _ q644) (fun _ h => h) rfl (by decide +kernel) rfl rfl (Nat.le_of_ble_eq_true rfl) dX9_step_15 (fun H locs (hP : va_P G.1 CL [(c9, .inr (10, [.int (nI cc.1), .int (nI cc.2.1), .int (nI cc.2.2.1), .int (nI cc.2.2.2), .ref b]))] H) (hD : va_D A [(c9, .inr (10, [.int (nI cc.1), .int (nI cc.2.1), .int (nI cc.2.2.1), .int (nI cc.2.2.2), .ref b]))]) hS => ?_)
  refine lv_aload_n hx hb dX9_step_18 rfl (lv_at hl 0 rfl) ?_
  refine lv_dup hx hb dX9_step_19 rfl ?_
  refine va_get hx hb hts in_X9 hown hK hP 0 rfl rfl 3 (by decide) (hts _ q648) (fun _ h => h) rfl dX9_step_20 ?_
  refine lv_iload_n hx hb dX9_step_23 rfl (lv_at hl 1 rfl) ?_
  refine n_if_eq (tgt := 31) hx hb (by omega) dX9_step_24 (by decide) (fun c_1402 => ?_) (fun c_1402 => absurd c_1402 (by omega))
  refine lv_iconst (v := nI 0) hx hb dX9_step_31 (by decide) ?_
  refine lv_iadd hx hb dX9_step_32 ?_
  refine lv_ton (n := cc.2.2.2) (nadd (by omega)) ?_
  refine va_put (v := .int (nI cc.2.2.2)) (ty := .int) hx hb hts in_X9 tyX9 tyX9_ok nmX9 hown hK hP hD hS 0 rfl rfl 3 (by decide) (hts _ q648) (fun _ h => h) rfl (by decide +kernel) rfl rfl (Nat.le_of_ble_eq_true rfl) dX9_step_33 (fun H locs (hP : va_P G.1 CL [(c9, .inr (10, [.int (nI cc.1), .int (nI cc.2.1), .int (nI cc.2.2.1), .int (nI cc.2.2.2), .ref b]))] H) (hD : va_D A [(c9, .inr (10, [.int (nI cc.1), .int (nI cc.2.1), .int (nI cc.2.2.1), .int (nI cc.2.2.2), .ref b]))]) hS => ?_)
  refine lv_aload_n hx hb dX9_step_36 rfl (lv_at hl 0 rfl) ?_
  refine lv_dup hx hb dX9_step_37 rfl ?_
  refine va_get hx hb hts in_X9 hown hK hP 0 rfl rfl 2 (by decide) (hts _ q646) (fun _ h => h) rfl dX9_step_38 ?_
  refine lv_aload_n hx hb dX9_step_41 rfl (lv_at hl 0 rfl) ?_
  refine va_get hx hb hts in_X9 hown hK hP 0 rfl rfl 3 (by decide) (hts _ q648) (fun _ h => h) rfl dX9_step_42 ?_
  refine lv_iconst (v := nI 3) hx hb dX9_step_45 (by decide) ?_
  refine n_icmp_ne (tgt := 53) hx hb (by omega) (by omega) dX9_step_46 (by decide) (fun c_1404 => ?_) (fun c_1404 => absurd c_1404 (by omega))
  refine lv_iconst (v := nI 0) hx hb dX9_step_53 (by decide) ?_
  refine lv_iadd hx hb dX9_step_54 ?_
  refine lv_ton (n := cc.2.2.1) (nadd (by omega)) ?_
  refine va_put (v := .int (nI cc.2.2.1)) (ty := .int) hx hb hts in_X9 tyX9 tyX9_ok nmX9 hown hK hP hD hS 0 rfl rfl 2 (by decide) (hts _ q646) (fun _ h => h) rfl (by decide +kernel) rfl rfl (Nat.le_of_ble_eq_true rfl) dX9_step_55 (fun H locs (hP : va_P G.1 CL [(c9, .inr (10, [.int (nI cc.1), .int (nI cc.2.1), .int (nI cc.2.2.1), .int (nI cc.2.2.2), .ref b]))] H) (hD : va_D A [(c9, .inr (10, [.int (nI cc.1), .int (nI cc.2.1), .int (nI cc.2.2.1), .int (nI cc.2.2.2), .ref b]))]) hS => ?_)
  refine lv_iload_n hx hb dX9_step_58 rfl (lv_at hl 1 rfl) ?_
  refine n_if_eq (tgt := 70) hx hb (by omega) dX9_step_59 (by decide) (fun c_1405 => ?_) (fun c_1405 => absurd c_1405 (by omega))
  refine lv_aload_n hx hb dX9_step_70 rfl (lv_at hl 0 rfl) ?_
  refine lv_dup hx hb dX9_step_71 rfl ?_
  refine va_get hx hb hts in_X9 hown hK hP 0 rfl rfl 0 (by decide) (hts _ q642) (fun _ h => h) rfl dX9_step_72 ?_
  refine lv_iconst (v := nI 1) hx hb dX9_step_75 (by decide) ?_
  refine lv_iadd hx hb dX9_step_76 ?_
  refine lv_ton (n := cc.1 + 1) (nadd (by omega)) ?_
  refine va_put (v := .int (nI (cc.1 + 1))) (ty := .int) hx hb hts in_X9 tyX9 tyX9_ok nmX9 hown hK hP hD hS 0 rfl rfl 0 (by decide) (hts _ q642) (fun _ h => h) rfl (by decide +kernel) rfl rfl (Nat.le_of_ble_eq_true rfl) dX9_step_77 (fun H locs (hP : va_P G.1 CL [(c9, .inr (10, [.int (nI (cc.1 + 1)), .int (nI cc.2.1), .int (nI cc.2.2.1), .int (nI cc.2.2.2), .ref b]))] H) (hD : va_D A [(c9, .inr (10, [.int (nI (cc.1 + 1)), .int (nI cc.2.1), .int (nI cc.2.2.1), .int (nI cc.2.2.2), .ref b]))]) hS => ?_)
  refine lv_aload_n hx hb dX9_step_80 rfl (lv_at hl 0 rfl) ?_
  refine lv_iconst (v := nI 0) hx hb dX9_step_81 (by decide) ?_
  refine va_put (v := .int (nI 0)) (ty := .int) hx hb hts in_X9 tyX9 tyX9_ok nmX9 hown hK hP hD hS 0 rfl rfl 3 (by decide) (hts _ q648) (fun _ h => h) rfl (by decide +kernel) rfl rfl (Nat.le_of_ble_eq_true rfl) dX9_step_82 (fun H locs (hP : va_P G.1 CL [(c9, .inr (10, [.int (nI (cc.1 + 1)), .int (nI cc.2.1), .int (nI cc.2.2.1), .int (nI 0), .ref b]))] H) (hD : va_D A [(c9, .inr (10, [.int (nI (cc.1 + 1)), .int (nI cc.2.1), .int (nI cc.2.2.1), .int (nI 0), .ref b]))]) hS => ?_)
  have hj := stepC_0 cc
  have hP : va_P G.1 CL [(c9, .inr (10, [.int (nI ((stepC 0 cc).1)), .int (nI ((stepC 0 cc).2.1)), .int (nI ((stepC 0 cc).2.2.1)), .int (nI ((stepC 0 cc).2.2.2)), .ref b]))] H := by rw [hj]; exact hP
  have hD : va_D A [(c9, .inr (10, [.int (nI ((stepC 0 cc).1)), .int (nI ((stepC 0 cc).2.1)), .int (nI ((stepC 0 cc).2.2.1)), .int (nI ((stepC 0 cc).2.2.2)), .ref b]))] := by rw [hj]; exact hD
  have hP9 : va_P G.1 CL [(c9, .inr (10, [.int (nI ((stepC 0 cc).1)), .int (nI ((stepC 0 cc).2.1)), .int (nI ((stepC 0 cc).2.2.1)), .int (nI ((stepC 0 cc).2.2.2)), .ref b]))] H := hP.sub [0] rfl
  have hD9 : va_D A [(c9, .inr (10, [.int (nI ((stepC 0 cc).1)), .int (nI ((stepC 0 cc).2.1)), .int (nI ((stepC 0 cc).2.2.1)), .int (nI ((stepC 0 cc).2.2.2)), .ref b]))] := hD.sub [0] (by decide) rfl
  exact end_v hx hb hr hlk (qc_of () (v := none) (by rfl) (trivial) hP9 hD9 (trivial) hS) hS dX9_step_85 (show 0 ≤ 0 from by first | exact Nat.le_refl _ | decide | omega) (show 0 ≤ 0 from by first | exact Nat.le_refl _ | decide | omega)

set_option maxHeartbeats 4000000 in
theorem mX9_step_1 (l : Launch) (G : Gt) (c9 : Nat) (b : Nat) (cc : Nat × Nat × Nat × Nat) (hc : cc.2.2.2 < 3) : CT l G yX9_step cX9_step 2 none ({ frames := 1, cells := 0, slots := 0, locals := 12 } : Room) [.ref c9, .int (nI 1)] [(c9, .inr (10, [.int (nI cc.1), .int (nI cc.2.1), .int (nI cc.2.2.1), .int (nI cc.2.2.2), .ref b]))] RH0 (S := Unit) (fun (u_ : Unit) => (none : Option Value)) (fun (u_ : Unit) => True) (fun (u_ : Unit) => [(c9, .inr (10, [.int (nI ((stepC 1 cc).1)), .int (nI ((stepC 1 cc).2.1)), .int (nI ((stepC 1 cc).2.2.1)), .int (nI ((stepC 1 cc).2.2.2)), .ref b]))]) (fun (u_ : Unit) (H : Heap) => True) := by
  refine CT.of (by decide) (Nat.le_of_ble_eq_true rfl) ?_
  intro p e s m below meth c ls A H locs h9 hH0 hP hS
  obtain ⟨cf, hr, hlk, hnm, hKB, hE, -, hD, -, hA, hAw, hRH, hl⟩ := h9
  have hx := cf.1
  have hb := cf.2.1
  have hml := cf.2.2.1
  have hown : s.vm.findClass RX9 = some m.cls := cf.2.2.2.1
  have hts := cf.2.2.2.2
  have hK := hKB.1
  have hl : lv_has ls 2 [(0, .ref c9), (1, .int (nI 1))] := hl
  refine lv_aload_n hx hb dX9_step_0 rfl (lv_at hl 0 rfl) ?_
  refine lv_dup hx hb dX9_step_1 rfl ?_
  refine va_get hx hb hts in_X9 hown hK hP 0 rfl rfl 1 (by decide) (hts _ q644) (fun _ h => h) rfl dX9_step_2 ?_
  refine lv_iload_n hx hb dX9_step_5 rfl (lv_at hl 1 rfl) ?_
  refine n_if_eq (tgt := 13) hx hb (by omega) dX9_step_6 (by decide) (fun c_1406 => absurd c_1406 (by omega)) (fun c_1406 => ?_)
  refine lv_iconst (v := nI 1) hx hb dX9_step_9 (by decide) ?_
  refine lv_goto (tgt := 14) hx hb dX9_step_10 (by decide) ?_
  refine lv_iadd hx hb dX9_step_14 ?_
  refine lv_ton (n := cc.2.1 + 1) (nadd (by omega)) ?_
  refine va_put (v := .int (nI (cc.2.1 + 1))) (ty := .int) hx hb hts in_X9 tyX9 tyX9_ok nmX9 hown hK hP hD hS 0 rfl rfl 1 (by decide) (hts _ q644) (fun _ h => h) rfl (by decide +kernel) rfl rfl (Nat.le_of_ble_eq_true rfl) dX9_step_15 (fun H locs (hP : va_P G.1 CL [(c9, .inr (10, [.int (nI cc.1), .int (nI (cc.2.1 + 1)), .int (nI cc.2.2.1), .int (nI cc.2.2.2), .ref b]))] H) (hD : va_D A [(c9, .inr (10, [.int (nI cc.1), .int (nI (cc.2.1 + 1)), .int (nI cc.2.2.1), .int (nI cc.2.2.2), .ref b]))]) hS => ?_)
  refine lv_aload_n hx hb dX9_step_18 rfl (lv_at hl 0 rfl) ?_
  refine lv_dup hx hb dX9_step_19 rfl ?_
  refine va_get hx hb hts in_X9 hown hK hP 0 rfl rfl 3 (by decide) (hts _ q648) (fun _ h => h) rfl dX9_step_20 ?_
  refine lv_iload_n hx hb dX9_step_23 rfl (lv_at hl 1 rfl) ?_
  refine n_if_eq (tgt := 31) hx hb (by omega) dX9_step_24 (by decide) (fun c_1407 => absurd c_1407 (by omega)) (fun c_1407 => ?_)
  refine lv_iconst (v := nI 1) hx hb dX9_step_27 (by decide) ?_
  refine lv_goto (tgt := 32) hx hb dX9_step_28 (by decide) ?_
  refine lv_iadd hx hb dX9_step_32 ?_
  refine lv_ton (n := cc.2.2.2 + 1) (nadd (by omega)) ?_
  refine va_put (v := .int (nI (cc.2.2.2 + 1))) (ty := .int) hx hb hts in_X9 tyX9 tyX9_ok nmX9 hown hK hP hD hS 0 rfl rfl 3 (by decide) (hts _ q648) (fun _ h => h) rfl (by decide +kernel) rfl rfl (Nat.le_of_ble_eq_true rfl) dX9_step_33 (fun H locs (hP : va_P G.1 CL [(c9, .inr (10, [.int (nI cc.1), .int (nI (cc.2.1 + 1)), .int (nI cc.2.2.1), .int (nI (cc.2.2.2 + 1)), .ref b]))] H) (hD : va_D A [(c9, .inr (10, [.int (nI cc.1), .int (nI (cc.2.1 + 1)), .int (nI cc.2.2.1), .int (nI (cc.2.2.2 + 1)), .ref b]))]) hS => ?_)
  refine lv_aload_n hx hb dX9_step_36 rfl (lv_at hl 0 rfl) ?_
  refine lv_dup hx hb dX9_step_37 rfl ?_
  refine va_get hx hb hts in_X9 hown hK hP 0 rfl rfl 2 (by decide) (hts _ q646) (fun _ h => h) rfl dX9_step_38 ?_
  refine lv_aload_n hx hb dX9_step_41 rfl (lv_at hl 0 rfl) ?_
  refine va_get hx hb hts in_X9 hown hK hP 0 rfl rfl 3 (by decide) (hts _ q648) (fun _ h => h) rfl dX9_step_42 ?_
  refine lv_iconst (v := nI 3) hx hb dX9_step_45 (by decide) ?_
  refine n_icmp_ne (tgt := 53) hx hb (by omega) (by omega) dX9_step_46 (by decide) (fun c_1409 => ?_) (fun c_1409 => ?_)
  · refine lv_iconst (v := nI 0) hx hb dX9_step_53 (by decide) ?_
    refine lv_iadd hx hb dX9_step_54 ?_
    refine lv_ton (n := cc.2.2.1) (nadd (by omega)) ?_
    refine va_put (v := .int (nI cc.2.2.1)) (ty := .int) hx hb hts in_X9 tyX9 tyX9_ok nmX9 hown hK hP hD hS 0 rfl rfl 2 (by decide) (hts _ q646) (fun _ h => h) rfl (by decide +kernel) rfl rfl (Nat.le_of_ble_eq_true rfl) dX9_step_55 (fun H locs (hP : va_P G.1 CL [(c9, .inr (10, [.int (nI cc.1), .int (nI (cc.2.1 + 1)), .int (nI cc.2.2.1), .int (nI (cc.2.2.2 + 1)), .ref b]))] H) (hD : va_D A [(c9, .inr (10, [.int (nI cc.1), .int (nI (cc.2.1 + 1)), .int (nI cc.2.2.1), .int (nI (cc.2.2.2 + 1)), .ref b]))]) hS => ?_)
    refine lv_iload_n hx hb dX9_step_58 rfl (lv_at hl 1 rfl) ?_
    refine n_if_eq (tgt := 70) hx hb (by omega) dX9_step_59 (by decide) (fun c_1410 => absurd c_1410 (by omega)) (fun c_1410 => ?_)
    refine lv_aload_n hx hb dX9_step_62 rfl (lv_at hl 0 rfl) ?_
    refine va_get hx hb hts in_X9 hown hK hP 0 rfl rfl 3 (by decide) (hts _ q648) (fun _ h => h) rfl dX9_step_63 ?_
    refine lv_iconst (v := nI 3) hx hb dX9_step_66 (by decide) ?_
    refine n_icmp_ne (tgt := 85) hx hb (by omega) (by omega) dX9_step_67 (by decide) (fun c_1412 => ?_) (fun c_1412 => absurd c_1412 (by omega))
    have hj : stepC 1 cc = _ := stepC_1 (by omega)
    have hP : va_P G.1 CL [(c9, .inr (10, [.int (nI ((stepC 1 cc).1)), .int (nI ((stepC 1 cc).2.1)), .int (nI ((stepC 1 cc).2.2.1)), .int (nI ((stepC 1 cc).2.2.2)), .ref b]))] H := by rw [hj]; exact hP
    have hD : va_D A [(c9, .inr (10, [.int (nI ((stepC 1 cc).1)), .int (nI ((stepC 1 cc).2.1)), .int (nI ((stepC 1 cc).2.2.1)), .int (nI ((stepC 1 cc).2.2.2)), .ref b]))] := by rw [hj]; exact hD
    have hP9 : va_P G.1 CL [(c9, .inr (10, [.int (nI ((stepC 1 cc).1)), .int (nI ((stepC 1 cc).2.1)), .int (nI ((stepC 1 cc).2.2.1)), .int (nI ((stepC 1 cc).2.2.2)), .ref b]))] H := hP.sub [0] rfl
    have hD9 : va_D A [(c9, .inr (10, [.int (nI ((stepC 1 cc).1)), .int (nI ((stepC 1 cc).2.1)), .int (nI ((stepC 1 cc).2.2.1)), .int (nI ((stepC 1 cc).2.2.2)), .ref b]))] := hD.sub [0] (by decide) rfl
    exact end_v hx hb hr hlk (qc_of () (v := none) (by rfl) (trivial) hP9 hD9 (trivial) hS) hS dX9_step_85 (show 0 ≤ 0 from by first | exact Nat.le_refl _ | decide | omega) (show 0 ≤ 0 from by first | exact Nat.le_refl _ | decide | omega)
  · refine lv_iconst (v := nI 1) hx hb dX9_step_49 (by decide) ?_
    refine lv_goto (tgt := 54) hx hb dX9_step_50 (by decide) ?_
    refine lv_iadd hx hb dX9_step_54 ?_
    refine lv_ton (n := cc.2.2.1 + 1) (nadd (by omega)) ?_
    refine va_put (v := .int (nI (cc.2.2.1 + 1))) (ty := .int) hx hb hts in_X9 tyX9 tyX9_ok nmX9 hown hK hP hD hS 0 rfl rfl 2 (by decide) (hts _ q646) (fun _ h => h) rfl (by decide +kernel) rfl rfl (Nat.le_of_ble_eq_true rfl) dX9_step_55 (fun H locs (hP : va_P G.1 CL [(c9, .inr (10, [.int (nI cc.1), .int (nI (cc.2.1 + 1)), .int (nI (cc.2.2.1 + 1)), .int (nI (cc.2.2.2 + 1)), .ref b]))] H) (hD : va_D A [(c9, .inr (10, [.int (nI cc.1), .int (nI (cc.2.1 + 1)), .int (nI (cc.2.2.1 + 1)), .int (nI (cc.2.2.2 + 1)), .ref b]))]) hS => ?_)
    refine lv_iload_n hx hb dX9_step_58 rfl (lv_at hl 1 rfl) ?_
    refine n_if_eq (tgt := 70) hx hb (by omega) dX9_step_59 (by decide) (fun c_1413 => absurd c_1413 (by omega)) (fun c_1413 => ?_)
    refine lv_aload_n hx hb dX9_step_62 rfl (lv_at hl 0 rfl) ?_
    refine va_get hx hb hts in_X9 hown hK hP 0 rfl rfl 3 (by decide) (hts _ q648) (fun _ h => h) rfl dX9_step_63 ?_
    refine lv_iconst (v := nI 3) hx hb dX9_step_66 (by decide) ?_
    refine n_icmp_ne (tgt := 85) hx hb (by omega) (by omega) dX9_step_67 (by decide) (fun c_1415 => absurd c_1415 (by omega)) (fun c_1415 => ?_)
    refine lv_aload_n hx hb dX9_step_70 rfl (lv_at hl 0 rfl) ?_
    refine lv_dup hx hb dX9_step_71 rfl ?_
    refine va_get hx hb hts in_X9 hown hK hP 0 rfl rfl 0 (by decide) (hts _ q642) (fun _ h => h) rfl dX9_step_72 ?_
    refine lv_iconst (v := nI 1) hx hb dX9_step_75 (by decide) ?_
    refine lv_iadd hx hb dX9_step_76 ?_
    refine lv_ton (n := cc.1 + 1) (nadd (by omega)) ?_
    refine va_put (v := .int (nI (cc.1 + 1))) (ty := .int) hx hb hts in_X9 tyX9 tyX9_ok nmX9 hown hK hP hD hS 0 rfl rfl 0 (by decide) (hts _ q642) (fun _ h => h) rfl (by decide +kernel) rfl rfl (Nat.le_of_ble_eq_true rfl) dX9_step_77 (fun H locs (hP : va_P G.1 CL [(c9, .inr (10, [.int (nI (cc.1 + 1)), .int (nI (cc.2.1 + 1)), .int (nI (cc.2.2.1 + 1)), .int (nI (cc.2.2.2 + 1)), .ref b]))] H) (hD : va_D A [(c9, .inr (10, [.int (nI (cc.1 + 1)), .int (nI (cc.2.1 + 1)), .int (nI (cc.2.2.1 + 1)), .int (nI (cc.2.2.2 + 1)), .ref b]))]) hS => ?_)
    refine lv_aload_n hx hb dX9_step_80 rfl (lv_at hl 0 rfl) ?_
    refine lv_iconst (v := nI 0) hx hb dX9_step_81 (by decide) ?_
    refine va_put (v := .int (nI 0)) (ty := .int) hx hb hts in_X9 tyX9 tyX9_ok nmX9 hown hK hP hD hS 0 rfl rfl 3 (by decide) (hts _ q648) (fun _ h => h) rfl (by decide +kernel) rfl rfl (Nat.le_of_ble_eq_true rfl) dX9_step_82 (fun H locs (hP : va_P G.1 CL [(c9, .inr (10, [.int (nI (cc.1 + 1)), .int (nI (cc.2.1 + 1)), .int (nI (cc.2.2.1 + 1)), .int (nI 0), .ref b]))] H) (hD : va_D A [(c9, .inr (10, [.int (nI (cc.1 + 1)), .int (nI (cc.2.1 + 1)), .int (nI (cc.2.2.1 + 1)), .int (nI 0), .ref b]))]) hS => ?_)
    have hj : stepC 1 cc = _ := stepC_3 (by omega)
    have hP : va_P G.1 CL [(c9, .inr (10, [.int (nI ((stepC 1 cc).1)), .int (nI ((stepC 1 cc).2.1)), .int (nI ((stepC 1 cc).2.2.1)), .int (nI ((stepC 1 cc).2.2.2)), .ref b]))] H := by rw [hj]; exact hP
    have hD : va_D A [(c9, .inr (10, [.int (nI ((stepC 1 cc).1)), .int (nI ((stepC 1 cc).2.1)), .int (nI ((stepC 1 cc).2.2.1)), .int (nI ((stepC 1 cc).2.2.2)), .ref b]))] := by rw [hj]; exact hD
    have hP9 : va_P G.1 CL [(c9, .inr (10, [.int (nI ((stepC 1 cc).1)), .int (nI ((stepC 1 cc).2.1)), .int (nI ((stepC 1 cc).2.2.1)), .int (nI ((stepC 1 cc).2.2.2)), .ref b]))] H := hP.sub [0] rfl
    have hD9 : va_D A [(c9, .inr (10, [.int (nI ((stepC 1 cc).1)), .int (nI ((stepC 1 cc).2.1)), .int (nI ((stepC 1 cc).2.2.1)), .int (nI ((stepC 1 cc).2.2.2)), .ref b]))] := hD.sub [0] (by decide) rfl
    exact end_v hx hb hr hlk (qc_of () (v := none) (by rfl) (trivial) hP9 hD9 (trivial) hS) hS dX9_step_85 (show 0 ≤ 0 from by first | exact Nat.le_refl _ | decide | omega) (show 0 ≤ 0 from by first | exact Nat.le_refl _ | decide | omega)

set_option maxHeartbeats 4000000 in
theorem mX9_isOver (l : Launch) (G : Gt) (b : Nat) (to : Nat) (so : Nat) (bo : Nat) (we : Nat) (tg : Nat) (lo : Nat) (fi : Nat) (fa : Nat) (kn : Nat) (B : Bk) (c9 : Nat) (cc : Nat × Nat × Nat × Nat) (hcc : cc.1 ≤ 1000 ∧ bE B ≤ 1000) : CT l G yX9_isOver cX9_isOver 1 (some .boolean) ({ frames := 1, cells := 0, slots := 0, locals := 12 } : Room) [.ref c9] [] (fun (A : Nat → Prop) (H : Heap) => roW G A H [(c9, .inr (10, [.int (nI cc.1), .int (nI cc.2.1), .int (nI cc.2.2.1), .int (nI cc.2.2.2), .ref b])), (b, .inr (1, [.ref to, .ref so, .ref bo, .ref we, .ref tg, .int (nI (bD B)), .int (nI (bI9 B)), .int (oI (bP B)), .int (nI (bE B)), .int (nI kn), .ref lo, .ref fi, .ref fa]))]) (S := Bool) (fun (u_ : Bool) => some (.int (bI u_))) (fun (u_ : Bool) => (u_ = true ↔ cc.1 = bE B)) (fun (u_ : Bool) => []) (fun (u_ : Bool) (H : Heap) => True) := by
  refine CT.of (by decide) (Nat.le_of_ble_eq_true rfl) ?_
  intro p e s m below meth c ls A H locs h9 hH0 hP hS
  obtain ⟨cf, hr, hlk, hnm, hKB, hE, -, hD, -, hA, hAw, hR0, hl⟩ := h9
  have hx := cf.1
  have hb := cf.2.1
  have hml := cf.2.2.1
  have hown : s.vm.findClass RX9 = some m.cls := cf.2.2.2.1
  have hts := cf.2.2.2.2
  have hK := hKB.1
  have hl : lv_has ls 1 [(0, .ref c9)] := hl
  refine lv_aload_n hx hb dX9_isOver_0 rfl (lv_at hl 0 rfl) ?_
  refine va_get hx hb hts in_X9 hown hK (hR0.w hS) 0 rfl rfl 0 (by decide) (hts _ q642) (fun _ h => h) rfl dX9_isOver_1 ?_
  refine lv_aload_n hx hb dX9_isOver_4 rfl (lv_at hl 0 rfl) ?_
  refine va_get hx hb hts in_X9 hown hK (hR0.w hS) 0 rfl rfl 4 (by decide) (hts _ q649) (fun _ h => h) rfl dX9_isOver_5 ?_
  refine va_getN hx hb hts in_X2 hown hK (hR0.w hS) 1 rfl rfl 8 (by decide) (va_Nw.use rfl (hKB.nest q153 rfl)) (fun _ h => h) rfl dX9_isOver_8 ?_
  refine n_icmp_ne (tgt := 18) hx hb (by omega) (by omega) dX9_isOver_11 (by decide) (fun c_1417 => ?_) (fun c_1417 => ?_)
  · refine lv_iconst (v := nI 0) hx hb dX9_isOver_18 (by decide) ?_
    have hP9 : va_P G.1 CL [] H := hP.sub [] rfl
    have hD9 : va_D A [] := hD.sub [] (by decide) rfl
    exact end_i hx hb hr hlk (by decide) (qc_of false (v := some (.int (nI 0))) (by rfl) (⟨fun h => absurd h (by decide), fun h => absurd h (by omega)⟩) hP9 hD9 (trivial) hS) hS dX9_isOver_19 (show 0 ≤ 0 from by first | exact Nat.le_refl _ | decide | omega) (show 0 ≤ 0 from by first | exact Nat.le_refl _ | decide | omega)
  · refine lv_iconst (v := nI 1) hx hb dX9_isOver_14 (by decide) ?_
    refine lv_goto (tgt := 19) hx hb dX9_isOver_15 (by decide) ?_
    have hP9 : va_P G.1 CL [] H := hP.sub [] rfl
    have hD9 : va_D A [] := hD.sub [] (by decide) rfl
    exact end_i hx hb hr hlk (by decide) (qc_of true (v := some (.int (nI 1))) (by rfl) (⟨fun _ => by omega, fun _ => rfl⟩) hP9 hD9 (trivial) hS) hS dX9_isOver_19 (show 0 ≤ 0 from by first | exact Nat.le_refl _ | decide | omega) (show 0 ≤ 0 from by first | exact Nat.le_refl _ | decide | omega)

set_option maxHeartbeats 4000000 in
theorem mX9_init (l : Launch) (G : Gt) (b : Nat) (to : Nat) (so : Nat) (bo : Nat) (we : Nat) (tg : Nat) (lo : Nat) (fi : Nat) (fa : Nat) (kn : Nat) (B : Bk) (ta : Nat) (tm : Int32) (te : Nat) (tcap : Nat) (tf : Nat → Option Nat) (ga : Nat → Nat) (sa : Nat) (sm : Int32) (se : Nat) (scap : Nat) (sf : Nat → Option Nat) (gs : Nat → Nat) (Wi : va_W) (fb : Nat → Int32) (fw : Nat → Int32) (fl : Nat → Int32) (ff : Nat → Int32) (fg : Nat → Int32) (ft : Nat → Int32) (c9 : Nat) (hI : Inv B) (htc : tN B ≤ tcap ∧ tcap ≤ 60) (hT : ∀ j, j < tN B → tf j = some (ga j) ∧ TestIn Wi (ga j) (tDay B j) (tThr B j)) (hso : SrtT B) (hfb : ∀ z, 2 ≤ z → z ≤ 5 → fb z = nI (bB B z)) (hfw : ∀ z, 1 ≤ z → z ≤ 5 → fw z = nI (bW B z)) (hsc : sN B ≤ scap ∧ scap ≤ 60) (hSs : ∀ j, j < sN B → sf j = some (gs j) ∧ SesIn G Wi (gs j) (sAt B j)) (hss : SrtS B) (hkn : kn ≤ 200) (hca : Cache B kn fl ff fg) (hft : ∀ j, j < bE B → ft j = nI (bG B j)) : CT l G yX9_init cX9_init 3 none ({ frames := 12, cells := 8200, slots := 16400, locals := 255 } : Room) [.ref c9, .ref b] [(c9, .inr (10, [.int (nI 0), .int (nI 0), .int (nI 0), .int (nI 0), .null])), (b, .inr (1, [.ref to, .ref so, .ref bo, .ref we, .ref tg, .int (nI (bD B)), .int (nI (bI9 B)), .int (oI (bP B)), .int (nI (bE B)), .int (nI kn), .ref lo, .ref fi, .ref fa])), (lo, .inl (G.2 0, 200, .inl fl)), (fi, .inl (G.2 0, 200, .inl ff)), (fa, .inl (G.2 0, 200, .inl fg))] (fun (A : Nat → Prop) (H : Heap) => roW G A H [(to, .inr (2, [.ref ta])), (ta, .inr (3, [.int tm, .ref te, .int (nI (tN B))])), (te, .inl (G.2 3, tcap, .inr (.inr (.inr (.inr tf))))), (so, .inr (2, [.ref sa])), (sa, .inr (3, [.int sm, .ref se, .int (nI (sN B))])), (se, .inl (G.2 3, scap, .inr (.inr (.inr (.inr sf))))), (bo, .inl (G.2 0, 6, .inl fb)), (we, .inl (G.2 0, 6, .inl fw)), (tg, .inl (G.2 0, 28, .inl ft))] ∧ roW G A H Wi) (S := Nat × (Nat → Int32) × (Nat → Int32) × (Nat → Int32)) (fun (u_ : Nat × (Nat → Int32) × (Nat → Int32) × (Nat → Int32)) => (none : Option Value)) (fun (u_ : Nat × (Nat → Int32) × (Nat → Int32) × (Nat → Int32)) => Cache B u_.1 u_.2.1 u_.2.2.1 u_.2.2.2 ∧ kn ≤ u_.1 ∧ u_.1 ≤ 200) (fun (u_ : Nat × (Nat → Int32) × (Nat → Int32) × (Nat → Int32)) => [(c9, .inr (10, [.int (nI ((crs B).1)), .int (nI ((crs B).2.1)), .int (nI ((crs B).2.2.1)), .int (nI ((crs B).2.2.2)), .ref b])), (b, .inr (1, [.ref to, .ref so, .ref bo, .ref we, .ref tg, .int (nI (bD B)), .int (nI (bI9 B)), .int (oI (bP B)), .int (nI (bE B)), .int (nI u_.1), .ref lo, .ref fi, .ref fa])), (lo, .inl (G.2 0, 200, .inl u_.2.1)), (fi, .inl (G.2 0, 200, .inl u_.2.2.1)), (fa, .inl (G.2 0, 200, .inl u_.2.2.2))]) (fun (u_ : Nat × (Nat → Int32) × (Nat → Int32) × (Nat → Int32)) (H : Heap) => True) := by
  refine CT.of (by decide) (Nat.le_of_ble_eq_true rfl) ?_
  intro p e s m below meth c ls A H locs h9 hH0 hP hS
  obtain ⟨cf, hr, hlk, hnm, hKB, hE, -, hD, -, hA, hAw, ⟨hR0, hR1⟩, hl⟩ := h9
  have hx := cf.1
  have hb := cf.2.1
  have hml := cf.2.2.1
  have hown : s.vm.findClass RX9 = some m.cls := cf.2.2.2.1
  have hts := cf.2.2.2.2
  have hK := hKB.1
  have hl : lv_has ls 3 [(0, .ref c9), (1, .ref b)] := hl
  have iT := iv_tN hI
  have iN := iv_sN hI
  have iD := iv_bD hI
  have iId := iv_id hI
  have iE := iv_bE hI
  refine lv_aload_n hx hb dX9_init_0 rfl (lv_at hl 0 rfl) ?_
  refine lv_aload_n hx hb dX9_init_1 rfl (lv_at hl 1 rfl) ?_
  refine va_putF (v := .ref b) (ty := (.object "TrainingDiary$Book")) hx hb hts in_X9 tyX9 tyX9_ok nmX9 hown hK hP hD hS 0 rfl rfl 4 (by decide) (hts _ q649) (fun _ h => h) rfl hnm rfl (by decide +kernel) rfl rfl (Nat.le_of_ble_eq_true rfl) dX9_init_2 (fun H locs (hP : va_P G.1 CL [(c9, .inr (10, [.int (nI 0), .int (nI 0), .int (nI 0), .int (nI 0), .ref b])), (b, .inr (1, [.ref to, .ref so, .ref bo, .ref we, .ref tg, .int (nI (bD B)), .int (nI (bI9 B)), .int (oI (bP B)), .int (nI (bE B)), .int (nI kn), .ref lo, .ref fi, .ref fa])), (lo, .inl (G.2 0, 200, .inl fl)), (fi, .inl (G.2 0, 200, .inl ff)), (fa, .inl (G.2 0, 200, .inl fg))] H) (hD : va_D A [(c9, .inr (10, [.int (nI 0), .int (nI 0), .int (nI 0), .int (nI 0), .ref b])), (b, .inr (1, [.ref to, .ref so, .ref bo, .ref we, .ref tg, .int (nI (bD B)), .int (nI (bI9 B)), .int (oI (bP B)), .int (nI (bE B)), .int (nI kn), .ref lo, .ref fi, .ref fa])), (lo, .inl (G.2 0, 200, .inl fl)), (fi, .inl (G.2 0, 200, .inl ff)), (fa, .inl (G.2 0, 200, .inl fg))]) hS => ?_)
  refine lv_aload_n hx hb dX9_init_5 rfl (lv_at hl 0 rfl) ?_
  refine W.objInit hx hb hown (hts _ q636) (hts _ q89) (hts _ q90) rfl (by rw [hml]; exact hl.1) rfl dX9_init_6 (Nat.le_of_ble_eq_true rfl) (Nat.le_of_ble_eq_true rfl) ?_
  refine W.eq (g2 := F0 m 9 ls []) rfl ?_
  refine lv_aload_n hx hb dX9_init_9 rfl (lv_at hl 1 rfl) ?_
  refine va_getN hx hb hts in_X2 hown hK hP 1 rfl rfl 7 (by decide) (va_Nw.use rfl (hKB.nest q150 rfl)) (fun _ h => h) rfl dX9_init_10 ?_
  obtain ⟨o9, hbp⟩ : ∃ o9, bP B = o9 := ⟨_, rfl⟩
  rcases o9 with _ | d_1418
  · have hcr : crs B = (0, 0, 0, 0) := by unfold crs; rw [hbp]
    refine lv_toi (y := (-1)) (by rw [hbp]; rfl) ?_
    refine lv_istore_n (lv' := [(2, .int (-1)), (0, .ref c9), (1, .ref b)]) hx hb dX9_init_13 rfl hl (by decide) rfl (fun ls hl => ?_)
    refine lv_aload_n hx hb dX9_init_14 rfl (lv_at hl 2 rfl) ?_
    refine va_getN hx hb hts in_X2 hown hK hP 1 rfl rfl 7 (by decide) (va_Nw.use rfl (hKB.nest q150 rfl)) (fun _ h => h) rfl dX9_init_15 ?_
    refine lv_toi (y := (-1)) (by rw [hbp]; rfl) ?_
    refine lv_iconst (v := (-1)) hx hb dX9_init_18 (by decide) ?_
    refine lv_icmp_eq (tgt := 75) hx hb dX9_init_19 (by decide) (fun c_1419 => ?_) (fun c_1419 => absurd rfl c_1419)
    have hP : va_P G.1 CL [(c9, .inr (10, [.int (nI ((crs B).1)), .int (nI ((crs B).2.1)), .int (nI ((crs B).2.2.1)), .int (nI ((crs B).2.2.2)), .ref b])), (b, .inr (1, [.ref to, .ref so, .ref bo, .ref we, .ref tg, .int (nI (bD B)), .int (nI (bI9 B)), .int (oI (bP B)), .int (nI (bE B)), .int (nI kn), .ref lo, .ref fi, .ref fa])), (lo, .inl (G.2 0, 200, .inl fl)), (fi, .inl (G.2 0, 200, .inl ff)), (fa, .inl (G.2 0, 200, .inl fg))] H := by rw [hcr]; exact hP
    have hD : va_D A [(c9, .inr (10, [.int (nI ((crs B).1)), .int (nI ((crs B).2.1)), .int (nI ((crs B).2.2.1)), .int (nI ((crs B).2.2.2)), .ref b])), (b, .inr (1, [.ref to, .ref so, .ref bo, .ref we, .ref tg, .int (nI (bD B)), .int (nI (bI9 B)), .int (oI (bP B)), .int (nI (bE B)), .int (nI kn), .ref lo, .ref fi, .ref fa])), (lo, .inl (G.2 0, 200, .inl fl)), (fi, .inl (G.2 0, 200, .inl ff)), (fa, .inl (G.2 0, 200, .inl fg))] := by rw [hcr]; exact hD
    have hP9 : va_P G.1 CL [(c9, .inr (10, [.int (nI ((crs B).1)), .int (nI ((crs B).2.1)), .int (nI ((crs B).2.2.1)), .int (nI ((crs B).2.2.2)), .ref b])), (b, .inr (1, [.ref to, .ref so, .ref bo, .ref we, .ref tg, .int (nI (bD B)), .int (nI (bI9 B)), .int (oI (bP B)), .int (nI (bE B)), .int (nI kn), .ref lo, .ref fi, .ref fa])), (lo, .inl (G.2 0, 200, .inl fl)), (fi, .inl (G.2 0, 200, .inl ff)), (fa, .inl (G.2 0, 200, .inl fg))] H := hP.sub [0, 1, 2, 3, 4] rfl
    have hD9 : va_D A [(c9, .inr (10, [.int (nI ((crs B).1)), .int (nI ((crs B).2.1)), .int (nI ((crs B).2.2.1)), .int (nI ((crs B).2.2.2)), .ref b])), (b, .inr (1, [.ref to, .ref so, .ref bo, .ref we, .ref tg, .int (nI (bD B)), .int (nI (bI9 B)), .int (oI (bP B)), .int (nI (bE B)), .int (nI kn), .ref lo, .ref fi, .ref fa])), (lo, .inl (G.2 0, 200, .inl fl)), (fi, .inl (G.2 0, 200, .inl ff)), (fa, .inl (G.2 0, 200, .inl fg))] := hD.sub [0, 1, 2, 3, 4] (by decide) rfl
    exact end_v hx hb hr hlk (qc_of (kn, fl, ff, fg) (v := none) (by rfl) (⟨hca, by omega⟩) hP9 hD9 (trivial) hS) hS dX9_init_75 (show 0 ≤ 8200 from by first | exact Nat.le_refl _ | decide | omega) (show 0 ≤ 16400 from by first | exact Nat.le_refl _ | decide | omega)
  · have hd9 := iv_pl hI hbp
    refine lv_ton (n := d_1418) (by rw [hbp]; rfl) ?_
    refine lv_istore_n (lv' := [(2, .int (nI d_1418)), (0, .ref c9), (1, .ref b)]) hx hb dX9_init_13 rfl hl (by decide) rfl (fun ls hl => ?_)
    have hl := lv_sub hl [1, 2, 0] (l' := [(0, .ref c9), (1, .ref b), (2, .int (nI d_1418))]) rfl
    refine lp_W (σ := Nat × Nat × (Nat → Int32) × (Nat → Int32) × (Nat → Int32)) (hpc := 14) (fun x => bD B - d_1418 - x.1) (fun x => 41 * (x.2.1 - kn)) (fun x => 82 * (x.2.1 - kn)) (fun x H locs ls => va_P G.1 CL [(c9, .inr (10, [.int (nI ((crW B d_1418 x.1).1)), .int (nI ((crW B d_1418 x.1).2.1)), .int (nI ((crW B d_1418 x.1).2.2.1)), .int (nI ((crW B d_1418 x.1).2.2.2)), .ref b])), (b, .inr (1, [.ref to, .ref so, .ref bo, .ref we, .ref tg, .int (nI (bD B)), .int (nI (bI9 B)), .int (oI (bP B)), .int (nI (bE B)), .int (nI x.2.1), .ref lo, .ref fi, .ref fa])), (lo, .inl (G.2 0, 200, .inl x.2.2.1)), (fi, .inl (G.2 0, 200, .inl x.2.2.2.1)), (fa, .inl (G.2 0, 200, .inl x.2.2.2.2))] H ∧ va_D A [(c9, .inr (10, [.int (nI ((crW B d_1418 x.1).1)), .int (nI ((crW B d_1418 x.1).2.1)), .int (nI ((crW B d_1418 x.1).2.2.1)), .int (nI ((crW B d_1418 x.1).2.2.2)), .ref b])), (b, .inr (1, [.ref to, .ref so, .ref bo, .ref we, .ref tg, .int (nI (bD B)), .int (nI (bI9 B)), .int (oI (bP B)), .int (nI (bE B)), .int (nI x.2.1), .ref lo, .ref fi, .ref fa])), (lo, .inl (G.2 0, 200, .inl x.2.2.1)), (fi, .inl (G.2 0, 200, .inl x.2.2.2.1)), (fa, .inl (G.2 0, 200, .inl x.2.2.2.2))] ∧ va_S A s.heap H locs ∧ lv_has ls 3 [(0, .ref c9), (1, .ref b), (2, .int (nI (d_1418 + x.1)))] ∧ (x.1 ≤ bD B - d_1418) ∧ (kn ≤ x.2.1 ∧ x.2.1 ≤ 200) ∧ (Cache B x.2.1 x.2.2.1 x.2.2.2.1 x.2.2.2.2)) ?_ (0, kn, fl, ff, fg) ⟨(show va_P G.1 CL [(c9, .inr (10, [.int (nI ((crW B d_1418 0).1)), .int (nI ((crW B d_1418 0).2.1)), .int (nI ((crW B d_1418 0).2.2.1)), .int (nI ((crW B d_1418 0).2.2.2)), .ref b])), (b, .inr (1, [.ref to, .ref so, .ref bo, .ref we, .ref tg, .int (nI (bD B)), .int (nI (bI9 B)), .int (oI (bP B)), .int (nI (bE B)), .int (nI kn), .ref lo, .ref fi, .ref fa])), (lo, .inl (G.2 0, 200, .inl fl)), (fi, .inl (G.2 0, 200, .inl ff)), (fa, .inl (G.2 0, 200, .inl fg))] H from hP), (show va_D A [(c9, .inr (10, [.int (nI ((crW B d_1418 0).1)), .int (nI ((crW B d_1418 0).2.1)), .int (nI ((crW B d_1418 0).2.2.1)), .int (nI ((crW B d_1418 0).2.2.2)), .ref b])), (b, .inr (1, [.ref to, .ref so, .ref bo, .ref we, .ref tg, .int (nI (bD B)), .int (nI (bI9 B)), .int (oI (bP B)), .int (nI (bE B)), .int (nI kn), .ref lo, .ref fi, .ref fa])), (lo, .inl (G.2 0, 200, .inl fl)), (fi, .inl (G.2 0, 200, .inl ff)), (fa, .inl (G.2 0, 200, .inl fg))] from hD), hS, hl, (show 0 ≤ bD B - d_1418 from by omega), (show kn ≤ kn ∧ kn ≤ 200 from by omega), (show Cache B kn fl ff fg from hca)⟩ (show 0 ≤ 41 * (kn - kn) from by first | exact Nat.le_refl _ | omega) (show 0 ≤ 82 * (kn - kn) from by first | exact Nat.le_refl _ | omega)
    intro x H locs ls hI9 ih14
    obtain ⟨i_1423, k9_1424, l1_1425, l2_1426, l3_1427⟩ := x
    obtain ⟨hP, hD, hS, hl, hp_1420, hp_1421, hp_1422⟩ := hI9
    have hP : va_P G.1 CL [(c9, .inr (10, [.int (nI ((crW B d_1418 i_1423).1)), .int (nI ((crW B d_1418 i_1423).2.1)), .int (nI ((crW B d_1418 i_1423).2.2.1)), .int (nI ((crW B d_1418 i_1423).2.2.2)), .ref b])), (b, .inr (1, [.ref to, .ref so, .ref bo, .ref we, .ref tg, .int (nI (bD B)), .int (nI (bI9 B)), .int (oI (bP B)), .int (nI (bE B)), .int (nI k9_1424), .ref lo, .ref fi, .ref fa])), (lo, .inl (G.2 0, 200, .inl l1_1425)), (fi, .inl (G.2 0, 200, .inl l2_1426)), (fa, .inl (G.2 0, 200, .inl l3_1427))] H := hP
    have hD : va_D A [(c9, .inr (10, [.int (nI ((crW B d_1418 i_1423).1)), .int (nI ((crW B d_1418 i_1423).2.1)), .int (nI ((crW B d_1418 i_1423).2.2.1)), .int (nI ((crW B d_1418 i_1423).2.2.2)), .ref b])), (b, .inr (1, [.ref to, .ref so, .ref bo, .ref we, .ref tg, .int (nI (bD B)), .int (nI (bI9 B)), .int (oI (bP B)), .int (nI (bE B)), .int (nI k9_1424), .ref lo, .ref fi, .ref fa])), (lo, .inl (G.2 0, 200, .inl l1_1425)), (fi, .inl (G.2 0, 200, .inl l2_1426)), (fa, .inl (G.2 0, 200, .inl l3_1427))] := hD
    have hl : lv_has ls 3 [(0, .ref c9), (1, .ref b), (2, .int (nI (d_1418 + i_1423)))] := hl
    have hp_1420 : i_1423 ≤ bD B - d_1418 := hp_1420
    have hp_1421 : kn ≤ k9_1424 ∧ k9_1424 ≤ 200 := hp_1421
    have hp_1422 : Cache B k9_1424 l1_1425 l2_1426 l3_1427 := hp_1422
    refine W.widen (k := 41 * (k9_1424 - kn)) (n := 82 * (k9_1424 - kn)) (Nat.le_refl _) (Nat.le_refl _) ?_
    obtain ⟨hc1, hc2, hc3, hc4⟩ := crW_ok B d_1418 i_1423
    have hdl := loadD_le hI (d_1418 + i_1423)
    refine lv_aload_n hx hb dX9_init_14 rfl (lv_at hl 1 rfl) ?_
    refine va_getN hx hb hts in_X2 hown hK hP 1 rfl rfl 7 (by decide) (va_Nw.use rfl (hKB.nest q150 rfl)) (fun _ h => h) rfl dX9_init_15 ?_
    refine lv_ton (n := d_1418) (by rw [hbp]; rfl) ?_
    refine lv_iconst (v := (-1)) hx hb dX9_init_18 (by decide) ?_
    refine lv_icmp_eq (tgt := 75) hx hb dX9_init_19 (by decide) (fun c_1428 => absurd c_1428 (nI_m1 (by omega))) (fun c_1428 => ?_)
    refine lv_iload_n hx hb dX9_init_22 rfl (lv_at hl 2 rfl) ?_
    refine lv_aload_n hx hb dX9_init_23 rfl (lv_at hl 1 rfl) ?_
    refine va_getN hx hb hts in_X2 hown hK hP 1 rfl rfl 5 (by decide) (va_Nw.use rfl (hKB.nest q146 rfl)) (fun _ h => h) rfl dX9_init_24 ?_
    refine n_icmp_ge (tgt := 75) hx hb (by omega) (by omega) dX9_init_27 (by decide) (fun c_1430 => ?_) (fun c_1430 => ?_)
    · have hcr : crs B = crW B d_1418 i_1423 := by
        unfold crs
        rw [hbp]
        dsimp only
        first | rw [show bD B - d_1418 = i_1423 from by omega] | (rw [show bD B - d_1418 = i_1423 + (bD B - d_1418 - i_1423) from by omega]; exact crW_stop (by omega) _)
      have hP : va_P G.1 CL [(c9, .inr (10, [.int (nI ((crs B).1)), .int (nI ((crs B).2.1)), .int (nI ((crs B).2.2.1)), .int (nI ((crs B).2.2.2)), .ref b])), (b, .inr (1, [.ref to, .ref so, .ref bo, .ref we, .ref tg, .int (nI (bD B)), .int (nI (bI9 B)), .int (oI (bP B)), .int (nI (bE B)), .int (nI k9_1424), .ref lo, .ref fi, .ref fa])), (lo, .inl (G.2 0, 200, .inl l1_1425)), (fi, .inl (G.2 0, 200, .inl l2_1426)), (fa, .inl (G.2 0, 200, .inl l3_1427))] H := by rw [hcr]; exact hP
      have hD : va_D A [(c9, .inr (10, [.int (nI ((crs B).1)), .int (nI ((crs B).2.1)), .int (nI ((crs B).2.2.1)), .int (nI ((crs B).2.2.2)), .ref b])), (b, .inr (1, [.ref to, .ref so, .ref bo, .ref we, .ref tg, .int (nI (bD B)), .int (nI (bI9 B)), .int (oI (bP B)), .int (nI (bE B)), .int (nI k9_1424), .ref lo, .ref fi, .ref fa])), (lo, .inl (G.2 0, 200, .inl l1_1425)), (fi, .inl (G.2 0, 200, .inl l2_1426)), (fa, .inl (G.2 0, 200, .inl l3_1427))] := by rw [hcr]; exact hD
      have hP9 : va_P G.1 CL [(c9, .inr (10, [.int (nI ((crs B).1)), .int (nI ((crs B).2.1)), .int (nI ((crs B).2.2.1)), .int (nI ((crs B).2.2.2)), .ref b])), (b, .inr (1, [.ref to, .ref so, .ref bo, .ref we, .ref tg, .int (nI (bD B)), .int (nI (bI9 B)), .int (oI (bP B)), .int (nI (bE B)), .int (nI k9_1424), .ref lo, .ref fi, .ref fa])), (lo, .inl (G.2 0, 200, .inl l1_1425)), (fi, .inl (G.2 0, 200, .inl l2_1426)), (fa, .inl (G.2 0, 200, .inl l3_1427))] H := hP.sub [0, 1, 2, 3, 4] rfl
      have hD9 : va_D A [(c9, .inr (10, [.int (nI ((crs B).1)), .int (nI ((crs B).2.1)), .int (nI ((crs B).2.2.1)), .int (nI ((crs B).2.2.2)), .ref b])), (b, .inr (1, [.ref to, .ref so, .ref bo, .ref we, .ref tg, .int (nI (bD B)), .int (nI (bI9 B)), .int (oI (bP B)), .int (nI (bE B)), .int (nI k9_1424), .ref lo, .ref fi, .ref fa])), (lo, .inl (G.2 0, 200, .inl l1_1425)), (fi, .inl (G.2 0, 200, .inl l2_1426)), (fa, .inl (G.2 0, 200, .inl l3_1427))] := hD.sub [0, 1, 2, 3, 4] (by decide) rfl
      exact end_v hx hb hr hlk (qc_of (k9_1424, l1_1425, l2_1426, l3_1427) (v := none) (by rfl) (⟨hp_1422, by omega⟩) hP9 hD9 (trivial) hS) hS dX9_init_75 (show 41 * (k9_1424 - kn) ≤ 8200 from by first | exact Nat.le_refl _ | decide | omega) (show 82 * (k9_1424 - kn) ≤ 16400 from by first | exact Nat.le_refl _ | decide | omega)
    · refine lv_aload_n hx hb dX9_init_30 rfl (lv_at hl 0 rfl) ?_
      refine va_get hx hb hts in_X9 hown hK hP 0 rfl rfl 0 (by decide) (hts _ q642) (fun _ h => h) rfl dX9_init_31 ?_
      refine lv_aload_n hx hb dX9_init_34 rfl (lv_at hl 1 rfl) ?_
      refine va_getN hx hb hts in_X2 hown hK hP 1 rfl rfl 8 (by decide) (va_Nw.use rfl (hKB.nest q153 rfl)) (fun _ h => h) rfl dX9_init_35 ?_
      refine n_icmp_ge (tgt := 75) hx hb (by omega) (by omega) dX9_init_38 (by decide) (fun c_1432 => ?_) (fun c_1432 => ?_)
      · have hcr : crs B = crW B d_1418 i_1423 := by
          unfold crs
          rw [hbp]
          dsimp only
          first | rw [show bD B - d_1418 = i_1423 from by omega] | (rw [show bD B - d_1418 = i_1423 + (bD B - d_1418 - i_1423) from by omega]; exact crW_stop (by omega) _)
        have hP : va_P G.1 CL [(c9, .inr (10, [.int (nI ((crs B).1)), .int (nI ((crs B).2.1)), .int (nI ((crs B).2.2.1)), .int (nI ((crs B).2.2.2)), .ref b])), (b, .inr (1, [.ref to, .ref so, .ref bo, .ref we, .ref tg, .int (nI (bD B)), .int (nI (bI9 B)), .int (oI (bP B)), .int (nI (bE B)), .int (nI k9_1424), .ref lo, .ref fi, .ref fa])), (lo, .inl (G.2 0, 200, .inl l1_1425)), (fi, .inl (G.2 0, 200, .inl l2_1426)), (fa, .inl (G.2 0, 200, .inl l3_1427))] H := by rw [hcr]; exact hP
        have hD : va_D A [(c9, .inr (10, [.int (nI ((crs B).1)), .int (nI ((crs B).2.1)), .int (nI ((crs B).2.2.1)), .int (nI ((crs B).2.2.2)), .ref b])), (b, .inr (1, [.ref to, .ref so, .ref bo, .ref we, .ref tg, .int (nI (bD B)), .int (nI (bI9 B)), .int (oI (bP B)), .int (nI (bE B)), .int (nI k9_1424), .ref lo, .ref fi, .ref fa])), (lo, .inl (G.2 0, 200, .inl l1_1425)), (fi, .inl (G.2 0, 200, .inl l2_1426)), (fa, .inl (G.2 0, 200, .inl l3_1427))] := by rw [hcr]; exact hD
        have hP9 : va_P G.1 CL [(c9, .inr (10, [.int (nI ((crs B).1)), .int (nI ((crs B).2.1)), .int (nI ((crs B).2.2.1)), .int (nI ((crs B).2.2.2)), .ref b])), (b, .inr (1, [.ref to, .ref so, .ref bo, .ref we, .ref tg, .int (nI (bD B)), .int (nI (bI9 B)), .int (oI (bP B)), .int (nI (bE B)), .int (nI k9_1424), .ref lo, .ref fi, .ref fa])), (lo, .inl (G.2 0, 200, .inl l1_1425)), (fi, .inl (G.2 0, 200, .inl l2_1426)), (fa, .inl (G.2 0, 200, .inl l3_1427))] H := hP.sub [0, 1, 2, 3, 4] rfl
        have hD9 : va_D A [(c9, .inr (10, [.int (nI ((crs B).1)), .int (nI ((crs B).2.1)), .int (nI ((crs B).2.2.1)), .int (nI ((crs B).2.2.2)), .ref b])), (b, .inr (1, [.ref to, .ref so, .ref bo, .ref we, .ref tg, .int (nI (bD B)), .int (nI (bI9 B)), .int (oI (bP B)), .int (nI (bE B)), .int (nI k9_1424), .ref lo, .ref fi, .ref fa])), (lo, .inl (G.2 0, 200, .inl l1_1425)), (fi, .inl (G.2 0, 200, .inl l2_1426)), (fa, .inl (G.2 0, 200, .inl l3_1427))] := hD.sub [0, 1, 2, 3, 4] (by decide) rfl
        exact end_v hx hb hr hlk (qc_of (k9_1424, l1_1425, l2_1426, l3_1427) (v := none) (by rfl) (⟨hp_1422, by omega⟩) hP9 hD9 (trivial) hS) hS dX9_init_75 (show 41 * (k9_1424 - kn) ≤ 8200 from by first | exact Nat.le_refl _ | decide | omega) (show 82 * (k9_1424 - kn) ≤ 16400 from by first | exact Nat.le_refl _ | decide | omega)
      · refine lv_aload_n hx hb dX9_init_41 rfl (lv_at hl 0 rfl) ?_
        refine lv_iconst (v := nI 2) hx hb dX9_init_42 (by decide) ?_
        refine lv_aload_n hx hb dX9_init_43 rfl (lv_at hl 1 rfl) ?_
        refine lv_iload_n hx hb dX9_init_44 rfl (lv_at hl 2 rfl) ?_
        have hg9 := iv_bG hI (j := (crW B d_1418 i_1423).1) (by omega)
        have hF := hF_of (wc := [(b, .inr (1, [.ref to, .ref so, .ref bo, .ref we, .ref tg, .int (nI (bD B)), .int (nI (bI9 B)), .int (oI (bP B)), .int (nI (bE B)), .int (nI k9_1424), .ref lo, .ref fi, .ref fa])), (lo, .inl (G.2 0, 200, .inl l1_1425)), (fi, .inl (G.2 0, 200, .inl l2_1426)), (fa, .inl (G.2 0, 200, .inl l3_1427))]) hD hS hA [1, 2, 3, 4] rfl
        have hro_1433 : roW G (va_A [(b, .inr (1, [.ref to, .ref so, .ref bo, .ref we, .ref tg, .int (nI (bD B)), .int (nI (bI9 B)), .int (oI (bP B)), .int (nI (bE B)), .int (nI k9_1424), .ref lo, .ref fi, .ref fa])), (lo, .inl (G.2 0, 200, .inl l1_1425)), (fi, .inl (G.2 0, 200, .inl l2_1426)), (fa, .inl (G.2 0, 200, .inl l3_1427))] H.size) H [(to, .inr (2, [.ref ta])), (ta, .inr (3, [.int tm, .ref te, .int (nI (tN B))])), (te, .inl (G.2 3, tcap, .inr (.inr (.inr (.inr tf))))), (so, .inr (2, [.ref sa])), (sa, .inr (3, [.int sm, .ref se, .int (nI (sN B))])), (se, .inl (G.2 3, scap, .inr (.inr (.inr (.inr sf))))), (bo, .inl (G.2 0, 6, .inl fb)), (we, .inl (G.2 0, 6, .inl fw))] := ((hR0.kp hF hS.2.1).sub (ws' := [(to, .inr (2, [.ref ta])), (ta, .inr (3, [.int tm, .ref te, .int (nI (tN B))])), (te, .inl (G.2 3, tcap, .inr (.inr (.inr (.inr tf))))), (so, .inr (2, [.ref sa])), (sa, .inr (3, [.int sm, .ref se, .int (nI (sN B))])), (se, .inl (G.2 3, scap, .inr (.inr (.inr (.inr sf))))), (bo, .inl (G.2 0, 6, .inl fb)), (we, .inl (G.2 0, 6, .inl fw))]) [0, 1, 2, 3, 4, 5, 6, 7] rfl)
        refine go_ct hS hP hD [1, 2, 3, 4] [0] hF rfl rfl (by decide) (by decide)
            (va_runV (As := [.int (nI (d_1418 + i_1423))]) (rest := [.int (nI 2), .ref c9]) cf (mX2_loadOn l G b to so bo we tg lo fi fa k9_1424 B ta tm te tcap tf ga sa sm se scap sf gs Wi fb fw l1_1425 l2_1426 l3_1427 (d_1418 + i_1423) (show Inv B from by first | assumption | omega) (show tN B ≤ tcap ∧ tcap ≤ 60 from by first | assumption | omega) (show ∀ j, j < tN B → tf j = some (ga j) ∧ TestIn Wi (ga j) (tDay B j) (tThr B j) from by first | assumption | omega) (show SrtT B from by first | assumption | omega) (show ∀ z, 2 ≤ z → z ≤ 5 → fb z = nI (bB B z) from by first | assumption | omega) (show ∀ z, 1 ≤ z → z ≤ 5 → fw z = nI (bW B z) from by first | assumption | omega) (show sN B ≤ scap ∧ scap ≤ 60 from by first | assumption | omega) (show ∀ j, j < sN B → sf j = some (gs j) ∧ SesIn G Wi (gs j) (sAt B j) from by first | assumption | omega) (show SrtS B from by first | assumption | omega) (show k9_1424 ≤ 200 from by first | assumption | omega) (hp_1422) (show (d_1418 + i_1423) < 200 from by first | assumption | omega) H.size) (cwV 1 hts (lw_V q637 q276 q277 q48 q278) rfl rfl rfl (by decide +kernel) ⟨Nat.le_of_ble_eq_true rfl, Nat.le_of_ble_eq_true rfl⟩) (preV_of hKB hE hS hF (va_recv hK hP (ci := 1) (q0 := 1) rfl rfl) (va_P.sub hP [1, 2, 3, 4] rfl) ((va_D.sub hD [1, 2, 3, 4] (by decide) rfl).weaken (fun _ _ _ _ => trivial)) ⟨hro_1433, (hR1.kp hF hS.2.1)⟩) rfl rfl hl.1 rfl (lv_room (Nat.le_of_ble_eq_true rfl)) dX9_init_45 ⟨show 41 * (k9_1424 - kn) + (41 * ((max k9_1424 ((d_1418 + i_1423) + 1)) - k9_1424)) ≤ 8200 from by first | decide | omega, show 82 * (k9_1424 - kn) + (82 * ((max k9_1424 ((d_1418 + i_1423) + 1)) - k9_1424)) ≤ 16400 from by first | decide | omega⟩)
            (fun u_ H locs hq hph (hP : va_P G.1 CL [(c9, .inr (10, [.int (nI ((crW B d_1418 i_1423).1)), .int (nI ((crW B d_1418 i_1423).2.1)), .int (nI ((crW B d_1418 i_1423).2.2.1)), .int (nI ((crW B d_1418 i_1423).2.2.2)), .ref b])), (b, .inr (1, [.ref to, .ref so, .ref bo, .ref we, .ref tg, .int (nI (bD B)), .int (nI (bI9 B)), .int (oI (bP B)), .int (nI (bE B)), .int (nI (max k9_1424 ((d_1418 + i_1423) + 1))), .ref lo, .ref fi, .ref fa])), (lo, .inl (G.2 0, 200, .inl u_.1)), (fi, .inl (G.2 0, 200, .inl u_.2.1)), (fa, .inl (G.2 0, 200, .inl u_.2.2))] H) (hD : va_D A [(c9, .inr (10, [.int (nI ((crW B d_1418 i_1423).1)), .int (nI ((crW B d_1418 i_1423).2.1)), .int (nI ((crW B d_1418 i_1423).2.2.1)), .int (nI ((crW B d_1418 i_1423).2.2.2)), .ref b])), (b, .inr (1, [.ref to, .ref so, .ref bo, .ref we, .ref tg, .int (nI (bD B)), .int (nI (bI9 B)), .int (oI (bP B)), .int (nI (bE B)), .int (nI (max k9_1424 ((d_1418 + i_1423) + 1))), .ref lo, .ref fi, .ref fa])), (lo, .inl (G.2 0, 200, .inl u_.1)), (fi, .inl (G.2 0, 200, .inl u_.2.1)), (fa, .inl (G.2 0, 200, .inl u_.2.2))]) hS hfz hfk => ?_)
        obtain ⟨fl2_1434, ff2_1435, fg2_1436⟩ := u_
        have hP : va_P G.1 CL [(c9, .inr (10, [.int (nI ((crW B d_1418 i_1423).1)), .int (nI ((crW B d_1418 i_1423).2.1)), .int (nI ((crW B d_1418 i_1423).2.2.1)), .int (nI ((crW B d_1418 i_1423).2.2.2)), .ref b])), (b, .inr (1, [.ref to, .ref so, .ref bo, .ref we, .ref tg, .int (nI (bD B)), .int (nI (bI9 B)), .int (oI (bP B)), .int (nI (bE B)), .int (nI (max k9_1424 ((d_1418 + i_1423) + 1))), .ref lo, .ref fi, .ref fa])), (lo, .inl (G.2 0, 200, .inl fl2_1434)), (fi, .inl (G.2 0, 200, .inl ff2_1435)), (fa, .inl (G.2 0, 200, .inl fg2_1436))] H := hP
        have hD : va_D A [(c9, .inr (10, [.int (nI ((crW B d_1418 i_1423).1)), .int (nI ((crW B d_1418 i_1423).2.1)), .int (nI ((crW B d_1418 i_1423).2.2.1)), .int (nI ((crW B d_1418 i_1423).2.2.2)), .ref b])), (b, .inr (1, [.ref to, .ref so, .ref bo, .ref we, .ref tg, .int (nI (bD B)), .int (nI (bI9 B)), .int (oI (bP B)), .int (nI (bE B)), .int (nI (max k9_1424 ((d_1418 + i_1423) + 1))), .ref lo, .ref fi, .ref fa])), (lo, .inl (G.2 0, 200, .inl fl2_1434)), (fi, .inl (G.2 0, 200, .inl ff2_1435)), (fa, .inl (G.2 0, 200, .inl fg2_1436))] := hD
        have hq_1437 : Cache B (max k9_1424 ((d_1418 + i_1423) + 1)) fl2_1434 ff2_1435 fg2_1436 := hq
        refine W.eq (g2 := F0 m 48 ls [.int (nI (loadD B (d_1418 + i_1423))), .int (nI 2), .ref c9]) rfl ?_
        have hk8 : k9_1424 ≤ (max k9_1424 (d_1418 + i_1423 + 1)) ∧ (max k9_1424 (d_1418 + i_1423 + 1)) ≤ 200 := by omega
        refine lv_imul hx hb dX9_init_48 ?_
        refine lv_ton (n := 2 * (loadD B (d_1418 + i_1423))) (nmul (by omega)) ?_
        refine lv_aload_n hx hb dX9_init_49 rfl (lv_at hl 1 rfl) ?_
        refine va_getN hx hb hts in_X2 hown hK hP 1 rfl rfl 4 (by decide) (va_Nw.use rfl (hKB.nest q143 rfl)) (fun _ h => h) rfl dX9_init_50 ?_
        refine lv_aload_n hx hb dX9_init_53 rfl (lv_at hl 0 rfl) ?_
        refine va_get hx hb hts in_X9 hown hK hP 0 rfl rfl 0 (by decide) (hts _ q642) (fun _ h => h) rfl dX9_init_54 ?_
        refine r_iald (v := nI (bG B (((crW B d_1418 i_1423).1)))) hx hb hK (hR0.w hS) 8 0 rfl rfl (i := ((crW B d_1418 i_1423).1)) (by omega) (by omega) (hft _ (by omega)) dX9_init_57 ?_
        refine n_icmp_ge (tgt := 65) hx hb (by omega) (by omega) dX9_init_58 (by decide) (fun c_1439 => ?_) (fun c_1439 => ?_)
        · refine lv_iconst (v := nI 0) hx hb dX9_init_65 (by decide) ?_
          have hF := hF_of (wc := [(c9, .inr (10, [.int (nI ((crW B d_1418 i_1423).1)), .int (nI ((crW B d_1418 i_1423).2.1)), .int (nI ((crW B d_1418 i_1423).2.2.1)), .int (nI ((crW B d_1418 i_1423).2.2.2)), .ref b]))]) hD hS hA [0] rfl
          refine go_ct hS hP hD [0] [1, 2, 3, 4] hF rfl rfl (by decide) (by decide)
              (va_runV (As := [.int (nI 0)]) (rest := []) cf (mX9_step_0 l G c9 b (crW B d_1418 i_1423) (show (crW B d_1418 i_1423).2.2.2 < 3 from by first | assumption | omega) H.size) (cwV 1 hts (lw_V q638 q640 qs9 q81 q641) rfl rfl rfl (by decide +kernel) ⟨Nat.le_of_ble_eq_true rfl, Nat.le_of_ble_eq_true rfl⟩) (preV_of hKB hE hS hF (va_recv hK hP (ci := 10) (q0 := 0) rfl rfl) (va_P.sub hP [0] rfl) ((va_D.sub hD [0] (by decide) rfl).weaken (fun _ _ _ _ => trivial)) trivial) rfl rfl hl.1 rfl (lv_room (Nat.le_of_ble_eq_true rfl)) dX9_init_66 ⟨show 41 * (k9_1424 - kn) + (41 * ((max k9_1424 ((d_1418 + i_1423) + 1)) - k9_1424)) + 0 ≤ 8200 from by first | decide | omega, show 82 * (k9_1424 - kn) + (82 * ((max k9_1424 ((d_1418 + i_1423) + 1)) - k9_1424)) + 0 ≤ 16400 from by first | decide | omega⟩)
              (fun u_ H locs hq hph (hP : va_P G.1 CL [(b, .inr (1, [.ref to, .ref so, .ref bo, .ref we, .ref tg, .int (nI (bD B)), .int (nI (bI9 B)), .int (oI (bP B)), .int (nI (bE B)), .int (nI (max k9_1424 ((d_1418 + i_1423) + 1))), .ref lo, .ref fi, .ref fa])), (lo, .inl (G.2 0, 200, .inl fl2_1434)), (fi, .inl (G.2 0, 200, .inl ff2_1435)), (fa, .inl (G.2 0, 200, .inl fg2_1436)), (c9, .inr (10, [.int (nI ((stepC 0 (crW B d_1418 i_1423)).1)), .int (nI ((stepC 0 (crW B d_1418 i_1423)).2.1)), .int (nI ((stepC 0 (crW B d_1418 i_1423)).2.2.1)), .int (nI ((stepC 0 (crW B d_1418 i_1423)).2.2.2)), .ref b]))] H) (hD : va_D A [(b, .inr (1, [.ref to, .ref so, .ref bo, .ref we, .ref tg, .int (nI (bD B)), .int (nI (bI9 B)), .int (oI (bP B)), .int (nI (bE B)), .int (nI (max k9_1424 ((d_1418 + i_1423) + 1))), .ref lo, .ref fi, .ref fa])), (lo, .inl (G.2 0, 200, .inl fl2_1434)), (fi, .inl (G.2 0, 200, .inl ff2_1435)), (fa, .inl (G.2 0, 200, .inl fg2_1436)), (c9, .inr (10, [.int (nI ((stepC 0 (crW B d_1418 i_1423)).1)), .int (nI ((stepC 0 (crW B d_1418 i_1423)).2.1)), .int (nI ((stepC 0 (crW B d_1418 i_1423)).2.2.1)), .int (nI ((stepC 0 (crW B d_1418 i_1423)).2.2.2)), .ref b]))]) hS hfz hfk => ?_)
          refine W.eq (g2 := F0 m 69 ls []) rfl ?_
          have hj : crW B d_1418 (i_1423 + 1) = stepC 0 (crW B d_1418 i_1423) := crS_0 (by omega) (by omega)
          have hP : va_P G.1 CL [(b, .inr (1, [.ref to, .ref so, .ref bo, .ref we, .ref tg, .int (nI (bD B)), .int (nI (bI9 B)), .int (oI (bP B)), .int (nI (bE B)), .int (nI (max k9_1424 ((d_1418 + i_1423) + 1))), .ref lo, .ref fi, .ref fa])), (lo, .inl (G.2 0, 200, .inl fl2_1434)), (fi, .inl (G.2 0, 200, .inl ff2_1435)), (fa, .inl (G.2 0, 200, .inl fg2_1436)), (c9, .inr (10, [.int (nI ((crW B d_1418 (i_1423 + 1)).1)), .int (nI ((crW B d_1418 (i_1423 + 1)).2.1)), .int (nI ((crW B d_1418 (i_1423 + 1)).2.2.1)), .int (nI ((crW B d_1418 (i_1423 + 1)).2.2.2)), .ref b]))] H := by rw [hj]; exact hP
          have hD : va_D A [(b, .inr (1, [.ref to, .ref so, .ref bo, .ref we, .ref tg, .int (nI (bD B)), .int (nI (bI9 B)), .int (oI (bP B)), .int (nI (bE B)), .int (nI (max k9_1424 ((d_1418 + i_1423) + 1))), .ref lo, .ref fi, .ref fa])), (lo, .inl (G.2 0, 200, .inl fl2_1434)), (fi, .inl (G.2 0, 200, .inl ff2_1435)), (fa, .inl (G.2 0, 200, .inl fg2_1436)), (c9, .inr (10, [.int (nI ((crW B d_1418 (i_1423 + 1)).1)), .int (nI ((crW B d_1418 (i_1423 + 1)).2.1)), .int (nI ((crW B d_1418 (i_1423 + 1)).2.2.1)), .int (nI ((crW B d_1418 (i_1423 + 1)).2.2.2)), .ref b]))] := by rw [hj]; exact hD
          refine lv_iinc (v := nI (d_1418 + i_1423 + 1)) (lv' := [(2, .int (nI (d_1418 + i_1423 + 1))), (0, .ref c9), (1, .ref b)]) hx hb dX9_init_69 hl (k := 2) rfl (ninc (b := 1) (by decide) (by omega)) (by decide) rfl (fun ls hl => ?_)
          refine lv_goto (tgt := 14) hx hb dX9_init_72 (by decide) ?_
          have hP : va_P G.1 CL [(c9, .inr (10, [.int (nI ((crW B d_1418 (i_1423 + 1)).1)), .int (nI ((crW B d_1418 (i_1423 + 1)).2.1)), .int (nI ((crW B d_1418 (i_1423 + 1)).2.2.1)), .int (nI ((crW B d_1418 (i_1423 + 1)).2.2.2)), .ref b])), (b, .inr (1, [.ref to, .ref so, .ref bo, .ref we, .ref tg, .int (nI (bD B)), .int (nI (bI9 B)), .int (oI (bP B)), .int (nI (bE B)), .int (nI (max k9_1424 (d_1418 + i_1423 + 1))), .ref lo, .ref fi, .ref fa])), (lo, .inl (G.2 0, 200, .inl fl2_1434)), (fi, .inl (G.2 0, 200, .inl ff2_1435)), (fa, .inl (G.2 0, 200, .inl fg2_1436))] H := hP.sub [4, 0, 1, 2, 3] rfl
          have hD : va_D A [(c9, .inr (10, [.int (nI ((crW B d_1418 (i_1423 + 1)).1)), .int (nI ((crW B d_1418 (i_1423 + 1)).2.1)), .int (nI ((crW B d_1418 (i_1423 + 1)).2.2.1)), .int (nI ((crW B d_1418 (i_1423 + 1)).2.2.2)), .ref b])), (b, .inr (1, [.ref to, .ref so, .ref bo, .ref we, .ref tg, .int (nI (bD B)), .int (nI (bI9 B)), .int (oI (bP B)), .int (nI (bE B)), .int (nI (max k9_1424 (d_1418 + i_1423 + 1))), .ref lo, .ref fi, .ref fa])), (lo, .inl (G.2 0, 200, .inl fl2_1434)), (fi, .inl (G.2 0, 200, .inl ff2_1435)), (fa, .inl (G.2 0, 200, .inl fg2_1436))] := hD.sub [4, 0, 1, 2, 3] (by decide) rfl
          have hl := lv_sub hl [1, 2, 0] (l' := [(0, .ref c9), (1, .ref b), (2, .int (nI (d_1418 + i_1423 + 1)))]) rfl
          exact W.widen (show 41 * (k9_1424 - kn) + (41 * ((max k9_1424 ((d_1418 + i_1423) + 1)) - k9_1424)) ≤ 41 * ((max k9_1424 (d_1418 + i_1423 + 1)) - kn) from by first | exact Nat.le_refl _ | omega) (show 82 * (k9_1424 - kn) + (82 * ((max k9_1424 ((d_1418 + i_1423) + 1)) - k9_1424)) ≤ 82 * ((max k9_1424 (d_1418 + i_1423 + 1)) - kn) from by first | exact Nat.le_refl _ | omega) (ih14 ((i_1423 + 1), (max k9_1424 (d_1418 + i_1423 + 1)), fl2_1434, ff2_1435, fg2_1436) H locs ls ⟨hP, hD, hS, hl, (show (i_1423 + 1) ≤ bD B - d_1418 from by omega), (show kn ≤ (max k9_1424 (d_1418 + i_1423 + 1)) ∧ (max k9_1424 (d_1418 + i_1423 + 1)) ≤ 200 from by omega), (show Cache B (max k9_1424 (d_1418 + i_1423 + 1)) fl2_1434 ff2_1435 fg2_1436 from hq_1437)⟩ (show bD B - d_1418 - (i_1423 + 1) < bD B - d_1418 - i_1423 from by omega))
        · refine lv_iconst (v := nI 1) hx hb dX9_init_61 (by decide) ?_
          refine lv_goto (tgt := 66) hx hb dX9_init_62 (by decide) ?_
          have hF := hF_of (wc := [(c9, .inr (10, [.int (nI ((crW B d_1418 i_1423).1)), .int (nI ((crW B d_1418 i_1423).2.1)), .int (nI ((crW B d_1418 i_1423).2.2.1)), .int (nI ((crW B d_1418 i_1423).2.2.2)), .ref b]))]) hD hS hA [0] rfl
          refine go_ct hS hP hD [0] [1, 2, 3, 4] hF rfl rfl (by decide) (by decide)
              (va_runV (As := [.int (nI 1)]) (rest := []) cf (mX9_step_1 l G c9 b (crW B d_1418 i_1423) (show (crW B d_1418 i_1423).2.2.2 < 3 from by first | assumption | omega) H.size) (cwV 1 hts (lw_V q638 q640 qs9 q81 q641) rfl rfl rfl (by decide +kernel) ⟨Nat.le_of_ble_eq_true rfl, Nat.le_of_ble_eq_true rfl⟩) (preV_of hKB hE hS hF (va_recv hK hP (ci := 10) (q0 := 0) rfl rfl) (va_P.sub hP [0] rfl) ((va_D.sub hD [0] (by decide) rfl).weaken (fun _ _ _ _ => trivial)) trivial) rfl rfl hl.1 rfl (lv_room (Nat.le_of_ble_eq_true rfl)) dX9_init_66 ⟨show 41 * (k9_1424 - kn) + (41 * ((max k9_1424 ((d_1418 + i_1423) + 1)) - k9_1424)) + 0 ≤ 8200 from by first | decide | omega, show 82 * (k9_1424 - kn) + (82 * ((max k9_1424 ((d_1418 + i_1423) + 1)) - k9_1424)) + 0 ≤ 16400 from by first | decide | omega⟩)
              (fun u_ H locs hq hph (hP : va_P G.1 CL [(b, .inr (1, [.ref to, .ref so, .ref bo, .ref we, .ref tg, .int (nI (bD B)), .int (nI (bI9 B)), .int (oI (bP B)), .int (nI (bE B)), .int (nI (max k9_1424 ((d_1418 + i_1423) + 1))), .ref lo, .ref fi, .ref fa])), (lo, .inl (G.2 0, 200, .inl fl2_1434)), (fi, .inl (G.2 0, 200, .inl ff2_1435)), (fa, .inl (G.2 0, 200, .inl fg2_1436)), (c9, .inr (10, [.int (nI ((stepC 1 (crW B d_1418 i_1423)).1)), .int (nI ((stepC 1 (crW B d_1418 i_1423)).2.1)), .int (nI ((stepC 1 (crW B d_1418 i_1423)).2.2.1)), .int (nI ((stepC 1 (crW B d_1418 i_1423)).2.2.2)), .ref b]))] H) (hD : va_D A [(b, .inr (1, [.ref to, .ref so, .ref bo, .ref we, .ref tg, .int (nI (bD B)), .int (nI (bI9 B)), .int (oI (bP B)), .int (nI (bE B)), .int (nI (max k9_1424 ((d_1418 + i_1423) + 1))), .ref lo, .ref fi, .ref fa])), (lo, .inl (G.2 0, 200, .inl fl2_1434)), (fi, .inl (G.2 0, 200, .inl ff2_1435)), (fa, .inl (G.2 0, 200, .inl fg2_1436)), (c9, .inr (10, [.int (nI ((stepC 1 (crW B d_1418 i_1423)).1)), .int (nI ((stepC 1 (crW B d_1418 i_1423)).2.1)), .int (nI ((stepC 1 (crW B d_1418 i_1423)).2.2.1)), .int (nI ((stepC 1 (crW B d_1418 i_1423)).2.2.2)), .ref b]))]) hS hfz hfk => ?_)
          refine W.eq (g2 := F0 m 69 ls []) rfl ?_
          have hj : crW B d_1418 (i_1423 + 1) = stepC 1 (crW B d_1418 i_1423) := crS_1 (by omega) (by omega)
          have hP : va_P G.1 CL [(b, .inr (1, [.ref to, .ref so, .ref bo, .ref we, .ref tg, .int (nI (bD B)), .int (nI (bI9 B)), .int (oI (bP B)), .int (nI (bE B)), .int (nI (max k9_1424 ((d_1418 + i_1423) + 1))), .ref lo, .ref fi, .ref fa])), (lo, .inl (G.2 0, 200, .inl fl2_1434)), (fi, .inl (G.2 0, 200, .inl ff2_1435)), (fa, .inl (G.2 0, 200, .inl fg2_1436)), (c9, .inr (10, [.int (nI ((crW B d_1418 (i_1423 + 1)).1)), .int (nI ((crW B d_1418 (i_1423 + 1)).2.1)), .int (nI ((crW B d_1418 (i_1423 + 1)).2.2.1)), .int (nI ((crW B d_1418 (i_1423 + 1)).2.2.2)), .ref b]))] H := by rw [hj]; exact hP
          have hD : va_D A [(b, .inr (1, [.ref to, .ref so, .ref bo, .ref we, .ref tg, .int (nI (bD B)), .int (nI (bI9 B)), .int (oI (bP B)), .int (nI (bE B)), .int (nI (max k9_1424 ((d_1418 + i_1423) + 1))), .ref lo, .ref fi, .ref fa])), (lo, .inl (G.2 0, 200, .inl fl2_1434)), (fi, .inl (G.2 0, 200, .inl ff2_1435)), (fa, .inl (G.2 0, 200, .inl fg2_1436)), (c9, .inr (10, [.int (nI ((crW B d_1418 (i_1423 + 1)).1)), .int (nI ((crW B d_1418 (i_1423 + 1)).2.1)), .int (nI ((crW B d_1418 (i_1423 + 1)).2.2.1)), .int (nI ((crW B d_1418 (i_1423 + 1)).2.2.2)), .ref b]))] := by rw [hj]; exact hD
          refine lv_iinc (v := nI (d_1418 + i_1423 + 1)) (lv' := [(2, .int (nI (d_1418 + i_1423 + 1))), (0, .ref c9), (1, .ref b)]) hx hb dX9_init_69 hl (k := 2) rfl (ninc (b := 1) (by decide) (by omega)) (by decide) rfl (fun ls hl => ?_)
          refine lv_goto (tgt := 14) hx hb dX9_init_72 (by decide) ?_
          have hP : va_P G.1 CL [(c9, .inr (10, [.int (nI ((crW B d_1418 (i_1423 + 1)).1)), .int (nI ((crW B d_1418 (i_1423 + 1)).2.1)), .int (nI ((crW B d_1418 (i_1423 + 1)).2.2.1)), .int (nI ((crW B d_1418 (i_1423 + 1)).2.2.2)), .ref b])), (b, .inr (1, [.ref to, .ref so, .ref bo, .ref we, .ref tg, .int (nI (bD B)), .int (nI (bI9 B)), .int (oI (bP B)), .int (nI (bE B)), .int (nI (max k9_1424 (d_1418 + i_1423 + 1))), .ref lo, .ref fi, .ref fa])), (lo, .inl (G.2 0, 200, .inl fl2_1434)), (fi, .inl (G.2 0, 200, .inl ff2_1435)), (fa, .inl (G.2 0, 200, .inl fg2_1436))] H := hP.sub [4, 0, 1, 2, 3] rfl
          have hD : va_D A [(c9, .inr (10, [.int (nI ((crW B d_1418 (i_1423 + 1)).1)), .int (nI ((crW B d_1418 (i_1423 + 1)).2.1)), .int (nI ((crW B d_1418 (i_1423 + 1)).2.2.1)), .int (nI ((crW B d_1418 (i_1423 + 1)).2.2.2)), .ref b])), (b, .inr (1, [.ref to, .ref so, .ref bo, .ref we, .ref tg, .int (nI (bD B)), .int (nI (bI9 B)), .int (oI (bP B)), .int (nI (bE B)), .int (nI (max k9_1424 (d_1418 + i_1423 + 1))), .ref lo, .ref fi, .ref fa])), (lo, .inl (G.2 0, 200, .inl fl2_1434)), (fi, .inl (G.2 0, 200, .inl ff2_1435)), (fa, .inl (G.2 0, 200, .inl fg2_1436))] := hD.sub [4, 0, 1, 2, 3] (by decide) rfl
          have hl := lv_sub hl [1, 2, 0] (l' := [(0, .ref c9), (1, .ref b), (2, .int (nI (d_1418 + i_1423 + 1)))]) rfl
          exact W.widen (show 41 * (k9_1424 - kn) + (41 * ((max k9_1424 ((d_1418 + i_1423) + 1)) - k9_1424)) ≤ 41 * ((max k9_1424 (d_1418 + i_1423 + 1)) - kn) from by first | exact Nat.le_refl _ | omega) (show 82 * (k9_1424 - kn) + (82 * ((max k9_1424 ((d_1418 + i_1423) + 1)) - k9_1424)) ≤ 82 * ((max k9_1424 (d_1418 + i_1423 + 1)) - kn) from by first | exact Nat.le_refl _ | omega) (ih14 ((i_1423 + 1), (max k9_1424 (d_1418 + i_1423 + 1)), fl2_1434, ff2_1435, fg2_1436) H locs ls ⟨hP, hD, hS, hl, (show (i_1423 + 1) ≤ bD B - d_1418 from by omega), (show kn ≤ (max k9_1424 (d_1418 + i_1423 + 1)) ∧ (max k9_1424 (d_1418 + i_1423 + 1)) ≤ 200 from by omega), (show Cache B (max k9_1424 (d_1418 + i_1423 + 1)) fl2_1434 ff2_1435 fg2_1436 from hq_1437)⟩ (show bD B - d_1418 - (i_1423 + 1) < bD B - d_1418 - i_1423 from by omega))

set_option maxHeartbeats 4000000 in
theorem mX2_course (l : Launch) (G : Gt) (b : Nat) (to : Nat) (so : Nat) (bo : Nat) (we : Nat) (tg : Nat) (lo : Nat) (fi : Nat) (fa : Nat) (kn : Nat) (B : Bk) (ta : Nat) (tm : Int32) (te : Nat) (tcap : Nat) (tf : Nat → Option Nat) (ga : Nat → Nat) (sa : Nat) (sm : Int32) (se : Nat) (scap : Nat) (sf : Nat → Option Nat) (gs : Nat → Nat) (Wi : va_W) (fb : Nat → Int32) (fw : Nat → Int32) (fl : Nat → Int32) (ff : Nat → Int32) (fg : Nat → Int32) (ft : Nat → Int32) (hI : Inv B) (htc : tN B ≤ tcap ∧ tcap ≤ 60) (hT : ∀ j, j < tN B → tf j = some (ga j) ∧ TestIn Wi (ga j) (tDay B j) (tThr B j)) (hso : SrtT B) (hfb : ∀ z, 2 ≤ z → z ≤ 5 → fb z = nI (bB B z)) (hfw : ∀ z, 1 ≤ z → z ≤ 5 → fw z = nI (bW B z)) (hsc : sN B ≤ scap ∧ scap ≤ 60) (hSs : ∀ j, j < sN B → sf j = some (gs j) ∧ SesIn G Wi (gs j) (sAt B j)) (hss : SrtS B) (hkn : kn ≤ 200) (hca : Cache B kn fl ff fg) (hft : ∀ j, j < bE B → ft j = nI (bG B j)) : CT l G yX2_course cX2_course 1 (some (.object "TrainingDiary$Book$Course")) ({ frames := 13, cells := 8201, slots := 16405, locals := 277 } : Room) [.ref b] [(b, .inr (1, [.ref to, .ref so, .ref bo, .ref we, .ref tg, .int (nI (bD B)), .int (nI (bI9 B)), .int (oI (bP B)), .int (nI (bE B)), .int (nI kn), .ref lo, .ref fi, .ref fa])), (lo, .inl (G.2 0, 200, .inl fl)), (fi, .inl (G.2 0, 200, .inl ff)), (fa, .inl (G.2 0, 200, .inl fg))] (fun (A : Nat → Prop) (H : Heap) => roW G A H [(to, .inr (2, [.ref ta])), (ta, .inr (3, [.int tm, .ref te, .int (nI (tN B))])), (te, .inl (G.2 3, tcap, .inr (.inr (.inr (.inr tf))))), (so, .inr (2, [.ref sa])), (sa, .inr (3, [.int sm, .ref se, .int (nI (sN B))])), (se, .inl (G.2 3, scap, .inr (.inr (.inr (.inr sf))))), (bo, .inl (G.2 0, 6, .inl fb)), (we, .inl (G.2 0, 6, .inl fw)), (tg, .inl (G.2 0, 28, .inl ft))] ∧ roW G A H Wi) (S := Nat × Nat × (Nat → Int32) × (Nat → Int32) × (Nat → Int32)) (fun (u_ : Nat × Nat × (Nat → Int32) × (Nat → Int32) × (Nat → Int32)) => some (.ref u_.1)) (fun (u_ : Nat × Nat × (Nat → Int32) × (Nat → Int32) × (Nat → Int32)) => Cache B u_.2.1 u_.2.2.1 u_.2.2.2.1 u_.2.2.2.2 ∧ kn ≤ u_.2.1 ∧ u_.2.1 ≤ 200) (fun (u_ : Nat × Nat × (Nat → Int32) × (Nat → Int32) × (Nat → Int32)) => [(u_.1, .inr (10, [.int (nI ((crs B).1)), .int (nI ((crs B).2.1)), .int (nI ((crs B).2.2.1)), .int (nI ((crs B).2.2.2)), .ref b])), (b, .inr (1, [.ref to, .ref so, .ref bo, .ref we, .ref tg, .int (nI (bD B)), .int (nI (bI9 B)), .int (oI (bP B)), .int (nI (bE B)), .int (nI u_.2.1), .ref lo, .ref fi, .ref fa])), (lo, .inl (G.2 0, 200, .inl u_.2.2.1)), (fi, .inl (G.2 0, 200, .inl u_.2.2.2.1)), (fa, .inl (G.2 0, 200, .inl u_.2.2.2.2))]) (fun (u_ : Nat × Nat × (Nat → Int32) × (Nat → Int32) × (Nat → Int32)) (H : Heap) => True) := by
  refine CT.of (by decide) (Nat.le_of_ble_eq_true rfl) ?_
  intro p e s m below meth c ls A H locs h9 hH0 hP hS
  obtain ⟨cf, hr, hlk, hnm, hKB, hE, -, hD, -, hA, hAw, ⟨hR0, hR1⟩, hl⟩ := h9
  have hx := cf.1
  have hb := cf.2.1
  have hml := cf.2.2.1
  have hown : s.vm.findClass RX2 = some m.cls := cf.2.2.2.1
  have hts := cf.2.2.2.2
  have hK := hKB.1
  have hl : lv_has ls 1 [(0, .ref b)] := hl
  have iT := iv_tN hI
  have iN := iv_sN hI
  have iD := iv_bD hI
  have iId := iv_id hI
  have iE := iv_bE hI
  refine va_new (ci := 10) (fs := [.int (nI 0), .int (nI 0), .int (nI 0), .int (nI 0), .null]) hx hb hts in_X9 tyX9 tyX9_ok hown (hts _ q631) (hts _ q632) (hts _ q81) hK hP hD hS hA rfl (fun j hj => by rcases (show j = 0 ∨ j = 1 ∨ j = 2 ∨ j = 3 ∨ j = 4 by omega) with rfl | rfl | rfl | rfl | rfl <;> rfl) (show 0 + 1 ≤ 8201 from by first | decide | omega) (show 0 + 5 ≤ 16405 from by first | decide | omega) dX2_course_0 (fun a_1440 H (hP : va_P G.1 CL [(b, .inr (1, [.ref to, .ref so, .ref bo, .ref we, .ref tg, .int (nI (bD B)), .int (nI (bI9 B)), .int (oI (bP B)), .int (nI (bE B)), .int (nI kn), .ref lo, .ref fi, .ref fa])), (lo, .inl (G.2 0, 200, .inl fl)), (fi, .inl (G.2 0, 200, .inl ff)), (fa, .inl (G.2 0, 200, .inl fg)), (a_1440, .inr (10, [.int (nI 0), .int (nI 0), .int (nI 0), .int (nI 0), .null]))] H) (hD : va_D A [(b, .inr (1, [.ref to, .ref so, .ref bo, .ref we, .ref tg, .int (nI (bD B)), .int (nI (bI9 B)), .int (oI (bP B)), .int (nI (bE B)), .int (nI kn), .ref lo, .ref fi, .ref fa])), (lo, .inl (G.2 0, 200, .inl fl)), (fi, .inl (G.2 0, 200, .inl ff)), (fa, .inl (G.2 0, 200, .inl fg)), (a_1440, .inr (10, [.int (nI 0), .int (nI 0), .int (nI 0), .int (nI 0), .null]))]) hS => ?_)
  refine lv_dup hx hb dX2_course_3 rfl ?_
  refine lv_aload_n hx hb dX2_course_4 rfl (lv_at hl 0 rfl) ?_
  have hF := hF_of (wc := [(a_1440, .inr (10, [.int (nI 0), .int (nI 0), .int (nI 0), .int (nI 0), .null])), (b, .inr (1, [.ref to, .ref so, .ref bo, .ref we, .ref tg, .int (nI (bD B)), .int (nI (bI9 B)), .int (oI (bP B)), .int (nI (bE B)), .int (nI kn), .ref lo, .ref fi, .ref fa])), (lo, .inl (G.2 0, 200, .inl fl)), (fi, .inl (G.2 0, 200, .inl ff)), (fa, .inl (G.2 0, 200, .inl fg))]) hD hS hA [4, 0, 1, 2, 3] rfl
  have hro_1441 : roW G (va_A [(a_1440, .inr (10, [.int (nI 0), .int (nI 0), .int (nI 0), .int (nI 0), .null])), (b, .inr (1, [.ref to, .ref so, .ref bo, .ref we, .ref tg, .int (nI (bD B)), .int (nI (bI9 B)), .int (oI (bP B)), .int (nI (bE B)), .int (nI kn), .ref lo, .ref fi, .ref fa])), (lo, .inl (G.2 0, 200, .inl fl)), (fi, .inl (G.2 0, 200, .inl ff)), (fa, .inl (G.2 0, 200, .inl fg))] H.size) H [(to, .inr (2, [.ref ta])), (ta, .inr (3, [.int tm, .ref te, .int (nI (tN B))])), (te, .inl (G.2 3, tcap, .inr (.inr (.inr (.inr tf))))), (so, .inr (2, [.ref sa])), (sa, .inr (3, [.int sm, .ref se, .int (nI (sN B))])), (se, .inl (G.2 3, scap, .inr (.inr (.inr (.inr sf))))), (bo, .inl (G.2 0, 6, .inl fb)), (we, .inl (G.2 0, 6, .inl fw)), (tg, .inl (G.2 0, 28, .inl ft))] := ((hR0.kp hF hS.2.1).sub (ws' := [(to, .inr (2, [.ref ta])), (ta, .inr (3, [.int tm, .ref te, .int (nI (tN B))])), (te, .inl (G.2 3, tcap, .inr (.inr (.inr (.inr tf))))), (so, .inr (2, [.ref sa])), (sa, .inr (3, [.int sm, .ref se, .int (nI (sN B))])), (se, .inl (G.2 3, scap, .inr (.inr (.inr (.inr sf))))), (bo, .inl (G.2 0, 6, .inl fb)), (we, .inl (G.2 0, 6, .inl fw)), (tg, .inl (G.2 0, 28, .inl ft))]) [0, 1, 2, 3, 4, 5, 6, 7, 8] rfl)
  refine go_ct hS hP hD [4, 0, 1, 2, 3] [] hF rfl rfl (by decide) (by decide)
      (va_runI (As := [.ref b]) (rest := [.ref a_1440]) cf (mX9_init l G b to so bo we tg lo fi fa kn B ta tm te tcap tf ga sa sm se scap sf gs Wi fb fw fl ff fg ft a_1440 (show Inv B from by first | assumption | omega) (show tN B ≤ tcap ∧ tcap ≤ 60 from by first | assumption | omega) (show ∀ j, j < tN B → tf j = some (ga j) ∧ TestIn Wi (ga j) (tDay B j) (tThr B j) from by first | assumption | omega) (show SrtT B from by first | assumption | omega) (show ∀ z, 2 ≤ z → z ≤ 5 → fb z = nI (bB B z) from by first | assumption | omega) (show ∀ z, 1 ≤ z → z ≤ 5 → fw z = nI (bW B z) from by first | assumption | omega) (show sN B ≤ scap ∧ scap ≤ 60 from by first | assumption | omega) (show ∀ j, j < sN B → sf j = some (gs j) ∧ SesIn G Wi (gs j) (sAt B j) from by first | assumption | omega) (show SrtS B from by first | assumption | omega) (show kn ≤ 200 from by first | assumption | omega) (show Cache B kn fl ff fg from by first | assumption | omega) (show ∀ j, j < bE B → ft j = nI (bG B j) from by first | assumption | omega) H.size) (cwI 1 hts (lw_meth q635) rfl rfl rfl (hts _ q81) (hts _ q633) (hts _ q634) rfl (by decide +kernel) ⟨Nat.le_of_ble_eq_true rfl, Nat.le_of_ble_eq_true rfl⟩) (preS_of hKB hE hS hF (va_P.sub hP [4, 0, 1, 2, 3] rfl) ((va_D.sub hD [4, 0, 1, 2, 3] (by decide) rfl).weaken (fun _ _ _ _ => trivial)) ⟨hro_1441, (hR1.kp hF hS.2.1)⟩) rfl rfl hl.1 rfl (lv_room (Nat.le_of_ble_eq_true rfl)) dX2_course_5 ⟨show 0 + 1 + 8200 ≤ 8201 from by first | decide | omega, show 0 + 5 + 16400 ≤ 16405 from by first | decide | omega⟩)
      (fun u_ H locs hq hph (hP : va_P G.1 CL [(a_1440, .inr (10, [.int (nI ((crs B).1)), .int (nI ((crs B).2.1)), .int (nI ((crs B).2.2.1)), .int (nI ((crs B).2.2.2)), .ref b])), (b, .inr (1, [.ref to, .ref so, .ref bo, .ref we, .ref tg, .int (nI (bD B)), .int (nI (bI9 B)), .int (oI (bP B)), .int (nI (bE B)), .int (nI u_.1), .ref lo, .ref fi, .ref fa])), (lo, .inl (G.2 0, 200, .inl u_.2.1)), (fi, .inl (G.2 0, 200, .inl u_.2.2.1)), (fa, .inl (G.2 0, 200, .inl u_.2.2.2))] H) (hD : va_D A [(a_1440, .inr (10, [.int (nI ((crs B).1)), .int (nI ((crs B).2.1)), .int (nI ((crs B).2.2.1)), .int (nI ((crs B).2.2.2)), .ref b])), (b, .inr (1, [.ref to, .ref so, .ref bo, .ref we, .ref tg, .int (nI (bD B)), .int (nI (bI9 B)), .int (oI (bP B)), .int (nI (bE B)), .int (nI u_.1), .ref lo, .ref fi, .ref fa])), (lo, .inl (G.2 0, 200, .inl u_.2.1)), (fi, .inl (G.2 0, 200, .inl u_.2.2.1)), (fa, .inl (G.2 0, 200, .inl u_.2.2.2))]) hS hfz hfk => ?_)
  obtain ⟨kn2_1442, fl2_1443, ff2_1444, fg2_1445⟩ := u_
  have hP : va_P G.1 CL [(a_1440, .inr (10, [.int (nI ((crs B).1)), .int (nI ((crs B).2.1)), .int (nI ((crs B).2.2.1)), .int (nI ((crs B).2.2.2)), .ref b])), (b, .inr (1, [.ref to, .ref so, .ref bo, .ref we, .ref tg, .int (nI (bD B)), .int (nI (bI9 B)), .int (oI (bP B)), .int (nI (bE B)), .int (nI kn2_1442), .ref lo, .ref fi, .ref fa])), (lo, .inl (G.2 0, 200, .inl fl2_1443)), (fi, .inl (G.2 0, 200, .inl ff2_1444)), (fa, .inl (G.2 0, 200, .inl fg2_1445))] H := hP
  have hD : va_D A [(a_1440, .inr (10, [.int (nI ((crs B).1)), .int (nI ((crs B).2.1)), .int (nI ((crs B).2.2.1)), .int (nI ((crs B).2.2.2)), .ref b])), (b, .inr (1, [.ref to, .ref so, .ref bo, .ref we, .ref tg, .int (nI (bD B)), .int (nI (bI9 B)), .int (oI (bP B)), .int (nI (bE B)), .int (nI kn2_1442), .ref lo, .ref fi, .ref fa])), (lo, .inl (G.2 0, 200, .inl fl2_1443)), (fi, .inl (G.2 0, 200, .inl ff2_1444)), (fa, .inl (G.2 0, 200, .inl fg2_1445))] := hD
  obtain ⟨hq_1446, hq_1447⟩ : Cache B kn2_1442 fl2_1443 ff2_1444 fg2_1445 ∧ kn ≤ kn2_1442 ∧ kn2_1442 ≤ 200 := hq
  refine W.eq (g2 := F0 m 8 ls [.ref a_1440]) rfl ?_
  have hP9 : va_P G.1 CL [(a_1440, .inr (10, [.int (nI ((crs B).1)), .int (nI ((crs B).2.1)), .int (nI ((crs B).2.2.1)), .int (nI ((crs B).2.2.2)), .ref b])), (b, .inr (1, [.ref to, .ref so, .ref bo, .ref we, .ref tg, .int (nI (bD B)), .int (nI (bI9 B)), .int (oI (bP B)), .int (nI (bE B)), .int (nI kn2_1442), .ref lo, .ref fi, .ref fa])), (lo, .inl (G.2 0, 200, .inl fl2_1443)), (fi, .inl (G.2 0, 200, .inl ff2_1444)), (fa, .inl (G.2 0, 200, .inl fg2_1445))] H := hP.sub [0, 1, 2, 3, 4] rfl
  have hD9 : va_D A [(a_1440, .inr (10, [.int (nI ((crs B).1)), .int (nI ((crs B).2.1)), .int (nI ((crs B).2.2.1)), .int (nI ((crs B).2.2.2)), .ref b])), (b, .inr (1, [.ref to, .ref so, .ref bo, .ref we, .ref tg, .int (nI (bD B)), .int (nI (bI9 B)), .int (oI (bP B)), .int (nI (bE B)), .int (nI kn2_1442), .ref lo, .ref fi, .ref fa])), (lo, .inl (G.2 0, 200, .inl fl2_1443)), (fi, .inl (G.2 0, 200, .inl ff2_1444)), (fa, .inl (G.2 0, 200, .inl fg2_1445))] := hD.sub [0, 1, 2, 3, 4] (by decide) rfl
  exact end_a hx hb hr hlk (by first | exact Or.inl ⟨_, rfl⟩ | exact Or.inr ⟨_, rfl⟩) (Or.inr ⟨_, rfl⟩) (qc_of (a_1440, kn2_1442, fl2_1443, ff2_1444, fg2_1445) (v := some (.ref a_1440)) (by rfl) (⟨hq_1446, hq_1447⟩) hP9 hD9 (trivial) hS) hS dX2_course_8 (show 0 + 1 + 8200 ≤ 8201 from by first | exact Nat.le_refl _ | decide | omega) (show 0 + 5 + 16400 ≤ 16405 from by first | exact Nat.le_refl _ | decide | omega)
