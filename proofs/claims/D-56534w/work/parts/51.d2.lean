/-! the diary as an abstract world: queries, changes -/
set_option maxRecDepth 100000
theorem dX1_today (l : Launch) (G : Gt) (d : Nat) (S : DS) (W : va_W) (h : DyW G d S W) : CT l G yX1_today cX1_today 1 (some .int) ({ frames := 1, cells := 1, slots := 2, locals := 12 } : Room) [.ref d] (W ++ []) RH0 (S := Int32 × va_W) (fun (u_ : Int32 × va_W) => some (.int u_.1)) (fun (u_ : Int32 × va_W) => q_today (dC S) = (0, u_.1) ∧ DyW G d S u_.2) (fun (u_ : Int32 × va_W) => (u_.2 ++ [])) (fun (u_ : Int32 × va_W) (H : Heap) => True) := by
  obtain ⟨sp, hq, ln, b, to, so, bo, we, tg, lo, fi, fa, kn, ta, tm, te, tcap, tf, ga, sa, sm, se, scap, sf, gs, Wi, fb, fw, fl, ff, fg, ft, wr, hp9, hR9, hc9, hI, htc, hT, hso, hfb, hfw, hsc, hSs, hss, hkn, hca, hft⟩ := h.q
  refine (mX1_today l G d sp hq ln b to so bo we tg lo fi fa kn (dC S) ta tm te tcap tf ga sa sm se scap sf gs Wi fb fw fl ff fg ft hI htc hT hso hfb hfw hsc hSs hss hkn hca hft).conv (Nat.le_of_ble_eq_true rfl) (Nat.le_of_ble_eq_true rfl) (Nat.le_of_ble_eq_true rfl) (Nat.le_of_ble_eq_true rfl) wr (P9.nil hp9) (fun sz A H hA hP hr h9 _ e9 => hR9 A H hr h9) (fun u hu => ?_)
  · obtain ⟨rr, kn2, fl2, ff2, fg2⟩ := u
    obtain ⟨q1, q2, q3⟩ := hu
    obtain ⟨W2, w1, w2⟩ := hc9 kn2 fl2 ff2 fg2 q2 q3
    exact ⟨(rr, W2), rfl, ⟨q1, w1⟩, Sub9.nil w2, fun _ z => z⟩

theorem dX1_testCount (l : Launch) (G : Gt) (d : Nat) (S : DS) (W : va_W) (h : DyW G d S W) : CT l G yX1_testCount cX1_testCount 1 (some .int) ({ frames := 3, cells := 1, slots := 2, locals := 52 } : Room) [.ref d] (W ++ []) RH0 (S := Int32 × va_W) (fun (u_ : Int32 × va_W) => some (.int u_.1)) (fun (u_ : Int32 × va_W) => q_testCount (dC S) = (0, u_.1) ∧ DyW G d S u_.2) (fun (u_ : Int32 × va_W) => (u_.2 ++ [])) (fun (u_ : Int32 × va_W) (H : Heap) => True) := by
  obtain ⟨sp, hq, ln, b, to, so, bo, we, tg, lo, fi, fa, kn, ta, tm, te, tcap, tf, ga, sa, sm, se, scap, sf, gs, Wi, fb, fw, fl, ff, fg, ft, wr, hp9, hR9, hc9, hI, htc, hT, hso, hfb, hfw, hsc, hSs, hss, hkn, hca, hft⟩ := h.q
  refine (mX1_testCount l G d sp hq ln b to so bo we tg lo fi fa kn (dC S) ta tm te tcap tf ga sa sm se scap sf gs Wi fb fw fl ff fg ft hI htc hT hso hfb hfw hsc hSs hss hkn hca hft).conv (Nat.le_of_ble_eq_true rfl) (Nat.le_of_ble_eq_true rfl) (Nat.le_of_ble_eq_true rfl) (Nat.le_of_ble_eq_true rfl) wr (P9.nil hp9) (fun sz A H hA hP hr h9 _ e9 => hR9 A H hr h9) (fun u hu => ?_)
  · obtain ⟨rr, kn2, fl2, ff2, fg2⟩ := u
    obtain ⟨q1, q2, q3⟩ := hu
    obtain ⟨W2, w1, w2⟩ := hc9 kn2 fl2 ff2 fg2 q2 q3
    exact ⟨(rr, W2), rfl, ⟨q1, w1⟩, Sub9.nil w2, fun _ z => z⟩

theorem dX1_sessionCount (l : Launch) (G : Gt) (d : Nat) (S : DS) (W : va_W) (h : DyW G d S W) : CT l G yX1_sessionCount cX1_sessionCount 1 (some .int) ({ frames := 3, cells := 1, slots := 2, locals := 52 } : Room) [.ref d] (W ++ []) RH0 (S := Int32 × va_W) (fun (u_ : Int32 × va_W) => some (.int u_.1)) (fun (u_ : Int32 × va_W) => q_sessionCount (dC S) = (0, u_.1) ∧ DyW G d S u_.2) (fun (u_ : Int32 × va_W) => (u_.2 ++ [])) (fun (u_ : Int32 × va_W) (H : Heap) => True) := by
  obtain ⟨sp, hq, ln, b, to, so, bo, we, tg, lo, fi, fa, kn, ta, tm, te, tcap, tf, ga, sa, sm, se, scap, sf, gs, Wi, fb, fw, fl, ff, fg, ft, wr, hp9, hR9, hc9, hI, htc, hT, hso, hfb, hfw, hsc, hSs, hss, hkn, hca, hft⟩ := h.q
  refine (mX1_sessionCount l G d sp hq ln b to so bo we tg lo fi fa kn (dC S) ta tm te tcap tf ga sa sm se scap sf gs Wi fb fw fl ff fg ft hI htc hT hso hfb hfw hsc hSs hss hkn hca hft).conv (Nat.le_of_ble_eq_true rfl) (Nat.le_of_ble_eq_true rfl) (Nat.le_of_ble_eq_true rfl) (Nat.le_of_ble_eq_true rfl) wr (P9.nil hp9) (fun sz A H hA hP hr h9 _ e9 => hR9 A H hr h9) (fun u hu => ?_)
  · obtain ⟨rr, kn2, fl2, ff2, fg2⟩ := u
    obtain ⟨q1, q2, q3⟩ := hu
    obtain ⟨W2, w1, w2⟩ := hc9 kn2 fl2 ff2 fg2 q2 q3
    exact ⟨(rr, W2), rfl, ⟨q1, w1⟩, Sub9.nil w2, fun _ z => z⟩

theorem dX1_thresholdOn (l : Launch) (G : Gt) (d : Nat) (S : DS) (W : va_W) (v : Int32) (h : DyW G d S W) (hfl : l.stackTraces = false) : CX l G yX1_thresholdOn cX1_thresholdOn 2 (some .int) ({ frames := 8, cells := 2, slots := 8, locals := 163 } : Room) [.ref d, .int v] (W ++ []) RH0 (S := Int32 × va_W) (fun (u_ : Int32 × va_W) => some (.int u_.1)) (fun (u_ : Int32 × va_W) => q_thr (dC S) v = (0, u_.1) ∧ DyW G d S u_.2) (fun (u_ : Int32 × va_W) => (u_.2 ++ [])) (fun (u_ : Int32 × va_W) (H : Heap) => True) (SX := Nat × va_W) (fun (u_ : Nat × va_W) => exn [eA] u_.1) (fun (u_ : Nat × va_W) => (q_thr (dC S) v).1 = u_.1 ∧ DyW G d S u_.2 ∧ 1 ≤ u_.1 ∧ u_.1 ≤ 1) (fun (u_ : Nat × va_W) => (u_.2 ++ [])) (fun (u_ : Nat × va_W) (H : Heap) => True) := by
  obtain ⟨sp, hq, ln, b, to, so, bo, we, tg, lo, fi, fa, kn, ta, tm, te, tcap, tf, ga, sa, sm, se, scap, sf, gs, Wi, fb, fw, fl, ff, fg, ft, wr, hp9, hR9, hc9, hI, htc, hT, hso, hfb, hfw, hsc, hSs, hss, hkn, hca, hft⟩ := h.q
  refine (mX1_thresholdOn l G d sp hq ln b to so bo we tg lo fi fa kn (dC S) ta tm te tcap tf ga sa sm se scap sf gs Wi fb fw fl ff fg ft v hI htc hT hso hfb hfw hsc hSs hss hkn hca hft hfl).conv (Nat.le_of_ble_eq_true rfl) (Nat.le_of_ble_eq_true rfl) (Nat.le_of_ble_eq_true rfl) (Nat.le_of_ble_eq_true rfl) wr (P9.nil hp9) (fun sz A H hA hP hr h9 _ e9 => hR9 A H hr h9) (fun u hu => ?_) (fun u hu => ?_)
  · obtain ⟨rr, kn2, fl2, ff2, fg2⟩ := u
    obtain ⟨q1, q2, q3⟩ := hu
    obtain ⟨W2, w1, w2⟩ := hc9 kn2 fl2 ff2 fg2 q2 q3
    exact ⟨(rr, W2), rfl, ⟨q1, w1⟩, Sub9.nil w2, fun _ z => z⟩
  · obtain ⟨kx, kn2, fl2, ff2, fg2⟩ := u
    obtain ⟨q1, q2, q5, q3, q4⟩ := hu
    obtain ⟨W2, w1, w2⟩ := hc9 kn2 fl2 ff2 fg2 q3 q4
    exact ⟨(kx, W2), rfl, ⟨q1, w1, q2, q5⟩, Sub9.nil w2, fun _ z => z⟩

theorem dX1_boundOf (l : Launch) (G : Gt) (d : Nat) (S : DS) (W : va_W) (v : Int32) (h : DyW G d S W) (hfl : l.stackTraces = false) : CX l G yX1_boundOf cX1_boundOf 2 (some .int) ({ frames := 7, cells := 2, slots := 8, locals := 102 } : Room) [.ref d, .int v] (W ++ []) RH0 (S := Int32 × va_W) (fun (u_ : Int32 × va_W) => some (.int u_.1)) (fun (u_ : Int32 × va_W) => q_bound (dC S) v = (0, u_.1) ∧ DyW G d S u_.2) (fun (u_ : Int32 × va_W) => (u_.2 ++ [])) (fun (u_ : Int32 × va_W) (H : Heap) => True) (SX := Nat × va_W) (fun (u_ : Nat × va_W) => exn [eA] u_.1) (fun (u_ : Nat × va_W) => (q_bound (dC S) v).1 = u_.1 ∧ DyW G d S u_.2 ∧ 1 ≤ u_.1 ∧ u_.1 ≤ 1) (fun (u_ : Nat × va_W) => (u_.2 ++ [])) (fun (u_ : Nat × va_W) (H : Heap) => True) := by
  obtain ⟨sp, hq, ln, b, to, so, bo, we, tg, lo, fi, fa, kn, ta, tm, te, tcap, tf, ga, sa, sm, se, scap, sf, gs, Wi, fb, fw, fl, ff, fg, ft, wr, hp9, hR9, hc9, hI, htc, hT, hso, hfb, hfw, hsc, hSs, hss, hkn, hca, hft⟩ := h.q
  refine (mX1_boundOf l G d sp hq ln b to so bo we tg lo fi fa kn (dC S) ta tm te tcap tf ga sa sm se scap sf gs Wi fb fw fl ff fg ft v hI htc hT hso hfb hfw hsc hSs hss hkn hca hft hfl).conv (Nat.le_of_ble_eq_true rfl) (Nat.le_of_ble_eq_true rfl) (Nat.le_of_ble_eq_true rfl) (Nat.le_of_ble_eq_true rfl) wr (P9.nil hp9) (fun sz A H hA hP hr h9 _ e9 => hR9 A H hr h9) (fun u hu => ?_) (fun u hu => ?_)
  · obtain ⟨rr, kn2, fl2, ff2, fg2⟩ := u
    obtain ⟨q1, q2, q3⟩ := hu
    obtain ⟨W2, w1, w2⟩ := hc9 kn2 fl2 ff2 fg2 q2 q3
    exact ⟨(rr, W2), rfl, ⟨q1, w1⟩, Sub9.nil w2, fun _ z => z⟩
  · obtain ⟨kx, kn2, fl2, ff2, fg2⟩ := u
    obtain ⟨q1, q2, q5, q3, q4⟩ := hu
    obtain ⟨W2, w1, w2⟩ := hc9 kn2 fl2 ff2 fg2 q3 q4
    exact ⟨(kx, W2), rfl, ⟨q1, w1, q2, q5⟩, Sub9.nil w2, fun _ z => z⟩

theorem dX1_weightOf (l : Launch) (G : Gt) (d : Nat) (S : DS) (W : va_W) (v : Int32) (h : DyW G d S W) (hfl : l.stackTraces = false) : CX l G yX1_weightOf cX1_weightOf 2 (some .int) ({ frames := 8, cells := 2, slots := 8, locals := 122 } : Room) [.ref d, .int v] (W ++ []) RH0 (S := Int32 × va_W) (fun (u_ : Int32 × va_W) => some (.int u_.1)) (fun (u_ : Int32 × va_W) => q_weight (dC S) v = (0, u_.1) ∧ DyW G d S u_.2) (fun (u_ : Int32 × va_W) => (u_.2 ++ [])) (fun (u_ : Int32 × va_W) (H : Heap) => True) (SX := Nat × va_W) (fun (u_ : Nat × va_W) => exn [eA] u_.1) (fun (u_ : Nat × va_W) => (q_weight (dC S) v).1 = u_.1 ∧ DyW G d S u_.2 ∧ 1 ≤ u_.1 ∧ u_.1 ≤ 1) (fun (u_ : Nat × va_W) => (u_.2 ++ [])) (fun (u_ : Nat × va_W) (H : Heap) => True) := by
  obtain ⟨sp, hq, ln, b, to, so, bo, we, tg, lo, fi, fa, kn, ta, tm, te, tcap, tf, ga, sa, sm, se, scap, sf, gs, Wi, fb, fw, fl, ff, fg, ft, wr, hp9, hR9, hc9, hI, htc, hT, hso, hfb, hfw, hsc, hSs, hss, hkn, hca, hft⟩ := h.q
  refine (mX1_weightOf l G d sp hq ln b to so bo we tg lo fi fa kn (dC S) ta tm te tcap tf ga sa sm se scap sf gs Wi fb fw fl ff fg ft v hI htc hT hso hfb hfw hsc hSs hss hkn hca hft hfl).conv (Nat.le_of_ble_eq_true rfl) (Nat.le_of_ble_eq_true rfl) (Nat.le_of_ble_eq_true rfl) (Nat.le_of_ble_eq_true rfl) wr (P9.nil hp9) (fun sz A H hA hP hr h9 _ e9 => hR9 A H hr h9) (fun u hu => ?_) (fun u hu => ?_)
  · obtain ⟨rr, kn2, fl2, ff2, fg2⟩ := u
    obtain ⟨q1, q2, q3⟩ := hu
    obtain ⟨W2, w1, w2⟩ := hc9 kn2 fl2 ff2 fg2 q2 q3
    exact ⟨(rr, W2), rfl, ⟨q1, w1⟩, Sub9.nil w2, fun _ z => z⟩
  · obtain ⟨kx, kn2, fl2, ff2, fg2⟩ := u
    obtain ⟨q1, q2, q5, q3, q4⟩ := hu
    obtain ⟨W2, w1, w2⟩ := hc9 kn2 fl2 ff2 fg2 q3 q4
    exact ⟨(kx, W2), rfl, ⟨q1, w1, q2, q5⟩, Sub9.nil w2, fun _ z => z⟩

theorem dX1_zoneOf (l : Launch) (G : Gt) (d : Nat) (S : DS) (W : va_W) (v : Int32) (w : Int32) (h : DyW G d S W) (hfl : l.stackTraces = false) : CX l G yX1_zoneOf cX1_zoneOf 3 (some .int) ({ frames := 8, cells := 2, slots := 8, locals := 163 } : Room) [.ref d, .int v, .int w] (W ++ []) RH0 (S := Int32 × va_W) (fun (u_ : Int32 × va_W) => some (.int u_.1)) (fun (u_ : Int32 × va_W) => q_zone (dC S) v w = (0, u_.1) ∧ DyW G d S u_.2) (fun (u_ : Int32 × va_W) => (u_.2 ++ [])) (fun (u_ : Int32 × va_W) (H : Heap) => True) (SX := Nat × va_W) (fun (u_ : Nat × va_W) => exn [eA] u_.1) (fun (u_ : Nat × va_W) => (q_zone (dC S) v w).1 = u_.1 ∧ DyW G d S u_.2 ∧ 1 ≤ u_.1 ∧ u_.1 ≤ 1) (fun (u_ : Nat × va_W) => (u_.2 ++ [])) (fun (u_ : Nat × va_W) (H : Heap) => True) := by
  obtain ⟨sp, hq, ln, b, to, so, bo, we, tg, lo, fi, fa, kn, ta, tm, te, tcap, tf, ga, sa, sm, se, scap, sf, gs, Wi, fb, fw, fl, ff, fg, ft, wr, hp9, hR9, hc9, hI, htc, hT, hso, hfb, hfw, hsc, hSs, hss, hkn, hca, hft⟩ := h.q
  refine (mX1_zoneOf l G d sp hq ln b to so bo we tg lo fi fa kn (dC S) ta tm te tcap tf ga sa sm se scap sf gs Wi fb fw fl ff fg ft v w hI htc hT hso hfb hfw hsc hSs hss hkn hca hft hfl).conv (Nat.le_of_ble_eq_true rfl) (Nat.le_of_ble_eq_true rfl) (Nat.le_of_ble_eq_true rfl) (Nat.le_of_ble_eq_true rfl) wr (P9.nil hp9) (fun sz A H hA hP hr h9 _ e9 => hR9 A H hr h9) (fun u hu => ?_) (fun u hu => ?_)
  · obtain ⟨rr, kn2, fl2, ff2, fg2⟩ := u
    obtain ⟨q1, q2, q3⟩ := hu
    obtain ⟨W2, w1, w2⟩ := hc9 kn2 fl2 ff2 fg2 q2 q3
    exact ⟨(rr, W2), rfl, ⟨q1, w1⟩, Sub9.nil w2, fun _ z => z⟩
  · obtain ⟨kx, kn2, fl2, ff2, fg2⟩ := u
    obtain ⟨q1, q2, q5, q3, q4⟩ := hu
    obtain ⟨W2, w1, w2⟩ := hc9 kn2 fl2 ff2 fg2 q3 q4
    exact ⟨(kx, W2), rfl, ⟨q1, w1, q2, q5⟩, Sub9.nil w2, fun _ z => z⟩

theorem dX1_sessionAt (l : Launch) (G : Gt) (d : Nat) (S : DS) (W : va_W) (v : Int32) (h : DyW G d S W) (hfl : l.stackTraces = false) : CX l G yX1_sessionAt cX1_sessionAt 2 (some .int) ({ frames := 7, cells := 2, slots := 8, locals := 102 } : Room) [.ref d, .int v] (W ++ []) RH0 (S := Int32 × va_W) (fun (u_ : Int32 × va_W) => some (.int u_.1)) (fun (u_ : Int32 × va_W) => q_sAt (dC S) v = (0, u_.1) ∧ DyW G d S u_.2) (fun (u_ : Int32 × va_W) => (u_.2 ++ [])) (fun (u_ : Int32 × va_W) (H : Heap) => True) (SX := Nat × va_W) (fun (u_ : Nat × va_W) => exn [eI] u_.1) (fun (u_ : Nat × va_W) => (q_sAt (dC S) v).1 = u_.1 ∧ DyW G d S u_.2 ∧ 1 ≤ u_.1 ∧ u_.1 ≤ 1) (fun (u_ : Nat × va_W) => (u_.2 ++ [])) (fun (u_ : Nat × va_W) (H : Heap) => True) := by
  obtain ⟨sp, hq, ln, b, to, so, bo, we, tg, lo, fi, fa, kn, ta, tm, te, tcap, tf, ga, sa, sm, se, scap, sf, gs, Wi, fb, fw, fl, ff, fg, ft, wr, hp9, hR9, hc9, hI, htc, hT, hso, hfb, hfw, hsc, hSs, hss, hkn, hca, hft⟩ := h.q
  refine (mX1_sessionAt l G d sp hq ln b to so bo we tg lo fi fa kn (dC S) ta tm te tcap tf ga sa sm se scap sf gs Wi fb fw fl ff fg ft v hI htc hT hso hfb hfw hsc hSs hss hkn hca hft hfl).conv (Nat.le_of_ble_eq_true rfl) (Nat.le_of_ble_eq_true rfl) (Nat.le_of_ble_eq_true rfl) (Nat.le_of_ble_eq_true rfl) wr (P9.nil hp9) (fun sz A H hA hP hr h9 _ e9 => hR9 A H hr h9) (fun u hu => ?_) (fun u hu => ?_)
  · obtain ⟨rr, kn2, fl2, ff2, fg2⟩ := u
    obtain ⟨q1, q2, q3⟩ := hu
    obtain ⟨W2, w1, w2⟩ := hc9 kn2 fl2 ff2 fg2 q2 q3
    exact ⟨(rr, W2), rfl, ⟨q1, w1⟩, Sub9.nil w2, fun _ z => z⟩
  · obtain ⟨kx, kn2, fl2, ff2, fg2⟩ := u
    obtain ⟨q1, q2, q5, q3, q4⟩ := hu
    obtain ⟨W2, w1, w2⟩ := hc9 kn2 fl2 ff2 fg2 q3 q4
    exact ⟨(kx, W2), rfl, ⟨q1, w1, q2, q5⟩, Sub9.nil w2, fun _ z => z⟩

theorem dX1_dayOf (l : Launch) (G : Gt) (d : Nat) (S : DS) (W : va_W) (v : Int32) (h : DyW G d S W) (hfl : l.stackTraces = false) : CX l G yX1_dayOf cX1_dayOf 2 (some .int) ({ frames := 9, cells := 2, slots := 8, locals := 146 } : Room) [.ref d, .int v] (W ++ []) RH0 (S := Int32 × va_W) (fun (u_ : Int32 × va_W) => some (.int u_.1)) (fun (u_ : Int32 × va_W) => q_dayOf (dC S) v = (0, u_.1) ∧ DyW G d S u_.2) (fun (u_ : Int32 × va_W) => (u_.2 ++ [])) (fun (u_ : Int32 × va_W) (H : Heap) => True) (SX := Nat × va_W) (fun (u_ : Nat × va_W) => exn [eN] u_.1) (fun (u_ : Nat × va_W) => (q_dayOf (dC S) v).1 = u_.1 ∧ DyW G d S u_.2 ∧ 1 ≤ u_.1 ∧ u_.1 ≤ 1) (fun (u_ : Nat × va_W) => (u_.2 ++ [])) (fun (u_ : Nat × va_W) (H : Heap) => True) := by
  obtain ⟨sp, hq, ln, b, to, so, bo, we, tg, lo, fi, fa, kn, ta, tm, te, tcap, tf, ga, sa, sm, se, scap, sf, gs, Wi, fb, fw, fl, ff, fg, ft, wr, hp9, hR9, hc9, hI, htc, hT, hso, hfb, hfw, hsc, hSs, hss, hkn, hca, hft⟩ := h.q
  refine (mX1_dayOf l G d sp hq ln b to so bo we tg lo fi fa kn (dC S) ta tm te tcap tf ga sa sm se scap sf gs Wi fb fw fl ff fg ft v hI htc hT hso hfb hfw hsc hSs hss hkn hca hft hfl).conv (Nat.le_of_ble_eq_true rfl) (Nat.le_of_ble_eq_true rfl) (Nat.le_of_ble_eq_true rfl) (Nat.le_of_ble_eq_true rfl) wr (P9.nil hp9) (fun sz A H hA hP hr h9 _ e9 => hR9 A H hr h9) (fun u hu => ?_) (fun u hu => ?_)
  · obtain ⟨rr, kn2, fl2, ff2, fg2⟩ := u
    obtain ⟨q1, q2, q3⟩ := hu
    obtain ⟨W2, w1, w2⟩ := hc9 kn2 fl2 ff2 fg2 q2 q3
    exact ⟨(rr, W2), rfl, ⟨q1, w1⟩, Sub9.nil w2, fun _ z => z⟩
  · obtain ⟨kx, kn2, fl2, ff2, fg2⟩ := u
    obtain ⟨q1, q2, q5, q3, q4⟩ := hu
    obtain ⟨W2, w1, w2⟩ := hc9 kn2 fl2 ff2 fg2 q3 q4
    exact ⟨(kx, W2), rfl, ⟨q1, w1, q2, q5⟩, Sub9.nil w2, fun _ z => z⟩

theorem dX1_minutesOf (l : Launch) (G : Gt) (d : Nat) (S : DS) (W : va_W) (v : Int32) (h : DyW G d S W) (hfl : l.stackTraces = false) : CX l G yX1_minutesOf cX1_minutesOf 2 (some .int) ({ frames := 9, cells := 2, slots := 8, locals := 146 } : Room) [.ref d, .int v] (W ++ []) RH0 (S := Int32 × va_W) (fun (u_ : Int32 × va_W) => some (.int u_.1)) (fun (u_ : Int32 × va_W) => q_minOf (dC S) v = (0, u_.1) ∧ DyW G d S u_.2) (fun (u_ : Int32 × va_W) => (u_.2 ++ [])) (fun (u_ : Int32 × va_W) (H : Heap) => True) (SX := Nat × va_W) (fun (u_ : Nat × va_W) => exn [eN] u_.1) (fun (u_ : Nat × va_W) => (q_minOf (dC S) v).1 = u_.1 ∧ DyW G d S u_.2 ∧ 1 ≤ u_.1 ∧ u_.1 ≤ 1) (fun (u_ : Nat × va_W) => (u_.2 ++ [])) (fun (u_ : Nat × va_W) (H : Heap) => True) := by
  obtain ⟨sp, hq, ln, b, to, so, bo, we, tg, lo, fi, fa, kn, ta, tm, te, tcap, tf, ga, sa, sm, se, scap, sf, gs, Wi, fb, fw, fl, ff, fg, ft, wr, hp9, hR9, hc9, hI, htc, hT, hso, hfb, hfw, hsc, hSs, hss, hkn, hca, hft⟩ := h.q
  refine (mX1_minutesOf l G d sp hq ln b to so bo we tg lo fi fa kn (dC S) ta tm te tcap tf ga sa sm se scap sf gs Wi fb fw fl ff fg ft v hI htc hT hso hfb hfw hsc hSs hss hkn hca hft hfl).conv (Nat.le_of_ble_eq_true rfl) (Nat.le_of_ble_eq_true rfl) (Nat.le_of_ble_eq_true rfl) (Nat.le_of_ble_eq_true rfl) wr (P9.nil hp9) (fun sz A H hA hP hr h9 _ e9 => hR9 A H hr h9) (fun u hu => ?_) (fun u hu => ?_)
  · obtain ⟨rr, kn2, fl2, ff2, fg2⟩ := u
    obtain ⟨q1, q2, q3⟩ := hu
    obtain ⟨W2, w1, w2⟩ := hc9 kn2 fl2 ff2 fg2 q2 q3
    exact ⟨(rr, W2), rfl, ⟨q1, w1⟩, Sub9.nil w2, fun _ z => z⟩
  · obtain ⟨kx, kn2, fl2, ff2, fg2⟩ := u
    obtain ⟨q1, q2, q5, q3, q4⟩ := hu
    obtain ⟨W2, w1, w2⟩ := hc9 kn2 fl2 ff2 fg2 q3 q4
    exact ⟨(kx, W2), rfl, ⟨q1, w1, q2, q5⟩, Sub9.nil w2, fun _ z => z⟩

theorem dX1_minutesInZone (l : Launch) (G : Gt) (d : Nat) (S : DS) (W : va_W) (v : Int32) (w : Int32) (h : DyW G d S W) (hfl : l.stackTraces = false) : CX l G yX1_minutesInZone cX1_minutesInZone 4 (some .int) ({ frames := 9, cells := 4, slots := 20, locals := 188 } : Room) [.ref d, .int v, .int w] (W ++ []) RH0 (S := Int32 × va_W) (fun (u_ : Int32 × va_W) => some (.int u_.1)) (fun (u_ : Int32 × va_W) => q_minZ (dC S) v w = (0, u_.1) ∧ DyW G d S u_.2) (fun (u_ : Int32 × va_W) => (u_.2 ++ [])) (fun (u_ : Int32 × va_W) (H : Heap) => True) (SX := Nat × va_W) (fun (u_ : Nat × va_W) => exn [eN, eA] u_.1) (fun (u_ : Nat × va_W) => (q_minZ (dC S) v w).1 = u_.1 ∧ DyW G d S u_.2 ∧ 1 ≤ u_.1 ∧ u_.1 ≤ 2) (fun (u_ : Nat × va_W) => (u_.2 ++ [])) (fun (u_ : Nat × va_W) (H : Heap) => True) := by
  obtain ⟨sp, hq, ln, b, to, so, bo, we, tg, lo, fi, fa, kn, ta, tm, te, tcap, tf, ga, sa, sm, se, scap, sf, gs, Wi, fb, fw, fl, ff, fg, ft, wr, hp9, hR9, hc9, hI, htc, hT, hso, hfb, hfw, hsc, hSs, hss, hkn, hca, hft⟩ := h.q
  refine (mX1_minutesInZone l G d sp hq ln b to so bo we tg lo fi fa kn (dC S) ta tm te tcap tf ga sa sm se scap sf gs Wi fb fw fl ff fg ft v w hI htc hT hso hfb hfw hsc hSs hss hkn hca hft hfl).conv (Nat.le_of_ble_eq_true rfl) (Nat.le_of_ble_eq_true rfl) (Nat.le_of_ble_eq_true rfl) (Nat.le_of_ble_eq_true rfl) wr (P9.nil hp9) (fun sz A H hA hP hr h9 _ e9 => hR9 A H hr h9) (fun u hu => ?_) (fun u hu => ?_)
  · obtain ⟨rr, kn2, fl2, ff2, fg2⟩ := u
    obtain ⟨q1, q2, q3⟩ := hu
    obtain ⟨W2, w1, w2⟩ := hc9 kn2 fl2 ff2 fg2 q2 q3
    exact ⟨(rr, W2), rfl, ⟨q1, w1⟩, Sub9.nil w2, fun _ z => z⟩
  · obtain ⟨kx, kn2, fl2, ff2, fg2⟩ := u
    obtain ⟨q1, q2, q5, q3, q4⟩ := hu
    obtain ⟨W2, w1, w2⟩ := hc9 kn2 fl2 ff2 fg2 q3 q4
    exact ⟨(kx, W2), rfl, ⟨q1, w1, q2, q5⟩, Sub9.nil w2, fun _ z => z⟩

theorem dX1_loadOf (l : Launch) (G : Gt) (d : Nat) (S : DS) (W : va_W) (v : Int32) (h : DyW G d S W) (hfl : l.stackTraces = false) : CX l G yX1_loadOf cX1_loadOf 2 (some .int) ({ frames := 9, cells := 3, slots := 12, locals := 187 } : Room) [.ref d, .int v] (W ++ []) RH0 (S := Int32 × va_W) (fun (u_ : Int32 × va_W) => some (.int u_.1)) (fun (u_ : Int32 × va_W) => q_loadOf (dC S) v = (0, u_.1) ∧ DyW G d S u_.2) (fun (u_ : Int32 × va_W) => (u_.2 ++ [])) (fun (u_ : Int32 × va_W) (H : Heap) => True) (SX := Nat × va_W) (fun (u_ : Nat × va_W) => exn [eN] u_.1) (fun (u_ : Nat × va_W) => (q_loadOf (dC S) v).1 = u_.1 ∧ DyW G d S u_.2 ∧ 1 ≤ u_.1 ∧ u_.1 ≤ 1) (fun (u_ : Nat × va_W) => (u_.2 ++ [])) (fun (u_ : Nat × va_W) (H : Heap) => True) := by
  obtain ⟨sp, hq, ln, b, to, so, bo, we, tg, lo, fi, fa, kn, ta, tm, te, tcap, tf, ga, sa, sm, se, scap, sf, gs, Wi, fb, fw, fl, ff, fg, ft, wr, hp9, hR9, hc9, hI, htc, hT, hso, hfb, hfw, hsc, hSs, hss, hkn, hca, hft⟩ := h.q
  refine (mX1_loadOf l G d sp hq ln b to so bo we tg lo fi fa kn (dC S) ta tm te tcap tf ga sa sm se scap sf gs Wi fb fw fl ff fg ft v hI htc hT hso hfb hfw hsc hSs hss hkn hca hft hfl).conv (Nat.le_of_ble_eq_true rfl) (Nat.le_of_ble_eq_true rfl) (Nat.le_of_ble_eq_true rfl) (Nat.le_of_ble_eq_true rfl) wr (P9.nil hp9) (fun sz A H hA hP hr h9 _ e9 => hR9 A H hr h9) (fun u hu => ?_) (fun u hu => ?_)
  · obtain ⟨rr, kn2, fl2, ff2, fg2⟩ := u
    obtain ⟨q1, q2, q3⟩ := hu
    obtain ⟨W2, w1, w2⟩ := hc9 kn2 fl2 ff2 fg2 q2 q3
    exact ⟨(rr, W2), rfl, ⟨q1, w1⟩, Sub9.nil w2, fun _ z => z⟩
  · obtain ⟨kx, kn2, fl2, ff2, fg2⟩ := u
    obtain ⟨q1, q2, q5, q3, q4⟩ := hu
    obtain ⟨W2, w1, w2⟩ := hc9 kn2 fl2 ff2 fg2 q3 q4
    exact ⟨(kx, W2), rfl, ⟨q1, w1, q2, q5⟩, Sub9.nil w2, fun _ z => z⟩

theorem dX1_loadOn (l : Launch) (G : Gt) (d : Nat) (S : DS) (W : va_W) (v : Int32) (h : DyW G d S W) (hfl : l.stackTraces = false) : CX l G yX1_loadOn cX1_loadOn 2 (some .int) ({ frames := 12, cells := 8300, slots := 17000, locals := 255 } : Room) [.ref d, .int v] (W ++ []) RH0 (S := Int32 × va_W) (fun (u_ : Int32 × va_W) => some (.int u_.1)) (fun (u_ : Int32 × va_W) => q_loadOn (dC S) v = (0, u_.1) ∧ DyW G d S u_.2) (fun (u_ : Int32 × va_W) => (u_.2 ++ [])) (fun (u_ : Int32 × va_W) (H : Heap) => True) (SX := Nat × va_W) (fun (u_ : Nat × va_W) => exn [eA] u_.1) (fun (u_ : Nat × va_W) => (q_loadOn (dC S) v).1 = u_.1 ∧ DyW G d S u_.2 ∧ 1 ≤ u_.1 ∧ u_.1 ≤ 1) (fun (u_ : Nat × va_W) => (u_.2 ++ [])) (fun (u_ : Nat × va_W) (H : Heap) => True) := by
  obtain ⟨sp, hq, ln, b, to, so, bo, we, tg, lo, fi, fa, kn, ta, tm, te, tcap, tf, ga, sa, sm, se, scap, sf, gs, Wi, fb, fw, fl, ff, fg, ft, wr, hp9, hR9, hc9, hI, htc, hT, hso, hfb, hfw, hsc, hSs, hss, hkn, hca, hft⟩ := h.q
  refine (mX1_loadOn l G d sp hq ln b to so bo we tg lo fi fa kn (dC S) ta tm te tcap tf ga sa sm se scap sf gs Wi fb fw fl ff fg ft v hI htc hT hso hfb hfw hsc hSs hss hkn hca hft hfl).conv (Nat.le_of_ble_eq_true rfl) (Nat.le_of_ble_eq_true rfl) (Nat.le_of_ble_eq_true rfl) (Nat.le_of_ble_eq_true rfl) wr (P9.nil hp9) (fun sz A H hA hP hr h9 _ e9 => hR9 A H hr h9) (fun u hu => ?_) (fun u hu => ?_)
  · obtain ⟨rr, kn2, fl2, ff2, fg2⟩ := u
    obtain ⟨q1, q2, q3⟩ := hu
    obtain ⟨W2, w1, w2⟩ := hc9 kn2 fl2 ff2 fg2 q2 q3
    exact ⟨(rr, W2), rfl, ⟨q1, w1⟩, Sub9.nil w2, fun _ z => z⟩
  · obtain ⟨kx, kn2, fl2, ff2, fg2⟩ := u
    obtain ⟨q1, q2, q5, q3, q4⟩ := hu
    obtain ⟨W2, w1, w2⟩ := hc9 kn2 fl2 ff2 fg2 q3 q4
    exact ⟨(kx, W2), rfl, ⟨q1, w1, q2, q5⟩, Sub9.nil w2, fun _ z => z⟩

theorem dX1_fitnessOn (l : Launch) (G : Gt) (d : Nat) (S : DS) (W : va_W) (v : Int32) (h : DyW G d S W) (hfl : l.stackTraces = false) : CX l G yX1_fitnessOn cX1_fitnessOn 2 (some .int) ({ frames := 12, cells := 8300, slots := 17000, locals := 255 } : Room) [.ref d, .int v] (W ++ []) RH0 (S := Int32 × va_W) (fun (u_ : Int32 × va_W) => some (.int u_.1)) (fun (u_ : Int32 × va_W) => q_fit (dC S) v = (0, u_.1) ∧ DyW G d S u_.2) (fun (u_ : Int32 × va_W) => (u_.2 ++ [])) (fun (u_ : Int32 × va_W) (H : Heap) => True) (SX := Nat × va_W) (fun (u_ : Nat × va_W) => exn [eA] u_.1) (fun (u_ : Nat × va_W) => (q_fit (dC S) v).1 = u_.1 ∧ DyW G d S u_.2 ∧ 1 ≤ u_.1 ∧ u_.1 ≤ 1) (fun (u_ : Nat × va_W) => (u_.2 ++ [])) (fun (u_ : Nat × va_W) (H : Heap) => True) := by
  obtain ⟨sp, hq, ln, b, to, so, bo, we, tg, lo, fi, fa, kn, ta, tm, te, tcap, tf, ga, sa, sm, se, scap, sf, gs, Wi, fb, fw, fl, ff, fg, ft, wr, hp9, hR9, hc9, hI, htc, hT, hso, hfb, hfw, hsc, hSs, hss, hkn, hca, hft⟩ := h.q
  refine (mX1_fitnessOn l G d sp hq ln b to so bo we tg lo fi fa kn (dC S) ta tm te tcap tf ga sa sm se scap sf gs Wi fb fw fl ff fg ft v hI htc hT hso hfb hfw hsc hSs hss hkn hca hft hfl).conv (Nat.le_of_ble_eq_true rfl) (Nat.le_of_ble_eq_true rfl) (Nat.le_of_ble_eq_true rfl) (Nat.le_of_ble_eq_true rfl) wr (P9.nil hp9) (fun sz A H hA hP hr h9 _ e9 => hR9 A H hr h9) (fun u hu => ?_) (fun u hu => ?_)
  · obtain ⟨rr, kn2, fl2, ff2, fg2⟩ := u
    obtain ⟨q1, q2, q3⟩ := hu
    obtain ⟨W2, w1, w2⟩ := hc9 kn2 fl2 ff2 fg2 q2 q3
    exact ⟨(rr, W2), rfl, ⟨q1, w1⟩, Sub9.nil w2, fun _ z => z⟩
  · obtain ⟨kx, kn2, fl2, ff2, fg2⟩ := u
    obtain ⟨q1, q2, q5, q3, q4⟩ := hu
    obtain ⟨W2, w1, w2⟩ := hc9 kn2 fl2 ff2 fg2 q3 q4
    exact ⟨(kx, W2), rfl, ⟨q1, w1, q2, q5⟩, Sub9.nil w2, fun _ z => z⟩

theorem dX1_fatigueOn (l : Launch) (G : Gt) (d : Nat) (S : DS) (W : va_W) (v : Int32) (h : DyW G d S W) (hfl : l.stackTraces = false) : CX l G yX1_fatigueOn cX1_fatigueOn 2 (some .int) ({ frames := 12, cells := 8300, slots := 17000, locals := 255 } : Room) [.ref d, .int v] (W ++ []) RH0 (S := Int32 × va_W) (fun (u_ : Int32 × va_W) => some (.int u_.1)) (fun (u_ : Int32 × va_W) => q_fat (dC S) v = (0, u_.1) ∧ DyW G d S u_.2) (fun (u_ : Int32 × va_W) => (u_.2 ++ [])) (fun (u_ : Int32 × va_W) (H : Heap) => True) (SX := Nat × va_W) (fun (u_ : Nat × va_W) => exn [eA] u_.1) (fun (u_ : Nat × va_W) => (q_fat (dC S) v).1 = u_.1 ∧ DyW G d S u_.2 ∧ 1 ≤ u_.1 ∧ u_.1 ≤ 1) (fun (u_ : Nat × va_W) => (u_.2 ++ [])) (fun (u_ : Nat × va_W) (H : Heap) => True) := by
  obtain ⟨sp, hq, ln, b, to, so, bo, we, tg, lo, fi, fa, kn, ta, tm, te, tcap, tf, ga, sa, sm, se, scap, sf, gs, Wi, fb, fw, fl, ff, fg, ft, wr, hp9, hR9, hc9, hI, htc, hT, hso, hfb, hfw, hsc, hSs, hss, hkn, hca, hft⟩ := h.q
  refine (mX1_fatigueOn l G d sp hq ln b to so bo we tg lo fi fa kn (dC S) ta tm te tcap tf ga sa sm se scap sf gs Wi fb fw fl ff fg ft v hI htc hT hso hfb hfw hsc hSs hss hkn hca hft hfl).conv (Nat.le_of_ble_eq_true rfl) (Nat.le_of_ble_eq_true rfl) (Nat.le_of_ble_eq_true rfl) (Nat.le_of_ble_eq_true rfl) wr (P9.nil hp9) (fun sz A H hA hP hr h9 _ e9 => hR9 A H hr h9) (fun u hu => ?_) (fun u hu => ?_)
  · obtain ⟨rr, kn2, fl2, ff2, fg2⟩ := u
    obtain ⟨q1, q2, q3⟩ := hu
    obtain ⟨W2, w1, w2⟩ := hc9 kn2 fl2 ff2 fg2 q2 q3
    exact ⟨(rr, W2), rfl, ⟨q1, w1⟩, Sub9.nil w2, fun _ z => z⟩
  · obtain ⟨kx, kn2, fl2, ff2, fg2⟩ := u
    obtain ⟨q1, q2, q5, q3, q4⟩ := hu
    obtain ⟨W2, w1, w2⟩ := hc9 kn2 fl2 ff2 fg2 q3 q4
    exact ⟨(kx, W2), rfl, ⟨q1, w1, q2, q5⟩, Sub9.nil w2, fun _ z => z⟩

theorem dX1_formOn (l : Launch) (G : Gt) (d : Nat) (S : DS) (W : va_W) (v : Int32) (h : DyW G d S W) (hfl : l.stackTraces = false) : CX l G yX1_formOn cX1_formOn 2 (some .int) ({ frames := 13, cells := 8300, slots := 17000, locals := 276 } : Room) [.ref d, .int v] (W ++ []) RH0 (S := Int32 × va_W) (fun (u_ : Int32 × va_W) => some (.int u_.1)) (fun (u_ : Int32 × va_W) => q_form (dC S) v = (0, u_.1) ∧ DyW G d S u_.2) (fun (u_ : Int32 × va_W) => (u_.2 ++ [])) (fun (u_ : Int32 × va_W) (H : Heap) => True) (SX := Nat × va_W) (fun (u_ : Nat × va_W) => exn [eA] u_.1) (fun (u_ : Nat × va_W) => (q_form (dC S) v).1 = u_.1 ∧ DyW G d S u_.2 ∧ 1 ≤ u_.1 ∧ u_.1 ≤ 1) (fun (u_ : Nat × va_W) => (u_.2 ++ [])) (fun (u_ : Nat × va_W) (H : Heap) => True) := by
  obtain ⟨sp, hq, ln, b, to, so, bo, we, tg, lo, fi, fa, kn, ta, tm, te, tcap, tf, ga, sa, sm, se, scap, sf, gs, Wi, fb, fw, fl, ff, fg, ft, wr, hp9, hR9, hc9, hI, htc, hT, hso, hfb, hfw, hsc, hSs, hss, hkn, hca, hft⟩ := h.q
  refine (mX1_formOn l G d sp hq ln b to so bo we tg lo fi fa kn (dC S) ta tm te tcap tf ga sa sm se scap sf gs Wi fb fw fl ff fg ft v hI htc hT hso hfb hfw hsc hSs hss hkn hca hft hfl).conv (Nat.le_of_ble_eq_true rfl) (Nat.le_of_ble_eq_true rfl) (Nat.le_of_ble_eq_true rfl) (Nat.le_of_ble_eq_true rfl) wr (P9.nil hp9) (fun sz A H hA hP hr h9 _ e9 => hR9 A H hr h9) (fun u hu => ?_) (fun u hu => ?_)
  · obtain ⟨rr, kn2, fl2, ff2, fg2⟩ := u
    obtain ⟨q1, q2, q3⟩ := hu
    obtain ⟨W2, w1, w2⟩ := hc9 kn2 fl2 ff2 fg2 q2 q3
    exact ⟨(rr, W2), rfl, ⟨q1, w1⟩, Sub9.nil w2, fun _ z => z⟩
  · obtain ⟨kx, kn2, fl2, ff2, fg2⟩ := u
    obtain ⟨q1, q2, q5, q3, q4⟩ := hu
    obtain ⟨W2, w1, w2⟩ := hc9 kn2 fl2 ff2 fg2 q3 q4
    exact ⟨(kx, W2), rfl, ⟨q1, w1, q2, q5⟩, Sub9.nil w2, fun _ z => z⟩

theorem dX1_fitnessFromStart (l : Launch) (G : Gt) (d : Nat) (S : DS) (W : va_W) (v : Int32) (h : DyW G d S W) (hfl : l.stackTraces = false) : CX l G yX1_fitnessFromStart cX1_fitnessFromStart 2 (some .int) ({ frames := 11, cells := 8300, slots := 17000, locals := 235 } : Room) [.ref d, .int v] (W ++ []) RH0 (S := Int32 × va_W) (fun (u_ : Int32 × va_W) => some (.int u_.1)) (fun (u_ : Int32 × va_W) => q_fit (dC S) v = (0, u_.1) ∧ DyW G d S u_.2) (fun (u_ : Int32 × va_W) => (u_.2 ++ [])) (fun (u_ : Int32 × va_W) (H : Heap) => True) (SX := Nat × va_W) (fun (u_ : Nat × va_W) => exn [eA] u_.1) (fun (u_ : Nat × va_W) => (q_fit (dC S) v).1 = u_.1 ∧ DyW G d S u_.2 ∧ 1 ≤ u_.1 ∧ u_.1 ≤ 1) (fun (u_ : Nat × va_W) => (u_.2 ++ [])) (fun (u_ : Nat × va_W) (H : Heap) => True) := by
  obtain ⟨sp, hq, ln, b, to, so, bo, we, tg, lo, fi, fa, kn, ta, tm, te, tcap, tf, ga, sa, sm, se, scap, sf, gs, Wi, fb, fw, fl, ff, fg, ft, wr, hp9, hR9, hc9, hI, htc, hT, hso, hfb, hfw, hsc, hSs, hss, hkn, hca, hft⟩ := h.q
  refine (mX1_fitnessFromStart l G d sp hq ln b to so bo we tg lo fi fa kn (dC S) ta tm te tcap tf ga sa sm se scap sf gs Wi fb fw fl ff fg ft v hI htc hT hso hfb hfw hsc hSs hss hkn hca hft hfl).conv (Nat.le_of_ble_eq_true rfl) (Nat.le_of_ble_eq_true rfl) (Nat.le_of_ble_eq_true rfl) (Nat.le_of_ble_eq_true rfl) wr (P9.nil hp9) (fun sz A H hA hP hr h9 _ e9 => hR9 A H hr h9) (fun u hu => ?_) (fun u hu => ?_)
  · obtain ⟨rr, kn2, fl2, ff2, fg2⟩ := u
    obtain ⟨q1, q2, q3⟩ := hu
    obtain ⟨W2, w1, w2⟩ := hc9 kn2 fl2 ff2 fg2 q2 q3
    exact ⟨(rr, W2), rfl, ⟨q1, w1⟩, Sub9.nil w2, fun _ z => z⟩
  · obtain ⟨kx, kn2, fl2, ff2, fg2⟩ := u
    obtain ⟨q1, q2, q5, q3, q4⟩ := hu
    obtain ⟨W2, w1, w2⟩ := hc9 kn2 fl2 ff2 fg2 q3 q4
    exact ⟨(kx, W2), rfl, ⟨q1, w1, q2, q5⟩, Sub9.nil w2, fun _ z => z⟩

theorem dX1_fatigueFromStart (l : Launch) (G : Gt) (d : Nat) (S : DS) (W : va_W) (v : Int32) (h : DyW G d S W) (hfl : l.stackTraces = false) : CX l G yX1_fatigueFromStart cX1_fatigueFromStart 2 (some .int) ({ frames := 11, cells := 8300, slots := 17000, locals := 235 } : Room) [.ref d, .int v] (W ++ []) RH0 (S := Int32 × va_W) (fun (u_ : Int32 × va_W) => some (.int u_.1)) (fun (u_ : Int32 × va_W) => q_fat (dC S) v = (0, u_.1) ∧ DyW G d S u_.2) (fun (u_ : Int32 × va_W) => (u_.2 ++ [])) (fun (u_ : Int32 × va_W) (H : Heap) => True) (SX := Nat × va_W) (fun (u_ : Nat × va_W) => exn [eA] u_.1) (fun (u_ : Nat × va_W) => (q_fat (dC S) v).1 = u_.1 ∧ DyW G d S u_.2 ∧ 1 ≤ u_.1 ∧ u_.1 ≤ 1) (fun (u_ : Nat × va_W) => (u_.2 ++ [])) (fun (u_ : Nat × va_W) (H : Heap) => True) := by
  obtain ⟨sp, hq, ln, b, to, so, bo, we, tg, lo, fi, fa, kn, ta, tm, te, tcap, tf, ga, sa, sm, se, scap, sf, gs, Wi, fb, fw, fl, ff, fg, ft, wr, hp9, hR9, hc9, hI, htc, hT, hso, hfb, hfw, hsc, hSs, hss, hkn, hca, hft⟩ := h.q
  refine (mX1_fatigueFromStart l G d sp hq ln b to so bo we tg lo fi fa kn (dC S) ta tm te tcap tf ga sa sm se scap sf gs Wi fb fw fl ff fg ft v hI htc hT hso hfb hfw hsc hSs hss hkn hca hft hfl).conv (Nat.le_of_ble_eq_true rfl) (Nat.le_of_ble_eq_true rfl) (Nat.le_of_ble_eq_true rfl) (Nat.le_of_ble_eq_true rfl) wr (P9.nil hp9) (fun sz A H hA hP hr h9 _ e9 => hR9 A H hr h9) (fun u hu => ?_) (fun u hu => ?_)
  · obtain ⟨rr, kn2, fl2, ff2, fg2⟩ := u
    obtain ⟨q1, q2, q3⟩ := hu
    obtain ⟨W2, w1, w2⟩ := hc9 kn2 fl2 ff2 fg2 q2 q3
    exact ⟨(rr, W2), rfl, ⟨q1, w1⟩, Sub9.nil w2, fun _ z => z⟩
  · obtain ⟨kx, kn2, fl2, ff2, fg2⟩ := u
    obtain ⟨q1, q2, q5, q3, q4⟩ := hu
    obtain ⟨W2, w1, w2⟩ := hc9 kn2 fl2 ff2 fg2 q3 q4
    exact ⟨(kx, W2), rfl, ⟨q1, w1, q2, q5⟩, Sub9.nil w2, fun _ z => z⟩

theorem dX1_targetAt (l : Launch) (G : Gt) (d : Nat) (S : DS) (W : va_W) (v : Int32) (h : DyW G d S W) (hfl : l.stackTraces = false) : CX l G yX1_targetAt cX1_targetAt 2 (some .int) ({ frames := 7, cells := 2, slots := 8, locals := 102 } : Room) [.ref d, .int v] (W ++ []) RH0 (S := Int32 × va_W) (fun (u_ : Int32 × va_W) => some (.int u_.1)) (fun (u_ : Int32 × va_W) => q_target (dC S) v = (0, u_.1) ∧ DyW G d S u_.2) (fun (u_ : Int32 × va_W) => (u_.2 ++ [])) (fun (u_ : Int32 × va_W) (H : Heap) => True) (SX := Nat × va_W) (fun (u_ : Nat × va_W) => exn [eI] u_.1) (fun (u_ : Nat × va_W) => (q_target (dC S) v).1 = u_.1 ∧ DyW G d S u_.2 ∧ 1 ≤ u_.1 ∧ u_.1 ≤ 1) (fun (u_ : Nat × va_W) => (u_.2 ++ [])) (fun (u_ : Nat × va_W) (H : Heap) => True) := by
  obtain ⟨sp, hq, ln, b, to, so, bo, we, tg, lo, fi, fa, kn, ta, tm, te, tcap, tf, ga, sa, sm, se, scap, sf, gs, Wi, fb, fw, fl, ff, fg, ft, wr, hp9, hR9, hc9, hI, htc, hT, hso, hfb, hfw, hsc, hSs, hss, hkn, hca, hft⟩ := h.q
  refine (mX1_targetAt l G d sp hq ln b to so bo we tg lo fi fa kn (dC S) ta tm te tcap tf ga sa sm se scap sf gs Wi fb fw fl ff fg ft v hI htc hT hso hfb hfw hsc hSs hss hkn hca hft hfl).conv (Nat.le_of_ble_eq_true rfl) (Nat.le_of_ble_eq_true rfl) (Nat.le_of_ble_eq_true rfl) (Nat.le_of_ble_eq_true rfl) wr (P9.nil hp9) (fun sz A H hA hP hr h9 _ e9 => hR9 A H hr h9) (fun u hu => ?_) (fun u hu => ?_)
  · obtain ⟨rr, kn2, fl2, ff2, fg2⟩ := u
    obtain ⟨q1, q2, q3⟩ := hu
    obtain ⟨W2, w1, w2⟩ := hc9 kn2 fl2 ff2 fg2 q2 q3
    exact ⟨(rr, W2), rfl, ⟨q1, w1⟩, Sub9.nil w2, fun _ z => z⟩
  · obtain ⟨kx, kn2, fl2, ff2, fg2⟩ := u
    obtain ⟨q1, q2, q5, q3, q4⟩ := hu
    obtain ⟨W2, w1, w2⟩ := hc9 kn2 fl2 ff2 fg2 q3 q4
    exact ⟨(kx, W2), rfl, ⟨q1, w1, q2, q5⟩, Sub9.nil w2, fun _ z => z⟩

theorem dX1_meanLoad (l : Launch) (G : Gt) (d : Nat) (S : DS) (W : va_W) (h : DyW G d S W) : CT l G yX1_meanLoad cX1_meanLoad 3 (some .double) ({ frames := 12, cells := 8300, slots := 17000, locals := 255 } : Room) [.ref d] (W ++ []) RH0 (S := UInt64 × va_W) (fun (u_ : UInt64 × va_W) => some (.double u_.1)) (fun (u_ : UInt64 × va_W) => q_mean (dC S) = (0, u_.1) ∧ DyW G d S u_.2) (fun (u_ : UInt64 × va_W) => (u_.2 ++ [])) (fun (u_ : UInt64 × va_W) (H : Heap) => True) := by
  obtain ⟨sp, hq, ln, b, to, so, bo, we, tg, lo, fi, fa, kn, ta, tm, te, tcap, tf, ga, sa, sm, se, scap, sf, gs, Wi, fb, fw, fl, ff, fg, ft, wr, hp9, hR9, hc9, hI, htc, hT, hso, hfb, hfw, hsc, hSs, hss, hkn, hca, hft⟩ := h.q
  refine (mX1_meanLoad l G d sp hq ln b to so bo we tg lo fi fa kn (dC S) ta tm te tcap tf ga sa sm se scap sf gs Wi fb fw fl ff fg ft hI htc hT hso hfb hfw hsc hSs hss hkn hca hft).conv (Nat.le_of_ble_eq_true rfl) (Nat.le_of_ble_eq_true rfl) (Nat.le_of_ble_eq_true rfl) (Nat.le_of_ble_eq_true rfl) wr (P9.nil hp9) (fun sz A H hA hP hr h9 _ e9 => hR9 A H hr h9) (fun u hu => ?_)
  · obtain ⟨rr, kn2, fl2, ff2, fg2⟩ := u
    obtain ⟨q1, q2, q3⟩ := hu
    obtain ⟨W2, w1, w2⟩ := hc9 kn2 fl2 ff2 fg2 q2 q3
    exact ⟨(rr, W2), rfl, ⟨q1, w1⟩, Sub9.nil w2, fun _ z => z⟩

theorem dX1_bestFormDay (l : Launch) (G : Gt) (d : Nat) (S : DS) (W : va_W) (h : DyW G d S W) : CT l G yX1_bestFormDay cX1_bestFormDay 3 (some .int) ({ frames := 13, cells := 8300, slots := 17000, locals := 276 } : Room) [.ref d] (W ++ []) RH0 (S := Int32 × va_W) (fun (u_ : Int32 × va_W) => some (.int u_.1)) (fun (u_ : Int32 × va_W) => q_bestForm (dC S) = (0, u_.1) ∧ DyW G d S u_.2) (fun (u_ : Int32 × va_W) => (u_.2 ++ [])) (fun (u_ : Int32 × va_W) (H : Heap) => True) := by
  obtain ⟨sp, hq, ln, b, to, so, bo, we, tg, lo, fi, fa, kn, ta, tm, te, tcap, tf, ga, sa, sm, se, scap, sf, gs, Wi, fb, fw, fl, ff, fg, ft, wr, hp9, hR9, hc9, hI, htc, hT, hso, hfb, hfw, hsc, hSs, hss, hkn, hca, hft⟩ := h.q
  refine (mX1_bestFormDay l G d sp hq ln b to so bo we tg lo fi fa kn (dC S) ta tm te tcap tf ga sa sm se scap sf gs Wi fb fw fl ff fg ft hI htc hT hso hfb hfw hsc hSs hss hkn hca hft).conv (Nat.le_of_ble_eq_true rfl) (Nat.le_of_ble_eq_true rfl) (Nat.le_of_ble_eq_true rfl) (Nat.le_of_ble_eq_true rfl) wr (P9.nil hp9) (fun sz A H hA hP hr h9 _ e9 => hR9 A H hr h9) (fun u hu => ?_)
  · obtain ⟨rr, kn2, fl2, ff2, fg2⟩ := u
    obtain ⟨q1, q2, q3⟩ := hu
    obtain ⟨W2, w1, w2⟩ := hc9 kn2 fl2 ff2 fg2 q2 q3
    exact ⟨(rr, W2), rfl, ⟨q1, w1⟩, Sub9.nil w2, fun _ z => z⟩

theorem dX1_daysToForm (l : Launch) (G : Gt) (d : Nat) (S : DS) (W : va_W) (v : Int32) (h : DyW G d S W) (hfl : l.stackTraces = false) : CX l G yX1_daysToForm cX1_daysToForm 5 (some .int) ({ frames := 13, cells := 8300, slots := 17000, locals := 276 } : Room) [.ref d, .int v] (W ++ []) RH0 (S := Int32 × va_W) (fun (u_ : Int32 × va_W) => some (.int u_.1)) (fun (u_ : Int32 × va_W) => q_daysTo (dC S) v = (0, u_.1) ∧ DyW G d S u_.2) (fun (u_ : Int32 × va_W) => (u_.2 ++ [])) (fun (u_ : Int32 × va_W) (H : Heap) => True) (SX := Nat × va_W) (fun (u_ : Nat × va_W) => exn [eA, eN] u_.1) (fun (u_ : Nat × va_W) => (q_daysTo (dC S) v).1 = u_.1 ∧ DyW G d S u_.2 ∧ 1 ≤ u_.1 ∧ u_.1 ≤ 2) (fun (u_ : Nat × va_W) => (u_.2 ++ [])) (fun (u_ : Nat × va_W) (H : Heap) => True) := by
  obtain ⟨sp, hq, ln, b, to, so, bo, we, tg, lo, fi, fa, kn, ta, tm, te, tcap, tf, ga, sa, sm, se, scap, sf, gs, Wi, fb, fw, fl, ff, fg, ft, wr, hp9, hR9, hc9, hI, htc, hT, hso, hfb, hfw, hsc, hSs, hss, hkn, hca, hft⟩ := h.q
  refine (mX1_daysToForm l G d sp hq ln b to so bo we tg lo fi fa kn (dC S) ta tm te tcap tf ga sa sm se scap sf gs Wi fb fw fl ff fg ft v hI htc hT hso hfb hfw hsc hSs hss hkn hca hft hfl).conv (Nat.le_of_ble_eq_true rfl) (Nat.le_of_ble_eq_true rfl) (Nat.le_of_ble_eq_true rfl) (Nat.le_of_ble_eq_true rfl) wr (P9.nil hp9) (fun sz A H hA hP hr h9 _ e9 => hR9 A H hr h9) (fun u hu => ?_) (fun u hu => ?_)
  · obtain ⟨rr, kn2, fl2, ff2, fg2⟩ := u
    obtain ⟨q1, q2, q3⟩ := hu
    obtain ⟨W2, w1, w2⟩ := hc9 kn2 fl2 ff2 fg2 q2 q3
    exact ⟨(rr, W2), rfl, ⟨q1, w1⟩, Sub9.nil w2, fun _ z => z⟩
  · obtain ⟨kx, kn2, fl2, ff2, fg2⟩ := u
    obtain ⟨q1, q2, q5, q3, q4⟩ := hu
    obtain ⟨W2, w1, w2⟩ := hc9 kn2 fl2 ff2 fg2 q3 q4
    exact ⟨(kx, W2), rfl, ⟨q1, w1, q2, q5⟩, Sub9.nil w2, fun _ z => z⟩

theorem dX1_bestDays (l : Launch) (G : Gt) (d : Nat) (S : DS) (W : va_W) (v : Int32) (h : DyW G d S W) (hfl : l.stackTraces = false) : CX l G yX1_bestDays cX1_bestDays 2 (some .int) ({ frames := 13, cells := 16600, slots := 34000, locals := 280 } : Room) [.ref d, .int v] (W ++ []) RH0 (S := Int32 × va_W) (fun (u_ : Int32 × va_W) => some (.int u_.1)) (fun (u_ : Int32 × va_W) => q_bestDays (dC S) v = (0, u_.1) ∧ DyW G d S u_.2) (fun (u_ : Int32 × va_W) => (u_.2 ++ [])) (fun (u_ : Int32 × va_W) (H : Heap) => True) (SX := Nat × va_W) (fun (u_ : Nat × va_W) => exn [eA, eN] u_.1) (fun (u_ : Nat × va_W) => (q_bestDays (dC S) v).1 = u_.1 ∧ DyW G d S u_.2 ∧ 1 ≤ u_.1 ∧ u_.1 ≤ 2) (fun (u_ : Nat × va_W) => (u_.2 ++ [])) (fun (u_ : Nat × va_W) (H : Heap) => True) := by
  obtain ⟨sp, hq, ln, b, to, so, bo, we, tg, lo, fi, fa, kn, ta, tm, te, tcap, tf, ga, sa, sm, se, scap, sf, gs, Wi, fb, fw, fl, ff, fg, ft, wr, hp9, hR9, hc9, hI, htc, hT, hso, hfb, hfw, hsc, hSs, hss, hkn, hca, hft⟩ := h.q
  refine (mX1_bestDays l G d sp hq ln b to so bo we tg lo fi fa kn (dC S) ta tm te tcap tf ga sa sm se scap sf gs Wi fb fw fl ff fg ft v hI htc hT hso hfb hfw hsc hSs hss hkn hca hft hfl).conv (Nat.le_of_ble_eq_true rfl) (Nat.le_of_ble_eq_true rfl) (Nat.le_of_ble_eq_true rfl) (Nat.le_of_ble_eq_true rfl) wr (P9.nil hp9) (fun sz A H hA hP hr h9 _ e9 => hR9 A H hr h9) (fun u hu => ?_) (fun u hu => ?_)
  · obtain ⟨rr, kn2, fl2, ff2, fg2⟩ := u
    obtain ⟨q1, q2, q3⟩ := hu
    obtain ⟨W2, w1, w2⟩ := hc9 kn2 fl2 ff2 fg2 q2 q3
    exact ⟨(rr, W2), rfl, ⟨q1, w1⟩, Sub9.nil w2, fun _ z => z⟩
  · obtain ⟨kx, kn2, fl2, ff2, fg2⟩ := u
    obtain ⟨q1, q2, q5, q3, q4⟩ := hu
    obtain ⟨W2, w1, w2⟩ := hc9 kn2 fl2 ff2 fg2 q3 q4
    exact ⟨(kx, W2), rfl, ⟨q1, w1, q2, q5⟩, Sub9.nil w2, fun _ z => z⟩

theorem dX1_bestDaysStart (l : Launch) (G : Gt) (d : Nat) (S : DS) (W : va_W) (v : Int32) (h : DyW G d S W) (hfl : l.stackTraces = false) : CX l G yX1_bestDaysStart cX1_bestDaysStart 2 (some .int) ({ frames := 13, cells := 8300, slots := 17000, locals := 280 } : Room) [.ref d, .int v] (W ++ []) RH0 (S := Int32 × va_W) (fun (u_ : Int32 × va_W) => some (.int u_.1)) (fun (u_ : Int32 × va_W) => q_bestStart (dC S) v = (0, u_.1) ∧ DyW G d S u_.2) (fun (u_ : Int32 × va_W) => (u_.2 ++ [])) (fun (u_ : Int32 × va_W) (H : Heap) => True) (SX := Nat × va_W) (fun (u_ : Nat × va_W) => exn [eA, eN] u_.1) (fun (u_ : Nat × va_W) => (q_bestStart (dC S) v).1 = u_.1 ∧ DyW G d S u_.2 ∧ 1 ≤ u_.1 ∧ u_.1 ≤ 2) (fun (u_ : Nat × va_W) => (u_.2 ++ [])) (fun (u_ : Nat × va_W) (H : Heap) => True) := by
  obtain ⟨sp, hq, ln, b, to, so, bo, we, tg, lo, fi, fa, kn, ta, tm, te, tcap, tf, ga, sa, sm, se, scap, sf, gs, Wi, fb, fw, fl, ff, fg, ft, wr, hp9, hR9, hc9, hI, htc, hT, hso, hfb, hfw, hsc, hSs, hss, hkn, hca, hft⟩ := h.q
  refine (mX1_bestDaysStart l G d sp hq ln b to so bo we tg lo fi fa kn (dC S) ta tm te tcap tf ga sa sm se scap sf gs Wi fb fw fl ff fg ft v hI htc hT hso hfb hfw hsc hSs hss hkn hca hft hfl).conv (Nat.le_of_ble_eq_true rfl) (Nat.le_of_ble_eq_true rfl) (Nat.le_of_ble_eq_true rfl) (Nat.le_of_ble_eq_true rfl) wr (P9.nil hp9) (fun sz A H hA hP hr h9 _ e9 => hR9 A H hr h9) (fun u hu => ?_) (fun u hu => ?_)
  · obtain ⟨rr, kn2, fl2, ff2, fg2⟩ := u
    obtain ⟨q1, q2, q3⟩ := hu
    obtain ⟨W2, w1, w2⟩ := hc9 kn2 fl2 ff2 fg2 q2 q3
    exact ⟨(rr, W2), rfl, ⟨q1, w1⟩, Sub9.nil w2, fun _ z => z⟩
  · obtain ⟨kx, kn2, fl2, ff2, fg2⟩ := u
    obtain ⟨q1, q2, q5, q3, q4⟩ := hu
    obtain ⟨W2, w1, w2⟩ := hc9 kn2 fl2 ff2 fg2 q3 q4
    exact ⟨(kx, W2), rfl, ⟨q1, w1, q2, q5⟩, Sub9.nil w2, fun _ z => z⟩

theorem dX1_bestDaysByTrying (l : Launch) (G : Gt) (d : Nat) (S : DS) (W : va_W) (v : Int32) (h : DyW G d S W) (hfl : l.stackTraces = false) : CX l G yX1_bestDaysByTrying cX1_bestDaysByTrying 4 (some .int) ({ frames := 13, cells := 8300, slots := 17000, locals := 279 } : Room) [.ref d, .int v] (W ++ []) RH0 (S := Int32 × va_W) (fun (u_ : Int32 × va_W) => some (.int u_.1)) (fun (u_ : Int32 × va_W) => q_bestDays (dC S) v = (0, u_.1) ∧ DyW G d S u_.2) (fun (u_ : Int32 × va_W) => (u_.2 ++ [])) (fun (u_ : Int32 × va_W) (H : Heap) => True) (SX := Nat × va_W) (fun (u_ : Nat × va_W) => exn [eA, eN] u_.1) (fun (u_ : Nat × va_W) => (q_bestDays (dC S) v).1 = u_.1 ∧ DyW G d S u_.2 ∧ 1 ≤ u_.1 ∧ u_.1 ≤ 2) (fun (u_ : Nat × va_W) => (u_.2 ++ [])) (fun (u_ : Nat × va_W) (H : Heap) => True) := by
  obtain ⟨sp, hq, ln, b, to, so, bo, we, tg, lo, fi, fa, kn, ta, tm, te, tcap, tf, ga, sa, sm, se, scap, sf, gs, Wi, fb, fw, fl, ff, fg, ft, wr, hp9, hR9, hc9, hI, htc, hT, hso, hfb, hfw, hsc, hSs, hss, hkn, hca, hft⟩ := h.q
  refine (mX1_bestDaysByTrying l G d sp hq ln b to so bo we tg lo fi fa kn (dC S) ta tm te tcap tf ga sa sm se scap sf gs Wi fb fw fl ff fg ft v hI htc hT hso hfb hfw hsc hSs hss hkn hca hft hfl).conv (Nat.le_of_ble_eq_true rfl) (Nat.le_of_ble_eq_true rfl) (Nat.le_of_ble_eq_true rfl) (Nat.le_of_ble_eq_true rfl) wr (P9.nil hp9) (fun sz A H hA hP hr h9 _ e9 => hR9 A H hr h9) (fun u hu => ?_) (fun u hu => ?_)
  · obtain ⟨rr, kn2, fl2, ff2, fg2⟩ := u
    obtain ⟨q1, q2, q3⟩ := hu
    obtain ⟨W2, w1, w2⟩ := hc9 kn2 fl2 ff2 fg2 q2 q3
    exact ⟨(rr, W2), rfl, ⟨q1, w1⟩, Sub9.nil w2, fun _ z => z⟩
  · obtain ⟨kx, kn2, fl2, ff2, fg2⟩ := u
    obtain ⟨q1, q2, q5, q3, q4⟩ := hu
    obtain ⟨W2, w1, w2⟩ := hc9 kn2 fl2 ff2 fg2 q3 q4
    exact ⟨(kx, W2), rfl, ⟨q1, w1, q2, q5⟩, Sub9.nil w2, fun _ z => z⟩

theorem dX1_zoneShare (l : Launch) (G : Gt) (d : Nat) (S : DS) (W : va_W) (v : Int32) (h : DyW G d S W) (hfl : l.stackTraces = false) : CX l G yX1_zoneShare cX1_zoneShare 6 (some .float) ({ frames := 9, cells := 60, slots := 200, locals := 188 } : Room) [.ref d, .int v] (W ++ []) RH0 (S := UInt32 × va_W) (fun (u_ : UInt32 × va_W) => some (.float u_.1)) (fun (u_ : UInt32 × va_W) => q_share (dC S) v = (0, u_.1) ∧ DyW G d S u_.2) (fun (u_ : UInt32 × va_W) => (u_.2 ++ [])) (fun (u_ : UInt32 × va_W) (H : Heap) => True) (SX := Nat × va_W) (fun (u_ : Nat × va_W) => exn [eA, eR] u_.1) (fun (u_ : Nat × va_W) => (q_share (dC S) v).1 = u_.1 ∧ DyW G d S u_.2 ∧ 1 ≤ u_.1 ∧ u_.1 ≤ 2) (fun (u_ : Nat × va_W) => (u_.2 ++ [])) (fun (u_ : Nat × va_W) (H : Heap) => True) := by
  obtain ⟨sp, hq, ln, b, to, so, bo, we, tg, lo, fi, fa, kn, ta, tm, te, tcap, tf, ga, sa, sm, se, scap, sf, gs, Wi, fb, fw, fl, ff, fg, ft, wr, hp9, hR9, hc9, hI, htc, hT, hso, hfb, hfw, hsc, hSs, hss, hkn, hca, hft⟩ := h.q
  refine (mX1_zoneShare l G d sp hq ln b to so bo we tg lo fi fa kn (dC S) ta tm te tcap tf ga sa sm se scap sf gs Wi fb fw fl ff fg ft v hI htc hT hso hfb hfw hsc hSs hss hkn hca hft hfl).conv (Nat.le_of_ble_eq_true rfl) (Nat.le_of_ble_eq_true rfl) (Nat.le_of_ble_eq_true rfl) (Nat.le_of_ble_eq_true rfl) wr (P9.nil hp9) (fun sz A H hA hP hr h9 _ e9 => hR9 A H hr h9) (fun u hu => ?_) (fun u hu => ?_)
  · obtain ⟨rr, kn2, fl2, ff2, fg2⟩ := u
    obtain ⟨q1, q2, q3⟩ := hu
    obtain ⟨W2, w1, w2⟩ := hc9 kn2 fl2 ff2 fg2 q2 q3
    exact ⟨(rr, W2), rfl, ⟨q1, w1⟩, Sub9.nil w2, fun _ z => z⟩
  · obtain ⟨kx, kn2, fl2, ff2, fg2⟩ := u
    obtain ⟨q1, q2, q5, q3, q4⟩ := hu
    obtain ⟨W2, w1, w2⟩ := hc9 kn2 fl2 ff2 fg2 q3 q4
    exact ⟨(kx, W2), rfl, ⟨q1, w1, q2, q5⟩, Sub9.nil w2, fun _ z => z⟩

theorem dX1_bestEffort (l : Launch) (G : Gt) (d : Nat) (S : DS) (W : va_W) (v : Int32) (h : DyW G d S W) (hfl : l.stackTraces = false) : CX l G yX1_bestEffort cX1_bestEffort 5 (some .int) ({ frames := 7, cells := 90, slots := 20000, locals := 116 } : Room) [.ref d, .int v] (W ++ []) RH0 (S := Int32 × va_W) (fun (u_ : Int32 × va_W) => some (.int u_.1)) (fun (u_ : Int32 × va_W) => q_bestEff (dC S) v = (0, u_.1) ∧ DyW G d S u_.2) (fun (u_ : Int32 × va_W) => (u_.2 ++ [])) (fun (u_ : Int32 × va_W) (H : Heap) => True) (SX := Nat × va_W) (fun (u_ : Nat × va_W) => exn [eA, eN] u_.1) (fun (u_ : Nat × va_W) => (q_bestEff (dC S) v).1 = u_.1 ∧ DyW G d S u_.2 ∧ 1 ≤ u_.1 ∧ u_.1 ≤ 2) (fun (u_ : Nat × va_W) => (u_.2 ++ [])) (fun (u_ : Nat × va_W) (H : Heap) => True) := by
  obtain ⟨sp, hq, ln, b, to, so, bo, we, tg, lo, fi, fa, kn, ta, tm, te, tcap, tf, ga, sa, sm, se, scap, sf, gs, Wi, fb, fw, fl, ff, fg, ft, wr, hp9, hR9, hc9, hI, htc, hT, hso, hfb, hfw, hsc, hSs, hss, hkn, hca, hft⟩ := h.q
  refine (mX1_bestEffort l G d sp hq ln b to so bo we tg lo fi fa kn (dC S) ta tm te tcap tf ga sa sm se scap sf gs Wi fb fw fl ff fg ft v hI htc hT hso hfb hfw hsc hSs hss hkn hca hft hfl).conv (Nat.le_of_ble_eq_true rfl) (Nat.le_of_ble_eq_true rfl) (Nat.le_of_ble_eq_true rfl) (Nat.le_of_ble_eq_true rfl) wr (P9.nil hp9) (fun sz A H hA hP hr h9 _ e9 => hR9 A H hr h9) (fun u hu => ?_) (fun u hu => ?_)
  · obtain ⟨rr, kn2, fl2, ff2, fg2⟩ := u
    obtain ⟨q1, q2, q3⟩ := hu
    obtain ⟨W2, w1, w2⟩ := hc9 kn2 fl2 ff2 fg2 q2 q3
    exact ⟨(rr, W2), rfl, ⟨q1, w1⟩, Sub9.nil w2, fun _ z => z⟩
  · obtain ⟨kx, kn2, fl2, ff2, fg2⟩ := u
    obtain ⟨q1, q2, q5, q3, q4⟩ := hu
    obtain ⟨W2, w1, w2⟩ := hc9 kn2 fl2 ff2 fg2 q3 q4
    exact ⟨(kx, W2), rfl, ⟨q1, w1, q2, q5⟩, Sub9.nil w2, fun _ z => z⟩

theorem dX1_bestEffortSession (l : Launch) (G : Gt) (d : Nat) (S : DS) (W : va_W) (v : Int32) (h : DyW G d S W) (hfl : l.stackTraces = false) : CX l G yX1_bestEffortSession cX1_bestEffortSession 7 (some .int) ({ frames := 7, cells := 90, slots := 20000, locals := 116 } : Room) [.ref d, .int v] (W ++ []) RH0 (S := Int32 × va_W) (fun (u_ : Int32 × va_W) => some (.int u_.1)) (fun (u_ : Int32 × va_W) => q_bestEffS (dC S) v = (0, u_.1) ∧ DyW G d S u_.2) (fun (u_ : Int32 × va_W) => (u_.2 ++ [])) (fun (u_ : Int32 × va_W) (H : Heap) => True) (SX := Nat × va_W) (fun (u_ : Nat × va_W) => exn [eA, eN] u_.1) (fun (u_ : Nat × va_W) => (q_bestEffS (dC S) v).1 = u_.1 ∧ DyW G d S u_.2 ∧ 1 ≤ u_.1 ∧ u_.1 ≤ 2) (fun (u_ : Nat × va_W) => (u_.2 ++ [])) (fun (u_ : Nat × va_W) (H : Heap) => True) := by
  obtain ⟨sp, hq, ln, b, to, so, bo, we, tg, lo, fi, fa, kn, ta, tm, te, tcap, tf, ga, sa, sm, se, scap, sf, gs, Wi, fb, fw, fl, ff, fg, ft, wr, hp9, hR9, hc9, hI, htc, hT, hso, hfb, hfw, hsc, hSs, hss, hkn, hca, hft⟩ := h.q
  refine (mX1_bestEffortSession l G d sp hq ln b to so bo we tg lo fi fa kn (dC S) ta tm te tcap tf ga sa sm se scap sf gs Wi fb fw fl ff fg ft v hI htc hT hso hfb hfw hsc hSs hss hkn hca hft hfl).conv (Nat.le_of_ble_eq_true rfl) (Nat.le_of_ble_eq_true rfl) (Nat.le_of_ble_eq_true rfl) (Nat.le_of_ble_eq_true rfl) wr (P9.nil hp9) (fun sz A H hA hP hr h9 _ e9 => hR9 A H hr h9) (fun u hu => ?_) (fun u hu => ?_)
  · obtain ⟨rr, kn2, fl2, ff2, fg2⟩ := u
    obtain ⟨q1, q2, q3⟩ := hu
    obtain ⟨W2, w1, w2⟩ := hc9 kn2 fl2 ff2 fg2 q2 q3
    exact ⟨(rr, W2), rfl, ⟨q1, w1⟩, Sub9.nil w2, fun _ z => z⟩
  · obtain ⟨kx, kn2, fl2, ff2, fg2⟩ := u
    obtain ⟨q1, q2, q5, q3, q4⟩ := hu
    obtain ⟨W2, w1, w2⟩ := hc9 kn2 fl2 ff2 fg2 q3 q4
    exact ⟨(kx, W2), rfl, ⟨q1, w1, q2, q5⟩, Sub9.nil w2, fun _ z => z⟩

theorem dX1_bestEffortByTrying (l : Launch) (G : Gt) (d : Nat) (S : DS) (W : va_W) (v : Int32) (h : DyW G d S W) (hfl : l.stackTraces = false) : CX l G yX1_bestEffortByTrying cX1_bestEffortByTrying 9 (some .int) ({ frames := 7, cells := 90, slots := 20000, locals := 116 } : Room) [.ref d, .int v] (W ++ []) RH0 (S := Int32 × va_W) (fun (u_ : Int32 × va_W) => some (.int u_.1)) (fun (u_ : Int32 × va_W) => q_bestEff (dC S) v = (0, u_.1) ∧ DyW G d S u_.2) (fun (u_ : Int32 × va_W) => (u_.2 ++ [])) (fun (u_ : Int32 × va_W) (H : Heap) => True) (SX := Nat × va_W) (fun (u_ : Nat × va_W) => exn [eA, eN] u_.1) (fun (u_ : Nat × va_W) => (q_bestEff (dC S) v).1 = u_.1 ∧ DyW G d S u_.2 ∧ 1 ≤ u_.1 ∧ u_.1 ≤ 2) (fun (u_ : Nat × va_W) => (u_.2 ++ [])) (fun (u_ : Nat × va_W) (H : Heap) => True) := by
  obtain ⟨sp, hq, ln, b, to, so, bo, we, tg, lo, fi, fa, kn, ta, tm, te, tcap, tf, ga, sa, sm, se, scap, sf, gs, Wi, fb, fw, fl, ff, fg, ft, wr, hp9, hR9, hc9, hI, htc, hT, hso, hfb, hfw, hsc, hSs, hss, hkn, hca, hft⟩ := h.q
  refine (mX1_bestEffortByTrying l G d sp hq ln b to so bo we tg lo fi fa kn (dC S) ta tm te tcap tf ga sa sm se scap sf gs Wi fb fw fl ff fg ft v hI htc hT hso hfb hfw hsc hSs hss hkn hca hft hfl).conv (Nat.le_of_ble_eq_true rfl) (Nat.le_of_ble_eq_true rfl) (Nat.le_of_ble_eq_true rfl) (Nat.le_of_ble_eq_true rfl) wr (P9.nil hp9) (fun sz A H hA hP hr h9 _ e9 => hR9 A H hr h9) (fun u hu => ?_) (fun u hu => ?_)
  · obtain ⟨rr, kn2, fl2, ff2, fg2⟩ := u
    obtain ⟨q1, q2, q3⟩ := hu
    obtain ⟨W2, w1, w2⟩ := hc9 kn2 fl2 ff2 fg2 q2 q3
    exact ⟨(rr, W2), rfl, ⟨q1, w1⟩, Sub9.nil w2, fun _ z => z⟩
  · obtain ⟨kx, kn2, fl2, ff2, fg2⟩ := u
    obtain ⟨q1, q2, q5, q3, q4⟩ := hu
    obtain ⟨W2, w1, w2⟩ := hc9 kn2 fl2 ff2 fg2 q3 q4
    exact ⟨(kx, W2), rfl, ⟨q1, w1, q2, q5⟩, Sub9.nil w2, fun _ z => z⟩

theorem dX1_dueEntry (l : Launch) (G : Gt) (d : Nat) (S : DS) (W : va_W) (h : DyW G d S W) (hfl : l.stackTraces = false) : CX l G yX1_dueEntry cX1_dueEntry 2 (some .int) ({ frames := 14, cells := 8300, slots := 17000, locals := 297 } : Room) [.ref d] (W ++ []) RH0 (S := Int32 × va_W) (fun (u_ : Int32 × va_W) => some (.int u_.1)) (fun (u_ : Int32 × va_W) => q_due (dC S) = (0, u_.1) ∧ DyW G d S u_.2) (fun (u_ : Int32 × va_W) => (u_.2 ++ [])) (fun (u_ : Int32 × va_W) (H : Heap) => True) (SX := Nat × va_W) (fun (u_ : Nat × va_W) => exn [eN] u_.1) (fun (u_ : Nat × va_W) => (q_due (dC S)).1 = u_.1 ∧ DyW G d S u_.2 ∧ 1 ≤ u_.1 ∧ u_.1 ≤ 1) (fun (u_ : Nat × va_W) => (u_.2 ++ [])) (fun (u_ : Nat × va_W) (H : Heap) => True) := by
  obtain ⟨sp, hq, ln, b, to, so, bo, we, tg, lo, fi, fa, kn, ta, tm, te, tcap, tf, ga, sa, sm, se, scap, sf, gs, Wi, fb, fw, fl, ff, fg, ft, wr, hp9, hR9, hc9, hI, htc, hT, hso, hfb, hfw, hsc, hSs, hss, hkn, hca, hft⟩ := h.q
  refine (mX1_dueEntry l G d sp hq ln b to so bo we tg lo fi fa kn (dC S) ta tm te tcap tf ga sa sm se scap sf gs Wi fb fw fl ff fg ft hI htc hT hso hfb hfw hsc hSs hss hkn hca hft hfl).conv (Nat.le_of_ble_eq_true rfl) (Nat.le_of_ble_eq_true rfl) (Nat.le_of_ble_eq_true rfl) (Nat.le_of_ble_eq_true rfl) wr (P9.nil hp9) (fun sz A H hA hP hr h9 _ e9 => hR9 A H hr h9) (fun u hu => ?_) (fun u hu => ?_)
  · obtain ⟨rr, kn2, fl2, ff2, fg2⟩ := u
    obtain ⟨q1, q2, q3⟩ := hu
    obtain ⟨W2, w1, w2⟩ := hc9 kn2 fl2 ff2 fg2 q2 q3
    exact ⟨(rr, W2), rfl, ⟨q1, w1⟩, Sub9.nil w2, fun _ z => z⟩
  · obtain ⟨kx, kn2, fl2, ff2, fg2⟩ := u
    obtain ⟨q1, q2, q5, q3, q4⟩ := hu
    obtain ⟨W2, w1, w2⟩ := hc9 kn2 fl2 ff2 fg2 q3 q4
    exact ⟨(kx, W2), rfl, ⟨q1, w1, q2, q5⟩, Sub9.nil w2, fun _ z => z⟩

theorem dX1_missedDays (l : Launch) (G : Gt) (d : Nat) (S : DS) (W : va_W) (h : DyW G d S W) : CT l G yX1_missedDays cX1_missedDays 1 (some .int) ({ frames := 14, cells := 8300, slots := 17000, locals := 297 } : Room) [.ref d] (W ++ []) RH0 (S := Int32 × va_W) (fun (u_ : Int32 × va_W) => some (.int u_.1)) (fun (u_ : Int32 × va_W) => q_missed (dC S) = (0, u_.1) ∧ DyW G d S u_.2) (fun (u_ : Int32 × va_W) => (u_.2 ++ [])) (fun (u_ : Int32 × va_W) (H : Heap) => True) := by
  obtain ⟨sp, hq, ln, b, to, so, bo, we, tg, lo, fi, fa, kn, ta, tm, te, tcap, tf, ga, sa, sm, se, scap, sf, gs, Wi, fb, fw, fl, ff, fg, ft, wr, hp9, hR9, hc9, hI, htc, hT, hso, hfb, hfw, hsc, hSs, hss, hkn, hca, hft⟩ := h.q
  refine (mX1_missedDays l G d sp hq ln b to so bo we tg lo fi fa kn (dC S) ta tm te tcap tf ga sa sm se scap sf gs Wi fb fw fl ff fg ft hI htc hT hso hfb hfw hsc hSs hss hkn hca hft).conv (Nat.le_of_ble_eq_true rfl) (Nat.le_of_ble_eq_true rfl) (Nat.le_of_ble_eq_true rfl) (Nat.le_of_ble_eq_true rfl) wr (P9.nil hp9) (fun sz A H hA hP hr h9 _ e9 => hR9 A H hr h9) (fun u hu => ?_)
  · obtain ⟨rr, kn2, fl2, ff2, fg2⟩ := u
    obtain ⟨q1, q2, q3⟩ := hu
    obtain ⟨W2, w1, w2⟩ := hc9 kn2 fl2 ff2 fg2 q2 q3
    exact ⟨(rr, W2), rfl, ⟨q1, w1⟩, Sub9.nil w2, fun _ z => z⟩

theorem dX1_droppedEntries (l : Launch) (G : Gt) (d : Nat) (S : DS) (W : va_W) (h : DyW G d S W) : CT l G yX1_droppedEntries cX1_droppedEntries 1 (some .int) ({ frames := 14, cells := 8300, slots := 17000, locals := 297 } : Room) [.ref d] (W ++ []) RH0 (S := Int32 × va_W) (fun (u_ : Int32 × va_W) => some (.int u_.1)) (fun (u_ : Int32 × va_W) => q_dropped (dC S) = (0, u_.1) ∧ DyW G d S u_.2) (fun (u_ : Int32 × va_W) => (u_.2 ++ [])) (fun (u_ : Int32 × va_W) (H : Heap) => True) := by
  obtain ⟨sp, hq, ln, b, to, so, bo, we, tg, lo, fi, fa, kn, ta, tm, te, tcap, tf, ga, sa, sm, se, scap, sf, gs, Wi, fb, fw, fl, ff, fg, ft, wr, hp9, hR9, hc9, hI, htc, hT, hso, hfb, hfw, hsc, hSs, hss, hkn, hca, hft⟩ := h.q
  refine (mX1_droppedEntries l G d sp hq ln b to so bo we tg lo fi fa kn (dC S) ta tm te tcap tf ga sa sm se scap sf gs Wi fb fw fl ff fg ft hI htc hT hso hfb hfw hsc hSs hss hkn hca hft).conv (Nat.le_of_ble_eq_true rfl) (Nat.le_of_ble_eq_true rfl) (Nat.le_of_ble_eq_true rfl) (Nat.le_of_ble_eq_true rfl) wr (P9.nil hp9) (fun sz A H hA hP hr h9 _ e9 => hR9 A H hr h9) (fun u hu => ?_)
  · obtain ⟨rr, kn2, fl2, ff2, fg2⟩ := u
    obtain ⟨q1, q2, q3⟩ := hu
    obtain ⟨W2, w1, w2⟩ := hc9 kn2 fl2 ff2 fg2 q2 q3
    exact ⟨(rr, W2), rfl, ⟨q1, w1⟩, Sub9.nil w2, fun _ z => z⟩

theorem dX1_planEnd (l : Launch) (G : Gt) (d : Nat) (S : DS) (W : va_W) (h : DyW G d S W) (hfl : l.stackTraces = false) : CX l G yX1_planEnd cX1_planEnd 2 (some .int) ({ frames := 14, cells := 8300, slots := 17000, locals := 297 } : Room) [.ref d] (W ++ []) RH0 (S := Int32 × va_W) (fun (u_ : Int32 × va_W) => some (.int u_.1)) (fun (u_ : Int32 × va_W) => q_end (dC S) = (0, u_.1) ∧ DyW G d S u_.2) (fun (u_ : Int32 × va_W) => (u_.2 ++ [])) (fun (u_ : Int32 × va_W) (H : Heap) => True) (SX := Nat × va_W) (fun (u_ : Nat × va_W) => exn [eN] u_.1) (fun (u_ : Nat × va_W) => (q_end (dC S)).1 = u_.1 ∧ DyW G d S u_.2 ∧ 1 ≤ u_.1 ∧ u_.1 ≤ 1) (fun (u_ : Nat × va_W) => (u_.2 ++ [])) (fun (u_ : Nat × va_W) (H : Heap) => True) := by
  obtain ⟨sp, hq, ln, b, to, so, bo, we, tg, lo, fi, fa, kn, ta, tm, te, tcap, tf, ga, sa, sm, se, scap, sf, gs, Wi, fb, fw, fl, ff, fg, ft, wr, hp9, hR9, hc9, hI, htc, hT, hso, hfb, hfw, hsc, hSs, hss, hkn, hca, hft⟩ := h.q
  refine (mX1_planEnd l G d sp hq ln b to so bo we tg lo fi fa kn (dC S) ta tm te tcap tf ga sa sm se scap sf gs Wi fb fw fl ff fg ft hI htc hT hso hfb hfw hsc hSs hss hkn hca hft hfl).conv (Nat.le_of_ble_eq_true rfl) (Nat.le_of_ble_eq_true rfl) (Nat.le_of_ble_eq_true rfl) (Nat.le_of_ble_eq_true rfl) wr (P9.nil hp9) (fun sz A H hA hP hr h9 _ e9 => hR9 A H hr h9) (fun u hu => ?_) (fun u hu => ?_)
  · obtain ⟨rr, kn2, fl2, ff2, fg2⟩ := u
    obtain ⟨q1, q2, q3⟩ := hu
    obtain ⟨W2, w1, w2⟩ := hc9 kn2 fl2 ff2 fg2 q2 q3
    exact ⟨(rr, W2), rfl, ⟨q1, w1⟩, Sub9.nil w2, fun _ z => z⟩
  · obtain ⟨kx, kn2, fl2, ff2, fg2⟩ := u
    obtain ⟨q1, q2, q5, q3, q4⟩ := hu
    obtain ⟨W2, w1, w2⟩ := hc9 kn2 fl2 ff2 fg2 q3 q4
    exact ⟨(kx, W2), rfl, ⟨q1, w1, q2, q5⟩, Sub9.nil w2, fun _ z => z⟩

theorem dX1_isPlanOver (l : Launch) (G : Gt) (d : Nat) (S : DS) (W : va_W) (h : DyW G d S W) : CT l G yX1_isPlanOver cX1_isPlanOver 1 (some .boolean) ({ frames := 14, cells := 8300, slots := 17000, locals := 297 } : Room) [.ref d] (W ++ []) RH0 (S := Int32 × va_W) (fun (u_ : Int32 × va_W) => some (.int u_.1)) (fun (u_ : Int32 × va_W) => q_over (dC S) = (0, u_.1) ∧ DyW G d S u_.2) (fun (u_ : Int32 × va_W) => (u_.2 ++ [])) (fun (u_ : Int32 × va_W) (H : Heap) => True) := by
  obtain ⟨sp, hq, ln, b, to, so, bo, we, tg, lo, fi, fa, kn, ta, tm, te, tcap, tf, ga, sa, sm, se, scap, sf, gs, Wi, fb, fw, fl, ff, fg, ft, wr, hp9, hR9, hc9, hI, htc, hT, hso, hfb, hfw, hsc, hSs, hss, hkn, hca, hft⟩ := h.q
  refine (mX1_isPlanOver l G d sp hq ln b to so bo we tg lo fi fa kn (dC S) ta tm te tcap tf ga sa sm se scap sf gs Wi fb fw fl ff fg ft hI htc hT hso hfb hfw hsc hSs hss hkn hca hft).conv (Nat.le_of_ble_eq_true rfl) (Nat.le_of_ble_eq_true rfl) (Nat.le_of_ble_eq_true rfl) (Nat.le_of_ble_eq_true rfl) wr (P9.nil hp9) (fun sz A H hA hP hr h9 _ e9 => hR9 A H hr h9) (fun u hu => ?_)
  · obtain ⟨rr, kn2, fl2, ff2, fg2⟩ := u
    obtain ⟨q1, q2, q3⟩ := hu
    obtain ⟨W2, w1, w2⟩ := hc9 kn2 fl2 ff2 fg2 q2 q3
    exact ⟨(rr, W2), rfl, ⟨q1, w1⟩, Sub9.nil w2, fun _ z => z⟩

theorem dX1_pass (l : Launch) (G : Gt) (d : Nat) (S : DS) (W : va_W) (v : Int32) (h : DyW G d S W) (hfl : l.stackTraces = false) : CX l G yX1_pass cX1_pass 3 (some .int) ({ frames := 9, cells := 1 + 101, slots := 6 + 5800, locals := 210 } : Room) [.ref d, .int v] (W ++ []) RH0 (S := Int32 × Bk × va_W) (fun (u_ : Int32 × Bk × va_W) => some (.int u_.1)) (fun (u_ : Int32 × Bk × va_W) => (o_pass (dC S) v).1 = 0 ∧ u_.1 = (o_pass (dC S) v).2.1 ∧ Sim (o_pass (dC S) v).2.2 u_.2.1 ∧ DyW G d ((u_.2.1, dS S, min 6 (dK S + 1), hsR (dH S) (dK S) (dC S), dL S, dN S) : DS) u_.2.2) (fun (u_ : Int32 × Bk × va_W) => (u_.2.2 ++ [])) (fun (u_ : Int32 × Bk × va_W) (H : Heap) => True) (SX := Nat) (fun (u_ : Nat) => exn [eA, eS9] u_) (fun (u_ : Nat) => (o_pass (dC S) v).1 = u_ ∧ 1 ≤ u_ ∧ u_ ≤ 2) (fun (u_ : Nat) => (W ++ [])) (fun (u_ : Nat) (H : Heap) => True) := by
  obtain ⟨sp, hq, ln, b, da, hd, f, hs, Wi, Wb, wr, hp9, hR9, hsb, hc9, hW, hhd, hk, hhs⟩ := h.m
  refine (mX1_pass l G d sp hq ln b da hd (dK S) f hs (dC S) Wi Wb v hW hhd hk hhs hfl).conv (Nat.le_of_ble_eq_true rfl) (Nat.le_of_ble_eq_true rfl) (Nat.le_of_ble_eq_true rfl) (Nat.le_of_ble_eq_true rfl) wr (P9.nil hp9) (fun sz A H hA hP hr h9 _ e9 => hR9 A H hr) (fun u hu => ?_) (fun u hu => ⟨u, rfl, hu, Sub9.nil hsb, fun _ z => z⟩)
  obtain ⟨rr, nb, hd2, f2, B2, W2, E⟩ := u
  obtain ⟨q1, q2, q3, q4, q5, q6⟩ := hu
  obtain ⟨W3, w1, w2⟩ := hc9 nb hd2 f2 B2 W2 E q4 q5 q6
  exact ⟨(rr, B2, W3), rfl, ⟨q1, q2, q3, w1⟩, Sub9.nil w2, fun _ z => z⟩

theorem dX1_addTest (l : Launch) (G : Gt) (d : Nat) (S : DS) (W : va_W) (v : Int32) (w : Int32) (h : DyW G d S W) (hfl : l.stackTraces = false) : CX l G yX1_addTest cX1_addTest 4 (some .int) ({ frames := 10, cells := 95 + 101, slots := 300 + 5800, locals := 212 } : Room) [.ref d, .int v, .int w] (W ++ []) RH0 (S := Int32 × Bk × va_W) (fun (u_ : Int32 × Bk × va_W) => some (.int u_.1)) (fun (u_ : Int32 × Bk × va_W) => (o_addTest (dC S) v w).1 = 0 ∧ u_.1 = (o_addTest (dC S) v w).2.1 ∧ Sim (o_addTest (dC S) v w).2.2 u_.2.1 ∧ DyW G d ((u_.2.1, dS S, min 6 (dK S + 1), hsR (dH S) (dK S) (dC S), dL S, dN S) : DS) u_.2.2) (fun (u_ : Int32 × Bk × va_W) => (u_.2.2 ++ [])) (fun (u_ : Int32 × Bk × va_W) (H : Heap) => True) (SX := Nat) (fun (u_ : Nat) => exn [eA, eS9] u_) (fun (u_ : Nat) => (o_addTest (dC S) v w).1 = u_ ∧ 1 ≤ u_ ∧ u_ ≤ 2) (fun (u_ : Nat) => (W ++ [])) (fun (u_ : Nat) (H : Heap) => True) := by
  obtain ⟨sp, hq, ln, b, da, hd, f, hs, Wi, Wb, wr, hp9, hR9, hsb, hc9, hW, hhd, hk, hhs⟩ := h.m
  refine (mX1_addTest l G d sp hq ln b da hd (dK S) f hs (dC S) Wi Wb v w hW hhd hk hhs hfl).conv (Nat.le_of_ble_eq_true rfl) (Nat.le_of_ble_eq_true rfl) (Nat.le_of_ble_eq_true rfl) (Nat.le_of_ble_eq_true rfl) wr (P9.nil hp9) (fun sz A H hA hP hr h9 _ e9 => hR9 A H hr) (fun u hu => ?_) (fun u hu => ⟨u, rfl, hu, Sub9.nil hsb, fun _ z => z⟩)
  obtain ⟨rr, nb, hd2, f2, B2, W2, E⟩ := u
  obtain ⟨q1, q2, q3, q4, q5, q6⟩ := hu
  obtain ⟨W3, w1, w2⟩ := hc9 nb hd2 f2 B2 W2 E q4 q5 q6
  exact ⟨(rr, B2, W3), rfl, ⟨q1, q2, q3, w1⟩, Sub9.nil w2, fun _ z => z⟩

theorem dX1_removeTest (l : Launch) (G : Gt) (d : Nat) (S : DS) (W : va_W) (v : Int32) (h : DyW G d S W) (hfl : l.stackTraces = false) : CX l G yX1_removeTest cX1_removeTest 3 (some .int) ({ frames := 9, cells := 3 + 101, slots := 12 + 5800, locals := 210 } : Room) [.ref d, .int v] (W ++ []) RH0 (S := Int32 × Bk × va_W) (fun (u_ : Int32 × Bk × va_W) => some (.int u_.1)) (fun (u_ : Int32 × Bk × va_W) => (o_remTest (dC S) v).1 = 0 ∧ u_.1 = (o_remTest (dC S) v).2.1 ∧ Sim (o_remTest (dC S) v).2.2 u_.2.1 ∧ DyW G d ((u_.2.1, dS S, min 6 (dK S + 1), hsR (dH S) (dK S) (dC S), dL S, dN S) : DS) u_.2.2) (fun (u_ : Int32 × Bk × va_W) => (u_.2.2 ++ [])) (fun (u_ : Int32 × Bk × va_W) (H : Heap) => True) (SX := Nat) (fun (u_ : Nat) => exn [eN] u_) (fun (u_ : Nat) => (o_remTest (dC S) v).1 = u_ ∧ 1 ≤ u_ ∧ u_ ≤ 1) (fun (u_ : Nat) => (W ++ [])) (fun (u_ : Nat) (H : Heap) => True) := by
  obtain ⟨sp, hq, ln, b, da, hd, f, hs, Wi, Wb, wr, hp9, hR9, hsb, hc9, hW, hhd, hk, hhs⟩ := h.m
  refine (mX1_removeTest l G d sp hq ln b da hd (dK S) f hs (dC S) Wi Wb v hW hhd hk hhs hfl).conv (Nat.le_of_ble_eq_true rfl) (Nat.le_of_ble_eq_true rfl) (Nat.le_of_ble_eq_true rfl) (Nat.le_of_ble_eq_true rfl) wr (P9.nil hp9) (fun sz A H hA hP hr h9 _ e9 => hR9 A H hr) (fun u hu => ?_) (fun u hu => ⟨u, rfl, hu, Sub9.nil hsb, fun _ z => z⟩)
  obtain ⟨rr, nb, hd2, f2, B2, W2, E⟩ := u
  obtain ⟨q1, q2, q3, q4, q5, q6⟩ := hu
  obtain ⟨W3, w1, w2⟩ := hc9 nb hd2 f2 B2 W2 E q4 q5 q6
  exact ⟨(rr, B2, W3), rfl, ⟨q1, q2, q3, w1⟩, Sub9.nil w2, fun _ z => z⟩

theorem dX1_setBound (l : Launch) (G : Gt) (d : Nat) (S : DS) (W : va_W) (z : Int32) (w : Int32) (h : DyW G d S W) (hfl : l.stackTraces = false) : CX l G yX1_setBound cX1_setBound 4 (some .int) ({ frames := 9, cells := 1 + 101, slots := 6 + 5800, locals := 210 } : Room) [.ref d, .int z, .int w] (W ++ []) RH0 (S := Int32 × Bk × va_W) (fun (u_ : Int32 × Bk × va_W) => some (.int u_.1)) (fun (u_ : Int32 × Bk × va_W) => (o_setBound (dC S) z w).1 = 0 ∧ u_.1 = (o_setBound (dC S) z w).2.1 ∧ Sim (o_setBound (dC S) z w).2.2 u_.2.1 ∧ DyW G d ((u_.2.1, dS S, min 6 (dK S + 1), hsR (dH S) (dK S) (dC S), dL S, dN S) : DS) u_.2.2) (fun (u_ : Int32 × Bk × va_W) => (u_.2.2 ++ [])) (fun (u_ : Int32 × Bk × va_W) (H : Heap) => True) (SX := Nat) (fun (u_ : Nat) => exn [eA, eS9] u_) (fun (u_ : Nat) => (o_setBound (dC S) z w).1 = u_ ∧ 1 ≤ u_ ∧ u_ ≤ 2) (fun (u_ : Nat) => (W ++ [])) (fun (u_ : Nat) (H : Heap) => True) := by
  obtain ⟨sp, hq, ln, b, da, hd, f, hs, Wi, Wb, wr, hp9, hR9, hsb, hc9, hW, hhd, hk, hhs⟩ := h.m
  refine (mX1_setBound l G d sp hq ln b da hd (dK S) f hs (dC S) Wi Wb z w hW hhd hk hhs hfl).conv (Nat.le_of_ble_eq_true rfl) (Nat.le_of_ble_eq_true rfl) (Nat.le_of_ble_eq_true rfl) (Nat.le_of_ble_eq_true rfl) wr (P9.nil hp9) (fun sz A H hA hP hr h9 _ e9 => hR9 A H hr) (fun u hu => ?_) (fun u hu => ⟨u, rfl, hu, Sub9.nil hsb, fun _ z => z⟩)
  obtain ⟨rr, nb, hd2, f2, B2, W2, E⟩ := u
  obtain ⟨q1, q2, q3, q4, q5, q6⟩ := hu
  obtain ⟨W3, w1, w2⟩ := hc9 nb hd2 f2 B2 W2 E q4 q5 q6
  exact ⟨(rr, B2, W3), rfl, ⟨q1, q2, q3, w1⟩, Sub9.nil w2, fun _ z => z⟩

theorem dX1_setWeight (l : Launch) (G : Gt) (d : Nat) (S : DS) (W : va_W) (z : Int32) (w : Int32) (h : DyW G d S W) (hfl : l.stackTraces = false) : CX l G yX1_setWeight cX1_setWeight 4 (some .int) ({ frames := 9, cells := 1 + 101, slots := 6 + 5800, locals := 210 } : Room) [.ref d, .int z, .int w] (W ++ []) RH0 (S := Int32 × Bk × va_W) (fun (u_ : Int32 × Bk × va_W) => some (.int u_.1)) (fun (u_ : Int32 × Bk × va_W) => (o_setWeight (dC S) z w).1 = 0 ∧ u_.1 = (o_setWeight (dC S) z w).2.1 ∧ Sim (o_setWeight (dC S) z w).2.2 u_.2.1 ∧ DyW G d ((u_.2.1, dS S, min 6 (dK S + 1), hsR (dH S) (dK S) (dC S), dL S, dN S) : DS) u_.2.2) (fun (u_ : Int32 × Bk × va_W) => (u_.2.2 ++ [])) (fun (u_ : Int32 × Bk × va_W) (H : Heap) => True) (SX := Nat) (fun (u_ : Nat) => exn [eA] u_) (fun (u_ : Nat) => (o_setWeight (dC S) z w).1 = u_ ∧ 1 ≤ u_ ∧ u_ ≤ 1) (fun (u_ : Nat) => (W ++ [])) (fun (u_ : Nat) (H : Heap) => True) := by
  obtain ⟨sp, hq, ln, b, da, hd, f, hs, Wi, Wb, wr, hp9, hR9, hsb, hc9, hW, hhd, hk, hhs⟩ := h.m
  refine (mX1_setWeight l G d sp hq ln b da hd (dK S) f hs (dC S) Wi Wb z w hW hhd hk hhs hfl).conv (Nat.le_of_ble_eq_true rfl) (Nat.le_of_ble_eq_true rfl) (Nat.le_of_ble_eq_true rfl) (Nat.le_of_ble_eq_true rfl) wr (P9.nil hp9) (fun sz A H hA hP hr h9 _ e9 => hR9 A H hr) (fun u hu => ?_) (fun u hu => ⟨u, rfl, hu, Sub9.nil hsb, fun _ z => z⟩)
  obtain ⟨rr, nb, hd2, f2, B2, W2, E⟩ := u
  obtain ⟨q1, q2, q3, q4, q5, q6⟩ := hu
  obtain ⟨W3, w1, w2⟩ := hc9 nb hd2 f2 B2 W2 E q4 q5 q6
  exact ⟨(rr, B2, W3), rfl, ⟨q1, q2, q3, w1⟩, Sub9.nil w2, fun _ z => z⟩

theorem dX1_addSession (l : Launch) (G : Gt) (d : Nat) (S : DS) (W : va_W) (v : Int32) (h : DyW G d S W) (hi9 : bI9 (dC S) < 1000000) (hfl : l.stackTraces = false) : CX l G yX1_addSession cX1_addSession 3 (some .int) ({ frames := 9, cells := 4 + 101, slots := 64 + 5800, locals := 210 } : Room) [.ref d, .int v] (W ++ []) RH0 (S := Int32 × Bk × va_W) (fun (u_ : Int32 × Bk × va_W) => some (.int u_.1)) (fun (u_ : Int32 × Bk × va_W) => (o_addSes (dC S) v).1 = 0 ∧ u_.1 = (o_addSes (dC S) v).2.1 ∧ Sim (o_addSes (dC S) v).2.2 u_.2.1 ∧ DyW G d ((u_.2.1, dS S, min 6 (dK S + 1), hsR (dH S) (dK S) (dC S), dL S, dN S) : DS) u_.2.2) (fun (u_ : Int32 × Bk × va_W) => (u_.2.2 ++ [])) (fun (u_ : Int32 × Bk × va_W) (H : Heap) => True) (SX := Nat) (fun (u_ : Nat) => exn [eA, eS9] u_) (fun (u_ : Nat) => (o_addSes (dC S) v).1 = u_ ∧ 1 ≤ u_ ∧ u_ ≤ 2) (fun (u_ : Nat) => (W ++ [])) (fun (u_ : Nat) (H : Heap) => True) := by
  obtain ⟨sp, hq, ln, b, da, hd, f, hs, Wi, Wb, wr, hp9, hR9, hsb, hc9, hW, hhd, hk, hhs⟩ := h.m
  refine (mX1_addSession l G d sp hq ln b da hd (dK S) f hs (dC S) Wi Wb v hW hhd hk hhs hi9 hfl).conv (Nat.le_of_ble_eq_true rfl) (Nat.le_of_ble_eq_true rfl) (Nat.le_of_ble_eq_true rfl) (Nat.le_of_ble_eq_true rfl) wr (P9.nil hp9) (fun sz A H hA hP hr h9 _ e9 => hR9 A H hr) (fun u hu => ?_) (fun u hu => ⟨u, rfl, hu, Sub9.nil hsb, fun _ z => z⟩)
  obtain ⟨rr, nb, hd2, f2, B2, W2, E⟩ := u
  obtain ⟨q1, q2, q3, q4, q5, q6⟩ := hu
  obtain ⟨W3, w1, w2⟩ := hc9 nb hd2 f2 B2 W2 E q4 q5 q6
  exact ⟨(rr, B2, W3), rfl, ⟨q1, q2, q3, w1⟩, Sub9.nil w2, fun _ z => z⟩

theorem dX1_addPart (l : Launch) (G : Gt) (d : Nat) (S : DS) (W : va_W) (v : Int32) (z : Int32) (w : Int32) (h : DyW G d S W) (hfl : l.stackTraces = false) : CX l G yX1_addPart cX1_addPart 5 (some .int) ({ frames := 9, cells := 5 + 101, slots := 90 + 5800, locals := 214 } : Room) [.ref d, .int v, .int z, .int w] (W ++ []) RH0 (S := Int32 × Bk × va_W) (fun (u_ : Int32 × Bk × va_W) => some (.int u_.1)) (fun (u_ : Int32 × Bk × va_W) => (o_addPart (dC S) v z w).1 = 0 ∧ u_.1 = (o_addPart (dC S) v z w).2.1 ∧ Sim (o_addPart (dC S) v z w).2.2 u_.2.1 ∧ DyW G d ((u_.2.1, dS S, min 6 (dK S + 1), hsR (dH S) (dK S) (dC S), dL S, dN S) : DS) u_.2.2) (fun (u_ : Int32 × Bk × va_W) => (u_.2.2 ++ [])) (fun (u_ : Int32 × Bk × va_W) (H : Heap) => True) (SX := Nat) (fun (u_ : Nat) => exn [eN, eA, eS9] u_) (fun (u_ : Nat) => (o_addPart (dC S) v z w).1 = u_ ∧ 1 ≤ u_ ∧ u_ ≤ 3) (fun (u_ : Nat) => (W ++ [])) (fun (u_ : Nat) (H : Heap) => True) := by
  obtain ⟨sp, hq, ln, b, da, hd, f, hs, Wi, Wb, wr, hp9, hR9, hsb, hc9, hW, hhd, hk, hhs⟩ := h.m
  refine (mX1_addPart l G d sp hq ln b da hd (dK S) f hs (dC S) Wi Wb v z w hW hhd hk hhs hfl).conv (Nat.le_of_ble_eq_true rfl) (Nat.le_of_ble_eq_true rfl) (Nat.le_of_ble_eq_true rfl) (Nat.le_of_ble_eq_true rfl) wr (P9.nil hp9) (fun sz A H hA hP hr h9 _ e9 => hR9 A H hr) (fun u hu => ?_) (fun u hu => ⟨u, rfl, hu, Sub9.nil hsb, fun _ z => z⟩)
  obtain ⟨rr, nb, hd2, f2, B2, W2, E⟩ := u
  obtain ⟨q1, q2, q3, q4, q5, q6⟩ := hu
  obtain ⟨W3, w1, w2⟩ := hc9 nb hd2 f2 B2 W2 E q4 q5 q6
  exact ⟨(rr, B2, W3), rfl, ⟨q1, q2, q3, w1⟩, Sub9.nil w2, fun _ z => z⟩

theorem dX1_clearParts (l : Launch) (G : Gt) (d : Nat) (S : DS) (W : va_W) (v : Int32) (h : DyW G d S W) (hfl : l.stackTraces = false) : CX l G yX1_clearParts cX1_clearParts 3 (some .int) ({ frames := 9, cells := 5 + 101, slots := 70 + 5800, locals := 212 } : Room) [.ref d, .int v] (W ++ []) RH0 (S := Int32 × Bk × va_W) (fun (u_ : Int32 × Bk × va_W) => some (.int u_.1)) (fun (u_ : Int32 × Bk × va_W) => (o_clear (dC S) v).1 = 0 ∧ u_.1 = (o_clear (dC S) v).2.1 ∧ Sim (o_clear (dC S) v).2.2 u_.2.1 ∧ DyW G d ((u_.2.1, dS S, min 6 (dK S + 1), hsR (dH S) (dK S) (dC S), dL S, dN S) : DS) u_.2.2) (fun (u_ : Int32 × Bk × va_W) => (u_.2.2 ++ [])) (fun (u_ : Int32 × Bk × va_W) (H : Heap) => True) (SX := Nat) (fun (u_ : Nat) => exn [eN] u_) (fun (u_ : Nat) => (o_clear (dC S) v).1 = u_ ∧ 1 ≤ u_ ∧ u_ ≤ 1) (fun (u_ : Nat) => (W ++ [])) (fun (u_ : Nat) (H : Heap) => True) := by
  obtain ⟨sp, hq, ln, b, da, hd, f, hs, Wi, Wb, wr, hp9, hR9, hsb, hc9, hW, hhd, hk, hhs⟩ := h.m
  refine (mX1_clearParts l G d sp hq ln b da hd (dK S) f hs (dC S) Wi Wb v hW hhd hk hhs hfl).conv (Nat.le_of_ble_eq_true rfl) (Nat.le_of_ble_eq_true rfl) (Nat.le_of_ble_eq_true rfl) (Nat.le_of_ble_eq_true rfl) wr (P9.nil hp9) (fun sz A H hA hP hr h9 _ e9 => hR9 A H hr) (fun u hu => ?_) (fun u hu => ⟨u, rfl, hu, Sub9.nil hsb, fun _ z => z⟩)
  obtain ⟨rr, nb, hd2, f2, B2, W2, E⟩ := u
  obtain ⟨q1, q2, q3, q4, q5, q6⟩ := hu
  obtain ⟨W3, w1, w2⟩ := hc9 nb hd2 f2 B2 W2 E q4 q5 q6
  exact ⟨(rr, B2, W3), rfl, ⟨q1, q2, q3, w1⟩, Sub9.nil w2, fun _ z => z⟩

theorem dX1_moveSession (l : Launch) (G : Gt) (d : Nat) (S : DS) (W : va_W) (v : Int32) (w : Int32) (h : DyW G d S W) (hfl : l.stackTraces = false) : CX l G yX1_moveSession cX1_moveSession 4 (some .int) ({ frames := 9, cells := 3 + 101, slots := 70 + 5800, locals := 213 } : Room) [.ref d, .int v, .int w] (W ++ []) RH0 (S := Int32 × Bk × va_W) (fun (u_ : Int32 × Bk × va_W) => some (.int u_.1)) (fun (u_ : Int32 × Bk × va_W) => (o_move (dC S) v w).1 = 0 ∧ u_.1 = (o_move (dC S) v w).2.1 ∧ Sim (o_move (dC S) v w).2.2 u_.2.1 ∧ DyW G d ((u_.2.1, dS S, min 6 (dK S + 1), hsR (dH S) (dK S) (dC S), dL S, dN S) : DS) u_.2.2) (fun (u_ : Int32 × Bk × va_W) => (u_.2.2 ++ [])) (fun (u_ : Int32 × Bk × va_W) (H : Heap) => True) (SX := Nat) (fun (u_ : Nat) => exn [eN, eA] u_) (fun (u_ : Nat) => (o_move (dC S) v w).1 = u_ ∧ 1 ≤ u_ ∧ u_ ≤ 2) (fun (u_ : Nat) => (W ++ [])) (fun (u_ : Nat) (H : Heap) => True) := by
  obtain ⟨sp, hq, ln, b, da, hd, f, hs, Wi, Wb, wr, hp9, hR9, hsb, hc9, hW, hhd, hk, hhs⟩ := h.m
  refine (mX1_moveSession l G d sp hq ln b da hd (dK S) f hs (dC S) Wi Wb v w hW hhd hk hhs hfl).conv (Nat.le_of_ble_eq_true rfl) (Nat.le_of_ble_eq_true rfl) (Nat.le_of_ble_eq_true rfl) (Nat.le_of_ble_eq_true rfl) wr (P9.nil hp9) (fun sz A H hA hP hr h9 _ e9 => hR9 A H hr) (fun u hu => ?_) (fun u hu => ⟨u, rfl, hu, Sub9.nil hsb, fun _ z => z⟩)
  obtain ⟨rr, nb, hd2, f2, B2, W2, E⟩ := u
  obtain ⟨q1, q2, q3, q4, q5, q6⟩ := hu
  obtain ⟨W3, w1, w2⟩ := hc9 nb hd2 f2 B2 W2 E q4 q5 q6
  exact ⟨(rr, B2, W3), rfl, ⟨q1, q2, q3, w1⟩, Sub9.nil w2, fun _ z => z⟩

theorem dX1_removeSession (l : Launch) (G : Gt) (d : Nat) (S : DS) (W : va_W) (v : Int32) (h : DyW G d S W) (hfl : l.stackTraces = false) : CX l G yX1_removeSession cX1_removeSession 3 (some .int) ({ frames := 9, cells := 1 + 101, slots := 6 + 5800, locals := 210 } : Room) [.ref d, .int v] (W ++ []) RH0 (S := Int32 × Bk × va_W) (fun (u_ : Int32 × Bk × va_W) => some (.int u_.1)) (fun (u_ : Int32 × Bk × va_W) => (o_remSes (dC S) v).1 = 0 ∧ u_.1 = (o_remSes (dC S) v).2.1 ∧ Sim (o_remSes (dC S) v).2.2 u_.2.1 ∧ DyW G d ((u_.2.1, dS S, min 6 (dK S + 1), hsR (dH S) (dK S) (dC S), dL S, dN S) : DS) u_.2.2) (fun (u_ : Int32 × Bk × va_W) => (u_.2.2 ++ [])) (fun (u_ : Int32 × Bk × va_W) (H : Heap) => True) (SX := Nat) (fun (u_ : Nat) => exn [eN] u_) (fun (u_ : Nat) => (o_remSes (dC S) v).1 = u_ ∧ 1 ≤ u_ ∧ u_ ≤ 1) (fun (u_ : Nat) => (W ++ [])) (fun (u_ : Nat) (H : Heap) => True) := by
  obtain ⟨sp, hq, ln, b, da, hd, f, hs, Wi, Wb, wr, hp9, hR9, hsb, hc9, hW, hhd, hk, hhs⟩ := h.m
  refine (mX1_removeSession l G d sp hq ln b da hd (dK S) f hs (dC S) Wi Wb v hW hhd hk hhs hfl).conv (Nat.le_of_ble_eq_true rfl) (Nat.le_of_ble_eq_true rfl) (Nat.le_of_ble_eq_true rfl) (Nat.le_of_ble_eq_true rfl) wr (P9.nil hp9) (fun sz A H hA hP hr h9 _ e9 => hR9 A H hr) (fun u hu => ?_) (fun u hu => ⟨u, rfl, hu, Sub9.nil hsb, fun _ z => z⟩)
  obtain ⟨rr, nb, hd2, f2, B2, W2, E⟩ := u
  obtain ⟨q1, q2, q3, q4, q5, q6⟩ := hu
  obtain ⟨W3, w1, w2⟩ := hc9 nb hd2 f2 B2 W2 E q4 q5 q6
  exact ⟨(rr, B2, W3), rfl, ⟨q1, q2, q3, w1⟩, Sub9.nil w2, fun _ z => z⟩

theorem dX1_startPlan (l : Launch) (G : Gt) (d : Nat) (S : DS) (W : va_W) (h : DyW G d S W) : CT l G yX1_startPlan cX1_startPlan 2 (some .int) ({ frames := 9, cells := 0 + 101, slots := 0 + 5800, locals := 210 } : Room) [.ref d] (W ++ []) RH0 (S := Int32 × Bk × va_W) (fun (u_ : Int32 × Bk × va_W) => some (.int u_.1)) (fun (u_ : Int32 × Bk × va_W) => (o_start (dC S)).1 = 0 ∧ u_.1 = (o_start (dC S)).2.1 ∧ Sim (o_start (dC S)).2.2 u_.2.1 ∧ DyW G d ((u_.2.1, dS S, min 6 (dK S + 1), hsR (dH S) (dK S) (dC S), dL S, dN S) : DS) u_.2.2) (fun (u_ : Int32 × Bk × va_W) => (u_.2.2 ++ [])) (fun (u_ : Int32 × Bk × va_W) (H : Heap) => True) := by
  obtain ⟨sp, hq, ln, b, da, hd, f, hs, Wi, Wb, wr, hp9, hR9, hsb, hc9, hW, hhd, hk, hhs⟩ := h.m
  refine (mX1_startPlan l G d sp hq ln b da hd (dK S) f hs (dC S) Wi Wb  hW hhd hk hhs).conv (Nat.le_of_ble_eq_true rfl) (Nat.le_of_ble_eq_true rfl) (Nat.le_of_ble_eq_true rfl) (Nat.le_of_ble_eq_true rfl) wr (P9.nil hp9) (fun sz A H hA hP hr h9 _ e9 => hR9 A H hr) (fun u hu => ?_)
  obtain ⟨rr, nb, hd2, f2, B2, W2, E⟩ := u
  obtain ⟨q1, q2, q3, q4, q5, q6⟩ := hu
  obtain ⟨W3, w1, w2⟩ := hc9 nb hd2 f2 B2 W2 E q4 q5 q6
  exact ⟨(rr, B2, W3), rfl, ⟨q1, q2, q3, w1⟩, Sub9.nil w2, fun _ z => z⟩

theorem dX1_addTarget (l : Launch) (G : Gt) (d : Nat) (S : DS) (W : va_W) (v : Int32) (h : DyW G d S W) (hfl : l.stackTraces = false) : CX l G yX1_addTarget cX1_addTarget 3 (some .int) ({ frames := 9, cells := 1 + 101, slots := 6 + 5800, locals := 210 } : Room) [.ref d, .int v] (W ++ []) RH0 (S := Int32 × Bk × va_W) (fun (u_ : Int32 × Bk × va_W) => some (.int u_.1)) (fun (u_ : Int32 × Bk × va_W) => (o_addTarget (dC S) v).1 = 0 ∧ u_.1 = (o_addTarget (dC S) v).2.1 ∧ Sim (o_addTarget (dC S) v).2.2 u_.2.1 ∧ DyW G d ((u_.2.1, dS S, min 6 (dK S + 1), hsR (dH S) (dK S) (dC S), dL S, dN S) : DS) u_.2.2) (fun (u_ : Int32 × Bk × va_W) => (u_.2.2 ++ [])) (fun (u_ : Int32 × Bk × va_W) (H : Heap) => True) (SX := Nat) (fun (u_ : Nat) => exn [eA, eS9] u_) (fun (u_ : Nat) => (o_addTarget (dC S) v).1 = u_ ∧ 1 ≤ u_ ∧ u_ ≤ 2) (fun (u_ : Nat) => (W ++ [])) (fun (u_ : Nat) (H : Heap) => True) := by
  obtain ⟨sp, hq, ln, b, da, hd, f, hs, Wi, Wb, wr, hp9, hR9, hsb, hc9, hW, hhd, hk, hhs⟩ := h.m
  refine (mX1_addTarget l G d sp hq ln b da hd (dK S) f hs (dC S) Wi Wb v hW hhd hk hhs hfl).conv (Nat.le_of_ble_eq_true rfl) (Nat.le_of_ble_eq_true rfl) (Nat.le_of_ble_eq_true rfl) (Nat.le_of_ble_eq_true rfl) wr (P9.nil hp9) (fun sz A H hA hP hr h9 _ e9 => hR9 A H hr) (fun u hu => ?_) (fun u hu => ⟨u, rfl, hu, Sub9.nil hsb, fun _ z => z⟩)
  obtain ⟨rr, nb, hd2, f2, B2, W2, E⟩ := u
  obtain ⟨q1, q2, q3, q4, q5, q6⟩ := hu
  obtain ⟨W3, w1, w2⟩ := hc9 nb hd2 f2 B2 W2 E q4 q5 q6
  exact ⟨(rr, B2, W3), rfl, ⟨q1, q2, q3, w1⟩, Sub9.nil w2, fun _ z => z⟩
