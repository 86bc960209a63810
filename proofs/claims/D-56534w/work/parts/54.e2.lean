/-! the model as an abstract world: queries, changes -/
set_option maxRecDepth 100000
theorem eX4_today (l : Launch) (G : Gt) (m0 : Nat) (S : DS) (th : Nat) (W : va_W) (h : MdW G m0 S th W) (hI : Inv (dC S)) : CT l G yX4_today cX4_today 1 (some .int) ({ frames := 1, cells := 0, slots := 0, locals := 12 } : Room) [.ref m0] (W ++ []) RH0 (S := Int32 × va_W) (fun (u_ : Int32 × va_W) => some (.int u_.1)) (fun (u_ : Int32 × va_W) => ((q_today (dC S)).1 = 0 → u_.1 = (q_today (dC S)).2) ∧ MdW G m0 S (q_today (dC S)).1 u_.2) (fun (u_ : Int32 × va_W) => (u_.2 ++ [])) (fun (u_ : Int32 × va_W) (H : Heap) => True) := by
  obtain ⟨sa, oa, pa, la, za, na, t, gd, gm, gr, f, p, lf, zf, ra, rq, wr, hp9, hR9, hc9, hM⟩ := h.q
  refine (mX4_today l G m0 sa oa pa la za na (nI (dK S)) (nI t) (nI (dN S)) gd gm gr (nI th) (nI (svN (dS S))) f (dC S) lf zf hM hI).conv (Nat.le_of_ble_eq_true rfl) (Nat.le_of_ble_eq_true rfl) (Nat.le_of_ble_eq_true rfl) (Nat.le_of_ble_eq_true rfl) wr (P9.nil hp9) (fun sz A H hA hP hr h9 _ e9 => hR9 A H hr) (fun u hu => ?_)
  obtain ⟨rr, lf2, zf2, gd2, gm2, gr2⟩ := u
  obtain ⟨W2, w1, w2⟩ := hc9 lf2 zf2 gd2 gm2 gr2 (q_today (dC S)).1
  exact ⟨(rr, W2), rfl, ⟨hu, w1⟩, Sub9.nil w2, fun _ z => z⟩

theorem eX4_testCount (l : Launch) (G : Gt) (m0 : Nat) (S : DS) (th : Nat) (W : va_W) (h : MdW G m0 S th W) (hI : Inv (dC S)) : CT l G yX4_testCount cX4_testCount 1 (some .int) ({ frames := 1, cells := 0, slots := 0, locals := 12 } : Room) [.ref m0] (W ++ []) RH0 (S := Int32 × va_W) (fun (u_ : Int32 × va_W) => some (.int u_.1)) (fun (u_ : Int32 × va_W) => ((q_testCount (dC S)).1 = 0 → u_.1 = (q_testCount (dC S)).2) ∧ MdW G m0 S (q_testCount (dC S)).1 u_.2) (fun (u_ : Int32 × va_W) => (u_.2 ++ [])) (fun (u_ : Int32 × va_W) (H : Heap) => True) := by
  obtain ⟨sa, oa, pa, la, za, na, t, gd, gm, gr, f, p, lf, zf, ra, rq, wr, hp9, hR9, hc9, hM⟩ := h.q
  refine (mX4_testCount l G m0 sa oa pa la za na (nI (dK S)) (nI t) (nI (dN S)) gd gm gr (nI th) (nI (svN (dS S))) f (dC S) lf zf hM hI).conv (Nat.le_of_ble_eq_true rfl) (Nat.le_of_ble_eq_true rfl) (Nat.le_of_ble_eq_true rfl) (Nat.le_of_ble_eq_true rfl) wr (P9.nil hp9) (fun sz A H hA hP hr h9 _ e9 => hR9 A H hr) (fun u hu => ?_)
  obtain ⟨rr, lf2, zf2, gd2, gm2, gr2⟩ := u
  obtain ⟨W2, w1, w2⟩ := hc9 lf2 zf2 gd2 gm2 gr2 (q_testCount (dC S)).1
  exact ⟨(rr, W2), rfl, ⟨hu, w1⟩, Sub9.nil w2, fun _ z => z⟩

theorem eX4_sessionCount (l : Launch) (G : Gt) (m0 : Nat) (S : DS) (th : Nat) (W : va_W) (h : MdW G m0 S th W) (hI : Inv (dC S)) : CT l G yX4_sessionCount cX4_sessionCount 1 (some .int) ({ frames := 1, cells := 0, slots := 0, locals := 12 } : Room) [.ref m0] (W ++ []) RH0 (S := Int32 × va_W) (fun (u_ : Int32 × va_W) => some (.int u_.1)) (fun (u_ : Int32 × va_W) => ((q_sessionCount (dC S)).1 = 0 → u_.1 = (q_sessionCount (dC S)).2) ∧ MdW G m0 S (q_sessionCount (dC S)).1 u_.2) (fun (u_ : Int32 × va_W) => (u_.2 ++ [])) (fun (u_ : Int32 × va_W) (H : Heap) => True) := by
  obtain ⟨sa, oa, pa, la, za, na, t, gd, gm, gr, f, p, lf, zf, ra, rq, wr, hp9, hR9, hc9, hM⟩ := h.q
  refine (mX4_sessionCount l G m0 sa oa pa la za na (nI (dK S)) (nI t) (nI (dN S)) gd gm gr (nI th) (nI (svN (dS S))) f (dC S) lf zf hM hI).conv (Nat.le_of_ble_eq_true rfl) (Nat.le_of_ble_eq_true rfl) (Nat.le_of_ble_eq_true rfl) (Nat.le_of_ble_eq_true rfl) wr (P9.nil hp9) (fun sz A H hA hP hr h9 _ e9 => hR9 A H hr) (fun u hu => ?_)
  obtain ⟨rr, lf2, zf2, gd2, gm2, gr2⟩ := u
  obtain ⟨W2, w1, w2⟩ := hc9 lf2 zf2 gd2 gm2 gr2 (q_sessionCount (dC S)).1
  exact ⟨(rr, W2), rfl, ⟨hu, w1⟩, Sub9.nil w2, fun _ z => z⟩

theorem eX4_thresholdOn (l : Launch) (G : Gt) (m0 : Nat) (S : DS) (th : Nat) (W : va_W) (v : Int32) (h : MdW G m0 S th W) (hI : Inv (dC S)) : CT l G yX4_thresholdOn cX4_thresholdOn 2 (some .int) ({ frames := 2, cells := 0, slots := 0, locals := 36 } : Room) [.ref m0, .int v] (W ++ []) RH0 (S := Int32 × va_W) (fun (u_ : Int32 × va_W) => some (.int u_.1)) (fun (u_ : Int32 × va_W) => ((q_thr (dC S) v).1 = 0 → u_.1 = (q_thr (dC S) v).2) ∧ MdW G m0 S (q_thr (dC S) v).1 u_.2) (fun (u_ : Int32 × va_W) => (u_.2 ++ [])) (fun (u_ : Int32 × va_W) (H : Heap) => True) := by
  obtain ⟨sa, oa, pa, la, za, na, t, gd, gm, gr, f, p, lf, zf, ra, rq, wr, hp9, hR9, hc9, hM⟩ := h.q
  refine (mX4_thresholdOn l G m0 sa oa pa la za na (nI (dK S)) (nI t) (nI (dN S)) gd gm gr (nI th) (nI (svN (dS S))) f (dC S) lf zf v hM hI).conv (Nat.le_of_ble_eq_true rfl) (Nat.le_of_ble_eq_true rfl) (Nat.le_of_ble_eq_true rfl) (Nat.le_of_ble_eq_true rfl) wr (P9.nil hp9) (fun sz A H hA hP hr h9 _ e9 => hR9 A H hr) (fun u hu => ?_)
  obtain ⟨rr, lf2, zf2, gd2, gm2, gr2⟩ := u
  obtain ⟨W2, w1, w2⟩ := hc9 lf2 zf2 gd2 gm2 gr2 (q_thr (dC S) v).1
  exact ⟨(rr, W2), rfl, ⟨hu, w1⟩, Sub9.nil w2, fun _ z => z⟩

theorem eX4_boundOf (l : Launch) (G : Gt) (m0 : Nat) (S : DS) (th : Nat) (W : va_W) (v : Int32) (h : MdW G m0 S th W) (hI : Inv (dC S)) : CT l G yX4_boundOf cX4_boundOf 2 (some .int) ({ frames := 2, cells := 0, slots := 0, locals := 34 } : Room) [.ref m0, .int v] (W ++ []) RH0 (S := Int32 × va_W) (fun (u_ : Int32 × va_W) => some (.int u_.1)) (fun (u_ : Int32 × va_W) => ((q_bound (dC S) v).1 = 0 → u_.1 = (q_bound (dC S) v).2) ∧ MdW G m0 S (q_bound (dC S) v).1 u_.2) (fun (u_ : Int32 × va_W) => (u_.2 ++ [])) (fun (u_ : Int32 × va_W) (H : Heap) => True) := by
  obtain ⟨sa, oa, pa, la, za, na, t, gd, gm, gr, f, p, lf, zf, ra, rq, wr, hp9, hR9, hc9, hM⟩ := h.q
  refine (mX4_boundOf l G m0 sa oa pa la za na (nI (dK S)) (nI t) (nI (dN S)) gd gm gr (nI th) (nI (svN (dS S))) f (dC S) lf zf v hM hI).conv (Nat.le_of_ble_eq_true rfl) (Nat.le_of_ble_eq_true rfl) (Nat.le_of_ble_eq_true rfl) (Nat.le_of_ble_eq_true rfl) wr (P9.nil hp9) (fun sz A H hA hP hr h9 _ e9 => hR9 A H hr) (fun u hu => ?_)
  obtain ⟨rr, lf2, zf2, gd2, gm2, gr2⟩ := u
  obtain ⟨W2, w1, w2⟩ := hc9 lf2 zf2 gd2 gm2 gr2 (q_bound (dC S) v).1
  exact ⟨(rr, W2), rfl, ⟨hu, w1⟩, Sub9.nil w2, fun _ z => z⟩

theorem eX4_weightOf (l : Launch) (G : Gt) (m0 : Nat) (S : DS) (th : Nat) (W : va_W) (v : Int32) (h : MdW G m0 S th W) (hI : Inv (dC S)) : CT l G yX4_weightOf cX4_weightOf 2 (some .int) ({ frames := 2, cells := 0, slots := 0, locals := 34 } : Room) [.ref m0, .int v] (W ++ []) RH0 (S := Int32 × va_W) (fun (u_ : Int32 × va_W) => some (.int u_.1)) (fun (u_ : Int32 × va_W) => ((q_weight (dC S) v).1 = 0 → u_.1 = (q_weight (dC S) v).2) ∧ MdW G m0 S (q_weight (dC S) v).1 u_.2) (fun (u_ : Int32 × va_W) => (u_.2 ++ [])) (fun (u_ : Int32 × va_W) (H : Heap) => True) := by
  obtain ⟨sa, oa, pa, la, za, na, t, gd, gm, gr, f, p, lf, zf, ra, rq, wr, hp9, hR9, hc9, hM⟩ := h.q
  refine (mX4_weightOf l G m0 sa oa pa la za na (nI (dK S)) (nI t) (nI (dN S)) gd gm gr (nI th) (nI (svN (dS S))) f (dC S) lf zf v hM hI).conv (Nat.le_of_ble_eq_true rfl) (Nat.le_of_ble_eq_true rfl) (Nat.le_of_ble_eq_true rfl) (Nat.le_of_ble_eq_true rfl) wr (P9.nil hp9) (fun sz A H hA hP hr h9 _ e9 => hR9 A H hr) (fun u hu => ?_)
  obtain ⟨rr, lf2, zf2, gd2, gm2, gr2⟩ := u
  obtain ⟨W2, w1, w2⟩ := hc9 lf2 zf2 gd2 gm2 gr2 (q_weight (dC S) v).1
  exact ⟨(rr, W2), rfl, ⟨hu, w1⟩, Sub9.nil w2, fun _ z => z⟩

theorem eX4_zoneOf (l : Launch) (G : Gt) (m0 : Nat) (S : DS) (th : Nat) (W : va_W) (v : Int32) (w : Int32) (h : MdW G m0 S th W) (hI : Inv (dC S)) : CT l G yX4_zoneOf cX4_zoneOf 3 (some .int) ({ frames := 3, cells := 0, slots := 0, locals := 61 } : Room) [.ref m0, .int v, .int w] (W ++ []) RH0 (S := Int32 × va_W) (fun (u_ : Int32 × va_W) => some (.int u_.1)) (fun (u_ : Int32 × va_W) => ((q_zone (dC S) v w).1 = 0 → u_.1 = (q_zone (dC S) v w).2) ∧ MdW G m0 S (q_zone (dC S) v w).1 u_.2) (fun (u_ : Int32 × va_W) => (u_.2 ++ [])) (fun (u_ : Int32 × va_W) (H : Heap) => True) := by
  obtain ⟨sa, oa, pa, la, za, na, t, gd, gm, gr, f, p, lf, zf, ra, rq, wr, hp9, hR9, hc9, hM⟩ := h.q
  refine (mX4_zoneOf l G m0 sa oa pa la za na (nI (dK S)) (nI t) (nI (dN S)) gd gm gr (nI th) (nI (svN (dS S))) f (dC S) lf zf v w hM hI).conv (Nat.le_of_ble_eq_true rfl) (Nat.le_of_ble_eq_true rfl) (Nat.le_of_ble_eq_true rfl) (Nat.le_of_ble_eq_true rfl) wr (P9.nil hp9) (fun sz A H hA hP hr h9 _ e9 => hR9 A H hr) (fun u hu => ?_)
  obtain ⟨rr, lf2, zf2, gd2, gm2, gr2⟩ := u
  obtain ⟨W2, w1, w2⟩ := hc9 lf2 zf2 gd2 gm2 gr2 (q_zone (dC S) v w).1
  exact ⟨(rr, W2), rfl, ⟨hu, w1⟩, Sub9.nil w2, fun _ z => z⟩

theorem eX4_sessionAt (l : Launch) (G : Gt) (m0 : Nat) (S : DS) (th : Nat) (W : va_W) (v : Int32) (h : MdW G m0 S th W) (hI : Inv (dC S)) (hRk : RkOk (dC S)) : CT l G yX4_sessionAt cX4_sessionAt 2 (some .int) ({ frames := 3, cells := 0, slots := 0, locals := 59 } : Room) [.ref m0, .int v] (W ++ []) RH0 (S := Int32 × va_W) (fun (u_ : Int32 × va_W) => some (.int u_.1)) (fun (u_ : Int32 × va_W) => ((q_sAt (dC S) v).1 = 0 → u_.1 = (q_sAt (dC S) v).2) ∧ MdW G m0 S (q_sAt (dC S) v).1 u_.2) (fun (u_ : Int32 × va_W) => (u_.2 ++ [])) (fun (u_ : Int32 × va_W) (H : Heap) => True) := by
  obtain ⟨sa, oa, pa, la, za, na, t, gd, gm, gr, f, p, lf, zf, ra, rq, wr, hp9, hR9, hc9, hM⟩ := h.q
  refine (mX4_sessionAt l G m0 sa oa pa la za na (nI (dK S)) (nI t) (nI (dN S)) gd gm gr (nI th) (nI (svN (dS S))) f (dC S) lf zf v hM hI hRk).conv (Nat.le_of_ble_eq_true rfl) (Nat.le_of_ble_eq_true rfl) (Nat.le_of_ble_eq_true rfl) (Nat.le_of_ble_eq_true rfl) wr (P9.nil hp9) (fun sz A H hA hP hr h9 _ e9 => hR9 A H hr) (fun u hu => ?_)
  obtain ⟨rr, lf2, zf2, gd2, gm2, gr2⟩ := u
  obtain ⟨W2, w1, w2⟩ := hc9 lf2 zf2 gd2 gm2 gr2 (q_sAt (dC S) v).1
  exact ⟨(rr, W2), rfl, ⟨hu, w1⟩, Sub9.nil w2, fun _ z => z⟩

theorem eX4_dayOf (l : Launch) (G : Gt) (m0 : Nat) (S : DS) (th : Nat) (W : va_W) (id : Int32) (h : MdW G m0 S th W) (hI : Inv (dC S)) : CT l G yX4_dayOf cX4_dayOf 2 (some .int) ({ frames := 4, cells := 0, slots := 0, locals := 77 } : Room) [.ref m0, .int id] (W ++ []) RH0 (S := Int32 × va_W) (fun (u_ : Int32 × va_W) => some (.int u_.1)) (fun (u_ : Int32 × va_W) => ((q_dayOf (dC S) id).1 = 0 → u_.1 = (q_dayOf (dC S) id).2) ∧ MdW G m0 S (q_dayOf (dC S) id).1 u_.2) (fun (u_ : Int32 × va_W) => (u_.2 ++ [])) (fun (u_ : Int32 × va_W) (H : Heap) => True) := by
  obtain ⟨sa, oa, pa, la, za, na, t, gd, gm, gr, f, p, lf, zf, ra, rq, wr, hp9, hR9, hc9, hM⟩ := h.q
  refine (mX4_dayOf l G m0 sa oa pa la za na (nI (dK S)) (nI t) (nI (dN S)) gd gm gr (nI th) (nI (svN (dS S))) f (dC S) lf zf id hM hI).conv (Nat.le_of_ble_eq_true rfl) (Nat.le_of_ble_eq_true rfl) (Nat.le_of_ble_eq_true rfl) (Nat.le_of_ble_eq_true rfl) wr (P9.nil hp9) (fun sz A H hA hP hr h9 _ e9 => hR9 A H hr) (fun u hu => ?_)
  obtain ⟨rr, lf2, zf2, gd2, gm2, gr2⟩ := u
  obtain ⟨W2, w1, w2⟩ := hc9 lf2 zf2 gd2 gm2 gr2 (q_dayOf (dC S) id).1
  exact ⟨(rr, W2), rfl, ⟨hu, w1⟩, Sub9.nil w2, fun _ z => z⟩

theorem eX4_minutesOf (l : Launch) (G : Gt) (m0 : Nat) (S : DS) (th : Nat) (W : va_W) (id : Int32) (h : MdW G m0 S th W) (hI : Inv (dC S)) : CT l G yX4_minutesOf cX4_minutesOf 2 (some .int) ({ frames := 4, cells := 0, slots := 0, locals := 77 } : Room) [.ref m0, .int id] (W ++ []) RH0 (S := Int32 × va_W) (fun (u_ : Int32 × va_W) => some (.int u_.1)) (fun (u_ : Int32 × va_W) => ((q_minOf (dC S) id).1 = 0 → u_.1 = (q_minOf (dC S) id).2) ∧ MdW G m0 S (q_minOf (dC S) id).1 u_.2) (fun (u_ : Int32 × va_W) => (u_.2 ++ [])) (fun (u_ : Int32 × va_W) (H : Heap) => True) := by
  obtain ⟨sa, oa, pa, la, za, na, t, gd, gm, gr, f, p, lf, zf, ra, rq, wr, hp9, hR9, hc9, hM⟩ := h.q
  refine (mX4_minutesOf l G m0 sa oa pa la za na (nI (dK S)) (nI t) (nI (dN S)) gd gm gr (nI th) (nI (svN (dS S))) f (dC S) lf zf id hM hI).conv (Nat.le_of_ble_eq_true rfl) (Nat.le_of_ble_eq_true rfl) (Nat.le_of_ble_eq_true rfl) (Nat.le_of_ble_eq_true rfl) wr (P9.nil hp9) (fun sz A H hA hP hr h9 _ e9 => hR9 A H hr) (fun u hu => ?_)
  obtain ⟨rr, lf2, zf2, gd2, gm2, gr2⟩ := u
  obtain ⟨W2, w1, w2⟩ := hc9 lf2 zf2 gd2 gm2 gr2 (q_minOf (dC S) id).1
  exact ⟨(rr, W2), rfl, ⟨hu, w1⟩, Sub9.nil w2, fun _ z => z⟩

theorem eX4_minutesInZone (l : Launch) (G : Gt) (m0 : Nat) (S : DS) (th : Nat) (W : va_W) (id : Int32) (z : Int32) (h : MdW G m0 S th W) (hI : Inv (dC S)) : CT l G yX4_minutesInZone cX4_minutesInZone 3 (some .int) ({ frames := 4, cells := 0, slots := 0, locals := 83 } : Room) [.ref m0, .int id, .int z] (W ++ []) RH0 (S := Int32 × va_W) (fun (u_ : Int32 × va_W) => some (.int u_.1)) (fun (u_ : Int32 × va_W) => ((q_minZ (dC S) id z).1 = 0 → u_.1 = (q_minZ (dC S) id z).2) ∧ MdW G m0 S (q_minZ (dC S) id z).1 u_.2) (fun (u_ : Int32 × va_W) => (u_.2 ++ [])) (fun (u_ : Int32 × va_W) (H : Heap) => True) := by
  obtain ⟨sa, oa, pa, la, za, na, t, gd, gm, gr, f, p, lf, zf, ra, rq, wr, hp9, hR9, hc9, hM⟩ := h.q
  refine (mX4_minutesInZone l G m0 sa oa pa la za na (nI (dK S)) (nI t) (nI (dN S)) gd gm gr (nI th) (nI (svN (dS S))) f (dC S) lf zf id z hM hI).conv (Nat.le_of_ble_eq_true rfl) (Nat.le_of_ble_eq_true rfl) (Nat.le_of_ble_eq_true rfl) (Nat.le_of_ble_eq_true rfl) wr (P9.nil hp9) (fun sz A H hA hP hr h9 _ e9 => hR9 A H hr) (fun u hu => ?_)
  obtain ⟨rr, lf2, zf2, gd2, gm2, gr2⟩ := u
  obtain ⟨W2, w1, w2⟩ := hc9 lf2 zf2 gd2 gm2 gr2 (q_minZ (dC S) id z).1
  exact ⟨(rr, W2), rfl, ⟨hu, w1⟩, Sub9.nil w2, fun _ z => z⟩

theorem eX4_loadOf (l : Launch) (G : Gt) (m0 : Nat) (S : DS) (th : Nat) (W : va_W) (id : Int32) (h : MdW G m0 S th W) (hI : Inv (dC S)) : CT l G yX4_loadOf cX4_loadOf 2 (some .int) ({ frames := 5, cells := 0, slots := 0, locals := 106 } : Room) [.ref m0, .int id] (W ++ []) RH0 (S := Int32 × va_W) (fun (u_ : Int32 × va_W) => some (.int u_.1)) (fun (u_ : Int32 × va_W) => ((q_loadOf (dC S) id).1 = 0 → u_.1 = (q_loadOf (dC S) id).2) ∧ MdW G m0 S (q_loadOf (dC S) id).1 u_.2) (fun (u_ : Int32 × va_W) => (u_.2 ++ [])) (fun (u_ : Int32 × va_W) (H : Heap) => True) := by
  obtain ⟨sa, oa, pa, la, za, na, t, gd, gm, gr, f, p, lf, zf, ra, rq, wr, hp9, hR9, hc9, hM⟩ := h.q
  refine (mX4_loadOf l G m0 sa oa pa la za na (nI (dK S)) (nI t) (nI (dN S)) gd gm gr (nI th) (nI (svN (dS S))) f (dC S) lf zf id hM hI).conv (Nat.le_of_ble_eq_true rfl) (Nat.le_of_ble_eq_true rfl) (Nat.le_of_ble_eq_true rfl) (Nat.le_of_ble_eq_true rfl) wr (P9.nil hp9) (fun sz A H hA hP hr h9 _ e9 => hR9 A H hr) (fun u hu => ?_)
  obtain ⟨rr, lf2, zf2, gd2, gm2, gr2⟩ := u
  obtain ⟨W2, w1, w2⟩ := hc9 lf2 zf2 gd2 gm2 gr2 (q_loadOf (dC S) id).1
  exact ⟨(rr, W2), rfl, ⟨hu, w1⟩, Sub9.nil w2, fun _ z => z⟩

theorem eX4_loadOn (l : Launch) (G : Gt) (m0 : Nat) (S : DS) (th : Nat) (W : va_W) (v : Int32) (h : MdW G m0 S th W) (hI : Inv (dC S)) : CT l G yX4_loadOn cX4_loadOn 2 (some .int) ({ frames := 6, cells := 0, slots := 0, locals := 127 } : Room) [.ref m0, .int v] (W ++ []) RH0 (S := Int32 × va_W) (fun (u_ : Int32 × va_W) => some (.int u_.1)) (fun (u_ : Int32 × va_W) => ((q_loadOn (dC S) v).1 = 0 → u_.1 = (q_loadOn (dC S) v).2) ∧ MdW G m0 S (q_loadOn (dC S) v).1 u_.2) (fun (u_ : Int32 × va_W) => (u_.2 ++ [])) (fun (u_ : Int32 × va_W) (H : Heap) => True) := by
  obtain ⟨sa, oa, pa, la, za, na, t, gd, gm, gr, f, p, lf, zf, ra, rq, wr, hp9, hR9, hc9, hM⟩ := h.q
  refine (mX4_loadOn l G m0 sa oa pa la za na (nI (dK S)) (nI t) (nI (dN S)) gd gm gr (nI th) (nI (svN (dS S))) f (dC S) lf zf v hM hI).conv (Nat.le_of_ble_eq_true rfl) (Nat.le_of_ble_eq_true rfl) (Nat.le_of_ble_eq_true rfl) (Nat.le_of_ble_eq_true rfl) wr (P9.nil hp9) (fun sz A H hA hP hr h9 _ e9 => hR9 A H hr) (fun u hu => ?_)
  obtain ⟨rr, lf2, zf2, gd2, gm2, gr2⟩ := u
  obtain ⟨W2, w1, w2⟩ := hc9 lf2 zf2 gd2 gm2 gr2 (q_loadOn (dC S) v).1
  exact ⟨(rr, W2), rfl, ⟨hu, w1⟩, Sub9.nil w2, fun _ z => z⟩

theorem eX4_fitnessOn (l : Launch) (G : Gt) (m0 : Nat) (S : DS) (th : Nat) (W : va_W) (v : Int32) (h : MdW G m0 S th W) (hI : Inv (dC S)) : CT l G yX4_fitnessOn cX4_fitnessOn 2 (some .int) ({ frames := 6, cells := 0, slots := 0, locals := 127 } : Room) [.ref m0, .int v] (W ++ []) RH0 (S := Int32 × va_W) (fun (u_ : Int32 × va_W) => some (.int u_.1)) (fun (u_ : Int32 × va_W) => ((q_fit (dC S) v).1 = 0 → u_.1 = (q_fit (dC S) v).2) ∧ MdW G m0 S (q_fit (dC S) v).1 u_.2) (fun (u_ : Int32 × va_W) => (u_.2 ++ [])) (fun (u_ : Int32 × va_W) (H : Heap) => True) := by
  obtain ⟨sa, oa, pa, la, za, na, t, gd, gm, gr, f, p, lf, zf, ra, rq, wr, hp9, hR9, hc9, hM⟩ := h.q
  refine (mX4_fitnessOn l G m0 sa oa pa la za na (nI (dK S)) (nI t) (nI (dN S)) gd gm gr (nI th) (nI (svN (dS S))) f (dC S) lf zf v hM hI).conv (Nat.le_of_ble_eq_true rfl) (Nat.le_of_ble_eq_true rfl) (Nat.le_of_ble_eq_true rfl) (Nat.le_of_ble_eq_true rfl) wr (P9.nil hp9) (fun sz A H hA hP hr h9 _ e9 => hR9 A H hr) (fun u hu => ?_)
  obtain ⟨rr, lf2, zf2, gd2, gm2, gr2⟩ := u
  obtain ⟨W2, w1, w2⟩ := hc9 lf2 zf2 gd2 gm2 gr2 (q_fit (dC S) v).1
  exact ⟨(rr, W2), rfl, ⟨hu, w1⟩, Sub9.nil w2, fun _ z => z⟩

theorem eX4_fatigueOn (l : Launch) (G : Gt) (m0 : Nat) (S : DS) (th : Nat) (W : va_W) (v : Int32) (h : MdW G m0 S th W) (hI : Inv (dC S)) : CT l G yX4_fatigueOn cX4_fatigueOn 2 (some .int) ({ frames := 6, cells := 0, slots := 0, locals := 127 } : Room) [.ref m0, .int v] (W ++ []) RH0 (S := Int32 × va_W) (fun (u_ : Int32 × va_W) => some (.int u_.1)) (fun (u_ : Int32 × va_W) => ((q_fat (dC S) v).1 = 0 → u_.1 = (q_fat (dC S) v).2) ∧ MdW G m0 S (q_fat (dC S) v).1 u_.2) (fun (u_ : Int32 × va_W) => (u_.2 ++ [])) (fun (u_ : Int32 × va_W) (H : Heap) => True) := by
  obtain ⟨sa, oa, pa, la, za, na, t, gd, gm, gr, f, p, lf, zf, ra, rq, wr, hp9, hR9, hc9, hM⟩ := h.q
  refine (mX4_fatigueOn l G m0 sa oa pa la za na (nI (dK S)) (nI t) (nI (dN S)) gd gm gr (nI th) (nI (svN (dS S))) f (dC S) lf zf v hM hI).conv (Nat.le_of_ble_eq_true rfl) (Nat.le_of_ble_eq_true rfl) (Nat.le_of_ble_eq_true rfl) (Nat.le_of_ble_eq_true rfl) wr (P9.nil hp9) (fun sz A H hA hP hr h9 _ e9 => hR9 A H hr) (fun u hu => ?_)
  obtain ⟨rr, lf2, zf2, gd2, gm2, gr2⟩ := u
  obtain ⟨W2, w1, w2⟩ := hc9 lf2 zf2 gd2 gm2 gr2 (q_fat (dC S) v).1
  exact ⟨(rr, W2), rfl, ⟨hu, w1⟩, Sub9.nil w2, fun _ z => z⟩

theorem eX4_formOn (l : Launch) (G : Gt) (m0 : Nat) (S : DS) (th : Nat) (W : va_W) (v : Int32) (h : MdW G m0 S th W) (hI : Inv (dC S)) : CT l G yX4_formOn cX4_formOn 2 (some .int) ({ frames := 6, cells := 0, slots := 0, locals := 127 } : Room) [.ref m0, .int v] (W ++ []) RH0 (S := Int32 × va_W) (fun (u_ : Int32 × va_W) => some (.int u_.1)) (fun (u_ : Int32 × va_W) => ((q_form (dC S) v).1 = 0 → u_.1 = (q_form (dC S) v).2) ∧ MdW G m0 S (q_form (dC S) v).1 u_.2) (fun (u_ : Int32 × va_W) => (u_.2 ++ [])) (fun (u_ : Int32 × va_W) (H : Heap) => True) := by
  obtain ⟨sa, oa, pa, la, za, na, t, gd, gm, gr, f, p, lf, zf, ra, rq, wr, hp9, hR9, hc9, hM⟩ := h.q
  refine (mX4_formOn l G m0 sa oa pa la za na (nI (dK S)) (nI t) (nI (dN S)) gd gm gr (nI th) (nI (svN (dS S))) f (dC S) lf zf v hM hI).conv (Nat.le_of_ble_eq_true rfl) (Nat.le_of_ble_eq_true rfl) (Nat.le_of_ble_eq_true rfl) (Nat.le_of_ble_eq_true rfl) wr (P9.nil hp9) (fun sz A H hA hP hr h9 _ e9 => hR9 A H hr) (fun u hu => ?_)
  obtain ⟨rr, lf2, zf2, gd2, gm2, gr2⟩ := u
  obtain ⟨W2, w1, w2⟩ := hc9 lf2 zf2 gd2 gm2 gr2 (q_form (dC S) v).1
  exact ⟨(rr, W2), rfl, ⟨hu, w1⟩, Sub9.nil w2, fun _ z => z⟩

theorem eX4_fitnessFromStart (l : Launch) (G : Gt) (m0 : Nat) (S : DS) (th : Nat) (W : va_W) (v : Int32) (h : MdW G m0 S th W) (hI : Inv (dC S)) : CT l G yX4_fitnessFromStart cX4_fitnessFromStart 2 (some .int) ({ frames := 7, cells := 0, slots := 0, locals := 148 } : Room) [.ref m0, .int v] (W ++ []) RH0 (S := Int32 × va_W) (fun (u_ : Int32 × va_W) => some (.int u_.1)) (fun (u_ : Int32 × va_W) => ((q_fit (dC S) v).1 = 0 → u_.1 = (q_fit (dC S) v).2) ∧ MdW G m0 S (q_fit (dC S) v).1 u_.2) (fun (u_ : Int32 × va_W) => (u_.2 ++ [])) (fun (u_ : Int32 × va_W) (H : Heap) => True) := by
  obtain ⟨sa, oa, pa, la, za, na, t, gd, gm, gr, f, p, lf, zf, ra, rq, wr, hp9, hR9, hc9, hM⟩ := h.q
  refine (mX4_fitnessFromStart l G m0 sa oa pa la za na (nI (dK S)) (nI t) (nI (dN S)) gd gm gr (nI th) (nI (svN (dS S))) f (dC S) lf zf v hM hI).conv (Nat.le_of_ble_eq_true rfl) (Nat.le_of_ble_eq_true rfl) (Nat.le_of_ble_eq_true rfl) (Nat.le_of_ble_eq_true rfl) wr (P9.nil hp9) (fun sz A H hA hP hr h9 _ e9 => hR9 A H hr) (fun u hu => ?_)
  obtain ⟨rr, lf2, zf2, gd2, gm2, gr2⟩ := u
  obtain ⟨W2, w1, w2⟩ := hc9 lf2 zf2 gd2 gm2 gr2 (q_fit (dC S) v).1
  exact ⟨(rr, W2), rfl, ⟨hu, w1⟩, Sub9.nil w2, fun _ z => z⟩

theorem eX4_fatigueFromStart (l : Launch) (G : Gt) (m0 : Nat) (S : DS) (th : Nat) (W : va_W) (v : Int32) (h : MdW G m0 S th W) (hI : Inv (dC S)) : CT l G yX4_fatigueFromStart cX4_fatigueFromStart 2 (some .int) ({ frames := 7, cells := 0, slots := 0, locals := 148 } : Room) [.ref m0, .int v] (W ++ []) RH0 (S := Int32 × va_W) (fun (u_ : Int32 × va_W) => some (.int u_.1)) (fun (u_ : Int32 × va_W) => ((q_fat (dC S) v).1 = 0 → u_.1 = (q_fat (dC S) v).2) ∧ MdW G m0 S (q_fat (dC S) v).1 u_.2) (fun (u_ : Int32 × va_W) => (u_.2 ++ [])) (fun (u_ : Int32 × va_W) (H : Heap) => True) := by
  obtain ⟨sa, oa, pa, la, za, na, t, gd, gm, gr, f, p, lf, zf, ra, rq, wr, hp9, hR9, hc9, hM⟩ := h.q
  refine (mX4_fatigueFromStart l G m0 sa oa pa la za na (nI (dK S)) (nI t) (nI (dN S)) gd gm gr (nI th) (nI (svN (dS S))) f (dC S) lf zf v hM hI).conv (Nat.le_of_ble_eq_true rfl) (Nat.le_of_ble_eq_true rfl) (Nat.le_of_ble_eq_true rfl) (Nat.le_of_ble_eq_true rfl) wr (P9.nil hp9) (fun sz A H hA hP hr h9 _ e9 => hR9 A H hr) (fun u hu => ?_)
  obtain ⟨rr, lf2, zf2, gd2, gm2, gr2⟩ := u
  obtain ⟨W2, w1, w2⟩ := hc9 lf2 zf2 gd2 gm2 gr2 (q_fat (dC S) v).1
  exact ⟨(rr, W2), rfl, ⟨hu, w1⟩, Sub9.nil w2, fun _ z => z⟩

theorem eX4_targetAt (l : Launch) (G : Gt) (m0 : Nat) (S : DS) (th : Nat) (W : va_W) (v : Int32) (h : MdW G m0 S th W) (hI : Inv (dC S)) : CT l G yX4_targetAt cX4_targetAt 2 (some .int) ({ frames := 2, cells := 0, slots := 0, locals := 34 } : Room) [.ref m0, .int v] (W ++ []) RH0 (S := Int32 × va_W) (fun (u_ : Int32 × va_W) => some (.int u_.1)) (fun (u_ : Int32 × va_W) => ((q_target (dC S) v).1 = 0 → u_.1 = (q_target (dC S) v).2) ∧ MdW G m0 S (q_target (dC S) v).1 u_.2) (fun (u_ : Int32 × va_W) => (u_.2 ++ [])) (fun (u_ : Int32 × va_W) (H : Heap) => True) := by
  obtain ⟨sa, oa, pa, la, za, na, t, gd, gm, gr, f, p, lf, zf, ra, rq, wr, hp9, hR9, hc9, hM⟩ := h.q
  refine (mX4_targetAt l G m0 sa oa pa la za na (nI (dK S)) (nI t) (nI (dN S)) gd gm gr (nI th) (nI (svN (dS S))) f (dC S) lf zf v hM hI).conv (Nat.le_of_ble_eq_true rfl) (Nat.le_of_ble_eq_true rfl) (Nat.le_of_ble_eq_true rfl) (Nat.le_of_ble_eq_true rfl) wr (P9.nil hp9) (fun sz A H hA hP hr h9 _ e9 => hR9 A H hr) (fun u hu => ?_)
  obtain ⟨rr, lf2, zf2, gd2, gm2, gr2⟩ := u
  obtain ⟨W2, w1, w2⟩ := hc9 lf2 zf2 gd2 gm2 gr2 (q_target (dC S) v).1
  exact ⟨(rr, W2), rfl, ⟨hu, w1⟩, Sub9.nil w2, fun _ z => z⟩

theorem eX4_meanLoad (l : Launch) (G : Gt) (m0 : Nat) (S : DS) (th : Nat) (W : va_W) (h : MdW G m0 S th W) (hI : Inv (dC S)) : CT l G yX4_meanLoad cX4_meanLoad 3 (some .double) ({ frames := 6, cells := 0, slots := 0, locals := 127 } : Room) [.ref m0] (W ++ []) RH0 (S := UInt64 × va_W) (fun (u_ : UInt64 × va_W) => some (.double u_.1)) (fun (u_ : UInt64 × va_W) => ((q_mean (dC S)).1 = 0 → u_.1 = (q_mean (dC S)).2) ∧ MdW G m0 S (q_mean (dC S)).1 u_.2) (fun (u_ : UInt64 × va_W) => (u_.2 ++ [])) (fun (u_ : UInt64 × va_W) (H : Heap) => True) := by
  obtain ⟨sa, oa, pa, la, za, na, t, gd, gm, gr, f, p, lf, zf, ra, rq, wr, hp9, hR9, hc9, hM⟩ := h.q
  refine (mX4_meanLoad l G m0 sa oa pa la za na (nI (dK S)) (nI t) (nI (dN S)) gd gm gr (nI th) (nI (svN (dS S))) f (dC S) lf zf hM hI).conv (Nat.le_of_ble_eq_true rfl) (Nat.le_of_ble_eq_true rfl) (Nat.le_of_ble_eq_true rfl) (Nat.le_of_ble_eq_true rfl) wr (P9.nil hp9) (fun sz A H hA hP hr h9 _ e9 => hR9 A H hr) (fun u hu => ?_)
  obtain ⟨rr, lf2, zf2, gd2, gm2, gr2⟩ := u
  obtain ⟨W2, w1, w2⟩ := hc9 lf2 zf2 gd2 gm2 gr2 (q_mean (dC S)).1
  exact ⟨(rr, W2), rfl, ⟨hu, w1⟩, Sub9.nil w2, fun _ z => z⟩

theorem eX4_bestFormDay (l : Launch) (G : Gt) (m0 : Nat) (S : DS) (th : Nat) (W : va_W) (h : MdW G m0 S th W) (hI : Inv (dC S)) : CT l G yX4_bestFormDay cX4_bestFormDay 3 (some .int) ({ frames := 6, cells := 0, slots := 0, locals := 127 } : Room) [.ref m0] (W ++ []) RH0 (S := Int32 × va_W) (fun (u_ : Int32 × va_W) => some (.int u_.1)) (fun (u_ : Int32 × va_W) => ((q_bestForm (dC S)).1 = 0 → u_.1 = (q_bestForm (dC S)).2) ∧ MdW G m0 S (q_bestForm (dC S)).1 u_.2) (fun (u_ : Int32 × va_W) => (u_.2 ++ [])) (fun (u_ : Int32 × va_W) (H : Heap) => True) := by
  obtain ⟨sa, oa, pa, la, za, na, t, gd, gm, gr, f, p, lf, zf, ra, rq, wr, hp9, hR9, hc9, hM⟩ := h.q
  refine (mX4_bestFormDay l G m0 sa oa pa la za na (nI (dK S)) (nI t) (nI (dN S)) gd gm gr (nI th) (nI (svN (dS S))) f (dC S) lf zf hM hI).conv (Nat.le_of_ble_eq_true rfl) (Nat.le_of_ble_eq_true rfl) (Nat.le_of_ble_eq_true rfl) (Nat.le_of_ble_eq_true rfl) wr (P9.nil hp9) (fun sz A H hA hP hr h9 _ e9 => hR9 A H hr) (fun u hu => ?_)
  obtain ⟨rr, lf2, zf2, gd2, gm2, gr2⟩ := u
  obtain ⟨W2, w1, w2⟩ := hc9 lf2 zf2 gd2 gm2 gr2 (q_bestForm (dC S)).1
  exact ⟨(rr, W2), rfl, ⟨hu, w1⟩, Sub9.nil w2, fun _ z => z⟩

theorem eX4_daysToForm (l : Launch) (G : Gt) (m0 : Nat) (S : DS) (th : Nat) (W : va_W) (v : Int32) (h : MdW G m0 S th W) (hI : Inv (dC S)) : CT l G yX4_daysToForm cX4_daysToForm 4 (some .int) ({ frames := 6, cells := 0, slots := 0, locals := 127 } : Room) [.ref m0, .int v] (W ++ []) RH0 (S := Int32 × va_W) (fun (u_ : Int32 × va_W) => some (.int u_.1)) (fun (u_ : Int32 × va_W) => ((q_daysTo (dC S) v).1 = 0 → u_.1 = (q_daysTo (dC S) v).2) ∧ MdW G m0 S (q_daysTo (dC S) v).1 u_.2) (fun (u_ : Int32 × va_W) => (u_.2 ++ [])) (fun (u_ : Int32 × va_W) (H : Heap) => True) := by
  obtain ⟨sa, oa, pa, la, za, na, t, gd, gm, gr, f, p, lf, zf, ra, rq, wr, hp9, hR9, hc9, hM⟩ := h.q
  refine (mX4_daysToForm l G m0 sa oa pa la za na (nI (dK S)) (nI t) (nI (dN S)) gd gm gr (nI th) (nI (svN (dS S))) f (dC S) lf zf v hM hI).conv (Nat.le_of_ble_eq_true rfl) (Nat.le_of_ble_eq_true rfl) (Nat.le_of_ble_eq_true rfl) (Nat.le_of_ble_eq_true rfl) wr (P9.nil hp9) (fun sz A H hA hP hr h9 _ e9 => hR9 A H hr) (fun u hu => ?_)
  obtain ⟨rr, lf2, zf2, gd2, gm2, gr2⟩ := u
  obtain ⟨W2, w1, w2⟩ := hc9 lf2 zf2 gd2 gm2 gr2 (q_daysTo (dC S) v).1
  exact ⟨(rr, W2), rfl, ⟨hu, w1⟩, Sub9.nil w2, fun _ z => z⟩

theorem eX4_bestDays (l : Launch) (G : Gt) (m0 : Nat) (S : DS) (th : Nat) (W : va_W) (v : Int32) (h : MdW G m0 S th W) (hI : Inv (dC S)) : CT l G yX4_bestDays cX4_bestDays 2 (some .int) ({ frames := 7, cells := 0, slots := 0, locals := 150 } : Room) [.ref m0, .int v] (W ++ []) RH0 (S := Int32 × va_W) (fun (u_ : Int32 × va_W) => some (.int u_.1)) (fun (u_ : Int32 × va_W) => ((q_bestDays (dC S) v).1 = 0 → u_.1 = (q_bestDays (dC S) v).2) ∧ MdW G m0 S (q_bestDays (dC S) v).1 u_.2) (fun (u_ : Int32 × va_W) => (u_.2 ++ [])) (fun (u_ : Int32 × va_W) (H : Heap) => True) := by
  obtain ⟨sa, oa, pa, la, za, na, t, gd, gm, gr, f, p, lf, zf, ra, rq, wr, hp9, hR9, hc9, hM⟩ := h.q
  refine (mX4_bestDays l G m0 sa oa pa la za na (nI (dK S)) (nI t) (nI (dN S)) gd gm gr (nI th) (nI (svN (dS S))) f (dC S) lf zf v hM hI).conv (Nat.le_of_ble_eq_true rfl) (Nat.le_of_ble_eq_true rfl) (Nat.le_of_ble_eq_true rfl) (Nat.le_of_ble_eq_true rfl) wr (P9.nil hp9) (fun sz A H hA hP hr h9 _ e9 => hR9 A H hr) (fun u hu => ?_)
  obtain ⟨rr, lf2, zf2, gd2, gm2, gr2⟩ := u
  obtain ⟨W2, w1, w2⟩ := hc9 lf2 zf2 gd2 gm2 gr2 (q_bestDays (dC S) v).1
  exact ⟨(rr, W2), rfl, ⟨hu, w1⟩, Sub9.nil w2, fun _ z => z⟩

theorem eX4_bestDaysStart (l : Launch) (G : Gt) (m0 : Nat) (S : DS) (th : Nat) (W : va_W) (v : Int32) (h : MdW G m0 S th W) (hI : Inv (dC S)) : CT l G yX4_bestDaysStart cX4_bestDaysStart 2 (some .int) ({ frames := 7, cells := 0, slots := 0, locals := 150 } : Room) [.ref m0, .int v] (W ++ []) RH0 (S := Int32 × va_W) (fun (u_ : Int32 × va_W) => some (.int u_.1)) (fun (u_ : Int32 × va_W) => ((q_bestStart (dC S) v).1 = 0 → u_.1 = (q_bestStart (dC S) v).2) ∧ MdW G m0 S (q_bestStart (dC S) v).1 u_.2) (fun (u_ : Int32 × va_W) => (u_.2 ++ [])) (fun (u_ : Int32 × va_W) (H : Heap) => True) := by
  obtain ⟨sa, oa, pa, la, za, na, t, gd, gm, gr, f, p, lf, zf, ra, rq, wr, hp9, hR9, hc9, hM⟩ := h.q
  refine (mX4_bestDaysStart l G m0 sa oa pa la za na (nI (dK S)) (nI t) (nI (dN S)) gd gm gr (nI th) (nI (svN (dS S))) f (dC S) lf zf v hM hI).conv (Nat.le_of_ble_eq_true rfl) (Nat.le_of_ble_eq_true rfl) (Nat.le_of_ble_eq_true rfl) (Nat.le_of_ble_eq_true rfl) wr (P9.nil hp9) (fun sz A H hA hP hr h9 _ e9 => hR9 A H hr) (fun u hu => ?_)
  obtain ⟨rr, lf2, zf2, gd2, gm2, gr2⟩ := u
  obtain ⟨W2, w1, w2⟩ := hc9 lf2 zf2 gd2 gm2 gr2 (q_bestStart (dC S) v).1
  exact ⟨(rr, W2), rfl, ⟨hu, w1⟩, Sub9.nil w2, fun _ z => z⟩

theorem eX4_bestDaysByTrying (l : Launch) (G : Gt) (m0 : Nat) (S : DS) (th : Nat) (W : va_W) (v : Int32) (h : MdW G m0 S th W) (hI : Inv (dC S)) : CT l G yX4_bestDaysByTrying cX4_bestDaysByTrying 2 (some .int) ({ frames := 8, cells := 0, slots := 0, locals := 171 } : Room) [.ref m0, .int v] (W ++ []) RH0 (S := Int32 × va_W) (fun (u_ : Int32 × va_W) => some (.int u_.1)) (fun (u_ : Int32 × va_W) => ((q_bestDays (dC S) v).1 = 0 → u_.1 = (q_bestDays (dC S) v).2) ∧ MdW G m0 S (q_bestDays (dC S) v).1 u_.2) (fun (u_ : Int32 × va_W) => (u_.2 ++ [])) (fun (u_ : Int32 × va_W) (H : Heap) => True) := by
  obtain ⟨sa, oa, pa, la, za, na, t, gd, gm, gr, f, p, lf, zf, ra, rq, wr, hp9, hR9, hc9, hM⟩ := h.q
  refine (mX4_bestDaysByTrying l G m0 sa oa pa la za na (nI (dK S)) (nI t) (nI (dN S)) gd gm gr (nI th) (nI (svN (dS S))) f (dC S) lf zf v hM hI).conv (Nat.le_of_ble_eq_true rfl) (Nat.le_of_ble_eq_true rfl) (Nat.le_of_ble_eq_true rfl) (Nat.le_of_ble_eq_true rfl) wr (P9.nil hp9) (fun sz A H hA hP hr h9 _ e9 => hR9 A H hr) (fun u hu => ?_)
  obtain ⟨rr, lf2, zf2, gd2, gm2, gr2⟩ := u
  obtain ⟨W2, w1, w2⟩ := hc9 lf2 zf2 gd2 gm2 gr2 (q_bestDays (dC S) v).1
  exact ⟨(rr, W2), rfl, ⟨hu, w1⟩, Sub9.nil w2, fun _ z => z⟩

theorem eX4_zoneShare (l : Launch) (G : Gt) (m0 : Nat) (S : DS) (th : Nat) (W : va_W) (v : Int32) (h : MdW G m0 S th W) (hI : Inv (dC S)) : CT l G yX4_zoneShare cX4_zoneShare 4 (some .float) ({ frames := 4, cells := 0, slots := 0, locals := 83 } : Room) [.ref m0, .int v] (W ++ []) RH0 (S := UInt32 × va_W) (fun (u_ : UInt32 × va_W) => some (.float u_.1)) (fun (u_ : UInt32 × va_W) => ((q_share (dC S) v).1 = 0 → u_.1 = (q_share (dC S) v).2) ∧ MdW G m0 S (q_share (dC S) v).1 u_.2) (fun (u_ : UInt32 × va_W) => (u_.2 ++ [])) (fun (u_ : UInt32 × va_W) (H : Heap) => True) := by
  obtain ⟨sa, oa, pa, la, za, na, t, gd, gm, gr, f, p, lf, zf, ra, rq, wr, hp9, hR9, hc9, hM⟩ := h.q
  refine (mX4_zoneShare l G m0 sa oa pa la za na (nI (dK S)) (nI t) (nI (dN S)) gd gm gr (nI th) (nI (svN (dS S))) f (dC S) lf zf v hM hI).conv (Nat.le_of_ble_eq_true rfl) (Nat.le_of_ble_eq_true rfl) (Nat.le_of_ble_eq_true rfl) (Nat.le_of_ble_eq_true rfl) wr (P9.nil hp9) (fun sz A H hA hP hr h9 _ e9 => hR9 A H hr) (fun u hu => ?_)
  obtain ⟨rr, lf2, zf2, gd2, gm2, gr2⟩ := u
  obtain ⟨W2, w1, w2⟩ := hc9 lf2 zf2 gd2 gm2 gr2 (q_share (dC S) v).1
  exact ⟨(rr, W2), rfl, ⟨hu, w1⟩, Sub9.nil w2, fun _ z => z⟩

theorem eX4_bestEffort (l : Launch) (G : Gt) (m0 : Nat) (S : DS) (th : Nat) (W : va_W) (v : Int32) (h : MdW G m0 S th W) (hI : Inv (dC S)) (hRk : RkOk (dC S)) : CT l G yX4_bestEffort cX4_bestEffort 2 (some .int) ({ frames := 6, cells := 0, slots := 0, locals := 129 } : Room) [.ref m0, .int v] (W ++ []) RH0 (S := Int32 × va_W) (fun (u_ : Int32 × va_W) => some (.int u_.1)) (fun (u_ : Int32 × va_W) => ((q_bestEff (dC S) v).1 = 0 → u_.1 = (q_bestEff (dC S) v).2) ∧ MdW G m0 S (q_bestEff (dC S) v).1 u_.2) (fun (u_ : Int32 × va_W) => (u_.2 ++ [])) (fun (u_ : Int32 × va_W) (H : Heap) => True) := by
  obtain ⟨sa, oa, pa, la, za, na, t, gd, gm, gr, f, p, lf, zf, ra, rq, wr, hp9, hR9, hc9, hM⟩ := h.q
  refine (mX4_bestEffort l G m0 sa oa pa la za na (nI (dK S)) (nI t) (nI (dN S)) gd gm gr (nI th) (nI (svN (dS S))) f (dC S) lf zf v hM hI hRk).conv (Nat.le_of_ble_eq_true rfl) (Nat.le_of_ble_eq_true rfl) (Nat.le_of_ble_eq_true rfl) (Nat.le_of_ble_eq_true rfl) wr (P9.nil hp9) (fun sz A H hA hP hr h9 _ e9 => hR9 A H hr) (fun u hu => ?_)
  obtain ⟨rr, lf2, zf2, gd2, gm2, gr2⟩ := u
  obtain ⟨W2, w1, w2⟩ := hc9 lf2 zf2 gd2 gm2 gr2 (q_bestEff (dC S) v).1
  exact ⟨(rr, W2), rfl, ⟨hu, w1⟩, Sub9.nil w2, fun _ z => z⟩

theorem eX4_bestEffortSession (l : Launch) (G : Gt) (m0 : Nat) (S : DS) (th : Nat) (W : va_W) (v : Int32) (h : MdW G m0 S th W) (hI : Inv (dC S)) (hRk : RkOk (dC S)) : CT l G yX4_bestEffortSession cX4_bestEffortSession 2 (some .int) ({ frames := 6, cells := 0, slots := 0, locals := 129 } : Room) [.ref m0, .int v] (W ++ []) RH0 (S := Int32 × va_W) (fun (u_ : Int32 × va_W) => some (.int u_.1)) (fun (u_ : Int32 × va_W) => ((q_bestEffS (dC S) v).1 = 0 → u_.1 = (q_bestEffS (dC S) v).2) ∧ MdW G m0 S (q_bestEffS (dC S) v).1 u_.2) (fun (u_ : Int32 × va_W) => (u_.2 ++ [])) (fun (u_ : Int32 × va_W) (H : Heap) => True) := by
  obtain ⟨sa, oa, pa, la, za, na, t, gd, gm, gr, f, p, lf, zf, ra, rq, wr, hp9, hR9, hc9, hM⟩ := h.q
  refine (mX4_bestEffortSession l G m0 sa oa pa la za na (nI (dK S)) (nI t) (nI (dN S)) gd gm gr (nI th) (nI (svN (dS S))) f (dC S) lf zf v hM hI hRk).conv (Nat.le_of_ble_eq_true rfl) (Nat.le_of_ble_eq_true rfl) (Nat.le_of_ble_eq_true rfl) (Nat.le_of_ble_eq_true rfl) wr (P9.nil hp9) (fun sz A H hA hP hr h9 _ e9 => hR9 A H hr) (fun u hu => ?_)
  obtain ⟨rr, lf2, zf2, gd2, gm2, gr2⟩ := u
  obtain ⟨W2, w1, w2⟩ := hc9 lf2 zf2 gd2 gm2 gr2 (q_bestEffS (dC S) v).1
  exact ⟨(rr, W2), rfl, ⟨hu, w1⟩, Sub9.nil w2, fun _ z => z⟩

theorem eX4_bestEffortByTrying (l : Launch) (G : Gt) (m0 : Nat) (S : DS) (th : Nat) (W : va_W) (v : Int32) (h : MdW G m0 S th W) (hI : Inv (dC S)) (hRk : RkOk (dC S)) : CT l G yX4_bestEffortByTrying cX4_bestEffortByTrying 2 (some .int) ({ frames := 7, cells := 0, slots := 0, locals := 150 } : Room) [.ref m0, .int v] (W ++ []) RH0 (S := Int32 × va_W) (fun (u_ : Int32 × va_W) => some (.int u_.1)) (fun (u_ : Int32 × va_W) => ((q_bestEff (dC S) v).1 = 0 → u_.1 = (q_bestEff (dC S) v).2) ∧ MdW G m0 S (q_bestEff (dC S) v).1 u_.2) (fun (u_ : Int32 × va_W) => (u_.2 ++ [])) (fun (u_ : Int32 × va_W) (H : Heap) => True) := by
  obtain ⟨sa, oa, pa, la, za, na, t, gd, gm, gr, f, p, lf, zf, ra, rq, wr, hp9, hR9, hc9, hM⟩ := h.q
  refine (mX4_bestEffortByTrying l G m0 sa oa pa la za na (nI (dK S)) (nI t) (nI (dN S)) gd gm gr (nI th) (nI (svN (dS S))) f (dC S) lf zf v hM hI hRk).conv (Nat.le_of_ble_eq_true rfl) (Nat.le_of_ble_eq_true rfl) (Nat.le_of_ble_eq_true rfl) (Nat.le_of_ble_eq_true rfl) wr (P9.nil hp9) (fun sz A H hA hP hr h9 _ e9 => hR9 A H hr) (fun u hu => ?_)
  obtain ⟨rr, lf2, zf2, gd2, gm2, gr2⟩ := u
  obtain ⟨W2, w1, w2⟩ := hc9 lf2 zf2 gd2 gm2 gr2 (q_bestEff (dC S) v).1
  exact ⟨(rr, W2), rfl, ⟨hu, w1⟩, Sub9.nil w2, fun _ z => z⟩

theorem eX4_dueEntry (l : Launch) (G : Gt) (m0 : Nat) (S : DS) (th : Nat) (W : va_W) (h : MdW G m0 S th W) (hI : Inv (dC S)) : CT l G yX4_dueEntry cX4_dueEntry 1 (some .int) ({ frames := 7, cells := 0, slots := 0, locals := 150 } : Room) [.ref m0] (W ++ []) RH0 (S := Int32 × va_W) (fun (u_ : Int32 × va_W) => some (.int u_.1)) (fun (u_ : Int32 × va_W) => ((q_due (dC S)).1 = 0 → u_.1 = (q_due (dC S)).2) ∧ MdW G m0 S (q_due (dC S)).1 u_.2) (fun (u_ : Int32 × va_W) => (u_.2 ++ [])) (fun (u_ : Int32 × va_W) (H : Heap) => True) := by
  obtain ⟨sa, oa, pa, la, za, na, t, gd, gm, gr, f, p, lf, zf, ra, rq, wr, hp9, hR9, hc9, hM⟩ := h.q
  refine (mX4_dueEntry l G m0 sa oa pa la za na (nI (dK S)) (nI t) (nI (dN S)) gd gm gr (nI th) (nI (svN (dS S))) f (dC S) lf zf hM hI).conv (Nat.le_of_ble_eq_true rfl) (Nat.le_of_ble_eq_true rfl) (Nat.le_of_ble_eq_true rfl) (Nat.le_of_ble_eq_true rfl) wr (P9.nil hp9) (fun sz A H hA hP hr h9 _ e9 => hR9 A H hr) (fun u hu => ?_)
  obtain ⟨rr, lf2, zf2, gd2, gm2, gr2⟩ := u
  obtain ⟨W2, w1, w2⟩ := hc9 lf2 zf2 gd2 gm2 gr2 (q_due (dC S)).1
  exact ⟨(rr, W2), rfl, ⟨hu, w1⟩, Sub9.nil w2, fun _ z => z⟩

theorem eX4_missedDays (l : Launch) (G : Gt) (m0 : Nat) (S : DS) (th : Nat) (W : va_W) (h : MdW G m0 S th W) (hI : Inv (dC S)) : CT l G yX4_missedDays cX4_missedDays 2 (some .int) ({ frames := 7, cells := 0, slots := 0, locals := 150 } : Room) [.ref m0] (W ++ []) RH0 (S := Int32 × va_W) (fun (u_ : Int32 × va_W) => some (.int u_.1)) (fun (u_ : Int32 × va_W) => ((q_missed (dC S)).1 = 0 → u_.1 = (q_missed (dC S)).2) ∧ MdW G m0 S (q_missed (dC S)).1 u_.2) (fun (u_ : Int32 × va_W) => (u_.2 ++ [])) (fun (u_ : Int32 × va_W) (H : Heap) => True) := by
  obtain ⟨sa, oa, pa, la, za, na, t, gd, gm, gr, f, p, lf, zf, ra, rq, wr, hp9, hR9, hc9, hM⟩ := h.q
  refine (mX4_missedDays l G m0 sa oa pa la za na (nI (dK S)) (nI t) (nI (dN S)) gd gm gr (nI th) (nI (svN (dS S))) f (dC S) lf zf hM hI).conv (Nat.le_of_ble_eq_true rfl) (Nat.le_of_ble_eq_true rfl) (Nat.le_of_ble_eq_true rfl) (Nat.le_of_ble_eq_true rfl) wr (P9.nil hp9) (fun sz A H hA hP hr h9 _ e9 => hR9 A H hr) (fun u hu => ?_)
  obtain ⟨rr, lf2, zf2, gd2, gm2, gr2⟩ := u
  obtain ⟨W2, w1, w2⟩ := hc9 lf2 zf2 gd2 gm2 gr2 (q_missed (dC S)).1
  exact ⟨(rr, W2), rfl, ⟨hu, w1⟩, Sub9.nil w2, fun _ z => z⟩

theorem eX4_droppedEntries (l : Launch) (G : Gt) (m0 : Nat) (S : DS) (th : Nat) (W : va_W) (h : MdW G m0 S th W) (hI : Inv (dC S)) : CT l G yX4_droppedEntries cX4_droppedEntries 2 (some .int) ({ frames := 7, cells := 0, slots := 0, locals := 150 } : Room) [.ref m0] (W ++ []) RH0 (S := Int32 × va_W) (fun (u_ : Int32 × va_W) => some (.int u_.1)) (fun (u_ : Int32 × va_W) => ((q_dropped (dC S)).1 = 0 → u_.1 = (q_dropped (dC S)).2) ∧ MdW G m0 S (q_dropped (dC S)).1 u_.2) (fun (u_ : Int32 × va_W) => (u_.2 ++ [])) (fun (u_ : Int32 × va_W) (H : Heap) => True) := by
  obtain ⟨sa, oa, pa, la, za, na, t, gd, gm, gr, f, p, lf, zf, ra, rq, wr, hp9, hR9, hc9, hM⟩ := h.q
  refine (mX4_droppedEntries l G m0 sa oa pa la za na (nI (dK S)) (nI t) (nI (dN S)) gd gm gr (nI th) (nI (svN (dS S))) f (dC S) lf zf hM hI).conv (Nat.le_of_ble_eq_true rfl) (Nat.le_of_ble_eq_true rfl) (Nat.le_of_ble_eq_true rfl) (Nat.le_of_ble_eq_true rfl) wr (P9.nil hp9) (fun sz A H hA hP hr h9 _ e9 => hR9 A H hr) (fun u hu => ?_)
  obtain ⟨rr, lf2, zf2, gd2, gm2, gr2⟩ := u
  obtain ⟨W2, w1, w2⟩ := hc9 lf2 zf2 gd2 gm2 gr2 (q_dropped (dC S)).1
  exact ⟨(rr, W2), rfl, ⟨hu, w1⟩, Sub9.nil w2, fun _ z => z⟩

theorem eX4_planEnd (l : Launch) (G : Gt) (m0 : Nat) (S : DS) (th : Nat) (W : va_W) (h : MdW G m0 S th W) (hI : Inv (dC S)) : CT l G yX4_planEnd cX4_planEnd 1 (some .int) ({ frames := 7, cells := 0, slots := 0, locals := 150 } : Room) [.ref m0] (W ++ []) RH0 (S := Int32 × va_W) (fun (u_ : Int32 × va_W) => some (.int u_.1)) (fun (u_ : Int32 × va_W) => ((q_end (dC S)).1 = 0 → u_.1 = (q_end (dC S)).2) ∧ MdW G m0 S (q_end (dC S)).1 u_.2) (fun (u_ : Int32 × va_W) => (u_.2 ++ [])) (fun (u_ : Int32 × va_W) (H : Heap) => True) := by
  obtain ⟨sa, oa, pa, la, za, na, t, gd, gm, gr, f, p, lf, zf, ra, rq, wr, hp9, hR9, hc9, hM⟩ := h.q
  refine (mX4_planEnd l G m0 sa oa pa la za na (nI (dK S)) (nI t) (nI (dN S)) gd gm gr (nI th) (nI (svN (dS S))) f (dC S) lf zf hM hI).conv (Nat.le_of_ble_eq_true rfl) (Nat.le_of_ble_eq_true rfl) (Nat.le_of_ble_eq_true rfl) (Nat.le_of_ble_eq_true rfl) wr (P9.nil hp9) (fun sz A H hA hP hr h9 _ e9 => hR9 A H hr) (fun u hu => ?_)
  obtain ⟨rr, lf2, zf2, gd2, gm2, gr2⟩ := u
  obtain ⟨W2, w1, w2⟩ := hc9 lf2 zf2 gd2 gm2 gr2 (q_end (dC S)).1
  exact ⟨(rr, W2), rfl, ⟨hu, w1⟩, Sub9.nil w2, fun _ z => z⟩

theorem eX4_isPlanOver (l : Launch) (G : Gt) (m0 : Nat) (S : DS) (th : Nat) (W : va_W) (h : MdW G m0 S th W) (hI : Inv (dC S)) : CT l G yX4_isPlanOver cX4_isPlanOver 1 (some .boolean) ({ frames := 7, cells := 0, slots := 0, locals := 150 } : Room) [.ref m0] (W ++ []) RH0 (S := Int32 × va_W) (fun (u_ : Int32 × va_W) => some (.int u_.1)) (fun (u_ : Int32 × va_W) => ((q_over (dC S)).1 = 0 → u_.1 = (q_over (dC S)).2) ∧ MdW G m0 S (q_over (dC S)).1 u_.2) (fun (u_ : Int32 × va_W) => (u_.2 ++ [])) (fun (u_ : Int32 × va_W) (H : Heap) => True) := by
  obtain ⟨sa, oa, pa, la, za, na, t, gd, gm, gr, f, p, lf, zf, ra, rq, wr, hp9, hR9, hc9, hM⟩ := h.q
  refine (mX4_isPlanOver l G m0 sa oa pa la za na (nI (dK S)) (nI t) (nI (dN S)) gd gm gr (nI th) (nI (svN (dS S))) f (dC S) lf zf hM hI).conv (Nat.le_of_ble_eq_true rfl) (Nat.le_of_ble_eq_true rfl) (Nat.le_of_ble_eq_true rfl) (Nat.le_of_ble_eq_true rfl) wr (P9.nil hp9) (fun sz A H hA hP hr h9 _ e9 => hR9 A H hr) (fun u hu => ?_)
  obtain ⟨rr, lf2, zf2, gd2, gm2, gr2⟩ := u
  obtain ⟨W2, w1, w2⟩ := hc9 lf2 zf2 gd2 gm2 gr2 (q_over (dC S)).1
  exact ⟨(rr, W2), rfl, ⟨hu, w1⟩, Sub9.nil w2, fun _ z => z⟩

theorem eX4_pass (l : Launch) (G : Gt) (m0 : Nat) (S : DS) (th : Nat) (W : va_W) (v : Int32) (h : MdW G m0 S th W) (hI : Inv (dC S)) : CT l G yX4_pass cX4_pass 2 (some .int) ({ frames := 2, cells := 0, slots := 0, locals := 41 } : Room) [.ref m0, .int v] (W ++ []) RH0 (S := Int32 × va_W) (fun (u_ : Int32 × va_W) => some (.int u_.1)) (fun (u_ : Int32 × va_W) => ((o_pass (dC S) v).1 = 0 → u_.1 = (o_pass (dC S) v).2.1) ∧ MdW G m0 (if (o_pass (dC S) v).1 = 0 then (((o_pass (dC S) v).2.2, dS S, min 6 (dK S + 1), hsR (dH S) (dK S) (dC S), dL S, dN S) : DS) else S) (o_pass (dC S) v).1 u_.2) (fun (u_ : Int32 × va_W) => (u_.2 ++ [])) (fun (u_ : Int32 × va_W) (H : Heap) => True) := by
  obtain ⟨sa, oa, pa, la, za, na, t, gd, gm, gr, f, p, lf, zf, ra, rq, wr, hp9, hR9, hK9, hC9, hM, ht, hu9⟩ := h.m
  refine (mX4_pass l G m0 sa oa pa la za na (nI (dN S)) gd gm gr (nI th) (nI (svN (dS S))) f (dC S) t (dK S) (ra ((t + 1) % 6)) (rq ((t + 1) % 6)) (fun j => some (ra j)) zf v hM hI ht hu9 rfl).conv (Nat.le_of_ble_eq_true rfl) (Nat.le_of_ble_eq_true rfl) (Nat.le_of_ble_eq_true rfl) (Nat.le_of_ble_eq_true rfl) wr (P9.nil hp9) (fun sz A H hA hP hr h9 _ e9 => hR9 A H hr) (fun u hu => ?_)
  obtain ⟨rr, f2, t2, u2, h2, zf2⟩ := u
  obtain ⟨p1, p2⟩ := hu
  by_cases c : (o_pass (dC S) v).1 = 0
  · obtain ⟨a1, a2, a3, a4, a5⟩ := p2 c
    dsimp only at a1 a2 a3 a4 a5
    subst a3 a4 a5
    obtain ⟨W2, w1, w2⟩ := hC9 _ f2 zf2 (o_pass (dC S) v).1 a2
    exact ⟨(rr, W2), rfl, ⟨fun _ => a1, by rw [if_pos c]; exact w1⟩, Sub9.nil w2, fun _ z => z⟩
  · obtain ⟨a2, a3, a4, a5⟩ := p1 c
    dsimp only at a2 a3 a4 a5
    subst a2 a3 a4 a5
    obtain ⟨W2, w1, w2⟩ := hK9 zf2 (o_pass (dC S) v).1
    exact ⟨(rr, W2), rfl, ⟨fun z => absurd z c, by rw [if_neg c]; exact w1⟩, Sub9.nil w2, fun _ z => z⟩

theorem eX4_addTest (l : Launch) (G : Gt) (m0 : Nat) (S : DS) (th : Nat) (W : va_W) (d : Int32) (w : Int32) (h : MdW G m0 S th W) (hI : Inv (dC S)) : CT l G yX4_addTest cX4_addTest 7 (some .int) ({ frames := 5, cells := 0, slots := 0, locals := 106 } : Room) [.ref m0, .int d, .int w] (W ++ []) RH0 (S := Int32 × va_W) (fun (u_ : Int32 × va_W) => some (.int u_.1)) (fun (u_ : Int32 × va_W) => ((o_addTest (dC S) d w).1 = 0 → u_.1 = (o_addTest (dC S) d w).2.1) ∧ MdW G m0 (if (o_addTest (dC S) d w).1 = 0 then (((o_addTest (dC S) d w).2.2, dS S, min 6 (dK S + 1), hsR (dH S) (dK S) (dC S), dL S, dN S) : DS) else S) (o_addTest (dC S) d w).1 u_.2) (fun (u_ : Int32 × va_W) => (u_.2 ++ [])) (fun (u_ : Int32 × va_W) (H : Heap) => True) := by
  obtain ⟨sa, oa, pa, la, za, na, t, gd, gm, gr, f, p, lf, zf, ra, rq, wr, hp9, hR9, hK9, hC9, hM, ht, hu9⟩ := h.m
  refine (mX4_addTest l G m0 sa oa pa la za na (nI (dN S)) gd gm gr (nI th) (nI (svN (dS S))) f (dC S) t (dK S) (ra ((t + 1) % 6)) (rq ((t + 1) % 6)) (fun j => some (ra j)) zf d w hM hI ht hu9 rfl).conv (Nat.le_of_ble_eq_true rfl) (Nat.le_of_ble_eq_true rfl) (Nat.le_of_ble_eq_true rfl) (Nat.le_of_ble_eq_true rfl) wr (P9.nil hp9) (fun sz A H hA hP hr h9 _ e9 => hR9 A H hr) (fun u hu => ?_)
  obtain ⟨rr, f2, t2, u2, h2, zf2⟩ := u
  obtain ⟨p1, p2⟩ := hu
  by_cases c : (o_addTest (dC S) d w).1 = 0
  · obtain ⟨a1, a2, a3, a4, a5⟩ := p2 c
    dsimp only at a1 a2 a3 a4 a5
    subst a3 a4 a5
    obtain ⟨W2, w1, w2⟩ := hC9 _ f2 zf2 (o_addTest (dC S) d w).1 a2
    exact ⟨(rr, W2), rfl, ⟨fun _ => a1, by rw [if_pos c]; exact w1⟩, Sub9.nil w2, fun _ z => z⟩
  · obtain ⟨a2, a3, a4, a5⟩ := p1 c
    dsimp only at a2 a3 a4 a5
    subst a2 a3 a4 a5
    obtain ⟨W2, w1, w2⟩ := hK9 zf2 (o_addTest (dC S) d w).1
    exact ⟨(rr, W2), rfl, ⟨fun z => absurd z c, by rw [if_neg c]; exact w1⟩, Sub9.nil w2, fun _ z => z⟩

theorem eX4_removeTest (l : Launch) (G : Gt) (m0 : Nat) (S : DS) (th : Nat) (W : va_W) (d : Int32) (h : MdW G m0 S th W) (hI : Inv (dC S)) : CT l G yX4_removeTest cX4_removeTest 4 (some .int) ({ frames := 2, cells := 0, slots := 0, locals := 41 } : Room) [.ref m0, .int d] (W ++ []) RH0 (S := Int32 × va_W) (fun (u_ : Int32 × va_W) => some (.int u_.1)) (fun (u_ : Int32 × va_W) => ((o_remTest (dC S) d).1 = 0 → u_.1 = (o_remTest (dC S) d).2.1) ∧ MdW G m0 (if (o_remTest (dC S) d).1 = 0 then (((o_remTest (dC S) d).2.2, dS S, min 6 (dK S + 1), hsR (dH S) (dK S) (dC S), dL S, dN S) : DS) else S) (o_remTest (dC S) d).1 u_.2) (fun (u_ : Int32 × va_W) => (u_.2 ++ [])) (fun (u_ : Int32 × va_W) (H : Heap) => True) := by
  obtain ⟨sa, oa, pa, la, za, na, t, gd, gm, gr, f, p, lf, zf, ra, rq, wr, hp9, hR9, hK9, hC9, hM, ht, hu9⟩ := h.m
  refine (mX4_removeTest l G m0 sa oa pa la za na (nI (dN S)) gd gm gr (nI th) (nI (svN (dS S))) f (dC S) t (dK S) (ra ((t + 1) % 6)) (rq ((t + 1) % 6)) (fun j => some (ra j)) zf d hM hI ht hu9 rfl).conv (Nat.le_of_ble_eq_true rfl) (Nat.le_of_ble_eq_true rfl) (Nat.le_of_ble_eq_true rfl) (Nat.le_of_ble_eq_true rfl) wr (P9.nil hp9) (fun sz A H hA hP hr h9 _ e9 => hR9 A H hr) (fun u hu => ?_)
  obtain ⟨rr, f2, t2, u2, h2, zf2⟩ := u
  obtain ⟨p1, p2⟩ := hu
  by_cases c : (o_remTest (dC S) d).1 = 0
  · obtain ⟨a1, a2, a3, a4, a5⟩ := p2 c
    dsimp only at a1 a2 a3 a4 a5
    subst a3 a4 a5
    obtain ⟨W2, w1, w2⟩ := hC9 _ f2 zf2 (o_remTest (dC S) d).1 a2
    exact ⟨(rr, W2), rfl, ⟨fun _ => a1, by rw [if_pos c]; exact w1⟩, Sub9.nil w2, fun _ z => z⟩
  · obtain ⟨a2, a3, a4, a5⟩ := p1 c
    dsimp only at a2 a3 a4 a5
    subst a2 a3 a4 a5
    obtain ⟨W2, w1, w2⟩ := hK9 zf2 (o_remTest (dC S) d).1
    exact ⟨(rr, W2), rfl, ⟨fun z => absurd z c, by rw [if_neg c]; exact w1⟩, Sub9.nil w2, fun _ z => z⟩

theorem eX4_setBound (l : Launch) (G : Gt) (m0 : Nat) (S : DS) (th : Nat) (W : va_W) (z : Int32) (w : Int32) (h : MdW G m0 S th W) (hI : Inv (dC S)) : CT l G yX4_setBound cX4_setBound 4 (some .int) ({ frames := 2, cells := 0, slots := 0, locals := 41 } : Room) [.ref m0, .int z, .int w] (W ++ []) RH0 (S := Int32 × va_W) (fun (u_ : Int32 × va_W) => some (.int u_.1)) (fun (u_ : Int32 × va_W) => ((o_setBound (dC S) z w).1 = 0 → u_.1 = (o_setBound (dC S) z w).2.1) ∧ MdW G m0 (if (o_setBound (dC S) z w).1 = 0 then (((o_setBound (dC S) z w).2.2, dS S, min 6 (dK S + 1), hsR (dH S) (dK S) (dC S), dL S, dN S) : DS) else S) (o_setBound (dC S) z w).1 u_.2) (fun (u_ : Int32 × va_W) => (u_.2 ++ [])) (fun (u_ : Int32 × va_W) (H : Heap) => True) := by
  obtain ⟨sa, oa, pa, la, za, na, t, gd, gm, gr, f, p, lf, zf, ra, rq, wr, hp9, hR9, hK9, hC9, hM, ht, hu9⟩ := h.m
  refine (mX4_setBound l G m0 sa oa pa la za na (nI (dN S)) gd gm gr (nI th) (nI (svN (dS S))) f (dC S) t (dK S) (ra ((t + 1) % 6)) (rq ((t + 1) % 6)) (fun j => some (ra j)) zf z w hM hI ht hu9 rfl).conv (Nat.le_of_ble_eq_true rfl) (Nat.le_of_ble_eq_true rfl) (Nat.le_of_ble_eq_true rfl) (Nat.le_of_ble_eq_true rfl) wr (P9.nil hp9) (fun sz A H hA hP hr h9 _ e9 => hR9 A H hr) (fun u hu => ?_)
  obtain ⟨rr, f2, t2, u2, h2, zf2⟩ := u
  obtain ⟨p1, p2⟩ := hu
  by_cases c : (o_setBound (dC S) z w).1 = 0
  · obtain ⟨a1, a2, a3, a4, a5⟩ := p2 c
    dsimp only at a1 a2 a3 a4 a5
    subst a3 a4 a5
    obtain ⟨W2, w1, w2⟩ := hC9 _ f2 zf2 (o_setBound (dC S) z w).1 a2
    exact ⟨(rr, W2), rfl, ⟨fun _ => a1, by rw [if_pos c]; exact w1⟩, Sub9.nil w2, fun _ z => z⟩
  · obtain ⟨a2, a3, a4, a5⟩ := p1 c
    dsimp only at a2 a3 a4 a5
    subst a2 a3 a4 a5
    obtain ⟨W2, w1, w2⟩ := hK9 zf2 (o_setBound (dC S) z w).1
    exact ⟨(rr, W2), rfl, ⟨fun z => absurd z c, by rw [if_neg c]; exact w1⟩, Sub9.nil w2, fun _ z => z⟩

theorem eX4_setWeight (l : Launch) (G : Gt) (m0 : Nat) (S : DS) (th : Nat) (W : va_W) (z : Int32) (w : Int32) (h : MdW G m0 S th W) (hI : Inv (dC S)) : CT l G yX4_setWeight cX4_setWeight 4 (some .int) ({ frames := 2, cells := 0, slots := 0, locals := 41 } : Room) [.ref m0, .int z, .int w] (W ++ []) RH0 (S := Int32 × va_W) (fun (u_ : Int32 × va_W) => some (.int u_.1)) (fun (u_ : Int32 × va_W) => ((o_setWeight (dC S) z w).1 = 0 → u_.1 = (o_setWeight (dC S) z w).2.1) ∧ MdW G m0 (if (o_setWeight (dC S) z w).1 = 0 then (((o_setWeight (dC S) z w).2.2, dS S, min 6 (dK S + 1), hsR (dH S) (dK S) (dC S), dL S, dN S) : DS) else S) (o_setWeight (dC S) z w).1 u_.2) (fun (u_ : Int32 × va_W) => (u_.2 ++ [])) (fun (u_ : Int32 × va_W) (H : Heap) => True) := by
  obtain ⟨sa, oa, pa, la, za, na, t, gd, gm, gr, f, p, lf, zf, ra, rq, wr, hp9, hR9, hK9, hC9, hM, ht, hu9⟩ := h.m
  refine (mX4_setWeight l G m0 sa oa pa la za na (nI (dN S)) gd gm gr (nI th) (nI (svN (dS S))) f (dC S) t (dK S) (ra ((t + 1) % 6)) (rq ((t + 1) % 6)) (fun j => some (ra j)) zf z w hM hI ht hu9 rfl).conv (Nat.le_of_ble_eq_true rfl) (Nat.le_of_ble_eq_true rfl) (Nat.le_of_ble_eq_true rfl) (Nat.le_of_ble_eq_true rfl) wr (P9.nil hp9) (fun sz A H hA hP hr h9 _ e9 => hR9 A H hr) (fun u hu => ?_)
  obtain ⟨rr, f2, t2, u2, h2, zf2⟩ := u
  obtain ⟨p1, p2⟩ := hu
  by_cases c : (o_setWeight (dC S) z w).1 = 0
  · obtain ⟨a1, a2, a3, a4, a5⟩ := p2 c
    dsimp only at a1 a2 a3 a4 a5
    subst a3 a4 a5
    obtain ⟨W2, w1, w2⟩ := hC9 _ f2 zf2 (o_setWeight (dC S) z w).1 a2
    exact ⟨(rr, W2), rfl, ⟨fun _ => a1, by rw [if_pos c]; exact w1⟩, Sub9.nil w2, fun _ z => z⟩
  · obtain ⟨a2, a3, a4, a5⟩ := p1 c
    dsimp only at a2 a3 a4 a5
    subst a2 a3 a4 a5
    obtain ⟨W2, w1, w2⟩ := hK9 zf2 (o_setWeight (dC S) z w).1
    exact ⟨(rr, W2), rfl, ⟨fun z => absurd z c, by rw [if_neg c]; exact w1⟩, Sub9.nil w2, fun _ z => z⟩

theorem eX4_addSession (l : Launch) (G : Gt) (m0 : Nat) (S : DS) (th : Nat) (W : va_W) (d : Int32) (h : MdW G m0 S th W) (hI : Inv (dC S)) : CT l G yX4_addSession cX4_addSession 3 (some .int) ({ frames := 3, cells := 0, slots := 0, locals := 55 } : Room) [.ref m0, .int d] (W ++ []) RH0 (S := Int32 × va_W) (fun (u_ : Int32 × va_W) => some (.int u_.1)) (fun (u_ : Int32 × va_W) => ((o_addSes (dC S) d).1 = 0 → u_.1 = (o_addSes (dC S) d).2.1) ∧ MdW G m0 (if (o_addSes (dC S) d).1 = 0 then (((o_addSes (dC S) d).2.2, dS S, min 6 (dK S + 1), hsR (dH S) (dK S) (dC S), dL S, dN S) : DS) else S) (o_addSes (dC S) d).1 u_.2) (fun (u_ : Int32 × va_W) => (u_.2 ++ [])) (fun (u_ : Int32 × va_W) (H : Heap) => True) := by
  obtain ⟨sa, oa, pa, la, za, na, t, gd, gm, gr, f, p, lf, zf, ra, rq, wr, hp9, hR9, hK9, hC9, hM, ht, hu9⟩ := h.m
  refine (mX4_addSession l G m0 sa oa pa la za na (nI (dN S)) gd gm gr (nI th) (nI (svN (dS S))) f (dC S) t (dK S) (ra ((t + 1) % 6)) (rq ((t + 1) % 6)) (fun j => some (ra j)) zf d hM hI ht hu9 rfl).conv (Nat.le_of_ble_eq_true rfl) (Nat.le_of_ble_eq_true rfl) (Nat.le_of_ble_eq_true rfl) (Nat.le_of_ble_eq_true rfl) wr (P9.nil hp9) (fun sz A H hA hP hr h9 _ e9 => hR9 A H hr) (fun u hu => ?_)
  obtain ⟨rr, f2, t2, u2, h2, zf2⟩ := u
  obtain ⟨p1, p2⟩ := hu
  by_cases c : (o_addSes (dC S) d).1 = 0
  · obtain ⟨a1, a2, a3, a4, a5⟩ := p2 c
    dsimp only at a1 a2 a3 a4 a5
    subst a3 a4 a5
    obtain ⟨W2, w1, w2⟩ := hC9 _ f2 zf2 (o_addSes (dC S) d).1 a2
    exact ⟨(rr, W2), rfl, ⟨fun _ => a1, by rw [if_pos c]; exact w1⟩, Sub9.nil w2, fun _ z => z⟩
  · obtain ⟨a2, a3, a4, a5⟩ := p1 c
    dsimp only at a2 a3 a4 a5
    subst a2 a3 a4 a5
    obtain ⟨W2, w1, w2⟩ := hK9 zf2 (o_addSes (dC S) d).1
    exact ⟨(rr, W2), rfl, ⟨fun z => absurd z c, by rw [if_neg c]; exact w1⟩, Sub9.nil w2, fun _ z => z⟩

theorem eX4_addPart (l : Launch) (G : Gt) (m0 : Nat) (S : DS) (th : Nat) (W : va_W) (id : Int32) (mn : Int32) (it : Int32) (h : MdW G m0 S th W) (hI : Inv (dC S)) : CT l G yX4_addPart cX4_addPart 6 (some .int) ({ frames := 3, cells := 0, slots := 0, locals := 56 } : Room) [.ref m0, .int id, .int mn, .int it] (W ++ []) RH0 (S := Int32 × va_W) (fun (u_ : Int32 × va_W) => some (.int u_.1)) (fun (u_ : Int32 × va_W) => ((o_addPart (dC S) id mn it).1 = 0 → u_.1 = (o_addPart (dC S) id mn it).2.1) ∧ MdW G m0 (if (o_addPart (dC S) id mn it).1 = 0 then (((o_addPart (dC S) id mn it).2.2, dS S, min 6 (dK S + 1), hsR (dH S) (dK S) (dC S), dL S, dN S) : DS) else S) (o_addPart (dC S) id mn it).1 u_.2) (fun (u_ : Int32 × va_W) => (u_.2 ++ [])) (fun (u_ : Int32 × va_W) (H : Heap) => True) := by
  obtain ⟨sa, oa, pa, la, za, na, t, gd, gm, gr, f, p, lf, zf, ra, rq, wr, hp9, hR9, hK9, hC9, hM, ht, hu9⟩ := h.m
  refine (mX4_addPart l G m0 sa oa pa la za na (nI (dN S)) gd gm gr (nI th) (nI (svN (dS S))) f (dC S) t (dK S) (ra ((t + 1) % 6)) (rq ((t + 1) % 6)) (fun j => some (ra j)) zf id mn it hM hI ht hu9 rfl).conv (Nat.le_of_ble_eq_true rfl) (Nat.le_of_ble_eq_true rfl) (Nat.le_of_ble_eq_true rfl) (Nat.le_of_ble_eq_true rfl) wr (P9.nil hp9) (fun sz A H hA hP hr h9 _ e9 => hR9 A H hr) (fun u hu => ?_)
  obtain ⟨rr, f2, t2, u2, h2, zf2⟩ := u
  obtain ⟨p1, p2⟩ := hu
  by_cases c : (o_addPart (dC S) id mn it).1 = 0
  · obtain ⟨a1, a2, a3, a4, a5⟩ := p2 c
    dsimp only at a1 a2 a3 a4 a5
    subst a3 a4 a5
    obtain ⟨W2, w1, w2⟩ := hC9 _ f2 zf2 (o_addPart (dC S) id mn it).1 a2
    exact ⟨(rr, W2), rfl, ⟨fun _ => a1, by rw [if_pos c]; exact w1⟩, Sub9.nil w2, fun _ z => z⟩
  · obtain ⟨a2, a3, a4, a5⟩ := p1 c
    dsimp only at a2 a3 a4 a5
    subst a2 a3 a4 a5
    obtain ⟨W2, w1, w2⟩ := hK9 zf2 (o_addPart (dC S) id mn it).1
    exact ⟨(rr, W2), rfl, ⟨fun z => absurd z c, by rw [if_neg c]; exact w1⟩, Sub9.nil w2, fun _ z => z⟩

theorem eX4_clearParts (l : Launch) (G : Gt) (m0 : Nat) (S : DS) (th : Nat) (W : va_W) (id : Int32) (h : MdW G m0 S th W) (hI : Inv (dC S)) : CT l G yX4_clearParts cX4_clearParts 3 (some .int) ({ frames := 4, cells := 0, slots := 0, locals := 77 } : Room) [.ref m0, .int id] (W ++ []) RH0 (S := Int32 × va_W) (fun (u_ : Int32 × va_W) => some (.int u_.1)) (fun (u_ : Int32 × va_W) => ((o_clear (dC S) id).1 = 0 → u_.1 = (o_clear (dC S) id).2.1) ∧ MdW G m0 (if (o_clear (dC S) id).1 = 0 then (((o_clear (dC S) id).2.2, dS S, min 6 (dK S + 1), hsR (dH S) (dK S) (dC S), dL S, dN S) : DS) else S) (o_clear (dC S) id).1 u_.2) (fun (u_ : Int32 × va_W) => (u_.2 ++ [])) (fun (u_ : Int32 × va_W) (H : Heap) => True) := by
  obtain ⟨sa, oa, pa, la, za, na, t, gd, gm, gr, f, p, lf, zf, ra, rq, wr, hp9, hR9, hK9, hC9, hM, ht, hu9⟩ := h.m
  refine (mX4_clearParts l G m0 sa oa pa la za na (nI (dN S)) gd gm gr (nI th) (nI (svN (dS S))) f (dC S) t (dK S) (ra ((t + 1) % 6)) (rq ((t + 1) % 6)) (fun j => some (ra j)) zf id hM hI ht hu9 rfl).conv (Nat.le_of_ble_eq_true rfl) (Nat.le_of_ble_eq_true rfl) (Nat.le_of_ble_eq_true rfl) (Nat.le_of_ble_eq_true rfl) wr (P9.nil hp9) (fun sz A H hA hP hr h9 _ e9 => hR9 A H hr) (fun u hu => ?_)
  obtain ⟨rr, f2, t2, u2, h2, zf2⟩ := u
  obtain ⟨p1, p2⟩ := hu
  by_cases c : (o_clear (dC S) id).1 = 0
  · obtain ⟨a1, a2, a3, a4, a5⟩ := p2 c
    dsimp only at a1 a2 a3 a4 a5
    subst a3 a4 a5
    obtain ⟨W2, w1, w2⟩ := hC9 _ f2 zf2 (o_clear (dC S) id).1 a2
    exact ⟨(rr, W2), rfl, ⟨fun _ => a1, by rw [if_pos c]; exact w1⟩, Sub9.nil w2, fun _ z => z⟩
  · obtain ⟨a2, a3, a4, a5⟩ := p1 c
    dsimp only at a2 a3 a4 a5
    subst a2 a3 a4 a5
    obtain ⟨W2, w1, w2⟩ := hK9 zf2 (o_clear (dC S) id).1
    exact ⟨(rr, W2), rfl, ⟨fun z => absurd z c, by rw [if_neg c]; exact w1⟩, Sub9.nil w2, fun _ z => z⟩

theorem eX4_moveSession (l : Launch) (G : Gt) (m0 : Nat) (S : DS) (th : Nat) (W : va_W) (id : Int32) (d : Int32) (h : MdW G m0 S th W) (hI : Inv (dC S)) : CT l G yX4_moveSession cX4_moveSession 4 (some .int) ({ frames := 4, cells := 0, slots := 0, locals := 77 } : Room) [.ref m0, .int id, .int d] (W ++ []) RH0 (S := Int32 × va_W) (fun (u_ : Int32 × va_W) => some (.int u_.1)) (fun (u_ : Int32 × va_W) => ((o_move (dC S) id d).1 = 0 → u_.1 = (o_move (dC S) id d).2.1) ∧ MdW G m0 (if (o_move (dC S) id d).1 = 0 then (((o_move (dC S) id d).2.2, dS S, min 6 (dK S + 1), hsR (dH S) (dK S) (dC S), dL S, dN S) : DS) else S) (o_move (dC S) id d).1 u_.2) (fun (u_ : Int32 × va_W) => (u_.2 ++ [])) (fun (u_ : Int32 × va_W) (H : Heap) => True) := by
  obtain ⟨sa, oa, pa, la, za, na, t, gd, gm, gr, f, p, lf, zf, ra, rq, wr, hp9, hR9, hK9, hC9, hM, ht, hu9⟩ := h.m
  refine (mX4_moveSession l G m0 sa oa pa la za na (nI (dN S)) gd gm gr (nI th) (nI (svN (dS S))) f (dC S) t (dK S) (ra ((t + 1) % 6)) (rq ((t + 1) % 6)) (fun j => some (ra j)) zf id d hM hI ht hu9 rfl).conv (Nat.le_of_ble_eq_true rfl) (Nat.le_of_ble_eq_true rfl) (Nat.le_of_ble_eq_true rfl) (Nat.le_of_ble_eq_true rfl) wr (P9.nil hp9) (fun sz A H hA hP hr h9 _ e9 => hR9 A H hr) (fun u hu => ?_)
  obtain ⟨rr, f2, t2, u2, h2, zf2⟩ := u
  obtain ⟨p1, p2⟩ := hu
  by_cases c : (o_move (dC S) id d).1 = 0
  · obtain ⟨a1, a2, a3, a4, a5⟩ := p2 c
    dsimp only at a1 a2 a3 a4 a5
    subst a3 a4 a5
    obtain ⟨W2, w1, w2⟩ := hC9 _ f2 zf2 (o_move (dC S) id d).1 a2
    exact ⟨(rr, W2), rfl, ⟨fun _ => a1, by rw [if_pos c]; exact w1⟩, Sub9.nil w2, fun _ z => z⟩
  · obtain ⟨a2, a3, a4, a5⟩ := p1 c
    dsimp only at a2 a3 a4 a5
    subst a2 a3 a4 a5
    obtain ⟨W2, w1, w2⟩ := hK9 zf2 (o_move (dC S) id d).1
    exact ⟨(rr, W2), rfl, ⟨fun z => absurd z c, by rw [if_neg c]; exact w1⟩, Sub9.nil w2, fun _ z => z⟩

theorem eX4_removeSession (l : Launch) (G : Gt) (m0 : Nat) (S : DS) (th : Nat) (W : va_W) (id : Int32) (h : MdW G m0 S th W) (hI : Inv (dC S)) : CT l G yX4_removeSession cX4_removeSession 3 (some .int) ({ frames := 4, cells := 0, slots := 0, locals := 77 } : Room) [.ref m0, .int id] (W ++ []) RH0 (S := Int32 × va_W) (fun (u_ : Int32 × va_W) => some (.int u_.1)) (fun (u_ : Int32 × va_W) => ((o_remSes (dC S) id).1 = 0 → u_.1 = (o_remSes (dC S) id).2.1) ∧ MdW G m0 (if (o_remSes (dC S) id).1 = 0 then (((o_remSes (dC S) id).2.2, dS S, min 6 (dK S + 1), hsR (dH S) (dK S) (dC S), dL S, dN S) : DS) else S) (o_remSes (dC S) id).1 u_.2) (fun (u_ : Int32 × va_W) => (u_.2 ++ [])) (fun (u_ : Int32 × va_W) (H : Heap) => True) := by
  obtain ⟨sa, oa, pa, la, za, na, t, gd, gm, gr, f, p, lf, zf, ra, rq, wr, hp9, hR9, hK9, hC9, hM, ht, hu9⟩ := h.m
  refine (mX4_removeSession l G m0 sa oa pa la za na (nI (dN S)) gd gm gr (nI th) (nI (svN (dS S))) f (dC S) t (dK S) (ra ((t + 1) % 6)) (rq ((t + 1) % 6)) (fun j => some (ra j)) zf id hM hI ht hu9 rfl).conv (Nat.le_of_ble_eq_true rfl) (Nat.le_of_ble_eq_true rfl) (Nat.le_of_ble_eq_true rfl) (Nat.le_of_ble_eq_true rfl) wr (P9.nil hp9) (fun sz A H hA hP hr h9 _ e9 => hR9 A H hr) (fun u hu => ?_)
  obtain ⟨rr, f2, t2, u2, h2, zf2⟩ := u
  obtain ⟨p1, p2⟩ := hu
  by_cases c : (o_remSes (dC S) id).1 = 0
  · obtain ⟨a1, a2, a3, a4, a5⟩ := p2 c
    dsimp only at a1 a2 a3 a4 a5
    subst a3 a4 a5
    obtain ⟨W2, w1, w2⟩ := hC9 _ f2 zf2 (o_remSes (dC S) id).1 a2
    exact ⟨(rr, W2), rfl, ⟨fun _ => a1, by rw [if_pos c]; exact w1⟩, Sub9.nil w2, fun _ z => z⟩
  · obtain ⟨a2, a3, a4, a5⟩ := p1 c
    dsimp only at a2 a3 a4 a5
    subst a2 a3 a4 a5
    obtain ⟨W2, w1, w2⟩ := hK9 zf2 (o_remSes (dC S) id).1
    exact ⟨(rr, W2), rfl, ⟨fun z => absurd z c, by rw [if_neg c]; exact w1⟩, Sub9.nil w2, fun _ z => z⟩

theorem eX4_startPlan (l : Launch) (G : Gt) (m0 : Nat) (S : DS) (th : Nat) (W : va_W) (h : MdW G m0 S th W) (hI : Inv (dC S)) : CT l G yX4_startPlan cX4_startPlan 2 (some .int) ({ frames := 2, cells := 0, slots := 0, locals := 41 } : Room) [.ref m0] (W ++ []) RH0 (S := Int32 × va_W) (fun (u_ : Int32 × va_W) => some (.int u_.1)) (fun (u_ : Int32 × va_W) => ((o_start (dC S)).1 = 0 → u_.1 = (o_start (dC S)).2.1) ∧ MdW G m0 (if (o_start (dC S)).1 = 0 then (((o_start (dC S)).2.2, dS S, min 6 (dK S + 1), hsR (dH S) (dK S) (dC S), dL S, dN S) : DS) else S) (o_start (dC S)).1 u_.2) (fun (u_ : Int32 × va_W) => (u_.2 ++ [])) (fun (u_ : Int32 × va_W) (H : Heap) => True) := by
  obtain ⟨sa, oa, pa, la, za, na, t, gd, gm, gr, f, p, lf, zf, ra, rq, wr, hp9, hR9, hK9, hC9, hM, ht, hu9⟩ := h.m
  refine (mX4_startPlan l G m0 sa oa pa la za na (nI (dN S)) gd gm gr (nI th) (nI (svN (dS S))) f (dC S) t (dK S) (ra ((t + 1) % 6)) (rq ((t + 1) % 6)) (fun j => some (ra j)) zf hM hI ht hu9 rfl).conv (Nat.le_of_ble_eq_true rfl) (Nat.le_of_ble_eq_true rfl) (Nat.le_of_ble_eq_true rfl) (Nat.le_of_ble_eq_true rfl) wr (P9.nil hp9) (fun sz A H hA hP hr h9 _ e9 => hR9 A H hr) (fun u hu => ?_)
  obtain ⟨rr, f2, t2, u2, h2, zf2⟩ := u
  obtain ⟨p1, p2⟩ := hu
  by_cases c : (o_start (dC S)).1 = 0
  · obtain ⟨a1, a2, a3, a4, a5⟩ := p2 c
    dsimp only at a1 a2 a3 a4 a5
    subst a3 a4 a5
    obtain ⟨W2, w1, w2⟩ := hC9 _ f2 zf2 (o_start (dC S)).1 a2
    exact ⟨(rr, W2), rfl, ⟨fun _ => a1, by rw [if_pos c]; exact w1⟩, Sub9.nil w2, fun _ z => z⟩
  · obtain ⟨a2, a3, a4, a5⟩ := p1 c
    dsimp only at a2 a3 a4 a5
    subst a2 a3 a4 a5
    obtain ⟨W2, w1, w2⟩ := hK9 zf2 (o_start (dC S)).1
    exact ⟨(rr, W2), rfl, ⟨fun z => absurd z c, by rw [if_neg c]; exact w1⟩, Sub9.nil w2, fun _ z => z⟩

theorem eX4_addTarget (l : Launch) (G : Gt) (m0 : Nat) (S : DS) (th : Nat) (W : va_W) (v : Int32) (h : MdW G m0 S th W) (hI : Inv (dC S)) : CT l G yX4_addTarget cX4_addTarget 2 (some .int) ({ frames := 2, cells := 0, slots := 0, locals := 41 } : Room) [.ref m0, .int v] (W ++ []) RH0 (S := Int32 × va_W) (fun (u_ : Int32 × va_W) => some (.int u_.1)) (fun (u_ : Int32 × va_W) => ((o_addTarget (dC S) v).1 = 0 → u_.1 = (o_addTarget (dC S) v).2.1) ∧ MdW G m0 (if (o_addTarget (dC S) v).1 = 0 then (((o_addTarget (dC S) v).2.2, dS S, min 6 (dK S + 1), hsR (dH S) (dK S) (dC S), dL S, dN S) : DS) else S) (o_addTarget (dC S) v).1 u_.2) (fun (u_ : Int32 × va_W) => (u_.2 ++ [])) (fun (u_ : Int32 × va_W) (H : Heap) => True) := by
  obtain ⟨sa, oa, pa, la, za, na, t, gd, gm, gr, f, p, lf, zf, ra, rq, wr, hp9, hR9, hK9, hC9, hM, ht, hu9⟩ := h.m
  refine (mX4_addTarget l G m0 sa oa pa la za na (nI (dN S)) gd gm gr (nI th) (nI (svN (dS S))) f (dC S) t (dK S) (ra ((t + 1) % 6)) (rq ((t + 1) % 6)) (fun j => some (ra j)) zf v hM hI ht hu9 rfl).conv (Nat.le_of_ble_eq_true rfl) (Nat.le_of_ble_eq_true rfl) (Nat.le_of_ble_eq_true rfl) (Nat.le_of_ble_eq_true rfl) wr (P9.nil hp9) (fun sz A H hA hP hr h9 _ e9 => hR9 A H hr) (fun u hu => ?_)
  obtain ⟨rr, f2, t2, u2, h2, zf2⟩ := u
  obtain ⟨p1, p2⟩ := hu
  by_cases c : (o_addTarget (dC S) v).1 = 0
  · obtain ⟨a1, a2, a3, a4, a5⟩ := p2 c
    dsimp only at a1 a2 a3 a4 a5
    subst a3 a4 a5
    obtain ⟨W2, w1, w2⟩ := hC9 _ f2 zf2 (o_addTarget (dC S) v).1 a2
    exact ⟨(rr, W2), rfl, ⟨fun _ => a1, by rw [if_pos c]; exact w1⟩, Sub9.nil w2, fun _ z => z⟩
  · obtain ⟨a2, a3, a4, a5⟩ := p1 c
    dsimp only at a2 a3 a4 a5
    subst a2 a3 a4 a5
    obtain ⟨W2, w1, w2⟩ := hK9 zf2 (o_addTarget (dC S) v).1
    exact ⟨(rr, W2), rfl, ⟨fun z => absurd z c, by rw [if_neg c]; exact w1⟩, Sub9.nil w2, fun _ z => z⟩

theorem eX4_thrown (l : Launch) (G : Gt) (m0 : Nat) (S : DS) (th : Nat) (W : va_W) (h : MdW G m0 S th W) : CT l G yX4_thrown cX4_thrown 1 (some .int) ({ frames := 1, cells := 0, slots := 0, locals := 12 } : Room) [.ref m0] [] (fun (A : Nat → Prop) (H : Heap) => roW G A H W) (S := Unit) (fun (u_ : Unit) => some (.int (nI th))) (fun (u_ : Unit) => True) (fun (u_ : Unit) => []) (fun (u_ : Unit) (H : Heap) => True) := by
  obtain ⟨sa, oa, pa, la, za, na, t, gd, gm, gr, f, p, lf, zf, ra, rq, hR9⟩ := h.t
  exact (mX4_thrown l G m0 sa oa pa la za na (nI (dK S)) (nI t) (nI (dN S)) gd gm gr (nI th) (nI (svN (dS S)))).conv (Nat.le_of_ble_eq_true rfl) (Nat.le_of_ble_eq_true rfl) (Nat.le_of_ble_eq_true rfl) (Nat.le_of_ble_eq_true rfl) [] (List.Perm.refl _) (fun sz A H hA hP hr h9 hR' e9 => hR9 A H (hR'.nar hA)) (fun u hu => ⟨u, rfl, hu, Sub9.rf _, fun _ z => z⟩)

theorem eX4_undo (l : Launch) (G : Gt) (m0 : Nat) (S : DS) (th : Nat) (W : va_W) (h : MdW G m0 S th W) : CT l G yX4_undo cX4_undo 2 (some .int) ({ frames := 2, cells := 0, slots := 0, locals := 34 } : Room) [.ref m0] (W ++ []) RH0 (S := Int32 × va_W) (fun (u_ : Int32 × va_W) => some (.int u_.1)) (fun (u_ : Int32 × va_W) => (0 < dK S → u_.1 = nI (dK S - 1)) ∧ MdW G m0 (if 0 < dK S then ((dH S (dK S - 1), dS S, dK S - 1, dH S, dL S, dN S) : DS) else S) (if 0 < dK S then 0 else 1) u_.2) (fun (u_ : Int32 × va_W) => (u_.2 ++ [])) (fun (u_ : Int32 × va_W) (H : Heap) => True) := by
  obtain ⟨sa, oa, pa, la, za, na, t, gd, gm, gr, f, p, lf, zf, ra, rq, wr, hp9, hR9, hK9, hC9, ht, hu9⟩ := h.u
  refine (mX4_undo l G m0 sa oa pa la za na (nI (dN S)) gd gm gr (nI th) (nI (svN (dS S))) f t (dK S) (ra t) (rq t) (fun j => some (ra j)) ht hu9 rfl).conv (Nat.le_of_ble_eq_true rfl) (Nat.le_of_ble_eq_true rfl) (Nat.le_of_ble_eq_true rfl) (Nat.le_of_ble_eq_true rfl) wr (P9.nil hp9) (fun sz A H hA hP hr h9 _ e9 => hR9 A H hr) (fun u hu => ?_)
  obtain ⟨th2, rr, f2, t2, u2⟩ := u
  rcases hu with ⟨c, a1, a2, a3, a4⟩ | ⟨c, a1, a2, a3, a4, a5⟩
  · dsimp only at a1 a2 a3 a4
    subst a1 a2 a3 a4
    obtain ⟨W2, w1, w2⟩ := hK9
    exact ⟨(rr, W2), rfl, ⟨fun z => absurd z (by omega), by rw [if_neg (by omega), if_neg (by omega)]; exact w1⟩, Sub9.nil w2, fun _ z => z⟩
  · dsimp only at a1 a2 a3 a4 a5
    subst a1 a2 a3 a4 a5
    obtain ⟨W2, w1, w2⟩ := hC9 c
    exact ⟨(_, W2), rfl, ⟨fun _ => rfl, by rw [if_pos c, if_pos c]; exact w1⟩, Sub9.nil w2, fun _ z => z⟩

theorem eX4_save (l : Launch) (G : Gt) (m0 : Nat) (S : DS) (th : Nat) (W : va_W) (h : MdW G m0 S th W) (hI : Inv (dC S)) : CT l G yX4_save cX4_save 2 (some .int) ({ frames := 1, cells := 0, slots := 0, locals := 12 } : Room) [.ref m0] (W ++ []) RH0 (S := va_W) (fun (u_ : va_W) => some (.int (nI (sN (dC S))))) (fun (u_ : va_W) => MdW G m0 ((dC S, some (dC S), dK S, dH S, dL S, dN S) : DS) 0 u_) (fun (u_ : va_W) => (u_ ++ [])) (fun (u_ : va_W) (H : Heap) => True) := by
  obtain ⟨sa, oa, pa, la, za, na, t, gd, gm, gr, f, p, lf, zf, ra, rq, wr, hp9, hR9, hC9, hM, hP9, hw, hl⟩ := h.v
  refine (mX4_save l G m0 sa oa pa la za na (nI (dK S)) (nI t) (nI (dN S)) gd gm gr (nI th) (nI (svN (dS S))) f (dC S) p hM hI).conv (Nat.le_of_ble_eq_true rfl) (Nat.le_of_ble_eq_true rfl) (Nat.le_of_ble_eq_true rfl) (Nat.le_of_ble_eq_true rfl) wr (P9.nil hp9) (fun sz A H hA hP hr h9 _ e9 => hR9 A H hr) (fun u hu => ?_)
  obtain ⟨W2, w1, w2⟩ := hC9
  exact ⟨W2, rfl, w1, Sub9.nil w2, fun _ z => z⟩

theorem eX4_restore (l : Launch) (G : Gt) (m0 : Nat) (S : DS) (th : Nat) (W : va_W) (h : MdW G m0 S th W) : CT l G yX4_restore cX4_restore 2 (some .int) ({ frames := 2, cells := 0, slots := 0, locals := 34 } : Room) [.ref m0] (W ++ []) RH0 (S := Int32 × va_W) (fun (u_ : Int32 × va_W) => some (.int u_.1)) (fun (u_ : Int32 × va_W) => (∀ P, dS S = some P → u_.1 = nI (sN P) ∧ MdW G m0 ((P, dS S, 0, dH S, dL S, dN S) : DS) 0 u_.2) ∧ (dS S = none → MdW G m0 S 1 u_.2)) (fun (u_ : Int32 × va_W) => (u_.2 ++ [])) (fun (u_ : Int32 × va_W) (H : Heap) => True) := by
  obtain ⟨sa, oa, pa, la, za, na, t, gd, gm, gr, f, p, lf, zf, ra, rq, wr, hp9, hR9, hK9, hC9, hM, hP9, hw, hl⟩ := h.r
  refine (mX4_restore l G m0 sa oa pa la za na (nI (dK S)) (nI t) (nI (dN S)) gd gm gr (nI th) f p (svN (dS S)) ((dS S).getD B0) (by cases dS S <;> decide) (fun e9 => by cases hs : dS S with
    | none => rw [hs] at e9; exact absurd e9 (by decide)
    | some P => exact hP9 P hs)).conv (Nat.le_of_ble_eq_true rfl) (Nat.le_of_ble_eq_true rfl) (Nat.le_of_ble_eq_true rfl) (Nat.le_of_ble_eq_true rfl) wr (P9.nil hp9) (fun sz A H hA hP hr h9 _ e9 => hR9 A H hr) (fun u hu => ?_)
  obtain ⟨th2, rr, f2, gu2⟩ := u
  rcases hu with ⟨c, a1, a2, a3⟩ | ⟨c, a1, a2, a3, a4⟩
  · dsimp only at a1 a2 a3
    subst a1 a2 a3
    obtain ⟨W2, w1, w2⟩ := hK9
    exact ⟨(rr, W2), rfl, ⟨fun P e9 => by rw [e9] at c; exact absurd c (by decide), fun _ => w1⟩, Sub9.nil w2, fun _ z => z⟩
  · dsimp only at a1 a2 a3 a4
    subst a1 a2 a3 a4
    cases hs : dS S with
    | none => rw [hs] at c; exact absurd c (by decide)
    | some P =>
      obtain ⟨W2, w1, w2⟩ := hC9 P hs
      rw [hs] at w1
      exact ⟨(_, W2), rfl, ⟨fun P2 e9 => by cases e9; exact ⟨rfl, w1⟩, fun e9 => nomatch e9⟩, Sub9.nil w2, fun _ z => z⟩

theorem eX4_writeWeek (l : Launch) (G : Gt) (m0 : Nat) (S : DS) (th : Nat) (W : va_W) (v : Int32) (h : MdW G m0 S th W) (hI : Inv (dC S)) : CT l G yX4_writeWeek cX4_writeWeek 3 (some .int) ({ frames := 5, cells := 0, slots := 0, locals := 108 } : Room) [.ref m0, .int v] (W ++ []) RH0 (S := Int32 × va_W) (fun (u_ : Int32 × va_W) => some (.int u_.1)) (fun (u_ : Int32 × va_W) => (∀ z, inR v 0 (bD (dC S)) = some z → u_.1 = nI 13 ∧ MdW G m0 ((dC S, dS S, dK S, dH S, wkF (dC S) z, 13) : DS) 0 u_.2) ∧ (inR v 0 (bD (dC S)) = none → MdW G m0 S 1 u_.2)) (fun (u_ : Int32 × va_W) => (u_.2 ++ [])) (fun (u_ : Int32 × va_W) (H : Heap) => True) := by
  obtain ⟨sa, oa, pa, la, za, na, t, gd, gm, gr, f, p, lf, zf, ra, rq, wr, hp9, hR9, hK9, hC9, hM, hP9, hw, hl⟩ := h.w
  refine (mX4_writeWeek l G m0 sa oa pa la za na (nI (dK S)) (nI t) gd gm gr (nI th) (nI (svN (dS S))) f (dC S) zf (dL S) (dN S) v hM hI).conv (Nat.le_of_ble_eq_true rfl) (Nat.le_of_ble_eq_true rfl) (Nat.le_of_ble_eq_true rfl) (Nat.le_of_ble_eq_true rfl) wr (P9.nil hp9) (fun sz A H hA hP hr h9 _ e9 => hR9 A H hr) (fun u hu => ?_)
  obtain ⟨th2, rr, nc2, w2, zf2⟩ := u
  unfold WeekP at hu
  cases hi : inR v 0 (bD (dC S)) with
  | none =>
    rw [hi] at hu
    obtain ⟨a1, a2, a3⟩ := hu
    dsimp only at a1 a2 a3
    subst a1 a2 a3
    obtain ⟨W2, w1, w3⟩ := hK9 zf2
    exact ⟨(rr, W2), rfl, ⟨fun z e9 => nomatch e9, fun _ => w1⟩, Sub9.nil w3, fun _ z => z⟩
  | some z =>
    rw [hi] at hu
    obtain ⟨a1, a2, a3, a4⟩ := hu
    dsimp only at a1 a2 a3 a4
    subst a1 a2 a3 a4
    obtain ⟨W2, w1, w3⟩ := hC9 z zf2
    exact ⟨(_, W2), rfl, ⟨fun z2 e9 => by cases e9; exact ⟨rfl, w1⟩, fun e9 => nomatch e9⟩, Sub9.nil w3, fun _ z => z⟩

theorem eX4_lineAt (l : Launch) (G : Gt) (m0 : Nat) (S : DS) (th : Nat) (W : va_W) (v : Int32) (h : MdW G m0 S th W) : CT l G yX4_lineAt cX4_lineAt 2 (some .char) ({ frames := 2, cells := 0, slots := 0, locals := 34 } : Room) [.ref m0, .int v] (W ++ []) RH0 (S := Int32 × va_W) (fun (u_ : Int32 × va_W) => some (.int u_.1)) (fun (u_ : Int32 × va_W) => ((q_line (dL S) (dN S) v).1 = 0 → u_.1 = (q_line (dL S) (dN S) v).2) ∧ MdW G m0 S (q_line (dL S) (dN S) v).1 u_.2) (fun (u_ : Int32 × va_W) => (u_.2 ++ [])) (fun (u_ : Int32 × va_W) (H : Heap) => True) := by
  obtain ⟨sa, oa, pa, la, za, na, t, gd, gm, gr, f, p, lf, zf, ra, rq, wr, hp9, hR9, hC9, hM, hP9, hw, hl⟩ := h.l
  refine (mX4_lineAt l G m0 sa oa pa la za na (nI (dK S)) (nI t) gd gm gr (nI th) (nI (svN (dS S))) (dL S) (dN S) v hw hl).conv (Nat.le_of_ble_eq_true rfl) (Nat.le_of_ble_eq_true rfl) (Nat.le_of_ble_eq_true rfl) (Nat.le_of_ble_eq_true rfl) wr (P9.nil hp9) (fun sz A H hA hP hr h9 _ e9 => hR9 A H hr) (fun u hu => ?_)
  obtain ⟨W2, w1, w2⟩ := hC9 (q_line (dL S) (dN S) v).1
  exact ⟨(u, W2), rfl, ⟨hu, w1⟩, Sub9.nil w2, fun _ z => z⟩

theorem eX4_init (l : Launch) (G : Gt) (m0 : Nat) : CT l G yX4_init cX4_init 2 none ({ frames := 1, cells := 12, slots := 6865, locals := 12 } : Room) [.ref m0] [(m0, .inr (6, [.null, .null, .null, .null, .null, .null, .int (nI 0), .int (nI 0), .int (nI 0), .int (nI 0), .int (nI 0), .int (nI 0), .int (nI 0), .int (nI 0)]))] RH0 (S := va_W) (fun (u_ : va_W) => (none : Option Value)) (fun (u_ : va_W) => MdW G m0 ((B0, none, 0, fun _ => B0, fun _ => 0, 0) : DS) 0 u_) (fun (u_ : va_W) => (u_ ++ [])) (fun (u_ : va_W) (H : Heap) => True) := by
  refine (mX4_init l G m0).conv (Nat.le_of_ble_eq_true rfl) (Nat.le_of_ble_eq_true rfl) (Nat.le_of_ble_eq_true rfl) (Nat.le_of_ble_eq_true rfl) [] (by rw [List.append_nil]) (fun sz A H hA hP hr h9 _ e9 => trivial) (fun u hu => ?_)
  obtain ⟨sa, oa, pa, la, za, na, f⟩ := u
  refine ⟨_, rfl, ⟨sa, oa, pa, la, za, na, 0, nI 0, nI 0, nI 0, f, zz, zz, zz, fun j => oa + 1 + j, fun _ => zz, rfl, hu, fun P e9 => nomatch e9, by decide, Nat.zero_le _, fun j hj => absurd hj (Nat.not_lt_zero _), Nat.zero_le _, fun j => (by decide : (0 : Nat) < 65536)⟩, ?_, fun _ z => z⟩
  exact Sub9.pm (by rw [List.append_nil]; exact segs_perm1 [[(m0, .inr (6, [.ref sa, .ref oa, .ref pa, .ref la, .ref za, .ref na, .int (nI 0), .int (nI 0), .int (nI 0), .int (nI 0), .int (nI 0), .int (nI 0), .int (nI 0), .int (nI 0)]))], [(sa, .inl (G.2 0, 830, .inl f))], [(oa, .inl (G.2 7, 6, .inr (.inr (.inr (.inr (fun j => some (oa + 1 + j)))))))], [(oa + 1, .inl (G.2 0, 830, .inl zz))], [(oa + 2, .inl (G.2 0, 830, .inl zz))], [(oa + 3, .inl (G.2 0, 830, .inl zz))], [(oa + 4, .inl (G.2 0, 830, .inl zz))], [(oa + 5, .inl (G.2 0, 830, .inl zz))], [(oa + 6, .inl (G.2 0, 830, .inl zz))], [(pa, .inl (G.2 0, 830, .inl zz))], [(la, .inl (G.2 0, 200, .inl zz))], [(za, .inl (G.2 0, 6, .inl zz))], [(na, .inl (G.2 2, 13, .inl zz))]] [0, 1, 2, 9, 10, 11, 12, 3, 4, 5, 6, 7, 8] rfl)
