/-! WHAT CHANGES THE STATE: (exception's number or 0, answer, the new state) -/
def updN (g : Nat → Nat) (k x : Nat) : Nat → Nat := fun j => if j = k then x else g j
theorem updN_s {g : Nat → Nat} {k x : Nat} : updN g k x k = x := by simp [updN]
theorem updN_n {g : Nat → Nat} {k x j : Nat} (h : j ≠ k) : updN g k x j = g j := by simp [updN, h]
def wT (B : Bk) (x : List (Nat × Nat)) : Bk := (x, B.2)
def wS (B : Bk) (x : List Sess) : Bk := (B.1, x, B.2.2)
def wB (B : Bk) (x : Nat → Nat) : Bk := (B.1, B.2.1, x, B.2.2.2)
def wW (B : Bk) (x : Nat → Nat) : Bk := (B.1, B.2.1, B.2.2.1, x, B.2.2.2.2)
def wG (B : Bk) (x : Nat → Nat) : Bk := (B.1, B.2.1, B.2.2.1, B.2.2.2.1, x, B.2.2.2.2.2)
def wD (B : Bk) (x : Nat) : Bk := (B.1, B.2.1, B.2.2.1, B.2.2.2.1, B.2.2.2.2.1, x, B.2.2.2.2.2.2)
def wI (B : Bk) (x : Nat) : Bk := (B.1, B.2.1, B.2.2.1, B.2.2.2.1, B.2.2.2.2.1, B.2.2.2.2.2.1, x, B.2.2.2.2.2.2.2)
def wP (B : Bk) (x : Option Nat) : Bk := (B.1, B.2.1, B.2.2.1, B.2.2.2.1, B.2.2.2.2.1, B.2.2.2.2.2.1, B.2.2.2.2.2.2.1, x, B.2.2.2.2.2.2.2.2)
def wE (B : Bk) (x : Nat) : Bk := (B.1, B.2.1, B.2.2.1, B.2.2.2.1, B.2.2.2.2.1, B.2.2.2.2.2.1, B.2.2.2.2.2.2.1, B.2.2.2.2.2.2.2.1, x)
abbrev Rs : Type := Nat × Int32 × Bk
def chg (B B' : Bk) : Nat := psum (fun k => if loadS B' (sAt B k) = loadS B (sAt B k) then 0 else 1) (sN B)
def swp (l : List (Nat × Nat)) (t : Nat) : List (Nat × Nat) := (l.set t (l.getD (l.length - 1) (0, 0))).dropLast
def addP (x : Sess) (m i : Nat) : Sess := (x.1, x.2.1, x.2.2 ++ [(m, i)])
def o_pass (B : Bk) (v : Int32) : Rs := match inR v 1 30 with | none => (1, 0, B) | some n => if 199 < bD B + n then (2, 0, B) else (0, nI (bD B + n), wD B (bD B + n))
noncomputable def o_addTest (B : Bk) (d h : Int32) : Rs := match inR d 0 (bD B), inR h 50 400 with | some x, some y => if tN B = 10 ∨ (ixT B d).isSome = true then (2, 0, B) else (0, nI (chg B (wT B (bT B ++ [(x, y)]))), wT B (bT B ++ [(x, y)])) | _, _ => (1, 0, B)
noncomputable def o_remTest (B : Bk) (d : Int32) : Rs := match ixT B d with | none => (1, 0, B) | some t => (0, nI (tThr B t), wT B (swp (bT B) t))
def o_setBound (B : Bk) (z p : Int32) : Rs := match inR z 2 5, inR p 1 300 with | some z, some p => if (2 < z ∧ p ≤ bB B (z - 1)) ∨ (z < 5 ∧ bB B (z + 1) ≤ p) then (2, 0, B) else (0, nI (bB B z), wB B (updN (bB B) z p)) | _, _ => (1, 0, B)
def o_setWeight (B : Bk) (z p : Int32) : Rs := match inR z 1 5, inR p 0 100 with | some z, some p => (0, nI (bW B z), wW B (updN (bW B) z p)) | _, _ => (1, 0, B)
def o_addSes (B : Bk) (d : Int32) : Rs := match inR d 0 (bD B) with | none => (1, 0, B) | some d => if sN B = 40 then (2, 0, B) else (0, nI (bI9 B), wI (wS B (bS B ++ [(bI9 B, d, [])])) (bI9 B + 1))
noncomputable def o_addPart (B : Bk) (id mn it : Int32) : Rs := match ixS B id with | none => (1, 0, B) | some k => match inR mn 1 120, inR it 0 500 with | some m, some i => if nP (sAt B k) = 8 ∨ 240 < minOf (sAt B k) + m then (3, 0, B) else (0, nI (nP (sAt B k) + 1), wS B ((bS B).set k (addP (sAt B k) m i))) | _, _ => (2, 0, B)
noncomputable def o_clear (B : Bk) (id : Int32) : Rs := match ixS B id with | none => (1, 0, B) | some k => (0, nI (nP (sAt B k)), wS B ((bS B).set k (sId (sAt B k), sDay (sAt B k), [])))
noncomputable def o_move (B : Bk) (id d : Int32) : Rs := match ixS B id with | none => (1, 0, B) | some k => match inR d 0 (bD B) with | none => (2, 0, B) | some d => (0, nI (sDay (sAt B k)), wS B ((bS B).set k (sId (sAt B k), d, (sAt B k).2.2)))
noncomputable def o_remSes (B : Bk) (id : Int32) : Rs := match ixS B id with | none => (1, 0, B) | some k => (0, nI (sN B - 1), wS B ((bS B).eraseIdx k))
def o_start (B : Bk) : Rs := (0, nI (bE B), wE (wP B (some (bD B))) 0)
def o_addTarget (B : Bk) (v : Int32) : Rs := match inR v 0 20000 with | none => (1, 0, B) | some x => if bP B ≠ some (bD B) ∨ bE B = 28 then (2, 0, B) else (0, nI (bE B + 1), wE (wG B (updN (bG B) (bE B) x)) (bE B + 1))
/-- what a call that may change the model's row answers for: its row, the last kept one, their places -/
def MutP (x : Rs) (f : Nat → Int32) (t u : Nat) (h : Nat → Int32) (rr : Int32) (f2 : Nat → Int32) (t2 u2 : Nat) (h2 : Nat → Int32) : Prop :=
  (x.1 ≠ 0 → f2 = f ∧ t2 = t ∧ u2 = u ∧ h2 = h) ∧ (x.1 = 0 → rr = x.2.1 ∧ MR f2 x.2.2 ∧ t2 = (t + 1) % 6 ∧ u2 = min 6 (u + 1) ∧ h2 = f)
theorem sAt_app {B : Bk} {x : Sess} {k : Nat} (h : k < sN B) : sAt (wS B (bS B ++ [x])) k = sAt B k := by
  show (bS B ++ [x]).getD k (0, 0, []) = (bS B).getD k (0, 0, [])
  rw [List.getD_eq_getElem?_getD, List.getD_eq_getElem?_getD, List.getElem?_append_left h]
theorem sAt_new {B : Bk} {x : Sess} : sAt (wS B (bS B ++ [x])) (sN B) = x := by
  show (bS B ++ [x]).getD (bS B).length (0, 0, []) = x
  rw [List.getD_eq_getElem?_getD, List.getElem?_append_right (Nat.le_refl _)]
  simp
theorem sN_app {B : Bk} {x : Sess} : sN (wS B (bS B ++ [x])) = sN B + 1 := by show (bS B ++ [x]).length = _; simp [sN]
theorem sAt_set {B : Bk} {x : Sess} {k j : Nat} (h : j ≠ k) : sAt (wS B ((bS B).set k x)) j = sAt B j := by
  show ((bS B).set k x).getD j (0, 0, []) = (bS B).getD j (0, 0, [])
  rw [List.getD_eq_getElem?_getD, List.getD_eq_getElem?_getD, List.getElem?_set_ne (Ne.symm h)]
theorem sAt_put {B : Bk} {x : Sess} {k : Nat} (h : k < sN B) : sAt (wS B ((bS B).set k x)) k = x := by
  show ((bS B).set k x).getD k (0, 0, []) = x
  rw [List.getD_eq_getElem?_getD, List.getElem?_set_self h]
  rfl
theorem sN_set {B : Bk} {x : Sess} {k : Nat} : sN (wS B ((bS B).set k x)) = sN B := by show ((bS B).set k x).length = _; simp [sN]
theorem sN_era {B : Bk} {k : Nat} (h : k < sN B) : sN (wS B ((bS B).eraseIdx k)) = sN B - 1 := by show ((bS B).eraseIdx k).length = _; rw [List.length_eraseIdx]; unfold sN at *; rw [if_pos h]
theorem sAt_era1 {B : Bk} {k j : Nat} (h : j < k) : sAt (wS B ((bS B).eraseIdx k)) j = sAt B j := by
  show ((bS B).eraseIdx k).getD j (0, 0, []) = (bS B).getD j (0, 0, [])
  rw [List.getD_eq_getElem?_getD, List.getD_eq_getElem?_getD, List.getElem?_eraseIdx, if_pos h]
theorem sAt_era2 {B : Bk} {k j : Nat} (h : k ≤ j) : sAt (wS B ((bS B).eraseIdx k)) j = sAt B (j + 1) := by
  show ((bS B).eraseIdx k).getD j (0, 0, []) = (bS B).getD (j + 1) (0, 0, [])
  rw [List.getD_eq_getElem?_getD, List.getD_eq_getElem?_getD, List.getElem?_eraseIdx, if_neg (by omega)]
theorem tDay_app {B : Bk} {x : Nat × Nat} {k : Nat} (h : k < tN B) : tDay (wT B (bT B ++ [x])) k = tDay B k ∧ tThr (wT B (bT B ++ [x])) k = tThr B k := by
  have e : (bT B ++ [x]).getD k (0, 0) = (bT B).getD k (0, 0) := by rw [List.getD_eq_getElem?_getD, List.getD_eq_getElem?_getD, List.getElem?_append_left h]
  exact ⟨congrArg Prod.fst e, congrArg Prod.snd e⟩
theorem tDay_new {B : Bk} {x : Nat × Nat} : tDay (wT B (bT B ++ [x])) (tN B) = x.1 ∧ tThr (wT B (bT B ++ [x])) (tN B) = x.2 := by
  have e : (bT B ++ [x]).getD (bT B).length (0, 0) = x := by
    rw [List.getD_eq_getElem?_getD, List.getElem?_append_right (Nat.le_refl _)]; simp
  exact ⟨congrArg Prod.fst e, congrArg Prod.snd e⟩
theorem tN_app {B : Bk} {x : Nat × Nat} : tN (wT B (bT B ++ [x])) = tN B + 1 := by show (bT B ++ [x]).length = _; simp [tN]
theorem tN_swp {B : Bk} {t : Nat} : tN (wT B (swp (bT B) t)) = tN B - 1 := by show (swp (bT B) t).length = _; simp [tN, swp]
theorem t_swp {B : Bk} {t k : Nat} (ht : t < tN B) (hk : k < tN B - 1) : (swp (bT B) t).getD k (0, 0) = (bT B).getD (if k = t then tN B - 1 else k) (0, 0) := by
  unfold swp tN at *
  rw [List.getD_eq_getElem?_getD, List.getElem?_dropLast, if_pos (by simpa using hk)]
  by_cases h : k = t
  · subst h
    rw [if_pos rfl, List.getElem?_set_self ht]
    rfl
  · rw [if_neg h, List.getElem?_set_ne (Ne.symm h), ← List.getD_eq_getElem?_getD]
theorem tDay_swp {B : Bk} {t k : Nat} (ht : t < tN B) (hk : k < tN B - 1) : tDay (wT B (swp (bT B) t)) k = tDay B (if k = t then tN B - 1 else k) ∧ tThr (wT B (swp (bT B) t)) k = tThr B (if k = t then tN B - 1 else k) := ⟨congrArg Prod.fst (t_swp ht hk), congrArg Prod.snd (t_swp ht hk)⟩
theorem MR_pass {f : Nat → Int32} {B : Bk} {d : Nat} (hI : Inv B) (h : MR f B)  : MR (upd f (0) (nI d)) (wD B d) := by
  have iT := iv_tN hI
  have iN := iv_sN hI
  have iE := iv_bE hI
  exact ⟨(pk_us),
    ((pk_un (by omega)).trans (h.2.1)),
    ((pk_un (by omega)).trans (h.2.2.1)),
    ((pk_un (by omega)).trans (h.2.2.2.1)),
    ((pk_un (by omega)).trans (h.2.2.2.2.1)),
    (fun d hd => (pk_un (by omega)).trans (h.2.2.2.2.2.1 d hd)),
    ((pk_un (by omega)).trans (h.2.2.2.2.2.2.1)),
    (fun z h1 h2 => (pk_un (by omega)).trans (h.2.2.2.2.2.2.2.1 z h1 h2)),
    (fun z h1 h2 => (pk_un (by omega)).trans (h.2.2.2.2.2.2.2.2.1 z h1 h2)),
    (fun k9 hk9 => by have hk8 : k9 < tN B := hk9; exact ⟨(pk_un (by omega)).trans ((h.2.2.2.2.2.2.2.2.2.1 k9 hk9).1), (pk_un (by omega)).trans ((h.2.2.2.2.2.2.2.2.2.1 k9 hk9).2)⟩),
    (fun j hj => by have hj8 : j < bE B := hj; exact (pk_un (by omega)).trans (h.2.2.2.2.2.2.2.2.2.2.1 j hj)),
    (fun k9 hk9 => by have hk8 : k9 < sN B := hk9; exact ⟨(pk_un (by omega)).trans ((h.2.2.2.2.2.2.2.2.2.2.2 k9 hk8).1), (pk_un (by omega)).trans ((h.2.2.2.2.2.2.2.2.2.2.2 k9 hk8).2.1), (pk_un (by omega)).trans ((h.2.2.2.2.2.2.2.2.2.2.2 k9 hk8).2.2.1), fun p hp => by have hp8 : p < nP (sAt B k9) := hp; have hp7 := (iv_ses hI hk8).2.2.1; exact ⟨(pk_un (by omega)).trans (((h.2.2.2.2.2.2.2.2.2.2.2 k9 hk8).2.2.2 p hp).1), (pk_un (by omega)).trans (((h.2.2.2.2.2.2.2.2.2.2.2 k9 hk8).2.2.2 p hp).2)⟩⟩)⟩
theorem MR_bound9 {f : Nat → Int32} {B : Bk} {z p : Nat} (hI : Inv B) (h : MR f B) (hz : 2 ≤ z ∧ z ≤ 5) : MR (upd f (z + 8) (nI p)) (wB B (updN (bB B) z p)) := by
  have iT := iv_tN hI
  have iN := iv_sN hI
  have iE := iv_bE hI
  exact ⟨((pk_un (by omega)).trans (h.1)),
    ((pk_un (by omega)).trans (h.2.1)),
    ((pk_un (by omega)).trans (h.2.2.1)),
    ((pk_un (by omega)).trans (h.2.2.2.1)),
    ((pk_un (by omega)).trans (h.2.2.2.2.1)),
    (fun d hd => (pk_un (by omega)).trans (h.2.2.2.2.2.1 d hd)),
    ((pk_un (by omega)).trans (h.2.2.2.2.2.2.1)),
    (fun y h1 h2 => by
      by_cases e : y = z
      · subst e; rw [Nat.add_comm 8, pk_us]; show nI p = nI (updN (bB B) y p y); rw [updN_s]
      · rw [pk_un (by omega)]; show f (8 + y) = nI (updN (bB B) z p y); rw [updN_n e]; exact h.2.2.2.2.2.2.2.1 y h1 h2),
    (fun z h1 h2 => (pk_un (by omega)).trans (h.2.2.2.2.2.2.2.2.1 z h1 h2)),
    (fun k9 hk9 => by have hk8 : k9 < tN B := hk9; exact ⟨(pk_un (by omega)).trans ((h.2.2.2.2.2.2.2.2.2.1 k9 hk9).1), (pk_un (by omega)).trans ((h.2.2.2.2.2.2.2.2.2.1 k9 hk9).2)⟩),
    (fun j hj => by have hj8 : j < bE B := hj; exact (pk_un (by omega)).trans (h.2.2.2.2.2.2.2.2.2.2.1 j hj)),
    (fun k9 hk9 => by have hk8 : k9 < sN B := hk9; exact ⟨(pk_un (by omega)).trans ((h.2.2.2.2.2.2.2.2.2.2.2 k9 hk8).1), (pk_un (by omega)).trans ((h.2.2.2.2.2.2.2.2.2.2.2 k9 hk8).2.1), (pk_un (by omega)).trans ((h.2.2.2.2.2.2.2.2.2.2.2 k9 hk8).2.2.1), fun p hp => by have hp8 : p < nP (sAt B k9) := hp; have hp7 := (iv_ses hI hk8).2.2.1; exact ⟨(pk_un (by omega)).trans (((h.2.2.2.2.2.2.2.2.2.2.2 k9 hk8).2.2.2 p hp).1), (pk_un (by omega)).trans (((h.2.2.2.2.2.2.2.2.2.2.2 k9 hk8).2.2.2 p hp).2)⟩⟩)⟩
theorem MR_weight9 {f : Nat → Int32} {B : Bk} {z p : Nat} (hI : Inv B) (h : MR f B) (hz : 1 ≤ z ∧ z ≤ 5) : MR (upd f (z + 14) (nI p)) (wW B (updN (bW B) z p)) := by
  have iT := iv_tN hI
  have iN := iv_sN hI
  have iE := iv_bE hI
  exact ⟨((pk_un (by omega)).trans (h.1)),
    ((pk_un (by omega)).trans (h.2.1)),
    ((pk_un (by omega)).trans (h.2.2.1)),
    ((pk_un (by omega)).trans (h.2.2.2.1)),
    ((pk_un (by omega)).trans (h.2.2.2.2.1)),
    (fun d hd => (pk_un (by omega)).trans (h.2.2.2.2.2.1 d hd)),
    ((pk_un (by omega)).trans (h.2.2.2.2.2.2.1)),
    (fun z h1 h2 => (pk_un (by omega)).trans (h.2.2.2.2.2.2.2.1 z h1 h2)),
    (fun y h1 h2 => by
      by_cases e : y = z
      · subst e; rw [Nat.add_comm 14, pk_us]; show nI p = nI (updN (bW B) y p y); rw [updN_s]
      · rw [pk_un (by omega)]; show f (14 + y) = nI (updN (bW B) z p y); rw [updN_n e]; exact h.2.2.2.2.2.2.2.2.1 y h1 h2),
    (fun k9 hk9 => by have hk8 : k9 < tN B := hk9; exact ⟨(pk_un (by omega)).trans ((h.2.2.2.2.2.2.2.2.2.1 k9 hk9).1), (pk_un (by omega)).trans ((h.2.2.2.2.2.2.2.2.2.1 k9 hk9).2)⟩),
    (fun j hj => by have hj8 : j < bE B := hj; exact (pk_un (by omega)).trans (h.2.2.2.2.2.2.2.2.2.2.1 j hj)),
    (fun k9 hk9 => by have hk8 : k9 < sN B := hk9; exact ⟨(pk_un (by omega)).trans ((h.2.2.2.2.2.2.2.2.2.2.2 k9 hk8).1), (pk_un (by omega)).trans ((h.2.2.2.2.2.2.2.2.2.2.2 k9 hk8).2.1), (pk_un (by omega)).trans ((h.2.2.2.2.2.2.2.2.2.2.2 k9 hk8).2.2.1), fun p hp => by have hp8 : p < nP (sAt B k9) := hp; have hp7 := (iv_ses hI hk8).2.2.1; exact ⟨(pk_un (by omega)).trans (((h.2.2.2.2.2.2.2.2.2.2.2 k9 hk8).2.2.2 p hp).1), (pk_un (by omega)).trans (((h.2.2.2.2.2.2.2.2.2.2.2 k9 hk8).2.2.2 p hp).2)⟩⟩)⟩
theorem MR_addTest {f : Nat → Int32} {B : Bk} {x y : Nat} (hI : Inv B) (h : MR f B) (ht : tN B < 10) : MR (upd (upd (upd f (2 * tN B + 20) (nI x)) (2 * tN B + 21) (nI y)) (3) (nI (tN B + 1))) (wT B (bT B ++ [(x, y)])) := by
  have iT := iv_tN hI
  have iN := iv_sN hI
  have iE := iv_bE hI
  exact ⟨((pk_un (by omega)).trans ((pk_un (by omega)).trans ((pk_un (by omega)).trans (h.1)))),
    ((pk_un (by omega)).trans ((pk_un (by omega)).trans ((pk_un (by omega)).trans (h.2.1)))),
    ((pk_un (by omega)).trans ((pk_un (by omega)).trans ((pk_un (by omega)).trans (h.2.2.1)))),
    (by rw [pk_us, tN_app]),
    ((pk_un (by omega)).trans ((pk_un (by omega)).trans ((pk_un (by omega)).trans (h.2.2.2.2.1)))),
    (fun d hd => (pk_un (by omega)).trans ((pk_un (by omega)).trans ((pk_un (by omega)).trans (h.2.2.2.2.2.1 d hd)))),
    ((pk_un (by omega)).trans ((pk_un (by omega)).trans ((pk_un (by omega)).trans (h.2.2.2.2.2.2.1)))),
    (fun z h1 h2 => (pk_un (by omega)).trans ((pk_un (by omega)).trans ((pk_un (by omega)).trans (h.2.2.2.2.2.2.2.1 z h1 h2)))),
    (fun z h1 h2 => (pk_un (by omega)).trans ((pk_un (by omega)).trans ((pk_un (by omega)).trans (h.2.2.2.2.2.2.2.2.1 z h1 h2)))),
    (fun k9 hk9 => by
      rw [tN_app] at hk9
      rcases Nat.lt_succ_iff_lt_or_eq.mp hk9 with hk8 | hk8
      · rw [(tDay_app hk8).1, (tDay_app hk8).2]; exact ⟨(pk_un (by omega)).trans ((pk_un (by omega)).trans ((pk_un (by omega)).trans ((h.2.2.2.2.2.2.2.2.2.1 k9 hk8).1))), (pk_un (by omega)).trans ((pk_un (by omega)).trans ((pk_un (by omega)).trans ((h.2.2.2.2.2.2.2.2.2.1 k9 hk8).2)))⟩
      · subst hk8; rw [tDay_new.1, tDay_new.2]; exact ⟨(pk_un (by omega)).trans ((pk_un (by omega)).trans pk_us), (pk_un (by omega)).trans pk_us⟩),
    (fun j hj => by have hj8 : j < bE B := hj; exact (pk_un (by omega)).trans ((pk_un (by omega)).trans ((pk_un (by omega)).trans (h.2.2.2.2.2.2.2.2.2.2.1 j hj)))),
    (fun k9 hk9 => by have hk8 : k9 < sN B := hk9; exact ⟨(pk_un (by omega)).trans ((pk_un (by omega)).trans ((pk_un (by omega)).trans ((h.2.2.2.2.2.2.2.2.2.2.2 k9 hk8).1))), (pk_un (by omega)).trans ((pk_un (by omega)).trans ((pk_un (by omega)).trans ((h.2.2.2.2.2.2.2.2.2.2.2 k9 hk8).2.1))), (pk_un (by omega)).trans ((pk_un (by omega)).trans ((pk_un (by omega)).trans ((h.2.2.2.2.2.2.2.2.2.2.2 k9 hk8).2.2.1))), fun p hp => by have hp8 : p < nP (sAt B k9) := hp; have hp7 := (iv_ses hI hk8).2.2.1; exact ⟨(pk_un (by omega)).trans ((pk_un (by omega)).trans ((pk_un (by omega)).trans (((h.2.2.2.2.2.2.2.2.2.2.2 k9 hk8).2.2.2 p hp).1))), (pk_un (by omega)).trans ((pk_un (by omega)).trans ((pk_un (by omega)).trans (((h.2.2.2.2.2.2.2.2.2.2.2 k9 hk8).2.2.2 p hp).2)))⟩⟩)⟩
theorem MR_remTest {f : Nat → Int32} {B : Bk} {t : Nat} (hI : Inv B) (h : MR f B) (ht : t < tN B) : MR (upd (upd (upd f (3) (nI (tN B - 1))) (2 * t + 20) (nI (tDay B (tN B - 1)))) (2 * t + 21) (nI (tThr B (tN B - 1)))) (wT B (swp (bT B) t)) := by
  have iT := iv_tN hI
  have iN := iv_sN hI
  have iE := iv_bE hI
  exact ⟨((pk_un (by omega)).trans ((pk_un (by omega)).trans ((pk_un (by omega)).trans (h.1)))),
    ((pk_un (by omega)).trans ((pk_un (by omega)).trans ((pk_un (by omega)).trans (h.2.1)))),
    ((pk_un (by omega)).trans ((pk_un (by omega)).trans ((pk_un (by omega)).trans (h.2.2.1)))),
    (by rw [pk_un (by omega), pk_un (by omega), pk_us, tN_swp]),
    ((pk_un (by omega)).trans ((pk_un (by omega)).trans ((pk_un (by omega)).trans (h.2.2.2.2.1)))),
    (fun d hd => (pk_un (by omega)).trans ((pk_un (by omega)).trans ((pk_un (by omega)).trans (h.2.2.2.2.2.1 d hd)))),
    ((pk_un (by omega)).trans ((pk_un (by omega)).trans ((pk_un (by omega)).trans (h.2.2.2.2.2.2.1)))),
    (fun z h1 h2 => (pk_un (by omega)).trans ((pk_un (by omega)).trans ((pk_un (by omega)).trans (h.2.2.2.2.2.2.2.1 z h1 h2)))),
    (fun z h1 h2 => (pk_un (by omega)).trans ((pk_un (by omega)).trans ((pk_un (by omega)).trans (h.2.2.2.2.2.2.2.2.1 z h1 h2)))),
    (fun k9 hk9 => by
      rw [tN_swp] at hk9
      rw [(tDay_swp ht hk9).1, (tDay_swp ht hk9).2]
      by_cases e : k9 = t
      · subst e; rw [if_pos rfl]; exact ⟨(pk_un (by omega)).trans pk_us, pk_us⟩
      · rw [if_neg e]; have hk8 : k9 < tN B := by omega
        exact ⟨(pk_un (by omega)).trans ((pk_un (by omega)).trans ((pk_un (by omega)).trans ((h.2.2.2.2.2.2.2.2.2.1 k9 hk8).1))), (pk_un (by omega)).trans ((pk_un (by omega)).trans ((pk_un (by omega)).trans ((h.2.2.2.2.2.2.2.2.2.1 k9 hk8).2)))⟩),
    (fun j hj => by have hj8 : j < bE B := hj; exact (pk_un (by omega)).trans ((pk_un (by omega)).trans ((pk_un (by omega)).trans (h.2.2.2.2.2.2.2.2.2.2.1 j hj)))),
    (fun k9 hk9 => by have hk8 : k9 < sN B := hk9; exact ⟨(pk_un (by omega)).trans ((pk_un (by omega)).trans ((pk_un (by omega)).trans ((h.2.2.2.2.2.2.2.2.2.2.2 k9 hk8).1))), (pk_un (by omega)).trans ((pk_un (by omega)).trans ((pk_un (by omega)).trans ((h.2.2.2.2.2.2.2.2.2.2.2 k9 hk8).2.1))), (pk_un (by omega)).trans ((pk_un (by omega)).trans ((pk_un (by omega)).trans ((h.2.2.2.2.2.2.2.2.2.2.2 k9 hk8).2.2.1))), fun p hp => by have hp8 : p < nP (sAt B k9) := hp; have hp7 := (iv_ses hI hk8).2.2.1; exact ⟨(pk_un (by omega)).trans ((pk_un (by omega)).trans ((pk_un (by omega)).trans (((h.2.2.2.2.2.2.2.2.2.2.2 k9 hk8).2.2.2 p hp).1))), (pk_un (by omega)).trans ((pk_un (by omega)).trans ((pk_un (by omega)).trans (((h.2.2.2.2.2.2.2.2.2.2.2 k9 hk8).2.2.2 p hp).2)))⟩⟩)⟩
theorem MR_addSes {f : Nat → Int32} {B : Bk} {d : Nat} (hI : Inv B) (h : MR f B) (hs : sN B < 40) : MR (upd (upd (upd (upd (upd f (19 * sN B + 70) (nI (bI9 B))) (19 * sN B + 71) (nI d)) (19 * sN B + 72) (nI 0)) (2) (nI (sN B + 1))) (1) (nI (bI9 B + 1))) (wI (wS B (bS B ++ [(bI9 B, d, [])])) (bI9 B + 1)) := by
  have iT := iv_tN hI
  have iN := iv_sN hI
  have iE := iv_bE hI
  exact ⟨((pk_un (by omega)).trans ((pk_un (by omega)).trans ((pk_un (by omega)).trans ((pk_un (by omega)).trans ((pk_un (by omega)).trans (h.1)))))),
    (pk_us),
    (by rw [pk_un (by omega), pk_us]; exact congrArg nI sN_app.symm),
    ((pk_un (by omega)).trans ((pk_un (by omega)).trans ((pk_un (by omega)).trans ((pk_un (by omega)).trans ((pk_un (by omega)).trans (h.2.2.2.1)))))),
    ((pk_un (by omega)).trans ((pk_un (by omega)).trans ((pk_un (by omega)).trans ((pk_un (by omega)).trans ((pk_un (by omega)).trans (h.2.2.2.2.1)))))),
    (fun d hd => (pk_un (by omega)).trans ((pk_un (by omega)).trans ((pk_un (by omega)).trans ((pk_un (by omega)).trans ((pk_un (by omega)).trans (h.2.2.2.2.2.1 d hd)))))),
    ((pk_un (by omega)).trans ((pk_un (by omega)).trans ((pk_un (by omega)).trans ((pk_un (by omega)).trans ((pk_un (by omega)).trans (h.2.2.2.2.2.2.1)))))),
    (fun z h1 h2 => (pk_un (by omega)).trans ((pk_un (by omega)).trans ((pk_un (by omega)).trans ((pk_un (by omega)).trans ((pk_un (by omega)).trans (h.2.2.2.2.2.2.2.1 z h1 h2)))))),
    (fun z h1 h2 => (pk_un (by omega)).trans ((pk_un (by omega)).trans ((pk_un (by omega)).trans ((pk_un (by omega)).trans ((pk_un (by omega)).trans (h.2.2.2.2.2.2.2.2.1 z h1 h2)))))),
    (fun k9 hk9 => by have hk8 : k9 < tN B := hk9; exact ⟨(pk_un (by omega)).trans ((pk_un (by omega)).trans ((pk_un (by omega)).trans ((pk_un (by omega)).trans ((pk_un (by omega)).trans ((h.2.2.2.2.2.2.2.2.2.1 k9 hk9).1))))), (pk_un (by omega)).trans ((pk_un (by omega)).trans ((pk_un (by omega)).trans ((pk_un (by omega)).trans ((pk_un (by omega)).trans ((h.2.2.2.2.2.2.2.2.2.1 k9 hk9).2)))))⟩),
    (fun j hj => by have hj8 : j < bE B := hj; exact (pk_un (by omega)).trans ((pk_un (by omega)).trans ((pk_un (by omega)).trans ((pk_un (by omega)).trans ((pk_un (by omega)).trans (h.2.2.2.2.2.2.2.2.2.2.1 j hj)))))),
    (fun k9 hk9 => by
      have hk7 : k9 < sN B + 1 := by rw [← sN_app (x := (bI9 B, d, []))]; exact hk9
      show _ = nI (sId (sAt (wS B (bS B ++ [(bI9 B, d, [])])) k9)) ∧ _ = nI (sDay (sAt (wS B (bS B ++ [(bI9 B, d, [])])) k9)) ∧ _ = nI (nP (sAt (wS B (bS B ++ [(bI9 B, d, [])])) k9)) ∧ ∀ p, p < nP (sAt (wS B (bS B ++ [(bI9 B, d, [])])) k9) → _ = nI (pMin (sAt (wS B (bS B ++ [(bI9 B, d, [])])) k9) p) ∧ _ = nI (pInt (sAt (wS B (bS B ++ [(bI9 B, d, [])])) k9) p)
      rcases Nat.lt_succ_iff_lt_or_eq.mp hk7 with hk8 | hk8
      · rw [sAt_app hk8]; exact ⟨(pk_un (by omega)).trans ((pk_un (by omega)).trans ((pk_un (by omega)).trans ((pk_un (by omega)).trans ((pk_un (by omega)).trans ((h.2.2.2.2.2.2.2.2.2.2.2 k9 hk8).1))))), (pk_un (by omega)).trans ((pk_un (by omega)).trans ((pk_un (by omega)).trans ((pk_un (by omega)).trans ((pk_un (by omega)).trans ((h.2.2.2.2.2.2.2.2.2.2.2 k9 hk8).2.1))))), (pk_un (by omega)).trans ((pk_un (by omega)).trans ((pk_un (by omega)).trans ((pk_un (by omega)).trans ((pk_un (by omega)).trans ((h.2.2.2.2.2.2.2.2.2.2.2 k9 hk8).2.2.1))))), fun p hp => by have hp8 : p < nP (sAt B k9) := hp; have hp7 := (iv_ses hI hk8).2.2.1; exact ⟨(pk_un (by omega)).trans ((pk_un (by omega)).trans ((pk_un (by omega)).trans ((pk_un (by omega)).trans ((pk_un (by omega)).trans (((h.2.2.2.2.2.2.2.2.2.2.2 k9 hk8).2.2.2 p hp).1))))), (pk_un (by omega)).trans ((pk_un (by omega)).trans ((pk_un (by omega)).trans ((pk_un (by omega)).trans ((pk_un (by omega)).trans (((h.2.2.2.2.2.2.2.2.2.2.2 k9 hk8).2.2.2 p hp).2)))))⟩⟩
      · subst hk8; rw [sAt_new]; exact ⟨(pk_un (by omega)).trans ((pk_un (by omega)).trans ((pk_un (by omega)).trans ((pk_un (by omega)).trans pk_us))), (pk_un (by omega)).trans ((pk_un (by omega)).trans ((pk_un (by omega)).trans pk_us)), (pk_un (by omega)).trans ((pk_un (by omega)).trans pk_us), fun p hp => absurd hp (Nat.not_lt_zero _)⟩)⟩
theorem MR_clear {f : Nat → Int32} {B : Bk} {k : Nat}  (hI : Inv B) (h : MR f B) (hk : k < sN B)  : MR (upd f (19 * k + 72) (nI 0)) (wS B ((bS B).set k (sId (sAt B k), sDay (sAt B k), []))) := by
  have iT := iv_tN hI
  have iN := iv_sN hI
  have iE := iv_bE hI
  exact ⟨((pk_un (by omega)).trans (h.1)),
    ((pk_un (by omega)).trans (h.2.1)),
    ((pk_un (by omega)).trans (h.2.2.1.trans (congrArg nI sN_set.symm))),
    ((pk_un (by omega)).trans (h.2.2.2.1)),
    ((pk_un (by omega)).trans (h.2.2.2.2.1)),
    (fun d hd => (pk_un (by omega)).trans (h.2.2.2.2.2.1 d hd)),
    ((pk_un (by omega)).trans (h.2.2.2.2.2.2.1)),
    (fun z h1 h2 => (pk_un (by omega)).trans (h.2.2.2.2.2.2.2.1 z h1 h2)),
    (fun z h1 h2 => (pk_un (by omega)).trans (h.2.2.2.2.2.2.2.2.1 z h1 h2)),
    (fun k9 hk9 => by have hk8 : k9 < tN B := hk9; exact ⟨(pk_un (by omega)).trans ((h.2.2.2.2.2.2.2.2.2.1 k9 hk9).1), (pk_un (by omega)).trans ((h.2.2.2.2.2.2.2.2.2.1 k9 hk9).2)⟩),
    (fun j hj => by have hj8 : j < bE B := hj; exact (pk_un (by omega)).trans (h.2.2.2.2.2.2.2.2.2.2.1 j hj)),
    (fun k9 hk9 => by
      rw [sN_set] at hk9
      by_cases e : k9 = k
      · subst e; rw [sAt_put hk9]; have hp6 := (iv_ses hI hk9).2.2.1; exact ⟨(pk_un (by omega)).trans ((h.2.2.2.2.2.2.2.2.2.2.2 k9 hk9).1), (pk_un (by omega)).trans ((h.2.2.2.2.2.2.2.2.2.2.2 k9 hk9).2.1), pk_us, fun p hp => absurd hp (Nat.not_lt_zero _)⟩
      · rw [sAt_set e]; have hk8 := hk9; exact ⟨(pk_un (by omega)).trans ((h.2.2.2.2.2.2.2.2.2.2.2 k9 hk8).1), (pk_un (by omega)).trans ((h.2.2.2.2.2.2.2.2.2.2.2 k9 hk8).2.1), (pk_un (by omega)).trans ((h.2.2.2.2.2.2.2.2.2.2.2 k9 hk8).2.2.1), fun p hp => by have hp8 : p < nP (sAt B k9) := hp; have hp7 := (iv_ses hI hk8).2.2.1; exact ⟨(pk_un (by omega)).trans (((h.2.2.2.2.2.2.2.2.2.2.2 k9 hk8).2.2.2 p hp).1), (pk_un (by omega)).trans (((h.2.2.2.2.2.2.2.2.2.2.2 k9 hk8).2.2.2 p hp).2)⟩⟩)⟩
theorem MR_move {f : Nat → Int32} {B : Bk} {k : Nat} {d : Nat} (hI : Inv B) (h : MR f B) (hk : k < sN B)  : MR (upd f (19 * k + 71) (nI d)) (wS B ((bS B).set k (sId (sAt B k), d, (sAt B k).2.2))) := by
  have iT := iv_tN hI
  have iN := iv_sN hI
  have iE := iv_bE hI
  exact ⟨((pk_un (by omega)).trans (h.1)),
    ((pk_un (by omega)).trans (h.2.1)),
    ((pk_un (by omega)).trans (h.2.2.1.trans (congrArg nI sN_set.symm))),
    ((pk_un (by omega)).trans (h.2.2.2.1)),
    ((pk_un (by omega)).trans (h.2.2.2.2.1)),
    (fun d hd => (pk_un (by omega)).trans (h.2.2.2.2.2.1 d hd)),
    ((pk_un (by omega)).trans (h.2.2.2.2.2.2.1)),
    (fun z h1 h2 => (pk_un (by omega)).trans (h.2.2.2.2.2.2.2.1 z h1 h2)),
    (fun z h1 h2 => (pk_un (by omega)).trans (h.2.2.2.2.2.2.2.2.1 z h1 h2)),
    (fun k9 hk9 => by have hk8 : k9 < tN B := hk9; exact ⟨(pk_un (by omega)).trans ((h.2.2.2.2.2.2.2.2.2.1 k9 hk9).1), (pk_un (by omega)).trans ((h.2.2.2.2.2.2.2.2.2.1 k9 hk9).2)⟩),
    (fun j hj => by have hj8 : j < bE B := hj; exact (pk_un (by omega)).trans (h.2.2.2.2.2.2.2.2.2.2.1 j hj)),
    (fun k9 hk9 => by
      rw [sN_set] at hk9
      by_cases e : k9 = k
      · subst e; rw [sAt_put hk9]; have hp6 := (iv_ses hI hk9).2.2.1; exact ⟨(pk_un (by omega)).trans ((h.2.2.2.2.2.2.2.2.2.2.2 k9 hk9).1), pk_us, (pk_un (by omega)).trans ((h.2.2.2.2.2.2.2.2.2.2.2 k9 hk9).2.2.1), fun p hp => by have hp8 : p < nP (sAt B k9) := hp; exact ⟨(pk_un (by omega)).trans (((h.2.2.2.2.2.2.2.2.2.2.2 k9 hk9).2.2.2 p hp).1), (pk_un (by omega)).trans (((h.2.2.2.2.2.2.2.2.2.2.2 k9 hk9).2.2.2 p hp).2)⟩⟩
      · rw [sAt_set e]; have hk8 := hk9; exact ⟨(pk_un (by omega)).trans ((h.2.2.2.2.2.2.2.2.2.2.2 k9 hk8).1), (pk_un (by omega)).trans ((h.2.2.2.2.2.2.2.2.2.2.2 k9 hk8).2.1), (pk_un (by omega)).trans ((h.2.2.2.2.2.2.2.2.2.2.2 k9 hk8).2.2.1), fun p hp => by have hp8 : p < nP (sAt B k9) := hp; have hp7 := (iv_ses hI hk8).2.2.1; exact ⟨(pk_un (by omega)).trans (((h.2.2.2.2.2.2.2.2.2.2.2 k9 hk8).2.2.2 p hp).1), (pk_un (by omega)).trans (((h.2.2.2.2.2.2.2.2.2.2.2 k9 hk8).2.2.2 p hp).2)⟩⟩)⟩
theorem addP_n (x : Sess) (m i : Nat) : nP (addP x m i) = nP x + 1 := by show (x.2.2 ++ [(m, i)]).length = _; simp [nP]
theorem addP_old {x : Sess} {m i p : Nat} (h : p < nP x) : pMin (addP x m i) p = pMin x p ∧ pInt (addP x m i) p = pInt x p := by
  have e : (x.2.2 ++ [(m, i)]).getD p (0, 0) = x.2.2.getD p (0, 0) := by rw [List.getD_eq_getElem?_getD, List.getD_eq_getElem?_getD, List.getElem?_append_left h]
  exact ⟨congrArg Prod.fst e, congrArg Prod.snd e⟩
theorem addP_new (x : Sess) (m i : Nat) : pMin (addP x m i) (nP x) = m ∧ pInt (addP x m i) (nP x) = i := by
  have e : (x.2.2 ++ [(m, i)]).getD x.2.2.length (0, 0) = (m, i) := by rw [List.getD_eq_getElem?_getD, List.getElem?_append_right (Nat.le_refl _)]; simp
  exact ⟨congrArg Prod.fst e, congrArg Prod.snd e⟩
theorem MR_addPart {f : Nat → Int32} {B : Bk} {k : Nat} {m i : Nat} (hI : Inv B) (h : MR f B) (hk : k < sN B) (hp9 : nP (sAt B k) < 8) : MR (upd (upd (upd f (19 * k + nP (sAt B k) + 73) (nI m)) (19 * k + nP (sAt B k) + 81) (nI i)) (19 * k + 72) (nI (nP (sAt B k) + 1))) (wS B ((bS B).set k (addP (sAt B k) m i))) := by
  have iT := iv_tN hI
  have iN := iv_sN hI
  have iE := iv_bE hI
  exact ⟨((pk_un (by omega)).trans ((pk_un (by omega)).trans ((pk_un (by omega)).trans (h.1)))),
    ((pk_un (by omega)).trans ((pk_un (by omega)).trans ((pk_un (by omega)).trans (h.2.1)))),
    ((pk_un (by omega)).trans ((pk_un (by omega)).trans ((pk_un (by omega)).trans (h.2.2.1.trans (congrArg nI sN_set.symm))))),
    ((pk_un (by omega)).trans ((pk_un (by omega)).trans ((pk_un (by omega)).trans (h.2.2.2.1)))),
    ((pk_un (by omega)).trans ((pk_un (by omega)).trans ((pk_un (by omega)).trans (h.2.2.2.2.1)))),
    (fun d hd => (pk_un (by omega)).trans ((pk_un (by omega)).trans ((pk_un (by omega)).trans (h.2.2.2.2.2.1 d hd)))),
    ((pk_un (by omega)).trans ((pk_un (by omega)).trans ((pk_un (by omega)).trans (h.2.2.2.2.2.2.1)))),
    (fun z h1 h2 => (pk_un (by omega)).trans ((pk_un (by omega)).trans ((pk_un (by omega)).trans (h.2.2.2.2.2.2.2.1 z h1 h2)))),
    (fun z h1 h2 => (pk_un (by omega)).trans ((pk_un (by omega)).trans ((pk_un (by omega)).trans (h.2.2.2.2.2.2.2.2.1 z h1 h2)))),
    (fun k9 hk9 => by have hk8 : k9 < tN B := hk9; exact ⟨(pk_un (by omega)).trans ((pk_un (by omega)).trans ((pk_un (by omega)).trans ((h.2.2.2.2.2.2.2.2.2.1 k9 hk9).1))), (pk_un (by omega)).trans ((pk_un (by omega)).trans ((pk_un (by omega)).trans ((h.2.2.2.2.2.2.2.2.2.1 k9 hk9).2)))⟩),
    (fun j hj => by have hj8 : j < bE B := hj; exact (pk_un (by omega)).trans ((pk_un (by omega)).trans ((pk_un (by omega)).trans (h.2.2.2.2.2.2.2.2.2.2.1 j hj)))),
    (fun k9 hk9 => by
      rw [sN_set] at hk9
      by_cases e : k9 = k
      · subst e; rw [sAt_put hk9]; have hp6 := (iv_ses hI hk9).2.2.1; exact ⟨(pk_un (by omega)).trans ((pk_un (by omega)).trans ((pk_un (by omega)).trans ((h.2.2.2.2.2.2.2.2.2.2.2 k9 hk9).1))), (pk_un (by omega)).trans ((pk_un (by omega)).trans ((pk_un (by omega)).trans ((h.2.2.2.2.2.2.2.2.2.2.2 k9 hk9).2.1))), by rw [pk_us, addP_n], fun p hp => by
          rw [addP_n] at hp
          rcases Nat.lt_succ_iff_lt_or_eq.mp hp with hp8 | hp8
          · rw [(addP_old hp8).1, (addP_old hp8).2]; exact ⟨(pk_un (by omega)).trans ((pk_un (by omega)).trans ((pk_un (by omega)).trans (((h.2.2.2.2.2.2.2.2.2.2.2 k9 hk9).2.2.2 p hp8).1))), (pk_un (by omega)).trans ((pk_un (by omega)).trans ((pk_un (by omega)).trans (((h.2.2.2.2.2.2.2.2.2.2.2 k9 hk9).2.2.2 p hp8).2)))⟩
          · subst hp8; rw [(addP_new _ _ _).1, (addP_new _ _ _).2]; exact ⟨(pk_un (by omega)).trans ((pk_un (by omega)).trans pk_us), (pk_un (by omega)).trans pk_us⟩⟩
      · rw [sAt_set e]; have hk8 := hk9; exact ⟨(pk_un (by omega)).trans ((pk_un (by omega)).trans ((pk_un (by omega)).trans ((h.2.2.2.2.2.2.2.2.2.2.2 k9 hk8).1))), (pk_un (by omega)).trans ((pk_un (by omega)).trans ((pk_un (by omega)).trans ((h.2.2.2.2.2.2.2.2.2.2.2 k9 hk8).2.1))), (pk_un (by omega)).trans ((pk_un (by omega)).trans ((pk_un (by omega)).trans ((h.2.2.2.2.2.2.2.2.2.2.2 k9 hk8).2.2.1))), fun p hp => by have hp8 : p < nP (sAt B k9) := hp; have hp7 := (iv_ses hI hk8).2.2.1; exact ⟨(pk_un (by omega)).trans ((pk_un (by omega)).trans ((pk_un (by omega)).trans (((h.2.2.2.2.2.2.2.2.2.2.2 k9 hk8).2.2.2 p hp).1))), (pk_un (by omega)).trans ((pk_un (by omega)).trans ((pk_un (by omega)).trans (((h.2.2.2.2.2.2.2.2.2.2.2 k9 hk8).2.2.2 p hp).2)))⟩⟩)⟩
theorem MR_start {f : Nat → Int32} {B : Bk}  (hI : Inv B) (h : MR f B)  : MR (upd (upd (upd f (4) (nI 1)) (5) (nI (bD B))) (6) (nI 0)) (wE (wP B (some (bD B))) 0) := by
  have iT := iv_tN hI
  have iN := iv_sN hI
  have iE := iv_bE hI
  exact ⟨((pk_un (by omega)).trans ((pk_un (by omega)).trans ((pk_un (by omega)).trans (h.1)))),
    ((pk_un (by omega)).trans ((pk_un (by omega)).trans ((pk_un (by omega)).trans (h.2.1)))),
    ((pk_un (by omega)).trans ((pk_un (by omega)).trans ((pk_un (by omega)).trans (h.2.2.1)))),
    ((pk_un (by omega)).trans ((pk_un (by omega)).trans ((pk_un (by omega)).trans (h.2.2.2.1)))),
    ((pk_un (by omega)).trans ((pk_un (by omega)).trans pk_us)),
    (fun d hd => by
      have e : bD B = d := Option.some.inj hd
      rw [← e]; exact (pk_un (by omega)).trans pk_us),
    (pk_us),
    (fun z h1 h2 => (pk_un (by omega)).trans ((pk_un (by omega)).trans ((pk_un (by omega)).trans (h.2.2.2.2.2.2.2.1 z h1 h2)))),
    (fun z h1 h2 => (pk_un (by omega)).trans ((pk_un (by omega)).trans ((pk_un (by omega)).trans (h.2.2.2.2.2.2.2.2.1 z h1 h2)))),
    (fun k9 hk9 => by have hk8 : k9 < tN B := hk9; exact ⟨(pk_un (by omega)).trans ((pk_un (by omega)).trans ((pk_un (by omega)).trans ((h.2.2.2.2.2.2.2.2.2.1 k9 hk9).1))), (pk_un (by omega)).trans ((pk_un (by omega)).trans ((pk_un (by omega)).trans ((h.2.2.2.2.2.2.2.2.2.1 k9 hk9).2)))⟩),
    (fun j hj => absurd hj (Nat.not_lt_zero _)),
    (fun k9 hk9 => by have hk8 : k9 < sN B := hk9; exact ⟨(pk_un (by omega)).trans ((pk_un (by omega)).trans ((pk_un (by omega)).trans ((h.2.2.2.2.2.2.2.2.2.2.2 k9 hk8).1))), (pk_un (by omega)).trans ((pk_un (by omega)).trans ((pk_un (by omega)).trans ((h.2.2.2.2.2.2.2.2.2.2.2 k9 hk8).2.1))), (pk_un (by omega)).trans ((pk_un (by omega)).trans ((pk_un (by omega)).trans ((h.2.2.2.2.2.2.2.2.2.2.2 k9 hk8).2.2.1))), fun p hp => by have hp8 : p < nP (sAt B k9) := hp; have hp7 := (iv_ses hI hk8).2.2.1; exact ⟨(pk_un (by omega)).trans ((pk_un (by omega)).trans ((pk_un (by omega)).trans (((h.2.2.2.2.2.2.2.2.2.2.2 k9 hk8).2.2.2 p hp).1))), (pk_un (by omega)).trans ((pk_un (by omega)).trans ((pk_un (by omega)).trans (((h.2.2.2.2.2.2.2.2.2.2.2 k9 hk8).2.2.2 p hp).2)))⟩⟩)⟩
theorem MR_addTarget {f : Nat → Int32} {B : Bk} {x : Nat} (hI : Inv B) (h : MR f B) (he : bE B < 28) : MR (upd (upd f (bE B + 40) (nI x)) (6) (nI (bE B + 1))) (wE (wG B (updN (bG B) (bE B) x)) (bE B + 1)) := by
  have iT := iv_tN hI
  have iN := iv_sN hI
  have iE := iv_bE hI
  exact ⟨((pk_un (by omega)).trans ((pk_un (by omega)).trans (h.1))),
    ((pk_un (by omega)).trans ((pk_un (by omega)).trans (h.2.1))),
    ((pk_un (by omega)).trans ((pk_un (by omega)).trans (h.2.2.1))),
    ((pk_un (by omega)).trans ((pk_un (by omega)).trans (h.2.2.2.1))),
    ((pk_un (by omega)).trans ((pk_un (by omega)).trans (h.2.2.2.2.1))),
    (fun d hd => (pk_un (by omega)).trans ((pk_un (by omega)).trans (h.2.2.2.2.2.1 d hd))),
    (pk_us),
    (fun z h1 h2 => (pk_un (by omega)).trans ((pk_un (by omega)).trans (h.2.2.2.2.2.2.2.1 z h1 h2))),
    (fun z h1 h2 => (pk_un (by omega)).trans ((pk_un (by omega)).trans (h.2.2.2.2.2.2.2.2.1 z h1 h2))),
    (fun k9 hk9 => by have hk8 : k9 < tN B := hk9; exact ⟨(pk_un (by omega)).trans ((pk_un (by omega)).trans ((h.2.2.2.2.2.2.2.2.2.1 k9 hk9).1)), (pk_un (by omega)).trans ((pk_un (by omega)).trans ((h.2.2.2.2.2.2.2.2.2.1 k9 hk9).2))⟩),
    (fun j hj => by
      show _ = nI (updN (bG B) (bE B) x j)
      rcases Nat.lt_succ_iff_lt_or_eq.mp hj with hj8 | hj8
      · have hj7 : j < bE B := hj8
        rw [updN_n (by omega)]; exact (pk_un (by omega)).trans ((pk_un (by omega)).trans (h.2.2.2.2.2.2.2.2.2.2.1 j hj7))
      · have hj7 : j = bE B := hj8
        rw [hj7, updN_s]; exact (pk_un (by omega)).trans pk_us),
    (fun k9 hk9 => by have hk8 : k9 < sN B := hk9; exact ⟨(pk_un (by omega)).trans ((pk_un (by omega)).trans ((h.2.2.2.2.2.2.2.2.2.2.2 k9 hk8).1)), (pk_un (by omega)).trans ((pk_un (by omega)).trans ((h.2.2.2.2.2.2.2.2.2.2.2 k9 hk8).2.1)), (pk_un (by omega)).trans ((pk_un (by omega)).trans ((h.2.2.2.2.2.2.2.2.2.2.2 k9 hk8).2.2.1)), fun p hp => by have hp8 : p < nP (sAt B k9) := hp; have hp7 := (iv_ses hI hk8).2.2.1; exact ⟨(pk_un (by omega)).trans ((pk_un (by omega)).trans (((h.2.2.2.2.2.2.2.2.2.2.2 k9 hk8).2.2.2 p hp).1)), (pk_un (by omega)).trans ((pk_un (by omega)).trans (((h.2.2.2.2.2.2.2.2.2.2.2 k9 hk8).2.2.2 p hp).2))⟩⟩)⟩
/-- the row of ints with the rows behind k moved up, places below e done -/
def shf (f : Nat → Int32) (a e : Nat) : Nat → Int32 := fun j => if a ≤ j ∧ j < e then f (j + 19) else f j
theorem shf_0 (f : Nat → Int32) (a : Nat) : shf f a a = f := by funext j; unfold shf; rw [if_neg (by omega)]
theorem shf_s (f : Nat → Int32) {a e : Nat} (h : a ≤ e) : upd (shf f a e) e (f (e + 19)) = shf f a (e + 1) := by
  funext j
  by_cases g : j = e
  · subst g; rw [pk_us]; unfold shf; rw [if_pos (by omega)]
  · rw [pk_un g]; unfold shf
    by_cases q : a ≤ j ∧ j < e
    · rw [if_pos q, if_pos (by omega)]
    · rw [if_neg q, if_neg (by omega)]
theorem shf_in {f : Nat → Int32} {a e j : Nat} (h : a ≤ j) (h2 : j < e) : shf f a e j = f (j + 19) := by unfold shf; rw [if_pos ⟨h, h2⟩]
theorem shf_out {f : Nat → Int32} {a e j : Nat} (h : ¬ (a ≤ j ∧ j < e)) : shf f a e j = f j := by unfold shf; rw [if_neg h]
theorem MR_remSes {f : Nat → Int32} {B : Bk} {k : Nat} (hI : Inv B) (h : MR f B) (hk : k < sN B) : MR (upd (shf f (19 * k + 70) (19 * (sN B - 1) + 70)) 2 (nI (sN B - 1))) (wS B ((bS B).eraseIdx k)) := by
  have iT := iv_tN hI
  have iN := iv_sN hI
  have iE := iv_bE hI
  refine ⟨(pk_un (by omega)).trans ((shf_out (by omega)).trans (h.1)), (pk_un (by omega)).trans ((shf_out (by omega)).trans (h.2.1)), by rw [pk_us, sN_era hk], (pk_un (by omega)).trans ((shf_out (by omega)).trans (h.2.2.2.1)), (pk_un (by omega)).trans ((shf_out (by omega)).trans (h.2.2.2.2.1)), fun d hd => (pk_un (by omega)).trans ((shf_out (by omega)).trans (h.2.2.2.2.2.1 d hd)), (pk_un (by omega)).trans ((shf_out (by omega)).trans (h.2.2.2.2.2.2.1)), fun z h1 h2 => (pk_un (by omega)).trans ((shf_out (by omega)).trans (h.2.2.2.2.2.2.2.1 z h1 h2)), fun z h1 h2 => (pk_un (by omega)).trans ((shf_out (by omega)).trans (h.2.2.2.2.2.2.2.2.1 z h1 h2)),
    fun k9 hk9 => by have hk8 : k9 < tN B := hk9; exact ⟨(pk_un (by omega)).trans ((shf_out (by omega)).trans ((h.2.2.2.2.2.2.2.2.2.1 k9 hk9).1)), (pk_un (by omega)).trans ((shf_out (by omega)).trans ((h.2.2.2.2.2.2.2.2.2.1 k9 hk9).2))⟩, fun j hj => by have hj8 : j < bE B := hj; exact (pk_un (by omega)).trans ((shf_out (by omega)).trans (h.2.2.2.2.2.2.2.2.2.2.1 j hj)), fun k9 hk9 => ?_⟩
  rw [sN_era hk] at hk9
  rcases Nat.lt_or_ge k9 k with g | g
  · have hk8 : k9 < sN B := by omega
    have hp7 := (iv_ses hI hk8).2.2.1
    rw [sAt_era1 g]
    exact ⟨(pk_un (by omega)).trans ((shf_out (by omega)).trans ((h.2.2.2.2.2.2.2.2.2.2.2 k9 hk8).1)), (pk_un (by omega)).trans ((shf_out (by omega)).trans ((h.2.2.2.2.2.2.2.2.2.2.2 k9 hk8).2.1)), (pk_un (by omega)).trans ((shf_out (by omega)).trans ((h.2.2.2.2.2.2.2.2.2.2.2 k9 hk8).2.2.1)), fun p hp => ⟨(pk_un (by omega)).trans ((shf_out (by omega)).trans (((h.2.2.2.2.2.2.2.2.2.2.2 k9 hk8).2.2.2 p hp).1)), (pk_un (by omega)).trans ((shf_out (by omega)).trans (((h.2.2.2.2.2.2.2.2.2.2.2 k9 hk8).2.2.2 p hp).2))⟩⟩
  · have hk8 : k9 + 1 < sN B := by omega
    have hp7 := (iv_ses hI hk8).2.2.1
    rw [sAt_era2 g]
    exact ⟨(pk_un (by omega)).trans ((shf_in (by omega) (by omega)).trans ((congrArg f (by omega)).trans ((h.2.2.2.2.2.2.2.2.2.2.2 (k9 + 1) hk8).1))), (pk_un (by omega)).trans ((shf_in (by omega) (by omega)).trans ((congrArg f (by omega)).trans ((h.2.2.2.2.2.2.2.2.2.2.2 (k9 + 1) hk8).2.1))), (pk_un (by omega)).trans ((shf_in (by omega) (by omega)).trans ((congrArg f (by omega)).trans ((h.2.2.2.2.2.2.2.2.2.2.2 (k9 + 1) hk8).2.2.1))), fun p hp => ⟨(pk_un (by omega)).trans ((shf_in (by omega) (by omega)).trans ((congrArg f (by omega)).trans (((h.2.2.2.2.2.2.2.2.2.2.2 (k9 + 1) hk8).2.2.2 p hp).1))), (pk_un (by omega)).trans ((shf_in (by omega) (by omega)).trans ((congrArg f (by omega)).trans (((h.2.2.2.2.2.2.2.2.2.2.2 (k9 + 1) hk8).2.2.2 p hp).2)))⟩⟩
/-! the ranges stay -/
theorem ixT_none {B : Bk} {d : Int32} (h : ixT B d = none) : ∀ k, k < tN B → nI (tDay B k) ≠ d := by
  intro k hk e
  unfold ixT at h
  rw [dif_pos ⟨k, hk, e⟩] at h
  cases h
theorem Inv_addTest {B : Bk} (hI : Inv B) {x y : Nat} (ht : tN B < 10) (hx : x ≤ bD B) (hy : 50 ≤ y ∧ y ≤ 400) {d : Int32} (hd : ixT B d = none) (hv : d = nI x) : Inv (wT B (bT B ++ [(x, y)])) := by
  refine ⟨by rw [tN_app]; omega, hI.2.1, hI.2.2.1, hI.2.2.2.1, hI.2.2.2.2.1, hI.2.2.2.2.2.1, hI.2.2.2.2.2.2.1, hI.2.2.2.2.2.2.2.1, hI.2.2.2.2.2.2.2.2.1, fun k hk => ?_, fun j k hj hk => ?_, hI.2.2.2.2.2.2.2.2.2.2.2.1, hI.2.2.2.2.2.2.2.2.2.2.2.2.1, hI.2.2.2.2.2.2.2.2.2.2.2.2.2.1, hI.2.2.2.2.2.2.2.2.2.2.2.2.2.2⟩
  · rw [tN_app] at hk
    rcases Nat.lt_succ_iff_lt_or_eq.mp hk with g | g
    · rw [(tDay_app g).1, (tDay_app g).2]; exact iv_tst hI g
    · subst g; rw [tDay_new.1, tDay_new.2]; exact ⟨hx, hy.1, hy.2⟩
  · rw [tN_app] at hj hk
    have hn := ixT_none hd
    rcases Nat.lt_succ_iff_lt_or_eq.mp hj with g | g <;> rcases Nat.lt_succ_iff_lt_or_eq.mp hk with g2 | g2
    · rw [(tDay_app g).1, (tDay_app g2).1]; exact iv_tinj hI g g2
    · subst g2; rw [(tDay_app g).1, tDay_new.1]; intro e; exact absurd (by rw [e, hv]) (hn j g)
    · subst g; rw [(tDay_app g2).1, tDay_new.1]; intro e; exact absurd (by rw [← e, hv]) (hn k g2)
    · rw [g, g2]; exact fun _ => rfl
