/-! WHAT THE QUERIES ANSWER: (exception's number or 0, answer) -/
def inR (v : Int32) (lo hi : Nat) : Option Nat := if nI lo ≤ v ∧ v ≤ nI hi then some v.toNatClampNeg else none
/-- below a count -/
def inL (v : Int32) (c : Nat) : Option Nat := if nI 0 ≤ v ∧ v ≤ lI c then some v.toNatClampNeg else none
theorem inR_some {v : Int32} {lo hi n : Nat} (hv : v = nI n) (h1 : lo ≤ n) (h2 : n ≤ hi) (h3 : hi < 2 ^ 31) : inR v lo hi = some n := by
  subst hv
  unfold inR
  rw [if_pos (nat_in h3 h1 h2), nI_clamp (by omega)]
theorem inR_none {v : Int32} {lo hi : Nat} (h : ¬ (nI lo ≤ v ∧ v ≤ nI hi)) : inR v lo hi = none := by unfold inR; rw [if_neg h]
theorem inL_nat {v : Int32} {c : Nat} (hc : c < 2 ^ 31) (h1 : nI 0 ≤ v) (h2 : v ≤ lI c) : ∃ n, v = nI n ∧ n < c := by
  have h3 := Int32.le_iff_toInt_le.mp h1
  have h4 := Int32.le_iff_toInt_le.mp h2
  rw [nI_toInt (by omega)] at h3
  rw [lI_toInt hc] at h4
  refine ⟨v.toInt.toNat, ?_, by omega⟩
  apply Int32.toInt_inj.mp
  rw [nI_toInt (by omega)]
  omega
theorem inL_some {v : Int32} {c n : Nat} (hv : v = nI n) (h1 : n < c) (hc : c < 2 ^ 31) : inL v c = some n := by
  subst hv
  have h : nI n ≤ lI c := by
    rw [Int32.le_iff_toInt_le, nI_toInt (by omega), lI_toInt hc]
    omega
  unfold inL
  rw [if_pos ⟨nI_le (Nat.zero_le _) (by omega), h⟩, nI_clamp (by omega)]
theorem inL_none {v : Int32} {c : Nat} (h : ¬ (nI 0 ≤ v ∧ v ≤ lI c)) : inL v c = none := by unfold inL; rw [if_neg h]
noncomputable def ixS (B : Bk) (id : Int32) : Option Nat := @dite _ (∃ k, k < sN B ∧ nI (sId (sAt B k)) = id) (Classical.propDecidable _) (fun h => some (Classical.choose h)) (fun _ => none)
theorem ixS_eq {B : Bk} (hI : Inv B) {id : Int32} {o : Option Nat} (h : PL B id (sN B) o) : ixS B id = o := by
  unfold ixS
  cases o with
  | none =>
    rw [dif_neg]
    intro ⟨k, h1, h2⟩
    exact h k h1 h2
  | some k =>
    have hx : ∃ k, k < sN B ∧ nI (sId (sAt B k)) = id := ⟨k, h.1, h.2⟩
    rw [dif_pos hx]
    have hc := Classical.choose_spec hx
    congr 1
    refine iv_sinj hI hc.1 h.1 ?_
    have i1 := (iv_ses hI hc.1).1
    have i2 := (iv_ses hI h.1).1
    have i3 := iv_id hI
    exact (nI_eq (by omega) (by omega)).mp (hc.2.trans h.2.symm)
noncomputable def ixT (B : Bk) (d : Int32) : Option Nat := @dite _ (∃ k, k < tN B ∧ nI (tDay B k) = d) (Classical.propDecidable _) (fun h => some (Classical.choose h)) (fun _ => none)
theorem ixT_eq {B : Bk} (hI : Inv B) {d : Int32} {o : Option Nat} (h : PT B d (tN B) o) : ixT B d = o := by
  unfold ixT
  cases o with
  | none =>
    rw [dif_neg]
    intro ⟨k, h1, h2⟩
    exact h k h1 h2
  | some k =>
    have hx : ∃ k, k < tN B ∧ nI (tDay B k) = d := ⟨k, h.1, h.2⟩
    rw [dif_pos hx]
    have hc := Classical.choose_spec hx
    congr 1
    refine iv_tinj hI hc.1 h.1 ?_
    have i1 := (iv_tst hI hc.1).1
    have i2 := (iv_tst hI h.1).1
    have i3 := iv_bD hI
    exact (nI_eq (by omega) (by omega)).mp (hc.2.trans h.2.symm)
/-- who stands at a rank -/
noncomputable def ixR (B : Bk) (q : Nat) : Nat := @dite _ (∃ k, k < sN B ∧ rk B k (sN B) = q) (Classical.propDecidable _) (fun h => Classical.choose h) (fun _ => 0)
theorem ixR_eq {B : Bk} (hI : Inv B) {q k : Nat} (h : PR B q (sN B) (some k)) : ixR B q = k := by
  unfold ixR
  have hx : ∃ k, k < sN B ∧ rk B k (sN B) = q := ⟨k, h.1, h.2⟩
  rw [dif_pos hx]
  have hc := Classical.choose_spec hx
  exact rk_inj hI hc.1 h.1 (hc.2.trans h.2.symm)
theorem ST_uniq {B : Bk} (hI : Inv B) {n : Nat} {o o2 : Option Nat} (h : ST B n (sN B) o) (h2 : ST B n (sN B) o2) : o = o2 := by
  have rl : ∀ k, k < sN B → rk B k (sN B) < sN B := by
    intro k hk
    have := (rk_le B k (sN B))
    rcases Nat.lt_or_ge (rk B k (sN B)) (sN B) with g | g
    · exact g
    · exfalso
      have key : ∀ m, m ≤ sN B → (k < m → rk B k m < m) := by
        intro m
        induction m with
        | zero => intro _ h; omega
        | succ m ih =>
          intro hm hk2
          rcases Nat.lt_or_ge k m with q | q
          · have := ih (by omega) q
            simp only [rk]
            split <;> omega
          · have e : m = k := by omega
            subst e
            rw [rk_no (B := B) (k := m) (j := m) (by omega)]
            have := rk_le B m m
            omega
      have := key (sN B) (Nat.le_refl _) hk
      omega
  cases o with
  | none =>
    cases o2 with
    | none => rfl
    | some b => have := h b h2.1 (rl b h2.1); have := h2.2.2.1; omega
  | some a =>
    cases o2 with
    | none => have := h2 a h.1 (rl a h.1); have := h.2.2.1; omega
    | some b =>
      have e1 := h.2.2.2 b h2.1 (rl b h2.1)
      have e2 := h2.2.2.2 a h.1 (rl a h.1)
      congr 1
      refine rk_inj hI h.1 h2.1 ?_
      rcases Nat.lt_trichotomy (rk B a (sN B)) (rk B b (sN B)) with g | g | g
      · have := e2.2 g; omega
      · exact g
      · have := e1.2 g; omega
noncomputable def ixE (B : Bk) (n : Nat) : Option Nat := @dite _ (∃ o, ST B n (sN B) o) (Classical.propDecidable _) (fun h => Classical.choose h) (fun _ => none)
theorem ixE_eq {B : Bk} (hI : Inv B) {n : Nat} {o : Option Nat} (h : ST B n (sN B) o) : ixE B n = o := by
  unfold ixE
  have hx : ∃ o, ST B n (sN B) o := ⟨o, h⟩
  rw [dif_pos hx]
  exact ST_uniq hI (Classical.choose_spec hx) h
def goB (B : Bk) : Bool := (bP B).isSome && decide ((crs B).1 < bE B)
theorem gI_go (B : Bk) : gI B = bI (goB B) := by
  unfold gI goB
  cases bP B with
  | none => rfl
  | some d =>
    dsimp only [Option.isSome]
    by_cases h : (crs B).1 < bE B
    · rw [if_pos h, decide_eq_true h]; rfl
    · rw [if_neg h, decide_eq_false h]; rfl
theorem lI_dec (a : Nat) : nI a + Int32.ofInt (-1) = lI a := by
  show nI a + (-1) = nI a - 1
  rw [Int32.sub_eq_add_neg]
/-- the first best day by form -/
def bfW (B : Bk) : Nat → Nat
  | 0 => 0
  | d + 1 => if formS B (bfW B d) < formS B (d + 1) then d + 1 else bfW B d
theorem bfW_le (B : Bk) : ∀ i, bfW B i ≤ i
  | 0 => Nat.le_refl _
  | d + 1 => by have := bfW_le B d; simp only [bfW]; split <;> omega
/-- the fewest days on which a form is come to, from 200 down -/
def dfF (B : Bk) (v : Int32) : Nat → Option Nat
  | 0 => none
  | k + 1 => if v ≤ formS B (bD B + (200 - k)) then some (200 - k) else dfF B v k
theorem dfF_le {B : Bk} {v : Int32} : ∀ k, k ≤ 201 → ∀ x, dfF B v k = some x → x ≤ 200
  | 0, _, x, h => by simp [dfF] at h
  | k + 1, hk, x, h => by
    simp only [dfF] at h
    split at h
    · cases h; omega
    · exact dfF_le k (by omega) x h
def q1 (o : Option Nat) (g : Nat → Int32) : Nat × Int32 := match o with | none => (1, 0) | some d => (0, g d)
def q_today (B : Bk) : Nat × Int32 := (0, nI (bD B))
def q_testCount (B : Bk) : Nat × Int32 := (0, nI (tN B))
def q_sessionCount (B : Bk) : Nat × Int32 := (0, nI (sN B))
def q_thr (B : Bk) (v : Int32) : Nat × Int32 := q1 (inR v 0 199) (fun d => nI (thr B d))
def q_bound (B : Bk) (v : Int32) : Nat × Int32 := q1 (inR v 2 5) (fun z => nI (bB B z))
def q_weight (B : Bk) (v : Int32) : Nat × Int32 := q1 (inR v 1 5) (fun z => nI (bW B z))
def q_zone (B : Bk) (v w : Int32) : Nat × Int32 := match inR v 0 199, inR w 0 500 with | some d, some i => (0, nI (zoneX B d i)) | _, _ => (1, 0)
noncomputable def q_sAt (B : Bk) (v : Int32) : Nat × Int32 := q1 (inL v (sN B)) (fun q => nI (sId (sAt B (ixR B q))))
noncomputable def q_dayOf (B : Bk) (id : Int32) : Nat × Int32 := q1 (ixS B id) (fun k => nI (sDay (sAt B k)))
noncomputable def q_minOf (B : Bk) (id : Int32) : Nat × Int32 := q1 (ixS B id) (fun k => nI (minOf (sAt B k)))
noncomputable def q_minZ (B : Bk) (id z : Int32) : Nat × Int32 := match ixS B id with | none => (1, 0) | some k => match inR z 1 5 with | none => (2, 0) | some y => (0, nI (zMin B (sAt B k) y))
noncomputable def q_loadOf (B : Bk) (id : Int32) : Nat × Int32 := q1 (ixS B id) (fun k => nI (loadS B (sAt B k)))
def q_loadOn (B : Bk) (v : Int32) : Nat × Int32 := q1 (inR v 0 (bD B)) (fun d => nI (loadD B d))
def q_fit (B : Bk) (v : Int32) : Nat × Int32 := q1 (inR v 0 (bD B)) (fun d => decay 42 (loadD B) (d + 1))
def q_fat (B : Bk) (v : Int32) : Nat × Int32 := q1 (inR v 0 (bD B)) (fun d => decay 7 (loadD B) (d + 1))
def q_form (B : Bk) (v : Int32) : Nat × Int32 := q1 (inR v 0 (bD B)) (fun d => formS B d)
def q_bestForm (B : Bk) : Nat × Int32 := (0, nI (bfW B (bD B)))
def q_daysTo (B : Bk) (v : Int32) : Nat × Int32 := if (-100000) ≤ v ∧ v ≤ nI 100000 then (match dfF B v 201 with | none => (2, 0) | some n => (0, nI n)) else (1, 0)
def q_row (B : Bk) (v : Int32) (g : Nat → Int32) : Nat × Int32 := match inR v 1 60 with | none => (1, 0) | some n => if bD B + 1 < n then (2, 0) else (0, g n)
def q_bestDays (B : Bk) (v : Int32) : Nat × Int32 := q_row B v (fun n => nI (rowS B (bestW B n (bD B + 1 - n)) n))
def q_bestStart (B : Bk) (v : Int32) : Nat × Int32 := q_row B v (fun n => nI (bestW B n (bD B + 1 - n)))
noncomputable def q_eff (B : Bk) (v : Int32) (g : Nat → Nat → Int32) : Nat × Int32 := match inR v 1 240 with | none => (1, 0) | some n => match ixE B n with | none => (2, 0) | some k => (0, g n k)
noncomputable def q_bestEff (B : Bk) (v : Int32) : Nat × Int32 := q_eff B v (fun n k => lI (effS (sAt B k) n))
noncomputable def q_bestEffS (B : Bk) (v : Int32) : Nat × Int32 := q_eff B v (fun _ k => nI (sId (sAt B k)))
def q_target (B : Bk) (v : Int32) : Nat × Int32 := q1 (inL v (bE B)) (fun j => nI (bG B j))
def q_due (B : Bk) : Nat × Int32 := if goB B = true then (0, nI (crs B).1) else (1, 0)
def q_missed (B : Bk) : Nat × Int32 := (0, nI (crs B).2.1)
def q_dropped (B : Bk) : Nat × Int32 := (0, nI (crs B).2.2.1)
def q_end (B : Bk) : Nat × Int32 := if goB B = true then (0, nI (bD B + bE B) - nI 1 - nI (crs B).1) else (1, 0)
def q_over (B : Bk) : Nat × Int32 := (0, bI (!goB B && (bP B).isSome))
/-! the two answers in floating point -/
theorem mean_num (a : Int32) {b : Int32} (hb : b ≠ 0) : vf_n64 (FP.ddiv (FP.i2d a) (FP.i2d b)) := div_num64 a hb
theorem share_num (a : Int32) {b : Int32} (hb : b ≠ 0) : vf_n32 (FP.fdiv (FP.i2f a) (FP.i2f b)) := div_num32 a hb
theorem share_num2 (a : Int32) {b : Int32} (hb : b ≠ 0) : vf_n64 (FP.f2d (FP.fdiv (FP.i2f a) (FP.i2f b))) := share_num2' a hb
def allM (B : Bk) : Nat := psum (fun k => minOf (sAt B k)) (sN B)
def zAll (B : Bk) (z : Nat) : Nat := psum (fun k => zMin B (sAt B k) z) (sN B)
def zAF (B : Bk) (k : Nat) : Nat → Int32 := fun z => nI (psum (fun k => zMin B (sAt B k) z) k)
theorem zAF_s (B : Bk) (k : Nat) : zAdd (zAF B k) B (sAt B k) (nP (sAt B k)) = zAF B (k + 1) := by
  funext z
  show nI _ + nI _ = nI _
  rw [nadd rfl]
  rfl
theorem allM_le {B : Bk} (hI : Inv B) : allM B ≤ 240 * sN B := psum_le (fun j hj => (iv_ses hI hj).2.2.2.1)
def q_share (B : Bk) (v : Int32) : Nat × UInt32 := match inR v 1 5 with | none => (1, 0) | some z => if allM B = 0 then (2, 0) else (0, FP.fdiv (FP.i2f (nI (zAll B z))) (FP.i2f (nI (allM B))))
def sumL (B : Bk) : Nat := psum (fun d => loadD B d) (bD B + 1)
def q_mean (B : Bk) : Nat × UInt64 := (0, FP.ddiv (FP.i2d (nI (sumL B))) (FP.i2d (nI (bD B + 1))))
theorem inL_zero (v : Int32) : inL v 0 = none := inL_none (fun ⟨h1, h2⟩ => by
  have h3 := Int32.le_iff_toInt_le.mp h1
  have h4 := Int32.le_iff_toInt_le.mp h2
  rw [nI_toInt (by omega)] at h3
  rw [lI_toInt (by omega)] at h4
  omega)
def q_line (lc : Nat → Nat) (w : Nat) (v : Int32) : Nat × Int32 := q1 (inL v w) (fun j => nI (lc j))
def wkF (B : Bk) (d j : Nat) : Nat := if j % 2 = 1 then 32 else signS B (d + j / 2)
theorem wkF_lt (B : Bk) (d j : Nat) : wkF B d j < 65536 := by unfold wkF; split; omega; exact signS_lt _ _
def WeekP (B : Bk) (v : Int32) (nc : Nat → Nat) (w9 : Nat) (th : Nat) (rr : Int32) (nc2 : Nat → Nat) (w2 : Nat) : Prop :=
  match inR v 0 (bD B) with
  | none => th = 1 ∧ nc2 = nc ∧ w2 = w9
  | some d => th = 0 ∧ rr = nI 13 ∧ nc2 = wkF B d ∧ w2 = 13
/-- the state at the beginning -/
def bW0 (z : Nat) : Nat := if z = 1 then 1 else if z = 2 then 2 else if z = 3 then 3 else if z = 4 then 5 else if z = 5 then 8 else 0
def B0 : Bk := ([], [], fun z => 60 + 10 * z, bW0, fun _ => 0, 0, 0, none, 0)
theorem Inv_B0 : Inv B0 := by
  refine ⟨Nat.zero_le _, Nat.zero_le _, Nat.zero_le _, Nat.zero_le _, Nat.zero_le _, fun z h1 h2 => ?_, fun z h1 h2 => ?_, fun z h1 h2 => ?_, fun j h => absurd h (Nat.not_lt_zero _), fun k h => absurd h (Nat.not_lt_zero _), fun j k h => absurd h (Nat.not_lt_zero _), fun k h => absurd h (Nat.not_lt_zero _), fun j k h => absurd h (Nat.not_lt_zero _), fun d h => (by cases h), fun _ => rfl⟩
  · show 1 ≤ 60 + 10 * z ∧ 60 + 10 * z ≤ 300; omega
  · show 60 + 10 * z < 60 + 10 * (z + 1); omega
  · show bW0 z ≤ 100
    unfold bW0
    split; omega; split; omega; split; omega; split; omega; split <;> omega
theorem MR_B0 {f : Nat → Int32} (h0 : f 0 = nI 0) (h1 : f 1 = nI 0) (h2 : f 2 = nI 0) (h3 : f 3 = nI 0) (h4 : f 4 = nI 0) (h6 : f 6 = nI 0) (hb : ∀ z, 2 ≤ z → z ≤ 5 → f (8 + z) = nI (60 + 10 * z)) (hw : ∀ z, 1 ≤ z → z ≤ 5 → f (14 + z) = nI (bW0 z)) : MR f B0 :=
  ⟨h0, h1, h2, h3, h4, fun d h => (by cases h), h6, hb, hw, fun k h => absurd h (Nat.not_lt_zero _), fun j h => absurd h (Nat.not_lt_zero _), fun k h => absurd h (Nat.not_lt_zero _)⟩
