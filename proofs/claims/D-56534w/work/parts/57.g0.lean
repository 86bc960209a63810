/-! THE TWO DIARIES BESIDE EACH OTHER: the component's state, the model's -/
set_option maxRecDepth 100000
def SimO : Option Bk → Option Bk → Prop
  | none, none => True
  | some P, some Q => Sim P Q
  | _, _ => False
theorem SimO.none_iff {a b : Option Bk} (h : SimO a b) : a = none ↔ b = none := by
  cases a <;> cases b <;> first | exact ⟨fun _ => rfl, fun _ => rfl⟩ | exact False.elim h | exact ⟨fun z => nomatch z, fun z => nomatch z⟩
theorem SimO.some {P : Bk} {b : Option Bk} (h : SimO (some P) b) : ∃ Q, b = Option.some Q ∧ Sim P Q := by
  cases b with
  | none => exact False.elim h
  | some Q => exact ⟨Q, rfl, h⟩
def LawI (C M : DS) (N : Nat) : Prop := Sim (dC C) (dC M) ∧ SimO (dS C) (dS M) ∧ dK C = dK M ∧ dK C ≤ 6 ∧ (∀ j, j < dK C → Sim (dH C j) (dH M j)) ∧ dN C = dN M ∧ (∀ j, j < dN C → dL C j = dL M j)
  ∧ bI9 (dC C) ≤ N ∧ (∀ P, dS C = some P → bI9 P ≤ N) ∧ ∀ j, j < dK C → bI9 (dH C j) ≤ N
theorem LawI.up {C M : DS} {N : Nat} (h : LawI C M N) : LawI C M (N + 1) := by
  obtain ⟨h1, h2, h3, h4, h5, h6, h7, h8, h9, h10⟩ := h
  exact ⟨h1, h2, h3, h4, h5, h6, h7, by omega, fun P e => by have := h9 P e; omega, fun j hj => by have := h10 j hj; omega⟩
theorem hsR_rel {R : Bk → Bk → Prop} {k : Nat} {x y : Bk} {f g : Nat → Bk} (h : ∀ j, j < k → R (f j) (g j)) (h2 : R x y) (hk : k ≤ 6) : ∀ j, j < min 6 (k + 1) → R (hsR f k x j) (hsR g k y j) := by
  have hA : ∀ j, j < k + 1 → R (hsA f k x j) (hsA g k y j) := fun j hj => by
    unfold hsA
    by_cases e : j = k
    · rw [if_pos e, if_pos e]; exact h2
    · rw [if_neg e, if_neg e]; exact h j (by omega)
  intro j hj
  unfold hsR
  by_cases c : k < 6
  · rw [if_pos c, if_pos c]; exact hA j (by omega)
  · rw [if_neg c, if_neg c]; exact hA (j + 1) (by omega)
theorem LawI.mut {C M C2 : DS} {N : Nat} {qc qm : Rs} (h : LawI C M N) (hr : SimR qc qm) (hN : NxS C qc C2) (hb : bI9 qc.2.2 ≤ bI9 (dC C) + 1) :
    LawI C2 (if qm.1 = 0 then ((qm.2.2, dS M, min 6 (dK M + 1), hsR (dH M) (dK M) (dC M), dL M, dN M) : DS) else M) (N + 1) := by
  by_cases c : qc.1 = 0
  · obtain ⟨B2, hs, rfl⟩ := hN.2 c
    rw [if_pos (hr.1.symm.trans c)]
    obtain ⟨h1, h2, h3, h4, h5, h6, h7, h8, h9, h10⟩ := h
    have e := hs.bI9
    refine ⟨hs.symm.trans hr.2.2, h2, ?_, Nat.min_le_left _ _, ?_, h6, h7, ?_, fun P e => by have := h9 P e; omega, ?_⟩
    · show min 6 (dK C + 1) = min 6 (dK M + 1)
      rw [h3]
    · show ∀ j, j < min 6 (dK C + 1) → Sim (hsR (dH C) (dK C) (dC C) j) (hsR (dH M) (dK M) (dC M) j)
      rw [← h3]
      exact hsR_rel (R := Sim) h5 h1 h4
    · show bI9 B2 ≤ N + 1
      omega
    · show ∀ j, j < min 6 (dK C + 1) → bI9 (hsR (dH C) (dK C) (dC C) j) ≤ N + 1
      exact hsR_rel (R := fun a _ => bI9 a ≤ N + 1) (g := dH C) (y := dC C) (fun j hj => by have := h10 j hj; omega) (by omega) h4
  · rw [hN.1 c, if_neg (fun z => c (hr.1.trans z))]
    exact h.up
theorem LawI.undo {C M : DS} {N : Nat} (h : LawI C M N) (h0 : 0 < dK C) : LawI ((dH C (dK C - 1), dS C, dK C - 1, dH C, dL C, dN C) : DS) ((dH M (dK M - 1), dS M, dK M - 1, dH M, dL M, dN M) : DS) (N + 1) := by
  obtain ⟨h1, h2, h3, h4, h5, h6, h7, h8, h9, h10⟩ := h.up
  refine ⟨?_, h2, ?_, ?_, fun j hj => h5 j ?_, h6, h7, h10 (dK C - 1) (by omega), h9, fun j hj => h10 j ?_⟩
  · show Sim (dH C (dK C - 1)) (dH M (dK M - 1))
    rw [← h3]
    exact h5 _ (by omega)
  · show dK C - 1 = dK M - 1
    omega
  · show dK C - 1 ≤ 6
    omega
  · have : j < dK C - 1 := hj
    omega
  · have : j < dK C - 1 := hj
    omega
theorem LawI.save {C M : DS} {N : Nat} (h : LawI C M N) : LawI ((dC C, some (dC C), dK C, dH C, dL C, dN C) : DS) ((dC M, some (dC M), dK M, dH M, dL M, dN M) : DS) (N + 1) := by
  obtain ⟨h1, h2, h3, h4, h5, h6, h7, h8, h9, h10⟩ := h.up
  exact ⟨h1, h1, h3, h4, h5, h6, h7, h8, fun P e => by cases e; exact h8, h10⟩
theorem LawI.restore {C M : DS} {N : Nat} {P Q : Bk} (h : LawI C M N) (hP : dS C = some P) (hQ : dS M = some Q) : LawI ((P, dS C, 0, dH C, dL C, dN C) : DS) ((Q, dS M, 0, dH M, dL M, dN M) : DS) (N + 1) := by
  obtain ⟨h1, h2, h3, h4, h5, h6, h7, h8, h9, h10⟩ := h.up
  have hs : Sim P Q := by rw [hP, hQ] at h2; exact h2
  exact ⟨hs, h2, rfl, Nat.zero_le _, fun j hj => absurd hj (Nat.not_lt_zero _), h6, h7, h9 P hP, h9, fun j hj => absurd hj (Nat.not_lt_zero _)⟩
theorem LawI.week {C M : DS} {N z : Nat} (h : LawI C M N) (hI : Inv (dC C)) : LawI ((dC C, dS C, dK C, dH C, wkF (dC C) z, 13) : DS) ((dC M, dS M, dK M, dH M, wkF (dC M) z, 13) : DS) (N + 1) := by
  obtain ⟨h1, h2, h3, h4, h5, h6, h7, h8, h9, h10⟩ := h.up
  exact ⟨h1, h2, h3, h4, h5, rfl, fun j _ => wkF_sim h1 hI z j, h8, h9, h10⟩
theorem LawI.line {C M : DS} {N : Nat} (h : LawI C M N) (hn : dN C < 2 ^ 31) (v : Int32) : q_line (dL C) (dN C) v = q_line (dL M) (dN M) v := by
  obtain ⟨h1, h2, h3, h4, h5, h6, h7, h8, h9, h10⟩ := h
  unfold q_line q1
  rw [← h6]
  cases hi : inL v (dN C) with
  | none => rfl
  | some j =>
    have hj : j < dN C := by
      by_cases hv : nI 0 ≤ v ∧ v ≤ lI (dN C)
      · obtain ⟨n, e1, e2⟩ := inL_nat hn hv.1 hv.2
        rw [inL_some e1 e2 hn] at hi
        cases hi
        exact e2
      · rw [inL_none hv] at hi
        exact nomatch hi
    dsimp only
    rw [h7 j hj]
theorem LawI.first : LawI ((B0, none, 0, fun _ => B0, fun _ => 0, 0) : DS) ((B0, none, 0, fun _ => B0, fun _ => 0, 0) : DS) 0 :=
  ⟨Sim.rf _, trivial, rfl, Nat.zero_le _, fun _ _ => Sim.rf _, rfl, fun _ _ => rfl, Nat.le_refl _, fun P e => nomatch e, fun j hj => absurd hj (Nat.not_lt_zero _)⟩
theorem o_pass_b (B : Bk) (v : Int32) : bI9 (o_pass B v).2.2 ≤ bI9 B + 1 := by
  unfold o_pass
  repeat' split
  all_goals first | exact Nat.le_succ _ | exact Nat.le_refl _
theorem o_addTest_b (B : Bk) (d h : Int32) : bI9 (o_addTest B d h).2.2 ≤ bI9 B + 1 := by
  unfold o_addTest
  repeat' split
  all_goals first | exact Nat.le_succ _ | exact Nat.le_refl _
theorem o_remTest_b (B : Bk) (d : Int32) : bI9 (o_remTest B d).2.2 ≤ bI9 B + 1 := by
  unfold o_remTest
  repeat' split
  all_goals first | exact Nat.le_succ _ | exact Nat.le_refl _
theorem o_setBound_b (B : Bk) (z p : Int32) : bI9 (o_setBound B z p).2.2 ≤ bI9 B + 1 := by
  unfold o_setBound
  repeat' split
  all_goals first | exact Nat.le_succ _ | exact Nat.le_refl _
theorem o_setWeight_b (B : Bk) (z p : Int32) : bI9 (o_setWeight B z p).2.2 ≤ bI9 B + 1 := by
  unfold o_setWeight
  repeat' split
  all_goals first | exact Nat.le_succ _ | exact Nat.le_refl _
theorem o_addSes_b (B : Bk) (d : Int32) : bI9 (o_addSes B d).2.2 ≤ bI9 B + 1 := by
  unfold o_addSes
  repeat' split
  all_goals first | exact Nat.le_succ _ | exact Nat.le_refl _
theorem o_addPart_b (B : Bk) (id mn it : Int32) : bI9 (o_addPart B id mn it).2.2 ≤ bI9 B + 1 := by
  unfold o_addPart
  repeat' split
  all_goals first | exact Nat.le_succ _ | exact Nat.le_refl _
theorem o_clear_b (B : Bk) (id : Int32) : bI9 (o_clear B id).2.2 ≤ bI9 B + 1 := by
  unfold o_clear
  repeat' split
  all_goals first | exact Nat.le_succ _ | exact Nat.le_refl _
theorem o_move_b (B : Bk) (id d : Int32) : bI9 (o_move B id d).2.2 ≤ bI9 B + 1 := by
  unfold o_move
  repeat' split
  all_goals first | exact Nat.le_succ _ | exact Nat.le_refl _
theorem o_remSes_b (B : Bk) (id : Int32) : bI9 (o_remSes B id).2.2 ≤ bI9 B + 1 := by
  unfold o_remSes
  repeat' split
  all_goals first | exact Nat.le_succ _ | exact Nat.le_refl _
theorem o_start_b (B : Bk) : bI9 (o_start B).2.2 ≤ bI9 B + 1 := by
  unfold o_start
  repeat' split
  all_goals first | exact Nat.le_succ _ | exact Nat.le_refl _
theorem o_addTarget_b (B : Bk) (v : Int32) : bI9 (o_addTarget B v).2.2 ≤ bI9 B + 1 := by
  unfold o_addTarget
  repeat' split
  all_goals first | exact Nat.le_succ _ | exact Nat.le_refl _
