/-! PURE: what changes the state keeps the ranges, and doesn't ask for the lists' order -/
set_option maxRecDepth 100000
section LISTS
variable {α : Type} {l : List α} {x d : α} {p j k : Nat}
theorem insD_lt (h : j < p) : (l.insertIdx p x).getD j d = l.getD j d := by rw [List.getD_eq_getElem?_getD, List.getD_eq_getElem?_getD, List.getElem?_insertIdx_of_lt h]
theorem insD_eq (h : p ≤ l.length) : (l.insertIdx p x).getD p d = x := by rw [List.getD_eq_getElem?_getD, List.getElem?_insertIdx_self, if_pos h]; rfl
theorem insD_gt (h : p < j) : (l.insertIdx p x).getD j d = l.getD (j - 1) d := by rw [List.getD_eq_getElem?_getD, List.getD_eq_getElem?_getD, List.getElem?_insertIdx_of_gt h]
theorem erD_lt (h : j < p) : (l.eraseIdx p).getD j d = l.getD j d := by rw [List.getD_eq_getElem?_getD, List.getD_eq_getElem?_getD, List.getElem?_eraseIdx_of_lt h]
theorem erD_ge (h : p ≤ j) : (l.eraseIdx p).getD j d = l.getD (j + 1) d := by rw [List.getD_eq_getElem?_getD, List.getD_eq_getElem?_getD, List.getElem?_eraseIdx_of_ge h]
theorem set_perm (h : k < l.length) : (l.set k x).Perm (x :: l.eraseIdx k) := by
  rw [List.set_eq_take_append_cons_drop, if_pos h, List.eraseIdx_eq_take_drop_succ]
  exact List.perm_middle
theorem era_perm (h : k < l.length) : l.Perm (l[k] :: l.eraseIdx k) := by
  have h1 := set_perm (x := l[k]) h
  rw [List.set_getElem_self] at h1
  exact h1
theorem ins_perm (h : p ≤ l.length) : (l.insertIdx p x).Perm (l ++ [x]) := (List.perm_insertIdx x l h).trans (List.perm_append_singleton x l).symm
end LISTS
theorem swp_perm {l : List (Nat × Nat)} {t : Nat} (h : t < l.length) : (swp l t).Perm (l.eraseIdx t) := by
  have hn : l ≠ [] := fun e => by rw [e] at h; exact absurd h (Nat.not_lt_zero _)
  obtain ⟨m, z, rfl⟩ : ∃ m z, l = m ++ [z] := ⟨l.dropLast, l.getLast hn, (List.dropLast_concat_getLast hn).symm⟩
  have e1 : (m ++ [z]).getD ((m ++ [z]).length - 1) (0, 0) = z := by
    rw [List.getD_eq_getElem?_getD, List.length_append, List.length_singleton, Nat.add_sub_cancel, List.getElem?_append_right (Nat.le_refl _), Nat.sub_self]
    rfl
  unfold swp
  rw [e1]
  rw [List.length_append, List.length_singleton] at h
  rcases Nat.lt_or_ge t m.length with g | g
  · rw [List.set_append_left _ _ g, List.dropLast_concat, List.eraseIdx_append_of_lt_length g]
    exact (set_perm g).trans (List.perm_append_singleton z _).symm
  · have e : t = m.length := by omega
    subst e
    rw [List.set_append_right _ _ (Nat.le_refl _), Nat.sub_self, List.eraseIdx_append_of_length_le (Nat.le_refl _), Nat.sub_self]
    show ((m ++ [z]).dropLast).Perm (m ++ [])
    rw [List.dropLast_concat, List.append_nil]
/-! the ranges -/
theorem Inv_wT {B : Bk} (hI : Inv B) {L : List (Nat × Nat)} (h1 : L.length ≤ 10) (h2 : ∀ x ∈ L, x.1 ≤ bD B ∧ 50 ≤ x.2 ∧ x.2 ≤ 400) (h3 : (L.map Prod.fst).Nodup) : Inv (wT B L) := by
  obtain ⟨-, g2, g3, g4, g5, g6, g7, g8, g9, -, -, g12, g13, g14, g15⟩ := Inv_iff.mp hI
  exact Inv_iff.mpr ⟨h1, g2, g3, g4, g5, g6, g7, g8, g9, h2, h3, g12, g13, g14, g15⟩
theorem Inv_wS {B : Bk} (hI : Inv B) {L : List Sess} (h1 : L.length ≤ 40) (h2 : ∀ x ∈ L, InvS B x) (h3 : (L.map sId).Nodup) : Inv (wS B L) := by
  obtain ⟨g1, -, g3, g4, g5, g6, g7, g8, g9, g10, g11, -, -, g14, g15⟩ := Inv_iff.mp hI
  exact Inv_iff.mpr ⟨g1, h1, g3, g4, g5, g6, g7, g8, g9, g10, g11, h2, h3, g14, g15⟩
theorem Inv_remTest {B : Bk} (hI : Inv B) {t : Nat} (ht : t < tN B) : Inv (wT B ((bT B).eraseIdx t)) := by
  obtain ⟨g1, -, -, -, -, -, -, -, -, g10, g11, -⟩ := Inv_iff.mp hI
  have hp := era_perm (l := bT B) (k := t) ht
  refine Inv_wT hI (by rw [List.length_eraseIdx]; split <;> omega) (fun x hx => g10 x (hp.mem_iff.mpr (List.mem_cons_of_mem _ hx))) ?_
  have := (hp.map Prod.fst).nodup g11
  rw [List.map_cons, List.nodup_cons] at this
  exact this.2
theorem Inv_remSes {B : Bk} (hI : Inv B) {t : Nat} (ht : t < sN B) : Inv (wS B ((bS B).eraseIdx t)) := by
  obtain ⟨-, g2, -, -, -, -, -, -, -, -, -, g12, g13, -⟩ := Inv_iff.mp hI
  have hp := era_perm (l := bS B) (k := t) ht
  refine Inv_wS hI (by rw [List.length_eraseIdx]; split <;> omega) (fun x hx => g12 x (hp.mem_iff.mpr (List.mem_cons_of_mem _ hx))) ?_
  have := (hp.map sId).nodup g13
  rw [List.map_cons, List.nodup_cons] at this
  exact this.2
theorem Inv_set {B : Bk} (hI : Inv B) {k : Nat} (hk : k < sN B) {x : Sess} (hx : InvS B x) (he : sId x = sId (sAt B k)) : Inv (wS B ((bS B).set k x)) := by
  obtain ⟨-, g2, -, -, -, -, -, -, -, -, -, g12, g13, -⟩ := Inv_iff.mp hI
  have hp := era_perm (l := bS B) (k := k) hk
  have hq := set_perm (l := bS B) (k := k) (x := x) hk
  refine Inv_wS hI (by rw [List.length_set]; exact g2) (fun y hy => ?_) ?_
  · rcases List.mem_cons.mp (hq.mem_iff.mp hy) with e | e
    · rw [e]; exact hx
    · exact g12 y (hp.mem_iff.mpr (List.mem_cons_of_mem _ e))
  · refine (hq.map sId).symm.nodup ?_
    rw [List.map_cons, he, sAt_g hk, ← List.map_cons]
    exact (hp.map sId).nodup g13
theorem Inv_clear {B : Bk} (hI : Inv B) {k : Nat} (hk : k < sN B) : Inv (wS B ((bS B).set k (sId (sAt B k), sDay (sAt B k), []))) := by
  obtain ⟨a, b, -⟩ := iv_ses hI hk
  exact Inv_set hI hk ⟨a, b, Nat.zero_le _, Nat.zero_le _, fun p hp => absurd hp (Nat.not_lt_zero _)⟩ rfl
theorem Inv_move {B : Bk} (hI : Inv B) {k d : Nat} (hk : k < sN B) (hd : d ≤ bD B) : Inv (wS B ((bS B).set k (sId (sAt B k), d, (sAt B k).2.2))) := by
  obtain ⟨a, b, c⟩ := iv_ses hI hk
  exact Inv_set hI hk ⟨a, hd, c⟩ rfl
theorem minOf_addP (x : Sess) (m i : Nat) : minOf (addP x m i) = minOf x + m := by
  unfold minOf
  rw [addP_n, psum_s, (addP_new x m i).1, psum_congr (fun j hj => (addP_old hj).1)]
theorem Inv_addPart {B : Bk} (hI : Inv B) {k m i : Nat} (hk : k < sN B) (h8 : nP (sAt B k) < 8) (hm : 1 ≤ m ∧ m ≤ 120) (hi : i ≤ 500) (hs : minOf (sAt B k) + m ≤ 240) : Inv (wS B ((bS B).set k (addP (sAt B k) m i))) := by
  obtain ⟨a, b, c, e, f⟩ := iv_ses hI hk
  refine Inv_set hI hk ⟨a, b, by rw [addP_n]; omega, by rw [minOf_addP]; exact hs, fun p hp => ?_⟩ rfl
  rw [addP_n] at hp
  rcases Nat.lt_succ_iff_lt_or_eq.mp hp with g | g
  · rw [(addP_old g).1, (addP_old g).2]; exact f p g
  · subst g; rw [(addP_new _ _ _).1, (addP_new _ _ _).2]; exact ⟨hm.1, hm.2, hi⟩
theorem Inv_addSes {B : Bk} (hI : Inv B) {d : Nat} (hs : sN B < 40) (hd : d ≤ bD B) (hi : bI9 B < 1000000) : Inv (wI (wS B (bS B ++ [(bI9 B, d, [])])) (bI9 B + 1)) := by
  obtain ⟨g1, g2, g3, g4, g5, g6, g7, g8, g9, g10, g11, g12, g13, g14, g15⟩ := Inv_iff.mp hI
  have mn : ∀ {x}, InvS B x → InvS (wI (wS B (bS B ++ [(bI9 B, d, [])])) (bI9 B + 1)) x := fun {x} hx => ⟨Nat.lt_succ_of_lt hx.1, hx.2⟩
  refine Inv_iff.mpr ⟨g1, ?_, g3, hi, g5, g6, g7, g8, g9, g10, g11, fun x hx => ?_, ?_, g14, g15⟩
  · show (bS B ++ [(bI9 B, d, [])]).length ≤ 40
    rw [List.length_append]
    exact hs
  · rcases List.mem_append.mp (show x ∈ bS B ++ [(bI9 B, d, [])] from hx) with e | e
    · exact mn (g12 x e)
    · rw [List.mem_singleton.mp e]
      exact ⟨Nat.lt_succ_self _, hd, Nat.zero_le _, Nat.zero_le _, fun p hp => absurd hp (Nat.not_lt_zero _)⟩
  · show ((bS B ++ [(bI9 B, d, [])]).map sId).Nodup
    rw [List.map_append, List.nodup_append]
    refine ⟨g13, by simp, fun a ha b hb => ?_⟩
    obtain ⟨x, hx, rfl⟩ := List.mem_map.mp ha
    rw [List.map_singleton, List.mem_singleton] at hb
    rw [hb]
    exact Nat.ne_of_lt (g12 x hx).1
theorem Inv_pass {B : Bk} (hI : Inv B) {n : Nat} (hn : bD B + n ≤ 199) : Inv (wD B (bD B + n)) := by
  obtain ⟨g1, g2, g3, g4, g5, g6, g7, g8, g9, g10, g11, g12, g13, g14, g15⟩ := Inv_iff.mp hI
  refine Inv_iff.mpr ⟨g1, g2, hn, g4, g5, g6, g7, g8, g9, fun x hx => ?_, g11, fun x hx => ?_, g13, fun d hd => ?_, g15⟩
  · have := g10 x hx
    exact ⟨Nat.le_trans this.1 (Nat.le_add_right _ _), this.2⟩
  · have := g12 x hx
    exact ⟨this.1, Nat.le_trans this.2.1 (Nat.le_add_right _ _), this.2.2⟩
  · exact Nat.le_trans (g14 d hd) (Nat.le_add_right _ _)
theorem Inv_setBound {B : Bk} (hI : Inv B) {z p : Nat} (hz : 2 ≤ z ∧ z ≤ 5) (hp : 1 ≤ p ∧ p ≤ 300) (hn : ¬ ((2 < z ∧ p ≤ bB B (z - 1)) ∨ (z < 5 ∧ bB B (z + 1) ≤ p))) : Inv (wB B (updN (bB B) z p)) := by
  obtain ⟨g1, g2, g3, g4, g5, g6, g7, g8, g9, g10, g11, g12, g13, g14, g15⟩ := hI
  refine ⟨g1, g2, g3, g4, g5, fun y h1 h2 => ?_, fun y h1 h2 => ?_, g8, g9, g10, g11, g12, g13, g14, g15⟩
  · show 1 ≤ updN (bB B) z p y ∧ updN (bB B) z p y ≤ 300
    by_cases e : y = z
    · rw [e, updN_s]; exact hp
    · rw [updN_n e]; exact g6 y h1 h2
  · show updN (bB B) z p y < updN (bB B) z p (y + 1)
    by_cases e : y = z
    · subst e
      rw [updN_s, updN_n (by omega)]
      omega
    · rw [updN_n e]
      by_cases e2 : y + 1 = z
      · rw [e2, updN_s]
        have : y = z - 1 := by omega
        rw [this]
        omega
      · rw [updN_n e2]; exact g7 y h1 h2
theorem Inv_setWeight {B : Bk} (hI : Inv B) {z p : Nat} (hp : p ≤ 100) : Inv (wW B (updN (bW B) z p)) := by
  obtain ⟨g1, g2, g3, g4, g5, g6, g7, g8, g9, g10, g11, g12, g13, g14, g15⟩ := hI
  refine ⟨g1, g2, g3, g4, g5, g6, g7, fun y h1 h2 => ?_, g9, g10, g11, g12, g13, g14, g15⟩
  show updN (bW B) z p y ≤ 100
  by_cases e : y = z
  · rw [e, updN_s]; exact hp
  · rw [updN_n e]; exact g8 y h1 h2
theorem Inv_start {B : Bk} (hI : Inv B) : Inv (wE (wP B (some (bD B))) 0) := by
  obtain ⟨g1, g2, g3, g4, g5, g6, g7, g8, g9, g10, g11, g12, g13, g14, g15⟩ := hI
  exact ⟨g1, g2, g3, g4, Nat.zero_le _, g6, g7, g8, fun j hj => absurd hj (Nat.not_lt_zero _), g10, g11, g12, g13, fun d hd => by
    have e : some (bD B) = some d := hd
    rw [← Option.some.inj e]
    exact Nat.le_refl _, fun e => nomatch (show some (bD B) = none from e)⟩
theorem Inv_addTarget {B : Bk} (hI : Inv B) {x : Nat} (he : bE B < 28) (hx : x ≤ 20000) (hp : bP B ≠ none) : Inv (wE (wG B (updN (bG B) (bE B) x)) (bE B + 1)) := by
  obtain ⟨g1, g2, g3, g4, g5, g6, g7, g8, g9, g10, g11, g12, g13, g14, g15⟩ := hI
  refine ⟨g1, g2, g3, g4, he, g6, g7, g8, fun j hj => ?_, g10, g11, g12, g13, g14, fun e => absurd e hp⟩
  show updN (bG B) (bE B) x j ≤ 20000
  have hj2 : j < bE B + 1 := hj
  rcases Nat.lt_succ_iff_lt_or_eq.mp hj2 with e | e
  · rw [updN_n (by omega)]; exact g9 j e
  · rw [e, updN_s]; exact hx
theorem Inv_addTest' {B : Bk} (hI : Inv B) {x y : Nat} (ht : tN B < 10) (hx : x ≤ bD B) (hy : 50 ≤ y ∧ y ≤ 400) {d : Int32} (hd : ixT B d = none) (hv : d = nI x) {p : Nat} (hp : p ≤ tN B) : Inv (wT B ((bT B).insertIdx p (x, y))) :=
  Inv_sim (B := wT B (bT B ++ [(x, y)])) ⟨(ins_perm hp).symm, List.Perm.refl _, rfl⟩ (Inv_addTest hI ht hx hy hd hv)
/-! the same of like states -/
def SimR (a b : Rs) : Prop := a.1 = b.1 ∧ a.2.1 = b.2.1 ∧ Sim a.2.2 b.2.2
section SIM2
theorem Sim_wT {B C : Bk} (h : Sim B C) {L M : List (Nat × Nat)} (hp : L.Perm M) : Sim (wT B L) (wT C M) := ⟨hp, h.2.1, h.2.2⟩
theorem Sim_wS {B C : Bk} (h : Sim B C) {L M : List Sess} (hp : L.Perm M) : Sim (wS B L) (wS C M) := ⟨h.1, hp, h.2.2⟩
theorem Sim_wB {B C : Bk} (h : Sim B C) (x : Nat → Nat) : Sim (wB B x) (wB C x) := ⟨h.1, h.2.1, congrArg (fun r => (x, r.2)) h.2.2⟩
theorem Sim_wW {B C : Bk} (h : Sim B C) (x : Nat → Nat) : Sim (wW B x) (wW C x) := ⟨h.1, h.2.1, congrArg (fun r => (r.1, x, r.2.2)) h.2.2⟩
theorem Sim_wG {B C : Bk} (h : Sim B C) (x : Nat → Nat) : Sim (wG B x) (wG C x) := ⟨h.1, h.2.1, congrArg (fun r => (r.1, r.2.1, x, r.2.2.2)) h.2.2⟩
theorem Sim_wD {B C : Bk} (h : Sim B C) (x : Nat) : Sim (wD B x) (wD C x) := ⟨h.1, h.2.1, congrArg (fun r => (r.1, r.2.1, r.2.2.1, x, r.2.2.2.2)) h.2.2⟩
theorem Sim_wI {B C : Bk} (h : Sim B C) (x : Nat) : Sim (wI B x) (wI C x) := ⟨h.1, h.2.1, congrArg (fun r => (r.1, r.2.1, r.2.2.1, r.2.2.2.1, x, r.2.2.2.2.2)) h.2.2⟩
theorem Sim_wP {B C : Bk} (h : Sim B C) (x : Option Nat) : Sim (wP B x) (wP C x) := ⟨h.1, h.2.1, congrArg (fun r => (r.1, r.2.1, r.2.2.1, r.2.2.2.1, r.2.2.2.2.1, x, r.2.2.2.2.2.2)) h.2.2⟩
theorem Sim_wE {B C : Bk} (h : Sim B C) (x : Nat) : Sim (wE B x) (wE C x) := ⟨h.1, h.2.1, congrArg (fun r => (r.1, r.2.1, r.2.2.1, r.2.2.2.1, r.2.2.2.2.1, r.2.2.2.2.2.1, x)) h.2.2⟩
theorem o_pass_sim {B C : Bk} (h : Sim B C) (hI : Inv B) (v : Int32) : SimR (o_pass B v) (o_pass C v) := by
  unfold o_pass
  rw [h.bD]
  cases inR v 1 30 with
  | none => exact ⟨rfl, rfl, h⟩
  | some n =>
    dsimp only
    split
    · exact ⟨rfl, rfl, h⟩
    · exact ⟨rfl, rfl, Sim_wD h _⟩
theorem o_setBound_sim {B C : Bk} (h : Sim B C) (hI : Inv B) (z p : Int32) : SimR (o_setBound B z p) (o_setBound C z p) := by
  unfold o_setBound
  rw [h.bB]
  cases inR z 2 5 with
  | none => exact ⟨rfl, rfl, h⟩
  | some z =>
    cases inR p 1 300 with
    | none => exact ⟨rfl, rfl, h⟩
    | some p =>
      dsimp only
      split
      · exact ⟨rfl, rfl, h⟩
      · exact ⟨rfl, rfl, Sim_wB h _⟩
theorem o_setWeight_sim {B C : Bk} (h : Sim B C) (hI : Inv B) (z p : Int32) : SimR (o_setWeight B z p) (o_setWeight C z p) := by
  unfold o_setWeight
  rw [h.bW]
  cases inR z 1 5 with
  | none => exact ⟨rfl, rfl, h⟩
  | some z =>
    cases inR p 0 100 with
    | none => exact ⟨rfl, rfl, h⟩
    | some p => exact ⟨rfl, rfl, Sim_wW h _⟩
theorem o_addSes_sim {B C : Bk} (h : Sim B C) (hI : Inv B) (d : Int32) : SimR (o_addSes B d) (o_addSes C d) := by
  unfold o_addSes
  rw [h.bD, h.sN, h.bI9]
  cases inR d 0 (bD C) with
  | none => exact ⟨rfl, rfl, h⟩
  | some d =>
    dsimp only
    split
    · exact ⟨rfl, rfl, h⟩
    · exact ⟨rfl, rfl, Sim_wI (Sim_wS h (h.2.1.append_right _)) _⟩
theorem o_start_sim {B C : Bk} (h : Sim B C) (hI : Inv B) : SimR (o_start B) (o_start C) := by
  unfold o_start
  rw [h.bE, h.bD]
  exact ⟨rfl, rfl, Sim_wE (Sim_wP h _) _⟩
theorem o_addTarget_sim {B C : Bk} (h : Sim B C) (hI : Inv B) (v : Int32) : SimR (o_addTarget B v) (o_addTarget C v) := by
  unfold o_addTarget
  rw [h.bE, h.bP, h.bD, h.bG]
  cases inR v 0 20000 with
  | none => exact ⟨rfl, rfl, h⟩
  | some x =>
    dsimp only
    split
    · exact ⟨rfl, rfl, h⟩
    · exact ⟨rfl, rfl, Sim_wE (Sim_wG h _) _⟩
theorem set_sim {B C : Bk} (h : Sim B C) {k j : Nat} {x : Sess} (hk : k < sN B) (hj : j < sN C) (e : sAt B k = sAt C j) : ((bS B).set k x).Perm ((bS C).set j x) := by
  have h1 := era_perm (l := bS B) (k := k) hk
  have h2 := era_perm (l := bS C) (k := j) hj
  rw [sAt_g hk, sAt_g hj] at e
  have h3 := (h1.symm.trans h.2.1).trans h2
  rw [e] at h3
  exact (set_perm (show k < (bS B).length from hk)).trans ((h3.cons_inv.cons x).trans (set_perm (show j < (bS C).length from hj)).symm)
theorem era_sim {B C : Bk} (h : Sim B C) {k j : Nat} (hk : k < sN B) (hj : j < sN C) (e : sAt B k = sAt C j) : ((bS B).eraseIdx k).Perm ((bS C).eraseIdx j) := by
  have h1 := era_perm (l := bS B) (k := k) hk
  have h2 := era_perm (l := bS C) (k := j) hj
  rw [sAt_g hk, sAt_g hj] at e
  have h3 := (h1.symm.trans h.2.1).trans h2
  rw [e] at h3
  exact h3.cons_inv
theorem eraT_sim {B C : Bk} (h : Sim B C) {k j : Nat} (hk : k < tN B) (hj : j < tN C) (e : tDay B k = tDay C j) (e2 : tThr B k = tThr C j) : ((bT B).eraseIdx k).Perm ((bT C).eraseIdx j) := by
  have h1 := era_perm (l := bT B) (k := k) hk
  have h2 := era_perm (l := bT C) (k := j) hj
  have g1 : (bT B).getD k (0, 0) = (bT B)[k]'hk := by rw [List.getD_eq_getElem?_getD, List.getElem?_eq_getElem (show k < (bT B).length from hk)]; rfl
  have g2 : (bT C).getD j (0, 0) = (bT C)[j]'hj := by rw [List.getD_eq_getElem?_getD, List.getElem?_eq_getElem (show j < (bT C).length from hj)]; rfl
  have e3 : (bT B)[k]'hk = (bT C)[j]'hj := by rw [← g1, ← g2]; exact Prod.ext e e2
  have h3 := (h1.symm.trans h.1).trans h2
  rw [e3] at h3
  exact h3.cons_inv
theorem o_addPart_sim {B C : Bk} (h : Sim B C) (hI : Inv B) (id mn it : Int32) : SimR (o_addPart B id mn it) (o_addPart C id mn it) := by
  unfold o_addPart
  rcases ixS_sim h hI id with ⟨e1, e2⟩ | ⟨k, j, e1, e2, h1, h2, h3⟩
  · rw [e1, e2]; exact ⟨rfl, rfl, h⟩
  · rw [e1, e2]
    dsimp only
    cases inR mn 1 120 with
    | none => exact ⟨rfl, rfl, h⟩
    | some m =>
      cases inR it 0 500 with
      | none => exact ⟨rfl, rfl, h⟩
      | some i =>
        dsimp only
        rw [h3]
        split
        · exact ⟨rfl, rfl, h⟩
        · exact ⟨rfl, rfl, Sim_wS h (set_sim h h1 h2 h3)⟩
theorem o_clear_sim {B C : Bk} (h : Sim B C) (hI : Inv B) (id : Int32) : SimR (o_clear B id) (o_clear C id) := by
  unfold o_clear
  rcases ixS_sim h hI id with ⟨e1, e2⟩ | ⟨k, j, e1, e2, h1, h2, h3⟩
  · rw [e1, e2]; exact ⟨rfl, rfl, h⟩
  · rw [e1, e2]
    dsimp only
    rw [h3]
    exact ⟨rfl, rfl, Sim_wS h (set_sim h h1 h2 h3)⟩
theorem o_move_sim {B C : Bk} (h : Sim B C) (hI : Inv B) (id d : Int32) : SimR (o_move B id d) (o_move C id d) := by
  unfold o_move
  rcases ixS_sim h hI id with ⟨e1, e2⟩ | ⟨k, j, e1, e2, h1, h2, h3⟩
  · rw [e1, e2]; exact ⟨rfl, rfl, h⟩
  · rw [e1, e2]
    dsimp only
    rw [h3, h.bD]
    cases inR d 0 (bD C) with
    | none => exact ⟨rfl, rfl, h⟩
    | some d => exact ⟨rfl, rfl, Sim_wS h (set_sim h h1 h2 h3)⟩
theorem o_remSes_sim {B C : Bk} (h : Sim B C) (hI : Inv B) (id : Int32) : SimR (o_remSes B id) (o_remSes C id) := by
  unfold o_remSes
  rcases ixS_sim h hI id with ⟨e1, e2⟩ | ⟨k, j, e1, e2, h1, h2, h3⟩
  · rw [e1, e2]; exact ⟨rfl, rfl, h⟩
  · rw [e1, e2]
    dsimp only
    rw [h.sN]
    exact ⟨rfl, rfl, Sim_wS h (era_sim h h1 h2 h3)⟩
theorem o_remTest_sim {B C : Bk} (h : Sim B C) (hI : Inv B) (d : Int32) : SimR (o_remTest B d) (o_remTest C d) := by
  unfold o_remTest
  rcases ixT_sim h hI d with ⟨e1, e2⟩ | ⟨k, j, e1, e2, h1, h2, h3, h4⟩
  · rw [e1, e2]; exact ⟨rfl, rfl, h⟩
  · rw [e1, e2]
    dsimp only
    rw [h4]
    exact ⟨rfl, rfl, Sim_wT h ((swp_perm h1).trans ((eraT_sim h h1 h2 h3 h4).trans (swp_perm h2).symm))⟩
theorem chg_sim {B C : Bk} (h : Sim B C) (hI : Inv B) {B' C' : Bk} (h' : Sim B' C') (hI' : Inv B') : chg B B' = chg C C' := by
  unfold chg
  rw [psumS_sim h (fun x => if loadS B' x = loadS B x then 0 else 1)]
  exact psum_congr (fun j _ => by rw [loadS_sim h hI, loadS_sim h' hI'])
theorem inR_spec {v : Int32} {lo hi n : Nat} (hh : hi < 2 ^ 31) (hl : lo ≤ hi) (e : inR v lo hi = some n) : v = nI n ∧ lo ≤ n ∧ n ≤ hi := by
  unfold inR at e
  by_cases c : nI lo ≤ v ∧ v ≤ nI hi
  · rw [if_pos c] at e
    obtain ⟨m, h1, h2, h3⟩ := in_nat (lo := lo) (hi := hi) (by omega) (by omega) c.1 c.2
    have e2 := Option.some.inj e
    rw [h1, nI_clamp (by omega)] at e2
    subst e2
    exact ⟨h1, h2, h3⟩
  · rw [if_neg c] at e
    cases e
theorem o_addTest_sim {B C : Bk} (h : Sim B C) (hI : Inv B) (d t : Int32) : SimR (o_addTest B d t) (o_addTest C d t) := by
  have e3 : (ixT B d).isSome = (ixT C d).isSome := by
    rcases ixT_sim h hI d with ⟨e1, e2⟩ | ⟨k, j, e1, e2, -⟩ <;> rw [e1, e2] <;> rfl
  unfold o_addTest
  rw [← h.bD, ← h.tN, ← e3]
  cases ex : inR d 0 (bD B) with
  | none => exact ⟨rfl, rfl, h⟩
  | some x =>
    cases ey : inR t 50 400 with
    | none => exact ⟨rfl, rfl, h⟩
    | some y =>
      dsimp only
      by_cases c : tN B = 10 ∨ (ixT B d).isSome = true
      · rw [if_pos c, if_pos c]; exact ⟨rfl, rfl, h⟩
      · rw [if_neg c, if_neg c]
        have hD := iv_bD hI
        have hT := iv_tN hI
        obtain ⟨x1, -, x3⟩ := inR_spec (by omega) (Nat.zero_le _) ex
        obtain ⟨-, y2, y3⟩ := inR_spec (by decide) (by decide) ey
        have hn : ixT B d = none := by
          cases g : ixT B d with
          | none => rfl
          | some k => exact absurd (Or.inr (by rw [g]; rfl)) c
        have h' : Sim (wT B (bT B ++ [(x, y)])) (wT C (bT C ++ [(x, y)])) := Sim_wT h (h.1.append_right _)
        exact ⟨rfl, congrArg nI (chg_sim h hI h' (Inv_addTest hI (by omega) x3 ⟨y2, y3⟩ hn x1)), h'⟩
end SIM2
/-! what is sorted -/
def SrtT9 (B : Bk) : Prop := ∀ j k, j < k → k < tN B → tDay B j < tDay B k
def SrtS9 (B : Bk) : Prop := ∀ j k, j < k → k < sN B → lt (sAt B j) (sAt B k)
theorem tN_ins {B : Bk} {p : Nat} {x : Nat × Nat} (hp : p ≤ tN B) : tN (wT B ((bT B).insertIdx p x)) = tN B + 1 := List.length_insertIdx_of_le_length hp x
theorem tDay_ins_lt {B : Bk} {p j : Nat} {x : Nat × Nat} (h : j < p) : tDay (wT B ((bT B).insertIdx p x)) j = tDay B j ∧ tThr (wT B ((bT B).insertIdx p x)) j = tThr B j := ⟨congrArg Prod.fst (insD_lt h), congrArg Prod.snd (insD_lt h)⟩
theorem tDay_ins_eq {B : Bk} {p : Nat} {x : Nat × Nat} (h : p ≤ tN B) : tDay (wT B ((bT B).insertIdx p x)) p = x.1 ∧ tThr (wT B ((bT B).insertIdx p x)) p = x.2 := ⟨congrArg Prod.fst (insD_eq h), congrArg Prod.snd (insD_eq h)⟩
theorem tDay_ins_gt {B : Bk} {p j : Nat} {x : Nat × Nat} (h : p < j) : tDay (wT B ((bT B).insertIdx p x)) j = tDay B (j - 1) ∧ tThr (wT B ((bT B).insertIdx p x)) j = tThr B (j - 1) := ⟨congrArg Prod.fst (insD_gt h), congrArg Prod.snd (insD_gt h)⟩
theorem SrtT_ins {B : Bk} (hs : SrtT9 B) {p : Nat} {x : Nat × Nat} (hp : p ≤ tN B) (h1 : ∀ j, j < p → tDay B j < x.1) (h2 : p < tN B → ¬ tDay B p < x.1) (h3 : ∀ j, j < tN B → tDay B j ≠ x.1) : SrtT9 (wT B ((bT B).insertIdx p x)) := by
  intro j k hjk hk
  rw [tN_ins hp] at hk
  rcases Nat.lt_trichotomy k p with g | g | g
  · rw [(tDay_ins_lt (x := x) g).1, (tDay_ins_lt (x := x) (show j < p by omega)).1]; exact hs j k hjk (by omega)
  · subst g
    rw [(tDay_ins_eq hp).1, (tDay_ins_lt (x := x) hjk).1]; exact h1 j hjk
  · rw [(tDay_ins_gt (x := x) g).1]
    rcases Nat.lt_trichotomy j p with q | q | q
    · rw [(tDay_ins_lt (x := x) q).1]; exact hs j (k - 1) (by omega) (by omega)
    · subst q
      rw [(tDay_ins_eq hp).1]
      have a := h2 (by omega)
      have b := h3 j (by omega)
      rcases Nat.lt_or_ge j (k - 1) with w | w
      · have := hs j (k - 1) w (by omega); omega
      · rw [show k - 1 = j by omega]; omega
    · rw [(tDay_ins_gt (x := x) q).1]; exact hs _ _ (by omega) (by omega)
theorem tN_del {B : Bk} {p : Nat} (hp : p < tN B) : tN (wT B ((bT B).eraseIdx p)) = tN B - 1 := List.length_eraseIdx_of_lt hp
theorem tDay_del_lt {B : Bk} {p j : Nat} (h : j < p) : tDay (wT B ((bT B).eraseIdx p)) j = tDay B j ∧ tThr (wT B ((bT B).eraseIdx p)) j = tThr B j := ⟨congrArg Prod.fst (erD_lt h), congrArg Prod.snd (erD_lt h)⟩
theorem tDay_del_ge {B : Bk} {p j : Nat} (h : p ≤ j) : tDay (wT B ((bT B).eraseIdx p)) j = tDay B (j + 1) ∧ tThr (wT B ((bT B).eraseIdx p)) j = tThr B (j + 1) := ⟨congrArg Prod.fst (erD_ge h), congrArg Prod.snd (erD_ge h)⟩
theorem SrtT_del {B : Bk} (hs : SrtT9 B) {p : Nat} (hp : p < tN B) : SrtT9 (wT B ((bT B).eraseIdx p)) := by
  intro j k hjk hk
  rw [tN_del hp] at hk
  rcases Nat.lt_or_ge k p with g | g
  · rw [(tDay_del_lt g).1, (tDay_del_lt (show j < p by omega)).1]; exact hs j k hjk (by omega)
  · rw [(tDay_del_ge g).1]
    rcases Nat.lt_or_ge j p with q | q
    · rw [(tDay_del_lt q).1]; exact hs _ _ (by omega) (by omega)
    · rw [(tDay_del_ge q).1]; exact hs _ _ (by omega) (by omega)
theorem sN_ins {B : Bk} {p : Nat} {x : Sess} (hp : p ≤ sN B) : sN (wS B ((bS B).insertIdx p x)) = sN B + 1 := List.length_insertIdx_of_le_length hp x
theorem sAt_ins_lt {B : Bk} {p j : Nat} {x : Sess} (h : j < p) : sAt (wS B ((bS B).insertIdx p x)) j = sAt B j := insD_lt h
theorem sAt_ins_eq {B : Bk} {p : Nat} {x : Sess} (h : p ≤ sN B) : sAt (wS B ((bS B).insertIdx p x)) p = x := insD_eq h
theorem sAt_ins_gt {B : Bk} {p j : Nat} {x : Sess} (h : p < j) : sAt (wS B ((bS B).insertIdx p x)) j = sAt B (j - 1) := insD_gt h
theorem lt_of_not {x y : Sess} (h : ¬ lt x y) (e : sId x ≠ sId y) : lt y x := by unfold lt at *; omega
theorem lt_tr {x y z : Sess} (h : lt x y) (g : lt y z) : lt x z := by unfold lt at *; omega
theorem SrtS_ins {B : Bk} (hs : SrtS9 B) {p : Nat} {x : Sess} (hp : p ≤ sN B) (h1 : ∀ j, j < p → lt (sAt B j) x) (h2 : p < sN B → ¬ lt (sAt B p) x) (h3 : ∀ j, j < sN B → sId (sAt B j) ≠ sId x) : SrtS9 (wS B ((bS B).insertIdx p x)) := by
  intro j k hjk hk
  rw [sN_ins hp] at hk
  rcases Nat.lt_trichotomy k p with g | g | g
  · rw [sAt_ins_lt g, sAt_ins_lt (show j < p by omega)]; exact hs j k hjk (by omega)
  · subst g
    rw [sAt_ins_eq hp, sAt_ins_lt hjk]; exact h1 j hjk
  · rw [sAt_ins_gt g]
    rcases Nat.lt_trichotomy j p with q | q | q
    · rw [sAt_ins_lt q]; exact hs j (k - 1) (by omega) (by omega)
    · subst q
      rw [sAt_ins_eq hp]
      have a := lt_of_not (h2 (by omega)) (h3 j (by omega))
      rcases Nat.lt_or_ge j (k - 1) with w | w
      · exact lt_tr a (hs j (k - 1) w (by omega))
      · rw [show k - 1 = j by omega]; exact a
    · rw [sAt_ins_gt q]; exact hs _ _ (by omega) (by omega)
theorem SrtS_del {B : Bk} (hs : SrtS9 B) {p : Nat} (hp : p < sN B) : SrtS9 (wS B ((bS B).eraseIdx p)) := by
  intro j k hjk hk
  rw [sN_era hp] at hk
  rcases Nat.lt_or_ge k p with g | g
  · rw [sAt_era1 g, sAt_era1 (show j < p by omega)]; exact hs j k hjk (by omega)
  · rw [sAt_era2 g]
    rcases Nat.lt_or_ge j p with q | q
    · rw [sAt_era1 q]; exact hs _ _ (by omega) (by omega)
    · rw [sAt_era2 q]; exact hs _ _ (by omega) (by omega)
/-- one taken out, one put in: the same as one put in its place -/
theorem rep_sim {B : Bk} {k p : Nat} {x : Sess} (hk : k < sN B) (hp : p ≤ sN B - 1) : Sim (wS B ((bS B).set k x)) (wS B (((bS B).eraseIdx k).insertIdx p x)) := by
  have h1 : ((bS B).eraseIdx k).length = sN B - 1 := List.length_eraseIdx_of_lt hk
  exact ⟨List.Perm.refl _, (set_perm hk).trans (List.perm_insertIdx x _ (by rw [h1]; exact hp)).symm, rfl⟩
