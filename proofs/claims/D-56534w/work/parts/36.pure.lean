/-! PURE: what the order of the lists doesn't change -/
set_option maxRecDepth 100000
theorem memT {B : Bk} {k : Nat} (h : k < tN B) : (tDay B k, tThr B k) ∈ bT B := by
  have e : (bT B).getD k (0, 0) = (bT B)[k]'h := by rw [List.getD_eq_getElem?_getD, List.getElem?_eq_getElem (show k < (bT B).length from h)]; rfl
  show ((bT B).getD k (0, 0)) ∈ bT B
  rw [e]
  exact List.getElem_mem _
theorem memT' {B : Bk} {x : Nat × Nat} (h : x ∈ bT B) : ∃ k, k < tN B ∧ tDay B k = x.1 ∧ tThr B k = x.2 := by
  obtain ⟨k, hk, e⟩ := List.getElem_of_mem h
  have e2 : (bT B).getD k (0, 0) = x := by rw [List.getD_eq_getElem?_getD, List.getElem?_eq_getElem hk, e]; rfl
  exact ⟨k, hk, congrArg Prod.fst e2, congrArg Prod.snd e2⟩
theorem memS {B : Bk} {k : Nat} (h : k < sN B) : sAt B k ∈ bS B := by
  have e : (bS B).getD k (0, 0, []) = (bS B)[k]'h := by rw [List.getD_eq_getElem?_getD, List.getElem?_eq_getElem (show k < (bS B).length from h)]; rfl
  show ((bS B).getD k (0, 0, [])) ∈ bS B
  rw [e]
  exact List.getElem_mem _
theorem memS' {B : Bk} {x : Sess} (h : x ∈ bS B) : ∃ k, k < sN B ∧ sAt B k = x := by
  obtain ⟨k, hk, e⟩ := List.getElem_of_mem h
  exact ⟨k, hk, by show (bS B).getD k (0, 0, []) = x; rw [List.getD_eq_getElem?_getD, List.getElem?_eq_getElem hk, e]; rfl⟩
theorem nodup_of_inj {α β : Type} (f : α → β) : ∀ {l : List α}, (∀ (i j : Nat) (hi : i < l.length) (hj : j < l.length), f l[i] = f l[j] → i = j) → (l.map f).Nodup := by
  intro l h
  rw [List.nodup_iff_pairwise_ne, List.pairwise_iff_getElem]
  intro i j hi hj hij e
  simp only [List.length_map] at hi hj
  simp only [List.getElem_map] at e
  have := h i j hi hj e
  omega
theorem inj_of_nodup {α β : Type} (f : α → β) {l : List α} (h : (l.map f).Nodup) (i j : Nat) (hi : i < l.length) (hj : j < l.length) (e : f l[i] = f l[j]) : i = j := by
  rw [List.nodup_iff_pairwise_ne, List.pairwise_iff_getElem] at h
  rcases Nat.lt_trichotomy i j with g | g | g
  · exact (h i j (by simpa using hi) (by simpa using hj) g (by simpa using e)).elim
  · exact g
  · exact (h j i (by simpa using hj) (by simpa using hi) g (by simpa using e.symm)).elim
/-- Inv by membership -/
def InvL (B : Bk) : Prop := (bT B).length ≤ 10 ∧ (bS B).length ≤ 40 ∧ bD B ≤ 199 ∧ bI9 B ≤ 1000000 ∧ bE B ≤ 28 ∧ (∀ z, 2 ≤ z → z ≤ 5 → 1 ≤ bB B z ∧ bB B z ≤ 300) ∧ (∀ z, 2 ≤ z → z ≤ 4 → bB B z < bB B (z + 1)) ∧ (∀ z, 1 ≤ z → z ≤ 5 → bW B z ≤ 100) ∧ (∀ j, j < bE B → bG B j ≤ 20000)
  ∧ (∀ x ∈ bT B, x.1 ≤ bD B ∧ 50 ≤ x.2 ∧ x.2 ≤ 400) ∧ ((bT B).map Prod.fst).Nodup ∧ (∀ x ∈ bS B, InvS B x) ∧ ((bS B).map sId).Nodup ∧ (∀ d, bP B = some d → d ≤ bD B) ∧ (bP B = none → bE B = 0)
theorem tDay_g {B : Bk} {k : Nat} (h : k < (bT B).length) : tDay B k = ((bT B)[k]).1 := by unfold tDay; rw [List.getD_eq_getElem?_getD, List.getElem?_eq_getElem h]; rfl
theorem sAt_g {B : Bk} {k : Nat} (h : k < (bS B).length) : sAt B k = (bS B)[k] := by unfold sAt; rw [List.getD_eq_getElem?_getD, List.getElem?_eq_getElem h]; rfl
theorem Inv_iff {B : Bk} : Inv B ↔ InvL B := by
  constructor
  · intro ⟨h1, h2, h3, h4, h5, h6, h7, h8, h9, h10, h11, h12, h13, h14, h15⟩
    refine ⟨h1, h2, h3, h4, h5, h6, h7, h8, h9, fun x hx => ?_, nodup_of_inj _ fun i j hi hj e => ?_, fun x hx => ?_, nodup_of_inj _ fun i j hi hj e => ?_, h14, h15⟩
    · obtain ⟨k, hk, e1, e2⟩ := memT' hx
      rw [← e1, ← e2]
      exact h10 k hk
    · exact h11 i j hi hj (by rw [tDay_g hi, tDay_g hj]; exact e)
    · obtain ⟨k, hk, e⟩ := memS' hx
      rw [← e]
      exact h12 k hk
    · exact h13 i j hi hj (by rw [sAt_g hi, sAt_g hj]; exact e)
  · intro ⟨h1, h2, h3, h4, h5, h6, h7, h8, h9, h10, h11, h12, h13, h14, h15⟩
    refine ⟨h1, h2, h3, h4, h5, h6, h7, h8, h9, fun k hk => h10 _ (memT hk), fun j k hj hk e => ?_, fun k hk => h12 _ (memS hk), fun j k hj hk e => ?_, h14, h15⟩
    · exact inj_of_nodup Prod.fst h11 j k hj hk (by rw [← tDay_g hj, ← tDay_g hk]; exact e)
    · exact inj_of_nodup sId h13 j k hj hk (by rw [← sAt_g hj, ← sAt_g hk]; exact e)
/-- the same but for the lists' order -/
def Sim (B C : Bk) : Prop := (bT B).Perm (bT C) ∧ (bS B).Perm (bS C) ∧ B.2.2 = C.2.2
theorem Sim.rf (B : Bk) : Sim B B := ⟨List.Perm.refl _, List.Perm.refl _, rfl⟩
theorem Sim.symm {B C : Bk} (h : Sim B C) : Sim C B := ⟨h.1.symm, h.2.1.symm, h.2.2.symm⟩
theorem Sim.trans {B C E : Bk} (h : Sim B C) (g : Sim C E) : Sim B E := ⟨h.1.trans g.1, h.2.1.trans g.2.1, h.2.2.trans g.2.2⟩
theorem Sim.bB {B C : Bk} (h : Sim B C) : bB B = bB C := congrArg (fun x => x.1) h.2.2
theorem Sim.bW {B C : Bk} (h : Sim B C) : bW B = bW C := congrArg (fun x => x.2.1) h.2.2
theorem Sim.bG {B C : Bk} (h : Sim B C) : bG B = bG C := congrArg (fun x => x.2.2.1) h.2.2
theorem Sim.bD {B C : Bk} (h : Sim B C) : bD B = bD C := congrArg (fun x => x.2.2.2.1) h.2.2
theorem Sim.bI9 {B C : Bk} (h : Sim B C) : bI9 B = bI9 C := congrArg (fun x => x.2.2.2.2.1) h.2.2
theorem Sim.bP {B C : Bk} (h : Sim B C) : bP B = bP C := congrArg (fun x => x.2.2.2.2.2.1) h.2.2
theorem Sim.bE {B C : Bk} (h : Sim B C) : bE B = bE C := congrArg (fun x => x.2.2.2.2.2.2) h.2.2
theorem Sim.tN {B C : Bk} (h : Sim B C) : tN B = tN C := h.1.length_eq
theorem Sim.sN {B C : Bk} (h : Sim B C) : sN B = sN C := h.2.1.length_eq
theorem InvS_sim {B C : Bk} (h : Sim B C) {x : Sess} (hx : InvS B x) : InvS C x := by
  unfold InvS at *
  rw [← h.bI9, ← h.bD]
  exact hx
theorem Inv_sim {B C : Bk} (h : Sim B C) (hI : Inv B) : Inv C := by
  obtain ⟨h1, h2, h3, h4, h5, h6, h7, h8, h9, h10, h11, h12, h13, h14, h15⟩ := Inv_iff.mp hI
  refine Inv_iff.mpr ⟨?_, ?_, ?_, ?_, ?_, ?_, ?_, ?_, ?_, ?_, ?_, ?_, ?_, ?_, ?_⟩
  · rw [← h.1.length_eq]; exact h1
  · rw [← h.2.1.length_eq]; exact h2
  · rw [← h.bD]; exact h3
  · rw [← h.bI9]; exact h4
  · rw [← h.bE]; exact h5
  · rw [← h.bB]; exact h6
  · rw [← h.bB]; exact h7
  · rw [← h.bW]; exact h8
  · rw [← h.bE, ← h.bG]; exact h9
  · intro x hx; rw [← h.bD]; exact h10 x (h.1.mem_iff.mpr hx)
  · exact (h.1.map Prod.fst).nodup h11
  · intro x hx; exact InvS_sim h (h12 x (h.2.1.mem_iff.mpr hx))
  · exact (h.2.1.map sId).nodup h13
  · rw [← h.bP, ← h.bD]; exact h14
  · rw [← h.bP, ← h.bE]; exact h15
/-! sums over the sessions -/
theorem sum_perm {α : Type} (F : α → Nat) {l m : List α} (h : l.Perm m) : (l.map F).sum = (m.map F).sum := by
  induction h with
  | nil => rfl
  | cons x _ ih => simp only [List.map_cons, List.sum_cons, ih]
  | swap x y l => simp only [List.map_cons, List.sum_cons]; omega
  | trans _ _ h1 h2 => exact h1.trans h2
theorem psum_sum {α : Type} (F : α → Nat) (d : α) : ∀ (l : List α), psum (fun k => F (l.getD k d)) l.length = (l.map F).sum := by
  have key : ∀ (l : List α) (n : Nat), n ≤ l.length → psum (fun k => F (l.getD k d)) n = ((l.take n).map F).sum := by
    intro l n
    induction n with
    | zero => intro _; simp [psum]
    | succ n ih =>
      intro hn
      have hl : n < l.length := by omega
      simp only [psum]
      rw [ih (by omega), List.take_add_one, List.getD_eq_getElem?_getD, List.getElem?_eq_getElem hl, List.map_append, List.sum_append]
      simp only [Option.getD_some, Option.toList_some, List.map_cons, List.map_nil, List.sum_cons, List.sum_nil, Nat.add_zero]
  intro l
  rw [key l l.length (Nat.le_refl _), List.take_length]
theorem psumS (B : Bk) (F : Sess → Nat) : psum (fun k => F (sAt B k)) (sN B) = ((bS B).map F).sum := psum_sum F (0, 0, []) (bS B)
theorem psumS_sim {B C : Bk} (h : Sim B C) (F : Sess → Nat) : psum (fun k => F (sAt B k)) (sN B) = psum (fun k => F (sAt C k)) (sN C) := by rw [psumS, psumS, sum_perm F h.2.1]
/-! the threshold of a day -/
def ThrP (B : Bk) (d k : Nat) (p : Nat × Nat) : Prop := (p = (0, 200) ∧ ∀ j, j < k → ¬ tDay B j ≤ d) ∨ ∃ j, j < k ∧ tDay B j ≤ d ∧ p = (tDay B j + 1, tThr B j) ∧ ∀ i, i < k → tDay B i ≤ d → tDay B i ≤ tDay B j
theorem thrW_P (B : Bk) (d : Nat) : ∀ k, ThrP B d k (thrW B d k)
  | 0 => Or.inl ⟨rfl, fun j hj => absurd hj (Nat.not_lt_zero _)⟩
  | k + 1 => by
    have ih := thrW_P B d k
    by_cases c : tDay B k ≤ d ∧ (thrW B d k).1 ≤ tDay B k
    · rw [thrW_yes c]
      refine Or.inr ⟨k, by omega, c.1, rfl, fun i hi hd => ?_⟩
      rcases Nat.lt_succ_iff_lt_or_eq.mp hi with g | g
      · rcases ih with ⟨-, h⟩ | ⟨j, hj, h1, h2, h3⟩
        · exact absurd hd (h i g)
        · have := h3 i g hd
          have h4 := c.2
          rw [h2] at h4
          dsimp only at h4
          omega
      · rw [g]; exact Nat.le_refl _
    · rw [thrW_no c]
      rcases ih with ⟨h1, h2⟩ | ⟨j, hj, h1, h2, h3⟩
      · refine Or.inl ⟨h1, fun i hi hd => ?_⟩
        rcases Nat.lt_succ_iff_lt_or_eq.mp hi with g | g
        · exact h2 i g hd
        · subst g
          exact c ⟨hd, by rw [h1]; exact Nat.zero_le _⟩
      · refine Or.inr ⟨j, by omega, h1, h2, fun i hi hd => ?_⟩
        rcases Nat.lt_succ_iff_lt_or_eq.mp hi with g | g
        · exact h3 i g hd
        · subst g
          rcases Nat.lt_or_ge (tDay B j) (tDay B i) with q | q
          · exact absurd ⟨hd, by rw [h2]; exact q⟩ c
          · exact q
theorem thr_sim {B C : Bk} (h : Sim B C) (hI : Inv B) (d : Nat) : thr B d = thr C d := by
  have hC := Inv_sim h hI
  unfold thr
  rcases thrW_P B d (tN B) with ⟨e1, g1⟩ | ⟨j, hj, a1, a2, a3⟩ <;> rcases thrW_P C d (tN C) with ⟨e2, g2⟩ | ⟨i, hi, b1, b2, b3⟩
  · rw [e1, e2]
  · obtain ⟨k, hk, q1, -⟩ := memT' (h.1.mem_iff.mpr (memT hi))
    exact absurd (by rw [q1]; exact b1) (g1 k hk)
  · obtain ⟨k, hk, q1, -⟩ := memT' (h.1.mem_iff.mp (memT hj))
    exact absurd (by rw [q1]; exact a1) (g2 k hk)
  · rw [a2, b2]
    obtain ⟨k, hk, q1, q2⟩ := memT' (h.1.mem_iff.mp (memT hj))
    obtain ⟨m, hm, q3, q4⟩ := memT' (h.1.mem_iff.mpr (memT hi))
    dsimp only at q1 q2 q3 q4
    have z1 := b3 k hk (by rw [q1]; exact a1)
    have z2 := a3 m hm (by rw [q3]; exact b1)
    have z3 : k = i := iv_tinj hC hk hi (by omega)
    subst z3
    exact q2.symm
section SIM
theorem zoneX_sim {B C : Bk} (h : Sim B C) (hI : Inv B) (d i : Nat) : zoneX B d i = zoneX C d i := by unfold zoneX; rw [h.bB, thr_sim h hI]
theorem zoneP_sim {B C : Bk} (h : Sim B C) (hI : Inv B) (x : Sess) (p : Nat) : zoneP B x p = zoneP C x p := zoneX_sim h hI _ _
theorem zMin_sim {B C : Bk} (h : Sim B C) (hI : Inv B) (x : Sess) (z : Nat) : zMin B x z = zMin C x z := psum_congr (fun j _ => by rw [zoneP_sim h hI])
theorem loadS_sim {B C : Bk} (h : Sim B C) (hI : Inv B) (x : Sess) : loadS B x = loadS C x := psum_congr (fun j _ => by rw [zoneP_sim h hI, h.bW])
theorem loadD_sim {B C : Bk} (h : Sim B C) (hI : Inv B) : loadD B = loadD C := by
  funext d
  unfold loadD
  rw [psumS_sim h (fun x => if sDay x = d then loadS B x else 0)]
  exact psum_congr (fun j _ => by rw [loadS_sim h hI])
theorem formS_sim {B C : Bk} (h : Sim B C) (hI : Inv B) : formS B = formS C := by funext d; unfold formS; rw [loadD_sim h hI]
theorem rowS_sim {B C : Bk} (h : Sim B C) (hI : Inv B) (a n : Nat) : rowS B a n = rowS C a n := by unfold rowS; rw [loadD_sim h hI]
theorem bestW_sim {B C : Bk} (h : Sim B C) (hI : Inv B) (n : Nat) : ∀ i, bestW B n i = bestW C n i
  | 0 => rfl
  | i + 1 => by simp only [bestW]; rw [bestW_sim h hI n i, rowS_sim h hI, rowS_sim h hI]
theorem bfW_sim {B C : Bk} (h : Sim B C) (hI : Inv B) : ∀ i, bfW B i = bfW C i
  | 0 => rfl
  | i + 1 => by simp only [bfW]; rw [bfW_sim h hI i, formS_sim h hI]
theorem dfF_sim {B C : Bk} (h : Sim B C) (hI : Inv B) (v : Int32) : ∀ k, dfF B v k = dfF C v k
  | 0 => rfl
  | k + 1 => by simp only [dfF]; rw [dfF_sim h hI v k, formS_sim h hI, h.bD]
theorem crS_sim {B C : Bk} (h : Sim B C) (hI : Inv B) (d : Nat) (c : Nat × Nat × Nat × Nat) : crS B d c = crS C d c := by unfold crS; rw [h.bE, h.bG, loadD_sim h hI]
theorem crW_sim {B C : Bk} (h : Sim B C) (hI : Inv B) (d0 : Nat) : ∀ k, crW B d0 k = crW C d0 k
  | 0 => rfl
  | k + 1 => by simp only [crW]; rw [crW_sim h hI d0 k, crS_sim h hI]
theorem crs_sim {B C : Bk} (h : Sim B C) (hI : Inv B) : crs B = crs C := by
  unfold crs
  rw [h.bP, h.bD]
  cases bP C with
  | none => rfl
  | some d => exact crW_sim h hI _ _
theorem goB_sim {B C : Bk} (h : Sim B C) (hI : Inv B) : goB B = goB C := by unfold goB; rw [h.bP, h.bE, crs_sim h hI]
theorem nDk_sim {B C : Bk} (h : Sim B C) (d : Nat) : nDk B d (sN B) = nDk C d (sN C) := psumS_sim h (fun x => if sDay x = d then 1 else 0)
theorem aDk_sim {B C : Bk} (h : Sim B C) (d : Nat) : aDk B d (sN B) = aDk C d (sN C) := psumS_sim h (fun x => if sDay x = d then nP x else 0)
theorem zDk_sim {B C : Bk} (h : Sim B C) (hI : Inv B) (d z : Nat) : zDk B d (sN B) z = zDk C d (sN C) z := by
  unfold zDk
  rw [psumS_sim h (fun x => if sDay x = d then zMin B x z else 0)]
  exact psum_congr (fun j _ => by rw [zMin_sim h hI])
theorem signS_sim {B C : Bk} (h : Sim B C) (hI : Inv B) (d : Nat) : signS B d = signS C d := by
  have e : zDk B d (sN B) = zDk C d (sN C) := funext fun z => zDk_sim h hI d z
  unfold signS
  rw [h.bD, nDk_sim h, aDk_sim h, e]
theorem wkF_sim {B C : Bk} (h : Sim B C) (hI : Inv B) (d j : Nat) : wkF B d j = wkF C d j := by unfold wkF; rw [signS_sim h hI]
theorem allM_sim {B C : Bk} (h : Sim B C) : allM B = allM C := psumS_sim h minOf
theorem zAll_sim {B C : Bk} (h : Sim B C) (hI : Inv B) (z : Nat) : zAll B z = zAll C z := by
  unfold zAll
  rw [psumS_sim h (fun x => zMin B x z)]
  exact psum_congr (fun j _ => by rw [zMin_sim h hI])
theorem sumL_sim {B C : Bk} (h : Sim B C) (hI : Inv B) : sumL B = sumL C := by unfold sumL; rw [h.bD, loadD_sim h hI]
/-- who bears an id -/
theorem ixS_none {B : Bk} {id : Int32} (hn : ∀ x ∈ bS B, nI (sId x) ≠ id) : ixS B id = none := by
  unfold ixS
  rw [dif_neg]
  intro ⟨k, h1, h2⟩
  exact hn _ (memS h1) h2
theorem ixS_spec {B : Bk} {id : Int32} {k : Nat} (hk : ixS B id = some k) : k < sN B ∧ nI (sId (sAt B k)) = id := by
  unfold ixS at hk
  by_cases c : ∃ k, k < sN B ∧ nI (sId (sAt B k)) = id
  · rw [dif_pos c] at hk
    have := Classical.choose_spec c
    rw [Option.some.inj hk] at this
    exact this
  · rw [dif_neg c] at hk
    cases hk
theorem ixS_is {B : Bk} (hI : Inv B) {id : Int32} {k : Nat} (hk : k < sN B) (e : nI (sId (sAt B k)) = id) : ixS B id = some k := ixS_eq (o := some k) hI ⟨hk, e⟩
theorem ixS_no {B : Bk} {id : Int32} (hk : ixS B id = none) : ∀ x ∈ bS B, nI (sId x) ≠ id := by
  intro x hx e
  obtain ⟨k, h1, rfl⟩ := memS' hx
  unfold ixS at hk
  rw [dif_pos ⟨k, h1, e⟩] at hk
  cases hk
theorem ixS_sim {B C : Bk} (h : Sim B C) (hI : Inv B) (id : Int32) : (ixS B id = none ∧ ixS C id = none) ∨ ∃ k j, ixS B id = some k ∧ ixS C id = some j ∧ k < sN B ∧ j < sN C ∧ sAt B k = sAt C j := by
  cases e : ixS B id with
  | none => exact Or.inl ⟨rfl, ixS_none fun x hx => ixS_no e x (h.2.1.mem_iff.mpr hx)⟩
  | some k =>
    obtain ⟨h1, h2⟩ := ixS_spec e
    obtain ⟨j, h3, h4⟩ := memS' (h.2.1.mem_iff.mp (memS h1))
    exact Or.inr ⟨k, j, rfl, ixS_is (Inv_sim h hI) h3 (by rw [h4]; exact h2), h1, h3, h4.symm⟩
theorem ixT_spec {B : Bk} {d : Int32} {k : Nat} (hk : ixT B d = some k) : k < tN B ∧ nI (tDay B k) = d := by
  unfold ixT at hk
  by_cases c : ∃ k, k < tN B ∧ nI (tDay B k) = d
  · rw [dif_pos c] at hk
    have := Classical.choose_spec c
    rw [Option.some.inj hk] at this
    exact this
  · rw [dif_neg c] at hk
    cases hk
theorem ixT_is {B : Bk} (hI : Inv B) {d : Int32} {k : Nat} (hk : k < tN B) (e : nI (tDay B k) = d) : ixT B d = some k := ixT_eq (o := some k) hI ⟨hk, e⟩
theorem ixT_no0 {B : Bk} {d : Int32} (hn : ∀ x ∈ bT B, nI x.1 ≠ d) : ixT B d = none := by
  unfold ixT
  rw [dif_neg]
  intro ⟨k, h1, h2⟩
  exact hn _ (memT h1) h2
theorem ixT_sim {B C : Bk} (h : Sim B C) (hI : Inv B) (d : Int32) : (ixT B d = none ∧ ixT C d = none) ∨ ∃ k j, ixT B d = some k ∧ ixT C d = some j ∧ k < tN B ∧ j < tN C ∧ tDay B k = tDay C j ∧ tThr B k = tThr C j := by
  cases e : ixT B d with
  | none =>
    refine Or.inl ⟨rfl, ixT_no0 fun x hx e2 => ?_⟩
    obtain ⟨k, hk, q1, -⟩ := memT' (h.1.mem_iff.mpr hx)
    exact ixT_none e k hk (by rw [q1]; exact e2)
  | some k =>
    obtain ⟨h1, h2⟩ := ixT_spec e
    obtain ⟨j, h3, q1, q2⟩ := memT' (h.1.mem_iff.mp (memT h1))
    exact Or.inr ⟨k, j, rfl, ixT_is (Inv_sim h hI) h3 (by rw [q1]; exact h2), h1, h3, q1.symm, q2.symm⟩
/-! ranks -/
noncomputable def rkx (B : Bk) (x : Sess) : Nat := ((bS B).map (fun y => @ite _ (sDay y < sDay x ∨ (sDay y = sDay x ∧ sId y < sId x)) (Classical.propDecidable _) 1 0)).sum
theorem rk_rkx (B : Bk) (k : Nat) : rk B k (sN B) = rkx B (sAt B k) := by
  have key : ∀ n, rk B k n = psum (fun j => @ite _ (sDay (sAt B j) < sDay (sAt B k) ∨ (sDay (sAt B j) = sDay (sAt B k) ∧ sId (sAt B j) < sId (sAt B k))) (Classical.propDecidable _) 1 0) n := by
    intro n
    induction n with
    | zero => rfl
    | succ n ih =>
      by_cases c : sDay (sAt B n) < sDay (sAt B k) ∨ (sDay (sAt B n) = sDay (sAt B k) ∧ sId (sAt B n) < sId (sAt B k))
      · rw [rk_yes c, psum_s, ih, if_pos c]
      · rw [rk_no c, psum_s, ih, if_neg c]; rfl
  rw [key, psumS B (fun y => @ite _ (sDay y < sDay (sAt B k) ∨ (sDay y = sDay (sAt B k) ∧ sId y < sId (sAt B k))) (Classical.propDecidable _) 1 0)]
  rfl
theorem rkx_sim {B C : Bk} (h : Sim B C) (x : Sess) : rkx B x = rkx C x := sum_perm _ h.2.1
theorem lt_irr (x : Sess) : ¬ lt x x := by unfold lt; omega
theorem rk_srt {B : Bk} (hs : ∀ j k, j < k → k < sN B → lt (sAt B j) (sAt B k)) {k : Nat} (hk : k < sN B) : rk B k (sN B) = k := by
  have key : ∀ n, n ≤ sN B → rk B k n = min n k := by
    intro n
    induction n with
    | zero => intro _; simp [rk]
    | succ n ih =>
      intro hn
      have ih := ih (by omega)
      rcases Nat.lt_or_ge n k with g | g
      · rw [rk_yes (show _ from hs n k g hk), ih]; omega
      · have hn2 : ¬ lt (sAt B n) (sAt B k) := by
          rcases Nat.lt_or_ge k n with q | q
          · have := hs k n q (by omega)
            unfold lt at *
            omega
          · rw [show n = k by omega]; exact lt_irr _
        rw [rk_no (show _ from hn2), ih]; omega
  rw [key (sN B) (Nat.le_refl _)]
  omega
theorem RkOk_srt {B : Bk} (hs : ∀ j k, j < k → k < sN B → lt (sAt B j) (sAt B k)) : RkOk B := fun q hq => ⟨q, hq, rk_srt hs hq⟩
theorem RkOk_sim {B C : Bk} (h : Sim B C) (hR : RkOk B) : RkOk C := by
  intro q hq
  obtain ⟨k, hk, e⟩ := hR q (by rw [h.sN]; exact hq)
  obtain ⟨j, h3, h4⟩ := memS' (h.2.1.mem_iff.mp (memS hk))
  exact ⟨j, h3, by rw [rk_rkx, h4, ← rkx_sim h, ← rk_rkx]; exact e⟩
theorem ixR_spec {B : Bk} (hR : RkOk B) {q : Nat} (hq : q < sN B) : ixR B q < sN B ∧ rk B (ixR B q) (sN B) = q := by
  unfold ixR
  rw [dif_pos (hR q hq)]
  exact Classical.choose_spec (hR q hq)
theorem ixR_sim {B C : Bk} (h : Sim B C) (hI : Inv B) (hR : RkOk B) {q : Nat} (hq : q < sN B) : sAt B (ixR B q) = sAt C (ixR C q) := by
  have hC := Inv_sim h hI
  obtain ⟨a1, a2⟩ := ixR_spec hR hq
  obtain ⟨b1, b2⟩ := ixR_spec (RkOk_sim h hR) (show q < sN C by rw [← h.sN]; exact hq)
  obtain ⟨j, h3, h4⟩ := memS' (h.2.1.mem_iff.mp (memS a1))
  have e : rk C j (sN C) = q := by rw [rk_rkx, h4, ← rkx_sim h, ← rk_rkx]; exact a2
  rw [← h4, rk_inj hC h3 b1 (e.trans b2.symm)]
/-! the strongest -/
theorem ST_move {B C : Bk} (h : Sim B C) {n : Nat} {o : Option Nat} (hs : ST B n (sN B) o) : ∃ o2, ST C n (sN C) o2 ∧ match o, o2 with | none, none => True | some k, some j => k < sN B ∧ j < sN C ∧ sAt B k = sAt C j | _, _ => False := by
  have mv : ∀ j, j < sN C → ∃ k, k < sN B ∧ sAt B k = sAt C j ∧ rk B k (sN B) = rk C j (sN C) := by
    intro j hj
    obtain ⟨k, h3, h4⟩ := memS' (h.2.1.mem_iff.mpr (memS hj))
    exact ⟨k, h3, h4, by rw [rk_rkx, rk_rkx, h4, rkx_sim h]⟩
  cases o with
  | none =>
    refine ⟨none, fun j hj hr => ?_, trivial⟩
    obtain ⟨k, hk, e1, e2⟩ := mv j hj
    rw [← e1]
    exact hs k hk (by rw [e2, h.sN]; exact hr)
  | some k =>
    obtain ⟨h1, h2, h3, h4⟩ := hs
    obtain ⟨j, hj, e⟩ := memS' (h.2.1.mem_iff.mp (memS h1))
    have e2 : rk C j (sN C) = rk B k (sN B) := by rw [rk_rkx, rk_rkx, e, rkx_sim h]
    refine ⟨some j, ⟨hj, by rw [e2, ← h.sN]; exact h2, by rw [e]; exact h3, fun i hi hr => ?_⟩, h1, hj, e.symm⟩
    obtain ⟨m, hm, g1, g2⟩ := mv i hi
    rw [← g1, e, ← g2, e2]
    exact h4 m hm (by rw [g2, h.sN]; exact hr)
theorem ixE_sim {B C : Bk} (h : Sim B C) (hI : Inv B) (n : Nat) : (ixE B n = none ∧ ixE C n = none) ∨ ∃ k j, ixE B n = some k ∧ ixE C n = some j ∧ k < sN B ∧ j < sN C ∧ sAt B k = sAt C j := by
  have hC := Inv_sim h hI
  by_cases c : ∃ o, ST B n (sN B) o
  · obtain ⟨o, ho⟩ := c
    obtain ⟨o2, h2, h3⟩ := ST_move h ho
    rw [ixE_eq hI ho, ixE_eq hC h2]
    cases o with
    | none =>
      cases o2 with
      | none => exact Or.inl ⟨rfl, rfl⟩
      | some j => exact h3.elim
    | some k =>
      cases o2 with
      | none => exact h3.elim
      | some j => exact Or.inr ⟨k, j, rfl, rfl, h3⟩
  · have c2 : ¬ ∃ o, ST C n (sN C) o := fun ⟨o, ho⟩ => by
      obtain ⟨o2, h2, -⟩ := ST_move h.symm ho
      exact c ⟨o2, h2⟩
    unfold ixE
    rw [dif_neg c, dif_neg c2]
    exact Or.inl ⟨rfl, rfl⟩
/-! what is asked -/
theorem q_today_sim {B C : Bk} (h : Sim B C) (hI : Inv B) : q_today B = q_today C := by unfold q_today; rw [h.bD]
theorem q_testCount_sim {B C : Bk} (h : Sim B C) (hI : Inv B) : q_testCount B = q_testCount C := by unfold q_testCount; rw [h.tN]
theorem q_sessionCount_sim {B C : Bk} (h : Sim B C) (hI : Inv B) : q_sessionCount B = q_sessionCount C := by unfold q_sessionCount; rw [h.sN]
theorem q1_congr {o : Option Nat} {f g : Nat → Int32} (e : ∀ x, o = some x → f x = g x) : q1 o f = q1 o g := by
  cases o with
  | none => rfl
  | some x => show (0, f x) = (0, g x); rw [e x rfl]
theorem q_thr_sim {B C : Bk} (h : Sim B C) (hI : Inv B) (v : Int32) : q_thr B v = q_thr C v := q1_congr fun x _ => by rw [thr_sim h hI]
theorem q_bound_sim {B C : Bk} (h : Sim B C) (hI : Inv B) (v : Int32) : q_bound B v = q_bound C v := by unfold q_bound; rw [h.bB]
theorem q_weight_sim {B C : Bk} (h : Sim B C) (hI : Inv B) (v : Int32) : q_weight B v = q_weight C v := by unfold q_weight; rw [h.bW]
theorem q_zone_sim {B C : Bk} (h : Sim B C) (hI : Inv B) (v w : Int32) : q_zone B v w = q_zone C v w := by
  unfold q_zone
  cases inR v 0 199 with
  | none => rfl
  | some d =>
    cases inR w 0 500 with
    | none => rfl
    | some i => dsimp only; rw [zoneX_sim h hI]
theorem inL_lt {v : Int32} {c x : Nat} (hc : c < 2 ^ 31) (h : inL v c = some x) : x < c := by
  unfold inL at h
  by_cases g : nI 0 ≤ v ∧ v ≤ lI c
  · obtain ⟨n, h1, h2⟩ := inL_nat hc g.1 g.2
    rw [if_pos g] at h
    have h3 := Option.some.inj h
    rw [h1, nI_clamp (by omega)] at h3
    omega
  · rw [if_neg g] at h
    cases h
theorem q_sAt_sim {B C : Bk} (h : Sim B C) (hI : Inv B) (hR : RkOk B) (v : Int32) : q_sAt B v = q_sAt C v := by
  unfold q_sAt
  rw [← h.sN]
  exact q1_congr fun x e => by rw [ixR_sim h hI hR (inL_lt (by have := iv_sN hI; omega) e)]
theorem q1_ixS {B C : Bk} (h : Sim B C) (hI : Inv B) {f g : Nat → Int32} (id : Int32) (e : ∀ k j, k < sN B → j < sN C → sAt B k = sAt C j → f k = g j) : q1 (ixS B id) f = q1 (ixS C id) g := by
  rcases ixS_sim h hI id with ⟨e1, e2⟩ | ⟨k, j, e1, e2, h1, h2, h3⟩
  · rw [e1, e2]; rfl
  · rw [e1, e2]
    show (0, f k) = (0, g j)
    rw [e k j h1 h2 h3]
theorem q_dayOf_sim {B C : Bk} (h : Sim B C) (hI : Inv B) (id : Int32) : q_dayOf B id = q_dayOf C id := q1_ixS h hI id fun k j _ _ e => by rw [e]
theorem q_minOf_sim {B C : Bk} (h : Sim B C) (hI : Inv B) (id : Int32) : q_minOf B id = q_minOf C id := q1_ixS h hI id fun k j _ _ e => by rw [e]
theorem q_loadOf_sim {B C : Bk} (h : Sim B C) (hI : Inv B) (id : Int32) : q_loadOf B id = q_loadOf C id := q1_ixS h hI id fun k j _ _ e => by rw [e, loadS_sim h hI]
theorem q_minZ_sim {B C : Bk} (h : Sim B C) (hI : Inv B) (id z : Int32) : q_minZ B id z = q_minZ C id z := by
  unfold q_minZ
  rcases ixS_sim h hI id with ⟨e1, e2⟩ | ⟨k, j, e1, e2, h1, h2, h3⟩
  · rw [e1, e2]
  · rw [e1, e2]
    dsimp only
    rw [h3]
    cases inR z 1 5 with
    | none => rfl
    | some y => dsimp only; rw [zMin_sim h hI]
theorem q_loadOn_sim {B C : Bk} (h : Sim B C) (hI : Inv B) (v : Int32) : q_loadOn B v = q_loadOn C v := by unfold q_loadOn; rw [h.bD, loadD_sim h hI]
theorem q_fit_sim {B C : Bk} (h : Sim B C) (hI : Inv B) (v : Int32) : q_fit B v = q_fit C v := by unfold q_fit; rw [h.bD, loadD_sim h hI]
theorem q_fat_sim {B C : Bk} (h : Sim B C) (hI : Inv B) (v : Int32) : q_fat B v = q_fat C v := by unfold q_fat; rw [h.bD, loadD_sim h hI]
theorem q_form_sim {B C : Bk} (h : Sim B C) (hI : Inv B) (v : Int32) : q_form B v = q_form C v := by unfold q_form; rw [h.bD, formS_sim h hI]
theorem q_bestForm_sim {B C : Bk} (h : Sim B C) (hI : Inv B) : q_bestForm B = q_bestForm C := by unfold q_bestForm; rw [h.bD, bfW_sim h hI]
theorem q_daysTo_sim {B C : Bk} (h : Sim B C) (hI : Inv B) (v : Int32) : q_daysTo B v = q_daysTo C v := by unfold q_daysTo; rw [dfF_sim h hI]
theorem q_row_congr {B C : Bk} (h : Sim B C) {f g : Nat → Int32} (v : Int32) (e : ∀ n, f n = g n) : q_row B v f = q_row C v g := by
  unfold q_row
  rw [h.bD]
  cases inR v 1 60 with
  | none => rfl
  | some n => dsimp only; rw [e]
theorem q_bestDays_sim {B C : Bk} (h : Sim B C) (hI : Inv B) (v : Int32) : q_bestDays B v = q_bestDays C v := q_row_congr h v fun n => by rw [rowS_sim h hI, bestW_sim h hI, h.bD]
theorem q_bestStart_sim {B C : Bk} (h : Sim B C) (hI : Inv B) (v : Int32) : q_bestStart B v = q_bestStart C v := q_row_congr h v fun n => by rw [bestW_sim h hI, h.bD]
theorem q_eff_congr {B C : Bk} (h : Sim B C) (hI : Inv B) {f g : Nat → Nat → Int32} (v : Int32) (e : ∀ n k j, sAt B k = sAt C j → f n k = g n j) : q_eff B v f = q_eff C v g := by
  unfold q_eff
  cases inR v 1 240 with
  | none => rfl
  | some n =>
    dsimp only
    rcases ixE_sim h hI n with ⟨e1, e2⟩ | ⟨k, j, e1, e2, h1, h2, h3⟩
    · rw [e1, e2]
    · rw [e1, e2]
      dsimp only
      rw [e n k j h3]
theorem q_bestEff_sim {B C : Bk} (h : Sim B C) (hI : Inv B) (v : Int32) : q_bestEff B v = q_bestEff C v := q_eff_congr h hI v fun n k j e => by rw [e]
theorem q_bestEffS_sim {B C : Bk} (h : Sim B C) (hI : Inv B) (v : Int32) : q_bestEffS B v = q_bestEffS C v := q_eff_congr h hI v fun n k j e => by rw [e]
theorem q_target_sim {B C : Bk} (h : Sim B C) (hI : Inv B) (v : Int32) : q_target B v = q_target C v := by unfold q_target; rw [h.bE, h.bG]
theorem q_due_sim {B C : Bk} (h : Sim B C) (hI : Inv B) : q_due B = q_due C := by unfold q_due; rw [goB_sim h hI, crs_sim h hI]
theorem q_missed_sim {B C : Bk} (h : Sim B C) (hI : Inv B) : q_missed B = q_missed C := by unfold q_missed; rw [crs_sim h hI]
theorem q_dropped_sim {B C : Bk} (h : Sim B C) (hI : Inv B) : q_dropped B = q_dropped C := by unfold q_dropped; rw [crs_sim h hI]
theorem q_end_sim {B C : Bk} (h : Sim B C) (hI : Inv B) : q_end B = q_end C := by unfold q_end; rw [goB_sim h hI, crs_sim h hI, h.bD, h.bE]
theorem q_over_sim {B C : Bk} (h : Sim B C) (hI : Inv B) : q_over B = q_over C := by unfold q_over; rw [goB_sim h hI, h.bP]
theorem q_share_sim {B C : Bk} (h : Sim B C) (hI : Inv B) (v : Int32) : q_share B v = q_share C v := by
  unfold q_share
  cases inR v 1 5 with
  | none => rfl
  | some z => dsimp only; rw [allM_sim h, zAll_sim h hI]
theorem q_mean_sim {B C : Bk} (h : Sim B C) (hI : Inv B) : q_mean B = q_mean C := by unfold q_mean; rw [sumL_sim h hI, h.bD]
theorem inR_bD {B C : Bk} (h : Sim B C) (v : Int32) : inR v 0 (bD B) = inR v 0 (bD C) := by rw [h.bD]
end SIM
