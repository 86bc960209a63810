/-! PURE: what a changed book keeps of days; its elements -/
set_option maxRecDepth 100000
theorem decay_cg {c : Nat} {f g : Nat → Nat} : ∀ n, (∀ d, d < n → f d = g d) → decay c f n = decay c g n
  | 0, _ => rfl
  | n + 1, h => by simp only [decay]; rw [decay_cg n (fun d hd => h d (by omega)), h n (by omega)]
theorem Cache_cut {B C : Bk} {k2 kn : Nat} {fl ff fg : Nat → Int32} (hk : k2 ≤ kn) (he : ∀ d, d < k2 → loadD C d = loadD B d) (h : Cache B kn fl ff fg) : Cache C k2 fl ff fg := by
  intro d hd
  obtain ⟨h1, h2, h3⟩ := h d (by omega)
  rw [he d hd, decay_cg (c := 42) (f := loadD C) (g := loadD B) (d + 1) (fun e he2 => he e (by omega)), decay_cg (c := 7) (f := loadD C) (g := loadD B) (d + 1) (fun e he2 => he e (by omega))]
  exact ⟨h1, h2, h3⟩
theorem Cache_cpy {B : Bk} {kn : Nat} {fl ff fg fl2 ff2 fg2 : Nat → Int32} (h1 : ∀ j, j < kn → fl2 j = fl j) (h2 : ∀ j, j < kn → ff2 j = ff j) (h3 : ∀ j, j < kn → fg2 j = fg j) (h : Cache B kn fl ff fg) : Cache B kn fl2 ff2 fg2 := by
  intro d hd
  rw [h1 d hd, h2 d hd, h3 d hd]
  exact h d hd
theorem thrW_cg {B C : Bk} (h : bT B = bT C) (d : Nat) : ∀ k, thrW B d k = thrW C d k
  | 0 => rfl
  | k + 1 => by
    simp only [thrW]
    rw [thrW_cg h d k]
    unfold tDay tThr
    rw [h]
theorem thr_cg {B C : Bk} (h : bT B = bT C) (d : Nat) : thr B d = thr C d := by
  unfold thr
  rw [thrW_cg h, show tN B = tN C from congrArg List.length h]
theorem loadS_cg {B C : Bk} {x : Sess} (h : thr B (sDay x) = thr C (sDay x)) (hb : bB B = bB C) (hw : bW B = bW C) : loadS B x = loadS C x := by
  unfold loadS
  refine psum_congr fun j _ => ?_
  have e : zoneP B x j = zoneP C x j := by unfold zoneP zoneX; rw [h, hb]
  rw [e, hw]
theorem loadD_sum (B : Bk) (d : Nat) : loadD B d = ((bS B).map (fun x => if sDay x = d then loadS B x else 0)).sum := psumS B (fun x => if sDay x = d then loadS B x else 0)
theorem sum_cg {α : Type} {F F2 : α → Nat} : ∀ {l : List α}, (∀ x ∈ l, F x = F2 x) → (l.map F).sum = (l.map F2).sum
  | [], _ => rfl
  | x :: l, h => by
    simp only [List.map_cons, List.sum_cons]
    rw [h x List.mem_cons_self, sum_cg (fun y hy => h y (List.mem_cons_of_mem _ hy))]
theorem loadD_cg {B C : Bk} (ht : bT B = bT C) (hs : bS B = bS C) (hb : bB B = bB C) (hw : bW B = bW C) (d : Nat) : loadD B d = loadD C d := by
  rw [loadD_sum, loadD_sum, hs]
  exact sum_cg fun x _ => by rw [loadS_cg (thr_cg ht _) hb hw]
/-- tests not behind a day alone tell its threshold -/
theorem thr_mem {B C : Bk} {d : Nat} (hC : ∀ j k, j < tN C → k < tN C → tDay C j = tDay C k → j = k) (hm : ∀ x : Nat × Nat, x.1 ≤ d → (x ∈ bT B ↔ x ∈ bT C)) : thr B d = thr C d := by
  unfold thr
  rcases thrW_P B d (tN B) with ⟨e1, g1⟩ | ⟨j, hj, a1, a2, a3⟩ <;> rcases thrW_P C d (tN C) with ⟨e2, g2⟩ | ⟨i, hi, b1, b2, b3⟩
  · rw [e1, e2]
  · obtain ⟨k, hk, q1, -⟩ := memT' ((hm (tDay C i, tThr C i) b1).mpr (memT hi))
    exact absurd (by rw [q1]; exact b1) (g1 k hk)
  · obtain ⟨k, hk, q1, -⟩ := memT' ((hm (tDay B j, tThr B j) a1).mp (memT hj))
    exact absurd (by rw [q1]; exact a1) (g2 k hk)
  · rw [a2, b2]
    obtain ⟨k, hk, q1, q2⟩ := memT' ((hm (tDay B j, tThr B j) a1).mp (memT hj))
    obtain ⟨m, hm2, q3, q4⟩ := memT' ((hm (tDay C i, tThr C i) b1).mpr (memT hi))
    dsimp only at q1 q2 q3 q4
    have z1 := b3 k hk (by rw [q1]; exact a1)
    have z2 := a3 m hm2 (by rw [q3]; exact b1)
    have z3 : k = i := hC k i hk hi (by omega)
    subst z3
    exact q2.symm
theorem loadD_T {B : Bk} {L : List (Nat × Nat)} {d : Nat} (h : thr (wT B L) d = thr B d) : loadD (wT B L) d = loadD B d := by
  rw [loadD_sum, loadD_sum]
  refine sum_cg (l := bS B) fun x _ => ?_
  by_cases c : sDay x = d
  · rw [if_pos c, if_pos c]
    exact loadS_cg (by rw [c]; exact h) rfl rfl
  · rw [if_neg c, if_neg c]
theorem loadD_insT {B : Bk} (hI : Inv B) {p x y d : Nat} (hp : p ≤ tN B) (hd : d < x) : loadD (wT B ((bT B).insertIdx p (x, y))) d = loadD B d := by
  refine loadD_T (thr_mem (fun j k hj hk e => iv_tinj hI hj hk e) fun t ht => ?_)
  show t ∈ (bT B).insertIdx p (x, y) ↔ _
  rw [(List.perm_insertIdx (x, y) (bT B) hp).mem_iff, List.mem_cons]
  exact ⟨fun z => z.elim (fun e => by rw [e] at ht; dsimp only at ht; omega) id, Or.inr⟩
theorem loadD_delT {B : Bk} (hI : Inv B) {t d : Nat} (ht : t < tN B) (hd : d < tDay B t) : loadD (wT B ((bT B).eraseIdx t)) d = loadD B d := by
  refine loadD_T (thr_mem (fun j k hj hk e => iv_tinj hI hj hk e) fun x hx => ?_)
  have hp := era_perm (l := bT B) (k := t) ht
  show x ∈ (bT B).eraseIdx t ↔ _
  rw [hp.mem_iff, List.mem_cons]
  rw [tDay_g ht] at hd
  exact ⟨Or.inr, fun z => z.elim (fun e => by rw [e] at hx; omega) id⟩
/-- another list of sessions, the same but for some of other days -/
theorem loadD_S {B : Bk} {L : List Sess} {d : Nat} {a b : List Sess} {M : List Sess} (h1 : (bS B).Perm (a ++ M)) (h2 : L.Perm (b ++ M)) (ha : ∀ x ∈ a, sDay x ≠ d ∨ loadS B x = 0) (hb : ∀ x ∈ b, sDay x ≠ d ∨ loadS B x = 0) : loadD (wS B L) d = loadD B d := by
  have e0 : ∀ x, loadS (wS B L) x = loadS B x := fun x => loadS_cg (thr_cg (B := wS B L) (C := B) rfl _) rfl rfl
  have z : ∀ {l : List Sess}, (∀ x ∈ l, sDay x ≠ d ∨ loadS B x = 0) → (l.map (fun x => if sDay x = d then loadS B x else 0)).sum = 0 := by
    intro l h
    induction l with
    | nil => rfl
    | cons x l ih =>
      simp only [List.map_cons, List.sum_cons]
      rw [ih (fun y hy => h y (List.mem_cons_of_mem _ hy))]
      rcases h x List.mem_cons_self with g | g
      · rw [if_neg g]
      · rw [g]; split <;> rfl
  rw [loadD_sum, loadD_sum]
  show (L.map (fun x => if sDay x = d then loadS (wS B L) x else 0)).sum = _
  rw [sum_cg (F2 := fun x => if sDay x = d then loadS B x else 0) (fun x _ => by rw [e0]), sum_perm _ h2, sum_perm _ h1, List.map_append, List.map_append, List.sum_append, List.sum_append, z ha, z hb]
theorem loadS_none (B : Bk) (i d : Nat) : loadS B (i, d, []) = 0 := rfl
theorem loadD_addS {B : Bk} {p i x d : Nat} (hp : p ≤ sN B) : loadD (wS B ((bS B).insertIdx p (i, x, []))) d = loadD B d :=
  loadD_S (a := []) (b := [(i, x, [])]) (M := bS B) (List.Perm.refl _) (List.perm_insertIdx _ _ hp) (fun x hx => nomatch hx) (fun x hx => by rw [List.mem_singleton.mp hx]; exact Or.inr rfl)
theorem loadD_delS {B : Bk} {k d : Nat} (hk : k < sN B) (hd : d < sDay (sAt B k)) : loadD (wS B ((bS B).eraseIdx k)) d = loadD B d :=
  loadD_S (a := [(bS B)[k]'hk]) (b := []) (M := (bS B).eraseIdx k) (era_perm hk) (List.Perm.refl _) (fun x hx => by rw [List.mem_singleton.mp hx, ← sAt_g hk]; exact Or.inl (by omega)) (fun x hx => nomatch hx)
theorem loadD_repS {B : Bk} {k p d : Nat} {x : Sess} (hk : k < sN B) (hp : p ≤ sN B - 1) (hd : d < sDay (sAt B k)) (hd2 : d < sDay x) : loadD (wS B (((bS B).eraseIdx k).insertIdx p x)) d = loadD B d :=
  loadD_S (a := [(bS B)[k]'hk]) (b := [x]) (M := (bS B).eraseIdx k) (era_perm hk) (List.perm_insertIdx x _ (by rw [List.length_eraseIdx_of_lt (show k < (bS B).length from hk)]; exact hp)) (fun y hy => by rw [List.mem_singleton.mp hy, ← sAt_g hk]; exact Or.inl (by omega)) (fun y hy => by rw [List.mem_singleton.mp hy]; exact Or.inl (by omega))
/-! the elements -/
theorem sAt_dIx {B : Bk} {k j : Nat} : sAt (wS B ((bS B).eraseIdx k)) j = sAt B (dIx k j) := by
  unfold dIx
  by_cases h : j < k
  · rw [sAt_era1 h, if_pos h]
  · rw [sAt_era2 (by omega), if_neg h]
theorem Ss_del {G : Gt} {B : Bk} {Wi : va_W} {gs : Nat → Nat} {k : Nat} (hk : k < sN B) (h : ∀ j, j < sN B → SesIn G Wi (gs j) (sAt B j)) : ∀ j, j < sN (wS B ((bS B).eraseIdx k)) → SesIn G Wi (delA gs k j) (sAt (wS B ((bS B).eraseIdx k)) j) := by
  intro j hj
  rw [sN_era hk] at hj
  rw [sAt_dIx]
  exact h _ (dIx_lt hk hj)
theorem Ss_ins {G : Gt} {B : Bk} {Wi E : va_W} {gs : Nat → Nat} {p xo : Nat} {x : Sess} (hp : p ≤ sN B) (h : ∀ j, j < sN B → SesIn G Wi (gs j) (sAt B j)) (hx : SesIn G (Wi ++ E) xo x) : ∀ j, j < sN (wS B ((bS B).insertIdx p x)) → SesIn G (Wi ++ E) (insA gs p xo j) (sAt (wS B ((bS B).insertIdx p x)) j) := by
  intro j hj
  rw [sN_ins hp] at hj
  rcases Nat.lt_trichotomy j p with g | g | g
  · rw [insA_lt g, sAt_ins_lt g]; exact (h j (by omega)).app
  · subst g
    rw [insA_eq, sAt_ins_eq hp]; exact hx
  · rw [insA_gt g, sAt_ins_gt g]; exact (h _ (by omega)).app
theorem Ts_del {B : Bk} {Wi : va_W} {ga : Nat → Nat} {k : Nat} (hk : k < tN B) (h : ∀ j, j < tN B → TestIn Wi (ga j) (tDay B j) (tThr B j)) : ∀ j, j < tN (wT B ((bT B).eraseIdx k)) → TestIn Wi (delA ga k j) (tDay (wT B ((bT B).eraseIdx k)) j) (tThr (wT B ((bT B).eraseIdx k)) j) := by
  intro j hj
  rw [tN_del hk] at hj
  have h1 := h (dIx k j) (dIx_lt hk hj)
  unfold delA
  rcases Nat.lt_or_ge j k with g | g
  · rw [(tDay_del_lt g).1, (tDay_del_lt g).2]
    have e : dIx k j = j := if_pos g
    rw [e] at h1 ⊢
    exact h1
  · rw [(tDay_del_ge g).1, (tDay_del_ge g).2]
    have e : dIx k j = j + 1 := if_neg (by omega)
    rw [e] at h1 ⊢
    exact h1
/-- one session in another's place: all that a book owes -/
theorem rep_ok {B : Bk} (hI : Inv B) (hs : SrtS B) {k p : Nat} {x : Sess} (hk : k < sN B) (he : sId x = sId (sAt B k)) (hp : p ≤ sN B - 1) (h1 : ∀ j, j < p → lt (sAt B (dIx k j)) x) (h2 : p < sN B - 1 → ¬ lt (sAt B (dIx k p)) x) : SrtS (wS B (((bS B).eraseIdx k).insertIdx p x)) := by
  have hn := sN_era hk
  refine SrtS_ins (B := wS B ((bS B).eraseIdx k)) (SrtS_del hs hk) (by rw [hn]; exact hp) (fun j hj => by rw [sAt_dIx]; exact h1 j hj) (fun z => by rw [hn] at z; rw [sAt_dIx]; exact h2 z) (fun j hj => ?_)
  rw [hn] at hj
  rw [sAt_dIx, he]
  intro e
  have := iv_sinj hI (dIx_lt hk hj) hk e
  unfold dIx at this
  split at this <;> omega
/-! what an accepted change was -/
theorem o_pass_ok {B B2 : Bk} {v rr : Int32} (h : o_pass B v = (0, rr, B2)) : ∃ n, bD B + n ≤ 199 ∧ B2 = wD B (bD B + n) := by
  unfold o_pass at h
  cases e : inR v 1 30 with
  | none => rw [e] at h; cases h
  | some n =>
    rw [e] at h
    dsimp only at h
    by_cases c : 199 < bD B + n
    · rw [if_pos c] at h; cases h
    · rw [if_neg c] at h; cases h; exact ⟨n, by omega, rfl⟩
theorem o_setBound_ok {B B2 : Bk} {z w rr : Int32} (h : o_setBound B z w = (0, rr, B2)) : ∃ y p, (2 ≤ y ∧ y ≤ 5) ∧ (1 ≤ p ∧ p ≤ 300) ∧ ¬ ((2 < y ∧ p ≤ bB B (y - 1)) ∨ (y < 5 ∧ bB B (y + 1) ≤ p)) ∧ B2 = wB B (updN (bB B) y p) := by
  unfold o_setBound at h
  cases e : inR z 2 5 with
  | none => rw [e] at h; cases h
  | some y =>
    cases e2 : inR w 1 300 with
    | none => rw [e, e2] at h; cases h
    | some p =>
      rw [e, e2] at h
      dsimp only at h
      by_cases c : (2 < y ∧ p ≤ bB B (y - 1)) ∨ (y < 5 ∧ bB B (y + 1) ≤ p)
      · rw [if_pos c] at h; cases h
      · rw [if_neg c] at h; cases h
        exact ⟨y, p, (inR_spec (by decide) (by decide) e).2, (inR_spec (by decide) (by decide) e2).2, c, rfl⟩
theorem o_setWeight_ok {B B2 : Bk} {z w rr : Int32} (h : o_setWeight B z w = (0, rr, B2)) : ∃ y p, p ≤ 100 ∧ B2 = wW B (updN (bW B) y p) := by
  unfold o_setWeight at h
  cases e : inR z 1 5 with
  | none => rw [e] at h; cases h
  | some y =>
    cases e2 : inR w 0 100 with
    | none => rw [e, e2] at h; cases h
    | some p =>
      rw [e, e2] at h
      cases h
      exact ⟨y, p, (inR_spec (by decide) (by decide) e2).2.2, rfl⟩
theorem o_addTarget_ok {B B2 : Bk} {v rr : Int32} (h : o_addTarget B v = (0, rr, B2)) (hE : bE B ≤ 28) : ∃ x, bE B < 28 ∧ x ≤ 20000 ∧ bP B ≠ none ∧ B2 = wE (wG B (updN (bG B) (bE B) x)) (bE B + 1) := by
  unfold o_addTarget at h
  cases e : inR v 0 20000 with
  | none => rw [e] at h; cases h
  | some x =>
    rw [e] at h
    dsimp only at h
    by_cases c : bP B ≠ some (bD B) ∨ bE B = 28
    · rw [if_pos c] at h; cases h
    · rw [if_neg c] at h; cases h
      refine ⟨x, by omega, (inR_spec (by decide) (by decide) e).2.2, fun z => c (Or.inl (by rw [z]; exact fun w => nomatch w)), rfl⟩
theorem Inv_opass {B B2 : Bk} {v rr : Int32} (hI : Inv B) (h : o_pass B v = (0, rr, B2)) : Inv B2 := by obtain ⟨n, h1, rfl⟩ := o_pass_ok h; exact Inv_pass hI h1
