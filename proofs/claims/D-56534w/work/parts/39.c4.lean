/-! the component: lists as abstract worlds -/
set_option maxRecDepth 100000
/-- an ordered list's world: its object, the ArrayList's, and its array (none of its own: the shared first one) -/
def LstW (G : Gt) (o k : Nat) (ga : Nat → Nat) (W : va_W) : Prop := ∃ (a : Nat) (m : Int32) (e cap : Nat) (f : Nat → Option Nat), (∀ j, j < k → f j = some (ga j)) ∧ k ≤ 40 ∧ k ≤ cap ∧ cap ≤ 60 ∧ ((e = G.2 99 ∧ cap = 0 ∧ f = (fun _ => none) ∧ W = [(o, .inr (2, [.ref a])), (a, .inr (3, [.int m, .ref (G.2 99), .int (nI 0)]))]) ∨ (2 ≤ cap ∧ W = [(o, .inr (2, [.ref a])), (a, .inr (3, [.int m, .ref e, .int (nI k)])), (e, .inl (G.2 3, cap, .inr (.inr (.inr (.inr f)))))]))
theorem LstW.ro {G : Gt} {o k : Nat} {ga : Nat → Nat} {W : va_W} (h : LstW G o k ga W) : ∃ (a : Nat) (m : Int32) (e cap : Nat) (f : Nat → Option Nat), (∀ j, j < k → f j = some (ga j)) ∧ k ≤ 40 ∧ k ≤ cap ∧ cap ≤ 60 ∧ ∀ (A : Nat → Prop) (H : Heap), roW G A H W → roW G A H [cell99 G] → roW G A H [(o, .inr (2, [.ref a])), (a, .inr (3, [.int m, .ref e, .int (nI k)])), (e, .inl (G.2 3, cap, .inr (.inr (.inr (.inr f)))))] := by
  obtain ⟨a, m, e, cap, f, h1, h2, h3, h4, h5⟩ := h
  refine ⟨a, m, e, cap, f, h1, h2, h3, h4, fun A H r r9 => ?_⟩
  rcases h5 with ⟨rfl, rfl, rfl, rfl⟩ | ⟨-, rfl⟩
  · have hk : k = 0 := by omega
    subst hk
    exact r.app r9
  · exact r
theorem LstW.k40 {G : Gt} {o k : Nat} {ga : Nat → Nat} {W : va_W} (h : LstW G o k ga W) : k ≤ 40 := by
  obtain ⟨a, m, e, cap, f, h1, h2, h3, h4, h5⟩ := h
  exact h2
theorem LstW.congr {G : Gt} {o k : Nat} {ga gb : Nat → Nat} {W : va_W} (h : LstW G o k ga W) (e : ∀ j, j < k → ga j = gb j) : LstW G o k gb W := by
  obtain ⟨a, m, e9, cap, f, h1, h2⟩ := h
  exact ⟨a, m, e9, cap, f, fun j hj => by rw [h1 j hj, e j hj], h2⟩
theorem ses_fn {G : Gt} {Wi : va_W} {gs : Nat → Nat} {xa : Nat → Sess} {n : Nat} (h : ∀ j, j < n → SesIn G Wi (gs j) (xa j)) : ∃ gm gi : Nat → Nat, ∀ j, j < n → SesCell Wi (gs j) (sDay (xa j)) (sId (xa j)) (gm j) (gi j) := by
  have h2 : ∀ j, ∃ mi it, j < n → SesCell Wi (gs j) (sDay (xa j)) (sId (xa j)) mi it := fun j => by
    by_cases c : j < n
    · obtain ⟨mi, it, fm, fi, h1, -⟩ := h j c
      exact ⟨mi, it, fun _ => h1⟩
    · exact ⟨0, 0, fun z => absurd z c⟩
  exact ⟨fun j => Classical.choose (h2 j), fun j => Classical.choose (Classical.choose_spec (h2 j)), fun j hj => Classical.choose_spec (Classical.choose_spec (h2 j)) hj⟩
theorem SesIn.app {G : Gt} {Wi E : va_W} {y : Nat} {x : Sess} (h : SesIn G Wi y x) : SesIn G (Wi ++ E) y x := by
  obtain ⟨mi, it, fm, fi, h1, h2, h3, h4, h5⟩ := h
  exact ⟨mi, it, fm, fi, List.mem_append_left _ h1, List.mem_append_left _ h2, List.mem_append_left _ h3, h4, h5⟩
theorem TestIn.app {Wi E : va_W} {y d t : Nat} (h : TestIn Wi y d t) : TestIn (Wi ++ E) y d t := List.mem_append_left _ h
theorem SesIn.el {G : Gt} {Wi : va_W} {y : Nat} {x : Sess} (h : SesIn G Wi y x) : ElIn Wi y := by
  obtain ⟨mi, it, fm, fi, h1, -⟩ := h
  exact ⟨_, _, h1⟩
theorem LstW.recv {G : Gt} {s : State} {H : Heap} {o k : Nat} {ga : Nat → Nat} {W : va_W} (hK : va_K G.1 CL (TYS G.2) s) (h : LstW G o k ga W) (hP : va_P G.1 CL W H) : ∃ cell : Cell, H[o]? = some cell ∧ cell.vm.isStatics = false ∧ s.vm.findClass RX3 = some cell.cls := by
  obtain ⟨a, m, e, cap, f, -, -, -, -, h5⟩ := h
  rcases h5 with ⟨rfl, rfl, rfl, rfl⟩ | ⟨-, rfl⟩
  · exact va_recv hK hP (ci := 2) (q0 := 0) rfl rfl
  · exact va_recv hK hP (ci := 2) (q0 := 0) rfl rfl
/-- what stands where, behind an insertion, behind a removal -/
def insA (ga : Nat → Nat) (p x : Nat) : Nat → Nat := fun j => if j < p then ga j else if j = p then x else ga (j - 1)
def dIx (p j : Nat) : Nat := if j < p then j else j + 1
def delA (ga : Nat → Nat) (p : Nat) : Nat → Nat := fun j => ga (dIx p j)
theorem dIx_lt {p j k : Nat} (hp : p < k) (h : j < k - 1) : dIx p j < k := by unfold dIx; split <;> omega
theorem insA_lt {ga : Nat → Nat} {p x j : Nat} (h : j < p) : insA ga p x j = ga j := if_pos h
theorem insA_eq (ga : Nat → Nat) (p x : Nat) : insA ga p x p = x := by unfold insA; rw [if_neg (Nat.lt_irrefl _), if_pos rfl]
theorem insA_gt {ga : Nat → Nat} {p x j : Nat} (h : p < j) : insA ga p x j = ga (j - 1) := by unfold insA; rw [if_neg (by omega), if_neg (by omega)]
theorem delA_lt {ga : Nat → Nat} {p j : Nat} (h : j < p) : delA ga p j = ga j := congrArg ga (if_pos h)
theorem delA_ge {ga : Nat → Nat} {p j : Nat} (h : p ≤ j) : delA ga p j = ga (j + 1) := congrArg ga (if_neg (by omega))
theorem insA_ok {ga : Nat → Nat} {k p x : Nat} {f f2 : Nat → Option Nat} (h1 : ∀ j, j < k → f j = some (ga j)) (a : ∀ j, j < p → f2 j = f j) (b : f2 p = some x) (c : ∀ j, p ≤ j → j < k → f2 (j + 1) = f j) (hp : p ≤ k) : ∀ j, j < k + 1 → f2 j = some (insA ga p x j) := by
  intro j hj
  rcases Nat.lt_trichotomy j p with g | g | g
  · rw [insA_lt g, a j g]; exact h1 j (by omega)
  · rw [g, insA_eq]; exact b
  · rw [insA_gt g]
    have h := c (j - 1) (by omega) (by omega)
    rw [show j - 1 + 1 = j by omega] at h
    rw [h]
    exact h1 _ (by omega)
theorem delA_ok {ga : Nat → Nat} {k p : Nat} {f f2 : Nat → Option Nat} (h1 : ∀ j, j < k → f j = some (ga j)) (a : ∀ j, j < p → f2 j = f j) (b : ∀ j, p ≤ j → j + 1 < k → f2 j = f (j + 1)) : ∀ j, j < k - 1 → f2 j = some (delA ga p j) := by
  intro j hj
  rcases Nat.lt_or_ge j p with g | g
  · rw [delA_lt g, a j g]; exact h1 j (by omega)
  · rw [delA_ge g, b j g (by omega)]; exact h1 _ (by omega)

theorem lX3_size (l : Launch) (G : Gt) (o : Nat) (k : Nat) (ga : Nat → Nat) (W : va_W) (hW : LstW G o k ga W) : CT l G yX3_size cX3_size 1 (some .int) ({ frames := 2, cells := 0, slots := 0, locals := 32 } : Room) [.ref o] [] (fun (A : Nat → Prop) (H : Heap) => roW G A H W) (S := Unit) (fun (u_ : Unit) => some (.int (nI k))) (fun (u_ : Unit) => True) (fun (u_ : Unit) => []) (fun (u_ : Unit) (H : Heap) => True) := by
  obtain ⟨a, m, e, cap, f, h1, h2, h3, h4, h5⟩ := hW.ro
  exact (mX3_size l G o a m e k cap f).conv (Nat.le_of_ble_eq_true rfl) (Nat.le_of_ble_eq_true rfl) (Nat.le_of_ble_eq_true rfl) (Nat.le_of_ble_eq_true rfl) [] (List.Perm.refl _) (fun sz A H hA hP hr h9 hR e9 => h5 A H (hR.nar hA) h9) (fun u hu => ⟨u, rfl, hu, Sub9.rf _, fun _ z => z⟩)

theorem lX3_getT (l : Launch) (G : Gt) (o : Nat) (k : Nat) (ga : Nat → Nat) (W : va_W) (i : Nat) (vs : List Value) (Wi : va_W) (hW : LstW G o k ga W) (hi : i < k) (hgm : (ga i, Sum.inr (8, vs)) ∈ Wi) : CT l G yX3_get cX3_get 2 (some (.object "TrainingDiary$Dated")) ({ frames := 4, cells := 0, slots := 0, locals := 76 } : Room) [.ref o, .int (nI i)] [] (fun (A : Nat → Prop) (H : Heap) => roW G A H W ∧ roW G A H Wi) (S := Unit) (fun (u_ : Unit) => some (.ref (ga i))) (fun (u_ : Unit) => True) (fun (u_ : Unit) => []) (fun (u_ : Unit) (H : Heap) => True) := by
  obtain ⟨a, m, e, cap, f, h1, h2, h3, h4, h5⟩ := hW.ro
  exact (mX3_getT l G o a m e k cap f i (ga i) vs Wi h3 h4 hi (h1 i hi) hgm).conv (Nat.le_of_ble_eq_true rfl) (Nat.le_of_ble_eq_true rfl) (Nat.le_of_ble_eq_true rfl) (Nat.le_of_ble_eq_true rfl) [] (List.Perm.refl _) (fun sz A H hA hP hr h9 hR e9 => ⟨h5 A H (hR.1.nar hA) h9, hR.2.nar hA⟩) (fun u hu => ⟨u, rfl, hu, Sub9.rf _, fun _ z => z⟩)

theorem lX3_getS (l : Launch) (G : Gt) (o : Nat) (k : Nat) (ga : Nat → Nat) (W : va_W) (i : Nat) (vs : List Value) (Wi : va_W) (hW : LstW G o k ga W) (hi : i < k) (hgm : (ga i, Sum.inr (9, vs)) ∈ Wi) : CT l G yX3_get cX3_get 2 (some (.object "TrainingDiary$Dated")) ({ frames := 4, cells := 0, slots := 0, locals := 76 } : Room) [.ref o, .int (nI i)] [] (fun (A : Nat → Prop) (H : Heap) => roW G A H W ∧ roW G A H Wi) (S := Unit) (fun (u_ : Unit) => some (.ref (ga i))) (fun (u_ : Unit) => True) (fun (u_ : Unit) => []) (fun (u_ : Unit) (H : Heap) => True) := by
  obtain ⟨a, m, e, cap, f, h1, h2, h3, h4, h5⟩ := hW.ro
  exact (mX3_getS l G o a m e k cap f i (ga i) vs Wi h3 h4 hi (h1 i hi) hgm).conv (Nat.le_of_ble_eq_true rfl) (Nat.le_of_ble_eq_true rfl) (Nat.le_of_ble_eq_true rfl) (Nat.le_of_ble_eq_true rfl) [] (List.Perm.refl _) (fun sz A H hA hP hr h9 hR e9 => ⟨h5 A H (hR.1.nar hA) h9, hR.2.nar hA⟩) (fun u hu => ⟨u, rfl, hu, Sub9.rf _, fun _ z => z⟩)

theorem lX1_lastUpTo (l : Launch) (G : Gt) (o : Nat) (k : Nat) (ga : Nat → Nat) (W : va_W) (d : Nat) (td : Nat → Nat) (tt : Nat → Nat) (Wi : va_W) (hW : LstW G o k ga W) (hd : d < 2 ^ 31) (hel : ∀ j, j < k → TestIn Wi (ga j) (td j) (tt j) ∧ td j < 2 ^ 31) : CT l G yX1_lastUpTo cX1_lastUpTo 6 (some .int) ({ frames := 6, cells := 1, slots := 2, locals := 116 } : Room) [.ref o, .int (nI d)] [] (fun (A : Nat → Prop) (H : Heap) => roW G A H W ∧ roW G A H Wi) (S := (Option Nat)) (fun (u_ : (Option Nat)) => some (.int (oI u_))) (fun (u_ : (Option Nat)) => LU td d k u_) (fun (u_ : (Option Nat)) => []) (fun (u_ : (Option Nat)) (H : Heap) => True) := by
  obtain ⟨a, m, e, cap, f, h1, h2, h3, h4, h5⟩ := hW.ro
  exact (mX1_lastUpTo l G o a m e k cap f d td tt ga Wi h3 h4 hd (fun j hj => ⟨h1 j hj, hel j hj⟩)).conv (Nat.le_of_ble_eq_true rfl) (Nat.le_of_ble_eq_true rfl) (Nat.le_of_ble_eq_true rfl) (Nat.le_of_ble_eq_true rfl) [] (List.Perm.refl _) (fun sz A H hA hP hr h9 hR e9 => ⟨h5 A H (hR.1.nar hA) h9, hR.2.nar hA⟩) (fun u hu => ⟨u, rfl, hu, Sub9.rf _, fun _ z => z⟩)

theorem lX3_insertT (l : Launch) (G : Gt) (o : Nat) (k : Nat) (ga : Nat → Nat) (W : va_W) (xo : Nat) (Wi : va_W) (d : Nat) (th : Nat) (td : Nat → Nat) (tt : Nat → Nat) (hW : LstW G o k ga W) (hk9 : k < 40) (hd : d < 2 ^ 31) (hxm : TestIn Wi xo d th) (hel : ∀ j, j < k → TestIn Wi (ga j) (td j) (tt j) ∧ td j < 2 ^ 31) : CT l G yX3_insert cX3_insert 3 none ({ frames := 6, cells := 1, slots := 60, locals := 145 } : Room) [.ref o, .ref xo] (W ++ []) (fun (A : Nat → Prop) (H : Heap) => roW G A H Wi) (S := Nat × va_W) (fun (u_ : Nat × va_W) => (none : Option Value)) (fun (u_ : Nat × va_W) => u_.1 ≤ k ∧ (∀ j, j < u_.1 → ltT td d j) ∧ (u_.1 < k → ¬ ltT td d u_.1) ∧ LstW G o (k + 1) (insA ga u_.1 xo) u_.2) (fun (u_ : Nat × va_W) => (u_.2 ++ [])) (fun (u_ : Nat × va_W) (H : Heap) => True) := by
  obtain ⟨a, m, e, cap, f, h1, h2, h3, h4, h5 | h5⟩ := hW
  · obtain ⟨rfl, rfl, rfl, rfl⟩ := h5
    have hk0 : k = 0 := by omega
    subst hk0
    refine (mX3_insertTE l G o a m xo Wi ⟨_, _, hxm⟩).conv (Nat.le_of_ble_eq_true rfl) (Nat.le_of_ble_eq_true rfl) (Nat.le_of_ble_eq_true rfl) (Nat.le_of_ble_eq_true rfl) [(o, .inr (2, [.ref a]))] (segs_perm [[(o, .inr (2, [.ref a]))], [(a, .inr (3, [.int m, .ref (G.2 99), .int (nI 0)]))]] [1] [0] rfl) (fun sz A H hA hP hr h9 hR e9 => ⟨hr, hR.nar hA⟩) (fun u hu => ⟨(0, [(o, .inr (2, [.ref a])), (a, .inr (3, [.int (m + nI 1), .ref u.1, .int (nI 1)])), (u.1, .inl (G.2 3, 10, .inr (.inr (.inr (.inr u.2)))))]), rfl, ⟨Nat.le_refl _, fun j hj => absurd hj (Nat.not_lt_zero _), fun z => absurd z (Nat.not_lt_zero _), ⟨a, m + nI 1, u.1, 10, u.2, fun j hj => ?_, by omega, by omega, by omega, Or.inr ⟨by omega, rfl⟩⟩⟩, Sub9.rf _, fun _ z => z⟩)
    have e9 : j = 0 := by omega
    subst e9
    rw [insA_eq]
    exact hu
  · obtain ⟨hc2, rfl⟩ := h5
    refine (mX3_insertTO l G o a m e k cap f xo Wi d th td tt ga ⟨h3, h2⟩ ⟨hc2, h4⟩ ⟨_, _, hxm⟩ hd hxm (fun j hj => ⟨h1 j hj, hel j hj⟩)).conv (Nat.le_of_ble_eq_true rfl) (Nat.le_of_ble_eq_true rfl) (Nat.le_of_ble_eq_true rfl) (Nat.le_of_ble_eq_true rfl) [(o, .inr (2, [.ref a]))] (segs_perm [[(o, .inr (2, [.ref a]))], [(a, .inr (3, [.int m, .ref e, .int (nI k)]))], [(e, .inl (G.2 3, cap, .inr (.inr (.inr (.inr f)))))]] [1, 2] [0] rfl) (fun sz A H hA hP hr h9 hR e9 => ⟨hr, hR.nar hA⟩) (fun u hu => ?_)
    obtain ⟨p9, e2, c2, f2⟩ := u
    obtain ⟨z1, z2, z3, z4, z5, z6, z7, z8, z9⟩ := hu
    exact ⟨(p9, [(o, .inr (2, [.ref a])), (a, .inr (3, [.int (m + nI 1), .ref e2, .int (nI (k + 1))])), (e2, .inl (G.2 3, c2, .inr (.inr (.inr (.inr f2)))))]), rfl, ⟨z1, z2, z3, ⟨a, m + nI 1, e2, c2, f2, insA_ok h1 z7 z8 z9 z1, by omega, z4, z5, Or.inr ⟨z6, rfl⟩⟩⟩, Sub9.rf _, fun _ z => z⟩

theorem lX3_insertS (l : Launch) (G : Gt) (o : Nat) (k : Nat) (ga : Nat → Nat) (W : va_W) (xo : Nat) (Wi : va_W) (xs : Sess) (mi : Nat) (it : Nat) (xa : Nat → Sess) (hW : LstW G o k ga W) (hk9 : k < 40) (hd : sDay xs < 2 ^ 31 ∧ sId xs < 2 ^ 31) (hxm : SesCell Wi xo (sDay xs) (sId xs) mi it) (hel : ∀ j, j < k → SesIn G Wi (ga j) (xa j) ∧ sDay (xa j) < 2 ^ 31 ∧ sId (xa j) < 2 ^ 31) : CT l G yX3_insert cX3_insert 3 none ({ frames := 6, cells := 1, slots := 60, locals := 145 } : Room) [.ref o, .ref xo] (W ++ []) (fun (A : Nat → Prop) (H : Heap) => roW G A H Wi) (S := Nat × va_W) (fun (u_ : Nat × va_W) => (none : Option Value)) (fun (u_ : Nat × va_W) => u_.1 ≤ k ∧ (∀ j, j < u_.1 → lt (xa j) xs) ∧ (u_.1 < k → ¬ lt (xa u_.1) xs) ∧ LstW G o (k + 1) (insA ga u_.1 xo) u_.2) (fun (u_ : Nat × va_W) => (u_.2 ++ [])) (fun (u_ : Nat × va_W) (H : Heap) => True) := by
  obtain ⟨a, m, e, cap, f, h1, h2, h3, h4, h5 | h5⟩ := hW
  · obtain ⟨rfl, rfl, rfl, rfl⟩ := h5
    have hk0 : k = 0 := by omega
    subst hk0
    refine (mX3_insertSE l G o a m xo Wi ⟨_, _, hxm⟩).conv (Nat.le_of_ble_eq_true rfl) (Nat.le_of_ble_eq_true rfl) (Nat.le_of_ble_eq_true rfl) (Nat.le_of_ble_eq_true rfl) [(o, .inr (2, [.ref a]))] (segs_perm [[(o, .inr (2, [.ref a]))], [(a, .inr (3, [.int m, .ref (G.2 99), .int (nI 0)]))]] [1] [0] rfl) (fun sz A H hA hP hr h9 hR e9 => ⟨hr, hR.nar hA⟩) (fun u hu => ⟨(0, [(o, .inr (2, [.ref a])), (a, .inr (3, [.int (m + nI 1), .ref u.1, .int (nI 1)])), (u.1, .inl (G.2 3, 10, .inr (.inr (.inr (.inr u.2)))))]), rfl, ⟨Nat.le_refl _, fun j hj => absurd hj (Nat.not_lt_zero _), fun z => absurd z (Nat.not_lt_zero _), ⟨a, m + nI 1, u.1, 10, u.2, fun j hj => ?_, by omega, by omega, by omega, Or.inr ⟨by omega, rfl⟩⟩⟩, Sub9.rf _, fun _ z => z⟩)
    have e9 : j = 0 := by omega
    subst e9
    rw [insA_eq]
    exact hu
  · obtain ⟨hc2, rfl⟩ := h5
    obtain ⟨gm, gi, hfn⟩ := ses_fn (G := G) (Wi := Wi) (gs := ga) (xa := xa) (n := k) (fun j hj => (hel j hj).1)
    refine (mX3_insertSO l G o a m e k cap f xo Wi (sDay xs) (sId xs) mi it (fun j => sDay (xa j)) (fun j => sId (xa j)) ga gm gi ⟨h3, h2⟩ ⟨hc2, h4⟩ ⟨_, _, hxm⟩ hd hxm (fun j hj => ⟨h1 j hj, ⟨hfn j hj, (hel j hj).2⟩⟩)).conv (Nat.le_of_ble_eq_true rfl) (Nat.le_of_ble_eq_true rfl) (Nat.le_of_ble_eq_true rfl) (Nat.le_of_ble_eq_true rfl) [(o, .inr (2, [.ref a]))] (segs_perm [[(o, .inr (2, [.ref a]))], [(a, .inr (3, [.int m, .ref e, .int (nI k)]))], [(e, .inl (G.2 3, cap, .inr (.inr (.inr (.inr f)))))]] [1, 2] [0] rfl) (fun sz A H hA hP hr h9 hR e9 => ⟨hr, hR.nar hA⟩) (fun u hu => ?_)
    obtain ⟨p9, e2, c2, f2⟩ := u
    obtain ⟨z1, z2, z3, z4, z5, z6, z7, z8, z9⟩ := hu
    exact ⟨(p9, [(o, .inr (2, [.ref a])), (a, .inr (3, [.int (m + nI 1), .ref e2, .int (nI (k + 1))])), (e2, .inl (G.2 3, c2, .inr (.inr (.inr (.inr f2)))))]), rfl, ⟨z1, z2, z3, ⟨a, m + nI 1, e2, c2, f2, insA_ok h1 z7 z8 z9 z1, by omega, z4, z5, Or.inr ⟨z6, rfl⟩⟩⟩, Sub9.rf _, fun _ z => z⟩

theorem lX3_removeAtT (l : Launch) (G : Gt) (o : Nat) (k : Nat) (ga : Nat → Nat) (W : va_W) (i : Nat) (vs : List Value) (Wi : va_W) (hW : LstW G o k ga W) (hi : i < k) (hel : ∀ j, j < k → ElIn Wi (ga j)) (hgm : (ga i, Sum.inr (8, vs)) ∈ Wi) : CT l G yX3_removeAt cX3_removeAt 3 none ({ frames := 4, cells := 0, slots := 0, locals := 80 } : Room) [.ref o, .int (nI i)] (W ++ []) (fun (A : Nat → Prop) (H : Heap) => roW G A H Wi) (S := va_W) (fun (u_ : va_W) => (none : Option Value)) (fun (u_ : va_W) => LstW G o (k - 1) (delA ga i) u_) (fun (u_ : va_W) => (u_ ++ [])) (fun (u_ : va_W) (H : Heap) => True) := by
  obtain ⟨a, m, e, cap, f, h1, h2, h3, h4, h5 | h5⟩ := hW
  · exact absurd hi (by omega)
  · obtain ⟨hc2, rfl⟩ := h5
    exact (mX3_removeAtT l G o a m e k cap f i (ga i) vs Wi h3 h4 hi (fun j hj y hy => by rw [h1 j hj] at hy; cases hy; exact hel j hj) (h1 i hi) hgm).conv (Nat.le_of_ble_eq_true rfl) (Nat.le_of_ble_eq_true rfl) (Nat.le_of_ble_eq_true rfl) (Nat.le_of_ble_eq_true rfl) [(o, .inr (2, [.ref a]))] (segs_perm [[(o, .inr (2, [.ref a]))], [(a, .inr (3, [.int m, .ref e, .int (nI k)]))], [(e, .inl (G.2 3, cap, .inr (.inr (.inr (.inr f)))))]] [1, 2] [0] rfl) (fun sz A H hA hP hr h9 hR e9 => ⟨hr, hR.nar hA⟩) (fun u hu => ⟨[(o, .inr (2, [.ref a])), (a, .inr (3, [.int (m + nI 1), .ref e, .int (nI (k - 1))])), (e, .inl (G.2 3, cap, .inr (.inr (.inr (.inr u)))))], rfl, ⟨a, m + nI 1, e, cap, u, delA_ok h1 hu.1 hu.2, by omega, by omega, h4, Or.inr ⟨hc2, rfl⟩⟩, Sub9.rf _, fun _ z => z⟩)

theorem lX3_removeAtS (l : Launch) (G : Gt) (o : Nat) (k : Nat) (ga : Nat → Nat) (W : va_W) (i : Nat) (vs : List Value) (Wi : va_W) (hW : LstW G o k ga W) (hi : i < k) (hel : ∀ j, j < k → ElIn Wi (ga j)) (hgm : (ga i, Sum.inr (9, vs)) ∈ Wi) : CT l G yX3_removeAt cX3_removeAt 3 none ({ frames := 4, cells := 0, slots := 0, locals := 80 } : Room) [.ref o, .int (nI i)] (W ++ []) (fun (A : Nat → Prop) (H : Heap) => roW G A H Wi) (S := va_W) (fun (u_ : va_W) => (none : Option Value)) (fun (u_ : va_W) => LstW G o (k - 1) (delA ga i) u_) (fun (u_ : va_W) => (u_ ++ [])) (fun (u_ : va_W) (H : Heap) => True) := by
  obtain ⟨a, m, e, cap, f, h1, h2, h3, h4, h5 | h5⟩ := hW
  · exact absurd hi (by omega)
  · obtain ⟨hc2, rfl⟩ := h5
    exact (mX3_removeAtS l G o a m e k cap f i (ga i) vs Wi h3 h4 hi (fun j hj y hy => by rw [h1 j hj] at hy; cases hy; exact hel j hj) (h1 i hi) hgm).conv (Nat.le_of_ble_eq_true rfl) (Nat.le_of_ble_eq_true rfl) (Nat.le_of_ble_eq_true rfl) (Nat.le_of_ble_eq_true rfl) [(o, .inr (2, [.ref a]))] (segs_perm [[(o, .inr (2, [.ref a]))], [(a, .inr (3, [.int m, .ref e, .int (nI k)]))], [(e, .inl (G.2 3, cap, .inr (.inr (.inr (.inr f)))))]] [1, 2] [0] rfl) (fun sz A H hA hP hr h9 hR e9 => ⟨hr, hR.nar hA⟩) (fun u hu => ⟨[(o, .inr (2, [.ref a])), (a, .inr (3, [.int (m + nI 1), .ref e, .int (nI (k - 1))])), (e, .inl (G.2 3, cap, .inr (.inr (.inr (.inr u)))))], rfl, ⟨a, m + nI 1, e, cap, u, delA_ok h1 hu.1 hu.2, by omega, by omega, h4, Or.inr ⟨hc2, rfl⟩⟩, Sub9.rf _, fun _ z => z⟩)

theorem lX3_init_2T (l : Launch) (G : Gt) (o : Nat) (ob : Nat) (k : Nat) (ga : Nat → Nat) (vv : Nat → List Value) (W : va_W) (Wi : va_W) (hW : LstW G ob k ga W) (hel : ∀ j, j < k → (ga j, Sum.inr (8, vv j)) ∈ Wi) : CT l G yX3_init_2 cX3_init_2 5 none ({ frames := 7, cells := 42, slots := 2415, locals := 165 } : Room) [.ref o, .ref ob] [(o, .inr (2, [.null]))] (fun (A : Nat → Prop) (H : Heap) => roW G A H W ∧ roW G A H Wi) (S := va_W) (fun (u_ : va_W) => (none : Option Value)) (fun (u_ : va_W) => LstW G o k ga u_) (fun (u_ : va_W) => (u_ ++ [])) (fun (u_ : va_W) (H : Heap) => True) := by
  obtain ⟨a, m, e, cap, f, h1, h2, h3, h4, h5⟩ := hW.ro
  rcases Nat.eq_zero_or_pos k with hk | hk
  · subst hk
    exact (mX3_init_2E l G o ob a m e cap f h4).conv (Nat.le_of_ble_eq_true rfl) (Nat.le_of_ble_eq_true rfl) (Nat.le_of_ble_eq_true rfl) (Nat.le_of_ble_eq_true rfl) [] (by rw [List.append_nil]) (fun sz A H hA hP hr h9 hR e9 => h5 A H (hR.1.nar hA) h9) (fun u hu => ⟨[(o, .inr (2, [.ref u])), (u, .inr (3, [.int (nI 0), .ref (G.2 99), .int (nI 0)]))], rfl, ⟨u, nI 0, G.2 99, 0, fun _ => none, fun j hj => absurd hj (Nat.not_lt_zero _), by omega, Nat.le_refl _, by omega, Or.inl ⟨rfl, rfl, rfl, rfl⟩⟩, Sub9.rf _, fun _ z => z⟩)
  · refine (mX3_init_2T l G o ob a m e k cap f ga vv Wi ⟨hk, h2⟩ h3 h4 (fun j hj => ⟨h1 j hj, hel j hj⟩)).conv (Nat.le_of_ble_eq_true rfl) (Nat.le_of_ble_eq_true rfl) (Nat.le_of_ble_eq_true rfl) (Nat.le_of_ble_eq_true rfl) [] (by rw [List.append_nil]) (fun sz A H hA hP hr h9 hR e9 => ⟨h5 A H (hR.1.nar hA) h9, hR.2.nar hA⟩) (fun u hu => ?_)
    obtain ⟨l2, m2, e2, c2, f2⟩ := u
    obtain ⟨z1, z2, z3, z4⟩ := hu
    exact ⟨[(o, .inr (2, [.ref l2])), (l2, .inr (3, [.int m2, .ref e2, .int (nI k)])), (e2, .inl (G.2 3, c2, .inr (.inr (.inr (.inr f2)))))], rfl, ⟨l2, m2, e2, c2, f2, fun j hj => (z4 j hj).trans (h1 j hj), h2, z1, z2, Or.inr ⟨z3, rfl⟩⟩, Sub9.rf _, fun _ z => z⟩

theorem lX3_init_2S (l : Launch) (G : Gt) (o : Nat) (ob : Nat) (k : Nat) (ga : Nat → Nat) (vv : Nat → List Value) (W : va_W) (Wi : va_W) (hW : LstW G ob k ga W) (hel : ∀ j, j < k → (ga j, Sum.inr (9, vv j)) ∈ Wi) : CT l G yX3_init_2 cX3_init_2 5 none ({ frames := 7, cells := 42, slots := 2415, locals := 165 } : Room) [.ref o, .ref ob] [(o, .inr (2, [.null]))] (fun (A : Nat → Prop) (H : Heap) => roW G A H W ∧ roW G A H Wi) (S := va_W) (fun (u_ : va_W) => (none : Option Value)) (fun (u_ : va_W) => LstW G o k ga u_) (fun (u_ : va_W) => (u_ ++ [])) (fun (u_ : va_W) (H : Heap) => True) := by
  obtain ⟨a, m, e, cap, f, h1, h2, h3, h4, h5⟩ := hW.ro
  rcases Nat.eq_zero_or_pos k with hk | hk
  · subst hk
    exact (mX3_init_2E l G o ob a m e cap f h4).conv (Nat.le_of_ble_eq_true rfl) (Nat.le_of_ble_eq_true rfl) (Nat.le_of_ble_eq_true rfl) (Nat.le_of_ble_eq_true rfl) [] (by rw [List.append_nil]) (fun sz A H hA hP hr h9 hR e9 => h5 A H (hR.1.nar hA) h9) (fun u hu => ⟨[(o, .inr (2, [.ref u])), (u, .inr (3, [.int (nI 0), .ref (G.2 99), .int (nI 0)]))], rfl, ⟨u, nI 0, G.2 99, 0, fun _ => none, fun j hj => absurd hj (Nat.not_lt_zero _), by omega, Nat.le_refl _, by omega, Or.inl ⟨rfl, rfl, rfl, rfl⟩⟩, Sub9.rf _, fun _ z => z⟩)
  · refine (mX3_init_2S l G o ob a m e k cap f ga vv Wi ⟨hk, h2⟩ h3 h4 (fun j hj => ⟨h1 j hj, hel j hj⟩)).conv (Nat.le_of_ble_eq_true rfl) (Nat.le_of_ble_eq_true rfl) (Nat.le_of_ble_eq_true rfl) (Nat.le_of_ble_eq_true rfl) [] (by rw [List.append_nil]) (fun sz A H hA hP hr h9 hR e9 => ⟨h5 A H (hR.1.nar hA) h9, hR.2.nar hA⟩) (fun u hu => ?_)
    obtain ⟨l2, m2, e2, c2, f2⟩ := u
    obtain ⟨z1, z2, z3, z4⟩ := hu
    exact ⟨[(o, .inr (2, [.ref l2])), (l2, .inr (3, [.int m2, .ref e2, .int (nI k)])), (e2, .inl (G.2 3, c2, .inr (.inr (.inr (.inr f2)))))], rfl, ⟨l2, m2, e2, c2, f2, fun j hj => (z4 j hj).trans (h1 j hj), h2, z1, z2, Or.inr ⟨z3, rfl⟩⟩, Sub9.rf _, fun _ z => z⟩

theorem lX3_init (l : Launch) (G : Gt) (o : Nat) (ga : Nat → Nat) : CT l G yX3_init cX3_init 1 none ({ frames := 4, cells := 1, slots := 3, locals := 72 } : Room) [.ref o] [(o, .inr (2, [.null]))] RH0 (S := va_W) (fun (u_ : va_W) => (none : Option Value)) (fun (u_ : va_W) => LstW G o 0 ga u_) (fun (u_ : va_W) => (u_ ++ [])) (fun (u_ : va_W) (H : Heap) => True) := by
  exact (mX3_init l G o).conv (Nat.le_of_ble_eq_true rfl) (Nat.le_of_ble_eq_true rfl) (Nat.le_of_ble_eq_true rfl) (Nat.le_of_ble_eq_true rfl) [] (by rw [List.append_nil]) (fun sz A H hA hP hr h9 hR e9 => trivial) (fun u hu => ⟨[(o, .inr (2, [.ref u])), (u, .inr (3, [.int (nI 0), .ref (G.2 99), .int (nI 0)]))], rfl, ⟨u, nI 0, G.2 99, 0, fun _ => none, fun j hj => absurd hj (Nat.not_lt_zero _), by omega, Nat.le_refl _, by omega, Or.inl ⟨rfl, rfl, rfl, rfl⟩⟩, Sub9.rf _, fun _ z => z⟩)

theorem lX2_placeOf (l : Launch) (G : Gt) (b : Nat) (to : Nat) (so : Nat) (bo : Nat) (we : Nat) (tg : Nat) (lo : Nat) (fi : Nat) (fa : Nat) (kn : Nat) (B : Bk) (gs : Nat → Nat) (WS : va_W) (Wi : va_W) (v : Int32) (hI : Inv B) (hWS : LstW G so (sN B) gs WS) (hSs : ∀ j, j < sN B → SesIn G Wi (gs j) (sAt B j)) (hss : SrtS B) (hfl : l.stackTraces = false) : CX l G yX2_placeOf cX2_placeOf 4 (some .int) ({ frames := 7, cells := 1, slots := 6, locals := 102 } : Room) [.ref b, .int v] [] (fun (A : Nat → Prop) (H : Heap) => roW G A H [(b, .inr (1, [.ref to, .ref so, .ref bo, .ref we, .ref tg, .int (nI (bD B)), .int (nI (bI9 B)), .int (oI (bP B)), .int (nI (bE B)), .int (nI kn), .ref lo, .ref fi, .ref fa]))] ∧ roW G A H WS ∧ roW G A H Wi) (S := Nat) (fun (u_ : Nat) => some (.int (nI u_))) (fun (u_ : Nat) => ixS B v = some u_ ∧ u_ < sN B) (fun (u_ : Nat) => []) (fun (u_ : Nat) (H : Heap) => True) (SX := Unit) (fun (u_ : Unit) => eN) (fun (u_ : Unit) => ixS B v = none) (fun (u_ : Unit) => []) (fun (u_ : Unit) (H : Heap) => True) := by
  obtain ⟨a, m, e, cap, f, h1, h2, h3, h4, h5⟩ := hWS.ro
  exact (mX2_placeOf l G b to so bo we tg lo fi fa kn B a m e cap f gs Wi v hI ⟨h3, h4⟩ (fun j hj => ⟨h1 j hj, hSs j hj⟩) hss hfl).conv (Nat.le_of_ble_eq_true rfl) (Nat.le_of_ble_eq_true rfl) (Nat.le_of_ble_eq_true rfl) (Nat.le_of_ble_eq_true rfl) [] (List.Perm.refl _) (fun sz A H hA hP hr h9 hR e9 => ⟨(hR.1.nar hA).app (h5 A H (hR.2.1.nar hA) h9), hR.2.2.nar hA⟩) (fun u hu => ⟨u, rfl, hu, Sub9.rf _, fun _ z => z⟩) (fun u hu => ⟨u, rfl, hu, Sub9.rf _, fun _ z => z⟩)

theorem lX2_loadOf (l : Launch) (G : Gt) (b : Nat) (to : Nat) (so : Nat) (bo : Nat) (we : Nat) (tg : Nat) (lo : Nat) (fi : Nat) (fa : Nat) (kn : Nat) (B : Bk) (ga : Nat → Nat) (WT : va_W) (Wi : va_W) (fb : Nat → Int32) (fw : Nat → Int32) (sx : Nat) (xs : Sess) (mi : Nat) (it : Nat) (fm : Nat → Int32) (fi9 : Nat → Int32) (hI : Inv B) (hWT : LstW G to (tN B) ga WT) (hTs : ∀ j, j < tN B → TestIn Wi (ga j) (tDay B j) (tThr B j)) (hso : SrtT B) (hfb : ∀ z, 2 ≤ z → z ≤ 5 → fb z = nI (bB B z)) (hfw : ∀ z, 1 ≤ z → z ≤ 5 → fw z = nI (bW B z)) (hX : InvS B xs) (hfm : ∀ p, p < nP xs → fm p = nI (pMin xs p)) (hfi : ∀ p, p < nP xs → fi9 p = nI (pInt xs p)) : CT l G yX2_loadOf cX2_loadOf 5 (some .int) ({ frames := 8, cells := 1, slots := 2, locals := 163 } : Room) [.ref b, .ref sx] [] (fun (A : Nat → Prop) (H : Heap) => roW G A H [(b, .inr (1, [.ref to, .ref so, .ref bo, .ref we, .ref tg, .int (nI (bD B)), .int (nI (bI9 B)), .int (oI (bP B)), .int (nI (bE B)), .int (nI kn), .ref lo, .ref fi, .ref fa])), (bo, .inl (G.2 0, 6, .inl fb)), (we, .inl (G.2 0, 6, .inl fw)), (sx, .inr (9, [.int (nI (sDay xs)), .int (nI (sId xs)), .ref mi, .ref it])), (mi, .inl (G.2 1, (nP xs), .inl fm)), (it, .inl (G.2 1, (nP xs), .inl fi9))] ∧ roW G A H WT ∧ roW G A H Wi) (S := Unit) (fun (u_ : Unit) => some (.int (nI (loadS B xs)))) (fun (u_ : Unit) => True) (fun (u_ : Unit) => []) (fun (u_ : Unit) (H : Heap) => True) := by
  obtain ⟨a, m, e, cap, f, h1, h2, h3, h4, h5⟩ := hWT.ro
  exact (mX2_loadOf l G b to so bo we tg lo fi fa kn B a m e cap f ga Wi fb fw sx xs mi it fm fi9 hI ⟨h3, h4⟩ (fun j hj => ⟨h1 j hj, hTs j hj⟩) hso hfb hfw hX hfm hfi).conv (Nat.le_of_ble_eq_true rfl) (Nat.le_of_ble_eq_true rfl) (Nat.le_of_ble_eq_true rfl) (Nat.le_of_ble_eq_true rfl) [] (List.Perm.refl _) (fun sz A H hA hP hr h9 hR e9 => ⟨(((hR.1.nar hA).sub [0] rfl).app (h5 A H (hR.2.1.nar hA) h9)).app ((hR.1.nar hA).sub [1, 2, 3, 4, 5] rfl), hR.2.2.nar hA⟩) (fun u hu => ⟨u, rfl, hu, Sub9.rf _, fun _ z => z⟩)
