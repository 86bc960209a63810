/-! ROWS that make arrays, over KB's array classes -/
section RN
variable {p : Program} {l : Launch} {e : Env} {R : Room} {s : State} {m : MethodId} {args : Array Value} {below : List Frame} {meth : Method} {c : Code} {H : Heap} {locs : List Loc} {cells slots : Nat} {Q : State → Prop}
variable {G : Gt} {cc : ByteArray} {pc : Nat} {ls : Array Slot} {rest : List Value} {A : Nat → Prop} {ws : va_W}
theorem r_newa_I (hexec : p.tables.exec = Jvm.exec) (hb : c.code = cc) (harr : (Cond.arrayClass .int).before args s = true) (hKB : KB G s) (hP : va_P G.1 CL ws H) (hD : va_D A ws) (hS : va_S A s.heap H locs) (hA : ∀ q, s.heap.size ≤ q → A q) {n : Nat} (hn : n ≤ 10000000) (hcells : cells + 1 ≤ R.cells) (hslots : slots + n ≤ R.slots) (hdg : decode cc pc = .ok (.newarray .int, 2))
    (kk : ∀ (q : Nat) (H1 : Heap), va_P G.1 CL (ws ++ [(q, .inl (G.2 0, n, .inl (fun _ => 0)))]) H1 → va_D A (ws ++ [(q, .inl (G.2 0, n, .inl (fun _ => 0)))]) → va_S A s.heap H1 locs → W p l e R s m args below meth c H1 locs (cells + 1) (slots + n) Q (F0 m (pc + 2) ls (.ref q :: rest))) : W p l e R s m args below meth c H locs cells slots Q (F0 m pc ls (.int (nI n) :: rest)) := by
  refine va_newa (atype := .int) (ty := .int) (a0 := (n, .inl (fun _ => 0))) hexec hb harr rfl hKB.1 hP hD hS hA (fun _ => rfl) (nI_pos (by omega)) (nI_clamp (by omega)) (by show n * 4 ≤ _; omega) hcells hslots hdg (fun q cA H1 hK1 hP1 hD1 hS1 => ?_)
  have h1 : va_RA s cA .int := (hK1.2 8 (cA, .int) rfl).2
  have h2 : va_RA s (G.2 0) .int := (hKB.1.2 0 (G.2 0, .int) rfl).2
  have e9 : cA = G.2 0 := Option.some.inj (Eq.trans (Eq.symm h1) h2)
  subst e9
  exact kk q H1 hP1 hD1 hS1
theorem r_newa_S (hexec : p.tables.exec = Jvm.exec) (hb : c.code = cc) (harr : (Cond.arrayClass .short).before args s = true) (hKB : KB G s) (hP : va_P G.1 CL ws H) (hD : va_D A ws) (hS : va_S A s.heap H locs) (hA : ∀ q, s.heap.size ≤ q → A q) {n : Nat} (hn : n ≤ 10000000) (hcells : cells + 1 ≤ R.cells) (hslots : slots + n ≤ R.slots) (hdg : decode cc pc = .ok (.newarray .short, 2))
    (kk : ∀ (q : Nat) (H1 : Heap), va_P G.1 CL (ws ++ [(q, .inl (G.2 1, n, .inl (fun _ => 0)))]) H1 → va_D A (ws ++ [(q, .inl (G.2 1, n, .inl (fun _ => 0)))]) → va_S A s.heap H1 locs → W p l e R s m args below meth c H1 locs (cells + 1) (slots + n) Q (F0 m (pc + 2) ls (.ref q :: rest))) : W p l e R s m args below meth c H locs cells slots Q (F0 m pc ls (.int (nI n) :: rest)) := by
  refine va_newa (atype := .short) (ty := .short) (a0 := (n, .inl (fun _ => 0))) hexec hb harr rfl hKB.1 hP hD hS hA (fun _ => rfl) (nI_pos (by omega)) (nI_clamp (by omega)) (by show n * 2 ≤ _; omega) hcells hslots hdg (fun q cA H1 hK1 hP1 hD1 hS1 => ?_)
  have h1 : va_RA s cA .short := (hK1.2 8 (cA, .short) rfl).2
  have h2 : va_RA s (G.2 1) .short := (hKB.1.2 1 (G.2 1, .short) rfl).2
  have e9 : cA = G.2 1 := Option.some.inj (Eq.trans (Eq.symm h1) h2)
  subst e9
  exact kk q H1 hP1 hD1 hS1
theorem r_newa_C (hexec : p.tables.exec = Jvm.exec) (hb : c.code = cc) (harr : (Cond.arrayClass .char).before args s = true) (hKB : KB G s) (hP : va_P G.1 CL ws H) (hD : va_D A ws) (hS : va_S A s.heap H locs) (hA : ∀ q, s.heap.size ≤ q → A q) {n : Nat} (hn : n ≤ 10000000) (hcells : cells + 1 ≤ R.cells) (hslots : slots + n ≤ R.slots) (hdg : decode cc pc = .ok (.newarray .char, 2))
    (kk : ∀ (q : Nat) (H1 : Heap), va_P G.1 CL (ws ++ [(q, .inl (G.2 2, n, .inl (fun _ => 0)))]) H1 → va_D A (ws ++ [(q, .inl (G.2 2, n, .inl (fun _ => 0)))]) → va_S A s.heap H1 locs → W p l e R s m args below meth c H1 locs (cells + 1) (slots + n) Q (F0 m (pc + 2) ls (.ref q :: rest))) : W p l e R s m args below meth c H locs cells slots Q (F0 m pc ls (.int (nI n) :: rest)) := by
  refine va_newa (atype := .char) (ty := .char) (a0 := (n, .inl (fun _ => 0))) hexec hb harr rfl hKB.1 hP hD hS hA (fun _ => rfl) (nI_pos (by omega)) (nI_clamp (by omega)) (by show n * 2 ≤ _; omega) hcells hslots hdg (fun q cA H1 hK1 hP1 hD1 hS1 => ?_)
  have h1 : va_RA s cA .char := (hK1.2 8 (cA, .char) rfl).2
  have h2 : va_RA s (G.2 2) .char := (hKB.1.2 2 (G.2 2, .char) rfl).2
  have e9 : cA = G.2 2 := Option.some.inj (Eq.trans (Eq.symm h1) h2)
  subst e9
  exact kk q H1 hP1 hD1 hS1
theorem r_newa_B (hexec : p.tables.exec = Jvm.exec) (hb : c.code = cc) (harr : (Cond.arrayClass .byte).before args s = true) (hKB : KB G s) (hP : va_P G.1 CL ws H) (hD : va_D A ws) (hS : va_S A s.heap H locs) (hA : ∀ q, s.heap.size ≤ q → A q) {n : Nat} (hn : n ≤ 10000000) (hcells : cells + 1 ≤ R.cells) (hslots : slots + n ≤ R.slots) (hdg : decode cc pc = .ok (.newarray .byte, 2))
    (kk : ∀ (q : Nat) (H1 : Heap), va_P G.1 CL (ws ++ [(q, .inl (G.2 4, n, .inl (fun _ => 0)))]) H1 → va_D A (ws ++ [(q, .inl (G.2 4, n, .inl (fun _ => 0)))]) → va_S A s.heap H1 locs → W p l e R s m args below meth c H1 locs (cells + 1) (slots + n) Q (F0 m (pc + 2) ls (.ref q :: rest))) : W p l e R s m args below meth c H locs cells slots Q (F0 m pc ls (.int (nI n) :: rest)) := by
  refine va_newa (atype := .byte) (ty := .byte) (a0 := (n, .inl (fun _ => 0))) hexec hb harr rfl hKB.1 hP hD hS hA (fun _ => rfl) (nI_pos (by omega)) (nI_clamp (by omega)) (by show n * 1 ≤ _; omega) hcells hslots hdg (fun q cA H1 hK1 hP1 hD1 hS1 => ?_)
  have h1 : va_RA s cA .byte := (hK1.2 8 (cA, .byte) rfl).2
  have h2 : va_RA s (G.2 4) .byte := (hKB.1.2 4 (G.2 4, .byte) rfl).2
  have e9 : cA = G.2 4 := Option.some.inj (Eq.trans (Eq.symm h1) h2)
  subst e9
  exact kk q H1 hP1 hD1 hS1
theorem r_newa_J (hexec : p.tables.exec = Jvm.exec) (hb : c.code = cc) (harr : (Cond.arrayClass .long).before args s = true) (hKB : KB G s) (hP : va_P G.1 CL ws H) (hD : va_D A ws) (hS : va_S A s.heap H locs) (hA : ∀ q, s.heap.size ≤ q → A q) {n : Nat} (hn : n ≤ 10000000) (hcells : cells + 1 ≤ R.cells) (hslots : slots + n ≤ R.slots) (hdg : decode cc pc = .ok (.newarray .long, 2))
    (kk : ∀ (q : Nat) (H1 : Heap), va_P G.1 CL (ws ++ [(q, .inl (G.2 5, n, .inr (.inl (fun _ => 0))))]) H1 → va_D A (ws ++ [(q, .inl (G.2 5, n, .inr (.inl (fun _ => 0))))]) → va_S A s.heap H1 locs → W p l e R s m args below meth c H1 locs (cells + 1) (slots + n) Q (F0 m (pc + 2) ls (.ref q :: rest))) : W p l e R s m args below meth c H locs cells slots Q (F0 m pc ls (.int (nI n) :: rest)) := by
  refine va_newa (atype := .long) (ty := .long) (a0 := (n, .inr (.inl (fun _ => 0)))) hexec hb harr rfl hKB.1 hP hD hS hA (fun _ => rfl) (nI_pos (by omega)) (nI_clamp (by omega)) (by show n * 8 ≤ _; omega) hcells hslots hdg (fun q cA H1 hK1 hP1 hD1 hS1 => ?_)
  have h1 : va_RA s cA .long := (hK1.2 8 (cA, .long) rfl).2
  have h2 : va_RA s (G.2 5) .long := (hKB.1.2 5 (G.2 5, .long) rfl).2
  have e9 : cA = G.2 5 := Option.some.inj (Eq.trans (Eq.symm h1) h2)
  subst e9
  exact kk q H1 hP1 hD1 hS1
theorem r_newa_D (hexec : p.tables.exec = Jvm.exec) (hb : c.code = cc) (harr : (Cond.arrayClass .double).before args s = true) (hKB : KB G s) (hP : va_P G.1 CL ws H) (hD : va_D A ws) (hS : va_S A s.heap H locs) (hA : ∀ q, s.heap.size ≤ q → A q) {n : Nat} (hn : n ≤ 10000000) (hcells : cells + 1 ≤ R.cells) (hslots : slots + n ≤ R.slots) (hdg : decode cc pc = .ok (.newarray .double, 2))
    (kk : ∀ (q : Nat) (H1 : Heap), va_P G.1 CL (ws ++ [(q, .inl (G.2 6, n, .inr (.inr (.inr (.inl (fun _ => 0))))))]) H1 → va_D A (ws ++ [(q, .inl (G.2 6, n, .inr (.inr (.inr (.inl (fun _ => 0))))))]) → va_S A s.heap H1 locs → W p l e R s m args below meth c H1 locs (cells + 1) (slots + n) Q (F0 m (pc + 2) ls (.ref q :: rest))) : W p l e R s m args below meth c H locs cells slots Q (F0 m pc ls (.int (nI n) :: rest)) := by
  refine va_newa (atype := .double) (ty := .double) (a0 := (n, .inr (.inr (.inr (.inl (fun _ => 0)))))) hexec hb harr rfl hKB.1 hP hD hS hA (fun _ => rfl) (nI_pos (by omega)) (nI_clamp (by omega)) (by show n * 8 ≤ _; omega) hcells hslots hdg (fun q cA H1 hK1 hP1 hD1 hS1 => ?_)
  have h1 : va_RA s cA .double := (hK1.2 8 (cA, .double) rfl).2
  have h2 : va_RA s (G.2 6) .double := (hKB.1.2 6 (G.2 6, .double) rfl).2
  have e9 : cA = G.2 6 := Option.some.inj (Eq.trans (Eq.symm h1) h2)
  subst e9
  exact kk q H1 hP1 hD1 hS1
theorem r_newa_O (hexec : p.tables.exec = Jvm.exec) (hb : c.code = cc) {own : String} {index : Nat} (hown : s.vm.findClass own = some m.cls) (hclink : (Cond.classLink own index "java/lang/Object").before args s = true) (hKB : KB G s) (hP : va_P G.1 CL ws H) (hD : va_D A ws) (hS : va_S A s.heap H locs) (hA : ∀ q, s.heap.size ≤ q → A q) {n : Nat} (hn : n ≤ 10000000) (hcells : cells + 1 ≤ R.cells) (hslots : slots + n ≤ R.slots) (hdg : decode cc pc = .ok (.anewarray index, 3))
    (kk : ∀ (q : Nat) (H1 : Heap), va_P G.1 CL (ws ++ [(q, .inl (G.2 3, n, .inr (.inr (.inr (.inr (fun _ => none))))))]) H1 → va_D A (ws ++ [(q, .inl (G.2 3, n, .inr (.inr (.inr (.inr (fun _ => none))))))]) → va_S A s.heap H1 locs → W p l e R s m args below meth c H1 locs (cells + 1) (slots + n) Q (F0 m (pc + 3) ls (.ref q :: rest))) : W p l e R s m args below meth c H locs cells slots Q (F0 m pc ls (.int (nI n) :: rest)) := by
  refine va_newq (C := "java/lang/Object") hexec hb hown hclink hKB.2.2.1 hKB.1 hP hD hS hA (nI_pos (by omega)) (nI_clamp (by omega)) (by omega) hcells hslots hdg (fun q cA H1 hK1 hP1 hD1 hS1 => ?_)
  obtain ⟨kA, comp, a1, a2, a3, h1⟩ := (hK1.2 8 (cA, .object "java/lang/Object") rfl).2
  obtain ⟨kB, comp2, b1, b2, b3, h2⟩ := (hKB.1.2 3 (G.2 3, .object "java/lang/Object") rfl).2
  have e9 : cA = G.2 3 := Option.some.inj (h1.symm.trans h2)
  subst e9
  exact kk q H1 hP1 hD1 hS1
theorem fill_spec (S : State) (cA comp : ClassId) (N M : Nat) (dv : Value) : ∀ i, (Jvm.Free.Multi.fill S cA comp N M dv i).heap.size = S.heap.size + 1 + i ∧ (Jvm.Free.Multi.fill S cA comp N M dv i).heap[S.heap.size]? = some (Jvm.Free.Multi.outerC cA N S.heap.size i) ∧ (∀ j, j < i → (Jvm.Free.Multi.fill S cA comp N M dv i).heap[S.heap.size + 1 + j]? = some (Jvm.Free.Multi.innerC comp M dv)) ∧ ∀ q, q < S.heap.size → (Jvm.Free.Multi.fill S cA comp N M dv i).heap[q]? = S.heap[q]?
  | 0 => by
    refine ⟨?_, ?_, fun j hj => absurd hj (Nat.not_lt_zero _), fun q hq => ?_⟩
    · show (S.heap.push _).size = _; simp
    · show (S.heap.push _)[S.heap.size]? = _; simp
    · show (S.heap.push _)[q]? = _; rw [Array.getElem?_push, if_neg (Nat.ne_of_lt hq)]
  | i + 1 => by
    obtain ⟨h1, h2, h3, h4⟩ := fill_spec S cA comp N M dv i
    generalize Jvm.Free.Multi.fill S cA comp N M dv i = F at h1 h2 h3 h4
    have e : (Jvm.Free.Multi.fill S cA comp N M dv (i + 1)).heap = ((Jvm.Free.Multi.fill S cA comp N M dv i).heap.push (Jvm.Free.Multi.innerC comp M dv)).setIfInBounds S.heap.size (Jvm.Free.Multi.outerC cA N S.heap.size (i + 1)) := rfl
    obtain ⟨h1, h2, h3, h4⟩ := fill_spec S cA comp N M dv i
    rw [e]
    refine ⟨by simp [h1]; omega, ?_, fun j hj => ?_, fun q hq => ?_⟩
    · rw [Array.getElem?_setIfInBounds]; simp [h1]; omega
    · rw [Array.getElem?_setIfInBounds, if_neg (by omega), Array.getElem?_push]
      by_cases g : S.heap.size + 1 + j = (Jvm.Free.Multi.fill S cA comp N M dv i).heap.size
      · rw [if_pos g]
      · rw [if_neg g]; exact h3 j (by omega)
    · rw [Array.getElem?_setIfInBounds, if_neg (by omega), Array.getElem?_push, if_neg (by omega)]; exact h4 q hq
theorem outer_eq (cA : ClassId) (N h0 : Nat) : ∀ i, Jvm.Free.Multi.outerC cA N h0 i = arrV cA N (fun j => if j < i then .ref (h0 + 1 + j) else .null)
  | 0 => by
    show ({ cls := cA, slots := Array.replicate N .null, vm := .none } : Cell) = _
    rw [arrV_new]
    congr 1
  | i + 1 => by
    show (Jvm.Free.Multi.outerC cA N h0 i).setSlot i (.ref (h0 + 1 + i)) = _
    rw [outer_eq cA N h0 i, arrV_store]
    congr 1
    funext j
    unfold updV
    dsimp only
    by_cases g : j = i
    · rw [if_pos g, g, if_pos (Nat.lt_succ_self _)]
    · rw [if_neg g]
      by_cases g2 : j < i
      · rw [if_pos g2, if_pos (by omega)]
      · rw [if_neg g2, if_neg (by omega)]
theorem inner_eq (cA : ClassId) (M : Nat) : Jvm.Free.Multi.innerC cA M (.int 0) = vp_cell cA (M, .inl (fun _ => 0)) := by
  rw [vp_cell_i]
  exact arrV_new cA M (.int 0)
/-- new int[6][830] -/
theorem r_newII (hexec : p.tables.exec = Jvm.exec) (hb : c.code = cc) {own : String} {index : Nat} (hown : s.vm.findClass own = some m.cls) (hclink : (Cond.classLink own index "[[I").before args s = true) (harr : (Cond.arrayClass .int).before args s = true) (hKB : KB G s) (hP : va_P G.1 CL ws H) (hD : va_D A ws) (hS : va_S A s.heap H locs) (hA : ∀ q, s.heap.size ≤ q → A q) (hcells : cells + 7 ≤ R.cells) (hslots : slots + 4986 ≤ R.slots) (hdg : decode cc pc = .ok (.multianewarray index 2, 4))
    (kk : ∀ (q : Nat) (H1 : Heap), va_P G.1 CL (ws ++ [(q, .inl (G.2 7, 6, .inr (.inr (.inr (.inr (fun j => some (q + 1 + j))))))), (q + 1, .inl (G.2 0, 830, .inl zz)), (q + 2, .inl (G.2 0, 830, .inl zz)), (q + 3, .inl (G.2 0, 830, .inl zz)), (q + 4, .inl (G.2 0, 830, .inl zz)), (q + 5, .inl (G.2 0, 830, .inl zz)), (q + 6, .inl (G.2 0, 830, .inl zz))]) H1 → va_D A (ws ++ [(q, .inl (G.2 7, 6, .inr (.inr (.inr (.inr (fun j => some (q + 1 + j))))))), (q + 1, .inl (G.2 0, 830, .inl zz)), (q + 2, .inl (G.2 0, 830, .inl zz)), (q + 3, .inl (G.2 0, 830, .inl zz)), (q + 4, .inl (G.2 0, 830, .inl zz)), (q + 5, .inl (G.2 0, 830, .inl zz)), (q + 6, .inl (G.2 0, 830, .inl zz))]) → va_S A s.heap H1 locs → W p l e R s m args below meth c H1 locs (cells + 7) (slots + 4986) Q (F0 m (pc + 4) ls (.ref q :: rest))) : W p l e R s m args below meth c H locs cells slots Q (F0 m pc ls (.int (nI 830) :: .int (nI 6) :: rest)) := by
  intro T hT X
  have e6 : (nI 6).toNatClampNeg = 6 := nI_clamp (by omega)
  have e8 : (nI 830).toNatClampNeg = 830 := nI_clamp (by omega)
  obtain ⟨vm₁, cA, comp, hW, hfA, hfC, -, -, X', st⟩ := X.multianewarray2F hexec (ty := .int) hown hclink hKB.2.2.2.2.2.1 harr (g := F0 m pc ls (.int (nI 830) :: .int (nI 6) :: rest)) rfl (by rw [hb]; exact hdg) rfl (nI_pos (by omega)) (nI_pos (by omega)) (by rw [e6]; decide) (by rw [e8]; decide) (by rw [e8]; decide) rfl rfl (by rw [e6]; omega) (by rw [e6, e8]; omega)
  have hcA : cA = G.2 7 := Option.some.inj (hfA.symm.trans (hKB.1.2 7 (G.2 7, .array .int) rfl).2)
  have hcC : comp = G.2 0 := Option.some.inj (hfC.symm.trans (hKB.1.2 0 (G.2 0, .int) rfl).2)
  subst hcA hcC
  rw [e6, e8] at X' st
  obtain ⟨f1, f2, f3, f4⟩ := fill_spec (T.setVm vm₁) (G.2 7) (G.2 0) 6 830 (defaultValue .int) 6
  have hTs : (T.setVm vm₁).heap = H := hT
  have hTz : T.heap.size = H.size := by rw [hT]
  rw [hTs] at f1 f2 f3 f4
  rw [hTz] at st
  generalize hF : Jvm.Free.Multi.fill (T.setVm vm₁) (G.2 7) (G.2 0) 6 830 (defaultValue .int) 6 = F at f1 f2 f3 f4 X' st
  have c0 : va_at G.1 CL (H.size, .inl (G.2 7, 6, .inr (.inr (.inr (.inr (fun j => some (H.size + 1 + j))))))) F.heap := by
    show F.heap[H.size]? = some (vp_cell _ _)
    rw [f2, outer_eq, vp_cell_q]
    congr 1
  have ci : ∀ j, j < 6 → va_at G.1 CL (H.size + 1 + j, .inl (G.2 0, 830, .inl zz)) F.heap := fun j hj => by
    show F.heap[H.size + 1 + j]? = some (vp_cell _ _)
    rw [f3 j hj]
    exact congrArg some (inner_eq _ _)
  have hk : ∀ (k : Nat) (x : Nat × va_E), ws[k]? = some x → F.heap[x.1]? = H[x.1]? := fun k x hx => f4 x.1 ((hP k x hx).lt)
  have hsz : H.size ≤ F.heap.size := by omega
  have push : ∀ (w : va_W) (k : Nat), (∀ (i : Nat) (x : Nat × va_E), w[i]? = some x → x.1 < H.size + k) → va_D A w → ∀ e, va_D A (w ++ [(H.size + k, e)]) := by
    intro w k hw hDw e
    refine hDw.app ⟨fun i j x y hi hj _ => ?_, fun i x hi => ?_⟩ (fun i j x y hx hy hxy => ?_)
    · have a1 := (List.getElem?_eq_some_iff.mp hi).1; have a2 := (List.getElem?_eq_some_iff.mp hj).1
      simp only [List.length_singleton] at a1 a2; omega
    · have a1 := (List.getElem?_eq_some_iff.mp hi).1
      simp only [List.length_singleton] at a1
      obtain rfl : i = 0 := by omega
      cases hi
      exact hA _ (Nat.le_trans hS.1 (by omega))
    · have a2 := (List.getElem?_eq_some_iff.mp hy).1
      simp only [List.length_singleton] at a2
      obtain rfl : j = 0 := by omega
      cases hy
      have := hw i x hx
      simp only at hxy
      omega
  have lt1 : ∀ (w : va_W) (k : Nat) (e : va_E), (∀ (i : Nat) (x : Nat × va_E), w[i]? = some x → x.1 < H.size + k) → ∀ (i : Nat) (x : Nat × va_E), (w ++ [(H.size + k, e)])[i]? = some x → x.1 < H.size + (k + 1) := by
    intro w k e hw i x hx
    rcases List.mem_append.mp (List.mem_of_getElem? hx) with h | h
    · obtain ⟨i', hi'⟩ := List.getElem?_of_mem h
      have := hw i' x hi'; omega
    · rw [List.mem_singleton.mp h]; show H.size + k < _; omega
  have l0 : ∀ (i : Nat) (x : Nat × va_E), ws[i]? = some x → x.1 < H.size + 0 := fun i x hx => (hP i x hx).lt
  have d0 := push ws 0 l0 hD (.inl (G.2 7, 6, .inr (.inr (.inr (.inr (fun j => some (H.size + 1 + j)))))))
  have l1 := lt1 ws 0 (.inl (G.2 7, 6, .inr (.inr (.inr (.inr (fun j => some (H.size + 1 + j))))))) l0
  have d1 := push _ 1 l1 d0 (.inl (G.2 0, 830, .inl zz))
  have l2 := lt1 _ 1 (.inl (G.2 0, 830, .inl zz)) l1
  have d2 := push _ 2 l2 d1 (.inl (G.2 0, 830, .inl zz))
  have l3 := lt1 _ 2 (.inl (G.2 0, 830, .inl zz)) l2
  have d3 := push _ 3 l3 d2 (.inl (G.2 0, 830, .inl zz))
  have l4 := lt1 _ 3 (.inl (G.2 0, 830, .inl zz)) l3
  have d4 := push _ 4 l4 d3 (.inl (G.2 0, 830, .inl zz))
  have l5 := lt1 _ 4 (.inl (G.2 0, 830, .inl zz)) l4
  have d5 := push _ 5 l5 d4 (.inl (G.2 0, 830, .inl zz))
  have l6 := lt1 _ 5 (.inl (G.2 0, 830, .inl zz)) l5
  have d6 := push _ 6 l6 d5 (.inl (G.2 0, 830, .inl zz))
  have hPn : va_P G.1 CL [(H.size, .inl (G.2 7, 6, .inr (.inr (.inr (.inr (fun j => some (H.size + 1 + j))))))), (H.size + 1, .inl (G.2 0, 830, .inl zz)), (H.size + 2, .inl (G.2 0, 830, .inl zz)), (H.size + 3, .inl (G.2 0, 830, .inl zz)), (H.size + 4, .inl (G.2 0, 830, .inl zz)), (H.size + 5, .inl (G.2 0, 830, .inl zz)), (H.size + 6, .inl (G.2 0, 830, .inl zz))] F.heap := by
    intro k x hx
    match k, hx with
    | 0, hx => cases hx; exact c0
    | 1, hx => cases hx; exact ci 0 (by omega)
    | 2, hx => cases hx; exact ci 1 (by omega)
    | 3, hx => cases hx; exact ci 2 (by omega)
    | 4, hx => cases hx; exact ci 3 (by omega)
    | 5, hx => cases hx; exact ci 4 (by omega)
    | 6, hx => cases hx; exact ci 5 (by omega)
    | k + 7, hx => simp at hx
  have hDn : va_D A (ws ++ [(H.size, .inl (G.2 7, 6, .inr (.inr (.inr (.inr (fun j => some (H.size + 1 + j))))))), (H.size + 1, .inl (G.2 0, 830, .inl zz)), (H.size + 2, .inl (G.2 0, 830, .inl zz)), (H.size + 3, .inl (G.2 0, 830, .inl zz)), (H.size + 4, .inl (G.2 0, 830, .inl zz)), (H.size + 5, .inl (G.2 0, 830, .inl zz)), (H.size + 6, .inl (G.2 0, 830, .inl zz))]) := by
    simpa [List.append_assoc] using d6
  obtain ⟨t, a1, b1⟩ := kk H.size F.heap ((hP.kept hk).app hPn) hDn ⟨Nat.le_trans hS.1 hsz, fun q h1 h2 => (f4 q (Nat.lt_of_lt_of_le h1 hS.1)).trans (hS.2.1 q h1 h2), hS.2.2⟩ F rfl (by
    have := X'
    rw [show cells + 1 + 6 = cells + 7 by omega, show slots + 6 + 6 * 830 = slots + 4986 by omega] at this
    exact this)
  exact ⟨t, st t a1, b1⟩
end RN
