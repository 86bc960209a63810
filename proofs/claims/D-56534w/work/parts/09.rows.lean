/-! ROWS over ints that are counts: nI n; array rows with a count for index; branches with counts -/
theorem nadd {a b c : Nat} (h : a + b = c) : nI a + nI b = nI c := by rw [← h]; exact nI_add a b
theorem nmul {a b c : Nat} (h : a * b = c) : nI a * nI b = nI c := by rw [← h]; exact pk_mul a b
theorem nsub {a b c : Nat} (h : a = b + c) : nI a - nI b = nI c := by rw [pk_sub (by omega)]; congr 1; omega
theorem ndiv {a b c : Nat} (ha : a < 2 ^ 31) (h0 : 0 < b) (hb : b < 2 ^ 31) (h : a / b = c) : nI a / nI b = nI c := by rw [← h]; exact pk_div ha h0 hb
theorem nrem {a b c : Nat} (ha : a < 2 ^ 31) (h0 : 0 < b) (hb : b < 2 ^ 31) (h : a % b = c) : nI a - nI a / nI b * nI b = nI c := by rw [← h]; exact pk_rem ha h0 hb
theorem ninc {a b : Nat} {n : Int} (hn : Int32.ofInt n = nI b) {c : Nat} (h : a + b = c) : nI a + Int32.ofInt n = nI c := by rw [hn]; exact nadd h
theorem nm1 {a : Nat} {n : Int} (hn : Int32.ofInt n = -1) {c : Nat} (h : a = c + 1) : nI a + Int32.ofInt n = nI c := by rw [hn, h]; exact pk_m1 c
theorem in_nat {lo hi : Nat} {v : Int32} (hhi : hi < 2 ^ 31) (hlo : lo < 2 ^ 31) (h1 : nI lo ≤ v) (h2 : v ≤ nI hi) : ∃ n, v = nI n ∧ lo ≤ n ∧ n ≤ hi := by
  have h3 := Int32.le_iff_toInt_le.mp h1
  have h4 := Int32.le_iff_toInt_le.mp h2
  rw [nI_toInt hlo] at h3
  rw [nI_toInt hhi] at h4
  refine ⟨v.toInt.toNat, ?_, by omega, by omega⟩
  apply Int32.toInt_inj.mp
  rw [nI_toInt (by omega)]
  omega
theorem nat_in {lo hi n : Nat} (hhi : hi < 2 ^ 31) (h1 : lo ≤ n) (h2 : n ≤ hi) : nI lo ≤ nI n ∧ nI n ≤ nI hi := ⟨nI_le h1 (by omega), nI_le h2 hhi⟩
theorem nat_out {lo hi n : Nat} (hhi : hi < 2 ^ 31) (hlo : lo < 2 ^ 31) (hn : n < 2 ^ 31) (h : ¬ (nI lo ≤ nI n ∧ nI n ≤ nI hi)) : n < lo ∨ hi < n := by
  rcases Nat.lt_or_ge n lo with h1 | h1
  · exact Or.inl h1
  · rcases Nat.lt_or_ge hi n with h2 | h2
    · exact Or.inr h2
    · exact absurd (nat_in hhi h1 h2) h
theorem va_P.extI {D : va_G} {cl : List vw_C} {ws : va_W} {H : Heap} (h : va_P D cl ws H) (q0 : Nat) {a cA n : Nat} {g g2 : Nat → Int32} (ha : ws[q0]? = some (a, .inl (cA, n, .inl g))) (he : ∀ j, j < n → g j = g2 j) : va_P D cl (ws.set q0 (a, .inl (cA, n, .inl g2))) H := by
  have hl := (List.getElem?_eq_some_iff.mp ha).1
  intro k q hk
  by_cases hkp : k = q0
  · subst hkp
    rw [List.getElem?_set_self hl] at hk
    cases hk
    have h1 : H[a]? = some (vp_cell cA (n, .inl g)) := h k _ ha
    show H[a]? = some (vp_cell cA (n, .inl g2))
    rw [h1, vp_cell_i, vp_cell_i]
    have : arrV cA n (fun j => Value.int (g j)) = arrV cA n (fun j => Value.int (g2 j)) := by
      unfold arrV
      congr 1
      apply Array.ext
      · simp
      · intro i h1 h2
        have h3 : i < n := by simpa using h1
        simp [he i h3]
    rw [this]
  · rw [List.getElem?_set_ne (Ne.symm hkp)] at hk
    exact h k q hk
def oI : Option Nat → Int32
  | none => -1
  | some k => nI k
/-- a count less one -/
def lI (a : Nat) : Int32 := nI a - 1
theorem lI_toInt {a : Nat} (h : a < 2 ^ 31) : (lI a).toInt = (a : Int) - 1 := by
  rcases Nat.eq_zero_or_pos a with h0 | h0
  · subst h0; decide
  · have : lI a = nI (a - 1) := by
      show nI a - nI 1 = _
      rw [pk_sub h0]
    rw [this, nI_toInt (by omega)]
    omega
theorem lI_le {t a : Nat} (ht : t < 2 ^ 31) (ha : a < 2 ^ 31) : nI t ≤ lI a ↔ t < a := by rw [Int32.le_iff_toInt_le, nI_toInt ht, lI_toInt ha]; omega
theorem lI_gt {t a : Nat} (ht : t < 2 ^ 31) (ha : a < 2 ^ 31) : lI a < nI t ↔ a ≤ t := by rw [Int32.lt_iff_toInt_lt, nI_toInt ht, lI_toInt ha]; omega
theorem lI_1 (k : Nat) : lI (k + 1) = nI k := by
  show nI (k + 1) - nI 1 = _
  rw [pk_sub (by omega)]
  rfl
theorem n2c {q : Nat} (h : q < 65536) : ((nI q).toUInt32 % 65536).toInt32 = nI q := by rw [pk_char, pk_tn (by omega), Nat.mod_eq_of_lt h]
theorem nar_cv {q : Nat} (h : q < 65536) : narrow .char (.int (nI q)) = .int (nI q) := (pk_charN h).1
theorem nar_c {q : Nat} (h : q < 65536) : vp_nar .char (nI q) = nI q := by unfold vp_nar; rw [(pk_charN h).1]
theorem n2s {q : Nat} (h : q < 32768) : (nI q).toInt16.toInt32 = nI q := by
  apply Int32.toInt_inj.mp
  rw [Int16.toInt_toInt32, Int32.toInt_toInt16, nI_toInt (by omega)]
  rw [Int.bmod_eq_of_le] <;> omega
theorem nar_s {q : Nat} (h : q < 32768) : vp_nar .short (nI q) = nI q := by rw [vp_nar_short]; exact n2s h
def bI (b : Bool) : Int32 := if b then 1 else 0
section RW
variable {p : Program} {l : Launch} {e : Env} {R : Room} {s : State} {m : MethodId} {args : Array Value} {below : List Frame} {meth : Method} {c : Code} {H : Heap} {locs : List Loc} {cells slots : Nat} {Q : State → Prop}
variable {cc : ByteArray} {pc : Nat} {ls : Array Slot} {rest : List Value} {D : va_G} {cl : List vw_C} {A : Nat → Prop} {a : Nat} {tys : List (ClassId × FieldType)} {ws : va_W} {H0 : Heap}
theorem lv_ton {x : Int32} {n : Nat} (h : x = nI n) (k : W p l e R s m args below meth c H locs cells slots Q (F0 m pc ls (.int (nI n) :: rest))) : W p l e R s m args below meth c H locs cells slots Q (F0 m pc ls (.int x :: rest)) := by rw [h]; exact k
theorem lv_toi {x y : Int32} (h : x = y) (k : W p l e R s m args below meth c H locs cells slots Q (F0 m pc ls (.int y :: rest))) : W p l e R s m args below meth c H locs cells slots Q (F0 m pc ls (.int x :: rest)) := by rw [h]; exact k
theorem lv_tov {x y : Value} (h : x = y) (k : W p l e R s m args below meth c H locs cells slots Q (F0 m pc ls (y :: rest))) : W p l e R s m args below meth c H locs cells slots Q (F0 m pc ls (x :: rest)) := by rw [h]; exact k
theorem r_iald (hexec : p.tables.exec = Jvm.exec) (hb : c.code = cc) (hK : va_K D cl tys s) (hP : va_P D cl ws H) (q0 t0 : Nat) {cA : ClassId} {n : Nat} {f : Nat → Int32} (ha : ws[q0]? = some (a, .inl (cA, n, .inl f))) (ht : tys[t0]? = some (cA, .int)) {i : Nat} (hi : i < n) (hn : n < 2 ^ 31) {v : Int32} (hv : f i = v) (hdg : decode cc pc = .ok (.iaload, 1))
    (kk : W p l e R s m args below meth c H locs cells slots Q (F0 m (pc + 1) ls (.int v :: rest))) : W p l e R s m args below meth c H locs cells slots Q (F0 m pc ls (.int (nI i) :: .ref a :: rest)) := by
  refine va_iald hexec hb hK hP q0 t0 ha ht (vp_in_nI hi hn) hdg ?_
  rw [nI_clamp (by omega), hv]
  exact kk
theorem r_iast (hexec : p.tables.exec = Jvm.exec) (hb : c.code = cc) (hK : va_K D cl tys s) (hP : va_P D cl ws H) (hD : va_D A ws) (hS : va_S A H0 H locs) (q0 t0 : Nat) {cA : ClassId} {n : Nat} {f : Nat → Int32} (ha : ws[q0]? = some (a, .inl (cA, n, .inl f))) (ht : tys[t0]? = some (cA, .int)) {i : Nat} {x : Int32} (hi : i < n) (hn : n < 2 ^ 31) (hdg : decode cc pc = .ok (.iastore, 1))
    (kk : ∀ (H1 : Heap) (locs1 : List Loc), va_P D cl (ws.set q0 (a, .inl (cA, n, .inl (upd f i x)))) H1 → va_D A (ws.set q0 (a, .inl (cA, n, .inl (upd f i x)))) → va_S A H0 H1 locs1 → W p l e R s m args below meth c H1 locs1 cells slots Q (F0 m (pc + 1) ls rest)) : W p l e R s m args below meth c H locs cells slots Q (F0 m pc ls (.int x :: .int (nI i) :: .ref a :: rest)) := by
  refine va_iast hexec hb hK hP hD hS q0 t0 ha ht (vp_in_nI hi hn) hdg ?_
  rw [nI_clamp (by omega)]
  exact kk
theorem r_sald (hexec : p.tables.exec = Jvm.exec) (hb : c.code = cc) (hK : va_K D cl tys s) (hP : va_P D cl ws H) (q0 t0 : Nat) {cA : ClassId} {n : Nat} {f : Nat → Int32} (ha : ws[q0]? = some (a, .inl (cA, n, .inl f))) (ht : tys[t0]? = some (cA, .short)) {i : Nat} (hi : i < n) (hn : n < 2 ^ 31) {v : Int32} (hv : f i = v) (hdg : decode cc pc = .ok (.saload, 1))
    (kk : W p l e R s m args below meth c H locs cells slots Q (F0 m (pc + 1) ls (.int v :: rest))) : W p l e R s m args below meth c H locs cells slots Q (F0 m pc ls (.int (nI i) :: .ref a :: rest)) := by
  refine va_sald hexec hb hK hP q0 t0 ha ht (vp_in_nI hi hn) hdg ?_
  rw [nI_clamp (by omega), hv]
  exact kk
theorem r_sast (hexec : p.tables.exec = Jvm.exec) (hb : c.code = cc) (hK : va_K D cl tys s) (hP : va_P D cl ws H) (hD : va_D A ws) (hS : va_S A H0 H locs) (q0 t0 : Nat) {cA : ClassId} {n : Nat} {f : Nat → Int32} (ha : ws[q0]? = some (a, .inl (cA, n, .inl f))) (ht : tys[t0]? = some (cA, .short)) {i : Nat} {x : Int32} {v : Int32} (hi : i < n) (hn : n < 2 ^ 31) (hw : vp_nar .short x = v) (hdg : decode cc pc = .ok (.sastore, 1))
    (kk : ∀ (H1 : Heap) (locs1 : List Loc), va_P D cl (ws.set q0 (a, .inl (cA, n, .inl (upd f i v)))) H1 → va_D A (ws.set q0 (a, .inl (cA, n, .inl (upd f i v)))) → va_S A H0 H1 locs1 → W p l e R s m args below meth c H1 locs1 cells slots Q (F0 m (pc + 1) ls rest)) : W p l e R s m args below meth c H locs cells slots Q (F0 m pc ls (.int x :: .int (nI i) :: .ref a :: rest)) := by
  refine va_sast hexec hb hK hP hD hS q0 t0 ha ht (vp_in_nI hi hn) hdg ?_
  rw [nI_clamp (by omega), hw]
  exact kk
theorem r_cald (hexec : p.tables.exec = Jvm.exec) (hb : c.code = cc) (hK : va_K D cl tys s) (hP : va_P D cl ws H) (q0 t0 : Nat) {cA : ClassId} {n : Nat} {f : Nat → Int32} (ha : ws[q0]? = some (a, .inl (cA, n, .inl f))) (ht : tys[t0]? = some (cA, .char)) {i : Nat} (hi : i < n) (hn : n < 2 ^ 31) {v : Int32} (hv : f i = v) (hdg : decode cc pc = .ok (.caload, 1))
    (kk : W p l e R s m args below meth c H locs cells slots Q (F0 m (pc + 1) ls (.int v :: rest))) : W p l e R s m args below meth c H locs cells slots Q (F0 m pc ls (.int (nI i) :: .ref a :: rest)) := by
  refine va_cald hexec hb hK hP q0 t0 ha ht (vp_in_nI hi hn) hdg ?_
  rw [nI_clamp (by omega), hv]
  exact kk
theorem r_cast (hexec : p.tables.exec = Jvm.exec) (hb : c.code = cc) (hK : va_K D cl tys s) (hP : va_P D cl ws H) (hD : va_D A ws) (hS : va_S A H0 H locs) (q0 t0 : Nat) {cA : ClassId} {n : Nat} {f : Nat → Int32} (ha : ws[q0]? = some (a, .inl (cA, n, .inl f))) (ht : tys[t0]? = some (cA, .char)) {i : Nat} {x : Int32} {v : Int32} (hi : i < n) (hn : n < 2 ^ 31) (hw : vp_nar .char x = v) (hdg : decode cc pc = .ok (.castore, 1))
    (kk : ∀ (H1 : Heap) (locs1 : List Loc), va_P D cl (ws.set q0 (a, .inl (cA, n, .inl (upd f i v)))) H1 → va_D A (ws.set q0 (a, .inl (cA, n, .inl (upd f i v)))) → va_S A H0 H1 locs1 → W p l e R s m args below meth c H1 locs1 cells slots Q (F0 m (pc + 1) ls rest)) : W p l e R s m args below meth c H locs cells slots Q (F0 m pc ls (.int x :: .int (nI i) :: .ref a :: rest)) := by
  refine va_cast hexec hb hK hP hD hS q0 t0 ha ht (vp_in_nI hi hn) hdg ?_
  rw [nI_clamp (by omega), hw]
  exact kk
theorem r_bald (hexec : p.tables.exec = Jvm.exec) (hb : c.code = cc) (hK : va_K D cl tys s) (hP : va_P D cl ws H) (q0 t0 : Nat) {cA : ClassId} {n : Nat} {f : Nat → Int32} (ha : ws[q0]? = some (a, .inl (cA, n, .inl f))) (ht : tys[t0]? = some (cA, .byte)) {i : Nat} (hi : i < n) (hn : n < 2 ^ 31) {v : Int32} (hv : f i = v) (hdg : decode cc pc = .ok (.baload, 1))
    (kk : W p l e R s m args below meth c H locs cells slots Q (F0 m (pc + 1) ls (.int v :: rest))) : W p l e R s m args below meth c H locs cells slots Q (F0 m pc ls (.int (nI i) :: .ref a :: rest)) := by
  refine va_bald hexec hb hK hP q0 t0 ha ht (vp_in_nI hi hn) hdg ?_
  rw [nI_clamp (by omega), hv]
  exact kk
theorem r_bast (hexec : p.tables.exec = Jvm.exec) (hb : c.code = cc) (hK : va_K D cl tys s) (hP : va_P D cl ws H) (hD : va_D A ws) (hS : va_S A H0 H locs) (q0 t0 : Nat) {cA : ClassId} {n : Nat} {f : Nat → Int32} (ha : ws[q0]? = some (a, .inl (cA, n, .inl f))) (ht : tys[t0]? = some (cA, .byte)) {i : Nat} {x : Int32} {v : Int32} (hi : i < n) (hn : n < 2 ^ 31) (hw : vp_nar .byte x = v) (hdg : decode cc pc = .ok (.bastore, 1))
    (kk : ∀ (H1 : Heap) (locs1 : List Loc), va_P D cl (ws.set q0 (a, .inl (cA, n, .inl (upd f i v)))) H1 → va_D A (ws.set q0 (a, .inl (cA, n, .inl (upd f i v)))) → va_S A H0 H1 locs1 → W p l e R s m args below meth c H1 locs1 cells slots Q (F0 m (pc + 1) ls rest)) : W p l e R s m args below meth c H locs cells slots Q (F0 m pc ls (.int x :: .int (nI i) :: .ref a :: rest)) := by
  refine va_bast hexec hb hK hP hD hS q0 t0 ha ht (vp_in_nI hi hn) hdg ?_
  rw [nI_clamp (by omega), hw]
  exact kk
theorem r_alen (hexec : p.tables.exec = Jvm.exec) (hb : c.code = cc) (hK : va_K D cl tys s) (hP : va_P D cl ws H) (q0 t0 : Nat) {cA : ClassId} {n : Nat} {x} (ha : ws[q0]? = some (a, .inl (cA, n, x))) {ty : FieldType} (ht : tys[t0]? = some (cA, ty)) (hdg : decode cc pc = .ok (.arraylength, 1))
    (kk : W p l e R s m args below meth c H locs cells slots Q (F0 m (pc + 1) ls (.int (nI n) :: rest))) : W p l e R s m args below meth c H locs cells slots Q (F0 m pc ls (.ref a :: rest)) := va_alen hexec hb hK hP q0 t0 ha ht rfl hdg kk
theorem r_lald (hexec : p.tables.exec = Jvm.exec) (hb : c.code = cc) (hK : va_K D cl tys s) (hP : va_P D cl ws H) (q0 t0 : Nat) {cA : ClassId} {n : Nat} {f : Nat → Int64} (ha : ws[q0]? = some (a, .inl (cA, n, .inr (.inl f)))) (ht : tys[t0]? = some (cA, .long)) {i : Nat} (hi : i < n) (hn : n < 2 ^ 31) {v : Int64} (hv : f i = v) (hdg : decode cc pc = .ok (.laload, 1))
    (kk : W p l e R s m args below meth c H locs cells slots Q (F0 m (pc + 1) ls (.long v :: rest))) : W p l e R s m args below meth c H locs cells slots Q (F0 m pc ls (.int (nI i) :: .ref a :: rest)) := by
  refine va_lald hexec hb hK hP q0 t0 ha ht (vp_in_nI hi hn) hdg ?_
  rw [nI_clamp (by omega), hv]
  exact kk
theorem r_last (hexec : p.tables.exec = Jvm.exec) (hb : c.code = cc) (hK : va_K D cl tys s) (hP : va_P D cl ws H) (hD : va_D A ws) (hS : va_S A H0 H locs) (q0 t0 : Nat) {cA : ClassId} {n : Nat} {f : Nat → Int64} (ha : ws[q0]? = some (a, .inl (cA, n, .inr (.inl f)))) (ht : tys[t0]? = some (cA, .long)) {i : Nat} {x : Int64} (hi : i < n) (hn : n < 2 ^ 31) (hdg : decode cc pc = .ok (.lastore, 1))
    (kk : ∀ (H1 : Heap) (locs1 : List Loc), va_P D cl (ws.set q0 (a, .inl (cA, n, .inr (.inl (vp_updL f i x))))) H1 → va_D A (ws.set q0 (a, .inl (cA, n, .inr (.inl (vp_updL f i x))))) → va_S A H0 H1 locs1 → W p l e R s m args below meth c H1 locs1 cells slots Q (F0 m (pc + 1) ls rest)) : W p l e R s m args below meth c H locs cells slots Q (F0 m pc ls (.long x :: .int (nI i) :: .ref a :: rest)) := by
  refine va_last hexec hb hK hP hD hS q0 t0 ha ht (vp_in_nI hi hn) hdg ?_
  rw [nI_clamp (by omega)]
  exact kk
theorem r_dald (hexec : p.tables.exec = Jvm.exec) (hb : c.code = cc) (hK : va_K D cl tys s) (hP : va_P D cl ws H) (q0 t0 : Nat) {cA : ClassId} {n : Nat} {f : Nat → UInt64} (ha : ws[q0]? = some (a, .inl (cA, n, .inr (.inr (.inr (.inl f)))))) (ht : tys[t0]? = some (cA, .double)) {i : Nat} (hi : i < n) (hn : n < 2 ^ 31) {v : UInt64} (hv : f i = v) (hdg : decode cc pc = .ok (.daload, 1))
    (kk : W p l e R s m args below meth c H locs cells slots Q (F0 m (pc + 1) ls (.double v :: rest))) : W p l e R s m args below meth c H locs cells slots Q (F0 m pc ls (.int (nI i) :: .ref a :: rest)) := by
  refine va_dald hexec hb hK hP q0 t0 ha ht (vp_in_nI hi hn) hdg ?_
  rw [nI_clamp (by omega), hv]
  exact kk
theorem r_dast (hexec : p.tables.exec = Jvm.exec) (hb : c.code = cc) (hK : va_K D cl tys s) (hP : va_P D cl ws H) (hD : va_D A ws) (hS : va_S A H0 H locs) (q0 t0 : Nat) {cA : ClassId} {n : Nat} {f : Nat → UInt64} (ha : ws[q0]? = some (a, .inl (cA, n, .inr (.inr (.inr (.inl f)))))) (ht : tys[t0]? = some (cA, .double)) {i : Nat} {x : UInt64} (hi : i < n) (hn : n < 2 ^ 31) (hdg : decode cc pc = .ok (.dastore, 1))
    (kk : ∀ (H1 : Heap) (locs1 : List Loc), va_P D cl (ws.set q0 (a, .inl (cA, n, .inr (.inr (.inr (.inl (vf_upd f i x))))))) H1 → va_D A (ws.set q0 (a, .inl (cA, n, .inr (.inr (.inr (.inl (vf_upd f i x))))))) → va_S A H0 H1 locs1 → W p l e R s m args below meth c H1 locs1 cells slots Q (F0 m (pc + 1) ls rest)) : W p l e R s m args below meth c H locs cells slots Q (F0 m pc ls (.double x :: .int (nI i) :: .ref a :: rest)) := by
  refine va_dast hexec hb hK hP hD hS q0 t0 ha ht (vp_in_nI hi hn) hdg ?_
  rw [nI_clamp (by omega)]
  exact kk
theorem r_aaldO (hexec : p.tables.exec = Jvm.exec) (hb : c.code = cc) (hK : va_K D cl tys s) (hP : va_P D cl ws H) (q0 t0 : Nat) {cA : ClassId} {C : String} {n : Nat} {f : Nat → Option Nat} (ha : ws[q0]? = some (a, .inl (cA, n, .inr (.inr (.inr (.inr f)))))) (ht : tys[t0]? = some (cA, .object C)) {i : Nat} (hi : i < n) (hn : n < 2 ^ 31) {v : Nat} (hv : f i = some v) (hdg : decode cc pc = .ok (.aaload, 1))
    (kk : W p l e R s m args below meth c H locs cells slots Q (F0 m (pc + 1) ls (.ref v :: rest))) : W p l e R s m args below meth c H locs cells slots Q (F0 m pc ls (.int (nI i) :: .ref a :: rest)) := by
  refine va_aldq hexec hb hK hP q0 t0 ha ht (vp_in_nI hi hn) hdg ?_
  rw [nI_clamp (by omega), hv]
  exact kk
theorem r_aaldI (hexec : p.tables.exec = Jvm.exec) (hb : c.code = cc) (hK : va_K D cl tys s) (hP : va_P D cl ws H) (q0 t0 : Nat) {cA : ClassId} {n : Nat} {f : Nat → Option Nat} (ha : ws[q0]? = some (a, .inl (cA, n, .inr (.inr (.inr (.inr f)))))) (ht : tys[t0]? = some (cA, .array .int)) {i : Nat} (hi : i < n) (hn : n < 2 ^ 31) {v : Nat} (hv : f i = some v) (hdg : decode cc pc = .ok (.aaload, 1))
    (kk : W p l e R s m args below meth c H locs cells slots Q (F0 m (pc + 1) ls (.ref v :: rest))) : W p l e R s m args below meth c H locs cells slots Q (F0 m pc ls (.int (nI i) :: .ref a :: rest)) := by
  have hin := vp_in_nI hi hn
  have hlt : (nI i).toNatClampNeg < n := Nat.not_le.mp fun q => hin (Or.inr q)
  refine W.aald (v := va_rf (f (nI i).toNatClampNeg)) (ty := .array .int) hexec hb (hP q0 _ ha) ((hK.2 t0 _ ht).1 n (fun j => va_rf (f j))) rfl (fun q => by cases q) (by show ¬ (nI i < 0 ∨ (arrV _ _ _).slots.size ≤ _); rw [arrV_size]; exact hin) (by show (arrV _ _ _).slots[_]? = _; rw [arrV_read _ _ hlt]) rfl rfl hdg ?_
  rw [nI_clamp (by omega), hv]
  exact kk
theorem n_icmp_eq (hexec : p.tables.exec = Jvm.exec) (hb : c.code = cc) {a b : Nat} (ha : a < 2 ^ 31) (hb2 : b < 2 ^ 31) {off : Int} {tgt : Nat} (hdg : decode cc pc = .ok (.if_icmp .eq off, 3)) (ht : (pc : Int) + off = (tgt : Int))
    (kt : a = b → W p l e R s m args below meth c H locs cells slots Q (F0 m tgt ls rest)) (kf : a ≠ b → W p l e R s m args below meth c H locs cells slots Q (F0 m (pc + 3) ls rest)) : W p l e R s m args below meth c H locs cells slots Q (F0 m pc ls (.int (nI b) :: .int (nI a) :: rest)) := by
  have e1 := nI_toInt ha
  have e2 := nI_toInt hb2
  have q1 : nI a = nI b ↔ a = b := nI_eq ha hb2
  have q2 : nI a < nI b ↔ a < b := by rw [Int32.lt_iff_toInt_lt, e1, e2]; omega
  have q3 : nI a ≤ nI b ↔ a ≤ b := by rw [Int32.le_iff_toInt_le, e1, e2]; omega
  have q4 : nI b < nI a ↔ b < a := by rw [Int32.lt_iff_toInt_lt, e1, e2]; omega
  have q5 : nI b ≤ nI a ↔ b ≤ a := by rw [Int32.le_iff_toInt_le, e1, e2]; omega
  exact lv_icmp_eq hexec hb hdg ht (fun h => kt (by first | exact q1.mp h | exact q2.mp h | exact q3.mp h | exact q4.mp h | exact q5.mp h | exact fun z => h (q1.mpr z))) (fun h => kf (by first | exact fun z => h (q1.mpr z) | exact Nat.not_lt.mp (fun z => h (q2.mpr z)) | exact Nat.not_lt.mp (fun z => h (q4.mpr z)) | exact Nat.not_le.mp (fun z => h (q3.mpr z)) | exact Nat.not_le.mp (fun z => h (q5.mpr z)) | exact q1.mp h))
theorem n_icmp_ne (hexec : p.tables.exec = Jvm.exec) (hb : c.code = cc) {a b : Nat} (ha : a < 2 ^ 31) (hb2 : b < 2 ^ 31) {off : Int} {tgt : Nat} (hdg : decode cc pc = .ok (.if_icmp .ne off, 3)) (ht : (pc : Int) + off = (tgt : Int))
    (kt : a ≠ b → W p l e R s m args below meth c H locs cells slots Q (F0 m tgt ls rest)) (kf : a = b → W p l e R s m args below meth c H locs cells slots Q (F0 m (pc + 3) ls rest)) : W p l e R s m args below meth c H locs cells slots Q (F0 m pc ls (.int (nI b) :: .int (nI a) :: rest)) := by
  have e1 := nI_toInt ha
  have e2 := nI_toInt hb2
  have q1 : nI a = nI b ↔ a = b := nI_eq ha hb2
  have q2 : nI a < nI b ↔ a < b := by rw [Int32.lt_iff_toInt_lt, e1, e2]; omega
  have q3 : nI a ≤ nI b ↔ a ≤ b := by rw [Int32.le_iff_toInt_le, e1, e2]; omega
  have q4 : nI b < nI a ↔ b < a := by rw [Int32.lt_iff_toInt_lt, e1, e2]; omega
  have q5 : nI b ≤ nI a ↔ b ≤ a := by rw [Int32.le_iff_toInt_le, e1, e2]; omega
  exact lv_icmp_ne hexec hb hdg ht (fun h => kt (by first | exact q1.mp h | exact q2.mp h | exact q3.mp h | exact q4.mp h | exact q5.mp h | exact fun z => h (q1.mpr z))) (fun h => kf (by first | exact fun z => h (q1.mpr z) | exact Nat.not_lt.mp (fun z => h (q2.mpr z)) | exact Nat.not_lt.mp (fun z => h (q4.mpr z)) | exact Nat.not_le.mp (fun z => h (q3.mpr z)) | exact Nat.not_le.mp (fun z => h (q5.mpr z)) | exact q1.mp h))
theorem n_icmp_lt (hexec : p.tables.exec = Jvm.exec) (hb : c.code = cc) {a b : Nat} (ha : a < 2 ^ 31) (hb2 : b < 2 ^ 31) {off : Int} {tgt : Nat} (hdg : decode cc pc = .ok (.if_icmp .lt off, 3)) (ht : (pc : Int) + off = (tgt : Int))
    (kt : a < b → W p l e R s m args below meth c H locs cells slots Q (F0 m tgt ls rest)) (kf : b ≤ a → W p l e R s m args below meth c H locs cells slots Q (F0 m (pc + 3) ls rest)) : W p l e R s m args below meth c H locs cells slots Q (F0 m pc ls (.int (nI b) :: .int (nI a) :: rest)) := by
  have e1 := nI_toInt ha
  have e2 := nI_toInt hb2
  have q1 : nI a = nI b ↔ a = b := nI_eq ha hb2
  have q2 : nI a < nI b ↔ a < b := by rw [Int32.lt_iff_toInt_lt, e1, e2]; omega
  have q3 : nI a ≤ nI b ↔ a ≤ b := by rw [Int32.le_iff_toInt_le, e1, e2]; omega
  have q4 : nI b < nI a ↔ b < a := by rw [Int32.lt_iff_toInt_lt, e1, e2]; omega
  have q5 : nI b ≤ nI a ↔ b ≤ a := by rw [Int32.le_iff_toInt_le, e1, e2]; omega
  exact lv_icmp_lt hexec hb hdg ht (fun h => kt (by first | exact q1.mp h | exact q2.mp h | exact q3.mp h | exact q4.mp h | exact q5.mp h | exact fun z => h (q1.mpr z))) (fun h => kf (by first | exact fun z => h (q1.mpr z) | exact Nat.not_lt.mp (fun z => h (q2.mpr z)) | exact Nat.not_lt.mp (fun z => h (q4.mpr z)) | exact Nat.not_le.mp (fun z => h (q3.mpr z)) | exact Nat.not_le.mp (fun z => h (q5.mpr z)) | exact q1.mp h))
theorem n_icmp_ge (hexec : p.tables.exec = Jvm.exec) (hb : c.code = cc) {a b : Nat} (ha : a < 2 ^ 31) (hb2 : b < 2 ^ 31) {off : Int} {tgt : Nat} (hdg : decode cc pc = .ok (.if_icmp .ge off, 3)) (ht : (pc : Int) + off = (tgt : Int))
    (kt : b ≤ a → W p l e R s m args below meth c H locs cells slots Q (F0 m tgt ls rest)) (kf : a < b → W p l e R s m args below meth c H locs cells slots Q (F0 m (pc + 3) ls rest)) : W p l e R s m args below meth c H locs cells slots Q (F0 m pc ls (.int (nI b) :: .int (nI a) :: rest)) := by
  have e1 := nI_toInt ha
  have e2 := nI_toInt hb2
  have q1 : nI a = nI b ↔ a = b := nI_eq ha hb2
  have q2 : nI a < nI b ↔ a < b := by rw [Int32.lt_iff_toInt_lt, e1, e2]; omega
  have q3 : nI a ≤ nI b ↔ a ≤ b := by rw [Int32.le_iff_toInt_le, e1, e2]; omega
  have q4 : nI b < nI a ↔ b < a := by rw [Int32.lt_iff_toInt_lt, e1, e2]; omega
  have q5 : nI b ≤ nI a ↔ b ≤ a := by rw [Int32.le_iff_toInt_le, e1, e2]; omega
  exact lv_icmp_ge hexec hb hdg ht (fun h => kt (by first | exact q1.mp h | exact q2.mp h | exact q3.mp h | exact q4.mp h | exact q5.mp h | exact fun z => h (q1.mpr z))) (fun h => kf (by first | exact fun z => h (q1.mpr z) | exact Nat.not_lt.mp (fun z => h (q2.mpr z)) | exact Nat.not_lt.mp (fun z => h (q4.mpr z)) | exact Nat.not_le.mp (fun z => h (q3.mpr z)) | exact Nat.not_le.mp (fun z => h (q5.mpr z)) | exact q1.mp h))
theorem n_icmp_gt (hexec : p.tables.exec = Jvm.exec) (hb : c.code = cc) {a b : Nat} (ha : a < 2 ^ 31) (hb2 : b < 2 ^ 31) {off : Int} {tgt : Nat} (hdg : decode cc pc = .ok (.if_icmp .gt off, 3)) (ht : (pc : Int) + off = (tgt : Int))
    (kt : b < a → W p l e R s m args below meth c H locs cells slots Q (F0 m tgt ls rest)) (kf : a ≤ b → W p l e R s m args below meth c H locs cells slots Q (F0 m (pc + 3) ls rest)) : W p l e R s m args below meth c H locs cells slots Q (F0 m pc ls (.int (nI b) :: .int (nI a) :: rest)) := by
  have e1 := nI_toInt ha
  have e2 := nI_toInt hb2
  have q1 : nI a = nI b ↔ a = b := nI_eq ha hb2
  have q2 : nI a < nI b ↔ a < b := by rw [Int32.lt_iff_toInt_lt, e1, e2]; omega
  have q3 : nI a ≤ nI b ↔ a ≤ b := by rw [Int32.le_iff_toInt_le, e1, e2]; omega
  have q4 : nI b < nI a ↔ b < a := by rw [Int32.lt_iff_toInt_lt, e1, e2]; omega
  have q5 : nI b ≤ nI a ↔ b ≤ a := by rw [Int32.le_iff_toInt_le, e1, e2]; omega
  exact lv_icmp_gt hexec hb hdg ht (fun h => kt (by first | exact q1.mp h | exact q2.mp h | exact q3.mp h | exact q4.mp h | exact q5.mp h | exact fun z => h (q1.mpr z))) (fun h => kf (by first | exact fun z => h (q1.mpr z) | exact Nat.not_lt.mp (fun z => h (q2.mpr z)) | exact Nat.not_lt.mp (fun z => h (q4.mpr z)) | exact Nat.not_le.mp (fun z => h (q3.mpr z)) | exact Nat.not_le.mp (fun z => h (q5.mpr z)) | exact q1.mp h))
theorem n_icmp_le (hexec : p.tables.exec = Jvm.exec) (hb : c.code = cc) {a b : Nat} (ha : a < 2 ^ 31) (hb2 : b < 2 ^ 31) {off : Int} {tgt : Nat} (hdg : decode cc pc = .ok (.if_icmp .le off, 3)) (ht : (pc : Int) + off = (tgt : Int))
    (kt : a ≤ b → W p l e R s m args below meth c H locs cells slots Q (F0 m tgt ls rest)) (kf : b < a → W p l e R s m args below meth c H locs cells slots Q (F0 m (pc + 3) ls rest)) : W p l e R s m args below meth c H locs cells slots Q (F0 m pc ls (.int (nI b) :: .int (nI a) :: rest)) := by
  have e1 := nI_toInt ha
  have e2 := nI_toInt hb2
  have q1 : nI a = nI b ↔ a = b := nI_eq ha hb2
  have q2 : nI a < nI b ↔ a < b := by rw [Int32.lt_iff_toInt_lt, e1, e2]; omega
  have q3 : nI a ≤ nI b ↔ a ≤ b := by rw [Int32.le_iff_toInt_le, e1, e2]; omega
  have q4 : nI b < nI a ↔ b < a := by rw [Int32.lt_iff_toInt_lt, e1, e2]; omega
  have q5 : nI b ≤ nI a ↔ b ≤ a := by rw [Int32.le_iff_toInt_le, e1, e2]; omega
  exact lv_icmp_le hexec hb hdg ht (fun h => kt (by first | exact q1.mp h | exact q2.mp h | exact q3.mp h | exact q4.mp h | exact q5.mp h | exact fun z => h (q1.mpr z))) (fun h => kf (by first | exact fun z => h (q1.mpr z) | exact Nat.not_lt.mp (fun z => h (q2.mpr z)) | exact Nat.not_lt.mp (fun z => h (q4.mpr z)) | exact Nat.not_le.mp (fun z => h (q3.mpr z)) | exact Nat.not_le.mp (fun z => h (q5.mpr z)) | exact q1.mp h))
theorem n_if_eq (hexec : p.tables.exec = Jvm.exec) (hb : c.code = cc) {a : Nat} (ha : a < 2 ^ 31) {off : Int} {tgt : Nat} (hdg : decode cc pc = .ok (.ifCond .eq off, 3)) (ht : (pc : Int) + off = (tgt : Int))
    (kt : a = 0 → W p l e R s m args below meth c H locs cells slots Q (F0 m tgt ls rest)) (kf : 0 < a → W p l e R s m args below meth c H locs cells slots Q (F0 m (pc + 3) ls rest)) : W p l e R s m args below meth c H locs cells slots Q (F0 m pc ls (.int (nI a) :: rest)) := by
  have e1 := nI_toInt ha
  have e2 : (0 : Int32).toInt = 0 := by decide
  have q1 : nI a = 0 ↔ a = 0 := by rw [← Int32.toInt_inj, e1, e2]; omega
  have q4 : 0 < nI a ↔ 0 < a := by rw [Int32.lt_iff_toInt_lt, e1, e2]; omega
  have q3 : nI a ≤ 0 ↔ a = 0 := by rw [Int32.le_iff_toInt_le, e1, e2]; omega
  exact lv_if_eq hexec hb hdg ht (fun h => kt (by first | exact q1.mp h | exact q4.mp h | exact q3.mp h | exact Nat.pos_of_ne_zero (fun z => h (q1.mpr z)))) (fun h => kf (by first | exact Nat.pos_of_ne_zero (fun z => h (q1.mpr z)) | exact Nat.pos_of_ne_zero (fun z => h (q3.mpr z)) | exact q1.mp h | exact Nat.eq_zero_of_not_pos (fun z => h (q4.mpr z))))
theorem n_if_ne (hexec : p.tables.exec = Jvm.exec) (hb : c.code = cc) {a : Nat} (ha : a < 2 ^ 31) {off : Int} {tgt : Nat} (hdg : decode cc pc = .ok (.ifCond .ne off, 3)) (ht : (pc : Int) + off = (tgt : Int))
    (kt : 0 < a → W p l e R s m args below meth c H locs cells slots Q (F0 m tgt ls rest)) (kf : a = 0 → W p l e R s m args below meth c H locs cells slots Q (F0 m (pc + 3) ls rest)) : W p l e R s m args below meth c H locs cells slots Q (F0 m pc ls (.int (nI a) :: rest)) := by
  have e1 := nI_toInt ha
  have e2 : (0 : Int32).toInt = 0 := by decide
  have q1 : nI a = 0 ↔ a = 0 := by rw [← Int32.toInt_inj, e1, e2]; omega
  have q4 : 0 < nI a ↔ 0 < a := by rw [Int32.lt_iff_toInt_lt, e1, e2]; omega
  have q3 : nI a ≤ 0 ↔ a = 0 := by rw [Int32.le_iff_toInt_le, e1, e2]; omega
  exact lv_if_ne hexec hb hdg ht (fun h => kt (by first | exact q1.mp h | exact q4.mp h | exact q3.mp h | exact Nat.pos_of_ne_zero (fun z => h (q1.mpr z)))) (fun h => kf (by first | exact Nat.pos_of_ne_zero (fun z => h (q1.mpr z)) | exact Nat.pos_of_ne_zero (fun z => h (q3.mpr z)) | exact q1.mp h | exact Nat.eq_zero_of_not_pos (fun z => h (q4.mpr z))))
theorem n_if_gt (hexec : p.tables.exec = Jvm.exec) (hb : c.code = cc) {a : Nat} (ha : a < 2 ^ 31) {off : Int} {tgt : Nat} (hdg : decode cc pc = .ok (.ifCond .gt off, 3)) (ht : (pc : Int) + off = (tgt : Int))
    (kt : 0 < a → W p l e R s m args below meth c H locs cells slots Q (F0 m tgt ls rest)) (kf : a = 0 → W p l e R s m args below meth c H locs cells slots Q (F0 m (pc + 3) ls rest)) : W p l e R s m args below meth c H locs cells slots Q (F0 m pc ls (.int (nI a) :: rest)) := by
  have e1 := nI_toInt ha
  have e2 : (0 : Int32).toInt = 0 := by decide
  have q1 : nI a = 0 ↔ a = 0 := by rw [← Int32.toInt_inj, e1, e2]; omega
  have q4 : 0 < nI a ↔ 0 < a := by rw [Int32.lt_iff_toInt_lt, e1, e2]; omega
  have q3 : nI a ≤ 0 ↔ a = 0 := by rw [Int32.le_iff_toInt_le, e1, e2]; omega
  exact lv_if_gt hexec hb hdg ht (fun h => kt (by first | exact q1.mp h | exact q4.mp h | exact q3.mp h | exact Nat.pos_of_ne_zero (fun z => h (q1.mpr z)))) (fun h => kf (by first | exact Nat.pos_of_ne_zero (fun z => h (q1.mpr z)) | exact Nat.pos_of_ne_zero (fun z => h (q3.mpr z)) | exact q1.mp h | exact Nat.eq_zero_of_not_pos (fun z => h (q4.mpr z))))
theorem n_if_le (hexec : p.tables.exec = Jvm.exec) (hb : c.code = cc) {a : Nat} (ha : a < 2 ^ 31) {off : Int} {tgt : Nat} (hdg : decode cc pc = .ok (.ifCond .le off, 3)) (ht : (pc : Int) + off = (tgt : Int))
    (kt : a = 0 → W p l e R s m args below meth c H locs cells slots Q (F0 m tgt ls rest)) (kf : 0 < a → W p l e R s m args below meth c H locs cells slots Q (F0 m (pc + 3) ls rest)) : W p l e R s m args below meth c H locs cells slots Q (F0 m pc ls (.int (nI a) :: rest)) := by
  have e1 := nI_toInt ha
  have e2 : (0 : Int32).toInt = 0 := by decide
  have q1 : nI a = 0 ↔ a = 0 := by rw [← Int32.toInt_inj, e1, e2]; omega
  have q4 : 0 < nI a ↔ 0 < a := by rw [Int32.lt_iff_toInt_lt, e1, e2]; omega
  have q3 : nI a ≤ 0 ↔ a = 0 := by rw [Int32.le_iff_toInt_le, e1, e2]; omega
  exact lv_if_le hexec hb hdg ht (fun h => kt (by first | exact q1.mp h | exact q4.mp h | exact q3.mp h | exact Nat.pos_of_ne_zero (fun z => h (q1.mpr z)))) (fun h => kf (by first | exact Nat.pos_of_ne_zero (fun z => h (q1.mpr z)) | exact Nat.pos_of_ne_zero (fun z => h (q3.mpr z)) | exact q1.mp h | exact Nat.eq_zero_of_not_pos (fun z => h (q4.mpr z))))
theorem n_if_lt (hexec : p.tables.exec = Jvm.exec) (hb : c.code = cc) {a : Nat} (ha : a < 2 ^ 31) {off : Int} (hdg : decode cc pc = .ok (.ifCond .lt off, 3)) {tgt : Nat} (ht : (pc : Int) + off = (tgt : Int)) (k : W p l e R s m args below meth c H locs cells slots Q (F0 m (pc + 3) ls rest)) : W p l e R s m args below meth c H locs cells slots Q (F0 m pc ls (.int (nI a) :: rest)) := lv_if_lt hexec hb hdg ht (fun h => absurd h (nI_pos ha)) (fun _ => k)
theorem n_if_ge (hexec : p.tables.exec = Jvm.exec) (hb : c.code = cc) {a : Nat} (ha : a < 2 ^ 31) {off : Int} {tgt : Nat} (hdg : decode cc pc = .ok (.ifCond .ge off, 3)) (ht : (pc : Int) + off = (tgt : Int)) (k : W p l e R s m args below meth c H locs cells slots Q (F0 m tgt ls rest)) : W p l e R s m args below meth c H locs cells slots Q (F0 m pc ls (.int (nI a) :: rest)) := lv_if_ge hexec hb hdg ht (fun _ => k) (fun h => absurd (nI_pos' ha) h)
end RW
