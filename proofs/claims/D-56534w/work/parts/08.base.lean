/-! THE BASE: the classes, the tables' facts (KB), the throws' facts (EV), read-only cells (roW), contracts CT / CX, calls, ends, loops -/
set_option maxRecDepth 100000
abbrev CL : List vw_C := [(RX1, TX1, 4), (RX2, TX2, 13), (RX3, TX3, 1), (RJ2, TJ2, 3), (RJ3, TJ3, 3), (RJ5, TJ5, 4), (RX4, TX4, 14), (RX5, TX5, 2), (RX7, TX7, 2), (RX8, TX8, 4), (RX9, TX9, 5)]
abbrev TYS (ca : Nat → Nat) : List (ClassId × FieldType) := [(ca 0, .int), (ca 1, .short), (ca 2, .char), (ca 3, .object "java/lang/Object"), (ca 4, .byte), (ca 5, .long), (ca 6, .double), (ca 7, .array .int)]
/-- the run's constants: classes' numbers and slots; array classes 0..7, String constants' addresses from 100 on -/
abbrev Gt : Type := va_G × (Nat → Nat)
def nestW : Cond → Bool
  | .fieldLinkNest .. => true
  | .methodLinkNest .. => true
  | .castable .. => true
  | .declares .. => true
  | _ => false
/-- what the tables say of int[][] -/
def va_AI (U : State) : Prop := (Cond.arrayOver (.array .int)).before #[] U = true
theorem ao_spec {U : State} (h : va_AI U) : ∃ (comp c : ClassId) (k : Class), U.vm.findClass (FieldType.array .int).toString = some comp ∧ (U.vm.classes.findIdx? fun (x : Class) => match x.kind with | .array component _ => component == comp | _ => false) = some c ∧ U.vm.classes[c]? = some k ∧ k.kind = .array comp (.array .int) ∧ U.vm.findClass ("[" ++ (FieldType.array .int).toString) = some c := by
  unfold va_AI at h
  simp only [Cond.before, Cond.holds, Cond.value, beq_iff_eq] at h
  cases hc : U.vm.findClass (FieldType.array .int).toString with
  | none => simp [hc] at h
  | some comp =>
    simp only [hc, Option.bind_some, Option.bind_eq_some_iff, Option.map_eq_some_iff] at h
    obtain ⟨c, hi, k, hk, hb⟩ := h
    obtain ⟨hlt, hp, -⟩ := Array.findIdx?_eq_some_iff_getElem.mp hi
    have hkk : U.vm.classes[c] = k := (Array.getElem?_eq_some_iff.mp hk).2
    rw [hkk] at hp
    cases hkind : k.kind with
    | array component ty =>
      rw [hkind] at hb hp
      simp at hb hp
      exact ⟨comp, c, k, rfl, hi, hk, by rw [hkind, hp, hb.1], hb.2⟩
    | _ => rw [hkind] at hb; simp at hb
theorem va_AI.moved {u U : State} (hvm : u.vm.Alike U.vm) (h : va_AI u) : va_AI U := by
  obtain ⟨comp, c, k, h1, h2, h3, h4, h5⟩ := ao_spec h
  obtain ⟨k', hk', he⟩ := hvm.2.2 _ _ h3
  have hi : (U.vm.classes.findIdx? fun (x : Class) => match x.kind with | .array component _ => component == comp | _ => false) = some c := by
    refine (va_idx_bare U.vm comp).symm.trans ?_
    have e := va_idx_bare u.vm comp
    first | rw [hvm.bare_eq] at e | rw [← hvm.bare_eq] at e
    exact e.trans h2
  have hkind : k'.kind = .array comp (.array .int) := by rw [he]; exact h4
  have f1 : U.vm.findClass (FieldType.array .int).toString = some comp := by rw [hvm.findClass]; exact h1
  have f2 : U.vm.findClass ("[" ++ (FieldType.array .int).toString) = some c := by rw [hvm.findClass]; exact h5
  unfold va_AI Cond.before Cond.holds
  simp only [Cond.value]
  rw [f1, Option.bind_some]
  refine (congrArg (fun o : Option Nat => (o.bind (fun c => (U.vm.classes[c]?).map fun (k : Class) => match k.kind with | .array _ ty => decide (ty = FieldType.array .int) && decide (U.vm.findClass ("[" ++ (FieldType.array .int).toString) = some c) | _ => false) == some true)) hi).trans ?_
  simp [hk', hkind, f2]
/-- the String constants of TrainingDiary -/
def strL : List (Nat × String) := [(3, "out of range"), (11, "not possible at present"), (16, "there is no such position"), (21, "there is none"), (197, "there are no minutes"), (274, ""), (276, " ")]
def yItH : MethodName := ⟨"java/util/Iterator", "hasNext", "()Z"⟩
def yItN : MethodName := ⟨"java/util/Iterator", "next", "()Ljava/lang/Object;"⟩
/-- private methods of a StringBuilder's superclass: they run on it -/
def ySB : String → String → MethodName := fun n d => ⟨"java/lang/AbstractStringBuilder", n, d⟩
def selP : List MethodName := [ySB "ensureCapacityInternal" "(I)V", ySB "putStringAt" "(ILjava/lang/String;)V", ySB "inflateIfNeededFor" "(Ljava/lang/String;)V"]
def selF (U : State) : Prop := ∀ y ∈ selP, (Cond.selects "java/lang/StringBuilder" y y).before #[] U = true
def KB (G : Gt) (U : State) : Prop := va_K G.1 CL (TYS G.2) U ∧ ((∀ w ∈ lw_tbl, nestW w = true → va_Nw w U) ∧ selF U) ∧ va_AO "java/lang/Object" U ∧ va_Fw RX5 yItH yX5_hasNext U ∧ va_Fw RX5 yItN yX5_next U ∧ va_AI U ∧ va_Mi "[Ljava/lang/Object;" (G.2 98) U ∧ ∀ x ∈ strL, vk_R "TrainingDiary" x.1 x.2 (G.2 (100 + x.1)) U
theorem KB.warm {G : Gt} {s U : State} (hW : s.WarmedH U.vm) (h : KB G s) : KB G U := by
  obtain ⟨h1, h2, h3, h4, h5, h6, h8, h7⟩ := h
  refine ⟨va_K.moved hW.alike h1, ⟨fun w hw hn => ?_, fun y hy => word_at hW (Or.inl rfl) (h2.2 y hy)⟩, va_AO.moved hW.alike h3, va_Fw.moved (by decide) hW.alike h4, va_Fw.moved (by decide) hW.alike h5, va_AI.moved hW.alike h6, va_Mi.moved hW.alike h8, fun x hx => vk_R.warm hW (h7 x hx)⟩
  have hz := h2.1 w hw hn
  cases w <;> first | exact va_Nw.warmF hW hz | exact va_Nw.warmM hW hz | exact va_Nw.warmC hW hz | exact va_Nw.warmD hW hz | (simp [nestW] at hn)
theorem KB.nest {G : Gt} {s : State} (h : KB G s) {w : Cond} (hw : w ∈ lw_tbl) (hn : nestW w = true) : va_Nw w s := h.2.1.1 w hw hn
theorem KB.sel {G : Gt} {s : State} {args : Array Value} (h : KB G s) {y : MethodName} (hy : y ∈ selP) : (Cond.selects "java/lang/StringBuilder" y y).before args s = true := word_at (State.WarmedH.refl s) (Or.inl rfl) (h.2.1.2 y hy)
/-- cells that a method reads alone -/
def roW (G : Gt) (A : Nat → Prop) (H : Heap) (ws : va_W) : Prop := va_P G.1 CL ws H ∧ ∀ (k : Nat) (q : Nat × va_E), ws[k]? = some q → ¬ A q.1
theorem roW.kp {G : Gt} {A B : Nat → Prop} {H H1 : Heap} {ws : va_W} (h : roW G A H ws) (hB : ∀ q, B q → A q) (hk : ∀ q : Nat, q < H.size → ¬ A q → H1[q]? = H[q]?) : roW G B H1 ws :=
  ⟨h.1.kept fun k q hq => hk q.1 (h.1 k q hq).lt (h.2 k q hq), fun k q hq z => h.2 k q hq (hB _ z)⟩
/-- what a throw asks of the heap; the two texts of the week; an ArrayList's first array; texts are compact -/
def EV (G : Gt) (A : Nat → Prop) (U : State) (H : Heap) : Prop := vx_Zq Bundle.tN "UNASSIGNED_STACK" Bundle.steD A U H ∧ vx_Zq Bundle.tN "SUPPRESSED_SENTINEL" Bundle.listD A U H ∧ (vk_S 2 [0, 1] [[], [32]] (fun i => G.2 (374 + 2 * i)) (fun i => G.2 (574 + 2 * i)) A U H ∧ va_Z "jdk/internal/util/Preconditions" "SIOOBE_FORMATTER" "Ljava/util/function/BiFunction;" (.ref (G.2 97)) A U H) ∧ va_Z "java/util/ArrayList" "DEFAULTCAPACITY_EMPTY_ELEMENTDATA" "[Ljava/lang/Object;" (.ref (G.2 99)) A U H ∧ va_Z "java/lang/String" "COMPACT_STRINGS" "Z" (.int (nI 1)) A U H ∧ roW G A H [(G.2 99, .inl (G.2 3, 0, .inr (.inr (.inr (.inr (fun _ => none))))))]
theorem EV.moved {G : Gt} {A : Nat → Prop} {u U : State} {H : Heap} (hvm : u.vm.Alike U.vm) (h : EV G A u H) : EV G A U H := ⟨h.1.moved hvm, h.2.1.moved hvm, ⟨h.2.2.1.1.moved hvm, h.2.2.1.2.moved hvm⟩, h.2.2.2.1.moved hvm, h.2.2.2.2.1.moved hvm, h.2.2.2.2.2⟩
theorem EV.kp {G : Gt} {A B : Nat → Prop} {U : State} {H H1 : Heap} (h : EV G A U H) (hB : ∀ q, B q → A q) (hk : ∀ q : Nat, q < H.size → ¬ A q → H1[q]? = H[q]?) : EV G B U H1 := ⟨(h.1.kept hk).narrow hB, (h.2.1.kept hk).narrow hB, ⟨(h.2.2.1.1.kept hk).narrow hB, (h.2.2.1.2.kept hk).narrow hB⟩, (h.2.2.2.1.kept hk).narrow hB, (h.2.2.2.2.1.kept hk).narrow hB, h.2.2.2.2.2.kp hB hk⟩
theorem roW.w {G : Gt} {A : Nat → Prop} {H0 H : Heap} {locs : List Loc} {ws : va_W} (h : roW G A H0 ws) (hS : va_S A H0 H locs) : va_P G.1 CL ws H := h.1.kept fun k q hq => hS.2.1 _ (h.1 k q hq).lt (h.2 k q hq)
theorem roW.sub {G : Gt} {A : Nat → Prop} {H : Heap} {ws ws' : va_W} (h : roW G A H ws) (is : List Nat) (hs : is.filterMap (fun i => ws[i]?) = ws') : roW G A H ws' := by
  refine ⟨h.1.sub is hs, fun k q hk => ?_⟩
  subst hs
  obtain ⟨i, -, hi⟩ := List.mem_filterMap.mp (List.mem_of_getElem? hk)
  exact h.2 i q hi
theorem roW.app {G : Gt} {A : Nat → Prop} {H : Heap} {w1 w2 : va_W} (h1 : roW G A H w1) (h2 : roW G A H w2) : roW G A H (w1 ++ w2) := by
  refine ⟨h1.1.app h2.1, fun k q hk => ?_⟩
  rcases List.mem_append.mp (List.mem_of_getElem? hk) with h | h
  · obtain ⟨i, hi⟩ := List.getElem?_of_mem h
    exact h1.2 i q hi
  · obtain ⟨i, hi⟩ := List.getElem?_of_mem h
    exact h2.2 i q hi
/-- any cells of the heap are read-only to one who makes cells alone -/
theorem roW.nil {G : Gt} {H : Heap} {ws : va_W} (h : va_P G.1 CL ws H) : roW G (va_A [] H.size) H ws := by
  refine ⟨h, fun k q hk z => ?_⟩
  have hl := (h k q hk).lt
  rcases z with ⟨k2, e, z⟩ | z
  · cases z
  · omega
/-- cells of the caller's world that are none of the callee's -/
theorem roW.of {G : Gt} {A : Nat → Prop} {H : Heap} {ws wc w' : va_W} (hP : va_P G.1 CL ws H) (hD : va_D A ws) (isC isR : List Nat) (hC : isC.map (fun i => ws[i]?) = wc.map some) (hR : isR.map (fun i => ws[i]?) = w'.map some) (hdis : ∀ i ∈ isR, i ∉ isC) : roW G (va_A wc H.size) H w' := by
  have at' : ∀ {is : List Nat} {w : va_W}, is.map (fun i => ws[i]?) = w.map some → ∀ (k : Nat) (q : Nat × va_E), w[k]? = some q → ∃ i, is[k]? = some i ∧ ws[i]? = some q := by
    intro is w hs k q hq
    have h1 : (is.map (fun i => ws[i]?))[k]? = some (some q) := by rw [hs, List.getElem?_map, hq]; rfl
    rw [List.getElem?_map] at h1
    cases hi : is[k]? with
    | none => rw [hi] at h1; cases h1
    | some i => rw [hi] at h1; exact ⟨i, rfl, Option.some.inj h1⟩
  refine ⟨fun k q hq => ?_, fun k q hq h => ?_⟩
  · obtain ⟨i, h1, h2⟩ := at' hR k q hq
    exact hP i q h2
  · obtain ⟨i, h1, h2⟩ := at' hR k q hq
    have hl := (hP i q h2).lt
    rcases h with ⟨k2, e, h⟩ | h
    · obtain ⟨j, h3, h4⟩ := at' hC k2 (q.1, e) h
      have hij := hD.1 i j q (q.1, e) h2 h4 rfl
      subst hij
      exact hdis i (List.mem_of_getElem? h1) (List.mem_of_getElem? h3)
    · omega
def RH0 : (Nat → Prop) → Heap → Prop := fun _ _ => True
def PreM (G : Gt) (w0 : va_W) (RH : (Nat → Prop) → Heap → Prop) (sz : Nat) (U : State) : Prop :=
  U.heap.size = sz ∧ KB G U ∧ EV G (va_A w0 sz) U U.heap ∧ va_P G.1 CL w0 U.heap ∧ va_D (fun _ => True) w0 ∧ RH (va_A w0 sz) U.heap
theorem PreM.blind {G : Gt} {w0 : va_W} {RH : (Nat → Prop) → Heap → Prop} {sz : Nat} {av : List Value} : FrameBlind (va_Pc av (PreM G w0 RH sz)) := by
  intro a U g mk ⟨h0, h1, h2, h3, h4, h5, h6⟩
  have hv : U.WarmedH (U.calling g mk a).vm := State.WarmedH.refl U
  exact ⟨h0, h1, h2.warm hv, h3.moved (Vm.Alike.refl U.vm), h4, h5, h6⟩
/-- the end of a method that returns -/
def QcM (G : Gt) (A : Nat → Prop) {S : Type} (rv : S → Option Value) (post : S → Prop) (w1 : S → va_W) (PH : S → Heap → Prop) : Array Value → State → Outcome → State → Prop :=
  fun _ st oc t => (∃ u : S, oc = .returned (rv u) ∧ post u ∧ va_P G.1 CL (w1 u) t.heap ∧ va_D A (w1 u) ∧ PH u t.heap) ∧ va_F A st t
/-- the end of a method that throws -/
def XcM (G : Gt) (A : Nat → Prop) {SX : Type} (xn : SX → String) (px : SX → Prop) (wx : SX → va_W) (PX : SX → Heap → Prop) : String → State → State → Prop :=
  vx_X px (fun E u t => E = xn u ∧ va_P G.1 CL (wx u) t.heap ∧ va_D A (wx u) ∧ PX u t.heap) A
/-- a contract: it returns -/
def CT (l : Launch) (G : Gt) (y : MethodName) (cc : ByteArray) (nL : Nat) (ret : Option FieldType) (rm : Room) (av : List Value) (w0 : va_W) (RH : (Nat → Prop) → Heap → Prop) {S : Type} (rv : S → Option Value) (post : S → Prop) (w1 : S → va_W) (PH : S → Heap → Prop) : Prop :=
  ∀ sz : Nat, Met l y (ws_ y cc nL ret) rm (va_Pc av (PreM G w0 RH sz)) (QcM G (va_A w0 sz) rv post w1 PH) rm.cells rm.slots (va_A w0 sz)
/-- a contract: it returns or throws -/
def CX (l : Launch) (G : Gt) (y : MethodName) (cc : ByteArray) (nL : Nat) (ret : Option FieldType) (rm : Room) (av : List Value) (w0 : va_W) (RH : (Nat → Prop) → Heap → Prop) {S : Type} (rv : S → Option Value) (post : S → Prop) (w1 : S → va_W) (PH : S → Heap → Prop)
    {SX : Type} (xn : SX → String) (px : SX → Prop) (wx : SX → va_W) (PX : SX → Heap → Prop) : Prop :=
  ∀ sz : Nat, vx_Met l y (ws_ y cc nL ret) rm (va_Pc av (PreM G w0 RH sz)) (QcM G (va_A w0 sz) rv post w1 PH) (XcM G (va_A w0 sz) xn px wx PX) rm.cells rm.slots (va_A w0 sz)
/-- what holds at a method's entry -/
def EntryM (G : Gt) (p : Program) (s : State) (m : MethodId) (meth : Method) (c : Code) (y : MethodName) (cc : ByteArray) (nL : Nat) (ret : Option FieldType) (av : List Value) (w0 : va_W) (RH : (Nat → Prop) → Heap → Prop) (A : Nat → Prop) (ls : Array Slot) : Prop :=
  CallFix p m c cc nL s av.toArray lw_all y.cls ∧ meth.sig.returnType = ret ∧ meth.locks = false ∧ meth.name = y.name ∧ KB G s ∧ EV G A s s.heap ∧ va_P G.1 CL w0 s.heap ∧ va_D A w0 ∧ va_S A s.heap s.heap [] ∧ (∀ q, s.heap.size ≤ q → A q) ∧ (∀ q, A q → va_A w0 s.heap.size q) ∧ RH A s.heap ∧ lv_has ls nL (lv_args 0 av)
theorem EntryM.mk' {l : Launch} {G : Gt} {y : MethodName} {cc : ByteArray} {nL : Nat} {ret : Option FieldType} {rm : Room} {av : List Value} {w0 : va_W} {RH : (Nat → Prop) → Heap → Prop} {p : Program} {e : Env} {s : State} {m : MethodId} {args : Array Value} {below : List Frame} {meth : Method} {c : Code} {s₁ : State} (hav : (lg_sl av).length ≤ nL)
    (B : BodyLoose p l y (headSpec (ws_ y cc nL ret) rm) cc nL ret e s m args below meth c s₁) (hml : c.maxLocals = nL) (hv : va_Pc av (PreM G w0 RH s.heap.size) args s) :
    EntryM G p s m meth c y cc nL ret av w0 RH (va_A w0 s.heap.size) ((lg_sl av ++ List.replicate (nL - (lg_sl av).length) Slot.unset).toArray) := by
  obtain ⟨rfl, -, h1, h2, h3, h4, h5⟩ := hv
  have hts := atoms_spec (ws := ws_ y cc nL ret) B.pre
  exact ⟨⟨B.exec, B.bytes, hml, findClass_of_methodNamed B.named, fun w h => hts w (List.mem_cons_of_mem _ h)⟩, B.returns, B.notSynchronized, (name_of_methodNamed B.named B.method).1, h1, h2, h3, h4.self, va_S.rf, fun q h => Or.inr h, fun q h => h, h5, lv_entry av hav⟩
theorem CT.of {l : Launch} {G : Gt} {y : MethodName} {cc : ByteArray} {nL : Nat} {ret : Option FieldType} {rm : Room} {av : List Value} {w0 : va_W} {RH : (Nat → Prop) → Heap → Prop} {S : Type} {rv : S → Option Value} {post : S → Prop} {w1 : S → va_W} {PH : S → Heap → Prop} (hy : plainName y.cls = true) (hav : (lg_sl av).length ≤ nL)
    (body : ∀ (p : Program) (e : Env) (s : State) (m : MethodId) (below : List Frame) (meth : Method) (c : Code) (ls : Array Slot) (A : Nat → Prop) (H : Heap) (locs : List Loc), EntryM G p s m meth c y cc nL ret av w0 RH A ls → H = s.heap → va_P G.1 CL w0 H → va_S A s.heap H locs →
      W p l e rm s m av.toArray below meth c H locs 0 0 (MQ below (QcM G A rv post w1 PH) av.toArray s rm.cells rm.slots A) (F0 m 0 ls [])) : CT l G y cc nL ret rm av w0 RH rv post w1 PH := by
  intro sz
  refine Met.ofW (cc := cc) (maxL := nL) (ret := ret) hy rfl ?_
  intro p e s m args below meth c s₁ B hml hv
  have hsz : s.heap.size = sz := hv.2.1
  subst hsz
  have hE := EntryM.mk' (G := G) (w0 := w0) (RH := RH) hav B hml hv
  obtain ⟨rfl, -⟩ := hv
  rw [lg_entry_eq]
  exact body p e s m below meth c _ _ _ _ hE rfl hE.2.2.2.2.2.2.1 va_S.rf
theorem CX.of {l : Launch} {G : Gt} {y : MethodName} {cc : ByteArray} {nL : Nat} {ret : Option FieldType} {rm : Room} {av : List Value} {w0 : va_W} {RH : (Nat → Prop) → Heap → Prop} {S : Type} {rv : S → Option Value} {post : S → Prop} {w1 : S → va_W} {PH : S → Heap → Prop} {SX : Type} {xn : SX → String} {px : SX → Prop} {wx : SX → va_W} {PX : SX → Heap → Prop} (hy : plainName y.cls = true) (hav : (lg_sl av).length ≤ nL)
    (body : ∀ (p : Program) (e : Env) (s : State) (m : MethodId) (below : List Frame) (meth : Method) (c : Code) (ls : Array Slot) (A : Nat → Prop) (H : Heap) (locs : List Loc), EntryM G p s m meth c y cc nL ret av w0 RH A ls → H = s.heap → va_P G.1 CL w0 H → va_S A s.heap H locs → (∀ (pc : Nat), ∀ x ∈ c.exceptionTable.toList, covers x pc = false) →
      W p l e rm s m av.toArray below meth c H locs 0 0 (vx_MQ below (QcM G A rv post w1 PH) (XcM G A xn px wx PX) av.toArray s rm.cells rm.slots A) (F0 m 0 ls [])) : CX l G y cc nL ret rm av w0 RH rv post w1 PH xn px wx PX := by
  intro sz
  refine vx_ofW (cc := cc) (maxL := nL) (ret := ret) hy rfl ?_
  intro p e s m args below meth c s₁ B hml hout hv
  have hsz : s.heap.size = sz := hv.2.1
  subst hsz
  have hE := EntryM.mk' (G := G) (w0 := w0) (RH := RH) hav B hml hv
  obtain ⟨rfl, -⟩ := hv
  rw [lg_entry_eq]
  exact body p e s m below meth c _ _ _ _ hE rfl hE.2.2.2.2.2.2.1 va_S.rf (fun pc x hx => absurd (hout x hx) id)
section BL
variable {p : Program} {l : Launch} {e : Env} {R : Room} {s : State} {m : MethodId} {args : Array Value} {below : List Frame} {meth : Method} {c : Code} {H : Heap} {locs : List Loc} {cells slots : Nat} {Q : State → Prop}
variable {G : Gt} {cc : ByteArray} {pc : Nat} {ls : Array Slot} {rest st0 : List Value} {A : Nat → Prop} {ws wc : va_W} {H0 : Heap} {mc ms : Nat} {a : Array Value}
/-- a loop: a head that is come to again and again, with a measure that falls -/
theorem lp_W {σ : Type} {hpc : Nat} (μ C S : σ → Nat) (I : σ → Heap → List Loc → Array Slot → Prop)
    (step : ∀ (x : σ) (H : Heap) (locs : List Loc) (ls : Array Slot), I x H locs ls → (∀ (y : σ) (H1 : Heap) (locs1 : List Loc) (ls1 : Array Slot), I y H1 locs1 ls1 → μ y < μ x → W p l e R s m args below meth c H1 locs1 (C y) (S y) Q (F0 m hpc ls1 [])) → W p l e R s m args below meth c H locs (C x) (S x) Q (F0 m hpc ls []))
    (x0 : σ) (h : I x0 H locs ls) (hc : cells ≤ C x0) (hs : slots ≤ S x0) : W p l e R s m args below meth c H locs cells slots Q (F0 m hpc ls []) := by
  have key : ∀ (n : Nat) (x : σ) (H : Heap) (locs : List Loc) (ls : Array Slot), μ x < n → I x H locs ls → W p l e R s m args below meth c H locs (C x) (S x) Q (F0 m hpc ls []) := by
    intro n
    induction n with
    | zero => intro x H locs ls h; omega
    | succ n ih => exact fun x H locs ls h1 h2 => step x H locs ls h2 fun y H1 locs1 ls1 h3 h4 => ih y H1 locs1 ls1 (by omega) h3
  exact W.widen hc hs (key (μ x0 + 1) x0 H locs ls (by omega) h)
/-- a place where several ways meet -/
theorem jn_W {σ : Type} {jpc : Nat} (C S : σ → Nat) (I : σ → Heap → List Loc → Array Slot → Prop) (st : σ → List Value) {g : JFrame}
    (k : ∀ (x : σ) (H : Heap) (locs : List Loc) (ls : Array Slot), I x H locs ls → W p l e R s m args below meth c H locs (C x) (S x) Q (F0 m jpc ls (st x)))
    (b : (∀ (x : σ) (H : Heap) (locs : List Loc) (ls : Array Slot), I x H locs ls → W p l e R s m args below meth c H locs (C x) (S x) Q (F0 m jpc ls (st x))) → W p l e R s m args below meth c H locs cells slots Q g) : W p l e R s m args below meth c H locs cells slots Q g := b k
theorem preV_of {RH : (Nat → Prop) → Heap → Prop} {C : String} {b : Addr} {As : List Value} (hKB : KB G s) (hE : EV G A s s.heap) (hS : va_S A s.heap H locs) (hA : ∀ q, va_A wc H.size q → A q) (hr : ∃ cell : Cell, H[b]? = some cell ∧ cell.vm.isStatics = false ∧ s.vm.findClass C = some cell.cls) (hP : va_P G.1 CL wc H) (hD : va_D (fun _ => True) wc) (hR : RH (va_A wc H.size) H) :
    PreV s H C b (va_Pc (.ref b :: As) (PreM G wc RH H.size)) As := by
  refine ⟨PreM.blind, hr, fun U hU hW => ⟨rfl, by rw [hU], hKB.warm hW, ?_, by rw [hU]; exact hP, hD, by rw [hU]; exact hR⟩⟩
  rw [hU]
  exact (hE.kp hA hS.2.1).moved hW.alike
theorem preS_of {RH : (Nat → Prop) → Heap → Prop} {As : List Value} (hKB : KB G s) (hE : EV G A s s.heap) (hS : va_S A s.heap H locs) (hA : ∀ q, va_A wc H.size q → A q) (hP : va_P G.1 CL wc H) (hD : va_D (fun _ => True) wc) (hR : RH (va_A wc H.size) H) :
    PreS s H (va_Pc As (PreM G wc RH H.size)) As := by
  refine ⟨PreM.blind, fun U hU hW => ⟨rfl, by rw [hU], hKB.warm hW, ?_, by rw [hU]; exact hP, hD, by rw [hU]; exact hR⟩⟩
  rw [hU]
  exact (hE.kp hA hS.2.1).moved hW.alike
theorem hF_of (hD : va_D A ws) (hS : va_S A s.heap H locs) (hA : ∀ q, s.heap.size ≤ q → A q) (isC : List Nat) (hC : isC.map (fun i => ws[i]?) = wc.map some) : ∀ q, va_A wc H.size q → A q := va_free hD hS hA isC hC
theorem map_fm {α : Type} (l : List α) (is : List Nat) (h : is.all (fun i => Nat.blt i l.length) = true) : is.map (fun i => l[i]?) = (is.filterMap (fun i => l[i]?)).map some := by
  induction is with
  | nil => rfl
  | cons i is ih =>
    simp only [List.all_cons, Bool.and_eq_true] at h
    have h0 : i < l.length := by simpa [Nat.blt_eq] using h.1
    have h1 : l[i]? = some l[i] := List.getElem?_eq_getElem h0
    rw [List.map_cons, List.filterMap_cons, h1, ih h.2]
    rfl
theorem go_ct {S : Type} {rv : S → Option Value} {post : S → Prop} {w1 : S → va_W} {PH : S → Heap → Prop} (hS : va_S A s.heap H locs) (hP : va_P G.1 CL ws H) (hD : va_D A ws) (isC isR : List Nat) (hF : ∀ q, va_A wc H.size q → A q) (hC : isC.map (fun i => ws[i]?) = wc.map some) (hR : isR.all (fun i => Nat.blt i ws.length) = true) (hn : va_nd isR = true) (hdis : ∀ i ∈ isR, i ∉ isC)
    (hr : va_Run p l e R s m args below meth c H locs cells slots mc ms (F0 m pc ls st0) rest (QcM G (va_A wc H.size) rv post w1 PH a) (va_A wc H.size))
    (kk : ∀ (u : S) (H1 : Heap) (locs1 : List Loc), post u → PH u H1 → va_P G.1 CL (isR.filterMap (fun i => ws[i]?) ++ w1 u) H1 → va_D A (isR.filterMap (fun i => ws[i]?) ++ w1 u) → va_S A s.heap H1 locs1 → H.size ≤ H1.size → (∀ q : Nat, q < H.size → ¬ va_A wc H.size q → H1[q]? = H[q]?) → W p l e R s m args below meth c H1 locs1 (cells + mc) (slots + ms) Q (F0 m (pc + 3) ls ((rv u).toList ++ rest))) : W p l e R s m args below meth c H locs cells slots Q (F0 m pc ls st0) := by
  intro T hT X
  obtain ⟨v, st₀, t, T', L, h0, X', hL, e1, e2, ⟨⟨u, hv, hp, hP1, hD1, hPH⟩, hz, hk⟩, st⟩ := hr T hT X
  cases hv
  rw [h0] at hz hk
  rw [← e1] at hP1 hPH hz hk
  obtain ⟨j1, j2⟩ := va_join hP hD isC isR hC (map_fm ws isR hR) hn hdis hk hF hP1 hD1
  obtain ⟨t2, a1, b1⟩ := kk u T'.heap (locs ++ L) hp hPH j1 j2
    ⟨Nat.le_trans hS.1 hz, fun q h1 h2 => by rw [hk q (Nat.lt_of_lt_of_le h1 hS.1) (fun z => h2 (hF q z))]; exact hS.2.1 q h1 h2, fun q hq => by
      rcases List.mem_append.mp hq with h | h
      · exact hS.2.2 q h
      · exact hF _ (hL q h)⟩ hz hk T' rfl X'
  exact ⟨t2, st t2 a1, b1⟩
theorem go_ct5 {S : Type} {rv : S → Option Value} {post : S → Prop} {w1 : S → va_W} {PH : S → Heap → Prop} (hS : va_S A s.heap H locs) (hP : va_P G.1 CL ws H) (hD : va_D A ws) (isC isR : List Nat) (hF : ∀ q, va_A wc H.size q → A q) (hC : isC.map (fun i => ws[i]?) = wc.map some) (hR : isR.all (fun i => Nat.blt i ws.length) = true) (hn : va_nd isR = true) (hdis : ∀ i ∈ isR, i ∉ isC)
    (hr : va_Run5 p l e R s m args below meth c H locs cells slots mc ms (F0 m pc ls st0) rest (QcM G (va_A wc H.size) rv post w1 PH a) (va_A wc H.size))
    (kk : ∀ (u : S) (H1 : Heap) (locs1 : List Loc), post u → PH u H1 → va_P G.1 CL (isR.filterMap (fun i => ws[i]?) ++ w1 u) H1 → va_D A (isR.filterMap (fun i => ws[i]?) ++ w1 u) → va_S A s.heap H1 locs1 → H.size ≤ H1.size → (∀ q : Nat, q < H.size → ¬ va_A wc H.size q → H1[q]? = H[q]?) → W p l e R s m args below meth c H1 locs1 (cells + mc) (slots + ms) Q (F0 m (pc + 5) ls ((rv u).toList ++ rest))) : W p l e R s m args below meth c H locs cells slots Q (F0 m pc ls st0) := by
  intro T hT X
  obtain ⟨v, st₀, t, T', L, h0, X', hL, e1, e2, ⟨⟨u, hv, hp, hP1, hD1, hPH⟩, hz, hk⟩, st⟩ := hr T hT X
  cases hv
  rw [h0] at hz hk
  rw [← e1] at hP1 hPH hz hk
  obtain ⟨j1, j2⟩ := va_join hP hD isC isR hC (map_fm ws isR hR) hn hdis hk hF hP1 hD1
  obtain ⟨t2, a1, b1⟩ := kk u T'.heap (locs ++ L) hp hPH j1 j2
    ⟨Nat.le_trans hS.1 hz, fun q h1 h2 => by rw [hk q (Nat.lt_of_lt_of_le h1 hS.1) (fun z => h2 (hF q z))]; exact hS.2.1 q h1 h2, fun q hq => by
      rcases List.mem_append.mp hq with h | h
      · exact hS.2.2 q h
      · exact hF _ (hL q h)⟩ hz hk T' rfl X'
  exact ⟨t2, st t2 a1, b1⟩
theorem go_cx {S SX : Type} {rv : S → Option Value} {post : S → Prop} {w1 : S → va_W} {PH : S → Heap → Prop} {xn : SX → String} {px : SX → Prop} {wx : SX → va_W} {PX : SX → Heap → Prop} (hS : va_S A s.heap H locs) (hP : va_P G.1 CL ws H) (hD : va_D A ws) (isC isR : List Nat) (hF : ∀ q, va_A wc H.size q → A q) (hC : isC.map (fun i => ws[i]?) = wc.map some) (hR : isR.all (fun i => Nat.blt i ws.length) = true) (hn : va_nd isR = true) (hdis : ∀ i ∈ isR, i ∉ isC)
    (hr : vx_Run p l e R s m args below meth c H locs cells slots mc ms (F0 m pc ls st0) rest (QcM G (va_A wc H.size) rv post w1 PH a) (XcM G (va_A wc H.size) xn px wx PX) (va_A wc H.size))
    (kx : ∀ (ux : SX) (H1 : Heap) (locs1 : List Loc) (ce : Cell) (q9 : Addr), px ux → PX ux H1 → va_P G.1 CL (isR.filterMap (fun i => ws[i]?) ++ wx ux) H1 → va_D A (isR.filterMap (fun i => ws[i]?) ++ wx ux) → va_S A s.heap H1 locs1 → H.size ≤ H1.size → (∀ q : Nat, q < H.size → ¬ va_A wc H.size q → H1[q]? = H[q]?) → H1[q9]? = some ce → ce.vm = .none → s.vm.findClass (xn ux) = some ce.cls → vx_W p l e R s m args below meth c H1 locs1 (cells + mc) (slots + ms) Q (F0 m pc ls rest) q9)
    (kk : ∀ (u : S) (H1 : Heap) (locs1 : List Loc), post u → PH u H1 → va_P G.1 CL (isR.filterMap (fun i => ws[i]?) ++ w1 u) H1 → va_D A (isR.filterMap (fun i => ws[i]?) ++ w1 u) → va_S A s.heap H1 locs1 → H.size ≤ H1.size → (∀ q : Nat, q < H.size → ¬ va_A wc H.size q → H1[q]? = H[q]?) → W p l e R s m args below meth c H1 locs1 (cells + mc) (slots + ms) Q (F0 m (pc + 3) ls ((rv u).toList ++ rest))) : W p l e R s m args below meth c H locs cells slots Q (F0 m pc ls st0) := by
  intro T hT X
  have hs9 : ∀ {T' : State} {L : List Loc}, H.size ≤ T'.heap.size → (∀ q : Nat, q < H.size → ¬ va_A wc H.size q → T'.heap[q]? = H[q]?) → (∀ z ∈ L, va_A wc H.size z.base) → va_S A s.heap T'.heap (locs ++ L) := fun hz hk hL => ⟨Nat.le_trans hS.1 hz, fun q h1 h2 => by rw [hk q (Nat.lt_of_lt_of_le h1 hS.1) (fun z => h2 (hF q z))]; exact hS.2.1 q h1 h2, fun q hq => by
      rcases List.mem_append.mp hq with h | h
      · exact hS.2.2 q h
      · exact hF _ (hL q h)⟩
  rcases hr T hT X with ⟨v, st₀, t, T', L, h0, X', hL, e1, e2, ⟨⟨u, hv, hp, hP1, hD1, hPH⟩, hz, hk⟩, st⟩ | ⟨q, st₀, t, T', L, E, ce, h0, X', hL, e1, e2, ⟨u, hp, ⟨rfl, hP1, hD1, hPH⟩, hz, hk⟩, hce, hcv, hcl, st⟩
  · cases hv
    rw [h0] at hz hk
    rw [← e1] at hP1 hPH hz hk
    obtain ⟨j1, j2⟩ := va_join hP hD isC isR hC (map_fm ws isR hR) hn hdis hk hF hP1 hD1
    obtain ⟨t2, a1, b1⟩ := kk u T'.heap (locs ++ L) hp hPH j1 j2 (hs9 hz hk hL) hz hk T' rfl X'
    exact ⟨t2, st t2 a1, b1⟩
  · rw [h0] at hz hk
    rw [← e1] at hP1 hPH hz hk hce
    obtain ⟨j1, j2⟩ := va_join hP hD isC isR hC (map_fm ws isR hR) hn hdis hk hF hP1 hD1
    obtain ⟨t2, a1, b1⟩ := kx u T'.heap (locs ++ L) ce q hp hPH j1 j2 (hs9 hz hk hL) hz hk hce hcv hcl T' rfl X'
    exact ⟨t2, st.trans a1, b1⟩
end BL
section BE
variable {p : Program} {l : Launch} {e : Env} {R : Room} {s : State} {m : MethodId} {args : Array Value} {below : List Frame} {meth : Method} {c : Code} {H : Heap} {locs : List Loc} {cells slots : Nat}
variable {G : Gt} {cc : ByteArray} {pc : Nat} {ls : Array Slot} {rest : List Value} {A : Nat → Prop} {mc ms : Nat} {S SX : Type} {rv : S → Option Value} {post : S → Prop} {w1 : S → va_W} {PH : S → Heap → Prop} {xn : SX → String} {px : SX → Prop} {wx : SX → va_W} {PX : SX → Heap → Prop}
/-- what a return owes: the answer's ghost u, its post, the world, the heap's further facts -/
theorem qc_of (u : S) {v : Option Value} (hv : rv u = v) (hpost : post u) (hP : va_P G.1 CL (w1 u) H) (hD : va_D A (w1 u)) (hPH : PH u H) (hS : va_S A s.heap H locs) : ∀ t : State, t.heap = H → s.WarmedH t.vm → QcM G A rv post w1 PH args s (.returned v) t := by
  intro t ht _
  exact ⟨⟨u, by rw [hv], hpost, by rw [ht]; exact hP, hD, by rw [ht]; exact hPH⟩, hS.F ht⟩
theorem end_i (hexec : p.tables.exec = Jvm.exec) (hb : c.code = cc) {ty : FieldType} (hr : meth.sig.returnType = some ty) (hlk : meth.locks = false) {v : Int32} (hn : narrow ty (.int v) = .int v) (hq : ∀ t : State, t.heap = H → s.WarmedH t.vm → QcM G A rv post w1 PH args s (.returned (some (.int v))) t) (hS : va_S A s.heap H locs) (hdg : decode cc pc = .ok (.ireturn, 1)) (hc : cells ≤ mc) (hs : slots ≤ ms) :
    W p l e R s m args below meth c H locs cells slots (MQ below (QcM G A rv post w1 PH) args s mc ms A) (F0 m pc ls [.int v]) := W.widen hc hs (W.zret hexec hb hr hn hq hS.2.2 hdg hlk)
theorem end_v (hexec : p.tables.exec = Jvm.exec) (hb : c.code = cc) (hr : meth.sig.returnType = none) (hlk : meth.locks = false) (hq : ∀ t : State, t.heap = H → s.WarmedH t.vm → QcM G A rv post w1 PH args s (.returned none) t) (hS : va_S A s.heap H locs) (hdg : decode cc pc = .ok (.return_, 1)) (hc : cells ≤ mc) (hs : slots ≤ ms) :
    W p l e R s m args below meth c H locs cells slots (MQ below (QcM G A rv post w1 PH) args s mc ms A) (F0 m pc ls []) := W.widen hc hs (W.vret hexec hb hr hq hS.2.2 hdg hlk)
theorem end_a (hexec : p.tables.exec = Jvm.exec) (hb : c.code = cc) {rt : FieldType} (hr : meth.sig.returnType = some rt) (hlk : meth.locks = false) (hrt : (∃ n, rt = .object n) ∨ ∃ t, rt = .array t) {v : Value} (hv : v = .null ∨ ∃ a, v = .ref a) (hq : ∀ t : State, t.heap = H → s.WarmedH t.vm → QcM G A rv post w1 PH args s (.returned (some v)) t) (hS : va_S A s.heap H locs) (hdg : decode cc pc = .ok (.areturn, 1)) (hc : cells ≤ mc) (hs : slots ≤ ms) :
    W p l e R s m args below meth c H locs cells slots (MQ below (QcM G A rv post w1 PH) args s mc ms A) (F0 m pc ls [v]) := W.widen hc hs (W.aret hexec hb hr hrt hv hq hS.2.2 hdg hlk)
theorem end_f (hexec : p.tables.exec = Jvm.exec) (hb : c.code = cc) (hr : meth.sig.returnType = some .float) (hlk : meth.locks = false) {v : UInt32} (hq : ∀ t : State, t.heap = H → s.WarmedH t.vm → QcM G A rv post w1 PH args s (.returned (some (.float v))) t) (hS : va_S A s.heap H locs) (hdg : decode cc pc = .ok (.freturn, 1)) (hc : cells ≤ mc) (hs : slots ≤ ms) :
    W p l e R s m args below meth c H locs cells slots (MQ below (QcM G A rv post w1 PH) args s mc ms A) (F0 m pc ls [.float v]) := W.widen hc hs (W.fret hexec hb hr hq hS.2.2 hdg hlk)
theorem end_d (hexec : p.tables.exec = Jvm.exec) (hb : c.code = cc) (hr : meth.sig.returnType = some .double) (hlk : meth.locks = false) {v : UInt64} (hq : ∀ t : State, t.heap = H → s.WarmedH t.vm → QcM G A rv post w1 PH args s (.returned (some (.double v))) t) (hS : va_S A s.heap H locs) (hdg : decode cc pc = .ok (.dreturn, 1)) (hc : cells ≤ mc) (hs : slots ≤ ms) :
    W p l e R s m args below meth c H locs cells slots (MQ below (QcM G A rv post w1 PH) args s mc ms A) (F0 m pc ls [.double v]) := W.widen hc hs (W.dret hexec hb hr hq hS.2.2 hdg hlk)
/-- not caught here: out it goes -/
theorem out_x {Qc : Array Value → State → Outcome → State → Prop} {ce : Cell} {q9 : Addr} (hout : ∀ (pc : Nat), ∀ x ∈ c.exceptionTable.toList, covers x pc = false) (hlk : meth.locks = false) (u : SX) {E : String} (hE : E = xn u) (hpx : px u) (hP : va_P G.1 CL (wx u) H) (hD : va_D A (wx u)) (hPX : PX u H) (hS : va_S A s.heap H locs) (h1 : H[q9]? = some ce) (h2 : ce.vm = .none) (h3 : s.vm.findClass E = some ce.cls) (hc : cells ≤ mc) (hs : slots ≤ ms) :
    vx_W p l e R s m args below meth c H locs cells slots (vx_MQ below Qc (XcM G A xn px wx PX) args s mc ms A) (F0 m pc ls rest) q9 :=
  vx_out (hout pc) hlk h1 h2 h3 (fun t ht _ => ⟨u, hpx, ⟨hE, by rw [ht]; exact hP, hD, by rw [ht]; exact hPX⟩, hS.F ht⟩) hS.2.2 hc hs
end BE
