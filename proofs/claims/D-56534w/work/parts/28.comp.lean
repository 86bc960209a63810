/-! ROWS for the component: throws, refs in arrays, worlds with a tail -/
set_option maxHeartbeats 4000000 in
theorem ok_ISE : thrOk "TrainingDiary" 9 "java/lang/IllegalStateException" 13 exN = true := by decide +kernel
set_option maxHeartbeats 4000000 in
theorem ok_IOB : thrOk "TrainingDiary" 14 "java/lang/IndexOutOfBoundsException" 18 exN = true := by decide +kernel
set_option maxHeartbeats 4000000 in
theorem ok_ARI : thrOk "TrainingDiary" 195 "java/lang/ArithmeticException" 199 exN = true := by decide +kernel
def eA : String := "java/lang/IllegalArgumentException"
def eS9 : String := "java/lang/IllegalStateException"
def eI : String := "java/lang/IndexOutOfBoundsException"
def eN : String := "java/util/NoSuchElementException"
def eR : String := "java/lang/ArithmeticException"
theorem r_throwS {p : Program} {l : Launch} {e : Env} {R : Room} {s : State} {m : MethodId} {args : Array Value} {below : List Frame} {meth : Method} {c : Code} {H : Heap} {locs : List Loc} {cells slots : Nat} {G : Gt} {cc : ByteArray} {pc : Nat} {ls : Array Slot} {rest : List Value} {A : Nat → Prop} {mc ms : Nat} {SX : Type} {Qc : Array Value → State → Outcome → State → Prop} {xn : SX → String} {px : SX → Prop} {wx : SX → va_W} {PX : SX → Heap → Prop}
    (hexec : p.tables.exec = Jvm.exec) (hb : c.code = cc) (hl : l.stackTraces = false) (hown : s.vm.findClass "TrainingDiary" = some m.cls) (hKB : KB G s) (hts : ∀ w ∈ lw_all, w.before args s = true) (hE : EV G A s s.heap) (hS : va_S A s.heap H locs) (hsize : c.maxLocals = ls.size) {ik ic is : Nat} {cls text : String} (hok : thrOk "TrainingDiary" ik cls ic exN = true) (hfit : Bundle.fit cls = true) (hstr : (is, text) ∈ strL)
    (d0 : decode cc pc = .ok (.new ik, 3)) (d3 : decode cc (pc + 3) = .ok (.dup, 1)) (d4 : decode cc (pc + 4) = .ok (.ldc is, 2)) (d6 : decode cc (pc + 6) = .ok (.invokespecial ic, 3)) (d9 : decode cc (pc + 9) = .ok (.athrow, 1))
    (hout : ∀ (pc : Nat), ∀ x ∈ c.exceptionTable.toList, covers x pc = false) (hRf : 5 < R.frames) (hRl : (rest.map fun v => v.category).sum + 82 ≤ R.locals) (hRc : cells + 1 ≤ R.cells) (hRs : slots + 6 ≤ R.slots) (hlk : meth.locks = false)
    (u : SX) (hxn : cls = xn u) (hpx : px u) (hP : va_P G.1 CL (wx u) H) (hD : va_D A (wx u)) (hPX : ∀ H1 : Heap, H.size ≤ H1.size → (∀ q : Nat, q < H.size → H1[q]? = H[q]?) → PX u H1) (hc : cells + 1 ≤ mc) (hs : slots + 6 ≤ ms) :
    W p l e R s m args below meth c H locs cells slots (vx_MQ below Qc (XcM G A xn px wx PX) args s mc ms A) (F0 m pc ls rest) := by
  have hat := thr_at hKB hts hok
  refine vx_throwS (own := "TrainingDiary") (cls := cls) (text := text) (names := exN) (ik := ik) (is := is) (ic := ic) (A := A) hexec hb hl hown hfit (by decide) (hat _ (List.mem_cons_self)).1 (hat _ (List.mem_cons_of_mem _ List.mem_cons_self)).1 (hKB.2.2.2.2.2.2.2 (is, text) hstr) (fun w hw => (hat w (List.mem_cons_of_mem _ (List.mem_cons_of_mem _ hw))).1) (fun w hw => (hat w hw).2) hE.1 hE.2.1 hS hsize.symm d0 d3 d4 d6 d9 (hout _) hRf hRl hRc hRs hlk ?_ hS.2.2 hc hs
  intro t _ hz hk
  refine ⟨u, hpx, ⟨hxn, hP.kept (fun k q hq => hk q.1 (hP k q hq).lt), hD, hPX _ hz hk⟩, ⟨Nat.le_trans hS.1 hz, fun q h1 h2 => (hk q (Nat.lt_of_lt_of_le h1 hS.1)).trans (hS.2.1 q h1 h2)⟩⟩

/-! NoSuchElementException("text"): its constructor hands on by a link of its own (13, not 7) -/
def atN (own : String) (ic : Nat) (X : String) (ix : Nat) (rx : ByteArray) (Y : String) (r : List String) : List Cond :=
  Bundle.throwableAtoms ++ Bundle.throwableSAtoms ++ (Bundle.passSAtoms X Y ix rx ++ Bundle.chainSAtoms Y r) ++
  [.methodLink own ic (Bundle.initS X), .instantiable X 6, .selects X Bundle.tFill0 Bundle.tFill0, .selects X Bundle.tFill Bundle.tFill,
   .lays X Bundle.tN "cause" "Ljava/lang/Throwable;", .lays X Bundle.tN "stackTrace" Bundle.steD, .lays X Bundle.tN "suppressedExceptions" Bundle.listD, .lays X Bundle.tN "detailMessage" "Ljava/lang/String;",
   .isRef (.static Bundle.tN "UNASSIGNED_STACK" Bundle.steD), .isRef (.static Bundle.tN "SUPPRESSED_SENTINEL" Bundle.listD),
   .fieldLink Bundle.tN 198 Bundle.tN "backtrace" "Ljava/lang/Object;", .lays Bundle.tN Bundle.tN "backtrace" "Ljava/lang/Object;", .lays X Bundle.tN "backtrace" "Ljava/lang/Object;"]
set_option maxHeartbeats 2000000 in
theorem ctorNS {p : Program} {l : Launch} {e : Env} {R : Room} {s : State} {m₀ : MethodId} {args : Array Value} {below : List Frame} {meth : Method} {c : Code} {W : State} {locs : List Loc} {cells slots : Nat}
    (X : Stand p l e R s m₀ args below meth c W locs cells slots) (hexec : p.tables.exec = Jvm.exec) (htr : e.platform.stackTraces = false) {own cls Y : String} {r : List String} {ic ix : Nat} {rx : ByteArray}
    (x0 : decode rx 0 = .ok (.aload_n 0, 1)) (x1 : decode rx 1 = .ok (.aload_n 1, 1)) (x2 : decode rx 2 = .ok (.invokespecial ix, 3)) (x5 : decode rx 5 = .ok (.return_, 1))
    (hown : s.vm.findClass own = some m₀.cls) (hcls : Bundle.fit cls = true) (hY : Bundle.fit Y = true) (hr : ∀ n ∈ r, Bundle.fit n = true) (h : ∀ a ∈ atN own ic cls ix rx Y r, a.before args s = true)
    (hlocs : ∀ x ∈ locs, ∀ cell, s.heap[x.base]? = some cell → cell.vm.isStatics = false)
    {a : Addr} {cX : ClassId} {kX : Class} (hfX : s.vm.findClass cls = some cX) (hkX : s.vm.classes[cX]? = some kX) (hcell : W.heap[a]? = some (freshCell cX kX)) (hnew : s.heap.size ≤ a)
    {msg : Value} (hmsg : msg.isRef = true) {g : JFrame} (hg : g.method = m₀) (hsize : g.locals.size = c.maxLocals) (hlocked : g.locked = none) (hent : g.entered = []) {rest : List Value} (hst : g.stack = msg :: .ref a :: .ref a :: rest)
    (hd6 : decode c.code g.pc = .ok (.invokespecial ic, 3)) (hd9 : decode c.code (g.pc + 3) = .ok (.athrow, 1)) (hout : ∀ x ∈ c.exceptionTable.toList, covers x (g.pc + 3) = false)
    (hRf : r.length + 4 < R.frames) (hRl : 2 * g.monitorRoom + ((Value.ref a :: rest).map fun v => v.category).sum + (13 * (r.length + 2) + 42) ≤ R.locals) (hlk : meth.locks = false) :
    ∃ U : State, Steps p.tables e below (W.setTop g) U ∧ U.status = .running ∧ Ended U below (.threw a) ∧ s.WarmedH U.vm ∧ s.sameButNew ({ U with vm := s.vm } : State) locs cells slots ∧
      ∃ ce : Cell, U.heap[a]? = some ce ∧ ce.vm = .none ∧ s.vm.findClass cls = some ce.cls := by
  have howns : e.platform.frameOwnsMonitors = true := by rw [X.admits.platform]
  have hfin : e.platform.finalization = false := by rw [X.admits.platform]
  have hpl : e.platform.magicAccessors = ({} : Platform).magicAccessors := by rw [X.admits.platform]
  have w : ∀ x, x ∈ atN own ic cls ix rx Y r → x.holds args s none s [] = true := fun x hx => h x hx
  obtain ⟨T, Z0, L, -, Y9⟩ := ThrowableC.of_atoms (args := args) howns hfin hpl (fun x hx => h x (by simp [atN, hx]))
  obtain ⟨Z, M, LZ, LM, hnZ⟩ := Init0T.ofS_atoms (args := args) hpl L Y9 (fun x hx => h x (by simp [atN, hx]))
  obtain ⟨P2, Ps, hlen, L2, hL, hP2m, hl1, hl2⟩ := Bundle.chainS (args := args) hpl hnZ r Y hY hr (fun x hx => h x (by simp [atN, hx]))
  obtain ⟨P1, L1, hP1m, hP1s⟩ := PassC.ofS_atoms (args := args) (s := s) hpl (X := cls) (Y := Y) (Bundle.fit_spec hcls).1 (Bundle.fit_spec hY).2 x0 x1 x2 x5 (fun x hx => h x (by simp [atN, hx]))
  have hlink1 : P1.sup = P2.m := Option.some.inj (hP1s.symm.trans hP2m)
  have hfound : s.vm.findClass cls = some P1.m.cls := findClass_of_methodNamed hP1m
  cases Option.some.inj (hfX.symm.trans hfound)
  obtain ⟨c1, kX', hc1, hk, hord, -, -, hn6⟩ := Cond.instantiable_spec (w (.instantiable cls 6) (by simp [atN]))
  cases Option.some.inj (hc1.symm.trans hfound)
  cases Option.some.inj (hkX.symm.trans hk)
  have sel : ∀ {y : MethodName} {m : MethodId}, (Cond.selects cls y y).holds args s none s [] = true → s.methodNamed? y = some m → s.methodFound? y.cls y.name y.desc = some m → selectMethod e.platform s.vm P1.m.cls m = .method m := by
    intro y m hw hn hf
    obtain ⟨c2, r2, m2, q1, q2, q3, q4, -⟩ := Cond.selects_spec hw
    cases Option.some.inj (q1.symm.trans hfound)
    cases Option.some.inj (q2.symm.trans hf)
    cases Option.some.inj (q3.symm.trans hn)
    rw [Launch.admits_selectMethod X.admits]; exact q4
  have hsel0 := sel (w (.selects cls Bundle.tFill0 Bundle.tFill0) (by simp [atN])) Y9.fill0 (State.methodFound?_of_named Y9.fill0 (by decide))
  have hselF := sel (w (.selects cls Bundle.tFill Bundle.tFill) (by simp [atN])) Y9.fill (State.methodFound?_of_named Y9.fill (by decide))
  obtain ⟨cellS0, hcS0, hiss⟩ := Y9.statics
  obtain ⟨u0, hu0⟩ := Cond.staticRefV Y9.unassigned L.unassignedStatic L.statics hcS0 hiss (w (.isRef (.static Bundle.tN "UNASSIGNED_STACK" Bundle.steD)) (by simp [atN]))
  obtain ⟨sen, hsen⟩ := Cond.staticRefV Y9.sentinel L.sentinelStatic L.statics hcS0 hiss (w (.isRef (.static Bundle.tN "SUPPRESSED_SENTINEL" Bundle.listD)) (by simp [atN]))
  obtain ⟨ci198, i198, fB, hk198, hg198, ha198, hsB, -, hnB, htB, hffB⟩ := Cond.ownField (t := .object "java/lang/Object") Y9.found L.cls (by decide +kernel) (w (.fieldLink Bundle.tN 198 Bundle.tN "backtrace" "Ljava/lang/Object;") (by simp [atN])) (w (.lays Bundle.tN Bundle.tN "backtrace" "Ljava/lang/Object;") (by simp [atN])) e.platform hpl
  obtain ⟨cellS, hcellS, heS, -, hkeep⟩ := X.same.2.2.2.2.2 T.aS cellS0 hcS0
  have hout' : ∀ i, (⟨T.aS, i⟩ : Loc) ∉ locs := fun i hmem => by
    have := hlocs _ hmem cellS0 hcS0
    rw [hiss] at this; cases this
  have hknownS : cellS.vm ≠ .unknown := by
    rw [heS]; intro hu
    rw [show cellS0.vm = .unknown from hu] at hiss
    cases hiss
  have hneS : T.aS ≠ a := Nat.ne_of_lt (Nat.lt_of_lt_of_le (Array.getElem?_eq_some_iff.mp hcS0).1 hnew)
  obtain ⟨iM, hffM⟩ := Y9.msg
  obtain ⟨tyC, dC, hdC, hdnC⟩ := Cond.laysAt hfound hk Y9.cause (w (.lays cls Bundle.tN "cause" "Ljava/lang/Throwable;") (by simp [atN]))
  obtain ⟨tyS, dS, hdS, hdnS⟩ := Cond.laysAt hfound hk Y9.stack (w (.lays cls Bundle.tN "stackTrace" Bundle.steD) (by simp [atN]))
  obtain ⟨tyP, dP, hdP, hdnP⟩ := Cond.laysAt hfound hk Y9.supp (w (.lays cls Bundle.tN "suppressedExceptions" Bundle.listD) (by simp [atN]))
  obtain ⟨tyM, dM, hdM, hdnM⟩ := Cond.laysAt hfound hk hffM (w (.lays cls Bundle.tN "detailMessage" "Ljava/lang/String;") (by simp [atN]))
  obtain ⟨tyB, dB, hdB, hdnB⟩ := Cond.laysAt hfound hk hffB (w (.lays cls Bundle.tN "backtrace" "Ljava/lang/Object;") (by simp [atN]))
  have bC := Cond.laysApart hdB hdC hdnB hdnC (by rw [hnB, Y9.causeName]; decide)
  have bS := Cond.laysApart hdB hdS hdnB hdnS (by rw [hnB, Y9.stackName]; decide)
  have bP := Cond.laysApart hdB hdP hdnB hdnP (by rw [hnB, Y9.suppName]; decide)
  have hskip : SkipFacts T e.platform s (fun u => u) u0 ((preparedCellV T.toThrowableT (freshCell P1.m.cls kX) a u0 sen).withEntry W.cur) :=
    ⟨{ ci198 := ci198, i198 := i198, fBack := fB }, ⟨hk198, hg198, ha198, hsB⟩, by
      have := fresh_default (c := P1.m.cls) tyB
      rw [htB] at this
      simpa [preparedCellV, Cell.setSlot, Cell.withEntry, Array.getElem?_setIfInBounds, bC, bS, bP, bC.symm, bS.symm, bP.symm, defaultValue] using this, fun _ _ => rfl⟩
  obtain ⟨tm, methC, cdC, kC, vm₁, hnC, -, -, -, -, -, -, -, hW₁, st1⟩ := Steps.initColdS (tb := p.tables) (e := e) (below := below) (s := s) (U := W) X.here hexec X.warmed hpl hown (t := Bundle.initS cls) rfl rfl (Bundle.fit_spec hcls).2
    (w (.methodLink own ic (Bundle.initS cls)) (by simp [atN])) (h (.instanceMethod (Bundle.initS cls)) (by simp [atN, Bundle.passSAtoms])) (bytes := rx) (maxL := 2) (h (.code (Bundle.initS cls) rx 2 none) (by simp [atN, Bundle.passSAtoms]))
    (f := g) hg (a := a) (msg := msg) (rest := .ref a :: rest) hst hd6
  cases Option.some.inj (hnC.symm.trans hP1m)
  have X₁ := X.noted hW₁
  obtain ⟨vm₂, X₂, st2⟩ := X₁.ctorMessageOffV hexec (g := { g with stack := .ref a :: rest }) hg hsize T L Z LZ M LM (P1 :: P2 :: Ps)
    (fun P hP => by
      rcases List.mem_cons.mp hP with rfl | hP
      · exact L1
      · rcases List.mem_cons.mp hP with rfl | hP
        · exact L2
        · exact hL P hP) ⟨hlink1, hl1, hl2⟩ (u0 := u0) (sen := sen) (self := a) hmsg (cell := freshCell P1.m.cls kX) (cellS := cellS)
    hcell (fun _ => by simp) (by simp) rfl rfl hsel0 hselF hcellS hneS hknownS (by rw [hkeep _ (hout' _)]; exact hu0) (by rw [hkeep _ (hout' _)]; exact hsen)
    (Takes.of_laid hk hord tyC (by rw [Y9.causeType]; rfl)) (Takes.of_laid hk hord tyS (by rw [Y9.stackType]; exact fits_refV_array _ u0)) (Takes.of_laid hk hord tyP (by rw [Y9.suppType]; exact fits_refV_object _ sen))
    (Takes.of_laid hk hord tyM (by rw [Y9.msgType]; exact fits_refV_object _ ⟨msg, hmsg⟩)) Y9.objLocals hskip htr [] hd6
    (by simp only [List.length_cons, hlen]; omega) (by simp only [List.length_cons, hlen]; exact hRl)
  obtain ⟨hwalk, hrun, hended, hWU, hsame⟩ := X₂.athrowLeaves hexec (g := { g with stack := .ref a :: rest, pc := g.pc + 3 }) hg hlocked hent hout (a := a) (rest := rest) rfl hd9
  have hlt : a < ((W.setVm vm₁).setVm vm₂).heap.size := (Array.getElem?_eq_some_iff.mp hcell).1
  have hU := heapAt_setCell_self (s := (W.setVm vm₁).setVm vm₂) (plainBareV T.toThrowableT (freshCell P1.m.cls kX) a u0 sen msg) hlt
  refine ⟨_, st1 _ (fun acts => ?_), hrun, hended, hWU, hsame.weaken (fun y hy hlt' => ?_) (Nat.le_refl _) (Nat.le_refl _), _, hU, rfl, hfound⟩
  · rw [doInvoke_state]
    exact st2 _ hwalk
  · rcases List.mem_append.mp hy with h1 | h1
    · exact h1
    · exfalso
      have hb : y.base = a := by
        simp only [List.mem_cons, List.not_mem_nil, or_false] at h1
        rcases h1 with rfl | rfl | rfl | rfl | rfl <;> rfl
      rw [hb] at hlt'
      exact Nat.not_lt.mpr hnew hlt'
def thrOkN (own : String) (ik : Nat) (cls : String) (ic ix : Nat) (rx : ByteArray) (Y : String) (r : List String) : Bool := (Cond.classLink own ik cls :: Cond.initialized cls :: (atN own ic cls ix rx Y r).filter vx_no).all (fun w => lw_tbl.elem w && (goodWord w || (nestW w && w.onTables)) && vx_ot w)
set_option maxHeartbeats 4000000 in
theorem ok_NSE : thrOkN "TrainingDiary" 19 "java/util/NoSuchElementException" 23 13 cJ11_init "java/lang/RuntimeException" ["java/lang/Exception"] = true := by decide +kernel
theorem tbl_at {G : Gt} {s : State} {args : Array Value} (hKB : KB G s) (hts : ∀ w ∈ lw_all, w.before args s = true) {L : List Cond} (h : L.all (fun w => lw_tbl.elem w && (goodWord w || (nestW w && w.onTables)) && vx_ot w) = true) : ∀ w ∈ L, w.before args s = true ∧ vx_ot w = true := by
  intro w hw
  have h1 := List.all_eq_true.mp h w hw
  simp only [Bool.and_eq_true, Bool.or_eq_true] at h1
  obtain ⟨⟨h2, h3⟩, h4⟩ := h1
  have h5 : w ∈ lw_tbl := List.elem_iff.mp h2
  refine ⟨?_, h4⟩
  rcases h3 with h3 | h3
  · exact hts w (List.mem_filter.mpr ⟨h5, h3⟩)
  · exact va_Nw.use h3.2 (hKB.nest h5 h3.1)
set_option maxHeartbeats 2000000 in
theorem r_throwN {p : Program} {l : Launch} {e : Env} {R : Room} {s : State} {m : MethodId} {args : Array Value} {below : List Frame} {meth : Method} {c : Code} {H : Heap} {locs : List Loc} {cells slots : Nat} {G : Gt} {cc : ByteArray} {pc : Nat} {ls : Array Slot} {rest : List Value} {A : Nat → Prop} {mc ms : Nat} {SX : Type} {Qc : Array Value → State → Outcome → State → Prop} {xn : SX → String} {px : SX → Prop} {wx : SX → va_W} {PX : SX → Heap → Prop}
    (hexec : p.tables.exec = Jvm.exec) (hb : c.code = cc) (hl : l.stackTraces = false) (hown : s.vm.findClass "TrainingDiary" = some m.cls) (hKB : KB G s) (hts : ∀ w ∈ lw_all, w.before args s = true) (hE : EV G A s s.heap) (hS : va_S A s.heap H locs) (hsize : c.maxLocals = ls.size)
    (d0 : decode cc pc = .ok (.new 19, 3)) (d3 : decode cc (pc + 3) = .ok (.dup, 1)) (d4 : decode cc (pc + 4) = .ok (.ldc 21, 2)) (d6 : decode cc (pc + 6) = .ok (.invokespecial 23, 3)) (d9 : decode cc (pc + 9) = .ok (.athrow, 1))
    (hout : ∀ (pc : Nat), ∀ x ∈ c.exceptionTable.toList, covers x pc = false) (hRf : 5 < R.frames) (hRl : (rest.map fun v => v.category).sum + 82 ≤ R.locals) (hRc : cells + 1 ≤ R.cells) (hRs : slots + 6 ≤ R.slots) (hlk : meth.locks = false)
    (u : SX) (hxn : "java/util/NoSuchElementException" = xn u) (hpx : px u) (hP : va_P G.1 CL (wx u) H) (hD : va_D A (wx u)) (hPX : ∀ H1 : Heap, H.size ≤ H1.size → (∀ q : Nat, q < H.size → H1[q]? = H[q]?) → PX u H1) (hc : cells + 1 ≤ mc) (hs : slots + 6 ≤ ms) :
    W p l e R s m args below meth c H locs cells slots (vx_MQ below Qc (XcM G A xn px wx PX) args s mc ms A) (F0 m pc ls rest) := by
  have hat9 := tbl_at (args := args) hKB hts ok_NSE
  have hk : (Cond.classLink "TrainingDiary" 19 "java/util/NoSuchElementException").before args s = true := (hat9 _ List.mem_cons_self).1
  have hini : (Cond.initialized "java/util/NoSuchElementException").before args s = true := (hat9 _ (List.mem_cons_of_mem _ List.mem_cons_self)).1
  have hstr : vk_R "TrainingDiary" 21 "there is none" (G.2 121) s := hKB.2.2.2.2.2.2.2 (21, "there is none") (by decide)
  intro T hT X
  have htr : e.platform.stackTraces = false := (show e.platform.stackTraces = l.stackTraces by rw [X.admits.platform]).trans hl
  have Y := vx_rebase X (R' := { frames := R.frames, locals := R.locals, cells := 1, slots := 6 }) (Nat.le_refl _) (Nat.le_refl _) hRc hRs
  obtain ⟨s', hA⟩ : ∃ z, z = (T.setVm s.vm).setFrames (.invoking m args :: below) := ⟨_, rfl⟩
  rw [← hA] at Y
  have hvm : s'.vm = s.vm := by rw [hA]; rfl
  have hhp : s'.heap = H := by rw [hA]; exact hT
  have hW0 : s.WarmedH s'.vm := by rw [hvm]; exact State.WarmedH.refl s
  have up : ∀ {w : Cond}, vx_ot w = true → w.before args s = true → w.before args s' = true := fun hg hw => vx_ot_at hW0 hvm.symm hg hw
  have hk' := up (hat9 _ List.mem_cons_self).2 hk
  have hini' := up (hat9 _ (List.mem_cons_of_mem _ List.mem_cons_self)).2 hini
  have hU' : vx_Zq Bundle.tN "UNASSIGNED_STACK" Bundle.steD A s' s'.heap := by rw [hhp]; exact vx_Zq.moved hW0.alike (hE.1.kept hS.2.1)
  have hN' : vx_Zq Bundle.tN "SUPPRESSED_SENTINEL" Bundle.listD A s' s'.heap := by rw [hhp]; exact vx_Zq.moved hW0.alike (hE.2.1.kept hS.2.1)
  have h : ∀ w ∈ atN "TrainingDiary" 23 "java/util/NoSuchElementException" 13 cJ11_init "java/lang/RuntimeException" ["java/lang/Exception"], w.before args s' = true := vx_own (fun w hw => up (hat9 w (List.mem_cons_of_mem _ (List.mem_cons_of_mem _ hw))).2 (hat9 w (List.mem_cons_of_mem _ (List.mem_cons_of_mem _ hw))).1) (vx_isRefq hU'.1) (vx_isRefq hN'.1) hU'.2.word hN'.2.word
  have hown' : s'.vm.findClass "TrainingDiary" = some m.cls := by rw [hvm]; exact hown
  have hins : (Cond.instantiable "java/util/NoSuchElementException" 6).before args s' = true := h _ (by simp [atN])
  obtain ⟨vm₁, cX, kX, hfX, hkX, -, -, X₁, st1⟩ := Y.newCold hexec (own := "TrainingDiary") (C := "java/util/NoSuchElementException") (index := 19) (n := 6) hown' hk' hins hini'
    (g := F0 m pc ls rest) rfl (by rw [hb]; exact d0) (Nat.le_refl _) (Nat.le_refl _)
  generalize hT1 : (T.setVm vm₁).pushCell { cls := cX, slots := kX.instanceTypes.map defaultValue, vm := .none } = T1 at X₁ st1
  have hcat : (Value.ref T.heap.size).category = 1 := rfl
  have hcellA : T1.heap[T.heap.size]? = some (freshCell cX kX) := by rw [← hT1]; exact State.heap_pushCell_size _ _
  have d3' : decode c.code (pc + 3) = .ok (.dup, 1) := by rw [hb]; exact d3
  have d4' : decode c.code (pc + 4) = .ok (.ldc 21, 2) := by rw [hb]; exact d4
  have hstr' : vk_R "TrainingDiary" 21 "there is none" (G.2 121) s' := vk_R.warm hW0 hstr
  obtain ⟨U, hsteps, hrun, hend, hW, hsame, ce, hce, hO, hcl0⟩ := ctorNS X₁ hexec htr dJ11_init_0 dJ11_init_1 dJ11_init_2 dJ11_init_5 hown' (by decide) (by decide) (by decide) h (fun x hx => nomatch hx) hfX hkX hcellA (by rw [hhp, hT]; exact Nat.le_refl _) (msg := .ref (G.2 121)) rfl
    (g := { method := m, pc := pc + 6, locals := ls, stack := .ref (G.2 121) :: .ref T.heap.size :: .ref T.heap.size :: rest, locked := none }) rfl hsize.symm rfl rfl (rest := rest) rfl
    (by rw [hb]; exact d6) (by rw [hb]; exact d9) (hout _) hRf (by simp only [List.map_cons, List.sum_cons, hcat, List.length_cons, List.length_nil]; show 2 * 0 + _ + _ ≤ _; omega) hlk
  obtain ⟨f1, f2⟩ := vx_frame hsame
  rw [hhp] at f1 f2
  have hWs : s.WarmedH U.vm := State.WarmedH.trans hW0 hW
  have hcl : s.vm.findClass "java/util/NoSuchElementException" = some ce.cls := by
    have h9 := hcl0
    rw [hvm] at h9
    exact h9
  have hall : s.sameButNew ({ U with vm := s.vm } : State) locs mc ms := by
    subst hA
    obtain ⟨e1, e2⟩ := hsame
    rw [State.setFrames_setFrames] at e1
    have h2 : (T.setVm s.vm).sameButNew ({ U with vm := s.vm } : State) [] (0 + 1) (0 + 6) := ⟨e1, e2⟩
    have h3 := X.same.trans h2
    rw [List.append_nil] at h3
    exact h3.mono hc hs
  have hz : ∀ q : Nat, q < H.size → U.heap[q]? = H[q]? := fun q hq => f2 q hq (fun z hz => nomatch hz)
  have hXC : XcM G A xn px wx PX "java/util/NoSuchElementException" s U := ⟨u, hpx, ⟨hxn, hP.kept (fun k q hq => hz q.1 (hP k q hq).lt), hD, hPX _ f1 hz⟩, ⟨Nat.le_trans hS.1 f1, fun q h1 h2 => (hz q (Nat.lt_of_lt_of_le h1 hS.1)).trans (hS.2.1 q h1 h2)⟩⟩
  refine ⟨U, ?_, .threw T.heap.size, hrun, hend, Or.inr ⟨T.heap.size, rfl, _, ce, locs, hXC, hce, hO, hcl, hWs, hall, hS.2.2⟩⟩
  refine st1 _ ?_
  show Steps p.tables e below (T1.setTop { method := m, pc := pc + 3, locals := ls, stack := .ref T.heap.size :: rest, locked := none }) _
  jvm_step X₁.here [X₁.here.top, hexec, d3', Value.category]
  exact X₁.ldcString hexec (own := "TrainingDiary") (text := "there is none") (index := 21) (a := G.2 121) hown' hstr'.1 hstr'.2
    (g := { method := m, pc := pc + 4, locals := ls, stack := .ref T.heap.size :: .ref T.heap.size :: rest, locked := none }) rfl d4' _ hsteps
/-! references in arrays, copies from what is read alone -/
theorem cl_cast : CL.all (fun r => lw_tbl.elem (Cond.castable r.1 "java/lang/Object")) = true := by decide +kernel
theorem any_of {G : Gt} {s : State} {H : Heap} {W : va_W} {y ci : Nat} {vs : List Value} (hKB : KB G s) (hP : va_P G.1 CL W H) (hm : (y, Sum.inr (ci, vs)) ∈ W) : va_Any "java/lang/Object" s H y := by
  obtain ⟨k, hk⟩ := List.getElem?_of_mem hm
  obtain ⟨r, hr, -⟩ := hP k _ hk
  refine va_rAny hKB.1 hP hk hr (fun comp c0 h1 h2 => ?_)
  have hw : Cond.castable r.1 "java/lang/Object" ∈ lw_tbl := List.elem_iff.mp (List.all_eq_true.mp cl_cast r (List.mem_of_getElem? hr))
  obtain ⟨c1, t0, f1, f2, f3⟩ := Cond.castable_spec (va_Nw.use (A := #[]) rfl (hKB.nest hw rfl))
  cases h2.symm.trans f1
  cases h1.symm.trans f2
  exact f3
theorem recvM {G : Gt} {s : State} {H : Heap} {W : va_W} {y ci : Nat} {vs : List Value} {r : vw_C} (hKB : KB G s) (hP : va_P G.1 CL W H) (hm : (y, Sum.inr (ci, vs)) ∈ W) (hc : CL[ci]? = some r) : ∃ cell : Cell, H[y]? = some cell ∧ cell.vm.isStatics = false ∧ s.vm.findClass r.1 = some cell.cls := by
  obtain ⟨k, hk⟩ := List.getElem?_of_mem hm
  exact va_recv hKB.1 hP hc hk
theorem roW.mem {G : Gt} {A : Nat → Prop} {H : Heap} {W : va_W} {q : Nat × va_E} (h : roW G A H W) (hm : q ∈ W) : roW G A H [q] := by
  obtain ⟨k, hk⟩ := List.getElem?_of_mem hm
  exact h.sub [k] (by simp [hk])
section RC
variable {p : Program} {l : Launch} {e : Env} {R : Room} {s : State} {m : MethodId} {args : Array Value} {below : List Frame} {meth : Method} {c : Code} {H : Heap} {locs : List Loc} {cells slots : Nat} {Q : State → Prop}
variable {G : Gt} {cc : ByteArray} {pc : Nat} {ls : Array Slot} {rest : List Value} {A : Nat → Prop} {ws wr : va_W} {H0 : Heap}
theorem vin {i n : Nat} (h : i < n) (hn : n < 2 ^ 31) : vp_in (nI i) n := vp_in_nI h hn
theorem r_astO {a v : Nat} (hexec : p.tables.exec = Jvm.exec) (hb : c.code = cc) (hKB : KB G s) (hP : va_P G.1 CL ws H) (hD : va_D A ws) (hS : va_S A H0 H locs) (q0 : Nat) {n i : Nat} {f : Nat → Option Nat} (ha : ws[q0]? = some (a, .inl (G.2 3, n, .inr (.inr (.inr (.inr f)))))) (hr : va_Any "java/lang/Object" s H v) (hi : i < n) (hn : n < 2 ^ 31) (hdg : decode cc pc = .ok (.aastore, 1))
    (kk : ∀ (H1 : Heap) (locs1 : List Loc), va_P G.1 CL (ws.set q0 (a, .inl (G.2 3, n, .inr (.inr (.inr (.inr (va_up f i (some v)))))))) H1 → va_D A (ws.set q0 (a, .inl (G.2 3, n, .inr (.inr (.inr (.inr (va_up f i (some v)))))))) → va_S A H0 H1 locs1 → W p l e R s m args below meth c H1 locs1 cells slots Q (F0 m (pc + 1) ls rest)) : W p l e R s m args below meth c H locs cells slots Q (F0 m pc ls (.ref v :: .int (nI i) :: .ref a :: rest)) := by
  refine va_astqM hexec hb hKB.1 hP hD hS q0 3 ha rfl hr (vin hi hn) hdg ?_
  rw [nI_clamp (by omega)]
  exact kk
theorem r_astN {a : Nat} (hexec : p.tables.exec = Jvm.exec) (hb : c.code = cc) (hKB : KB G s) (hP : va_P G.1 CL ws H) (hD : va_D A ws) (hS : va_S A H0 H locs) (q0 : Nat) {n i : Nat} {f : Nat → Option Nat} (ha : ws[q0]? = some (a, .inl (G.2 3, n, .inr (.inr (.inr (.inr f)))))) (hi : i < n) (hn : n < 2 ^ 31) (hdg : decode cc pc = .ok (.aastore, 1))
    (kk : ∀ (H1 : Heap) (locs1 : List Loc), va_P G.1 CL (ws.set q0 (a, .inl (G.2 3, n, .inr (.inr (.inr (.inr (va_up f i none))))))) H1 → va_D A (ws.set q0 (a, .inl (G.2 3, n, .inr (.inr (.inr (.inr (va_up f i none))))))) → va_S A H0 H1 locs1 → W p l e R s m args below meth c H1 locs1 cells slots Q (F0 m (pc + 1) ls rest)) : W p l e R s m args below meth c H locs cells slots Q (F0 m pc ls (.null :: .int (nI i) :: .ref a :: rest)) := by
  refine va_astqN hexec hb hKB.1 hP hD hS q0 3 ha rfl (vin hi hn) hdg ?_
  rw [nI_clamp (by omega)]
  exact kk
theorem nlt0 {n : Nat} (h : n < 2 ^ 31) : ¬ nI n < 0 := nI_pos h
/-- System.arraycopy of references; the source may be read alone -/
theorem r_copyO {a a0 : Nat} (hexec : p.tables.exec = Jvm.exec) (hb : c.code = cc) (hml : c.maxLocals = ls.size) {own : String} {index : Nat} (hown : s.vm.findClass own = some m.cls) (hlink : (Cond.methodLink own index arraycopyName).before args s = true) (hnat : (Cond.native arraycopyName).before args s = true) (hstat : (Cond.static arraycopyName).before args s = true) (hini : (Cond.initialized "java/lang/System").before args s = true)
    (hKB : KB G s) (hR : va_P G.1 CL wr H) (q0 : Nat) (hP : va_P G.1 CL ws H) (hD : va_D A ws) (hS : va_S A H0 H locs) (q1 : Nat) {n0 n1 sp dp n : Nat} {f g : Nat → Option Nat} (ha0 : wr[q0]? = some (a0, .inl (G.2 3, n0, .inr (.inr (.inr (.inr f)))))) (ha1 : ws[q1]? = some (a, .inl (G.2 3, n1, .inr (.inr (.inr (.inr g))))))
    (h4 : sp + n ≤ n0) (h5 : dp + n ≤ n1) (h6 : n0 < 2 ^ 31) (h7 : n1 < 2 ^ 31) (hel : ∀ i : Nat, i < n → ∀ y : Nat, f (sp + i) = some y → va_Any "java/lang/Object" s H y)
    (hframes : 1 ≤ R.frames) (hlocals : (rest.map fun v => v.category).sum + (nativeFrameWords "java/lang/System" "arraycopy" 5 + 11) ≤ R.locals) (hdg : decode cc pc = .ok (.invokestatic index, 3))
    (kk : ∀ (H1 : Heap) (locs1 : List Loc), va_P G.1 CL (ws.set q1 (a, .inl (G.2 3, n1, .inr (.inr (.inr (.inr (va_cpy f g sp dp n))))))) H1 → va_D A (ws.set q1 (a, .inl (G.2 3, n1, .inr (.inr (.inr (.inr (va_cpy f g sp dp n))))))) → va_S A H0 H1 locs1 → W p l e R s m args below meth c H1 locs1 cells slots Q (F0 m (pc + 3) ls rest)) : W p l e R s m args below meth c H locs cells slots Q (F0 m pc ls (.int (nI n) :: .int (nI dp) :: .ref a :: .int (nI sp) :: .ref a0 :: rest)) := by
  intro T hT X
  have es : (nI sp).toNatClampNeg = sp := nI_clamp (by omega)
  have ed : (nI dp).toNatClampNeg = dp := nI_clamp (by omega)
  have en : (nI n).toNatClampNeg = n := nI_clamp (by omega)
  have is : (nI sp).toInt = (sp : Int) := nI_toInt (by omega)
  have id9 : (nI dp).toInt = (dp : Int) := nI_toInt (by omega)
  have in9 : (nI n).toInt = (n : Int) := nI_toInt (by omega)
  have hc0 : H[a0]? = some (vp_cell (G.2 3) (n0, .inr (.inr (.inr (.inr f))))) := hR q0 _ ha0
  have hc1 : H[a]? = some (vp_cell (G.2 3) (n1, .inr (.inr (.inr (.inr g))))) := hP q1 _ ha1
  obtain ⟨-, k1, hk1, cm1, hkk1⟩ := (hKB.1.2 3 (G.2 3, .object "java/lang/Object") rfl).1 n1 (fun j => va_rf (g j))
  obtain ⟨vm', X', step⟩ := X.arraycopy hexec hown hlink hnat hstat hini (src := a0) (dst := a) (cs := vp_cell (G.2 3) (n0, .inr (.inr (.inr (.inr f))))) (cd := vp_cell (G.2 3) (n1, .inr (.inr (.inr (.inr g))))) (srcPos := nI sp) (destPos := nI dp) (n := nI n) (by rw [hT]; exact hc0) (by rw [hT]; exact hc1)
    (fun _ h => by cases h) (fun _ h => by cases h) (fun h => by cases h) (fun h => by cases h) hk1 hk1 hkk1 hkk1 rfl (nlt0 (by omega)) (nlt0 (by omega)) (nlt0 (by omega))
    (by rw [is, in9]; show ¬ _ > ((arrV (G.2 3) n0 (fun j => va_rf (f j))).slots.size : Int); rw [arrV_size]; omega)
    (by rw [id9, in9]; show ¬ _ > ((arrV (G.2 3) n1 (fun j => va_rf (g j))).slots.size : Int); rw [arrV_size]; omega)
    (fun vm₁ hal i hi => by
      rw [en] at hi
      have e : (vp_cell (G.2 3) (n0, .inr (.inr (.inr (.inr f))))).slots.getD ((nI sp).toNatClampNeg + i) .null = va_rf (f (sp + i)) := by
        rw [es]
        show (arrV (G.2 3) n0 (fun j => va_rf (f j))).slots.getD _ _ = _
        rw [Array.getD_eq_getD_getElem?, arrV_read _ _ (by omega)]
        rfl
      rw [e]
      cases hy : f (sp + i) with
      | none => exact ⟨rfl, trivial⟩
      | some y =>
        obtain ⟨cellV, g1, g2, ⟨kC, hkC⟩, hasg⟩ := hel i hi y hy
        obtain ⟨kA, comp, r1, r2, r3, -⟩ := (hKB.1.2 3 (G.2 3, .object "java/lang/Object") rfl).2
        cases hk1.symm.trans r1
        cases hkk1.symm.trans r2
        obtain ⟨kE, hkE, -⟩ := Vm.findClass_spec r3
        obtain ⟨kC', hkC', -⟩ := hal.2.2 _ _ hkC
        obtain ⟨kE', hkE', -⟩ := hal.2.2 _ _ hkE
        refine ⟨rfl, cellV, (show T.heap[y]? = some cellV by rw [hT]; exact g1), (fun q h => by rw [h] at g2; cases g2), ⟨kC', hkC'⟩, ⟨kE', hkE'⟩, ?_⟩
        show vm₁.assignable _ _ = true
        rw [hal.assignable]
        exact hasg _ r3)
    (g := F0 m pc ls (.int (nI n) :: .int (nI dp) :: .ref a :: .int (nI sp) :: .ref a0 :: rest)) rfl (by rw [hml]) (rest := rest) rfl (by rw [hb]; exact hdg) hframes (by show 2 * 0 + _ + _ ≤ _; omega)
  have e1 : copied (vp_cell (G.2 3) (n0, .inr (.inr (.inr (.inr f))))) (vp_cell (G.2 3) (n1, .inr (.inr (.inr (.inr g))))) (nI sp) (nI dp) (nI n) = vp_cell (G.2 3) (n1, .inr (.inr (.inr (.inr (va_cpy f g sp dp n))))) := by
    rw [vp_cell_q, vp_cell_q, vp_cell_q]
    have h9 := va_copied (fun z => va_rf z) (G.2 3) (G.2 3) (n1 := n1) (dp := dp) f g h4
    unfold copied
    rw [es, ed, en]
    exact h9
  rw [e1] at X' step
  generalize hN : vp_cell (G.2 3) (n1, .inr (.inr (.inr (.inr (va_cpy f g sp dp n))))) = N at X' step
  have hl : a < H.size := (Array.getElem?_eq_some_iff.mp hc1).1
  have oq : ∀ q : Nat, q ≠ a → (H.setIfInBounds a N)[q]? = H[q]? := fun q hq => by simp [Array.getElem?_setIfInBounds, Ne.symm hq]
  have hat : va_at G.1 CL (a, .inl (G.2 3, n1, .inr (.inr (.inr (.inr (va_cpy f g sp dp n)))))) (H.setIfInBounds a N) := by
    show (H.setIfInBounds a N)[a]? = some _
    rw [hN]
    simp [Array.getElem?_setIfInBounds, hl]
  obtain ⟨t, a1, b1⟩ := kk _ _ (hP.set hD ha1 hat oq) (hD.set ha1) ⟨by simp; exact hS.1, fun q g1 g2 => by
      rw [oq q (fun e => g2 (by rw [e]; exact hD.2 q1 _ ha1))]
      exact hS.2.1 q g1 g2, fun q hq => by
      rcases List.mem_append.mp hq with h | h
      · exact hS.2.2 q h
      · obtain ⟨z, -, hz⟩ := List.mem_map.mp h
        rw [← hz]
        exact hD.2 q1 _ ha1⟩ _ (show ((T.setVm vm').setCell a N).heap = H.setIfInBounds a N by rw [← hT]; rfl) X'
  exact ⟨t, step t a1, b1⟩
/-- .. of ints or shorts -/
theorem r_copyI {a a0 : Nat} (t0 : Nat) {ty : FieldType} (ht : (TYS G.2)[t0]? = some (G.2 t0, ty)) (hprim : refKind ty = false) (hexec : p.tables.exec = Jvm.exec) (hb : c.code = cc) (hml : c.maxLocals = ls.size) {own : String} {index : Nat} (hown : s.vm.findClass own = some m.cls) (hlink : (Cond.methodLink own index arraycopyName).before args s = true) (hnat : (Cond.native arraycopyName).before args s = true) (hstat : (Cond.static arraycopyName).before args s = true) (hini : (Cond.initialized "java/lang/System").before args s = true)
    (hKB : KB G s) (hR : va_P G.1 CL wr H) (q0 : Nat) (hP : va_P G.1 CL ws H) (hD : va_D A ws) (hS : va_S A H0 H locs) (q1 : Nat) {n0 n1 sp dp n : Nat} {f g : Nat → Int32} (ha0 : wr[q0]? = some (a0, .inl (G.2 t0, n0, .inl f))) (ha1 : ws[q1]? = some (a, .inl (G.2 t0, n1, .inl g)))
    (h4 : sp + n ≤ n0) (h5 : dp + n ≤ n1) (h6 : n0 < 2 ^ 31) (h7 : n1 < 2 ^ 31) (hfit : ∀ i, i < n → fits ty (.int (f (sp + i))) = true)
    (hframes : 1 ≤ R.frames) (hlocals : (rest.map fun v => v.category).sum + (nativeFrameWords "java/lang/System" "arraycopy" 5 + 11) ≤ R.locals) (hdg : decode cc pc = .ok (.invokestatic index, 3))
    (kk : ∀ (H1 : Heap) (locs1 : List Loc), va_P G.1 CL (ws.set q1 (a, .inl (G.2 t0, n1, .inl (va_cpy f g sp dp n)))) H1 → va_D A (ws.set q1 (a, .inl (G.2 t0, n1, .inl (va_cpy f g sp dp n)))) → va_S A H0 H1 locs1 → W p l e R s m args below meth c H1 locs1 cells slots Q (F0 m (pc + 3) ls rest)) : W p l e R s m args below meth c H locs cells slots Q (F0 m pc ls (.int (nI n) :: .int (nI dp) :: .ref a :: .int (nI sp) :: .ref a0 :: rest)) := by
  intro T hT X
  have es : (nI sp).toNatClampNeg = sp := nI_clamp (by omega)
  have ed : (nI dp).toNatClampNeg = dp := nI_clamp (by omega)
  have en : (nI n).toNatClampNeg = n := nI_clamp (by omega)
  have is : (nI sp).toInt = (sp : Int) := nI_toInt (by omega)
  have id9 : (nI dp).toInt = (dp : Int) := nI_toInt (by omega)
  have in9 : (nI n).toInt = (n : Int) := nI_toInt (by omega)
  have hc0 : H[a0]? = some (vp_cell (G.2 t0) (n0, .inl f)) := hR q0 _ ha0
  have hc1 : H[a]? = some (vp_cell (G.2 t0) (n1, .inl g)) := hP q1 _ ha1
  obtain ⟨-, k1, hk1, cm1, hkk1⟩ := (hKB.1.2 t0 _ ht).1 n1 (fun j => .int (g j))
  obtain ⟨vm', X', step⟩ := X.arraycopy hexec hown hlink hnat hstat hini (src := a0) (dst := a) (cs := vp_cell (G.2 t0) (n0, .inl f)) (cd := vp_cell (G.2 t0) (n1, .inl g)) (srcPos := nI sp) (destPos := nI dp) (n := nI n) (by rw [hT]; exact hc0) (by rw [hT]; exact hc1)
    (fun _ h => by cases h) (fun _ h => by cases h) (fun h => by cases h) (fun h => by cases h) hk1 hk1 hkk1 hkk1 (by simp [hprim]) (nlt0 (by omega)) (nlt0 (by omega)) (nlt0 (by omega))
    (by rw [is, in9]; show ¬ _ > ((arrV (G.2 t0) n0 (fun j => .int (f j))).slots.size : Int); rw [arrV_size]; omega)
    (by rw [id9, in9]; show ¬ _ > ((arrV (G.2 t0) n1 (fun j => .int (g j))).slots.size : Int); rw [arrV_size]; omega)
    (fun vm₁ _ i hi => by
      rw [en] at hi
      have e : (vp_cell (G.2 t0) (n0, .inl f)).slots.getD ((nI sp).toNatClampNeg + i) .null = .int (f (sp + i)) := by
        rw [es]
        show (arrV (G.2 t0) n0 (fun j => .int (f j))).slots.getD _ _ = _
        rw [Array.getD_eq_getD_getElem?, arrV_read _ _ (by omega)]
        rfl
      rw [e]
      exact ⟨hfit i hi, trivial⟩)
    (g := F0 m pc ls (.int (nI n) :: .int (nI dp) :: .ref a :: .int (nI sp) :: .ref a0 :: rest)) rfl (by rw [hml]) (rest := rest) rfl (by rw [hb]; exact hdg) hframes (by show 2 * 0 + _ + _ ≤ _; omega)
  have e1 : copied (vp_cell (G.2 t0) (n0, .inl f)) (vp_cell (G.2 t0) (n1, .inl g)) (nI sp) (nI dp) (nI n) = vp_cell (G.2 t0) (n1, .inl (va_cpy f g sp dp n)) := by
    have h9 := va_copied (fun z => .int z) (G.2 t0) (G.2 t0) (n1 := n1) (dp := dp) f g h4
    unfold copied
    rw [es, ed, en]
    exact h9
  rw [e1] at X' step
  generalize hN : vp_cell (G.2 t0) (n1, .inl (va_cpy f g sp dp n)) = N at X' step
  have hl : a < H.size := (Array.getElem?_eq_some_iff.mp hc1).1
  have oq : ∀ q : Nat, q ≠ a → (H.setIfInBounds a N)[q]? = H[q]? := fun q hq => by simp [Array.getElem?_setIfInBounds, Ne.symm hq]
  have hat : va_at G.1 CL (a, .inl (G.2 t0, n1, .inl (va_cpy f g sp dp n))) (H.setIfInBounds a N) := by
    show (H.setIfInBounds a N)[a]? = some _
    rw [hN]
    simp [Array.getElem?_setIfInBounds, hl]
  obtain ⟨t, a1, b1⟩ := kk _ _ (hP.set hD ha1 hat oq) (hD.set ha1) ⟨by simp; exact hS.1, fun q g1 g2 => by
      rw [oq q (fun e => g2 (by rw [e]; exact hD.2 q1 _ ha1))]
      exact hS.2.1 q g1 g2, fun q hq => by
      rcases List.mem_append.mp hq with h | h
      · exact hS.2.2 q h
      · obtain ⟨z, -, hz⟩ := List.mem_map.mp h
        rw [← hz]
        exact hD.2 q1 _ ha1⟩ _ (show ((T.setVm vm').setCell a N).heap = H.setIfInBounds a N by rw [← hT]; rfl) X'
  exact ⟨t, step t a1, b1⟩
end RC
/-! words of calls: inherited, abstract, by an interface -/
theorem lw_U {own : String} {idx : Nat} {C owner : String} {x y : MethodName} {b : ByteArray} {L : Nat} {r : Option FieldType} (h1 : Cond.methodLink own idx x ∈ lw_all) (h2 : Cond.sameMethod x.cls owner x.name x.desc ∈ lw_all) (h3 : Cond.selects C x y ∈ lw_all) (h4 : Cond.instanceMethod y ∈ lw_all) (h5 : Cond.initialized y.cls ∈ lw_all) (h6 : Cond.code y b L r ∈ lw_all) : GoodIn lw_all (va_wsU own idx C owner x y (ws_ y b L r)) := by
  refine lw_app ?_ (lw_meth h6)
  intro w hw
  simp only [List.mem_cons, List.not_mem_nil, or_false] at hw
  rcases hw with e | e | e | e | e
  · rw [e]; exact h1
  · rw [e]; exact h2
  · rw [e]; exact h3
  · rw [e]; exact h4
  · rw [e]; exact h5
theorem lw_F {own : String} {idx : Nat} {C : String} {x y : MethodName} {b : ByteArray} {L : Nat} {r : Option FieldType} (h1 : Cond.methodLink own idx x ∈ lw_all) (h3 : Cond.selects C x y ∈ lw_all) (h4 : Cond.instanceMethod y ∈ lw_all) (h5 : Cond.initialized y.cls ∈ lw_all) (h6 : Cond.code y b L r ∈ lw_all) : GoodIn lw_all (va_wsF own idx C x y (ws_ y b L r)) := by
  refine lw_app ?_ (lw_meth h6)
  intro w hw
  simp only [List.mem_cons, List.not_mem_nil, or_false] at hw
  rcases hw with e | e | e | e
  · rw [e]; exact h1
  · rw [e]; exact h3
  · rw [e]; exact h4
  · rw [e]; exact h5
theorem anyI {G : Gt} {s : State} {H : Heap} {W : va_W} {y ci k : Nat} {vs : List Value} (hKB : KB G s) (hP : va_P G.1 CL W H) (hk : W[k]? = some (y, Sum.inr (ci, vs))) : va_Any "java/lang/Object" s H y := any_of hKB hP (List.mem_of_getElem? hk)

/-- an object among the cells of a world -/
def ElIn (Wi : va_W) (y : Nat) : Prop := ∃ (ci : Nat) (vs : List Value), (y, Sum.inr (ci, vs)) ∈ Wi
theorem any_el {G : Gt} {s : State} {H : Heap} {W : va_W} {y : Nat} (hKB : KB G s) (hP : va_P G.1 CL W H) (h : ElIn W y) : va_Any "java/lang/Object" s H y := by
  obtain ⟨ci, vs, hm⟩ := h
  exact any_of hKB hP hm
theorem recvO {G : Gt} {s : State} {H : Heap} {W : va_W} {y k n : Nat} {f : Nat → Option Nat} (hKB : KB G s) (hP : va_P G.1 CL W H) (hk : W[k]? = some (y, Sum.inl (G.2 3, n, .inr (.inr (.inr (.inr f)))))) : ∃ cell : Cell, H[y]? = some cell ∧ cell.vm.isStatics = false ∧ s.vm.findClass "[Ljava/lang/Object;" = some cell.cls := by
  have h1 : H[y]? = some (vp_cell (G.2 3) (n, .inr (.inr (.inr (.inr f))))) := hP k _ hk
  refine ⟨_, h1, by rw [vp_cell_q]; rfl, ?_⟩
  have h2 : va_RA s (G.2 3) (.object "java/lang/Object") := (hKB.1.2 3 (G.2 3, .object "java/lang/Object") rfl).2
  have h3 := va_nmO h2 (nm := "[Ljava/lang/Object;") (by decide +kernel)
  rw [vp_cell_q]
  exact h3
theorem r_aaldQ {p : Program} {l : Launch} {e : Env} {R : Room} {s : State} {m : MethodId} {args : Array Value} {below : List Frame} {meth : Method} {c : Code} {H : Heap} {locs : List Loc} {cells slots : Nat} {Q : State → Prop} {cc : ByteArray} {pc : Nat} {ls : Array Slot} {rest : List Value} {D : va_G} {cl : List vw_C} {tys : List (ClassId × FieldType)} {ws : va_W} {a : Nat} (hexec : p.tables.exec = Jvm.exec) (hb : c.code = cc) (hK : va_K D cl tys s) (hP : va_P D cl ws H) (q0 t0 : Nat) {cA : ClassId} {C : String} {n : Nat} {f : Nat → Option Nat} (ha : ws[q0]? = some (a, .inl (cA, n, .inr (.inr (.inr (.inr f)))))) (ht : tys[t0]? = some (cA, .object C)) {i : Nat} (hi : i < n) (hn : n < 2 ^ 31) {v : Option Nat} (hv : f i = v) (hdg : decode cc pc = .ok (.aaload, 1))
    (kk : W p l e R s m args below meth c H locs cells slots Q (F0 m (pc + 1) ls (va_rf v :: rest))) : W p l e R s m args below meth c H locs cells slots Q (F0 m pc ls (.int (nI i) :: .ref a :: rest)) := by
  refine va_aldq hexec hb hK hP q0 t0 ha ht (vp_in_nI hi hn) hdg ?_
  rw [nI_clamp (by omega), hv]
  exact kk
