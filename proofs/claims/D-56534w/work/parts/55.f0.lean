/-! THE LAW'S WRAPPERS: contracts of methods with handlers -/
set_option maxRecDepth 100000
/-- (thrown, handler that lets it pass) -/
def ncL : List (String × String) := [(eS9, eA), (eA, eN), (eS9, eN), (eN, eA), (eR, eA)]
def NcF (U : State) : Prop := ∀ x ∈ ncL, va_Nc x.1 x.2 U
theorem NcF.moved {u U : State} (hvm : u.vm.Alike U.vm) (h : NcF u) : NcF U := fun x hx => (h x hx).moved hvm
def PreW (G : Gt) (w0 : va_W) (RH : (Nat → Prop) → Heap → Prop) (sz : Nat) (U : State) : Prop := PreM G w0 RH sz U ∧ NcF U
theorem PreW.blind {G : Gt} {w0 : va_W} {RH : (Nat → Prop) → Heap → Prop} {sz : Nat} {av : List Value} : FrameBlind (va_Pc av (PreW G w0 RH sz)) := by
  intro a U g mk ⟨h0, h1, h2⟩
  have h3 := PreM.blind (G := G) (w0 := w0) (RH := RH) (sz := sz) (av := av) a U g mk ⟨h0, h1⟩
  exact ⟨h3.1, h3.2, h2.moved (Vm.Alike.refl U.vm)⟩
def CTW (l : Launch) (G : Gt) (y : MethodName) (cc : ByteArray) (nL : Nat) (ret : Option FieldType) (hh : List (Nat × Nat × Nat × Nat)) (rm : Room) (av : List Value) (w0 : va_W) (RH : (Nat → Prop) → Heap → Prop) {S : Type} (rv : S → Option Value) (post : S → Prop) (w1 : S → va_W) (PH : S → Heap → Prop) : Prop :=
  ∀ sz : Nat, Met l y (wsW_ y cc nL ret hh) rm (va_Pc av (PreW G w0 RH sz)) (QcM G (va_A w0 sz) rv post w1 PH) rm.cells rm.slots (va_A w0 sz)
theorem EntryM.mkW {l : Launch} {G : Gt} {y : MethodName} {cc : ByteArray} {nL : Nat} {ret : Option FieldType} {hh : List (Nat × Nat × Nat × Nat)} {rm : Room} {av : List Value} {w0 : va_W} {RH : (Nat → Prop) → Heap → Prop} {p : Program} {e : Env} {s : State} {m : MethodId} {args : Array Value} {below : List Frame} {meth : Method} {c : Code} {s₁ : State} (hav : (lg_sl av).length ≤ nL)
    (B : BodyLoose p l y (headSpec (wsW_ y cc nL ret hh) rm) cc nL ret e s m args below meth c s₁) (hml : c.maxLocals = nL) (hv : va_Pc av (PreM G w0 RH s.heap.size) args s) :
    EntryM G p s m meth c y cc nL ret av w0 RH (va_A w0 s.heap.size) ((lg_sl av ++ List.replicate (nL - (lg_sl av).length) Slot.unset).toArray) := by
  obtain ⟨rfl, -, h1, h2, h3, h4, h5⟩ := hv
  have hts := atoms_spec (ws := wsW_ y cc nL ret hh) B.pre
  exact ⟨⟨B.exec, B.bytes, hml, findClass_of_methodNamed B.named, fun w h => hts w (List.mem_cons_of_mem _ h)⟩, B.returns, B.notSynchronized, (name_of_methodNamed B.named B.method).1, h1, h2, h3, h4.self, va_S.rf, fun q h => Or.inr h, fun q h => h, h5, lv_entry av hav⟩
theorem CTW.of {l : Launch} {G : Gt} {y : MethodName} {cc : ByteArray} {nL : Nat} {ret : Option FieldType} {hh : List (Nat × Nat × Nat × Nat)} {rm : Room} {av : List Value} {w0 : va_W} {RH : (Nat → Prop) → Heap → Prop} {S : Type} {rv : S → Option Value} {post : S → Prop} {w1 : S → va_W} {PH : S → Heap → Prop} (hy : plainName y.cls = true) (hav : (lg_sl av).length ≤ nL)
    (body : ∀ (p : Program) (e : Env) (s : State) (m : MethodId) (below : List Frame) (meth : Method) (c : Code) (ls : Array Slot) (A : Nat → Prop) (H : Heap) (locs : List Loc), EntryM G p s m meth c y cc nL ret av w0 RH A ls → H = s.heap → va_P G.1 CL w0 H → va_S A s.heap H locs → NcF s → c.exceptionTable.toList = tableOf hh →
      W p l e rm s m av.toArray below meth c H locs 0 0 (vx_MQ below (QcM G A rv post w1 PH) (fun _ _ _ => False) av.toArray s rm.cells rm.slots A) (F0 m 0 ls [])) : CTW l G y cc nL ret hh rm av w0 RH rv post w1 PH := by
  intro sz
  have h1 : vx_Met l y (wsW_ y cc nL ret hh) rm (va_Pc av (PreW G w0 RH sz)) (QcM G (va_A w0 sz) rv post w1 PH) (fun _ _ _ => False) rm.cells rm.slots (va_A w0 sz) := by
    refine vx_ofWH (cc := cc) (maxL := nL) (ret := ret) (hh := hh) hy rfl ?_
    intro p e s m args below meth c s₁ B hml hv
    have hsz : s.heap.size = sz := hv.2.1.1
    subst hsz
    have hE := EntryM.mkW (G := G) (w0 := w0) (RH := RH) hav B hml ⟨hv.1, hv.2.1⟩
    have hts := atoms_spec (ws := wsW_ y cc nL ret hh) B.pre
    have ht := vx_table B (hts _ List.mem_cons_self)
    obtain ⟨rfl, hv2⟩ := hv
    rw [lg_entry_eq]
    exact body p e s m below meth c _ _ _ _ hE rfl hE.2.2.2.2.2.2.1 va_S.rf hv2.2 ht
  have h2 : MetFree l y (headSpec (wsW_ y cc nL ret hh) rm) _ _ _ := h1
  exact h2.mono (fun _ _ z => z) (fun _ _ _ _ _ z => z) (fun _ _ _ _ _ z => z.elim id (fun ⟨_, _, _, _, _, hX, _⟩ => False.elim hX))
section BW
variable {p : Program} {l : Launch} {e : Env} {R : Room} {s : State} {m : MethodId} {args : Array Value} {below : List Frame} {meth : Method} {c : Code} {H : Heap} {locs : List Loc} {cells slots : Nat} {Q : State → Prop} {G : Gt} {A : Nat → Prop} {wc : va_W}
theorem preS_ofW {RH : (Nat → Prop) → Heap → Prop} {As : List Value} (hN : NcF s) (hKB : KB G s) (hE : EV G A s s.heap) (hS : va_S A s.heap H locs) (hA : ∀ q, va_A wc H.size q → A q) (hP : va_P G.1 CL wc H) (hD : va_D (fun _ => True) wc) (hR : RH (va_A wc H.size) H) :
    PreS s H (va_Pc As (PreW G wc RH H.size)) As := by
  have h1 := preS_of (As := As) hKB hE hS hA hP hD hR
  exact ⟨PreW.blind, fun U hU hW => ⟨(h1.2 U hU hW).1, (h1.2 U hU hW).2, hN.moved hW.alike⟩⟩
end BW
theorem DyW.recv {G : Gt} {s : State} {H : Heap} {d : Nat} {S : DS} {W : va_W} (hK : va_K G.1 CL (TYS G.2) s) (h : DyW G d S W) (hP : va_P G.1 CL W H) : ∃ cell : Cell, H[d]? = some cell ∧ cell.vm.isStatics = false ∧ s.vm.findClass RX1 = some cell.cls := by
  obtain ⟨b, hq, ln, da, hd, va, sp, ml, f, g, hs, hw, Wb, Ws, Wi, rfl, -⟩ := h
  exact va_recv hK hP (ci := 0) (q0 := 0) rfl rfl
theorem MdW.recv {G : Gt} {s : State} {H : Heap} {m0 th : Nat} {S : DS} {W : va_W} (hK : va_K G.1 CL (TYS G.2) s) (h : MdW G m0 S th W) (hP : va_P G.1 CL W H) : ∃ cell : Cell, H[m0]? = some cell ∧ cell.vm.isStatics = false ∧ s.vm.findClass RX4 = some cell.cls := by
  obtain ⟨sa, oa, pa, la, za, na, t, gd, gm, gr, f, p, lf, zf, ra, rq, rfl, -⟩ := h
  exact va_recv hK hP (ci := 6) (q0 := 0) rfl rfl
theorem share_f2d {B : Bk} {v : Int32} {r : UInt32} (hI : Inv B) (h : q_share B v = (0, r)) : vf_n64 (FP.f2d r) := by
  unfold q_share at h
  split at h
  · exact absurd (congrArg Prod.fst h) (show ¬ (1 : Nat) = 0 by decide)
  · split at h
    · exact absurd (congrArg Prod.fst h) (show ¬ (2 : Nat) = 0 by decide)
    · rename_i hz
      have h2 := allM_le hI
      have h3 := iv_sN hI
      have e := congrArg Prod.snd h
      dsimp only at e
      rw [← e]
      exact share_num2 _ (nI_ne0 (by omega) (by omega))
/-- a change of the diary's state, as the book's change says it -/
def NxS (S : DS) (q : Rs) (S2 : DS) : Prop := (q.1 ≠ 0 → S2 = S) ∧ (q.1 = 0 → ∃ B2, Sim q.2.2 B2 ∧ S2 = ((B2, dS S, min 6 (dK S + 1), hsR (dH S) (dK S) (dC S), dL S, dN S) : DS))
theorem NxS.no {S : DS} {q : Rs} (h : ¬ q.1 = 0) : NxS S q S := ⟨fun _ => rfl, fun z => absurd z h⟩
theorem NxS.yes {S : DS} {q : Rs} {B2 : Bk} (h : q.1 = 0) (hs : Sim q.2.2 B2) : NxS S q ((B2, dS S, min 6 (dK S + 1), hsR (dH S) (dK S) (dC S), dL S, dN S) : DS) := ⟨fun z => absurd h z, fun _ => ⟨B2, hs, rfl⟩⟩
theorem DyW.inv {G : Gt} {d : Nat} {S : DS} {W : va_W} (h : DyW G d S W) : Inv (dC S) ∧ SrtT (dC S) ∧ SrtS (dC S) := by
  obtain ⟨b, hq, ln, da, hd, va, sp, ml, f, g, hs, hw, Wb, Ws, Wi, -, hB, -⟩ := h
  exact hB.inv
theorem DyW.line13 {G : Gt} {d : Nat} {S : DS} {W : va_W} (h : DyW G d S W) : dN S ≤ 13 := by
  obtain ⟨b, hq, ln, da, hd, va, sp, ml, f, g, hs, hw, Wb, Ws, Wi, -, -, -, -, -, -, -, h9, -⟩ := h
  exact h9
