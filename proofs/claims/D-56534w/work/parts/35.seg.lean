/-! WORLDS IN SEGMENTS: permuted and cut; calls beside abstract segments; contracts said otherwise -/
set_option maxRecDepth 100000
section SG
variable {D : va_G} {cl : List vw_C} {H : Heap} {A : Nat → Prop} {a b c ws ws' : va_W}
theorem P_mem : va_P D cl ws H ↔ ∀ q ∈ ws, va_at D cl q H :=
  ⟨fun h q hq => by obtain ⟨k, hk⟩ := List.getElem?_of_mem hq; exact h k q hk, fun h _ q hk => h q (List.mem_of_getElem? hk)⟩
theorem D_nd : va_D A ws ↔ (ws.map Prod.fst).Nodup ∧ ∀ q ∈ ws, A q.1 := by
  constructor
  · intro h
    refine ⟨?_, fun q hq => by obtain ⟨k, hk⟩ := List.getElem?_of_mem hq; exact h.2 k q hk⟩
    rw [List.nodup_iff_pairwise_ne, List.pairwise_iff_getElem]
    intro i j hi hj hij e
    simp only [List.length_map] at hi hj
    simp only [List.getElem_map] at e
    have := h.1 i j ws[i] ws[j] (List.getElem?_eq_getElem hi) (List.getElem?_eq_getElem hj) e
    omega
  · intro ⟨h1, h2⟩
    rw [List.nodup_iff_pairwise_ne, List.pairwise_iff_getElem] at h1
    refine ⟨fun i j p q hi hj e => ?_, fun _ q hk => h2 q (List.mem_of_getElem? hk)⟩
    obtain ⟨hi1, rfl⟩ := List.getElem?_eq_some_iff.mp hi
    obtain ⟨hj1, rfl⟩ := List.getElem?_eq_some_iff.mp hj
    rcases Nat.lt_trichotomy i j with g | g | g
    · exact (h1 i j (by simpa using hi1) (by simpa using hj1) g (by simpa using e)).elim
    · exact g
    · exact (h1 j i (by simpa using hj1) (by simpa using hi1) g (by simpa using e.symm)).elim
theorem P_perm (hp : ws.Perm ws') (h : va_P D cl ws H) : va_P D cl ws' H := P_mem.mpr fun q hq => P_mem.mp h q (hp.mem_iff.mpr hq)
theorem D_perm (hp : ws.Perm ws') (h : va_D A ws) : va_D A ws' := by
  rw [D_nd] at h ⊢
  exact ⟨(hp.map Prod.fst).nodup h.1, fun q hq => h.2 q (hp.mem_iff.mpr hq)⟩
theorem P_left (h : va_P D cl (a ++ b) H) : va_P D cl a H := P_mem.mpr fun q hq => P_mem.mp h q (List.mem_append_left _ hq)
theorem P_right (h : va_P D cl (a ++ b) H) : va_P D cl b H := P_mem.mpr fun q hq => P_mem.mp h q (List.mem_append_right _ hq)
theorem D_left (h : va_D A (a ++ b)) : va_D A a := by
  rw [D_nd, List.map_append, List.nodup_append] at h
  rw [D_nd]
  exact ⟨h.1.1, fun q hq => h.2 q (List.mem_append_left _ hq)⟩
theorem D_right (h : va_D A (a ++ b)) : va_D A b := by
  rw [D_nd, List.map_append, List.nodup_append] at h
  rw [D_nd]
  exact ⟨h.1.2.1, fun q hq => h.2 q (List.mem_append_right _ hq)⟩
theorem D_apart (h : va_D A (a ++ b)) {q1 q2 : Nat × va_E} (h1 : q1 ∈ a) (h2 : q2 ∈ b) : q1.1 ≠ q2.1 := by
  rw [D_nd, List.map_append, List.nodup_append] at h
  exact h.1.2.2 _ (List.mem_map_of_mem h1) _ (List.mem_map_of_mem h2)
theorem P_front {x : Nat × va_E} (h : va_P D cl (ws ++ [x]) H) : va_P D cl (x :: ws) H := P_perm (List.perm_append_singleton x ws) h
theorem D_front {x : Nat × va_E} (h : va_D A (ws ++ [x])) : va_D A (x :: ws) := D_perm (List.perm_append_singleton x ws) h
/-- a part of a world -/
def Sub9 (a b : va_W) : Prop := ∃ r, b.Perm (a ++ r)
theorem Sub9.rf (a : va_W) : Sub9 a a := ⟨[], by rw [List.append_nil]⟩
theorem Sub9.of (h : b.Perm (a ++ c)) : Sub9 a b := ⟨c, h⟩
theorem Sub9.pm (h : b.Perm a) : Sub9 a b := ⟨[], by rw [List.append_nil]; exact h⟩
theorem Sub9.trans (h : Sub9 a b) (h2 : Sub9 b c) : Sub9 a c := by
  obtain ⟨r, hr⟩ := h
  obtain ⟨t, ht⟩ := h2
  exact ⟨r ++ t, by rw [← List.append_assoc]; exact ht.trans (hr.append_right t)⟩
theorem P_sub9 (h : Sub9 a b) (hP : va_P D cl b H) : va_P D cl a H := by
  obtain ⟨r, hr⟩ := h
  exact P_left (P_perm hr hP)
theorem D_sub9 (h : Sub9 a b) (hD : va_D A b) : va_D A a := by
  obtain ⟨r, hr⟩ := h
  exact D_left (D_perm hr hD)
end SG
theorem rng_fm {α : Type} (segs : List α) : (List.range segs.length).filterMap (fun i => segs[i]?) = segs := by
  induction segs with
  | nil => rfl
  | cons x xs ih =>
    have h : List.range (xs.length + 1) = 0 :: (List.range xs.length).map Nat.succ := List.range_succ_eq_map
    show (List.range (xs.length + 1)).filterMap _ = _
    rw [h, List.filterMap_cons_some (f := fun i => (x :: xs)[i]?) (a := 0) (b := x) rfl, List.filterMap_map]
    exact congrArg (x :: ·) ih
theorem segs_perm (segs : List va_W) (is js : List Nat) (h : (is ++ js).isPerm (List.range segs.length) = true) : segs.flatten.Perm ((is.filterMap (fun i => segs[i]?)).flatten ++ (js.filterMap (fun i => segs[i]?)).flatten) := by
  have h1 := (List.isPerm_iff.mp h).filterMap (fun i => segs[i]?)
  rw [rng_fm, List.filterMap_append] at h1
  rw [← List.flatten_append]
  exact h1.symm.flatten
theorem segs_perm1 (segs : List va_W) (is : List Nat) (h : is.isPerm (List.range segs.length) = true) : segs.flatten.Perm ((is.filterMap (fun i => segs[i]?)).flatten) := by
  have h1 := (List.isPerm_iff.mp h).filterMap (fun i => segs[i]?)
  rw [rng_fm] at h1
  exact h1.symm.flatten
theorem segs_perm2 (s1 s2 : List va_W) (is : List Nat) (h : is.isPerm (List.range (s1.length + s2.length)) = true) : (s1.flatten ++ s2.flatten).Perm ((is.filterMap (fun i => (s1 ++ s2)[i]?)).flatten) := by
  rw [← List.flatten_append]
  exact segs_perm1 (s1 ++ s2) is (by rw [List.length_append]; exact h)
theorem seg_at {D : va_G} {cl : List vw_C} {H : Heap} (segs : List va_W) (j : Nat) {w : va_W} (hj : segs[j]? = some w) (h : va_P D cl segs.flatten H) : va_P D cl w H :=
  P_mem.mpr fun q hq => P_mem.mp h q (List.mem_flatten.mpr ⟨w, List.mem_of_getElem? hj, hq⟩)
theorem va_nd_of : ∀ {l : List Nat}, l.Nodup → va_nd l = true
  | [], _ => rfl
  | a :: l, h => by
    rw [List.nodup_cons] at h
    show (decide (a ∉ l) && va_nd l) = true
    rw [decide_eq_true h.1, va_nd_of h.2]
    rfl
theorem rng_map (wc wr : va_W) : (List.range wc.length).map (fun i => (wc ++ wr)[i]?) = wc.map some := by
  apply List.ext_getElem?
  intro i
  rw [List.getElem?_map, List.getElem?_map]
  by_cases h : i < wc.length
  · rw [List.getElem?_range h, List.getElem?_eq_getElem h]
    show some ((wc ++ wr)[i]?) = some (some wc[i])
    rw [List.getElem?_append_left h, List.getElem?_eq_getElem h]
  · rw [List.getElem?_eq_none (by simpa using h), List.getElem?_eq_none (by omega)]
    rfl
theorem rng_fm2 (wc wr : va_W) : ((List.range wr.length).map (fun x => wc.length + x)).filterMap (fun i => (wc ++ wr)[i]?) = wr := by
  rw [List.filterMap_map]
  have e : ((fun i => (wc ++ wr)[i]?) ∘ fun x => wc.length + x) = fun i => wr[i]? := by
    funext i
    show (wc ++ wr)[wc.length + i]? = wr[i]?
    rw [List.getElem?_append_right (by omega), Nat.add_sub_cancel_left]
  rw [e]
  exact rng_fm wr
theorem rng_nd (k n : Nat) : ((List.range n).map (fun x => k + x)).Nodup := by
  rw [List.nodup_iff_pairwise_ne, List.pairwise_map]
  exact (List.nodup_range (n := n)).imp (fun {a b} h e => h (by omega))
theorem rng_bl (wc wr : va_W) : ((List.range wr.length).map (fun x => wc.length + x)).all (fun i => Nat.blt i (wc ++ wr).length) = true := by
  rw [List.all_eq_true]
  intro i hi
  obtain ⟨x, hx, rfl⟩ := List.mem_map.mp hi
  rw [List.mem_range] at hx
  rw [Nat.blt_eq, List.length_append]
  omega
theorem rng_ds (wc wr : va_W) : ∀ i ∈ (List.range wr.length).map (fun x => wc.length + x), i ∉ List.range wc.length := by
  intro i hi h
  obtain ⟨x, -, rfl⟩ := List.mem_map.mp hi
  rw [List.mem_range] at h
  omega
section SC9
variable {p : Program} {l : Launch} {e : Env} {R : Room} {s : State} {m : MethodId} {args : Array Value} {below : List Frame} {meth : Method} {c : Code} {H : Heap} {locs : List Loc} {cells slots : Nat} {Q : State → Prop}
variable {G : Gt} {cc : ByteArray} {pc : Nat} {ls : Array Slot} {rest st0 : List Value} {A : Nat → Prop} {ws wc wr : va_W} {H0 : Heap} {mc ms : Nat} {a : Array Value}
theorem hF_ofP (hD : va_D A ws) (hS : va_S A s.heap H locs) (hA : ∀ q, s.heap.size ≤ q → A q) (hp : ws.Perm (wc ++ wr)) : ∀ q, va_A wc H.size q → A q := by
  intro q h
  rcases h with ⟨k, e, h⟩ | h
  · exact (D_left (D_perm hp hD)).2 k (q, e) h
  · exact hA q (Nat.le_trans hS.1 h)
theorem roW.ofP (hP : va_P G.1 CL ws H) (hD : va_D A ws) (hp : ws.Perm (wc ++ wr)) : roW G (va_A wc H.size) H wr := by
  refine ⟨P_right (P_perm hp hP), fun k q hq h => ?_⟩
  have hl := (P_right (P_perm hp hP) k q hq).lt
  rcases h with ⟨k2, e, h⟩ | h
  · exact D_apart (D_perm hp hD) (List.mem_of_getElem? h) (List.mem_of_getElem? hq) rfl
  · omega
theorem roW.seg {H : Heap} (segs : List va_W) (j : Nat) {w : va_W} (hj : segs[j]? = some w) (h : roW G A H segs.flatten) : roW G A H w :=
  ⟨seg_at segs j hj h.1, fun k q hk => by
    obtain ⟨i, hi⟩ := List.getElem?_of_mem (List.mem_flatten.mpr ⟨w, List.mem_of_getElem? hj, List.mem_of_getElem? hk⟩)
    exact h.2 i q hi⟩
theorem roW.memb {H : Heap} {w w' : va_W} (h : roW G A H w) (hm : ∀ q ∈ w', q ∈ w) : roW G A H w' :=
  ⟨P_mem.mpr fun q hq => P_mem.mp h.1 q (hm q hq), fun k q hk => by
    obtain ⟨i, hi⟩ := List.getElem?_of_mem (hm q (List.mem_of_getElem? hk))
    exact h.2 i q hi⟩
theorem roW.nar {H : Heap} {w : va_W} {B : Nat → Prop} (h : roW G A H w) (hB : ∀ q, B q → A q) : roW G B H w := ⟨h.1, fun k q hk z => h.2 k q hk (hB _ z)⟩
theorem go_ctP {S : Type} {rv : S → Option Value} {post : S → Prop} {w1 : S → va_W} {PH : S → Heap → Prop} (hS : va_S A s.heap H locs) (hP : va_P G.1 CL ws H) (hD : va_D A ws) (hp : ws.Perm (wc ++ wr)) (hF : ∀ q, va_A wc H.size q → A q)
    (hr : va_Run p l e R s m args below meth c H locs cells slots mc ms (F0 m pc ls st0) rest (QcM G (va_A wc H.size) rv post w1 PH a) (va_A wc H.size))
    (kk : ∀ (u : S) (H1 : Heap) (locs1 : List Loc), post u → PH u H1 → va_P G.1 CL (wr ++ w1 u) H1 → va_D A (wr ++ w1 u) → va_S A s.heap H1 locs1 → H.size ≤ H1.size → (∀ q : Nat, q < H.size → ¬ va_A wc H.size q → H1[q]? = H[q]?) → W p l e R s m args below meth c H1 locs1 (cells + mc) (slots + ms) Q (F0 m (pc + 3) ls ((rv u).toList ++ rest))) : W p l e R s m args below meth c H locs cells slots Q (F0 m pc ls st0) := by
  refine go_ct hS (P_perm hp hP) (D_perm hp hD) (List.range wc.length) ((List.range wr.length).map (fun x => wc.length + x)) hF (rng_map wc wr) (rng_bl wc wr) (va_nd_of (rng_nd _ _)) (rng_ds wc wr) hr ?_
  rw [rng_fm2]
  exact kk
theorem go_ctP5 {S : Type} {rv : S → Option Value} {post : S → Prop} {w1 : S → va_W} {PH : S → Heap → Prop} (hS : va_S A s.heap H locs) (hP : va_P G.1 CL ws H) (hD : va_D A ws) (hp : ws.Perm (wc ++ wr)) (hF : ∀ q, va_A wc H.size q → A q)
    (hr : va_Run5 p l e R s m args below meth c H locs cells slots mc ms (F0 m pc ls st0) rest (QcM G (va_A wc H.size) rv post w1 PH a) (va_A wc H.size))
    (kk : ∀ (u : S) (H1 : Heap) (locs1 : List Loc), post u → PH u H1 → va_P G.1 CL (wr ++ w1 u) H1 → va_D A (wr ++ w1 u) → va_S A s.heap H1 locs1 → H.size ≤ H1.size → (∀ q : Nat, q < H.size → ¬ va_A wc H.size q → H1[q]? = H[q]?) → W p l e R s m args below meth c H1 locs1 (cells + mc) (slots + ms) Q (F0 m (pc + 5) ls ((rv u).toList ++ rest))) : W p l e R s m args below meth c H locs cells slots Q (F0 m pc ls st0) := by
  refine go_ct5 hS (P_perm hp hP) (D_perm hp hD) (List.range wc.length) ((List.range wr.length).map (fun x => wc.length + x)) hF (rng_map wc wr) (rng_bl wc wr) (va_nd_of (rng_nd _ _)) (rng_ds wc wr) hr ?_
  rw [rng_fm2]
  exact kk
theorem go_cxP {S SX : Type} {rv : S → Option Value} {post : S → Prop} {w1 : S → va_W} {PH : S → Heap → Prop} {xn : SX → String} {px : SX → Prop} {wx : SX → va_W} {PX : SX → Heap → Prop} (hS : va_S A s.heap H locs) (hP : va_P G.1 CL ws H) (hD : va_D A ws) (hp : ws.Perm (wc ++ wr)) (hF : ∀ q, va_A wc H.size q → A q)
    (hr : vx_Run p l e R s m args below meth c H locs cells slots mc ms (F0 m pc ls st0) rest (QcM G (va_A wc H.size) rv post w1 PH a) (XcM G (va_A wc H.size) xn px wx PX) (va_A wc H.size))
    (kx : ∀ (ux : SX) (H1 : Heap) (locs1 : List Loc) (ce : Cell) (q9 : Addr), px ux → PX ux H1 → va_P G.1 CL (wr ++ wx ux) H1 → va_D A (wr ++ wx ux) → va_S A s.heap H1 locs1 → H.size ≤ H1.size → (∀ q : Nat, q < H.size → ¬ va_A wc H.size q → H1[q]? = H[q]?) → H1[q9]? = some ce → ce.vm = .none → s.vm.findClass (xn ux) = some ce.cls → vx_W p l e R s m args below meth c H1 locs1 (cells + mc) (slots + ms) Q (F0 m pc ls rest) q9)
    (kk : ∀ (u : S) (H1 : Heap) (locs1 : List Loc), post u → PH u H1 → va_P G.1 CL (wr ++ w1 u) H1 → va_D A (wr ++ w1 u) → va_S A s.heap H1 locs1 → H.size ≤ H1.size → (∀ q : Nat, q < H.size → ¬ va_A wc H.size q → H1[q]? = H[q]?) → W p l e R s m args below meth c H1 locs1 (cells + mc) (slots + ms) Q (F0 m (pc + 3) ls ((rv u).toList ++ rest))) : W p l e R s m args below meth c H locs cells slots Q (F0 m pc ls st0) := by
  refine go_cx hS (P_perm hp hP) (D_perm hp hD) (List.range wc.length) ((List.range wr.length).map (fun x => wc.length + x)) hF (rng_map wc wr) (rng_bl wc wr) (va_nd_of (rng_nd _ _)) (rng_ds wc wr) hr ?_ ?_
  · rw [rng_fm2]
    exact kx
  · rw [rng_fm2]
    exact kk
end SC9
/-! contracts said otherwise: more room, a world that holds more, other ghosts -/
theorem room_mono9 {s : State} {pl : Platform} {r r' : Room} (hf : r.frames ≤ r'.frames) (hl : r.locals ≤ r'.locals) (hc : r.cells ≤ r'.cells) (hs : r.slots ≤ r'.slots) (h : s.hasRoom pl r' = true) : s.hasRoom pl r = true := by
  simp only [State.hasRoom, Bool.and_eq_true, decide_eq_true_eq] at h ⊢
  obtain ⟨⟨⟨⟨y, a, b, c, d, e⟩, f⟩, g⟩, i⟩ := h
  exact ⟨⟨⟨⟨by omega, by omega, by omega, by omega, by omega, e⟩, by omega⟩, by omega⟩, i⟩
theorem respec9 {l : Launch} {x : MethodName} {S S' : Spec} {P : Array Value → State → Prop} {K : Program → Env → List Frame → State → Array Value → Prop} {Q : Array Value → State → Outcome → State → Prop}
    (h : MetFree l x S P K Q) (hpre : ∀ a s, S'.pre.before a s = true → S.pre.before a s = true) (hf : S.room.frames ≤ S'.room.frames) (hl : S.room.locals ≤ S'.room.locals) (hc : S.room.cells ≤ S'.room.cells) (hs : S.room.slots ≤ S'.room.slots) : MetFree l x S' P K Q := by
  intro p e ha hcs hk s m args below hfr happ hP hK
  obtain ⟨a1, a2, a3, a4, a5, a6, a7, a8⟩ := (Spec.appliesLoose_iff hfr).mp happ
  exact h p e ha hcs hk s m args below hfr ((Spec.appliesLoose_iff hfr).mpr ⟨a1, a2, a3, a4, a5, a6, room_mono9 hf hl hc hs a7, hpre _ _ a8⟩) hP hK
def cell99 (G : Gt) : Nat × va_E := (G.2 99, .inl (G.2 3, 0, .inr (.inr (.inr (.inr (fun _ => none))))))
theorem va_A_sub {w0 w0' wr : va_W} {sz : Nat} (hp : w0'.Perm (w0 ++ wr)) : ∀ q, va_A w0 sz q → va_A w0' sz q := by
  intro q h
  rcases h with ⟨k, e, h⟩ | h
  · obtain ⟨i, hi⟩ := List.getElem?_of_mem (hp.mem_iff.mpr (List.mem_append_left wr (List.mem_of_getElem? h)))
    exact Or.inl ⟨i, e, hi⟩
  · exact Or.inr h
/-- what a wider world's start gives the narrower contract's -/
theorem PreM.conv {G : Gt} {w0 w0' wr : va_W} {RH RH' : (Nat → Prop) → Heap → Prop} {sz : Nat} {U : State} (hp : w0'.Perm (w0 ++ wr))
    (hR : ∀ (A : Nat → Prop) (H : Heap), (∀ q, A q → va_A w0' sz q) → va_P G.1 CL w0' H → roW G A H wr → roW G A H [cell99 G] → RH' (va_A w0' sz) H → A = va_A w0 sz → RH A H) (h : PreM G w0' RH' sz U) : PreM G w0 RH sz U := by
  obtain ⟨h1, h2, h3, h4, h5, h6⟩ := h
  have hA := va_A_sub (sz := sz) hp
  refine ⟨h1, h2, h3.kp hA (fun _ _ _ => rfl), P_left (P_perm hp h4), D_left (D_perm hp h5), hR _ _ hA h4 ?_ ?_ h6 rfl⟩
  · have := roW.ofP h4 h5 hp
    rw [h1] at this
    exact this
  · exact roW.nar h3.2.2.2.2.2 hA
theorem va_F.wide {A B : Nat → Prop} {st t : State} (h : va_F A st t) (hAB : ∀ q, A q → B q) : va_F B st t := ⟨h.1, fun q h1 h2 => h.2 q h1 (fun z => h2 (hAB q z))⟩
theorem join9 {G : Gt} {w0 w0' wr w1 : va_W} {st t : State} {sz : Nat} (hz : st.heap.size = sz) (hp : w0'.Perm (w0 ++ wr)) (hP : va_P G.1 CL w0' st.heap) (hD : va_D (fun _ => True) w0') (hF : va_F (va_A w0 sz) st t) (hP1 : va_P G.1 CL w1 t.heap) (hD1 : va_D (va_A w0 sz) w1) :
    va_P G.1 CL (wr ++ w1) t.heap ∧ va_D (va_A w0' sz) (wr ++ w1) := by
  subst hz
  have hA := va_A_sub (sz := st.heap.size) hp
  exact va_join (A0 := va_A w0' st.heap.size) (P_perm hp hP) (D_perm hp hD.self) (List.range w0.length) ((List.range wr.length).map (fun x => w0.length + x)) (rng_map w0 wr)
    (by rw [map_fm _ _ (rng_bl w0 wr), rng_fm2]) (va_nd_of (rng_nd _ _)) (rng_ds w0 wr) hF.2 hA hP1 hD1
theorem CT.conv {l : Launch} {G : Gt} {y : MethodName} {cc : ByteArray} {nL : Nat} {ret : Option FieldType} {rm : Room} {av : List Value} {w0 : va_W} {RH : (Nat → Prop) → Heap → Prop} {S : Type} {rv : S → Option Value} {post : S → Prop} {w1 : S → va_W} {PH : S → Heap → Prop}
    (h : CT l G y cc nL ret rm av w0 RH rv post w1 PH) {rm' : Room} {w0' : va_W} {RH' : (Nat → Prop) → Heap → Prop} {S' : Type} {rv' : S' → Option Value} {post' : S' → Prop} {w1' : S' → va_W} {PH' : S' → Heap → Prop}
    (hf : rm.frames ≤ rm'.frames) (hl : rm.locals ≤ rm'.locals) (hc : rm.cells ≤ rm'.cells) (hs : rm.slots ≤ rm'.slots) (wr : va_W) (hp : w0'.Perm (w0 ++ wr))
    (hR : ∀ (sz : Nat) (A : Nat → Prop) (H : Heap), (∀ q, A q → va_A w0' sz q) → va_P G.1 CL w0' H → roW G A H wr → roW G A H [cell99 G] → RH' (va_A w0' sz) H → A = va_A w0 sz → RH A H)
    (hQ : ∀ u, post u → ∃ u', rv' u' = rv u ∧ post' u' ∧ Sub9 (w1' u') (wr ++ w1 u) ∧ ∀ H, PH u H → PH' u' H) : CT l G y cc nL ret rm' av w0' RH' rv' post' w1' PH' := by
  intro sz
  have h1 : MetFree l y (headSpec (ws_ y cc nL ret) rm) _ _ _ := h sz
  refine (respec9 (S' := headSpec (ws_ y cc nL ret) rm') h1 (fun _ _ z => z) hf hl hc hs).mono (fun a s hs' => ⟨hs'.1, hs'.2.conv hp (hR sz)⟩) (fun _ _ _ _ _ z => z) ?_
  intro a st o t hp9 ⟨⟨⟨u, hv, hpo, hP1, hD1, hPH⟩, hF⟩, L, hFE, hL⟩
  obtain ⟨u', e1, e2, e3, e4⟩ := hQ u hpo
  obtain ⟨-, z1, -, -, z4, z5, -⟩ := hp9
  obtain ⟨j1, j2⟩ := join9 z1 hp z4 z5 hF hP1 hD1
  have hA := va_A_sub (sz := sz) hp
  exact ⟨⟨⟨u', by rw [e1]; exact hv, e2, P_sub9 e3 j1, D_sub9 e3 j2, e4 _ hPH⟩, hF.wide hA⟩, L, ⟨hFE.1, hFE.2.1, hFE.2.2.weaken (fun y hy _ => hy) hc hs⟩, fun q hq => hA _ (hL q hq)⟩
theorem CX.conv {l : Launch} {G : Gt} {y : MethodName} {cc : ByteArray} {nL : Nat} {ret : Option FieldType} {rm : Room} {av : List Value} {w0 : va_W} {RH : (Nat → Prop) → Heap → Prop} {S : Type} {rv : S → Option Value} {post : S → Prop} {w1 : S → va_W} {PH : S → Heap → Prop} {SX : Type} {xn : SX → String} {px : SX → Prop} {wx : SX → va_W} {PX : SX → Heap → Prop}
    (h : CX l G y cc nL ret rm av w0 RH rv post w1 PH xn px wx PX) {rm' : Room} {w0' : va_W} {RH' : (Nat → Prop) → Heap → Prop} {S' : Type} {rv' : S' → Option Value} {post' : S' → Prop} {w1' : S' → va_W} {PH' : S' → Heap → Prop} {SX' : Type} {xn' : SX' → String} {px' : SX' → Prop} {wx' : SX' → va_W} {PX' : SX' → Heap → Prop}
    (hf : rm.frames ≤ rm'.frames) (hl : rm.locals ≤ rm'.locals) (hc : rm.cells ≤ rm'.cells) (hs : rm.slots ≤ rm'.slots) (wr : va_W) (hp : w0'.Perm (w0 ++ wr))
    (hR : ∀ (sz : Nat) (A : Nat → Prop) (H : Heap), (∀ q, A q → va_A w0' sz q) → va_P G.1 CL w0' H → roW G A H wr → roW G A H [cell99 G] → RH' (va_A w0' sz) H → A = va_A w0 sz → RH A H)
    (hQ : ∀ u, post u → ∃ u', rv' u' = rv u ∧ post' u' ∧ Sub9 (w1' u') (wr ++ w1 u) ∧ ∀ H, PH u H → PH' u' H)
    (hX : ∀ u, px u → ∃ u', xn' u' = xn u ∧ px' u' ∧ Sub9 (wx' u') (wr ++ wx u) ∧ ∀ H, PX u H → PX' u' H) : CX l G y cc nL ret rm' av w0' RH' rv' post' w1' PH' xn' px' wx' PX' := by
  intro sz
  have h1 : MetFree l y (headSpec (ws_ y cc nL ret) rm) _ _ _ := h sz
  refine (respec9 (S' := headSpec (ws_ y cc nL ret) rm') h1 (fun _ _ z => z) hf hl hc hs).mono (fun a s hs' => ⟨hs'.1, hs'.2.conv hp (hR sz)⟩) (fun _ _ _ _ _ z => z) ?_
  intro a st o t hp9 hq
  obtain ⟨-, z1, -, -, z4, z5, -⟩ := hp9
  have hA := va_A_sub (sz := sz) hp
  rcases hq with ⟨⟨⟨u, hv, hpo, hP1, hD1, hPH⟩, hF⟩, L, hFE, hL⟩ | ⟨q, hq, E, ce, L, ⟨u, hpx, ⟨he, hP1, hD1, hPH⟩, hF⟩, g1, g2, g3, g4, g5, g6⟩
  · obtain ⟨u', e1, e2, e3, e4⟩ := hQ u hpo
    obtain ⟨j1, j2⟩ := join9 z1 hp z4 z5 hF hP1 hD1
    exact Or.inl ⟨⟨⟨u', by rw [e1]; exact hv, e2, P_sub9 e3 j1, D_sub9 e3 j2, e4 _ hPH⟩, hF.wide hA⟩, L, ⟨hFE.1, hFE.2.1, hFE.2.2.weaken (fun y hy _ => hy) hc hs⟩, fun q hq => hA _ (hL q hq)⟩
  · obtain ⟨u', e1, e2, e3, e4⟩ := hX u hpx
    obtain ⟨j1, j2⟩ := join9 z1 hp z4 z5 hF hP1 hD1
    exact Or.inr ⟨q, hq, E, ce, L, ⟨u', e2, ⟨by rw [e1]; exact he, P_sub9 e3 j1, D_sub9 e3 j2, e4 _ hPH⟩, hF.wide hA⟩, g1, g2, g3, g4, g5.weaken (fun y hy _ => hy) hc hs, fun z hz => hA _ (g6 z hz)⟩
/-- a contract that never throws is one that may -/
theorem CT.toX {l : Launch} {G : Gt} {y : MethodName} {cc : ByteArray} {nL : Nat} {ret : Option FieldType} {rm : Room} {av : List Value} {w0 : va_W} {RH : (Nat → Prop) → Heap → Prop} {S : Type} {rv : S → Option Value} {post : S → Prop} {w1 : S → va_W} {PH : S → Heap → Prop}
    (h : CT l G y cc nL ret rm av w0 RH rv post w1 PH) {SX : Type} {xn : SX → String} {px : SX → Prop} {wx : SX → va_W} {PX : SX → Heap → Prop} : CX l G y cc nL ret rm av w0 RH rv post w1 PH xn px wx PX := by
  intro sz
  have h1 : MetFree l y (headSpec (ws_ y cc nL ret) rm) _ _ _ := h sz
  exact h1.mono (fun _ _ z => z) (fun _ _ _ _ _ z => z) (fun _ _ _ _ _ z => Or.inl z)
