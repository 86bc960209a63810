/-! THROWS: new X("text") of TrainingDiary -/
def thrOk (own : String) (ik : Nat) (cls : String) (ic : Nat) (names : List String) : Bool := (Cond.classLink own ik cls :: Cond.initialized cls :: vx_atS own ic cls names).all (fun w => lw_tbl.elem w && (goodWord w || (nestW w && w.onTables)) && vx_ot w)
theorem thr_at {G : Gt} {s : State} {args : Array Value} (hKB : KB G s) (hts : ∀ w ∈ lw_all, w.before args s = true) {own : String} {ik : Nat} {cls : String} {ic : Nat} {names : List String} (h : thrOk own ik cls ic names = true) : ∀ w ∈ (Cond.classLink own ik cls :: Cond.initialized cls :: vx_atS own ic cls names), w.before args s = true ∧ vx_ot w = true := by
  intro w hw
  have h1 := List.all_eq_true.mp h w hw
  simp only [Bool.and_eq_true, Bool.or_eq_true] at h1
  obtain ⟨⟨h2, h3⟩, h4⟩ := h1
  have h5 : w ∈ lw_tbl := List.elem_iff.mp h2
  refine ⟨?_, h4⟩
  rcases h3 with h3 | h3
  · exact hts w (List.mem_filter.mpr ⟨h5, h3⟩)
  · exact va_Nw.use h3.2 (hKB.nest h5 h3.1)
abbrev exN : List String := ["java/lang/RuntimeException", "java/lang/Exception"]
set_option maxHeartbeats 4000000 in
theorem ok_IAE : thrOk "TrainingDiary" 1 "java/lang/IllegalArgumentException" 5 exN = true := by decide +kernel
