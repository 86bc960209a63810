/-! THE LAW'S BODY: what holds all along -/
set_option maxRecDepth 100000
def LwF (G : Gt) (A : Nat → Prop) (p : Program) (s : State) (m : MethodId) (c : Code) (b L : Nat) (xs : Nat → Int32) : Prop :=
  CallFix p m c code 10 s #[Value.ref b] lw_all RX0 ∧ KB G s ∧ EV G A s s.heap ∧ (∀ q, s.heap.size ≤ q → A q) ∧ va_X b L xs s s.heap ∧ b < s.heap.size ∧ ¬ A b ∧ NcF s ∧ L ≤ 96
def sx9 (xs : Nat → Int32) (k : Nat) : Int32 := xs (nI k).toNatClampNeg
theorem vp9 {k L : Nat} (h : k < L) (h2 : L ≤ 96) : vp_in (nI k) L := by
  intro h3
  rcases h3 with h3 | h3
  · exact nlt0 (by omega) h3
  · rw [nI_clamp (by omega)] at h3; omega
theorem lcmp0 (x : Int64) : lg_cmp x x = nI 0 := by
  have h : ¬ x < x := Int64.lt_irrefl
  unfold lg_cmp
  rw [if_neg h, if_pos rfl]
  rfl
/-- fewer than four ints are left: no more call -/
theorem lim9 {i L : Nat} (hi : i ≤ 96) (hL : L ≤ 96) : nI L - nI 4 < nI i ↔ L < i + 4 := by
  have e : nI L - nI 4 + nI 4 = nI L := by
    generalize nI L = x
    generalize nI 4 = y
    grind
  have h1 : (nI L - nI 4).toInt = (L : Int) - 4 := by
    have a1 : (nI L).toInt = (L : Int) := nI_toInt (by omega)
    have a2 : (nI 4).toInt = (4 : Int) := nI_toInt (by omega)
    rw [Int32.toInt_sub, a1, a2]
    exact Int.bmod_eq_of_le (by omega) (by omega)
  rw [Int32.lt_iff_toInt_lt, h1, nI_toInt (by omega)]
  omega
/-- the call's number -/
theorem and63 (v : Int32) : ∃ k, k < 64 ∧ v &&& nI 63 = nI k := by
  refine ⟨(v &&& nI 63).toUInt32.toNat, ?_, ?_⟩
  · have : (v &&& nI 63).toUInt32 = v.toUInt32 &&& 63 := rfl
    rw [this]
    have h2 : (v.toUInt32 &&& 63).toNat = v.toUInt32.toNat &&& 63 := by rw [UInt32.toNat_and]; rfl
    rw [h2]
    exact Nat.lt_succ_of_le Nat.and_le_right
  · apply Int32.toUInt32_inj.mp
    show _ = UInt32.ofNat _
    rw [UInt32.ofNat_toNat]
