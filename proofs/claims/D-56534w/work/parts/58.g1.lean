/-! THE LAW'S BODY: what holds all along -/
set_option maxRecDepth 100000
def LwF (G : Gt) (A : Nat → Prop) (p : Program) (s : State) (m : MethodId) (c : Code) (b L : Nat) (xs : Nat → Int32) : Prop :=
  CallFix p m c code 10 s #[Value.ref b] lw_all RX0 ∧ KB G s ∧ EV G A s s.heap ∧ (∀ q, s.heap.size ≤ q → A q) ∧ va_X b L xs s s.heap ∧ b < s.heap.size ∧ ¬ A b ∧ NcF s ∧ L ≤ 96
def sx9 (xs : Nat → Int32) (k : Nat) : Int32 := xs (nI k).toNatClampNeg
theorem vp9 {k L : Nat} (h : k < L) (h2 : L ≤ 96) : vp_in (nI k) L := by
  intro h3
  rcases h3 with h3 | h3
  · exact nlt0 (by omega) h3
  · rw [nI_clamp (by omega)] at h3; omega
theorem lcmp0 (x : Int64) : lg_cmp x x = nI 0 := by
  have h : ¬ x < x := Int64.lt_irrefl
  unfold lg_cmp
  rw [if_neg h, if_pos rfl]
  rfl
