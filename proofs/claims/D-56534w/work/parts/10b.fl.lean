/-! THE TWO ANSWERS IN FLOATING POINT: no NaN -/
set_option maxRecDepth 100000
def GoodD (f : FP.Core.Fmt) (d : FP.Core.Datum) : Prop := match d with
  | .nan => False
  | .inf _ => True
  | .fin _ c q => c < 2 ^ f.p ∧ q ≤ f.qmax
theorem settle_good {f : FP.Core.Fmt} (h : f.tails < 2 ^ f.p) (s : Bool) (c : Nat) (q : Int) : GoodD f (FP.Core.settle f s c q) := by
  unfold FP.Core.settle FP.Core.bound
  split
  · split
    · rename_i h1 h2; exact ⟨h1, h2⟩
    · trivial
  · split
    · rename_i h1 h2; exact ⟨h, h2⟩
    · trivial
theorem rr_good {f : FP.Core.Fmt} (h : f.tails < 2 ^ f.p) (h0 : f.qmin ≤ f.qmax) (s : Bool) (n d : Nat) (e : Int) : GoodD f (FP.Core.roundRatio f s n d e) := by
  unfold FP.Core.roundRatio
  split
  · exact ⟨Nat.two_pow_pos _, h0⟩
  · exact settle_good h _ _ _
theorem nearest_pos {n d : Nat} (hd : 0 < d) (h : d ≤ n) : FP.Core.nearest n d ≠ 0 := by
  have h1 : 1 ≤ n / d := (Nat.le_div_iff_mul_le hd).mpr (by omega)
  unfold FP.Core.nearest
  split
  · omega
  · split
    · omega
    · omega
theorem leading_le {n : Nat} : FP.Core.leading n 1 ≤ (n.log2 : Int) := by
  unfold FP.Core.leading
  have e : Nat.log2 1 = 0 := by decide
  simp only [e]
  split <;> omega
theorem log2_le31 {n : Nat} (h : n ≤ 2 ^ 31) : n.log2 ≤ 31 := by
  rcases Nat.eq_zero_or_pos n with e | e
  · subst e; decide
  · have h1 := Nat.log2_self_le (n := n) (by omega)
    rcases Nat.lt_or_ge n.log2 32 with g | g
    · omega
    · have h2 : 2 ^ 32 ≤ 2 ^ n.log2 := Nat.pow_le_pow_right (by decide) g
      omega
theorem rr_int {f : FP.Core.Fmt} (h0 : f.tails ≠ 0) (h1 : f.qmin ≤ 0) (h2 : (40 : Int) ≤ f.qmax) (h3 : 1 ≤ f.p) (s : Bool) {n : Nat} (hn : n ≤ 2 ^ 31) : ∃ c q, FP.Core.roundRatio f s n 1 0 = .fin s c q ∧ (n ≠ 0 → c ≠ 0) := by
  unfold FP.Core.roundRatio
  by_cases e : n = 0
  · rw [if_pos e]; exact ⟨_, _, rfl, fun z => absurd e z⟩
  rw [if_neg e]
  have hl := log2_le31 hn
  have hk := leading_le (n := n)
  have hs := Nat.log2_self_le e
  have hq : FP.Core.quantum f n 1 0 ≤ (n.log2 : Int) := by unfold FP.Core.quantum; omega
  generalize FP.Core.quantum f n 1 0 = q at hq
  unfold FP.Core.roundAt
  have hc : FP.Core.nearest (FP.Core.unitsNum n 0 q) (FP.Core.unitsDen 1 0 q) ≠ 0 := by
    unfold FP.Core.unitsNum FP.Core.unitsDen
    refine nearest_pos (by rw [Nat.one_mul]; exact Nat.two_pow_pos _) ?_
    rw [Nat.one_mul]
    rcases Int.lt_or_le 0 q with g | g
    · have e1 : (0 - q).toNat = 0 := by omega
      rw [e1, Nat.pow_zero, Nat.mul_one]
      exact Nat.le_trans (Nat.pow_le_pow_right (by decide) (by omega)) hs
    · have e1 : (q - 0).toNat = 0 := by omega
      rw [e1, Nat.pow_zero]
      exact Nat.le_trans (by omega) (Nat.mul_le_mul (show 1 ≤ n by omega) (Nat.two_pow_pos _))
  unfold FP.Core.settle FP.Core.bound
  split
  · rw [if_pos (by omega)]; exact ⟨_, _, rfl, fun _ => hc⟩
  · rw [if_pos (by omega)]; exact ⟨_, _, rfl, fun _ => h0⟩
theorem i32_abs (a : Int32) : a.toInt.natAbs ≤ 2 ^ 31 := by
  have h1 := Int32.toInt_lt a
  have h2 := Int32.le_toInt a
  omega

theorem fm_64 : FP.Core.b64.tails = 4503599627370496 ∧ FP.Core.b64.exps = 2048 ∧ FP.Core.b64.qmin = -1074 ∧ FP.Core.b64.qmax = 971 ∧ 2 ^ FP.Core.b64.p = 9007199254740992 ∧ FP.Core.b64.p = 53 := by
  refine ⟨?_, ?_, ?_, ?_, ?_, ?_⟩ <;> decide +kernel
/-- the fields of what is no NaN -/
theorem enc_64 {x : FP.Core.Datum} (h : GoodD FP.Core.b64 x) : ∃ s e t, FP.Core.encode FP.Core.b64 x = (s * 2048 + e) * 4503599627370496 + t ∧ s ≤ 1 ∧ e ≤ 2047 ∧ t < 4503599627370496 ∧ (e = 2047 → t = 0) ∧ (∀ b c q, x = .fin b c q → e < 2047 ∧ (c ≠ 0 → 0 < e ∨ 0 < t)) := by
  obtain ⟨f1, f2, f3, f4, f5, f6⟩ := fm_64
  have bl : ∀ b : Bool, b.toNat ≤ 1 := fun b => by cases b <;> decide
  cases x with
  | nan => exact h.elim
  | inf s =>
    refine ⟨s.toNat, 2047, 0, ?_, bl s, Nat.le_refl _, by decide, fun _ => rfl, fun b c q e => nomatch e⟩
    show FP.Core.assemble FP.Core.b64 s (FP.Core.b64.exps - 1) 0 = _
    unfold FP.Core.assemble
    rw [f1, f2]
  | fin s c q =>
    obtain ⟨h1, h2⟩ := h
    rw [f5] at h1
    rw [f4] at h2
    by_cases g : c < FP.Core.b64.tails
    · refine ⟨s.toNat, 0, c, ?_, bl s, by decide, by rw [← f1]; exact g, fun z => absurd z (by decide), fun b c' q' e => ?_⟩
      · show (if c < FP.Core.b64.tails then FP.Core.assemble FP.Core.b64 s 0 c else _) = _
        rw [if_pos g]
        unfold FP.Core.assemble
        rw [f1, f2]
      · cases e
        exact ⟨by decide, fun z => Or.inr (by omega)⟩
    · have g2 : 4503599627370496 ≤ c := by rw [f1] at g; omega
      refine ⟨s.toNat, (q - FP.Core.b64.qmin).toNat + 1, c - FP.Core.b64.tails, ?_, bl s, ?_, ?_, fun z => ?_, fun b c' q' e => ?_⟩
      · show (if c < FP.Core.b64.tails then _ else FP.Core.assemble FP.Core.b64 s ((q - FP.Core.b64.qmin).toNat + 1) (c - FP.Core.b64.tails)) = _
        rw [if_neg g]
        unfold FP.Core.assemble
        rw [f1, f2]
      · rw [f3]; omega
      · rw [f1]; omega
      · rw [f3] at z; omega
      · cases e
        exact ⟨by rw [f3]; omega, fun _ => Or.inl (by omega)⟩
theorem dec_64 {s e t : Nat} (he : e < 2047) (ht : t < 4503599627370496) : ∃ b c q, FP.Core.decode FP.Core.b64 ((s * 2048 + e) * 4503599627370496 + t) = .fin b c q ∧ (0 < e ∨ 0 < t → c ≠ 0) := by
  obtain ⟨f1, f2, f3, f4, f5, f6⟩ := fm_64
  have k1 : FP.Core.fieldT FP.Core.b64 ((s * 2048 + e) * 4503599627370496 + t) = t := by unfold FP.Core.fieldT; rw [f1]; omega
  have k2 : FP.Core.fieldE FP.Core.b64 ((s * 2048 + e) * 4503599627370496 + t) = e := by unfold FP.Core.fieldE; rw [f1, f2]; omega
  unfold FP.Core.decode
  rw [k1, k2, f2, if_neg (by omega)]
  by_cases g : e = 0
  · rw [if_pos g]
    exact ⟨_, _, _, rfl, fun z => by omega⟩
  · rw [if_neg g]
    exact ⟨_, _, _, rfl, fun z => by rw [f1]; omega⟩
theorem num_64 {x : FP.Core.Datum} (h : GoodD FP.Core.b64 x) : vf_n64 (UInt64.ofNat (FP.Core.encode FP.Core.b64 x)) := by
  obtain ⟨s, e, t, h1, h2, h3, h4, h5, -⟩ := enc_64 h
  unfold vf_n64
  rw [h1, UInt64.le_iff_toNat_le, UInt64.toNat_and, UInt64.toNat_ofNat']
  have e1 : ((s * 2048 + e) * 4503599627370496 + t) % 2 ^ 64 = (s * 2048 + e) * 4503599627370496 + t := Nat.mod_eq_of_lt (by omega)
  rw [e1]
  have e2 : (0x7fffffffffffffff : UInt64).toNat = 2 ^ 63 - 1 := by decide
  have e3 : (0x7ff0000000000000 : UInt64).toNat = 9218868437227405312 := by decide
  rw [e2, e3, Nat.and_two_pow_sub_one_eq_mod]
  omega
theorem i2_64 (a : Int32) : ∃ b c q, FP.Core.decode FP.Core.b64 (FP.i2d a).toNat = .fin b c q ∧ (a ≠ 0 → c ≠ 0) := by
  obtain ⟨f1, f2, f3, f4, f5, f6⟩ := fm_64
  show ∃ b c q, FP.Core.decode FP.Core.b64 (UInt64.ofNat (FP.Core.encode FP.Core.b64 (FP.Core.roundRatio FP.Core.b64 (decide (a.toInt < 0)) a.toInt.natAbs 1 0))).toNat = .fin b c q ∧ (a ≠ 0 → c ≠ 0)
  obtain ⟨c, q, r1, r2⟩ := rr_int (f := FP.Core.b64) (by rw [f1]; decide) (by rw [f3]; decide) (by rw [f4]; decide) (by rw [f6]; decide) (decide (a.toInt < 0)) (i32_abs a)
  obtain ⟨s, e, t, h1, h2, h3, h4, h5, h6⟩ := enc_64 (rr_good (f := FP.Core.b64) (by rw [f1, f5]; decide) (by rw [f3, f4]; decide) (decide (a.toInt < 0)) a.toInt.natAbs 1 0)
  obtain ⟨h7, h8⟩ := h6 _ _ _ r1
  rw [h1, UInt64.toNat_ofNat']
  have e1 : ((s * 2048 + e) * 4503599627370496 + t) % 2 ^ 64 = (s * 2048 + e) * 4503599627370496 + t := Nat.mod_eq_of_lt (by omega)
  rw [e1]
  obtain ⟨b', c', q', d1, d2⟩ := dec_64 (s := s) h7 h4
  refine ⟨b', c', q', d1, fun ha => d2 (h8 (r2 fun z => ha ?_))⟩
  exact Int32.toInt_inj.mp (by have : a.toInt = 0 := by omega
                               rw [this]; rfl)
theorem quo_64 (a : Int32) {b : Int32} (hb : b ≠ 0) : GoodD FP.Core.b64 (FP.Core.quotient FP.Core.b64 (FP.Core.decode FP.Core.b64 (FP.i2d a).toNat) (FP.Core.decode FP.Core.b64 (FP.i2d b).toNat)) := by
  obtain ⟨f1, f2, f3, f4, f5, f6⟩ := fm_64
  obtain ⟨b1, c1, q1, e1, -⟩ := i2_64 a
  obtain ⟨b2, c2, q2, e2, e3⟩ := i2_64 b
  rw [e1, e2]
  show GoodD FP.Core.b64 (if c2 = 0 then _ else FP.Core.roundRatio FP.Core.b64 (b1 != b2) c1 c2 (q1 - q2))
  rw [if_neg (e3 hb)]
  exact rr_good (by rw [f1, f5]; decide) (by rw [f3, f4]; decide) _ _ _ _
theorem div_num64 (a : Int32) {b : Int32} (hb : b ≠ 0) : vf_n64 (FP.ddiv (FP.i2d a) (FP.i2d b)) := num_64 (quo_64 a hb)
/-- what is no NaN compares -/
theorem dec_num64 {n : Nat} (h : n % 9223372036854775808 ≤ 9218868437227405312) : FP.Core.decode FP.Core.b64 n ≠ .nan := by
  obtain ⟨f1, f2, f3, f4, f5, f6⟩ := fm_64
  unfold FP.Core.decode FP.Core.fieldE FP.Core.fieldT
  rw [f1, f2]
  split
  · rw [if_pos (by omega)]; exact fun z => nomatch z
  · split <;> exact fun z => nomatch z
theorem vf_dec64 {r : UInt64} (h : vf_n64 r) : FP.Core.decode FP.Core.b64 r.toNat ≠ .nan := by
  unfold vf_n64 at h
  rw [UInt64.le_iff_toNat_le, UInt64.toNat_and] at h
  have e2 : (0x7fffffffffffffff : UInt64).toNat = 2 ^ 63 - 1 := by decide
  have e3 : (0x7ff0000000000000 : UInt64).toNat = 9218868437227405312 := by decide
  rw [e2, e3, Nat.and_two_pow_sub_one_eq_mod] at h
  exact dec_num64 h

theorem fm_32 : FP.Core.b32.tails = 8388608 ∧ FP.Core.b32.exps = 256 ∧ FP.Core.b32.qmin = -149 ∧ FP.Core.b32.qmax = 104 ∧ 2 ^ FP.Core.b32.p = 16777216 ∧ FP.Core.b32.p = 24 := by
  refine ⟨?_, ?_, ?_, ?_, ?_, ?_⟩ <;> decide +kernel
/-- the fields of what is no NaN -/
theorem enc_32 {x : FP.Core.Datum} (h : GoodD FP.Core.b32 x) : ∃ s e t, FP.Core.encode FP.Core.b32 x = (s * 256 + e) * 8388608 + t ∧ s ≤ 1 ∧ e ≤ 255 ∧ t < 8388608 ∧ (e = 255 → t = 0) ∧ (∀ b c q, x = .fin b c q → e < 255 ∧ (c ≠ 0 → 0 < e ∨ 0 < t)) := by
  obtain ⟨f1, f2, f3, f4, f5, f6⟩ := fm_32
  have bl : ∀ b : Bool, b.toNat ≤ 1 := fun b => by cases b <;> decide
  cases x with
  | nan => exact h.elim
  | inf s =>
    refine ⟨s.toNat, 255, 0, ?_, bl s, Nat.le_refl _, by decide, fun _ => rfl, fun b c q e => nomatch e⟩
    show FP.Core.assemble FP.Core.b32 s (FP.Core.b32.exps - 1) 0 = _
    unfold FP.Core.assemble
    rw [f1, f2]
  | fin s c q =>
    obtain ⟨h1, h2⟩ := h
    rw [f5] at h1
    rw [f4] at h2
    by_cases g : c < FP.Core.b32.tails
    · refine ⟨s.toNat, 0, c, ?_, bl s, by decide, by rw [← f1]; exact g, fun z => absurd z (by decide), fun b c' q' e => ?_⟩
      · show (if c < FP.Core.b32.tails then FP.Core.assemble FP.Core.b32 s 0 c else _) = _
        rw [if_pos g]
        unfold FP.Core.assemble
        rw [f1, f2]
      · cases e
        exact ⟨by decide, fun z => Or.inr (by omega)⟩
    · have g2 : 8388608 ≤ c := by rw [f1] at g; omega
      refine ⟨s.toNat, (q - FP.Core.b32.qmin).toNat + 1, c - FP.Core.b32.tails, ?_, bl s, ?_, ?_, fun z => ?_, fun b c' q' e => ?_⟩
      · show (if c < FP.Core.b32.tails then _ else FP.Core.assemble FP.Core.b32 s ((q - FP.Core.b32.qmin).toNat + 1) (c - FP.Core.b32.tails)) = _
        rw [if_neg g]
        unfold FP.Core.assemble
        rw [f1, f2]
      · rw [f3]; omega
      · rw [f1]; omega
      · rw [f3] at z; omega
      · cases e
        exact ⟨by rw [f3]; omega, fun _ => Or.inl (by omega)⟩
theorem dec_32 {s e t : Nat} (he : e < 255) (ht : t < 8388608) : ∃ b c q, FP.Core.decode FP.Core.b32 ((s * 256 + e) * 8388608 + t) = .fin b c q ∧ (0 < e ∨ 0 < t → c ≠ 0) := by
  obtain ⟨f1, f2, f3, f4, f5, f6⟩ := fm_32
  have k1 : FP.Core.fieldT FP.Core.b32 ((s * 256 + e) * 8388608 + t) = t := by unfold FP.Core.fieldT; rw [f1]; omega
  have k2 : FP.Core.fieldE FP.Core.b32 ((s * 256 + e) * 8388608 + t) = e := by unfold FP.Core.fieldE; rw [f1, f2]; omega
  unfold FP.Core.decode
  rw [k1, k2, f2, if_neg (by omega)]
  by_cases g : e = 0
  · rw [if_pos g]
    exact ⟨_, _, _, rfl, fun z => by omega⟩
  · rw [if_neg g]
    exact ⟨_, _, _, rfl, fun z => by rw [f1]; omega⟩
theorem num_32 {x : FP.Core.Datum} (h : GoodD FP.Core.b32 x) : vf_n32 (UInt32.ofNat (FP.Core.encode FP.Core.b32 x)) := by
  obtain ⟨s, e, t, h1, h2, h3, h4, h5, -⟩ := enc_32 h
  unfold vf_n32
  rw [h1, UInt32.le_iff_toNat_le, UInt32.toNat_and, UInt32.toNat_ofNat']
  have e1 : ((s * 256 + e) * 8388608 + t) % 2 ^ 32 = (s * 256 + e) * 8388608 + t := Nat.mod_eq_of_lt (by omega)
  rw [e1]
  have e2 : (0x7fffffff : UInt32).toNat = 2 ^ 31 - 1 := by decide
  have e3 : (0x7f800000 : UInt32).toNat = 2139095040 := by decide
  rw [e2, e3, Nat.and_two_pow_sub_one_eq_mod]
  omega
theorem i2_32 (a : Int32) : ∃ b c q, FP.Core.decode FP.Core.b32 (FP.i2f a).toNat = .fin b c q ∧ (a ≠ 0 → c ≠ 0) := by
  obtain ⟨f1, f2, f3, f4, f5, f6⟩ := fm_32
  show ∃ b c q, FP.Core.decode FP.Core.b32 (UInt32.ofNat (FP.Core.encode FP.Core.b32 (FP.Core.roundRatio FP.Core.b32 (decide (a.toInt < 0)) a.toInt.natAbs 1 0))).toNat = .fin b c q ∧ (a ≠ 0 → c ≠ 0)
  obtain ⟨c, q, r1, r2⟩ := rr_int (f := FP.Core.b32) (by rw [f1]; decide) (by rw [f3]; decide) (by rw [f4]; decide) (by rw [f6]; decide) (decide (a.toInt < 0)) (i32_abs a)
  obtain ⟨s, e, t, h1, h2, h3, h4, h5, h6⟩ := enc_32 (rr_good (f := FP.Core.b32) (by rw [f1, f5]; decide) (by rw [f3, f4]; decide) (decide (a.toInt < 0)) a.toInt.natAbs 1 0)
  obtain ⟨h7, h8⟩ := h6 _ _ _ r1
  rw [h1, UInt32.toNat_ofNat']
  have e1 : ((s * 256 + e) * 8388608 + t) % 2 ^ 32 = (s * 256 + e) * 8388608 + t := Nat.mod_eq_of_lt (by omega)
  rw [e1]
  obtain ⟨b', c', q', d1, d2⟩ := dec_32 (s := s) h7 h4
  refine ⟨b', c', q', d1, fun ha => d2 (h8 (r2 fun z => ha ?_))⟩
  exact Int32.toInt_inj.mp (by have : a.toInt = 0 := by omega
                               rw [this]; rfl)
theorem quo_32 (a : Int32) {b : Int32} (hb : b ≠ 0) : GoodD FP.Core.b32 (FP.Core.quotient FP.Core.b32 (FP.Core.decode FP.Core.b32 (FP.i2f a).toNat) (FP.Core.decode FP.Core.b32 (FP.i2f b).toNat)) := by
  obtain ⟨f1, f2, f3, f4, f5, f6⟩ := fm_32
  obtain ⟨b1, c1, q1, e1, -⟩ := i2_32 a
  obtain ⟨b2, c2, q2, e2, e3⟩ := i2_32 b
  rw [e1, e2]
  show GoodD FP.Core.b32 (if c2 = 0 then _ else FP.Core.roundRatio FP.Core.b32 (b1 != b2) c1 c2 (q1 - q2))
  rw [if_neg (e3 hb)]
  exact rr_good (by rw [f1, f5]; decide) (by rw [f3, f4]; decide) _ _ _ _
theorem div_num32 (a : Int32) {b : Int32} (hb : b ≠ 0) : vf_n32 (FP.fdiv (FP.i2f a) (FP.i2f b)) := num_32 (quo_32 a hb)
/-- what is no NaN compares -/
theorem dec_num32 {n : Nat} (h : n % 2147483648 ≤ 2139095040) : FP.Core.decode FP.Core.b32 n ≠ .nan := by
  obtain ⟨f1, f2, f3, f4, f5, f6⟩ := fm_32
  unfold FP.Core.decode FP.Core.fieldE FP.Core.fieldT
  rw [f1, f2]
  split
  · rw [if_pos (by omega)]; exact fun z => nomatch z
  · split <;> exact fun z => nomatch z
theorem vf_dec32 {r : UInt32} (h : vf_n32 r) : FP.Core.decode FP.Core.b32 r.toNat ≠ .nan := by
  unfold vf_n32 at h
  rw [UInt32.le_iff_toNat_le, UInt32.toNat_and] at h
  have e2 : (0x7fffffff : UInt32).toNat = 2 ^ 31 - 1 := by decide
  have e3 : (0x7f800000 : UInt32).toNat = 2139095040 := by decide
  rw [e2, e3, Nat.and_two_pow_sub_one_eq_mod] at h
  exact dec_num32 h

theorem cmp_rf9 (z : Int) : compare z z = .eq := by first | simp | (show compareOfLessAndEq z z = .eq; unfold compareOfLessAndEq; rw [if_neg (Int.lt_irrefl z), if_pos rfl])
theorem order_rf {d : FP.Core.Datum} (h : d ≠ .nan) : FP.Core.order d d = some .eq := by
  cases d with
  | nan => exact absurd rfl h
  | inf s => show some (compare _ _) = _; cases s <;> rfl
  | fin s c q => exact congrArg some (cmp_rf9 _)
theorem dcmp_rf {r : UInt64} (h : vf_n64 r) : FP.dcmp r r = some .eq := order_rf (vf_dec64 h)
theorem fcmp_rf {r : UInt32} (h : vf_n32 r) : FP.fcmp r r = some .eq := order_rf (vf_dec32 h)
theorem f2d_num {r : UInt32} (h : vf_n32 r) : vf_n64 (FP.f2d r) := by
  have h1 := vf_dec32 h
  have e : FP.f2d r = FP.Core.f2d r := by
    unfold FP.f2d
    rw [if_neg]
    intro z
    exact h1 (of_decide_eq_true z)
  rw [e]
  show vf_n64 (UInt64.ofNat (FP.Core.encode FP.Core.b64 (FP.Core.round FP.Core.b64 (FP.Core.decode FP.Core.b32 r.toNat))))
  refine num_64 ?_
  obtain ⟨f1, f2, f3, f4, f5, f6⟩ := fm_64
  cases hd : FP.Core.decode FP.Core.b32 r.toNat with
  | nan => exact absurd hd h1
  | inf s => exact trivial
  | fin s c q => exact rr_good (by rw [f1, f5]; decide) (by rw [f3, f4]; decide) _ _ _ _
theorem share_num2' (a : Int32) {b : Int32} (hb : b ≠ 0) : vf_n64 (FP.f2d (FP.fdiv (FP.i2f a) (FP.i2f b))) := f2d_num (div_num32 a hb)
