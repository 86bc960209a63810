/-! THE MATHEMATICAL STATE of a diary's book, and what the two sides compute of it -/
/-- a session: id, day, parts (minutes, intensity) -/
abbrev Sess : Type := Nat × Nat × List (Nat × Nat)
/-- tests (day, threshold), sessions, bounds, weights, targets, today, next id, the plan's start, its entries -/
abbrev Bk : Type := List (Nat × Nat) × List Sess × (Nat → Nat) × (Nat → Nat) × (Nat → Nat) × Nat × Nat × Option Nat × Nat
def bT (B : Bk) : List (Nat × Nat) := B.1
def bS (B : Bk) : List Sess := B.2.1
def bB (B : Bk) : Nat → Nat := B.2.2.1
def bW (B : Bk) : Nat → Nat := B.2.2.2.1
def bG (B : Bk) : Nat → Nat := B.2.2.2.2.1
def bD (B : Bk) : Nat := B.2.2.2.2.2.1
def bI9 (B : Bk) : Nat := B.2.2.2.2.2.2.1
def bP (B : Bk) : Option Nat := B.2.2.2.2.2.2.2.1
def bE (B : Bk) : Nat := B.2.2.2.2.2.2.2.2
def psum (g : Nat → Nat) : Nat → Nat
  | 0 => 0
  | k + 1 => psum g k + g k
theorem psum_congr {g h : Nat → Nat} {k : Nat} (e : ∀ j, j < k → g j = h j) : psum g k = psum h k := by
  induction k with
  | zero => rfl
  | succ k ih => simp only [psum]; rw [ih (fun j hj => e j (by omega)), e k (by omega)]
theorem psum_le {g : Nat → Nat} {c k : Nat} (e : ∀ j, j < k → g j ≤ c) : psum g k ≤ c * k := by
  induction k with
  | zero => simp [psum]
  | succ k ih =>
    have h1 := ih (fun j hj => e j (by omega))
    have h2 := e k (by omega)
    simp only [psum, Nat.mul_succ]
    omega
theorem psum_mono {g h : Nat → Nat} {k : Nat} (e : ∀ j, j < k → g j ≤ h j) : psum g k ≤ psum h k := by
  induction k with
  | zero => exact Nat.le_refl _
  | succ k ih =>
    have h1 := ih (fun j hj => e j (by omega))
    have h2 := e k (by omega)
    simp only [psum]
    omega
theorem psum_up {g : Nat → Nat} {j k : Nat} (h : j ≤ k) : psum g j ≤ psum g k := by
  induction k with
  | zero => rw [Nat.le_zero.mp h]; exact Nat.le_refl _
  | succ k ih =>
    rcases Nat.lt_or_ge j (k + 1) with h1 | h1
    · have := ih (by omega); simp only [psum]; omega
    · rw [show j = k + 1 by omega]; exact Nat.le_refl _
/-- a session's parts -/
def sId (x : Sess) : Nat := x.1
def sDay (x : Sess) : Nat := x.2.1
def nP (x : Sess) : Nat := x.2.2.length
def pMin (x : Sess) (p : Nat) : Nat := (x.2.2.getD p (0, 0)).1
def pInt (x : Sess) (p : Nat) : Nat := (x.2.2.getD p (0, 0)).2
def minOf (x : Sess) : Nat := psum (pMin x) (nP x)
def sN (B : Bk) : Nat := (bS B).length
def sAt (B : Bk) (k : Nat) : Sess := (bS B).getD k (0, 0, [])
def tN (B : Bk) : Nat := (bT B).length
def tDay (B : Bk) (k : Nat) : Nat := ((bT B).getD k (0, 0)).1
def tThr (B : Bk) (k : Nat) : Nat := ((bT B).getD k (0, 0)).2
/-- the threshold of a day: a walk over tests, the latest first test's day plus one and its threshold -/
def thrW (B : Bk) (d : Nat) : Nat → Nat × Nat
  | 0 => (0, 200)
  | k + 1 => if tDay B k ≤ d ∧ (thrW B d k).1 ≤ tDay B k then (tDay B k + 1, tThr B k) else thrW B d k
def thr (B : Bk) (d : Nat) : Nat := (thrW B d (tN B)).2
def zoneW (b : Nat → Nat) (pc : Nat) : Nat → Nat
  | 0 => 1
  | z + 1 => if b (z + 2) ≤ pc then z + 2 else zoneW b pc z
/-- the zone of a percentage -/
def zoneB (b : Nat → Nat) (pc : Nat) : Nat := zoneW b pc 4
def zoneX (B : Bk) (d i : Nat) : Nat := zoneB (bB B) (100 * i / thr B d)
def zoneP (B : Bk) (x : Sess) (p : Nat) : Nat := zoneX B (sDay x) (pInt x p)
def zMin (B : Bk) (x : Sess) (z : Nat) : Nat := psum (fun p => if zoneP B x p = z then pMin x p else 0) (nP x)
def loadS (B : Bk) (x : Sess) : Nat := psum (fun p => pMin x p * bW B (zoneP B x p)) (nP x)
def loadD (B : Bk) (d : Nat) : Nat := psum (fun k => if sDay (sAt B k) = d then loadS B (sAt B k) else 0) (sN B)
/-- what has decayed after so many days -/
def decay (b : Nat) (ld : Nat → Nat) : Nat → Int32
  | 0 => 0
  | d + 1 => decay b ld d + (nI (1000 * ld d) - decay b ld d) / nI b
/-- the ranges, and what is in order -/
def InvS (B : Bk) (x : Sess) : Prop := sId x < bI9 B ∧ sDay x ≤ bD B ∧ nP x ≤ 8 ∧ minOf x ≤ 240 ∧ ∀ p, p < nP x → 1 ≤ pMin x p ∧ pMin x p ≤ 120 ∧ pInt x p ≤ 500
def Inv (B : Bk) : Prop := tN B ≤ 10 ∧ sN B ≤ 40 ∧ bD B ≤ 199 ∧ bI9 B ≤ 1000000 ∧ bE B ≤ 28 ∧ (∀ z, 2 ≤ z → z ≤ 5 → 1 ≤ bB B z ∧ bB B z ≤ 300) ∧ (∀ z, 2 ≤ z → z ≤ 4 → bB B z < bB B (z + 1)) ∧ (∀ z, 1 ≤ z → z ≤ 5 → bW B z ≤ 100) ∧ (∀ j, j < bE B → bG B j ≤ 20000)
  ∧ (∀ k, k < tN B → tDay B k ≤ bD B ∧ 50 ≤ tThr B k ∧ tThr B k ≤ 400) ∧ (∀ j k, j < tN B → k < tN B → tDay B j = tDay B k → j = k)
  ∧ (∀ k, k < sN B → InvS B (sAt B k)) ∧ (∀ j k, j < sN B → k < sN B → sId (sAt B j) = sId (sAt B k) → j = k)
  ∧ (∀ d, bP B = some d → d ≤ bD B) ∧ (bP B = none → bE B = 0)
theorem iv_tN {B : Bk} (h : Inv B) : tN B ≤ 10 := h.1
theorem iv_sN {B : Bk} (h : Inv B) : sN B ≤ 40 := h.2.1
theorem iv_bD {B : Bk} (h : Inv B) : bD B ≤ 199 := h.2.2.1
theorem iv_id {B : Bk} (h : Inv B) : bI9 B ≤ 1000000 := h.2.2.2.1
theorem iv_bE {B : Bk} (h : Inv B) : bE B ≤ 28 := h.2.2.2.2.1
theorem iv_bB {B : Bk} (h : Inv B) {z : Nat} (h1 : 2 ≤ z) (h2 : z ≤ 5) : 1 ≤ bB B z ∧ bB B z ≤ 300 := h.2.2.2.2.2.1 z h1 h2
theorem iv_up {B : Bk} (h : Inv B) {z : Nat} (h1 : 2 ≤ z) (h2 : z ≤ 4) : bB B z < bB B (z + 1) := h.2.2.2.2.2.2.1 z h1 h2
theorem iv_bW {B : Bk} (h : Inv B) {z : Nat} (h1 : 1 ≤ z) (h2 : z ≤ 5) : bW B z ≤ 100 := h.2.2.2.2.2.2.2.1 z h1 h2
theorem iv_bG {B : Bk} (h : Inv B) {j : Nat} (h1 : j < bE B) : bG B j ≤ 20000 := h.2.2.2.2.2.2.2.2.1 j h1
theorem iv_tst {B : Bk} (h : Inv B) {k : Nat} (h1 : k < tN B) : tDay B k ≤ bD B ∧ 50 ≤ tThr B k ∧ tThr B k ≤ 400 := h.2.2.2.2.2.2.2.2.2.1 k h1
theorem iv_tinj {B : Bk} (h : Inv B) {j k : Nat} (h1 : j < tN B) (h2 : k < tN B) (h3 : tDay B j = tDay B k) : j = k := h.2.2.2.2.2.2.2.2.2.2.1 j k h1 h2 h3
theorem iv_ses {B : Bk} (h : Inv B) {k : Nat} (h1 : k < sN B) : InvS B (sAt B k) := h.2.2.2.2.2.2.2.2.2.2.2.1 k h1
theorem iv_sinj {B : Bk} (h : Inv B) {j k : Nat} (h1 : j < sN B) (h2 : k < sN B) (h3 : sId (sAt B j) = sId (sAt B k)) : j = k := h.2.2.2.2.2.2.2.2.2.2.2.2.1 j k h1 h2 h3
theorem iv_pl {B : Bk} (h : Inv B) {d : Nat} (h1 : bP B = some d) : d ≤ bD B := h.2.2.2.2.2.2.2.2.2.2.2.2.2.1 d h1
theorem iv_pn {B : Bk} (h : Inv B) (h1 : bP B = none) : bE B = 0 := h.2.2.2.2.2.2.2.2.2.2.2.2.2.2 h1
theorem thrW_ok {B : Bk} (h : Inv B) (d : Nat) : ∀ k, k ≤ tN B → 50 ≤ (thrW B d k).2 ∧ (thrW B d k).2 ≤ 400 ∧ (thrW B d k).1 ≤ 200
  | 0, _ => by simp [thrW]
  | k + 1, hk => by
    have h1 := thrW_ok h d k (by omega)
    have h2 := iv_tst h (k := k) (by omega)
    have h3 := iv_bD h
    simp only [thrW]
    split
    · exact ⟨h2.2.1, h2.2.2, by dsimp only; omega⟩
    · exact h1
theorem thr_ok {B : Bk} (h : Inv B) (d : Nat) : 50 ≤ thr B d ∧ thr B d ≤ 400 := ⟨(thrW_ok h d _ (Nat.le_refl _)).1, (thrW_ok h d _ (Nat.le_refl _)).2.1⟩
theorem zoneW_ok (b : Nat → Nat) (pc : Nat) : ∀ k, 1 ≤ zoneW b pc k ∧ zoneW b pc k ≤ k + 1
  | 0 => by simp [zoneW]
  | k + 1 => by
    have h1 := zoneW_ok b pc k
    simp only [zoneW]
    split <;> omega
theorem zoneX_ok (B : Bk) (d i : Nat) : 1 ≤ zoneX B d i ∧ zoneX B d i ≤ 5 := zoneW_ok _ _ 4
theorem zoneP_ok (B : Bk) (x : Sess) (p : Nat) : 1 ≤ zoneP B x p ∧ zoneP B x p ≤ 5 := zoneX_ok _ _ _
theorem minOf_up {x : Sess} {p : Nat} (h : p ≤ nP x) : psum (pMin x) p ≤ minOf x := psum_up h
theorem zMin_le (B : Bk) (x : Sess) (z : Nat) {p : Nat} (h : p ≤ nP x) : psum (fun p => if zoneP B x p = z then pMin x p else 0) p ≤ minOf x := Nat.le_trans (psum_mono (h := pMin x) (fun j _ => by split <;> omega)) (minOf_up h)
theorem loadS_le' {B : Bk} (h : Inv B) (x : Sess) {p : Nat} (hp : p ≤ nP x) : psum (fun p => pMin x p * bW B (zoneP B x p)) p ≤ 100 * minOf x := by
  refine Nat.le_trans ?_ (Nat.mul_le_mul_left 100 (minOf_up hp))
  clear hp
  induction p with
  | zero => simp [psum]
  | succ p ih =>
    have hz := zoneP_ok B x p
    have hw := iv_bW h hz.1 hz.2
    have := Nat.mul_le_mul_left (pMin x p) hw
    simp only [psum, Nat.mul_add]
    omega
theorem loadS_le {B : Bk} (h : Inv B) {x : Sess} (hx : InvS B x) : loadS B x ≤ 24000 := Nat.le_trans (loadS_le' h x (Nat.le_refl _)) (by have := hx.2.2.2.1; omega)
theorem loadD_le' {B : Bk} (h : Inv B) (d : Nat) {k : Nat} (hk : k ≤ sN B) : psum (fun k => if sDay (sAt B k) = d then loadS B (sAt B k) else 0) k ≤ 24000 * k := psum_le (fun j hj => by split; exact loadS_le h (iv_ses h (by omega)); omega)
theorem loadD_le {B : Bk} (h : Inv B) (d : Nat) : loadD B d ≤ 960000 := Nat.le_trans (loadD_le' h d (Nat.le_refl _)) (by have := iv_sN h; omega)
/-- found by its id (none: not there) among the first so many -/
def PL (B : Bk) (id : Int32) (i : Nat) : Option Nat → Prop
  | none => ∀ k, k < i → ¬ nI (sId (sAt B k)) = id
  | some k => k < i ∧ nI (sId (sAt B k)) = id
def PT (B : Bk) (d : Int32) (i : Nat) : Option Nat → Prop
  | none => ∀ k, k < i → ¬ nI (tDay B k) = d
  | some k => k < i ∧ nI (tDay B k) = d
theorem PL_yes {B id i} (h : nI (sId (sAt B i)) = id) : PL B id (i + 1) (some i) := ⟨by omega, h⟩
theorem PL_no {B id i o} (h : ¬ nI (sId (sAt B i)) = id) (ho : PL B id i o) : PL B id (i + 1) o := by
  cases o with
  | none => exact fun k hk => (Nat.lt_succ_iff_lt_or_eq.mp hk).elim (ho k) (fun e => e ▸ h)
  | some k => exact ⟨by have := ho.1; omega, ho.2⟩
theorem PT_yes {B d i} (h : nI (tDay B i) = d) : PT B d (i + 1) (some i) := ⟨by omega, h⟩
theorem PT_no {B d i o} (h : ¬ nI (tDay B i) = d) (ho : PT B d i o) : PT B d (i + 1) o := by
  cases o with
  | none => exact fun k hk => (Nat.lt_succ_iff_lt_or_eq.mp hk).elim (ho k) (fun e => e ▸ h)
  | some k => exact ⟨by have := ho.1; omega, ho.2⟩
theorem thrW_no {B d k} (h : ¬ (tDay B k ≤ d ∧ (thrW B d k).1 ≤ tDay B k)) : thrW B d (k + 1) = thrW B d k := by simp only [thrW]; rw [if_neg h]
theorem thrW_yes {B d k} (h : tDay B k ≤ d ∧ (thrW B d k).1 ≤ tDay B k) : thrW B d (k + 1) = (tDay B k + 1, tThr B k) := by simp only [thrW]; rw [if_pos h]
/-- what a session adds to the zones' minutes, its first n parts -/
def zAdd (zf : Nat → Int32) (B : Bk) (x : Sess) (n : Nat) : Nat → Int32 := fun z => zf z + nI (psum (fun p => if zoneP B x p = z then pMin x p else 0) n)
def zz : Nat → Int32 := fun _ => 0
theorem zAdd_0 (zf : Nat → Int32) (B : Bk) (x : Sess) : zAdd zf B x 0 = zf := by
  funext z
  show zf z + nI 0 = zf z
  exact Int32.add_zero _
theorem zAdd_s (zf : Nat → Int32) (B : Bk) (x : Sess) (i : Nat) : upd (zAdd zf B x i) (zoneP B x i) (zAdd zf B x i (zoneP B x i) + nI (pMin x i)) = zAdd zf B x (i + 1) := by
  funext z
  by_cases h : z = zoneP B x i
  · subst h
    rw [pk_us]
    show zf _ + nI _ + nI _ = zf _ + nI _
    simp only [psum, if_true]
    rw [Int32.add_assoc, nadd rfl]
  · rw [pk_un h]
    show zf z + nI _ = zf z + nI _
    simp only [psum]
    rw [if_neg (Ne.symm h), Nat.add_zero]
theorem zAdd_zz (B : Bk) (x : Sess) (z : Nat) : zAdd zz B x (nP x) z = nI (zMin B x z) := by
  show (0 : Int32) + nI _ = nI _
  exact Int32.zero_add _
theorem psum_add (g h : Nat → Nat) (k : Nat) : psum (fun j => g j + h j) k = psum g k + psum h k := by
  induction k with
  | zero => rfl
  | succ k ih => simp only [psum, ih]; omega
theorem psum_zero (k : Nat) : psum (fun _ => 0) k = 0 := by
  induction k with
  | zero => rfl
  | succ k ih => simp only [psum, ih]
def zW (B : Bk) (x : Sess) (j : Nat) : Nat := zMin B x (j + 1) * bW B (j + 1)
/-- the zones' minutes times weights are the load -/
theorem zsum_load (B : Bk) (x : Sess) : psum (zW B x) 5 = loadS B x := by
  unfold zW zMin loadS
  generalize nP x = m
  induction m with
  | zero => simp [psum]
  | succ m ih =>
    simp only [psum] at ih ⊢
    rw [← ih]
    have hz := zoneP_ok B x m
    have h5 : zoneP B x m = 1 ∨ zoneP B x m = 2 ∨ zoneP B x m = 3 ∨ zoneP B x m = 4 ∨ zoneP B x m = 5 := by omega
    rcases h5 with h | h | h | h | h <;> simp only [h] <;> simp <;> simp only [Nat.add_mul] <;> omega
/-- how many stand ahead of the k-th, by days and ids -/
noncomputable def rk (B : Bk) (k : Nat) : Nat → Nat
  | 0 => 0
  | j + 1 => rk B k j + (if sDay (sAt B j) < sDay (sAt B k) ∨ (sDay (sAt B j) = sDay (sAt B k) ∧ sId (sAt B j) < sId (sAt B k)) then 1 else 0)
theorem rk_le (B : Bk) (k : Nat) : ∀ j, rk B k j ≤ j
  | 0 => Nat.le_refl _
  | j + 1 => by have := rk_le B k j; simp only [rk]; split <;> omega
theorem rk_yes {B : Bk} {k j : Nat} (h : sDay (sAt B j) < sDay (sAt B k) ∨ (sDay (sAt B j) = sDay (sAt B k) ∧ sId (sAt B j) < sId (sAt B k))) : rk B k (j + 1) = rk B k j + 1 := by simp only [rk]; rw [if_pos h]
theorem rk_no {B : Bk} {k j : Nat} (h : ¬ (sDay (sAt B j) < sDay (sAt B k) ∨ (sDay (sAt B j) = sDay (sAt B k) ∧ sId (sAt B j) < sId (sAt B k)))) : rk B k (j + 1) = rk B k j := by simp only [rk]; rw [if_neg h]; rfl
def PR (B : Bk) (pos : Nat) (i : Nat) : Option Nat → Prop
  | none => ∀ k, k < i → rk B k (sN B) ≠ pos
  | some k => k < i ∧ rk B k (sN B) = pos
def ldF (B : Bk) : Nat → Int32 := fun d => nI (loadD B d)
/-- the loads of the first k sessions -/
def ldW (B : Bk) (k : Nat) : Nat → Int32 := fun d => nI (psum (fun k => if sDay (sAt B k) = d then loadS B (sAt B k) else 0) k)
theorem ldW_s (B : Bk) (k : Nat) : upd (ldW B k) (sDay (sAt B k)) (ldW B k (sDay (sAt B k)) + nI (loadS B (sAt B k))) = ldW B (k + 1) := by
  funext d
  by_cases h : d = sDay (sAt B k)
  · subst h
    rw [pk_us]
    show nI _ + nI _ = nI _
    simp only [psum, if_true]
    rw [nadd rfl]
  · rw [pk_un h]
    show nI _ = nI _
    simp only [psum]
    rw [if_neg (Ne.symm h), Nat.add_zero]
theorem loadD_out {B : Bk} (hI : Inv B) {d : Nat} (h : bD B < d) : loadD B d = 0 := by
  unfold loadD
  rw [psum_congr (h := fun _ => 0) (fun k hk => ?_), psum_zero]
  have := (iv_ses hI hk).2.1
  rw [if_neg (by omega)]
/-! THE MODEL'S ROW of ints, of a state (its sessions and tests in the row's own order) -/
def MR (f : Nat → Int32) (B : Bk) : Prop := f 0 = nI (bD B) ∧ f 1 = nI (bI9 B) ∧ f 2 = nI (sN B) ∧ f 3 = nI (tN B) ∧ f 4 = (match bP B with | none => nI 0 | some _ => nI 1) ∧ (∀ d, bP B = some d → f 5 = nI d) ∧ f 6 = nI (bE B)
  ∧ (∀ z, 2 ≤ z → z ≤ 5 → f (8 + z) = nI (bB B z)) ∧ (∀ z, 1 ≤ z → z ≤ 5 → f (14 + z) = nI (bW B z)) ∧ (∀ k, k < tN B → f (2 * k + 20) = nI (tDay B k) ∧ f (2 * k + 21) = nI (tThr B k)) ∧ (∀ j, j < bE B → f (j + 40) = nI (bG B j))
  ∧ ∀ k, k < sN B → f (19 * k + 70) = nI (sId (sAt B k)) ∧ f (19 * k + 71) = nI (sDay (sAt B k)) ∧ f (19 * k + 72) = nI (nP (sAt B k)) ∧ ∀ p, p < nP (sAt B k) → f (19 * k + p + 73) = nI (pMin (sAt B k) p) ∧ f (19 * k + p + 81) = nI (pInt (sAt B k) p)
theorem MR.today {f B} (h : MR f B) : f 0 = nI (bD B) := h.1
theorem MR.next {f B} (h : MR f B) : f 1 = nI (bI9 B) := h.2.1
theorem MR.many {f B} (h : MR f B) : f 2 = nI (sN B) := h.2.2.1
theorem MR.tested {f B} (h : MR f B) : f 3 = nI (tN B) := h.2.2.2.1
theorem MR.planned {f B} (h : MR f B) : f 4 = (match bP B with | none => nI 0 | some _ => nI 1) := h.2.2.2.2.1
theorem MR.begun {f B} (h : MR f B) {d : Nat} (hd : bP B = some d) : f 5 = nI d := h.2.2.2.2.2.1 d hd
theorem MR.ents {f B} (h : MR f B) : f 6 = nI (bE B) := h.2.2.2.2.2.2.1
theorem MR.bound {f B} (h : MR f B) {z : Nat} (h1 : 2 ≤ z) (h2 : z ≤ 5) : f (z + 8) = nI (bB B z) := by rw [Nat.add_comm]; exact h.2.2.2.2.2.2.2.1 z h1 h2
theorem MR.weight {f B} (h : MR f B) {z : Nat} (h1 : 1 ≤ z) (h2 : z ≤ 5) : f (z + 14) = nI (bW B z) := by rw [Nat.add_comm]; exact h.2.2.2.2.2.2.2.2.1 z h1 h2
theorem MR.tday {f B} (h : MR f B) {k : Nat} (hk : k < tN B) : f (2 * k + 20) = nI (tDay B k) := (h.2.2.2.2.2.2.2.2.2.1 k hk).1
theorem MR.tthr {f B} (h : MR f B) {k : Nat} (hk : k < tN B) : f (2 * k + 21) = nI (tThr B k) := (h.2.2.2.2.2.2.2.2.2.1 k hk).2
theorem MR.target {f B} (h : MR f B) {j : Nat} (hj : j < bE B) : f (j + 40) = nI (bG B j) := h.2.2.2.2.2.2.2.2.2.2.1 j hj
theorem MR.sid {f B} (h : MR f B) {k : Nat} (hk : k < sN B) : f (19 * k + 70) = nI (sId (sAt B k)) := (h.2.2.2.2.2.2.2.2.2.2.2 k hk).1
theorem MR.sday {f B} (h : MR f B) {k : Nat} (hk : k < sN B) : f (19 * k + 71) = nI (sDay (sAt B k)) := (h.2.2.2.2.2.2.2.2.2.2.2 k hk).2.1
theorem MR.snp {f B} (h : MR f B) {k : Nat} (hk : k < sN B) : f (19 * k + 72) = nI (nP (sAt B k)) := (h.2.2.2.2.2.2.2.2.2.2.2 k hk).2.2.1
theorem MR.smin {f B} (h : MR f B) {k p : Nat} (hk : k < sN B) (hp : p < nP (sAt B k)) : f (19 * k + p + 73) = nI (pMin (sAt B k) p) := ((h.2.2.2.2.2.2.2.2.2.2.2 k hk).2.2.2 p hp).1
theorem MR.sint {f B} (h : MR f B) {k p : Nat} (hk : k < sN B) (hp : p < nP (sAt B k)) : f (19 * k + p + 81) = nI (pInt (sAt B k) p) := ((h.2.2.2.2.2.2.2.2.2.2.2 k hk).2.2.2 p hp).2
/-! further words of the model's methods -/
def nS : Option Nat → Int32
  | none => nI 1
  | some _ => nI 0
def imax (a b : Int32) : Int32 := if a < b then b else a
def imin (a b : Int32) : Int32 := if b < a then b else a
theorem imax_n {a b : Nat} (ha : a < 2 ^ 31) (hb : b < 2 ^ 31) : imax (nI a) (nI b) = nI (max a b) := by
  unfold imax
  by_cases h : a < b
  · rw [if_pos ((nI_ltI ha hb).mpr h), Nat.max_eq_right (by omega)]
  · rw [if_neg (fun z => h ((nI_ltI ha hb).mp z)), Nat.max_eq_left (by omega)]
theorem imin_n {a b : Nat} (ha : a < 2 ^ 31) (hb : b < 2 ^ 31) : imin (nI a) (nI b) = nI (min a b) := by
  unfold imin
  by_cases h : b < a
  · rw [if_pos ((nI_ltI hb ha).mpr h), Nat.min_eq_right (by omega)]
  · rw [if_neg (fun z => h ((nI_ltI hb ha).mp z)), Nat.min_eq_left (by omega)]
def formS (B : Bk) (d : Nat) : Int32 := decay 42 (loadD B) d - decay 7 (loadD B) d
def rowS (B : Bk) (a n : Nat) : Nat := psum (fun j => loadD B (a + j)) n
/-- the first best row of n days, starts up to i -/
def bestW (B : Bk) (n : Nat) : Nat → Nat
  | 0 => 0
  | d + 1 => if rowS B (bestW B n d) n < rowS B (d + 1) n then d + 1 else bestW B n d
theorem bestW_le (B : Bk) (n : Nat) : ∀ i, bestW B n i ≤ i
  | 0 => Nat.le_refl _
  | d + 1 => by have := bestW_le B n d; simp only [bestW]; split <;> omega
theorem rowS_le {B : Bk} (h : Inv B) (a : Nat) {n : Nat} (hn : n ≤ 200) {m : Nat} (hm : m ≤ n) : psum (fun j => loadD B (a + j)) m ≤ 960000 * 200 := Nat.le_trans (psum_le (c := 960000) (fun j _ => loadD_le h _)) (by omega)
/-! minute by minute, the records, the plan's course, the week's signs -/
def pAtW (x : Sess) (m : Nat) : Nat → Nat
  | 0 => 0
  | q + 1 => if psum (pMin x) (q + 1) ≤ m then q + 1 else pAtW x m q
/-- the intensity of a minute -/
def iAt (x : Sess) (m : Nat) : Nat := pInt x (pAtW x m (nP x))
theorem pAtW_eq {x : Sess} {m p : Nat} (h1 : psum (pMin x) p ≤ m) (h2 : m < psum (pMin x) (p + 1)) : ∀ n, p ≤ n → pAtW x m n = p
  | 0, h => by simp only [pAtW]; omega
  | n + 1, h => by
    simp only [pAtW]
    rcases Nat.lt_or_ge n p with g | g
    · have : n + 1 = p := by omega
      rw [this, if_pos h1]
    · have := psum_up (g := pMin x) (show p + 1 ≤ n + 1 by omega)
      rw [if_neg (by omega)]
      exact pAtW_eq h1 h2 n g
theorem iAt_eq {x : Sess} {m p : Nat} (hp : p ≤ nP x) (h1 : psum (pMin x) p ≤ m) (h2 : m < psum (pMin x) (p + 1)) : iAt x m = pInt x p := by unfold iAt; rw [pAtW_eq h1 h2 _ hp]
/-- the sum of the last n of m minutes -/
def eS (x : Sess) (n m : Nat) : Nat := psum (iAt x) m - psum (iAt x) (m - n)
/-- the best sum of n minutes among the first m, plus one; none: 0 -/
def eB (x : Sess) (n : Nat) : Nat → Nat
  | 0 => 0
  | m + 1 => if n ≤ m + 1 then max (eB x n m) (eS x n (m + 1) + 1) else eB x n m
def effS (x : Sess) (n : Nat) : Nat := eB x n (minOf x)
theorem eS_s (x : Sess) {n m : Nat} (hn : 1 ≤ n) : nI (eS x n m) + (nI (iAt x m) - nI (if m < n then 0 else iAt x (m - n))) = nI (eS x n (m + 1)) := by
  unfold eS
  have h1 : psum (iAt x) (m - n) ≤ psum (iAt x) m := psum_up (by omega)
  have h2 : psum (iAt x) (m + 1 - n) ≤ psum (iAt x) (m + 1) := psum_up (by omega)
  rw [← pk_sub h1, ← pk_sub h2]
  have h3 : psum (iAt x) (m + 1) = psum (iAt x) m + iAt x m := rfl
  have h4 : psum (iAt x) (m + 1 - n) = psum (iAt x) (m - n) + (if m < n then 0 else iAt x (m - n)) := by
    by_cases h : m < n
    · rw [if_pos h, show m + 1 - n = 0 by omega, show m - n = 0 by omega]; rfl
    · rw [if_neg h, show m + 1 - n = (m - n) + 1 by omega]; rfl
  rw [h3, h4, ← nI_add, ← nI_add]
  generalize nI (psum (iAt x) m) = a
  generalize nI (psum (iAt x) (m - n)) = b
  generalize nI (iAt x m) = c
  generalize nI (if m < n then 0 else iAt x (m - n)) = d
  grind
theorem imax_l {a b : Nat} (ha : a < 2 ^ 31) (hb : b < 2 ^ 30) : imax (lI a) (nI b) = lI (max a (b + 1)) := by
  unfold imax
  by_cases h : a ≤ b
  · rw [if_pos ((lI_gt (by omega) ha).mpr h), Nat.max_eq_right (by omega), lI_1]
  · rw [if_neg (fun z => h ((lI_gt (by omega) ha).mp z)), Nat.max_eq_left (by omega)]
def lt (x y : Sess) : Prop := sDay x < sDay y ∨ (sDay x = sDay y ∧ sId x < sId y)
theorem rk_mono {B : Bk} {j k : Nat} (h : lt (sAt B j) (sAt B k)) : ∀ n, rk B j n ≤ rk B k n ∧ (j < n → rk B j n < rk B k n)
  | 0 => ⟨Nat.le_refl _, fun h => absurd h (by omega)⟩
  | n + 1 => by
    obtain ⟨h1, h2⟩ := rk_mono h n
    have hT : ∀ {i}, lt (sAt B i) (sAt B j) → lt (sAt B i) (sAt B k) := by
      intro i hi; unfold lt at *; omega
    have hN : ¬ lt (sAt B j) (sAt B j) := by unfold lt; omega
    by_cases g : lt (sAt B n) (sAt B j)
    · rw [rk_yes (k := j) g, rk_yes (k := k) (hT g)]
      refine ⟨by omega, fun hj => ?_⟩
      rcases Nat.lt_or_ge j n with q | q
      · have := h2 q; omega
      · rw [show n = j by omega] at g; exact absurd g hN
    · have h3 : rk B k n ≤ rk B k (n + 1) := by simp only [rk]; omega
      rw [rk_no (k := j) g]
      refine ⟨by omega, fun hj => ?_⟩
      rcases Nat.lt_or_ge j n with q | q
      · have := h2 q; omega
      · have e : n = j := by omega
        subst e
        rw [rk_yes (k := k) h]
        omega
theorem rk_inj {B : Bk} (hI : Inv B) {j k : Nat} (hj : j < sN B) (hk : k < sN B) (h : rk B j (sN B) = rk B k (sN B)) : j = k := by
  rcases Nat.lt_trichotomy (sDay (sAt B j)) (sDay (sAt B k)) with a | a | a
  · have := (rk_mono (j := j) (k := k) (Or.inl a) (sN B)).2 hj; omega
  · rcases Nat.lt_trichotomy (sId (sAt B j)) (sId (sAt B k)) with b | b | b
    · have := (rk_mono (j := j) (k := k) (Or.inr ⟨a, b⟩) (sN B)).2 hj; omega
    · exact iv_sinj hI hj hk b
    · have := (rk_mono (j := k) (k := j) (Or.inr ⟨a.symm, b⟩) (sN B)).2 hk; omega
  · have := (rk_mono (j := k) (k := j) (Or.inl a) (sN B)).2 hk; omega
/-- every rank is somebody's -/
def RkOk (B : Bk) : Prop := ∀ q, q < sN B → ∃ k, k < sN B ∧ rk B k (sN B) = q
/-- the strongest among the first r in order -/
def ST (B : Bk) (n r : Nat) : Option Nat → Prop
  | none => ∀ k, k < sN B → rk B k (sN B) < r → effS (sAt B k) n = 0
  | some k => k < sN B ∧ rk B k (sN B) < r ∧ 0 < effS (sAt B k) n ∧ ∀ j, j < sN B → rk B j (sN B) < r → effS (sAt B j) n ≤ effS (sAt B k) n ∧ (rk B j (sN B) < rk B k (sN B) → effS (sAt B j) n < effS (sAt B k) n)
theorem ST_keep {B n r o k} (hI : Inv B) (hk : k < sN B) (hr : rk B k (sN B) = r) (h : ST B n r o) (he : match o with | none => effS (sAt B k) n = 0 | some b => effS (sAt B k) n ≤ effS (sAt B b) n) : ST B n (r + 1) o := by
  have key : ∀ j, j < sN B → rk B j (sN B) < r + 1 → rk B j (sN B) < r ∨ j = k := fun j hj h1 => by
    rcases Nat.lt_or_ge (rk B j (sN B)) r with g | g
    · exact Or.inl g
    · exact Or.inr (rk_inj hI hj hk (by omega))
  cases o with
  | none =>
    intro j hj h1
    rcases key j hj h1 with g | g
    · exact h j hj g
    · rw [g]; exact he
  | some b =>
    obtain ⟨h1, h2, h3, h4⟩ := h
    refine ⟨h1, by omega, h3, fun j hj h5 => ?_⟩
    rcases key j hj h5 with g | g
    · exact h4 j hj g
    · rw [g]; exact ⟨he, fun z => absurd z (by omega)⟩
theorem ST_new {B n r o k} (hI : Inv B) (hk : k < sN B) (hr : rk B k (sN B) = r) (h : ST B n r o) (h0 : 0 < effS (sAt B k) n) (he : match o with | none => True | some b => effS (sAt B b) n < effS (sAt B k) n) : ST B n (r + 1) (some k) := by
  refine ⟨hk, by omega, h0, fun j hj h5 => ?_⟩
  have key : rk B j (sN B) < r ∨ j = k := by
    rcases Nat.lt_or_ge (rk B j (sN B)) r with g | g
    · exact Or.inl g
    · exact Or.inr (rk_inj hI hj hk (by omega))
  rcases key with g | g
  · cases o with
    | none => have := h j hj g; exact ⟨by omega, fun _ => by omega⟩
    | some b => have := (h.2.2.2 j hj g).1; dsimp only at he; exact ⟨by omega, fun _ => by omega⟩
  · rw [g]; exact ⟨Nat.le_refl _, fun z => absurd z (by omega)⟩
/-- one day of a plan: due, missed, dropped, tries -/
def crS (B : Bk) (d : Nat) (c : Nat × Nat × Nat × Nat) : Nat × Nat × Nat × Nat :=
  if c.1 < bE B then
    (if 2 * loadD B d < bG B c.1 then
      (if c.2.2.2 + 1 = 3 then (c.1 + 1, c.2.1 + 1, c.2.2.1 + 1, 0) else (c.1, c.2.1 + 1, c.2.2.1, c.2.2.2 + 1))
     else (c.1 + 1, c.2.1, c.2.2.1, 0))
  else c
def crW (B : Bk) (d0 : Nat) : Nat → Nat × Nat × Nat × Nat
  | 0 => (0, 0, 0, 0)
  | k + 1 => crS B (d0 + k) (crW B d0 k)
/-- the course of the plan up to the day before today: due, missed, dropped, tries -/
def crs (B : Bk) : Nat × Nat × Nat × Nat := match bP B with | none => (0, 0, 0, 0) | some d0 => crW B d0 (bD B - d0)
theorem crW_ok (B : Bk) (d0 : Nat) : ∀ k, (crW B d0 k).1 ≤ bE B ∧ (crW B d0 k).2.1 ≤ k ∧ (crW B d0 k).2.2.1 ≤ k ∧ (crW B d0 k).2.2.2 < 3
  | 0 => by simp [crW]
  | k + 1 => by
    obtain ⟨h1, h2, h3, h4⟩ := crW_ok B d0 k
    simp only [crW, crS]
    split
    · split
      · split
        · exact ⟨by dsimp only; omega, by dsimp only; omega, by dsimp only; omega, by dsimp only; omega⟩
        · exact ⟨by dsimp only; omega, by dsimp only; omega, by dsimp only; omega, by dsimp only; omega⟩
      · exact ⟨by dsimp only; omega, by dsimp only; omega, by dsimp only; omega, by dsimp only; omega⟩
    · exact ⟨h1, by omega, by omega, h4⟩
theorem crW_stop {B : Bk} {d0 i : Nat} (h : bE B ≤ (crW B d0 i).1) : ∀ k, crW B d0 (i + k) = crW B d0 i
  | 0 => rfl
  | k + 1 => by
    have := crW_stop h k
    show crS B (d0 + (i + k)) (crW B d0 (i + k)) = _
    rw [this]
    unfold crS
    rw [if_neg (by omega)]
/-- the zones' minutes of a day's sessions, the first k -/
def zDk (B : Bk) (d k z : Nat) : Nat := psum (fun k => if sDay (sAt B k) = d then zMin B (sAt B k) z else 0) k
def zDF (B : Bk) (d k : Nat) : Nat → Int32 := fun z => nI (zDk B d k z)
theorem zDF_yes {B : Bk} {d k : Nat} (h : sDay (sAt B k) = d) : zAdd (zDF B d k) B (sAt B k) (nP (sAt B k)) = zDF B d (k + 1) := by
  funext z
  show nI _ + nI _ = nI _
  rw [nadd (c := zDk B d (k + 1) z)]
  show zDk B d k z + zMin B (sAt B k) z = psum _ (k + 1)
  simp only [psum]
  rw [if_pos h]
  rfl
theorem zDF_no {B : Bk} {d k : Nat} (h : ¬ sDay (sAt B k) = d) : zDF B d k = zDF B d (k + 1) := by
  funext z
  show nI _ = nI _
  congr 1
  show zDk B d k z = psum _ (k + 1)
  simp only [psum]
  rw [if_neg h]
  rfl
def zbW (Z : Nat → Nat) : Nat → Nat
  | 0 => 1
  | j + 1 => if Z (zbW Z j) < Z (j + 2) then j + 2 else zbW Z j
theorem zbW_ok (Z : Nat → Nat) : ∀ j, 1 ≤ zbW Z j ∧ zbW Z j ≤ j + 1
  | 0 => by simp [zbW]
  | j + 1 => by have := zbW_ok Z j; simp only [zbW]; split <;> omega
def nDk (B : Bk) (d k : Nat) : Nat := psum (fun k => if sDay (sAt B k) = d then 1 else 0) k
def aDk (B : Bk) (d k : Nat) : Nat := psum (fun k => if sDay (sAt B k) = d then nP (sAt B k) else 0) k
/-- the sign of a day -/
def signS (B : Bk) (d : Nat) : Nat := if bD B < d then 45 else if nDk B d (sN B) = 0 then 46 else if aDk B d (sN B) = 0 then 48 else 48 + zbW (zDk B d (sN B)) 4
theorem signS_lt (B : Bk) (d : Nat) : signS B d < 65536 := by
  have := zbW_ok (zDk B d (sN B)) 4
  unfold signS
  split
  · omega
  · split
    · omega
    · split <;> omega
theorem zDk_le {B : Bk} (hI : Inv B) (d z : Nat) {k : Nat} (hk : k ≤ sN B) : zDk B d k z ≤ 240 * k := psum_le (fun j hj => by
  have h1 := (iv_ses hI (show j < sN B by omega)).2.2.2.1
  have h2 := zMin_le B (sAt B j) z (Nat.le_refl _)
  split
  · exact Nat.le_trans h2 h1
  · omega)
theorem nDk_le (B : Bk) (d k : Nat) : nDk B d k ≤ 1 * k := psum_le (fun j _ => by split <;> omega)
theorem aDk_le {B : Bk} (hI : Inv B) (d : Nat) {k : Nat} (hk : k ≤ sN B) : aDk B d k ≤ 8 * k := psum_le (fun j hj => by
  have h1 := (iv_ses hI (show j < sN B by omega)).2.2.1
  split <;> omega)
theorem pInt_le {B : Bk} (hI : Inv B) {k : Nat} (hk : k < sN B) (p : Nat) : pInt (sAt B k) p ≤ 500 := by
  rcases Nat.lt_or_ge p (nP (sAt B k)) with h | h
  · exact ((iv_ses hI hk).2.2.2.2 p h).2.2
  · unfold pInt
    have : (sAt B k).2.2.getD p (0, 0) = (0, 0) := by rw [List.getD_eq_getElem?_getD, List.getElem?_eq_none h]; rfl
    rw [this]
    omega
theorem eS_le {B : Bk} (hI : Inv B) {k : Nat} (hk : k < sN B) (n m : Nat) : eS (sAt B k) n m ≤ 500 * m := Nat.le_trans (Nat.sub_le _ _) (psum_le (fun j _ => pInt_le hI hk _))
theorem eB_le {B : Bk} (hI : Inv B) {k : Nat} (hk : k < sN B) (n : Nat) : ∀ m, eB (sAt B k) n m ≤ 500 * m + 1
  | 0 => by simp [eB]
  | m + 1 => by
    have h1 := eB_le hI hk n m
    have h2 := eS_le hI hk n (m + 1)
    simp only [eB]
    split
    · exact Nat.max_le.mpr ⟨by omega, by omega⟩
    · omega
theorem effS_le {B : Bk} (hI : Inv B) {k : Nat} (hk : k < sN B) (n : Nat) : effS (sAt B k) n ≤ 120001 := Nat.le_trans (eB_le hI hk n _) (by have := (iv_ses hI hk).2.2.2.1; omega)
def gI (B : Bk) : Int32 := match bP B with | none => nI 0 | some _ => if (crs B).1 < bE B then nI 1 else nI 0
theorem psum_s (g : Nat → Nat) (k : Nat) : psum g (k + 1) = psum g k + g k := rfl
def tI (c : Nat) : Int32 := if c = 0 then nI 0 else nI 1
