/-! sums: numbers of sorts, marks -/
def sumR (f : Nat → Int64) : Nat → Int64
  | 0 => 0
  | n + 1 => sumR f n + f n
theorem sumR_congr {f g : Nat → Int64} : ∀ {n : Nat}, (∀ i, i < n → f i = g i) → sumR f n = sumR g n := by
  intro n
  induction n with
  | zero => intro _; rfl
  | succ n ih => intro h; unfold sumR; rw [ih (fun i hi => h i (by omega)), h n (by omega)]
def kL (m : Nat) : Int64 := (nI m).toInt64
def mkAt (S : Nat) (mk : Nat → Nat → Nat) (row : Nat → Int64) (j : Nat) : Int64 := sumR (fun i => row i * kL (mk i j)) S
abbrev inL (v : Int64) : Prop := (-1000000000000 : Int64) ≤ v ∧ v ≤ (1000000000000 : Int64)
def fitS (S : Nat) (mk : Nat → Nat → Nat) (row : Nat → Int64) : Prop := (∀ i, i < S → inL (row i)) ∧ ∀ j, j < S → inL (mkAt S mk row j)
theorem mkAt_congr {S : Nat} {mk : Nat → Nat → Nat} {r r' : Nat → Int64} {j : Nat} (h : ∀ i, i < S → r i = r' i) : mkAt S mk r j = mkAt S mk r' j := sumR_congr (fun i hi => by rw [h i hi])
theorem fitS_congr {S : Nat} {mk : Nat → Nat → Nat} {r r' : Nat → Int64} (h : ∀ i, i < S → r i = r' i) : fitS S mk r ↔ fitS S mk r' := by
  unfold fitS
  constructor
  · rintro ⟨h1, h2⟩; exact ⟨fun i hi => h i hi ▸ h1 i hi, fun j hj => mkAt_congr h ▸ h2 j hj⟩
  · rintro ⟨h1, h2⟩; exact ⟨fun i hi => (h i hi).symm ▸ h1 i hi, fun j hj => (mkAt_congr h).symm ▸ h2 j hj⟩
/-- numbers whose marks are told, from the last sort down -/
def isSlv (S : Nat) (mk : Nat → Nat → Nat) (a v : Nat → Int64) : Prop := ∀ j, j < S → v j = (a j - sumR (fun t => v (j + 1 + t) * kL (mk (j + 1 + t) j)) (S - (j + 1))) / kL (mk j j)
theorem isSlv_uniq {S : Nat} {mk : Nat → Nat → Nat} {a a' v v' : Nat → Int64} (ha : ∀ j, j < S → a j = a' j) (h : isSlv S mk a v) (h' : isSlv S mk a' v') : ∀ j, j < S → v j = v' j := by
  have : ∀ d j, j < S → S - j ≤ d → v j = v' j := by
    intro d
    induction d with
    | zero => intro j h1 h2; omega
    | succ d ih =>
      intro j h1 h2
      rw [h j h1, h' j h1, ha j h1]
      congr 2
      exact sumR_congr (fun t ht => by rw [ih _ (by omega) (by omega)])
  exact fun j hj => this _ j hj (Nat.le_refl _)
def slvR (S : Nat) (mk : Nat → Nat → Nat) (a : Nat → Int64) : Nat → Nat → Int64
  | 0 => fun _ => 0
  | k + 1 => va_up (slvR S mk a k) (S - (k + 1)) ((a (S - (k + 1)) - sumR (fun t => slvR S mk a k (S - (k + 1) + 1 + t) * kL (mk (S - (k + 1) + 1 + t) (S - (k + 1)))) k) / kL (mk (S - (k + 1)) (S - (k + 1))))
def slv (S : Nat) (mk : Nat → Nat → Nat) (a : Nat → Int64) : Nat → Int64 := slvR S mk a S
theorem slvR_ok {S : Nat} {mk : Nat → Nat → Nat} {a : Nat → Int64} : ∀ k, k ≤ S → ∀ j, j < S → S ≤ j + k → slvR S mk a k j = (a j - sumR (fun t => slvR S mk a k (j + 1 + t) * kL (mk (j + 1 + t) j)) (S - (j + 1))) / kL (mk j j) := by
  intro k
  induction k with
  | zero => intro h1 j h2 h3; omega
  | succ k ih =>
    intro h1 j h2 h3
    have hs : ∀ i, i ≠ S - (k + 1) → slvR S mk a (k + 1) i = slvR S mk a k i := fun i hi => up_ne hi
    by_cases e : j = S - (k + 1)
    · subst e
      have h4 : slvR S mk a (k + 1) (S - (k + 1)) = _ := up_self
      rw [h4]
      congr 2
      rw [show S - (S - (k + 1) + 1) = k by omega]
      exact sumR_congr (fun t ht => by rw [hs _ (by omega)])
    · rw [hs j e, ih (by omega) j h2 (by omega)]
      congr 2
      exact sumR_congr (fun t ht => by rw [hs _ (by omega)])
theorem slv_ok (S : Nat) (mk : Nat → Nat → Nat) (a : Nat → Int64) : isSlv S mk a (slv S mk a) := fun j hj => slvR_ok S (Nat.le_refl _) j hj (by omega)
theorem slv_congr {S : Nat} {mk : Nat → Nat → Nat} {a a' : Nat → Int64} (h : ∀ j, j < S → a j = a' j) {j : Nat} (hj : j < S) : slv S mk a j = slv S mk a' j := isSlv_uniq h (slv_ok S mk a) (slv_ok S mk a') j hj
theorem i64_subsub (x s y : Int64) : x - s - y = x - (s + y) := by
  apply Int64.toBitVec_inj.mp
  simp only [Int64.toBitVec_sub, Int64.toBitVec_add]
  generalize x.toBitVec = a
  generalize s.toBitVec = b
  generalize y.toBitVec = c
  rw [BitVec.sub_sub]
theorem i64_sub0 (x : Int64) : x - 0 = x := by simp
/-- too great a product -/
def bigP (a b : Int64) : Prop := 1000000000000 < a.toInt.natAbs * b.toInt.natAbs
def ab64 (a : Int64) : Int64 := if a < 0 then -a else a
theorem inL_iff {v : Int64} : inL v ↔ -1000000000000 ≤ v.toInt ∧ v.toInt ≤ 1000000000000 := by
  unfold inL
  rw [Int64.le_iff_toInt_le, Int64.le_iff_toInt_le]
  have h1 : (-1000000000000 : Int64).toInt = -1000000000000 := by decide
  have h2 : (1000000000000 : Int64).toInt = 1000000000000 := by decide
  rw [h1, h2]
theorem ab64_int {a : Int64} (h : inL a) : (ab64 a).toInt = a.toInt.natAbs := by
  rw [inL_iff] at h
  unfold ab64
  have h0 : (0 : Int64).toInt = 0 := by decide
  split
  · rename_i g
    rw [Int64.lt_iff_toInt_lt, h0] at g
    rw [Int64.toInt_neg]
    rw [show (-a.toInt).bmod (2 ^ 64) = -a.toInt from by rw [Int.bmod_eq_of_le (by omega) (by omega)]]
    omega
  · rename_i g
    rw [Int64.lt_iff_toInt_lt, h0] at g
    omega
theorem bigP_div {a b : Int64} (ha : inL a) (hb : inL b) : (0 < ab64 a ∧ (1000000000000 : Int64) / ab64 a < ab64 b) ↔ bigP a b := by
  have ea := ab64_int ha
  have eb := ab64_int hb
  rw [inL_iff] at ha hb
  rw [Int64.lt_iff_toInt_lt, Int64.lt_iff_toInt_lt, Int64.toInt_div, ea, eb]
  have h0 : (0 : Int64).toInt = 0 := by decide
  have h2 : (1000000000000 : Int64).toInt = 1000000000000 := by decide
  rw [h0, h2]
  unfold bigP
  generalize a.toInt.natAbs = x at *
  generalize b.toInt.natAbs = y at *
  have e : ((1000000000000 : Int).tdiv (x : Int)).bmod (2 ^ 64) = ((1000000000000 / x : Nat) : Int) := by
    rw [show (1000000000000 : Int) = ((1000000000000 : Nat) : Int) from rfl, ← Int.ofNat_tdiv]
    have : 1000000000000 / x ≤ 1000000000000 := Nat.div_le_self _ _
    generalize 1000000000000 / x = z at this ⊢
    exact Int.bmod_eq_of_le (by omega) (by omega)
  rw [e]
  constructor
  · rintro ⟨h1, h2⟩
    have h1' : 0 < x := by omega
    have h2' : 1000000000000 / x < y := by omega
    have := (Nat.div_lt_iff_lt_mul h1').mp h2'
    rw [Nat.mul_comm]; exact this
  · intro h
    have h1' : 0 < x := by
      rcases Nat.eq_zero_or_pos x with q | q
      · rw [q] at h; omega
      · exact q
    have h2' : 1000000000000 / x < y := (Nat.div_lt_iff_lt_mul h1').mpr (by rw [Nat.mul_comm]; exact h)
    exact ⟨by omega, by omega⟩
