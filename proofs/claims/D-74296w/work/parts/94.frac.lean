/-! fractions in lowest terms -/
def isQ (a b : Int64) (c : Int) (D : Nat) : Prop := 0 < b.toInt ∧ a.toInt * D = c * b.toInt ∧ Nat.gcd a.toInt.natAbs b.toInt.natAbs = 1
theorem isQ_nat {a b : Int64} {c : Int} {D : Nat} (h : isQ a b c D) : a.toInt.natAbs * D = c.natAbs * b.toInt.natAbs := by
  have := congrArg Int.natAbs h.2.1
  rw [Int.natAbs_mul, Int.natAbs_mul] at this
  exact this
theorem isQ_dvd {a b : Int64} {c : Int} {D : Nat} (h : isQ a b c D) : b.toInt.natAbs ∣ D := by
  have h1 := isQ_nat h
  have h2 : b.toInt.natAbs ∣ a.toInt.natAbs * D := ⟨c.natAbs, by rw [h1, Nat.mul_comm]⟩
  exact Nat.Coprime.dvd_of_dvd_mul_left (Nat.Coprime.symm h.2.2) h2
theorem isQ_b {a b : Int64} {c : Int} {D : Nat} (hD : 1 ≤ D) (h : isQ a b c D) : b.toInt ≤ D := by
  have := Nat.le_of_dvd (by omega) (isQ_dvd h)
  have := h.1
  omega
theorem isQ_a {a b : Int64} {c : Int} {D : Nat} (hD : 1 ≤ D) (h : isQ a b c D) : a.toInt.natAbs ≤ c.natAbs := by
  have h1 := isQ_nat h
  have h2 := Nat.le_of_dvd (by omega) (isQ_dvd h)
  have h3 : c.natAbs * b.toInt.natAbs ≤ c.natAbs * D := Nat.mul_le_mul_left _ h2
  rw [← h1] at h3
  exact Nat.le_of_mul_le_mul_right h3 (by omega)
theorem isQ_uniq {a b a' b' : Int64} {c : Int} {D : Nat} (hD : 1 ≤ D) (h : isQ a b c D) (h' : isQ a' b' c D) : a = a' ∧ b = b' := by
  have e1 := isQ_nat h
  have e2 := isQ_nat h'
  have cr : a.toInt * b'.toInt = a'.toInt * b.toInt := by
    have hD0 : (D : Int) ≠ 0 := by omega
    refine Int.eq_of_mul_eq_mul_right hD0 ?_
    calc a.toInt * b'.toInt * D = (a.toInt * D) * b'.toInt := by rw [Int.mul_assoc, Int.mul_comm b'.toInt, ← Int.mul_assoc]
      _ = (c * b.toInt) * b'.toInt := by rw [h.2.1]
      _ = (c * b'.toInt) * b.toInt := by rw [Int.mul_assoc, Int.mul_comm b.toInt, ← Int.mul_assoc]
      _ = (a'.toInt * D) * b.toInt := by rw [h'.2.1]
      _ = a'.toInt * b.toInt * D := by rw [Int.mul_assoc, Int.mul_comm (D : Int), ← Int.mul_assoc]
  have crN : a.toInt.natAbs * b'.toInt.natAbs = a'.toInt.natAbs * b.toInt.natAbs := by
    have := congrArg Int.natAbs cr
    rw [Int.natAbs_mul, Int.natAbs_mul] at this
    exact this
  have d1 : b.toInt.natAbs ∣ b'.toInt.natAbs := Nat.Coprime.dvd_of_dvd_mul_left (Nat.Coprime.symm h.2.2) ⟨a'.toInt.natAbs, by rw [crN, Nat.mul_comm]⟩
  have d2 : b'.toInt.natAbs ∣ b.toInt.natAbs := Nat.Coprime.dvd_of_dvd_mul_left (Nat.Coprime.symm h'.2.2) ⟨a.toInt.natAbs, by rw [← crN, Nat.mul_comm]⟩
  have eb : b.toInt = b'.toInt := by
    have := Nat.dvd_antisymm d1 d2
    have := h.1
    have := h'.1
    omega
  have ea : a.toInt = a'.toInt := by
    rw [eb] at cr
    exact Int.eq_of_mul_eq_mul_right (by have := h'.1; omega) cr
  exact ⟨Int64.toInt_inj.mp ea, Int64.toInt_inj.mp eb⟩
theorem bm64 {z : Int} (h1 : -4611686018427387904 ≤ z) (h2 : z ≤ 4611686018427387904) : z.bmod (2 ^ 64) = z := Int.bmod_eq_of_le (by omega) (by omega)
theorem i64_addI {a b : Int64} (h : (a.toInt + b.toInt).natAbs ≤ 4611686018427387904) : (a + b).toInt = a.toInt + b.toInt := by
  rw [Int64.toInt_add]
  exact bm64 (by omega) (by omega)
theorem i64_mulI {a b : Int64} (h : (a.toInt * b.toInt).natAbs ≤ 4611686018427387904) : (a * b).toInt = a.toInt * b.toInt := by
  rw [Int64.toInt_mul]
  exact bm64 (by omega) (by omega)
theorem i64_negI {a : Int64} (h : a.toInt.natAbs ≤ 4611686018427387904) : (-a).toInt = -a.toInt := by
  rw [Int64.toInt_neg]
  exact bm64 (by omega) (by omega)
theorem gcdF_ok : ∀ n (x y : Int64), 0 ≤ x.toInt → 0 ≤ y.toInt → y.toInt.natAbs < n → (tGcdF n x y).toInt = (Nat.gcd x.toInt.natAbs y.toInt.natAbs : Nat) := by
  intro n
  induction n with
  | zero => intro x y _ _ h; omega
  | succ n ih =>
    intro x y hx hy h
    unfold tGcdF
    by_cases g : y = 0
    · rw [if_pos g, g]
      show x.toInt = (Nat.gcd x.toInt.natAbs (0 : Int64).toInt.natAbs : Nat)
      rw [show (0 : Int64).toInt.natAbs = 0 from by decide, Nat.gcd_zero_right]
      omega
    · rw [if_neg g]
      have ha := i64_mod_abs x y g
      have em : (x % y).toInt = ((x.toInt.natAbs % y.toInt.natAbs : Nat) : Int) := by
        obtain ⟨X, hX⟩ := Int.eq_ofNat_of_zero_le hx
        obtain ⟨Y, hY⟩ := Int.eq_ofNat_of_zero_le hy
        rw [Int64.toInt_mod, hX, hY, Int.natAbs_natCast, Int.natAbs_natCast]
        rfl
      have gc : ∀ X Y : Nat, Nat.gcd Y (X % Y) = Nat.gcd X Y := fun X Y => by rw [Nat.gcd_comm X Y, Nat.gcd_rec Y X, Nat.gcd_comm]
      rw [ih y (x % y) hy (by omega) (by omega), em, Int.natAbs_natCast, gc]
theorem gcd_ok {a b : Int64} (hb : 0 ≤ b.toInt) (ha : a.toInt.natAbs ≤ 4611686018427387904) : (tGcd a b).toInt = (Nat.gcd a.toInt.natAbs b.toInt.natAbs : Nat) := by
  unfold tGcd
  have e : (if a < 0 then -a else a).toInt = (a.toInt.natAbs : Nat) := by
    split
    · rename_i g
      rw [Int64.lt_iff_toInt_lt] at g
      have : (0 : Int64).toInt = 0 := by decide
      rw [i64_negI ha]
      omega
    · rename_i g
      rw [Int64.lt_iff_toInt_lt] at g
      have : (0 : Int64).toInt = 0 := by decide
      omega
  rw [gcdF_ok _ _ _ (by omega) hb (by omega), e, Int.natAbs_natCast]
theorem lowest_ok {up down : Int64} {c : Int} {D : Nat} (hd : 0 < down.toInt) (hu : up.toInt.natAbs ≤ 4611686018427387904) (hdl : down.toInt ≤ 4611686018427387904) (e : up.toInt * D = c * down.toInt) : ¬ tGcd up down = 0 ∧ isQ (up / tGcd up down) (down / tGcd up down) c D := by
  have hg := gcd_ok (a := up) (b := down) (by omega) hu
  have gp : 0 < Nat.gcd up.toInt.natAbs down.toInt.natAbs := Nat.gcd_pos_of_pos_right _ (by omega)
  have g1 : Nat.gcd up.toInt.natAbs down.toInt.natAbs ∣ up.toInt.natAbs := Nat.gcd_dvd_left _ _
  have g2 : Nat.gcd up.toInt.natAbs down.toInt.natAbs ∣ down.toInt.natAbs := Nat.gcd_dvd_right _ _
  have cop := Nat.coprime_div_gcd_div_gcd gp
  generalize tGcd up down = g at hg
  generalize hG : Nat.gcd up.toInt.natAbs down.toInt.natAbs = G at *
  have gz : ¬ g = 0 := fun q => by
    rw [q] at hg
    have : (0 : Int64).toInt = 0 := by decide
    omega
  have gn : g.toInt.natAbs = G := by omega
  have small : ∀ z : Int, z.natAbs ≤ 4611686018427387904 → (z.tdiv g.toInt).bmod (2 ^ 64) = z.tdiv g.toInt := fun z hz => by
    have h1 : (z.tdiv g.toInt).natAbs ≤ z.natAbs := by rw [Int.natAbs_tdiv]; exact Nat.div_le_self _ _
    exact bm64 (by omega) (by omega)
  have eu : (up / g).toInt = up.toInt.tdiv g.toInt := by rw [Int64.toInt_div]; exact small _ hu
  have ed : (down / g).toInt = down.toInt.tdiv g.toInt := by rw [Int64.toInt_div]; exact small _ (by omega)
  have du : g.toInt * up.toInt.tdiv g.toInt = up.toInt := Int.mul_tdiv_cancel' (Int.natAbs_dvd_natAbs.mp (by rw [gn]; exact g1))
  have dd : g.toInt * down.toInt.tdiv g.toInt = down.toInt := Int.mul_tdiv_cancel' (Int.natAbs_dvd_natAbs.mp (by rw [gn]; exact g2))
  refine ⟨gz, ?_, ?_, ?_⟩
  · rw [ed]
    refine Classical.byContradiction fun q => ?_
    have : g.toInt * down.toInt.tdiv g.toInt ≤ 0 := Int.mul_nonpos_of_nonneg_of_nonpos (by omega) (by omega)
    omega
  · rw [eu, ed]
    refine Int.eq_of_mul_eq_mul_left (a := g.toInt) (by omega) ?_
    rw [← Int.mul_assoc, du, e, Int.mul_left_comm g.toInt c, dd]
  · rw [eu, ed, Int.natAbs_tdiv, Int.natAbs_tdiv, gn]
    exact cop
theorem sum_ok {sa sb a b : Int64} {c1 c2 : Int} {D : Nat} (hD1 : 1 ≤ D) (hD : D ≤ 24) (h : isQ sa sb c1 D) (hb : 0 < b.toInt) (hb2 : b.toInt ≤ 24) (e : a.toInt * D = c2 * b.toInt) (m1 : c1.natAbs ≤ 10000000000000000) (m2 : a.toInt.natAbs ≤ 10000000000000000) :
    ¬ tGcd (sa * b + a * sb) (sb * b) = 0 ∧ isQ ((sa * b + a * sb) / tGcd (sa * b + a * sb) (sb * b)) ((sb * b) / tGcd (sa * b + a * sb) (sb * b)) (c1 + c2) D := by
  have q1 := isQ_a hD1 h
  have q2 := isQ_b hD1 h
  have q3 := h.1
  have n1 : (sa.toInt * b.toInt).natAbs ≤ 10000000000000000 * 24 := by
    rw [Int.natAbs_mul]
    exact Nat.mul_le_mul (by omega) (by omega)
  have n2 : (a.toInt * sb.toInt).natAbs ≤ 10000000000000000 * 24 := by
    rw [Int.natAbs_mul]
    exact Nat.mul_le_mul (by omega) (by omega)
  have n3 : (sb.toInt * b.toInt).natAbs ≤ 24 * 24 := by
    rw [Int.natAbs_mul]
    exact Nat.mul_le_mul (by omega) (by omega)
  have n4 : 0 < sb.toInt * b.toInt := Int.mul_pos q3 hb
  have e1 := i64_mulI (a := sa) (b := b) (by omega)
  have e2 := i64_mulI (a := a) (b := sb) (by omega)
  have e3 := i64_mulI (a := sb) (b := b) (by omega)
  have e4 : (sa * b + a * sb).toInt = sa.toInt * b.toInt + a.toInt * sb.toInt := by rw [i64_addI (by omega), e1, e2]
  refine lowest_ok (by omega) (by omega) (by omega) ?_
  rw [e4, e3, Int.add_mul, Int.add_mul]
  have t1 : sa.toInt * b.toInt * (D : Int) = c1 * (sb.toInt * b.toInt) := by
    rw [Int.mul_assoc, Int.mul_comm b.toInt, ← Int.mul_assoc, h.2.1, Int.mul_assoc]
  have t2 : a.toInt * sb.toInt * (D : Int) = c2 * (sb.toInt * b.toInt) := by
    rw [Int.mul_assoc, Int.mul_comm sb.toInt, ← Int.mul_assoc, e, Int.mul_assoc, Int.mul_comm b.toInt]
  rw [t1, t2]
def iSum (f : Nat → Int) : Nat → Int
  | 0 => 0
  | n + 1 => iSum f n + f n
/-- D times the row whose marks are 1 at j alone, for each j -/
def pkOk (S : Nat) (mk : Nat → Nat → Nat) (D : Nat) (C : Nat → Nat → Int) : Prop := 1 ≤ D ∧ D ≤ 24 ∧ (∀ i j, i < S → j < S → mk i j ≤ 24) ∧ ∀ j, j < S → (∀ k, k < S → (C j k).natAbs ≤ 4000000000000) ∧ ∀ k, k < S → C j k * mk k k + iSum (fun t => C j (k + 1 + t) * mk (k + 1 + t) k) (S - (k + 1)) = if k = j then (D : Int) else 0
