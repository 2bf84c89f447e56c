/-! sets as bits of naturals; their ints -/
theorem x_and (a b : Nat) : nI a &&& nI b = nI (a &&& b) := by
  apply Int32.toBitVec_inj.1
  show BitVec.ofNat 32 a &&& BitVec.ofNat 32 b = BitVec.ofNat 32 (a &&& b)
  apply BitVec.eq_of_getLsbD_eq
  intro i hi
  simp [hi]
theorem x_or (a b : Nat) : nI a ||| nI b = nI (a ||| b) := by
  apply Int32.toBitVec_inj.1
  show BitVec.ofNat 32 a ||| BitVec.ofNat 32 b = BitVec.ofNat 32 (a ||| b)
  apply BitVec.eq_of_getLsbD_eq
  intro i hi
  simp [hi]
theorem x_xor (a b : Nat) : nI a ^^^ nI b = nI (a ^^^ b) := by
  apply Int32.toBitVec_inj.1
  show BitVec.ofNat 32 a ^^^ BitVec.ofNat 32 b = BitVec.ofNat 32 (a ^^^ b)
  apply BitVec.eq_of_getLsbD_eq
  intro i hi
  simp [hi]
theorem x_inj {a b : Nat} (ha : a < 2 ^ 32) (hb : b < 2 ^ 32) : nI a = nI b ↔ a = b := by
  constructor
  · intro h
    have h1 := congrArg (fun x => x.toBitVec.toNat) h
    simp only [pk_tn ha, pk_tn hb] at h1
    exact h1
  · rintro rfl; rfl
theorem x_smod : ∀ k, k < 32 → ((nI k &&& 31).toBitVec.smod 32).toNat = k := by decide +kernel
theorem x_shl {a k : Nat} (hk : k < 32) (h : a * 2 ^ k < 2 ^ 32) : nI a <<< (nI k &&& 31) = nI (a * 2 ^ k) := pk_shlN _ k (x_smod k hk) h
theorem x_shl1 {k : Nat} (hk : k < 32) : (1 : Int32) <<< (nI k &&& 31) = nI (2 ^ k) := by
  have h : 1 * 2 ^ k < 2 ^ 32 := by rw [Nat.one_mul]; exact Nat.pow_lt_pow_right (by omega) hk
  have := x_shl (a := 1) hk h
  rwa [Nat.one_mul] at this
theorem x_bit {s k : Nat} (hs : s < 2 ^ 31) (hk : k < 31) : tBit (nI s) (nI k) ↔ s.testBit k = true := by
  show (nI s >>> (nI k &&& 31)) &&& 1 = 1 ↔ _
  rw [pk_shrN hs _ k (x_smod k (by omega)), show (1 : Int32) = nI 1 from rfl, x_and, Nat.and_one_is_mod]
  rw [x_inj (Nat.lt_of_lt_of_le (Nat.mod_lt _ (by omega)) (by decide)) (by decide), Nat.testBit_eq_decide_div_mod_eq]
  simp
theorem x_orbit {s k : Nat} (hk : k < 32) : nI s ||| ((1 : Int32) <<< (nI k &&& 31)) = nI (s ||| 2 ^ k) := by rw [x_shl1 hk, x_or]
theorem x_sub {a b : Nat} (ha : a < 2 ^ 31) : nI a &&& (nI b ^^^ (-1)) = 0 ↔ ∀ i, a.testBit i = true → b.testBit i = true := by
  rw [show (-1 : Int32) = nI 4294967295 from rfl, x_xor, x_and, show (0 : Int32) = nI 0 from rfl, x_inj (Nat.lt_of_le_of_lt Nat.and_le_left (by omega)) (by decide)]
  constructor
  · intro h i hi
    have h1 := congrArg (fun x => x.testBit i) h
    have hi32 : i < 32 := by
      apply Classical.byContradiction
      intro hn
      rw [Nat.testBit_lt_two_pow (Nat.lt_of_lt_of_le ha (Nat.pow_le_pow_right (by omega) (by omega)))] at hi
      cases hi
    simp only [Nat.testBit_and, Nat.testBit_xor, hi, show (4294967295 : Nat) = 2 ^ 32 - 1 from rfl, Nat.testBit_two_pow_sub_one, hi32, Nat.zero_testBit] at h1
    simpa using h1
  · intro h
    apply Nat.eq_of_testBit_eq
    intro i
    simp only [Nat.testBit_and, Nat.testBit_xor, show (4294967295 : Nat) = 2 ^ 32 - 1 from rfl, Nat.testBit_two_pow_sub_one, Nat.zero_testBit]
    by_cases hi : a.testBit i = true
    · have hi32 : i < 32 := by
        apply Classical.byContradiction
        intro hn
        rw [Nat.testBit_lt_two_pow (Nat.lt_of_lt_of_le ha (Nat.pow_le_pow_right (by omega) (by omega)))] at hi
        cases hi
      simp [h i hi, hi32]
    · simp [hi]
/-- how many of the first n bits -/
def pop : Nat → Nat → Nat
  | 0, _ => 0
  | n + 1, s => pop n s + (if s.testBit n then 1 else 0)
theorem pop_le (n s : Nat) : pop n s ≤ n := by
  induction n with
  | zero => exact Nat.le_refl _
  | succ n ih => unfold pop; split <;> omega
theorem x_onesR {s : Nat} (hs : s < 2 ^ 31) : ∀ k, k ≤ 31 → tOnesR (nI s) k = nI (pop k s) := by
  intro k
  induction k with
  | zero => intro _; rfl
  | succ k ih =>
    intro hk
    unfold tOnesR pop
    rw [ih (by omega), pk_shrN hs _ k (x_smod k (by omega)), show (1 : Int32) = nI 1 from rfl, x_and, Nat.and_one_is_mod, nI_add]
    congr 2
    rw [Nat.testBit_eq_decide_div_mod_eq]
    rcases Nat.mod_two_eq_zero_or_one (s / 2 ^ k) with h | h <;> simp [h]
theorem x_ones {s : Nat} (hs : s < 2 ^ 31) : tOnes (nI s) = nI (pop 31 s) := x_onesR hs 31 (Nat.le_refl _)
/-- the set of what f makes of the x below i that p takes -/
def imS (p : Nat → Bool) (f : Nat → Nat) : Nat → Nat
  | 0 => 0
  | i + 1 => if p i then imS p f i ||| 2 ^ f i else imS p f i
theorem imS_bit (p : Nat → Bool) (f : Nat → Nat) (i k : Nat) : (imS p f i).testBit k = true ↔ ∃ x, x < i ∧ p x = true ∧ f x = k := by
  induction i with
  | zero => simp [imS]
  | succ i ih =>
    unfold imS
    by_cases hp : p i = true
    · rw [if_pos hp, Nat.testBit_or, Bool.or_eq_true, ih, Nat.testBit_two_pow, decide_eq_true_eq]
      constructor
      · rintro (⟨x, h1, h2, h3⟩ | h)
        · exact ⟨x, by omega, h2, h3⟩
        · exact ⟨i, by omega, hp, h⟩
      · rintro ⟨x, h1, h2, h3⟩
        by_cases hx : x = i
        · subst hx; exact Or.inr h3
        · exact Or.inl ⟨x, by omega, h2, h3⟩
    · rw [if_neg hp, ih]
      constructor
      · rintro ⟨x, h1, h2, h3⟩
        exact ⟨x, by omega, h2, h3⟩
      · rintro ⟨x, h1, h2, h3⟩
        refine ⟨x, ?_, h2, h3⟩
        by_cases hx : x = i
        · subst hx; exact absurd h2 hp
        · omega
theorem imS_lt {p : Nat → Bool} {f : Nat → Nat} {n i : Nat} (hf : ∀ x, x < i → p x = true → f x < n) : imS p f i < 2 ^ n := by
  apply Nat.lt_pow_two_of_testBit
  intro k hk
  apply Classical.byContradiction
  intro h
  have h1 : (imS p f i).testBit k = true := by simpa using h
  obtain ⟨x, h2, h3, h4⟩ := (imS_bit p f i k).mp h1
  have := hf x h2 h3
  omega
theorem bit_lt {s n k : Nat} (hs : s < 2 ^ n) (h : s.testBit k = true) : k < n := by
  apply Classical.byContradiction
  intro hk
  rw [Nat.testBit_lt_two_pow (Nat.lt_of_lt_of_le hs (Nat.pow_le_pow_right (by omega) (by omega)))] at h
  cases h
theorem bits_ext {a b : Nat} (h : ∀ k, a.testBit k = true ↔ b.testBit k = true) : a = b := by
  apply Nat.eq_of_testBit_eq
  intro k
  have := h k
  cases ha : a.testBit k <;> cases hb : b.testBit k <;> simp_all
/-- a loop that counts up -/
theorem loopUp {N : Nat} {P : Nat → Prop} (hN : P N) (hs : ∀ i, i < N → P (i + 1) → P i) : ∀ i, i ≤ N → P i := by
  intro i hi
  have : ∀ k i, i + k = N → P i := by
    intro k
    induction k with
    | zero => intro i h; rw [show i = N by omega]; exact hN
    | succ k ih => intro i h; exact hs i (by omega) (ih (i + 1) (by omega))
  exact this (N - i) i (by omega)
/-- a loop that counts down to 0 -/
theorem loopDown {P : Nat → Prop} (h0 : P 0) (hs : ∀ i, P i → P (i + 1)) : ∀ i, P i := by
  intro i
  induction i with
  | zero => exact h0
  | succ i ih => exact hs i ih
theorem vpI {n N : Nat} (h : n < N) (hN : N < 2 ^ 31 := by decide) : vp_in (nI n) N := vp_in_nI h hN
