/-! tokens of a row of bytes -/
def hrB (bt : Nat → Nat) (n k : Nat) : Nat := if k < n then bt k else 256
abbrev isLe (c : Nat) : Prop := 97 ≤ c ∧ c ≤ 122
abbrev isDi (c : Nat) : Prop := 48 ≤ c ∧ c ≤ 57
abbrev isSg (c : Nat) : Prop := c = 61 ∨ c = 43 ∨ c = 42 ∨ c = 45 ∨ c = 94 ∨ c = 40 ∨ c = 41 ∨ c = 59
abbrev isBl (c : Nat) : Prop := c = 32 ∨ c = 10
def rnF (P : Nat → Bool) : Nat → Nat → Nat
  | 0, _ => 0
  | f + 1, k => if P k then rnF P f (k + 1) + 1 else 0
/-- how many from k on are so -/
def rn (P : Nat → Bool) (n k : Nat) : Nat := rnF P (n - k) k
theorem rnF_le (P : Nat → Bool) : ∀ f k, rnF P f k ≤ f := by
  intro f
  induction f with
  | zero => intro k; exact Nat.le_refl _
  | succ f ih => intro k; unfold rnF; split; have := ih (k + 1); omega; omega
theorem rnF_in (P : Nat → Bool) : ∀ f k i, i < rnF P f k → P (k + i) = true := by
  intro f
  induction f with
  | zero => intro k i h; exact absurd h (Nat.not_lt_zero _)
  | succ f ih =>
    intro k i h
    unfold rnF at h
    split at h
    · rename_i g
      cases i with
      | zero => exact g
      | succ i => have := ih (k + 1) i (by omega); rw [show k + (i + 1) = k + 1 + i by omega]; exact this
    · omega
theorem rnF_out (P : Nat → Bool) : ∀ f k, rnF P f k < f → P (k + rnF P f k) = false := by
  intro f
  induction f with
  | zero => intro k h; exact absurd h (Nat.not_lt_zero _)
  | succ f ih =>
    intro k h
    unfold rnF at h ⊢
    split
    · rename_i g
      rw [if_pos g] at h
      have := ih (k + 1) (by omega)
      rw [show k + (rnF P f (k + 1) + 1) = k + 1 + rnF P f (k + 1) by omega]
      exact this
    · rename_i g
      simpa using g
theorem rn_in {P : Nat → Bool} {n k i : Nat} (h : i < rn P n k) : P (k + i) = true := rnF_in P _ k i h
theorem rn_out {P : Nat → Bool} {n k : Nat} (hn : ∀ j, n ≤ j → P j = false) : P (k + rn P n k) = false := by
  by_cases h : rn P n k < n - k
  · exact rnF_out P _ k h
  · have := rnF_le P (n - k) k
    exact hn _ (by unfold rn at h ⊢; omega)
theorem rn_le {P : Nat → Bool} {n k : Nat} : rn P n k ≤ n - k := rnF_le P _ k
theorem rn_uniq {P : Nat → Bool} {n k m : Nat} (hn : ∀ j, n ≤ j → P j = false) (h1 : ∀ i, i < m → P (k + i) = true) (h2 : P (k + m) = false) : rn P n k = m := by
  rcases Nat.lt_trichotomy (rn P n k) m with q | q | q
  · have := h1 _ q
    rw [rn_out hn] at this
    exact absurd this (by decide)
  · exact q
  · have := rn_in q
    rw [h2] at this
    exact absurd this (by decide)
theorem rn_step {P : Nat → Bool} {n k : Nat} (hn : ∀ j, n ≤ j → P j = false) (h : P k = true) : rn P n k = rn P n (k + 1) + 1 := by
  refine rn_uniq hn (fun i hi => ?_) ?_
  · cases i with
    | zero => exact h
    | succ i => rw [show k + (i + 1) = k + 1 + i by omega]; exact rn_in (n := n) (by omega)
  · rw [show k + (rn P n (k + 1) + 1) = k + 1 + rn P n (k + 1) by omega]; exact rn_out hn
theorem rn_stop {P : Nat → Bool} {n k : Nat} (h : P k = false) : rn P n k = 0 := by
  unfold rn
  cases n - k with
  | zero => rfl
  | succ f => unfold rnF; rw [h]; rfl
def pB (bt : Nat → Nat) (n : Nat) : Nat → Bool := fun k => decide (isBl (hrB bt n k))
def pL (bt : Nat → Nat) (n : Nat) : Nat → Bool := fun k => decide (isLe (hrB bt n k))
def pD (bt : Nat → Nat) (n : Nat) : Nat → Bool := fun k => decide (isDi (hrB bt n k))
theorem pB_n {bt : Nat → Nat} {n : Nat} : ∀ j, n ≤ j → pB bt n j = false := fun j h => by unfold pB hrB; rw [if_neg (by omega)]; decide
theorem pL_n {bt : Nat → Nat} {n : Nat} : ∀ j, n ≤ j → pL bt n j = false := fun j h => by unfold pL hrB; rw [if_neg (by omega)]; decide
theorem pD_n {bt : Nat → Nat} {n : Nat} : ∀ j, n ≤ j → pD bt n j = false := fun j h => by unfold pD hrB; rw [if_neg (by omega)]; decide
/-- where the next token begins; how many letters, digits it has; its sort, its end -/
def tkP (bt : Nat → Nat) (n p : Nat) : Nat := p + rn (pB bt n) n p
def tkM (bt : Nat → Nat) (n p : Nat) : Nat := rn (pL bt n) n (tkP bt n p)
def tkD (bt : Nat → Nat) (n p : Nat) : Nat := rn (pD bt n) n (tkP bt n p)
def tkC (bt : Nat → Nat) (n p : Nat) : Nat := hrB bt n (tkP bt n p)
def tkS (bt : Nat → Nat) (n p : Nat) : Nat := if tkC bt n p = 256 then 0 else if isLe (tkC bt n p) then (if 6 < tkM bt n p then 4 else 1) else if isDi (tkC bt n p) then (if 3 < tkD bt n p ∨ isLe (hrB bt n (tkP bt n p + tkD bt n p)) then 4 else 2) else if isSg (tkC bt n p) then 3 else 4
def tkE (bt : Nat → Nat) (n p : Nat) : Nat := tkP bt n p + if tkC bt n p = 256 then 0 else if isLe (tkC bt n p) then tkM bt n p else if isDi (tkC bt n p) then tkD bt n p else 1
def decR (bt : Nat → Nat) (q : Nat) : Nat → Nat
  | 0 => 0
  | m + 1 => 10 * decR bt q m + (bt (q + m) - 48)
def encR (bt : Nat → Nat) (q : Nat) : Nat → Nat
  | 0 => 0
  | m + 1 => encR bt q m * 256 + bt (q + m)
def tkV (bt : Nat → Nat) (n p : Nat) : Nat := if tkS bt n p = 2 then decR bt (tkP bt n p) (tkD bt n p) else tkC bt n p
def tkW (bt : Nat → Nat) (n p : Nat) : List Nat := (List.range (tkM bt n p)).map (fun i => bt (tkP bt n p + i))
theorem tkP_le {bt : Nat → Nat} {n p : Nat} (hp : p ≤ n) : tkP bt n p ≤ n := by have := rn_le (P := pB bt n) (n := n) (k := p); unfold tkP; omega
theorem hrB_lt {bt : Nat → Nat} {n k : Nat} (h : hrB bt n k ≠ 256) : k < n := by
  apply Classical.byContradiction
  intro q
  exact h (if_neg q)
theorem tkE_le {bt : Nat → Nat} {n p : Nat} (hp : p ≤ n) : tkE bt n p ≤ n := by
  have h1 := tkP_le (bt := bt) hp
  unfold tkE
  split
  · omega
  · rename_i h
    have h2 := hrB_lt h
    split
    · have := rn_le (P := pL bt n) (n := n) (k := tkP bt n p); unfold tkM; omega
    · split
      · have := rn_le (P := pD bt n) (n := n) (k := tkP bt n p); unfold tkD; omega
      · omega
/-- a token that is there takes some -/
theorem tkE_gt {bt : Nat → Nat} {n p : Nat} (h : tkS bt n p ≠ 0) : p < tkE bt n p := by
  unfold tkS at h
  unfold tkE
  have h0 : p ≤ tkP bt n p := Nat.le_add_right _ _
  split
  · rename_i q; rw [if_pos q] at h; exact absurd rfl h
  · split
    · rename_i g
      have : pL bt n (tkP bt n p) = true := by unfold pL; exact decide_eq_true g
      have := rn_step (k := tkP bt n p) pL_n this
      unfold tkM; omega
    · split
      · rename_i g
        have : pD bt n (tkP bt n p) = true := by unfold pD; exact decide_eq_true g
        have := rn_step (k := tkP bt n p) pD_n this
        unfold tkD; omega
      · omega
theorem encR_lt {bt : Nat → Nat} (hb : ∀ k, bt k < 256) (q : Nat) : ∀ m, encR bt q m < 256 ^ m := by
  intro m
  induction m with
  | zero => simp [encR]
  | succ m ih => unfold encR; have := hb (q + m); rw [Nat.pow_succ]; omega
theorem decR_lt {bt : Nat → Nat} {q : Nat} : ∀ m, (∀ i, i < m → isDi (bt (q + i))) → decR bt q m < 10 ^ m := by
  intro m
  induction m with
  | zero => intro _; simp [decR]
  | succ m ih => intro h; unfold decR; have h1 := ih (fun i hi => h i (by omega)); have h2 := h m (by omega); rw [Nat.pow_succ]; omega
theorem x_shl8 {a b : Nat} (ha : a < 2 ^ 48) (hb : b < 256) : (lN a) <<< ((8 : Int32).toInt64 &&& 63) ||| lN b = lN (a * 256 + b) := by
  apply Int64.toBitVec_inj.mp
  have e8 : ((8 : Int32).toInt64 &&& 63) = 8 := by decide
  rw [e8, Int64.toBitVec_or, Int64.toBitVec_shiftLeft]
  have s8 : ((8 : Int64).toBitVec.smod 64) = 8#64 := by decide
  rw [s8]
  apply BitVec.eq_of_toNat_eq
  have h1 : ∀ m : Nat, m < 2 ^ 63 → (lN m).toBitVec.toNat = m := by
    intro m hm
    show (BitVec.ofNat 64 m).toNat = m
    rw [BitVec.toNat_ofNat]
    exact Nat.mod_eq_of_lt (by omega)
  rw [BitVec.toNat_or, BitVec.shiftLeft_eq', BitVec.toNat_shiftLeft, h1 a (by omega), h1 b (by omega), h1 _ (by omega)]
  have e : (8#64 : BitVec 64).toNat = 8 := rfl
  rw [e, Nat.shiftLeft_eq, Nat.mod_eq_of_lt (by omega), Nat.mul_comm a, ← Nat.two_pow_add_eq_or_of_lt (i := 8) (by omega) a]
