/-! remainders; the static methods' contracts -/
theorem i64_rem (x y : Int64) : x - x / y * y = x % y := by
  apply Int64.toInt_inj.mp
  rw [Int64.toInt_mod, Int64.toInt_sub, Int64.toInt_mul, Int64.toInt_div, Int.sub_bmod_bmod, Int.sub_eq_add_neg, ← Int.neg_mul]
  have e : (x.toInt + -((x.toInt.tdiv y.toInt).bmod (2 ^ 64)) * y.toInt).bmod (2 ^ 64) = (x.toInt - x.toInt.tdiv y.toInt * y.toInt).bmod (2 ^ 64) := by
    rw [Int.neg_mul, ← Int.sub_eq_add_neg, ← Int.sub_bmod_bmod, Int.bmod_mul_bmod, Int.sub_bmod_bmod]
  rw [e]
  have h1 : x.toInt - x.toInt.tdiv y.toInt * y.toInt = x.toInt.tmod y.toInt := by
    have := Int.tmod_add_tdiv_mul x.toInt y.toInt
    omega
  rw [h1]
  rw [← Int64.toInt_mod]
  exact Int64.toInt_bmod _
theorem i32_rem (x y : Int32) : x - x / y * y = x % y := by
  apply Int32.toInt_inj.mp
  rw [Int32.toInt_mod, Int32.toInt_sub, Int32.toInt_mul, Int32.toInt_div, Int.sub_bmod_bmod, Int.sub_eq_add_neg, ← Int.neg_mul]
  have e : (x.toInt + -((x.toInt.tdiv y.toInt).bmod (2 ^ 32)) * y.toInt).bmod (2 ^ 32) = (x.toInt - x.toInt.tdiv y.toInt * y.toInt).bmod (2 ^ 32) := by
    rw [Int.neg_mul, ← Int.sub_eq_add_neg, ← Int.sub_bmod_bmod, Int.bmod_mul_bmod, Int.sub_bmod_bmod]
  rw [e]
  have h1 : x.toInt - x.toInt.tdiv y.toInt * y.toInt = x.toInt.tmod y.toInt := by
    have := Int.tmod_add_tdiv_mul x.toInt y.toInt
    omega
  rw [h1]
  rw [← Int32.toInt_mod]
  exact Int32.toInt_bmod _
def tOnesR (s : Int32) : Nat → Int32
  | 0 => 0
  | k + 1 => tOnesR s k + ((s >>> (nI k &&& 31)) &&& 1)
def tOnes (s : Int32) : Int32 := tOnesR s 31
def tGcdF : Nat → Int64 → Int64 → Int64
  | 0, x, _ => x
  | n + 1, x, y => if y = 0 then x else tGcdF n y (x % y)
def tGcd (a b : Int64) : Int64 := tGcdF (b.toInt.natAbs + 1) (if a < 0 then -a else a) b
theorem ct_isIn (v a b : Int64) : tMs mX6_isIn 0 [.long v, .long a, .long b] (.int (zI (a ≤ v ∧ v ≤ b))) := by
  refine en_isIn v a b _ (fun c hc => s_isIn_0 c v a b ?_)
  rw [hc, lg_cmp_lt, lg_cmp_gt]
  simp only [Value.int.injEq, zI, Int64.not_lt]
  grind
theorem ct_truth (x : Int32) : tMs mX6_truth 0 [.int x] (.int (zI (¬ x = 0))) := by
  refine en_truth x _ (fun c hc => s_truth_0 c x ?_)
  rw [hc]
  simp only [Value.int.injEq, zI]
  grind
theorem ct_holds (x y : Int32) : tMs mX6_holds 0 [.int x, .int y] (.int (zI (tBit x y))) := by
  refine en_holds x y _ (fun c hc => s_holds_0 c x y ?_)
  rw [hc]
  simp only [Value.int.injEq, zI]
  grind
theorem ct_isLetter (x : Int32) : tMs mX6_isLetter 0 [.int x] (.int (zI (tLet x))) := by
  refine en_isLetter x _ (fun c hc => s_isLetter_0 c x ?_)
  rw [hc]
  simp only [Value.int.injEq, zI, tLet, Int32.not_lt]
  grind
theorem ct_isDigit (x : Int32) : tMs mX6_isDigit 0 [.int x] (.int (zI (tDig x))) := by
  refine en_isDigit x _ (fun c hc => s_isDigit_0 c x ?_)
  rw [hc]
  simp only [Value.int.injEq, zI, tDig, Int32.not_lt]
  grind
theorem ct_isSign (x : Int32) : tMs mX6_isSign 0 [.int x] (.int (zI (tSgn x))) := by
  refine en_isSign x _ (fun c hc => s_isSign_0 c x ?_)
  rw [hc]
  simp only [Value.int.injEq, zI, tSgn]
  grind
theorem ct_isPrime (x : Int32) : tMs mX6_isPrime 0 [.int x] (.int (zI (x = 2 ∨ x = 3 ∨ x = 5))) := by
  refine en_isPrime x _ (fun c hc => s_isPrime_0 c x ?_)
  rw [hc]
  simp only [Value.int.injEq, zI]
  grind
theorem ct_ones (x : Int32) : tMs mX6_ones 0 [.int x] (.int (tOnes x)) := by
  refine en_ones x _ (fun c hc => s_ones_0 c x ?_)
  have key : ∀ n i, n + i = 31 → h_ones_4 c x (tOnesR x i) (nI i) := by
    intro n
    induction n with
    | zero =>
      intro i hi
      refine s_ones_4 c x _ _ ⟨fun _ => ?_, fun g => ?_⟩
      · rw [hc, show i = 31 by omega]; rfl
      · exact absurd (nI_le (a := 31) (b := i) (by omega) (by omega)) g
    | succ n ih =>
      intro i hi
      refine s_ones_4 c x _ _ ⟨fun g => absurd g (nI_ge (a := i) (b := 31) (by omega) (by omega)), fun g => ?_⟩
      rw [nI_1]
      exact ih (i + 1) (by omega)
  exact key 31 0 rfl
theorem i64_mod_abs (x y : Int64) (hy : ¬ y = 0) : (x % y).toInt.natAbs < y.toInt.natAbs := by
  rw [Int64.toInt_mod]
  have h : y.toInt ≠ 0 := fun h => hy (Int64.toInt_inj.mp h)
  rw [Int.natAbs_tmod]
  exact Nat.mod_lt _ (by omega)
theorem ct_divisor (a b : Int64) : tMs mX6_divisor 0 [.long a, .long b] (.long (tGcd a b)) := by
  refine en_divisor a b _ (fun c hc => s_divisor_0 c a b ?_)
  have key : ∀ n x y, y.toInt.natAbs < n → Value.long (tGcdF n x y) = c.2.2.2.2.2 → h_divisor_17 c x y := by
    intro n
    induction n with
    | zero => intro x y h; omega
    | succ n ih =>
      intro x y h e
      refine s_divisor_17 c x y ?_
      rw [lg_cmp_eq]
      unfold tGcdF at e
      refine ⟨fun g => ?_, fun g => ⟨g, ?_⟩⟩
      · rw [if_pos g] at e; exact e
      · rw [if_neg g] at e
        rw [i64_rem]
        exact ih y (x % y) (by have := i64_mod_abs x y g; omega) e
  rw [lg_cmp_ge]
  refine ⟨fun g => key _ _ _ (Nat.lt_succ_self _) ?_, fun g => key _ _ _ (Nat.lt_succ_self _) ?_⟩
  · rw [hc, tGcd, if_neg (by rw [Int64.not_lt]; exact g)]
  · rw [hc, tGcd, if_pos (by rw [← Int64.not_le]; exact g)]
