/-! a group as a table; what members make -/
def ss (a b : Nat) : Prop := ∀ k, a.testBit k = true → b.testBit k = true
theorem ss_rfl (a : Nat) : ss a a := fun _ h => h
theorem ss_trans {a b c : Nat} (h1 : ss a b) (h2 : ss b c) : ss a c := fun k h => h2 k (h1 k h)
theorem ss_antisymm {a b : Nat} (h1 : ss a b) (h2 : ss b a) : a = b := bits_ext fun k => ⟨h1 k, h2 k⟩
theorem ss_or {a b c : Nat} : ss (a ||| b) c ↔ ss a c ∧ ss b c := by
  constructor
  · intro h
    exact ⟨fun k hk => h k (by simp [hk]), fun k hk => h k (by simp [hk])⟩
  · rintro ⟨h1, h2⟩ k hk
    rw [Nat.testBit_or, Bool.or_eq_true] at hk
    rcases hk with h | h
    · exact h1 k h
    · exact h2 k h
theorem ss_orl (a b : Nat) : ss a (a ||| b) := fun k h => by simp [h]
theorem ss_orr (a b : Nat) : ss b (a ||| b) := fun k h => by simp [h]
theorem ss_bit {x s : Nat} : ss (2 ^ x) s ↔ s.testBit x = true := by
  constructor
  · intro h
    exact h x (by rw [Nat.testBit_two_pow]; simp)
  · intro h k hk
    rw [Nat.testBit_two_pow, decide_eq_true_eq] at hk
    subst hk
    exact h
theorem ss_le {a b : Nat} (h : ss a b) : a ≤ b := by
  have e : a ||| b = b := bits_ext fun k => by
    rw [Nat.testBit_or, Bool.or_eq_true]
    exact ⟨fun q => q.elim (h k) id, Or.inr⟩
  have := Nat.left_le_or (n := a) (m := b)
  rw [e] at this
  exact this
theorem or_lt {a b n : Nat} (ha : a < 2 ^ n) (hb : b < 2 ^ n) : a ||| b < 2 ^ n := Nat.or_lt_two_pow ha hb
theorem pow_lt {x n : Nat} (h : x < n) : 2 ^ x < 2 ^ n := Nat.pow_lt_pow_right (by omega) h
theorem lt_pow {s n m : Nat} (h : s < 2 ^ n) (hn : n ≤ m) : s < 2 ^ m := Nat.lt_of_lt_of_le h (Nat.pow_le_pow_right (by omega) hn)
def isG (n : Nat) (mul : Nat → Nat → Nat) (inv : Nat → Nat) : Prop := 1 ≤ n ∧ (∀ a b, a < n → b < n → mul a b < n) ∧ (∀ a b c, a < n → b < n → c < n → mul (mul a b) c = mul a (mul b c)) ∧ (∀ a, a < n → mul 0 a = a ∧ mul a 0 = a) ∧ ∀ a, a < n → inv a < n ∧ mul a (inv a) = 0 ∧ mul (inv a) a = 0
def clD (mul : Nat → Nat → Nat) (s : Nat) : Prop := ∀ a b, s.testBit a = true → s.testBit b = true → s.testBit (mul a b) = true
/-- the subgroup that some members make: what all closed sets with them and 0 have -/
noncomputable def cl (n : Nat) (mul : Nat → Nat → Nat) (s : Nat) : Nat := imS (fun k => @decide (∀ t, t < 2 ^ n → ss (s ||| 1) t → clD mul t → t.testBit k = true) (Classical.propDecidable _)) id n
theorem cl_bit {n : Nat} {mul : Nat → Nat → Nat} {s k : Nat} : (cl n mul s).testBit k = true ↔ k < n ∧ ∀ t, t < 2 ^ n → ss (s ||| 1) t → clD mul t → t.testBit k = true := by
  unfold cl
  rw [imS_bit]
  constructor
  · rintro ⟨x, h1, h2, rfl⟩
    exact ⟨h1, @of_decide_eq_true _ (Classical.propDecidable _) h2⟩
  · rintro ⟨h1, h2⟩
    exact ⟨k, h1, @decide_eq_true _ (Classical.propDecidable _) h2, rfl⟩
theorem cl_lt {n : Nat} {mul : Nat → Nat → Nat} {s : Nat} : cl n mul s < 2 ^ n := imS_lt fun _ h _ => h
theorem cl_ge {n : Nat} {mul : Nat → Nat → Nat} {s : Nat} (hn : 1 ≤ n) (hs : s < 2 ^ n) : ss (s ||| 1) (cl n mul s) := fun k hk =>
  cl_bit.mpr ⟨bit_lt (or_lt hs (by have := pow_lt (x := 0) (n := n) (by omega); simpa using this)) hk, fun t _ h2 _ => h2 k hk⟩
theorem cl_min {n : Nat} {mul : Nat → Nat → Nat} {s t : Nat} (ht : t < 2 ^ n) (h1 : ss (s ||| 1) t) (h2 : clD mul t) : ss (cl n mul s) t := fun _ hk => (cl_bit.mp hk).2 t ht h1 h2
theorem cl_clD {n : Nat} {mul : Nat → Nat → Nat} {s : Nat} (hm : ∀ a b, a < n → b < n → mul a b < n) : clD mul (cl n mul s) := by
  intro a b ha hb
  obtain ⟨a1, a2⟩ := cl_bit.mp ha
  obtain ⟨b1, b2⟩ := cl_bit.mp hb
  exact cl_bit.mpr ⟨hm a b a1 b1, fun t h1 h2 h3 => h3 a b (a2 t h1 h2 h3) (b2 t h1 h2 h3)⟩
theorem cl_uniq {n : Nat} {mul : Nat → Nat → Nat} {s r : Nat} (hr : r < 2 ^ n) (h1 : ss (s ||| 1) r) (h2 : clD mul r) (h3 : ss r (cl n mul s)) : r = cl n mul s := ss_antisymm h3 (cl_min hr h1 h2)
theorem cl_one {n : Nat} {mul : Nat → Nat → Nat} {s : Nat} (hn : 1 ≤ n) (hs : s < 2 ^ n) : (cl n mul s).testBit 0 = true := cl_ge hn hs 0 (by simp)
/-- turned by g -/
def tn (n : Nat) (mul : Nat → Nat → Nat) (inv : Nat → Nat) (s g : Nat) : Nat := imS (fun x => s.testBit x) (fun x => mul (mul (inv g) x) g) n
theorem tn_bit {n : Nat} {mul : Nat → Nat → Nat} {inv : Nat → Nat} {s g k : Nat} : (tn n mul inv s g).testBit k = true ↔ ∃ x, x < n ∧ s.testBit x = true ∧ mul (mul (inv g) x) g = k := imS_bit _ _ _ _
theorem tn_lt {n : Nat} {mul : Nat → Nat → Nat} {inv : Nat → Nat} {s g : Nat} (hG : isG n mul inv) (hg : g < n) : tn n mul inv s g < 2 ^ n := imS_lt fun x hx _ => hG.2.1 _ _ (hG.2.1 _ _ (hG.2.2.2.2 g hg).1 hx) hg
/-- the least of the turned ones by those below i, and the set itself -/
def ftR (n : Nat) (mul : Nat → Nat → Nat) (inv : Nat → Nat) (s : Nat) : Nat → Nat
  | 0 => s
  | i + 1 => min (ftR n mul inv s i) (tn n mul inv s i)
def ft (n : Nat) (mul : Nat → Nat → Nat) (inv : Nat → Nat) (s : Nat) : Nat := ftR n mul inv s n
theorem ftR_lt {n : Nat} {mul : Nat → Nat → Nat} {inv : Nat → Nat} {s : Nat} (hs : s < 2 ^ n) : ∀ i, ftR n mul inv s i < 2 ^ n := by
  intro i
  induction i with
  | zero => exact hs
  | succ i ih => exact Nat.lt_of_le_of_lt (Nat.min_le_left _ _) ih
theorem ft_lt {n : Nat} {mul : Nat → Nat → Nat} {inv : Nat → Nat} {s : Nat} (hs : s < 2 ^ n) : ft n mul inv s < 2 ^ n := ftR_lt hs n
