/-! the twin's table of a group: its methods that only read it -/
def tTab (T : tS) (n : Nat) (mul : Nat → Nat → Nat) (inv : Nat → Nat) : Prop := isG n mul inv ∧ n ≤ 24 ∧ T.1 20 = nI n ∧ (∀ a b, a < n → b < n → T.2.2.1 23 (24 * a + b) = nI (mul a b)) ∧ ∀ a, a < n → T.2.2.1 24 a = nI (inv a)
theorem tIx (a b : Nat) : (24 : Int32) * nI a + nI b = nI (24 * a + b) := by rw [show (24 : Int32) = nI 24 from rfl, pk_mul, nI_add]
theorem tIx64 (a b : Nat) : (64 : Int32) * nI a + nI b = nI (64 * a + b) := by rw [show (64 : Int32) = nI 64 from rfl, pk_mul, nI_add]
theorem tIx6 (a b : Nat) : (6 : Int32) * nI a + nI b = nI (6 * a + b) := by rw [show (6 : Int32) = nI 6 from rfl, pk_mul, nI_add]
theorem tBy_at {T : tS} {n : Nat} {mul : Nat → Nat → Nat} {inv : Nat → Nat} (h : tTab T n mul inv) {a b : Nat} (ha : a < n) (hb : b < n) : tBy T (nI a) (nI b) = nI (mul a b) := by
  have := h.2.1
  unfold tBy
  rw [tIx, nI_clamp (by omega)]
  exact h.2.2.2.1 a b ha hb
theorem tBy_in {T : tS} {n : Nat} {mul : Nat → Nat → Nat} {inv : Nat → Nat} (h : tTab T n mul inv) {a b : Nat} (ha : a < n) (hb : b < n) : vp_in ((24 : Int32) * nI a + nI b) 576 := by
  have := h.2.1
  rw [tIx]
  exact vpI (by omega)
theorem bit31 {s n k : Nat} (hs : s < 2 ^ n) (hn : n ≤ 24) (hk : k < n) : tBit (nI s) (nI k) ↔ s.testBit k = true := x_bit (lt_pow hs (by omega)) (by omega)
theorem pow31 {s n : Nat} (hs : s < 2 ^ n) (hn : n ≤ 24) : s < 2 ^ 31 := lt_pow hs (by omega)
theorem ct_closed {T : tS} {n : Nat} {mul : Nat → Nat → Nat} {inv : Nat → Nat} (h : tTab T n mul inv) {m : Nat} (hm : m < 2 ^ n) : tMi mX6_closed 1 (fun _ => [.int (nI m)]) T (fun r T' => r = nI (cl n mul m) ∧ T' = T) := by
  obtain ⟨hG, hn, hT, hmul, hinv⟩ := id h
  have h1 : 1 < 2 ^ n := by have := pow_lt (x := 0) (n := n) hG.1; simpa using this
  refine en_closed (nI m) T _ (fun c hc => s_closed_0 c _ T ?_)
  rw [show (1 : Int32) = nI 1 from rfl, x_or]
  have key : ∀ k s w, 2 ^ n - s < k → s < 2 ^ n → ss (m ||| 1) s → ss s (cl n mul m) → (s = w → clD mul s) → w < 2 ^ n → h_closed_6 c (nI s) (nI w) T := by
    intro k
    induction k with
    | zero => intro s w h; omega
    | succ k ih =>
      intro s w hk hs h2 h3 h4 hw
      refine s_closed_6 c _ _ T ⟨fun e => ?_, fun e => ?_⟩
      · rw [x_inj (by have := pow31 hs hn; omega) (by have := pow31 hw hn; omega)] at e
        rw [hc]
        exact ⟨_, rfl, by rw [cl_uniq hs h2 (h4 e) h3], rfl⟩
      · -- a pass from s on
        have pass : ∀ a, a ≤ n → ∀ z, z < 2 ^ n → ss s z → ss z (cl n mul m) → (∀ x y, x < a → y < n → s.testBit x = true → s.testBit y = true → z.testBit (mul x y) = true) → h_closed_16 c (nI z) (nI s) (nI a) T := by
          intro a ha
          have fin : ∀ z, z < 2 ^ n → ss s z → ss z (cl n mul m) → (∀ x y, x < n → y < n → s.testBit x = true → s.testBit y = true → z.testBit (mul x y) = true) → h_closed_6 c (nI z) (nI s) T := by
            intro z hz h5 h6 h7
            by_cases hzs : z = s
            · subst hzs
              refine s_closed_6 c _ _ T ⟨fun _ => ?_, fun e => absurd rfl e⟩
              rw [hc]
              exact ⟨_, rfl, by rw [cl_uniq hz h2 (fun x y hx hy => h7 x y (bit_lt hz hx) (bit_lt hz hy) hx hy) h3], rfl⟩
            · have := ss_le h5
              exact ih z s (by omega) hz (ss_trans h2 h5) h6 (fun e => absurd e hzs) hs
          revert a
          intro a ha
          refine loopUp (N := n) (P := fun a => ∀ z, z < 2 ^ n → ss s z → ss z (cl n mul m) → (∀ x y, x < a → y < n → s.testBit x = true → s.testBit y = true → z.testBit (mul x y) = true) → h_closed_16 c (nI z) (nI s) (nI a) T) ?_ ?_ a ha
          · intro z hz h5 h6 h7
            refine s_closed_16 c _ _ _ T ⟨fun _ => fin z hz h5 h6 h7, fun e => absurd (by rw [hT]; exact Int32.le_refl _) e⟩
          · intro a ha next z hz h5 h6 h7
            refine s_closed_16 c _ _ _ T ⟨fun e => absurd e (by rw [hT]; exact nI_ge ha (by omega)), fun _ => ?_⟩
            have inner : ∀ b, b ≤ n → ∀ z, z < 2 ^ n → ss s z → ss z (cl n mul m) → (∀ x y, x < a → y < n → s.testBit x = true → s.testBit y = true → z.testBit (mul x y) = true) → (∀ y, y < b → s.testBit a = true → s.testBit y = true → z.testBit (mul a y) = true) → h_closed_28 c (nI z) (nI s) (nI a) (nI b) T := by
              have out : ∀ z, z < 2 ^ n → ss s z → ss z (cl n mul m) → (∀ x y, x < a → y < n → s.testBit x = true → s.testBit y = true → z.testBit (mul x y) = true) → (∀ y, y < n → s.testBit a = true → s.testBit y = true → z.testBit (mul a y) = true) → h_closed_74 c (nI z) (nI s) (nI a) T := by
                intro z hz h5 h6 h7 h8
                refine s_closed_74 c _ _ _ T ?_
                rw [nI_1]
                refine next z hz h5 h6 (fun x y hx hy => ?_)
                by_cases hxa : x = a
                · subst hxa; exact h8 y hy
                · exact h7 x y (by omega) hy
              intro b hb
              refine loopUp (N := n) (P := fun b => ∀ z, z < 2 ^ n → ss s z → ss z (cl n mul m) → (∀ x y, x < a → y < n → s.testBit x = true → s.testBit y = true → z.testBit (mul x y) = true) → (∀ y, y < b → s.testBit a = true → s.testBit y = true → z.testBit (mul a y) = true) → h_closed_28 c (nI z) (nI s) (nI a) (nI b) T) ?_ ?_ b hb
              · intro z hz h5 h6 h7 h8
                exact s_closed_28 c _ _ _ _ T ⟨fun _ => out z hz h5 h6 h7 h8, fun e => absurd (by rw [hT]; exact Int32.le_refl _) e⟩
              · intro b hb next2 z hz h5 h6 h7 h8
                refine s_closed_28 c _ _ _ _ T ⟨fun e => absurd e (by rw [hT]; exact nI_ge hb (by omega)), fun _ => ⟨fun e => ?_, fun e => ⟨fun e2 => ?_, fun e2 => ⟨tBy_in h ha hb, ?_⟩⟩⟩⟩
                · rw [zI_0, bit31 hz hn ha] at e
                  exact out z hz h5 h6 h7 (fun y _ h9 => absurd (h5 a h9) e)
                · rw [zI_0, bit31 hz hn hb] at e2
                  refine s_closed_68 c _ _ _ _ T ?_
                  rw [nI_1]
                  refine next2 z hz h5 h6 h7 (fun y hy h9 h10 => ?_)
                  by_cases hyb : y = b
                  · subst hyb; exact absurd (h5 y h10) e2
                  · exact h8 y (by omega) h9 h10
                · rw [zI_n0, bit31 hz hn ha] at e
                  rw [zI_n0, bit31 hz hn hb] at e2
                  have hab := hG.2.1 a b ha hb
                  refine s_closed_68 c _ _ _ _ T ?_
                  rw [nI_1, tBy_at h ha hb, x_orbit (by omega)]
                  refine next2 _ (or_lt hz (pow_lt hab)) (ss_trans h5 (ss_orl _ _)) (ss_or.mpr ⟨h6, ss_bit.mpr (cl_clD hG.2.1 a b (h6 a e) (h6 b e2))⟩) (fun x y hx hy h9 h10 => ss_orl _ _ _ (h7 x y hx hy h9 h10)) (fun y hy h9 h10 => ?_)
                  by_cases hyb : y = b
                  · subst hyb; exact ss_orr _ _ _ (by rw [Nat.testBit_two_pow]; simp)
                  · exact ss_orl _ _ _ (h8 y (by omega) h9 h10)
            exact inner 0 (Nat.zero_le _) z hz h5 h6 h7 (fun y hy => by omega)
        exact pass 0 (Nat.zero_le _) s hs (ss_rfl s) h3 (fun x y hx => by omega)
  by_cases h0 : m ||| 1 = 0
  · have := congrArg (fun x => x.testBit 0) h0
    simp at this
  exact key (2 ^ n + 1) (m ||| 1) 0 (by omega) (or_lt hm h1) (ss_rfl _) (cl_ge hG.1 hm) (fun e => absurd e h0) (by omega)
