/-! the twin: sort of a set, norms, sets of one, sets where order is no matter -/
theorem ct_sortOfSet {T : tS} {n : Nat} {mul : Nat → Nat → Nat} {inv : Nat → Nat} {L F : List Nat} (h : tGrp T n mul inv L F) {s : Nat} (hs : sg n mul s) : tMi mX6_sortOfSet 1 (fun _ => [.int (nI s)]) T (fun r T' => r = nI (F.idxOf (ft n mul inv s)) ∧ T' = T) := by
  obtain ⟨h1, h2, rfl, rfl, h5, h6, h7, -⟩ := h
  obtain ⟨sl, -⟩ := subsL_ok h1.1 h2
  have hL := sl.len h2
  have hb : ∀ x, x ∈ subsL n mul → x < 2 ^ 31 := fun x hx => pow31 (sl.2.1 x hx).1 h1.2.1
  have hin : s ∈ subsL n mul := subsL_all h1.1 h2 hs
  refine en_sortOfSet _ T _ (fun c hc => s_sortOfSet_0 c _ T ⟨_, ct_subIndex h5 (by omega) hb (pow31 hs.1 h1.2.1), ?_⟩)
  rintro r T4 ⟨r1, r2, rfl⟩
  have hx := idx_lt hin
  rw [r1 hin, nI_clamp (show (subsL n mul).idxOf s < 2 ^ 31 by omega), hc]
  refine ⟨vpI (by omega), _, rfl, ?_, rfl⟩
  rw [h7 _ hx, idx_at hin]
def nmB (n : Nat) (mul : Nat → Nat → Nat) (inv : Nat → Nat) (s : Nat) : Nat := imS (fun g => tn n mul inv s g == s) id n
theorem nmB_lt {n : Nat} {mul : Nat → Nat → Nat} {inv : Nat → Nat} {s : Nat} : nmB n mul inv s < 2 ^ n := imS_lt fun x hx _ => hx
theorem nmB_bit {n : Nat} {mul : Nat → Nat → Nat} {inv : Nat → Nat} {s g : Nat} : (nmB n mul inv s).testBit g = true ↔ g < n ∧ tn n mul inv s g = s := by
  unfold nmB
  rw [imS_bit]
  constructor
  · rintro ⟨x, h1, h2, rfl⟩; exact ⟨h1, by simpa using h2⟩
  · rintro ⟨h1, h2⟩; exact ⟨g, h1, by simpa using h2, rfl⟩
theorem ct_normOf {T : tS} {n : Nat} {mul : Nat → Nat → Nat} {inv : Nat → Nat} (h : tTab T n mul inv) {s : Nat} (hs : s < 2 ^ n) : tMi mX6_normOf 2 (fun _ => [.int (nI s)]) T (fun r T' => r = nI (nmB n mul inv s) ∧ T' = T) := by
  refine en_normOf _ T _ (fun c hc => s_normOf_0 c _ T ?_)
  have hn := h.2.1
  refine loopUp (N := n) (P := fun g => h_normOf_4 c (nI s) (nI (imS (fun g => tn n mul inv s g == s) id g)) (nI g) T) ?_ ?_ 0 (Nat.zero_le _)
  · refine s_normOf_4 c _ _ _ T ⟨fun _ => ?_, fun e => absurd (by rw [h.2.2.1]; exact Int32.le_refl _) e⟩
    rw [hc]
    exact ⟨_, rfl, rfl, rfl⟩
  · intro g hg nx
    refine s_normOf_4 c _ _ _ T ⟨fun e => absurd e (by rw [h.2.2.1]; exact nI_ge hg (by omega)), fun _ => ⟨_, ct_turned h hs hg, ?_⟩⟩
    rintro r T5 ⟨rfl, rfl⟩
    rw [x_inj (by have := pow31 (tn_lt (s := s) h.1 hg) hn; omega) (by have := pow31 hs hn; omega), nI_1]
    refine ⟨fun e => ?_, fun e => ?_⟩
    · have : imS (fun g => tn n mul inv s g == s) id (g + 1) = imS (fun g => tn n mul inv s g == s) id g := by
        simp [imS, e]
      rw [this] at nx
      rw [zI_f (by simp), show (0 : Int32) = nI 0 from rfl, x_shl (by omega) (by omega), x_or, Nat.zero_mul, Nat.or_zero]
      exact nx
    · have : imS (fun g => tn n mul inv s g == s) id (g + 1) = imS (fun g => tn n mul inv s g == s) id g ||| 2 ^ g := by
        simp [imS, e]
      rw [this] at nx
      rw [zI_t (by decide), x_orbit (by omega)]
      exact nx
def isOne (n : Nat) (mul : Nat → Nat → Nat) (s : Nat) : Prop := ∃ x, x < n ∧ s.testBit x = true ∧ cl n mul (2 ^ x) = s
theorem ct_isOfOne {T : tS} {n : Nat} {mul : Nat → Nat → Nat} {inv : Nat → Nat} (h : tTab T n mul inv) {s : Nat} (hs : s < 2 ^ n) : tMi mX6_isOfOne 2 (fun _ => [.int (nI s)]) T (fun r T' => ((isOne n mul s ∧ r = 1) ∨ (¬ isOne n mul s ∧ r = 0)) ∧ T' = T) := by
  refine en_isOfOne _ T _ (fun c hc => s_isOfOne_0 c _ T ?_)
  have hn := h.2.1
  refine loopUp (N := n) (P := fun x => (∀ y, y < x → ¬ (s.testBit y = true ∧ cl n mul (2 ^ y) = s)) → h_isOfOne_2 c (nI s) (nI x) T) ?_ ?_ 0 (Nat.zero_le _) (fun y hy => absurd hy (Nat.not_lt_zero _))
  · intro hno
    refine s_isOfOne_2 c _ _ T ⟨fun _ => ?_, fun e => absurd (by rw [h.2.2.1]; exact Int32.le_refl _) e⟩
    rw [hc]
    exact ⟨_, rfl, Or.inr ⟨fun ⟨y, h1, h2⟩ => hno y h1 h2, rfl⟩, rfl⟩
  · intro x hx nx hno
    have skip : ¬ (s.testBit x = true ∧ cl n mul (2 ^ x) = s) → h_isOfOne_31 c (nI s) (nI x) T := fun q => s_isOfOne_31 c _ _ T (by
      rw [nI_1]
      refine nx (fun y hy => ?_)
      by_cases e : y = x
      · subst e; exact q
      · exact hno y (by omega))
    refine s_isOfOne_2 c _ _ T ⟨fun e => absurd e (by rw [h.2.2.1]; exact nI_ge hx (by omega)), fun _ => ⟨fun e => ?_, fun e => ?_⟩⟩
    · rw [zI_0, bit31 hs hn hx] at e
      exact skip (fun q => e q.1)
    · rw [zI_n0, bit31 hs hn hx] at e
      rw [x_shl1 (by omega)]
      refine ⟨_, ct_closed h (pow_lt hx), ?_⟩
      rintro r T6 ⟨rfl, rfl⟩
      rw [x_inj (by have := pow31 (cl_lt (n := n) (mul := mul) (s := 2 ^ x)) hn; omega) (by have := pow31 hs hn; omega)]
      refine ⟨fun q => skip (fun z => q z.2), fun q => ?_⟩
      rw [hc]
      exact ⟨_, rfl, Or.inl ⟨⟨x, hx, e, q⟩, rfl⟩, rfl⟩
def isAlk (n : Nat) (mul : Nat → Nat → Nat) (s : Nat) : Prop := ∀ a b, a < n → b < n → s.testBit a = true → s.testBit b = true → mul a b = mul b a
theorem ct_areAlike {T : tS} {n : Nat} {mul : Nat → Nat → Nat} {inv : Nat → Nat} (h : tTab T n mul inv) {s : Nat} (hs : s < 2 ^ n) : tMi mX6_areAlike 1 (fun _ => [.int (nI s)]) T (fun r T' => ((isAlk n mul s ∧ r = 1) ∨ (¬ isAlk n mul s ∧ r = 0)) ∧ T' = T) := by
  refine en_areAlike _ T _ (fun c hc => s_areAlike_0 c _ T ?_)
  have hn := h.2.1
  refine loopUp (N := n) (P := fun a => (∀ x y, x < a → y < n → s.testBit x = true → s.testBit y = true → mul x y = mul y x) → h_areAlike_2 c (nI s) (nI a) T) ?_ ?_ 0 (Nat.zero_le _) (fun x y hx => absurd hx (Nat.not_lt_zero _))
  · intro hok
    refine s_areAlike_2 c _ _ T ⟨fun _ => ?_, fun e => absurd (by rw [h.2.2.1]; exact Int32.le_refl _) e⟩
    rw [hc]
    exact ⟨_, rfl, Or.inl ⟨fun a b ha hb => hok a b ha hb, rfl⟩, rfl⟩
  · intro a ha nx hok
    refine s_areAlike_2 c _ _ T ⟨fun e => absurd e (by rw [h.2.2.1]; exact nI_ge ha (by omega)), fun _ => ?_⟩
    refine loopUp (N := n) (P := fun b => (∀ y, y < b → s.testBit a = true → s.testBit y = true → mul a y = mul y a) → h_areAlike_12 c (nI s) (nI a) (nI b) T) ?_ ?_ 0 (Nat.zero_le _) (fun y hy => absurd hy (Nat.not_lt_zero _))
    · intro hk
      refine s_areAlike_12 c _ _ _ T ⟨fun _ => ?_, fun e => absurd (by rw [h.2.2.1]; exact Int32.le_refl _) e⟩
      rw [nI_1]
      refine nx (fun x y hx hy => ?_)
      by_cases e : x = a
      · subst e; exact hk y hy
      · exact hok x y (by omega) hy
    · intro b hb nx2 hk
      have skip : (s.testBit a = true → s.testBit b = true → mul a b = mul b a) → h_areAlike_53 c (nI s) (nI a) (nI b) T := fun q => s_areAlike_53 c _ _ _ T (by
        rw [nI_1]
        refine nx2 (fun y hy => ?_)
        by_cases e : y = b
        · subst e; exact q
        · exact hk y (by omega))
      refine s_areAlike_12 c _ _ _ T ⟨fun e => absurd e (by rw [h.2.2.1]; exact nI_ge hb (by omega)), fun _ => ⟨fun e => ?_, fun e => ⟨fun e2 => ?_, fun e2 => ?_⟩⟩⟩
      · rw [zI_0, bit31 hs hn ha] at e
        exact skip (fun q => absurd q e)
      · rw [zI_0, bit31 hs hn hb] at e2
        exact skip (fun _ q => absurd q e2)
      · rw [zI_n0, bit31 hs hn ha] at e
        rw [zI_n0, bit31 hs hn hb] at e2
        have l1 := h.1.2.1 a b ha hb
        have l2 := h.1.2.1 b a hb ha
        refine ⟨tBy_in h ha hb, tBy_in h hb ha, ?_⟩
        rw [tBy_at h ha hb, tBy_at h hb ha, x_inj (by omega) (by omega)]
        refine ⟨fun q => skip (fun _ _ => q), fun q => ?_⟩
        rw [hc]
        exact ⟨_, rfl, Or.inr ⟨fun z => q (z a b ha hb e e2), rfl⟩, rfl⟩
