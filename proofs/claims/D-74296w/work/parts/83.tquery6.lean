/-! the twin answers: centres -/
def cenS (n : Nat) (mul : Nat → Nat → Nat) (s : Nat) : Nat := imS (fun x => decide (s.testBit x = true ∧ ∀ y, y < n → s.testBit y = true → mul x y = mul y x)) id n
theorem ct_centre {T0 : tS} {n : Nat} {mul : Nat → Nat → Nat} {inv : Nat → Nat} {L F : List Nat} (h : tGrp T0 n mul inv L F) (hF : F.length ≤ 60) (a : Int32) : tMi mX6_centre 2 (fun _ => [.int a]) T0 (fun r T' => ((∃ i, i < F.length ∧ a = nI i ∧ r = nI (cenS n mul (F.getD i 0))) ∨ (¬ (∃ i, i < F.length ∧ a = nI i) ∧ r = -1)) ∧ T' = T0) := by
  have g6 := h.2.2.2.2.2.1
  have h1 := h.1
  obtain ⟨hG, hn, h20, hmul, hinv⟩ := id h1
  refine en_centre _ T0 _ (fun c hc => s_centre_0 c _ T0 ?_)
  rw [g6.1]
  refine ⟨fun e => ?_, fun e => ?_⟩
  · rw [zI_n0, zRng (by omega)] at e
    obtain ⟨i, hi, rfl⟩ := e
    have hs := (tGrp_sg h hi).1
    have e29 : T0.2.2.1 29 (nI i).toNatClampNeg = nI (F.getD i 0) := by rw [nI_clamp (by omega)]; exact g6.2 i hi
    generalize hS : F.getD i 0 = s at hs e29
    refine loopUp (N := n) (P := fun x => h_centre_14 c (nI i) (nI (imS (fun x => decide (s.testBit x = true ∧ ∀ y, y < n → s.testBit y = true → mul x y = mul y x)) id x)) (nI x) T0) ?_ ?_ 0 (Nat.zero_le _)
    · refine s_centre_14 c _ _ _ T0 ⟨fun _ => ?_, fun e => absurd (by rw [h20]; exact Int32.le_refl _) e⟩
      rw [hc]
      exact ⟨_, rfl, Or.inl ⟨i, hi, rfl, by rw [hS]; rfl⟩, rfl⟩
    · intro x hx nx
      have no : ¬ (s.testBit x = true ∧ ∀ y, y < n → s.testBit y = true → mul x y = mul y x) → h_centre_95 c (nI i) (nI (imS (fun x => decide (s.testBit x = true ∧ ∀ y, y < n → s.testBit y = true → mul x y = mul y x)) id x)) (nI x) 0 T0 := by
        intro q
        have : imS (fun x => decide (s.testBit x = true ∧ ∀ y, y < n → s.testBit y = true → mul x y = mul y x)) id (x + 1) = imS (fun x => decide (s.testBit x = true ∧ ∀ y, y < n → s.testBit y = true → mul x y = mul y x)) id x := by
          show (if decide _ = true then _ else _) = _
          rw [if_neg (by rw [decide_eq_true_eq]; exact q)]
        rw [this] at nx
        refine s_centre_95 c _ _ _ _ T0 ?_
        rw [zI_f (by simp), show (0 : Int32) = nI 0 from rfl, x_shl (by omega) (by omega), x_or, Nat.zero_mul, Nat.or_zero, nI_1]
        exact nx
      have yes : (s.testBit x = true ∧ ∀ y, y < n → s.testBit y = true → mul x y = mul y x) → h_centre_95 c (nI i) (nI (imS (fun x => decide (s.testBit x = true ∧ ∀ y, y < n → s.testBit y = true → mul x y = mul y x)) id x)) (nI x) 1 T0 := by
        intro q
        have : imS (fun x => decide (s.testBit x = true ∧ ∀ y, y < n → s.testBit y = true → mul x y = mul y x)) id (x + 1) = imS (fun x => decide (s.testBit x = true ∧ ∀ y, y < n → s.testBit y = true → mul x y = mul y x)) id x ||| 2 ^ x := by
          show (if decide _ = true then _ else _) = _
          rw [if_pos (by rw [decide_eq_true_eq]; exact q)]
          rfl
        rw [this] at nx
        refine s_centre_95 c _ _ _ _ T0 ?_
        rw [zI_t (by decide), x_orbit (by omega), nI_1]
        exact nx
      refine s_centre_14 c _ _ _ T0 ⟨fun e => absurd e (by rw [h20]; exact nI_ge hx (by omega)), fun _ => ⟨vpI (by omega), ?_⟩⟩
      rw [e29]
      have bad : ¬ (s.testBit x = true ∧ ∀ y, y < n → s.testBit y = true → mul x y = mul y x) → ∀ y, h_centre_37 c (nI i) (nI (imS (fun x => decide (s.testBit x = true ∧ ∀ y, y < n → s.testBit y = true → mul x y = mul y x)) id x)) (nI x) 0 y T0 := fun q y => s_centre_37 c _ _ _ _ _ T0 ⟨fun _ => no q, fun _ => ⟨fun _ => no q, fun z => absurd rfl z⟩⟩
      by_cases hb : s.testBit x = true
      · rw [zI_t ((bit31 hs hn hx).mpr hb)]
        refine loopUp (N := n) (P := fun y => (∀ z, z < y → s.testBit z = true → mul x z = mul z x) → h_centre_37 c (nI i) (nI (imS (fun x => decide (s.testBit x = true ∧ ∀ y, y < n → s.testBit y = true → mul x y = mul y x)) id x)) (nI x) 1 (nI y) T0) ?_ ?_ 0 (Nat.zero_le _) (fun z hz => absurd hz (Nat.not_lt_zero _))
        · intro hall
          exact s_centre_37 c _ _ _ _ _ T0 ⟨fun _ => yes ⟨hb, hall⟩, fun e => absurd (by rw [h20]; exact Int32.le_refl _) e⟩
        · intro y hy nx2 hall
          have step : (s.testBit y = true → mul x y = mul y x) → h_centre_82 c (nI i) (nI (imS (fun x => decide (s.testBit x = true ∧ ∀ y, y < n → s.testBit y = true → mul x y = mul y x)) id x)) (nI x) (nI y) T0 := fun q => s_centre_82 c _ _ _ _ T0 (by
            rw [nI_1]
            refine nx2 (fun z hz => ?_)
            by_cases e : z = y
            · subst e; exact q
            · exact hall z (by omega))
          refine s_centre_37 c _ _ _ _ _ T0 ⟨fun e => absurd e (by rw [h20]; exact nI_ge hy (by omega)), fun _ => ⟨fun e => absurd e (by decide), fun _ => ⟨vpI (by omega), ?_⟩⟩⟩
          rw [e29]
          refine ⟨fun e => step (fun q => absurd ((bit31 hs hn hy).mpr q) (zI_0.mp e)), fun e => ⟨tBy_in h1 hx hy, tBy_in h1 hy hx, ?_⟩⟩
          have hby := (bit31 hs hn hy).mp (zI_n0.mp e)
          have l1 := hG.2.1 x y hx hy
          have l2 := hG.2.1 y x hy hx
          rw [tBy_at h1 hx hy, tBy_at h1 hy hx, x_inj (by omega) (by omega)]
          exact ⟨fun q => bad (fun z => q (z.2 y hy hby)) _, fun q => step (fun _ => q)⟩
      · rw [zI_f (fun q => hb ((bit31 hs hn hx).mp q))]
        exact bad (fun q => hb q.1) _
  · rw [zI_0, zRng (by omega)] at e
    rw [hc]
    exact ⟨_, rfl, Or.inr ⟨e, rfl⟩, rfl⟩
