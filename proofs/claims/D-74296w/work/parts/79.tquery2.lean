/-! the twin answers: more that is looked up -/
theorem ct_coset {T0 : tS} {n : Nat} {mul : Nat → Nat → Nat} {inv : Nat → Nat} {L F : List Nat} (h : tGrp T0 n mul inv L F) (hF : F.length ≤ 60) (a b : Int32) : tMi mX6_coset 2 (fun _ => [.int a, .int b]) T0 (fun r T' => ((∃ i j, i < F.length ∧ j < n ∧ a = nI i ∧ b = nI j ∧ r = nI (lo_ n mul (F.getD i 0) j)) ∨ (¬ (∃ i j, i < F.length ∧ j < n ∧ a = nI i ∧ b = nI j) ∧ r = -1)) ∧ T' = T0) := by
  obtain ⟨g1, g2, g3, g4, g5, g6, g7, g8, g9, g10⟩ := h
  have hn := g1.2.1
  refine en_coset _ _ T0 _ (fun c hc => s_coset_0 c _ _ T0 ?_)
  rw [hc, g6.1, g1.2.2.1]
  refine ⟨fun e => ?_, fun e => ⟨fun e2 => ?_, fun e2 => ?_⟩⟩
  · rw [zI_0, zRng (by omega)] at e
    exact ⟨_, rfl, Or.inr ⟨fun ⟨i, j, hi, _, q, _⟩ => e ⟨i, hi, q⟩, rfl⟩, rfl⟩
  · rw [zI_0, zRng (by omega)] at e2
    exact ⟨_, rfl, Or.inr ⟨fun ⟨i, j, _, hj, _, q⟩ => e2 ⟨j, hj, q⟩, rfl⟩, rfl⟩
  · rw [zI_n0, zRng (by omega)] at e e2
    obtain ⟨i, hi, rfl⟩ := e
    obtain ⟨j, hj, rfl⟩ := e2
    rw [tIx, nI_clamp (show 24 * i + j < 2 ^ 31 by omega)]
    exact ⟨vpI (by omega), _, rfl, Or.inl ⟨i, j, hi, hj, rfl, rfl, g9 i j hi hj⟩, rfl⟩
theorem ct_takes {T0 : tS} {n : Nat} {mul : Nat → Nat → Nat} {inv : Nat → Nat} {L F : List Nat} (h : tGrp T0 n mul inv L F) (hF : F.length ≤ 60) (a b d : Int32) : tMi mX6_takes 2 (fun _ => [.int a, .int b, .int d]) T0 (fun r T' => ((∃ i j k, i < F.length ∧ j < n ∧ k < n ∧ a = nI i ∧ b = nI j ∧ d = nI k ∧ r = nI (lo_ n mul (F.getD i 0) (mul j k))) ∨ (¬ (∃ i j k, i < F.length ∧ j < n ∧ k < n ∧ a = nI i ∧ b = nI j ∧ d = nI k) ∧ r = -1)) ∧ T' = T0) := by
  obtain ⟨g1, g2, g3, g4, g5, g6, g7, g8, g9, g10⟩ := h
  have hn := g1.2.1
  refine en_takes _ _ _ T0 _ (fun c hc => s_takes_0 c _ _ _ T0 ?_)
  rw [hc, g6.1, g1.2.2.1]
  refine ⟨fun e => ?_, fun e => ⟨fun e2 => ?_, fun e2 => ⟨fun e3 => ?_, fun e3 => ?_⟩⟩⟩
  · rw [zI_0, zRng (by omega)] at e
    exact ⟨_, rfl, Or.inr ⟨fun ⟨i, j, k, hi, _, _, q, _, _⟩ => e ⟨i, hi, q⟩, rfl⟩, rfl⟩
  · rw [zI_0, zRng (by omega)] at e2
    exact ⟨_, rfl, Or.inr ⟨fun ⟨i, j, k, _, hj, _, _, q, _⟩ => e2 ⟨j, hj, q⟩, rfl⟩, rfl⟩
  · rw [zI_0, zRng (by omega)] at e3
    exact ⟨_, rfl, Or.inr ⟨fun ⟨i, j, k, _, _, hk, _, _, q⟩ => e3 ⟨k, hk, q⟩, rfl⟩, rfl⟩
  · rw [zI_n0, zRng (by omega)] at e e2 e3
    obtain ⟨i, hi, rfl⟩ := e
    obtain ⟨j, hj, rfl⟩ := e2
    obtain ⟨k, hk, rfl⟩ := e3
    have hm := g1.1.2.1 j k hj hk
    rw [tBy_at g1 hj hk, tIx, tIx, nI_clamp (show 24 * i + mul j k < 2 ^ 31 by omega)]
    exact ⟨vpI (by omega), vpI (by omega), _, rfl, Or.inl ⟨i, j, k, hi, hj, hk, rfl, rfl, rfl, g9 i _ hi hm⟩, rfl⟩
theorem ct_named {T0 : tS} {pl q : Nat} {mv : Nat → List Nat} {X : rX} (h : tIn T0 pl q mv X) (a b : Int32) : tMl mX6_named 2 (fun _ => [.int a, .int b]) T0 (fun r T' => ((∃ k i, k < (xNm X).length ∧ i < xS X ∧ a = nI k ∧ b = nI i ∧ r = xSm X k i) ∨ (¬ (∃ k i, k < (xNm X).length ∧ i < xS X ∧ a = nI k ∧ b = nI i) ∧ r = -9223372036854775808)) ∧ T' = T0) := by
  obtain ⟨a1, a2, a3, a4, a5, a6, a7, a8, a9, a10, a11, a12⟩ := h
  have n8 := a4.2.2.1.1
  have s60 := a4.1.2.1
  have h26 := a4.1.2.2.1
  have h18 : T0.1 18 = nI (xNm X).length := by rw [a9]; exact a4.2.2.1.2.1
  refine en_named _ _ T0 _ (fun c hc => s_named_0 c _ _ T0 ?_)
  rw [hc, h26, h18]
  refine ⟨fun e => ?_, fun e => ⟨fun e2 => ?_, fun e2 => ?_⟩⟩
  · rw [zI_0, zRng (by omega)] at e
    exact ⟨_, rfl, Or.inr ⟨fun ⟨i, j, hi, _, q, _⟩ => e ⟨i, hi, q⟩, rfl⟩, rfl⟩
  · rw [zI_0, zRng (by omega)] at e2
    exact ⟨_, rfl, Or.inr ⟨fun ⟨i, j, _, hj, _, q⟩ => e2 ⟨j, hj, q⟩, rfl⟩, rfl⟩
  · rw [zI_n0, zRng (by omega)] at e e2
    obtain ⟨k, hk, rfl⟩ := e
    obtain ⟨i, hi, rfl⟩ := e2
    rw [tIx64, nI_clamp (show 64 * k + i < 2 ^ 31 by omega), a12 _ (by omega)]
    exact ⟨vpI (by omega), _, rfl, Or.inl ⟨k, i, hk, hi, rfl, rfl, (a4.2.2.2 k hk).2 i hi⟩, rfl⟩
