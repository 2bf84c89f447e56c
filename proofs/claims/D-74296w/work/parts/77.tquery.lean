/-! the twin answers: what is looked up -/
theorem zRng {x : Int32} {N : Nat} (hN : N < 2 ^ 31) : ((0 : Int64) ≤ x.toInt64 ∧ x.toInt64 ≤ (nI N - 1).toInt64) ↔ ∃ k, k < N ∧ x = nI k := by
  have h0 : (0 : Int64).toInt = 0 := by decide
  rw [Int64.le_iff_toInt_le, Int64.le_iff_toInt_le, h0, Int32.toInt_toInt64, Int32.toInt_toInt64]
  have hm : (nI N - 1).toInt = (N : Int) - 1 := by
    cases N with
    | zero => decide
    | succ N => rw [nI_pred, nI_toInt (by omega)]; omega
  rw [hm]
  constructor
  · rintro ⟨h1, h2⟩
    obtain ⟨j, j1, rfl⟩ := nI_of (x := x) (by rw [Int32.lt_iff_toInt_lt]; simpa using h1)
    rw [nI_toInt j1] at h2
    exact ⟨j, by omega, rfl⟩
  · rintro ⟨k, hk, rfl⟩
    rw [nI_toInt (by omega)]
    omega
theorem ct_fault (T0 : tS) (x : Int32) : tMi mX6_fault 0 (fun _ => [.int x]) T0 (fun r T' => r = (if x = 0 then T0.1 9 else if x = 1 then T0.1 10 else -1) ∧ T' = T0) := by
  refine en_fault _ T0 _ (fun c hc => s_fault_0 c _ T0 ?_)
  rw [hc]
  exact ⟨fun h => ⟨fun h2 => ⟨_, rfl, by rw [if_neg h, if_neg h2], rfl⟩, fun h2 => ⟨_, rfl, by rw [if_neg h, if_pos h2], rfl⟩⟩, fun h => ⟨_, rfl, by rw [if_pos h], rfl⟩⟩
theorem ct_times {T0 : tS} {n : Nat} {mul : Nat → Nat → Nat} {inv : Nat → Nat} (h : tTab T0 n mul inv) (a b : Int32) : tMi mX6_times 2 (fun _ => [.int a, .int b]) T0 (fun r T' => ((∃ i j, i < n ∧ j < n ∧ a = nI i ∧ b = nI j ∧ r = nI (mul i j)) ∨ (¬ (∃ i j, i < n ∧ j < n ∧ a = nI i ∧ b = nI j) ∧ r = -1)) ∧ T' = T0) := by
  have hn := h.2.1
  refine en_times _ _ T0 _ (fun c hc => s_times_0 c _ _ T0 ?_)
  rw [hc, h.2.2.1]
  refine ⟨fun e => ?_, fun e => ⟨fun e2 => ?_, fun e2 => ?_⟩⟩
  · rw [zI_0, zRng (by omega)] at e
    exact ⟨_, rfl, Or.inr ⟨fun ⟨i, j, hi, _, q, _⟩ => e ⟨i, hi, q⟩, rfl⟩, rfl⟩
  · rw [zI_0, zRng (by omega)] at e2
    exact ⟨_, rfl, Or.inr ⟨fun ⟨i, j, _, hj, _, q⟩ => e2 ⟨j, hj, q⟩, rfl⟩, rfl⟩
  · rw [zI_n0, zRng (by omega)] at e e2
    obtain ⟨i, hi, rfl⟩ := e
    obtain ⟨j, hj, rfl⟩ := e2
    exact ⟨tBy_in h hi hj, _, rfl, Or.inl ⟨i, j, hi, hj, rfl, rfl, tBy_at h hi hj⟩, rfl⟩
theorem ct_moves {T0 : tS} {n p pl : Nat} {f : Nat → List Nat} (h20 : T0.1 20 = nI n) (hn : n ≤ 24) (h16 : T0.1 16 = nI pl) (hpl : pl ≤ 6) (hp : pl ≤ p) (hf : tMemF T0 p n f) (a b : Int32) : tMi mX6_moves 2 (fun _ => [.int a, .int b]) T0 (fun r T' => ((∃ i j, i < n ∧ j < pl ∧ a = nI i ∧ b = nI j ∧ r = nI (rAt (f i) j)) ∨ (¬ (∃ i j, i < n ∧ j < pl ∧ a = nI i ∧ b = nI j) ∧ r = -1)) ∧ T' = T0) := by
  refine en_moves _ _ T0 _ (fun c hc => s_moves_0 c _ _ T0 ?_)
  rw [hc, h20, h16]
  refine ⟨fun e => ?_, fun e => ⟨fun e2 => ?_, fun e2 => ?_⟩⟩
  · rw [zI_0, zRng (by omega)] at e
    exact ⟨_, rfl, Or.inr ⟨fun ⟨i, j, hi, _, q, _⟩ => e ⟨i, hi, q⟩, rfl⟩, rfl⟩
  · rw [zI_0, zRng (by omega)] at e2
    exact ⟨_, rfl, Or.inr ⟨fun ⟨i, j, _, hj, _, q⟩ => e2 ⟨j, hj, q⟩, rfl⟩, rfl⟩
  · rw [zI_n0, zRng (by omega)] at e e2
    obtain ⟨i, hi, rfl⟩ := e
    obtain ⟨j, hj, rfl⟩ := e2
    rw [tIx6, nI_clamp (show 6 * i + j < 2 ^ 31 by omega)]
    exact ⟨vpI (by omega), _, rfl, Or.inl ⟨i, j, hi, hj, rfl, rfl, hf i hi j (by omega)⟩, rfl⟩
theorem ct_mark {T0 : tS} {S : Nat} {mk : Nat → Nat → Nat} (h : tMk T0 S mk) (a b : Int32) : tMi mX6_mark 2 (fun _ => [.int a, .int b]) T0 (fun r T' => ((∃ i j, i < S ∧ j < S ∧ a = nI i ∧ b = nI j ∧ r = nI (mk i j)) ∨ (¬ (∃ i j, i < S ∧ j < S ∧ a = nI i ∧ b = nI j) ∧ r = -1)) ∧ T' = T0) := by
  obtain ⟨s1, s60, h26, h31, hd⟩ := id h
  refine en_mark _ _ T0 _ (fun c hc => s_mark_0 c _ _ T0 ?_)
  rw [hc, h26]
  refine ⟨fun e => ?_, fun e => ⟨fun e2 => ?_, fun e2 => ?_⟩⟩
  · rw [zI_0, zRng (by omega)] at e
    exact ⟨_, rfl, Or.inr ⟨fun ⟨i, j, hi, _, q, _⟩ => e ⟨i, hi, q⟩, rfl⟩, rfl⟩
  · rw [zI_0, zRng (by omega)] at e2
    exact ⟨_, rfl, Or.inr ⟨fun ⟨i, j, _, hj, _, q⟩ => e2 ⟨j, hj, q⟩, rfl⟩, rfl⟩
  · rw [zI_n0, zRng (by omega)] at e e2
    obtain ⟨i, hi, rfl⟩ := e
    obtain ⟨j, hj, rfl⟩ := e2
    rw [tIx64, nI_clamp (show 64 * i + j < 2 ^ 31 by omega)]
    exact ⟨vpI (by omega), _, rfl, Or.inl ⟨i, j, hi, hj, rfl, rfl, h31 i j hi hj⟩, rfl⟩
theorem ct_has {T0 : tS} {S : Nat} (h26 : T0.1 26 = nI S) (hS : S ≤ 60) (a : Int32) : tMl mX6_has 2 (fun _ => [.int a]) T0 (fun r T' => ((∃ i, i < S ∧ a = nI i ∧ r = T0.2.2.2 36 i) ∨ (¬ (∃ i, i < S ∧ a = nI i) ∧ r = -9223372036854775808)) ∧ T' = T0) := by
  refine en_has _ T0 _ (fun c hc => s_has_0 c _ T0 ?_)
  rw [hc, h26]
  refine ⟨fun e => ?_, fun e => ?_⟩
  · rw [zI_0, zRng (by omega)] at e
    exact ⟨_, rfl, Or.inr ⟨e, rfl⟩, rfl⟩
  · rw [zI_n0, zRng (by omega)] at e
    obtain ⟨i, hi, rfl⟩ := e
    rw [nI_clamp (show i < 2 ^ 31 by omega)]
    exact ⟨vpI (by omega), _, rfl, Or.inl ⟨i, hi, rfl, rfl⟩, rfl⟩
theorem ct_marked {T0 : tS} {S : Nat} {mk : Nat → Nat → Nat} (h : tMk T0 S mk) {v : Nat → Int64} (hv : tSeg T0 36 0 S v) (a : Int32) : tMl mX6_marked 2 (fun _ => [.int a]) T0 (fun r T' => ((∃ i, i < S ∧ a = nI i ∧ r = mkAt S mk v i) ∨ (¬ (∃ i, i < S ∧ a = nI i) ∧ r = -9223372036854775808)) ∧ T' = T0) := by
  obtain ⟨s1, s60, h26, h31, hd⟩ := id h
  refine en_marked _ T0 _ (fun c hc => s_marked_0 c _ T0 ?_)
  rw [h26]
  refine ⟨fun e => ?_, fun e => ?_⟩
  · rw [zI_0, zRng (by omega)] at e
    rw [hc]
    exact ⟨_, rfl, Or.inr ⟨e, rfl⟩, rfl⟩
  · rw [zI_n0, zRng (by omega)] at e
    obtain ⟨i, hi, rfl⟩ := e
    refine ⟨_, ct_markAt h (fa := 36) (o := 0) (by decide) (by decide) (show 0 + S ≤ 64 by omega) hi, ?_⟩
    rintro r T9 ⟨rfl, rfl⟩
    rw [hc]
    exact ⟨_, rfl, Or.inl ⟨i, hi, rfl, mkAt_congr (fun k hk => hv k hk)⟩, rfl⟩
theorem ct_end {T0 : tS} {n : Nat} (h1 : T0.1 1 = nI n) (hn : n ≤ 700) (a : Int32) : tMi mX6_end 1 (fun _ => [.int a]) T0 (fun r T' => (∃ k, k ≤ n ∧ a = nI k ∧ r = nI k ∧ T' = tI T0 1 (nI k)) ∨ (¬ (∃ k, k ≤ n ∧ a = nI k) ∧ r = -1 ∧ T' = T0)) := by
  refine en_end _ T0 _ (fun c hc => s_end_0 c _ T0 ?_)
  have e1 : ((0 : Int64) ≤ a.toInt64 ∧ a.toInt64 ≤ (T0.1 1).toInt64) ↔ ∃ k, k < n + 1 ∧ a = nI k := by
    rw [← zRng (N := n + 1) (by omega), nI_pred, h1]
  rw [hc]
  refine ⟨fun e => ?_, fun e => ?_⟩
  · rw [zI_n0, e1] at e
    obtain ⟨k, hk, rfl⟩ := e
    exact ⟨_, rfl, Or.inl ⟨k, by omega, rfl, rfl, rfl⟩⟩
  · rw [zI_0, e1] at e
    exact ⟨_, rfl, Or.inr ⟨fun ⟨k, hk, q⟩ => e ⟨k, by omega, q⟩, rfl, rfl⟩⟩
