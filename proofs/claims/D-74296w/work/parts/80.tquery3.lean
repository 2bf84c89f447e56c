/-! the twin answers: what members make, sorts of sets -/
theorem x_all {n : Nat} (hn : n ≤ 24) (x : Int32) : ((0 : Int64) ≤ x.toInt64 ∧ x.toInt64 ≤ ((1 : Int32) <<< (nI n &&& 31) - 1).toInt64) ↔ ∃ m, m < 2 ^ n ∧ x = nI m := by
  rw [x_shl1 (by omega)]
  exact zRng (Nat.lt_of_le_of_lt (Nat.pow_le_pow_right (by omega) hn) (by decide))
theorem ct_makesOf {T0 : tS} {n : Nat} {mul : Nat → Nat → Nat} {inv : Nat → Nat} (h : tTab T0 n mul inv) (a : Int32) : tMi mX6_makesOf 2 (fun _ => [.int a]) T0 (fun r T' => ((∃ m, m < 2 ^ n ∧ a = nI m ∧ r = nI (cl n mul m)) ∨ (¬ (∃ m, m < 2 ^ n ∧ a = nI m) ∧ r = -1)) ∧ T' = T0) := by
  have hn := h.2.1
  refine en_makesOf _ T0 _ (fun c hc => s_makesOf_0 c _ T0 ?_)
  rw [h.2.2.1]
  refine ⟨fun e => ?_, fun e => ?_⟩
  · rw [zI_0, x_all hn] at e
    rw [hc]
    exact ⟨_, rfl, Or.inr ⟨e, rfl⟩, rfl⟩
  · rw [zI_n0, x_all hn] at e
    obtain ⟨m, hm, rfl⟩ := e
    refine ⟨_, ct_closed h hm, ?_⟩
    rintro r T9 ⟨rfl, rfl⟩
    rw [hc]
    exact ⟨_, rfl, Or.inl ⟨m, hm, rfl, rfl⟩, rfl⟩
theorem ct_sortOf {T0 : tS} {n : Nat} {mul : Nat → Nat → Nat} {inv : Nat → Nat} {L F : List Nat} (h : tGrp T0 n mul inv L F) (a : Int32) : tMi mX6_sortOf 2 (fun _ => [.int a]) T0 (fun r T' => ((∃ m, m < 2 ^ n ∧ a = nI m ∧ r = nI (F.idxOf (ft n mul inv (cl n mul m)))) ∨ (¬ (∃ m, m < 2 ^ n ∧ a = nI m) ∧ r = -1)) ∧ T' = T0) := by
  have h1 := h.1
  have hn := h1.2.1
  refine en_sortOf _ T0 _ (fun c hc => s_sortOf_0 c _ T0 ?_)
  rw [h1.2.2.1]
  refine ⟨fun e => ?_, fun e => ?_⟩
  · rw [zI_0, x_all hn] at e
    rw [hc]
    exact ⟨_, rfl, Or.inr ⟨e, rfl⟩, rfl⟩
  · rw [zI_n0, x_all hn] at e
    obtain ⟨m, hm, rfl⟩ := e
    refine ⟨_, ct_closed h1 hm, ?_⟩
    rintro r T9 ⟨rfl, rfl⟩
    refine ⟨_, ct_sortOfSet h (sg_cl h1.1 hm), ?_⟩
    rintro r T15 ⟨rfl, rfl⟩
    rw [hc]
    exact ⟨_, rfl, Or.inl ⟨m, hm, rfl, rfl⟩, rfl⟩
theorem sg_and {n : Nat} {mul : Nat → Nat → Nat} {s t : Nat} (hs : sg n mul s) (ht : sg n mul t) : sg n mul (s &&& t) := by
  refine ⟨Nat.lt_of_le_of_lt Nat.and_le_left hs.1, by rw [Nat.testBit_and, hs.2.1, ht.2.1]; rfl, fun a b ha hb => ?_⟩
  rw [Nat.testBit_and, Bool.and_eq_true] at *
  exact ⟨hs.2.2 a b ha.1 hb.1, ht.2.2 a b ha.2 hb.2⟩
theorem tGrp_sg {T : tS} {n : Nat} {mul : Nat → Nat → Nat} {inv : Nat → Nat} {L F : List Nat} (h : tGrp T n mul inv L F) {i : Nat} (hi : i < F.length) : sg n mul (F.getD i 0) := by
  obtain ⟨g1, g2, rfl, rfl, -⟩ := h
  exact (subsL_ok g1.1 g2).1.2.1 _ (fstL_mem.mp (gD_mem hi)).1
theorem ct_meet {T0 : tS} {n : Nat} {mul : Nat → Nat → Nat} {inv : Nat → Nat} {L F : List Nat} (h : tGrp T0 n mul inv L F) (hF : F.length ≤ 60) (a b : Int32) : tMi mX6_meet 2 (fun _ => [.int a, .int b]) T0 (fun r T' => ((∃ i j, i < F.length ∧ j < F.length ∧ a = nI i ∧ b = nI j ∧ r = nI (F.idxOf (ft n mul inv (F.getD i 0 &&& F.getD j 0)))) ∨ (¬ (∃ i j, i < F.length ∧ j < F.length ∧ a = nI i ∧ b = nI j) ∧ r = -1)) ∧ T' = T0) := by
  have g6 := h.2.2.2.2.2.1
  refine en_meet _ _ T0 _ (fun c hc => s_meet_0 c _ _ T0 ?_)
  rw [g6.1]
  refine ⟨fun e => ?_, fun e => ⟨fun e2 => ?_, fun e2 => ?_⟩⟩
  · rw [zI_0, zRng (by omega)] at e
    rw [hc]
    exact ⟨_, rfl, Or.inr ⟨fun ⟨i, j, hi, _, q, _⟩ => e ⟨i, hi, q⟩, rfl⟩, rfl⟩
  · rw [zI_n0, zRng (by omega)] at e e2
    obtain ⟨i, hi, rfl⟩ := e
    obtain ⟨j, hj, rfl⟩ := e2
    rw [nI_clamp (show i < 2 ^ 31 by omega), nI_clamp (show j < 2 ^ 31 by omega), g6.2 i hi, g6.2 j hj, x_and]
    refine ⟨vpI (by omega), vpI (by omega), _, ct_sortOfSet h (sg_and (tGrp_sg h hi) (tGrp_sg h hj)), ?_⟩
    rintro r T16 ⟨rfl, rfl⟩
    rw [hc]
    exact ⟨_, rfl, Or.inl ⟨i, j, hi, hj, rfl, rfl, rfl⟩, rfl⟩
  · rw [zI_0, zRng (by omega)] at e2
    rw [hc]
    exact ⟨_, rfl, Or.inr ⟨fun ⟨i, j, _, hj, _, q⟩ => e2 ⟨j, hj, q⟩, rfl⟩, rfl⟩
theorem ct_join {T0 : tS} {n : Nat} {mul : Nat → Nat → Nat} {inv : Nat → Nat} {L F : List Nat} (h : tGrp T0 n mul inv L F) (hF : F.length ≤ 60) (a b : Int32) : tMi mX6_join 2 (fun _ => [.int a, .int b]) T0 (fun r T' => ((∃ i j, i < F.length ∧ j < F.length ∧ a = nI i ∧ b = nI j ∧ r = nI (F.idxOf (ft n mul inv (cl n mul (F.getD i 0 ||| F.getD j 0))))) ∨ (¬ (∃ i j, i < F.length ∧ j < F.length ∧ a = nI i ∧ b = nI j) ∧ r = -1)) ∧ T' = T0) := by
  have g6 := h.2.2.2.2.2.1
  have h1 := h.1
  refine en_join _ _ T0 _ (fun c hc => s_join_0 c _ _ T0 ?_)
  rw [g6.1]
  refine ⟨fun e => ?_, fun e => ⟨fun e2 => ?_, fun e2 => ?_⟩⟩
  · rw [zI_0, zRng (by omega)] at e
    rw [hc]
    exact ⟨_, rfl, Or.inr ⟨fun ⟨i, j, hi, _, q, _⟩ => e ⟨i, hi, q⟩, rfl⟩, rfl⟩
  · rw [zI_n0, zRng (by omega)] at e e2
    obtain ⟨i, hi, rfl⟩ := e
    obtain ⟨j, hj, rfl⟩ := e2
    have hor := or_lt (tGrp_sg h hi).1 (tGrp_sg h hj).1
    rw [nI_clamp (show i < 2 ^ 31 by omega), nI_clamp (show j < 2 ^ 31 by omega), g6.2 i hi, g6.2 j hj, x_or]
    refine ⟨vpI (by omega), vpI (by omega), _, ct_closed h1 hor, ?_⟩
    rintro r T16 ⟨rfl, rfl⟩
    refine ⟨_, ct_sortOfSet h (sg_cl h1.1 hor), ?_⟩
    rintro r T22 ⟨rfl, rfl⟩
    rw [hc]
    exact ⟨_, rfl, Or.inl ⟨i, j, hi, hj, rfl, rfl, rfl⟩, rfl⟩
  · rw [zI_0, zRng (by omega)] at e2
    rw [hc]
    exact ⟨_, rfl, Or.inr ⟨fun ⟨i, j, _, hj, _, q⟩ => e2 ⟨j, hj, q⟩, rfl⟩, rfl⟩
