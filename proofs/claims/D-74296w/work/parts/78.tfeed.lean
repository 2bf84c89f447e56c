/-! the twin is fed -/
def byB (v : Int32) (k : Nat) : Nat := ((v >>> (nI k &&& 31)) &&& 255).toNatClampNeg
theorem byB_ok (v : Int32) (k : Nat) : (v >>> (nI k &&& 31)) &&& 255 = nI (byB v k) ∧ byB v k < 256 := by
  obtain ⟨j, hj, e⟩ := pk_andE (v >>> (nI k &&& 31)) (m := 255) 8 (by decide)
  have hj' : j < 256 := hj
  have : byB v k = j := by unfold byB; rw [e, nI_clamp (by omega)]
  rw [this]
  exact ⟨e, hj'⟩
theorem ct_four {T0 : tS} {t : Nat} (h1 : T0.1 1 = nI t) (ht : t + 4 ≤ 700) (v : Int32) : tMv mX6_four 0 (fun _ => [.int v]) T0 (fun T' => tEq [0, 1] T0 T' ∧ T'.1 1 = nI (t + 4) ∧ (∀ i, i < 4 → T'.2.2.1 0 (t + i) = nI (byB v (24 - 8 * i))) ∧ ∀ j, j < t → T'.2.2.1 0 j = T0.2.2.1 0 j) := by
  refine en_four _ T0 _ (fun c hc => s_four_0 c _ T0 ?_)
  have key : ∀ m, m ≤ 4 → ∀ T, tEq [0, 1] T0 T → T.1 1 = nI (t + (4 - m)) → (∀ i, i < 4 - m → T.2.2.1 0 (t + i) = nI (byB v (24 - 8 * i))) → (∀ j, j < t → T.2.2.1 0 j = T0.2.2.1 0 j) → h_four_3 c v (nI (8 * m) + (-8)) T := by
    intro m
    induction m with
    | zero =>
      intro _ T he k1 k2 k3
      refine s_four_3 c _ _ T ⟨fun _ => ?_, fun e => absurd (by decide) e⟩
      rw [hc]
      exact ⟨rfl, he, k1, k2, k3⟩
    | succ m ih =>
      intro hm T he k1 k2 k3
      have e8 : nI (8 * (m + 1)) + (-8) = nI (8 * m) := by
        have : nI (8 * (m + 1)) = nI (8 * m) + nI 8 := by rw [nI_add]; rfl
        rw [this, Int32.add_assoc, show nI 8 + (-8) = 0 from by decide, Int32.add_zero]
      rw [e8]
      refine s_four_3 c _ _ T ⟨fun e => absurd e (nI_pos (by omega)), fun _ => ?_⟩
      rw [k1, nI_clamp (show t + (4 - (m + 1)) < 2 ^ 31 by omega), nI_1, (byB_ok v (8 * m)).1]
      refine ⟨vpI (by omega), ih (by omega) _ ((he.trans (tEq.sA _ _ (by decide))).trans (tEq.sI _ _ (by decide))) ?_ (fun i hi => ?_) (fun j hj => ?_)⟩
      · rw [tI_is]; congr 1; omega
      · rw [tI_l, tA_as]
        by_cases e : i = 4 - (m + 1)
        · subst e
          rw [up_self]
          congr 2
          omega
        · rw [up_ne (by omega)]; exact k2 i (by omega)
      · rw [tI_l, tA_as, up_ne (by omega)]; exact k3 j hj
  exact key 4 (by omega) T0 (tEq.refl _ _) (by rw [h1]; rfl) (fun i hi => by omega) (fun j _ => rfl)
/-- the bytes of five words -/
def fdB (a b d e f : Int32) (i : Nat) : Nat := byB (if i < 4 then a else if i < 8 then b else if i < 12 then d else if i < 16 then e else f) (24 - 8 * (i % 4))
theorem ct_feed {T0 : tS} {t : Nat} (h1 : T0.1 1 = nI t) (ht : t ≤ 700) (a b d e f : Int32) : tMi mX6_feed 1 (fun _ => [.int a, .int b, .int d, .int e, .int f]) T0 (fun r T' => (t + 20 ≤ 700 ∧ r = nI (t + 20) ∧ tEq [0, 1] T0 T' ∧ T'.1 1 = nI (t + 20) ∧ (∀ i, i < 20 → T'.2.2.1 0 (t + i) = nI (fdB a b d e f i)) ∧ ∀ j, j < t → T'.2.2.1 0 j = T0.2.2.1 0 j) ∨ (¬ t + 20 ≤ 700 ∧ r = -1 ∧ T' = T0)) := by
  refine en_feed _ _ _ _ _ T0 _ (fun c hc => s_feed_0 c _ _ _ _ _ T0 ?_)
  rw [h1, show (20 : Int32) = nI 20 from rfl, show (700 : Int32) = nI 700 from rfl, nI_add, nI_leI (by omega) (by omega)]
  refine ⟨fun hl => ⟨_, ct_four h1 (by omega) a, ?_⟩, fun hl => ?_⟩
  · rintro T1 ⟨e1, a1, b1, c1⟩
    refine ⟨_, ct_four a1 (by omega) b, ?_⟩
    rintro T2 ⟨e2, a2, b2, c2⟩
    refine ⟨_, ct_four a2 (by omega) d, ?_⟩
    rintro T3 ⟨e3, a3, b3, c3⟩
    refine ⟨_, ct_four a3 (by omega) e, ?_⟩
    rintro T4 ⟨e4, a4, b4, c4⟩
    refine ⟨_, ct_four a4 (by omega) f, ?_⟩
    rintro T5 ⟨e5, a5, b5, c5⟩
    rw [hc]
    refine ⟨_, rfl, Or.inl ⟨hl, a5, (((e1.trans e2).trans e3).trans e4).trans e5, a5, fun i hi => ?_, fun j hj => ?_⟩⟩
    · unfold fdB
      by_cases q1 : i < 4
      · rw [if_pos q1, c5 _ (by omega), c4 _ (by omega), c3 _ (by omega), c2 _ (by omega), b1 i q1, Nat.mod_eq_of_lt q1]
      · rw [if_neg q1]
        by_cases q2 : i < 8
        · rw [if_pos q2, c5 _ (by omega), c4 _ (by omega), c3 _ (by omega), show t + i = t + 4 + (i - 4) by omega, b2 (i - 4) (by omega), show i % 4 = i - 4 by omega]
        · rw [if_neg q2]
          by_cases q3 : i < 12
          · rw [if_pos q3, c5 _ (by omega), c4 _ (by omega), show t + i = t + 4 + 4 + (i - 8) by omega, b3 (i - 8) (by omega), show i % 4 = i - 8 by omega]
          · rw [if_neg q3]
            by_cases q4 : i < 16
            · rw [if_pos q4, c5 _ (by omega), show t + i = t + 4 + 4 + 4 + (i - 12) by omega, b4 (i - 12) (by omega), show i % 4 = i - 12 by omega]
            · rw [if_neg q4, show t + i = t + 4 + 4 + 4 + 4 + (i - 16) by omega, b5 (i - 16) (by omega), show i % 4 = i - 16 by omega]
    · rw [c5 j (by omega), c4 j (by omega), c3 j (by omega), c2 j (by omega), c1 j hj]
  · rw [hc]
    exact ⟨_, rfl, Or.inr ⟨hl, rfl, rfl⟩⟩
