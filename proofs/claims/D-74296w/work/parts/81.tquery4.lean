/-! the twin answers: keepers, orbits, likes, about -/
def keepS (f : Nat → List Nat) (n j : Nat) : Nat := imS (fun m => rAt (f m) j == j) id n
theorem ct_keeper {T0 : tS} {n p pl : Nat} {f : Nat → List Nat} (h20 : T0.1 20 = nI n) (hn : n ≤ 24) (h16 : T0.1 16 = nI pl) (hpl : pl ≤ 6) (hp : pl ≤ p) (hf : tMemF T0 p n f) (hok : ∀ m, m < n → ∀ j, j < p → rAt (f m) j < 6) (a : Int32) : tMi mX6_keeper 1 (fun _ => [.int a]) T0 (fun r T' => ((∃ j, j < pl ∧ a = nI j ∧ r = nI (keepS f n j)) ∨ (¬ (∃ j, j < pl ∧ a = nI j) ∧ r = -1)) ∧ T' = T0) := by
  refine en_keeper _ T0 _ (fun c hc => s_keeper_0 c _ T0 ?_)
  rw [h16]
  refine ⟨fun e => ?_, fun e => ?_⟩
  · rw [zI_n0, zRng (by omega)] at e
    obtain ⟨j, hj, rfl⟩ := e
    refine loopUp (N := n) (P := fun m => h_keeper_22 c (nI j) (nI (imS (fun m => rAt (f m) j == j) id m)) (nI m) T0) ?_ ?_ 0 (Nat.zero_le _)
    · refine s_keeper_22 c _ _ _ T0 ⟨fun _ => ?_, fun e => absurd (by rw [h20]; exact Int32.le_refl _) e⟩
      rw [hc]
      exact ⟨_, rfl, Or.inl ⟨j, hj, rfl, rfl⟩, rfl⟩
    · intro m hm nx
      refine s_keeper_22 c _ _ _ T0 ⟨fun e => absurd e (by rw [h20]; exact nI_ge hm (by omega)), fun _ => ?_⟩
      have hb := hok m hm j (by omega)
      rw [tIx6, nI_clamp (show 6 * m + j < 2 ^ 31 by omega), hf m hm j (by omega), x_inj (by omega) (by omega), nI_1]
      refine ⟨vpI (by omega), fun e => ?_, fun e => ?_⟩
      · have : imS (fun m => rAt (f m) j == j) id (m + 1) = imS (fun m => rAt (f m) j == j) id m := by simp [imS, e]
        rw [this] at nx
        rw [zI_f (by simp), show (0 : Int32) = nI 0 from rfl, x_shl (by omega) (by omega), x_or, Nat.zero_mul, Nat.or_zero]
        exact nx
      · have : imS (fun m => rAt (f m) j == j) id (m + 1) = imS (fun m => rAt (f m) j == j) id m ||| 2 ^ m := by simp [imS, e]
        rw [this] at nx
        rw [zI_t (by decide), x_orbit (by omega)]
        exact nx
  · rw [zI_0, zRng (by omega)] at e
    rw [hc]
    exact ⟨_, rfl, Or.inr ⟨e, rfl⟩, rfl⟩
def orbS (f : Nat → List Nat) (n j : Nat) : Nat := imS (fun _ => true) (fun m => rAt (f m) j) n
theorem ct_orbit {T0 : tS} {n p pl : Nat} {f : Nat → List Nat} (h20 : T0.1 20 = nI n) (hn : n ≤ 24) (h16 : T0.1 16 = nI pl) (hpl : pl ≤ 6) (hp : pl ≤ p) (hf : tMemF T0 p n f) (hok : ∀ m, m < n → ∀ j, j < p → rAt (f m) j < 6) (a : Int32) : tMi mX6_orbit 1 (fun _ => [.int a]) T0 (fun r T' => ((∃ j, j < pl ∧ a = nI j ∧ r = nI (orbS f n j)) ∨ (¬ (∃ j, j < pl ∧ a = nI j) ∧ r = -1)) ∧ T' = T0) := by
  refine en_orbit _ T0 _ (fun c hc => s_orbit_0 c _ T0 ?_)
  rw [h16]
  refine ⟨fun e => ?_, fun e => ?_⟩
  · rw [zI_n0, zRng (by omega)] at e
    obtain ⟨j, hj, rfl⟩ := e
    refine loopUp (N := n) (P := fun m => h_orbit_22 c (nI j) (nI (imS (fun _ => true) (fun m => rAt (f m) j) m)) (nI m) T0) ?_ ?_ 0 (Nat.zero_le _)
    · refine s_orbit_22 c _ _ _ T0 ⟨fun _ => ?_, fun e => absurd (by rw [h20]; exact Int32.le_refl _) e⟩
      rw [hc]
      exact ⟨_, rfl, Or.inl ⟨j, hj, rfl, rfl⟩, rfl⟩
    · intro m hm nx
      refine s_orbit_22 c _ _ _ T0 ⟨fun e => absurd e (by rw [h20]; exact nI_ge hm (by omega)), fun _ => ?_⟩
      have hb := hok m hm j (by omega)
      rw [tIx6, nI_clamp (show 6 * m + j < 2 ^ 31 by omega), hf m hm j (by omega), x_orbit (by omega), nI_1]
      exact ⟨vpI (by omega), nx⟩
  · rw [zI_0, zRng (by omega)] at e
    rw [hc]
    exact ⟨_, rfl, Or.inr ⟨e, rfl⟩, rfl⟩
