/-! the twin answers: likes -/
def likS (n : Nat) (mul : Nat → Nat → Nat) (inv : Nat → Nat) (m : Nat) : Nat := imS (fun _ => true) (fun g => mul (mul (inv g) m) g) n
theorem ct_likes {T0 : tS} {n : Nat} {mul : Nat → Nat → Nat} {inv : Nat → Nat} (h : tTab T0 n mul inv) (a : Int32) : tMi mX6_likes 2 (fun _ => [.int a]) T0 (fun r T' => ((∃ m, m < n ∧ a = nI m ∧ r = nI (pop 31 (likS n mul inv m))) ∨ (¬ (∃ m, m < n ∧ a = nI m) ∧ r = -1)) ∧ T' = T0) := by
  obtain ⟨hG, hn, h20, hmul, hinv⟩ := id h
  refine en_likes _ T0 _ (fun c hc => s_likes_0 c _ T0 ?_)
  rw [h20]
  refine ⟨fun e => ?_, fun e => ?_⟩
  · rw [zI_n0, zRng (by omega)] at e
    obtain ⟨m, hm, rfl⟩ := e
    refine loopUp (N := n) (P := fun g => h_likes_14 c (nI m) (nI (imS (fun _ => true) (fun g => mul (mul (inv g) m) g) g)) (nI g) T0) ?_ ?_ 0 (Nat.zero_le _)
    · refine s_likes_14 c _ _ _ T0 ⟨fun _ => ?_, fun e => absurd (by rw [h20]; exact Int32.le_refl _) e⟩
      have hlt : likS n mul inv m < 2 ^ n := imS_lt fun g hg _ => hG.2.1 _ _ (hG.2.1 _ _ (hG.2.2.2.2 g hg).1 hm) hg
      rw [hc]
      refine ⟨_, rfl, Or.inl ⟨m, hm, rfl, ?_⟩, rfl⟩
      exact x_ones (pow31 hlt hn)
    · intro g hg nx
      have hig := (hG.2.2.2.2 g hg).1
      have h1 := hG.2.1 _ _ hig hm
      have h2 := hG.2.1 _ _ h1 hg
      refine s_likes_14 c _ _ _ T0 ⟨fun e => absurd e (by rw [h20]; exact nI_ge hg (by omega)), fun _ => ?_⟩
      rw [nI_clamp (show g < 2 ^ 31 by omega), hinv g hg, tBy_at h hig hm, tBy_at h h1 hg, x_orbit (by omega), nI_1]
      exact ⟨vpI (by omega), tBy_in h hig hm, tBy_in h h1 hg, nx⟩
  · rw [zI_0, zRng (by omega)] at e
    rw [hc]
    exact ⟨_, rfl, Or.inr ⟨e, rfl⟩, rfl⟩
