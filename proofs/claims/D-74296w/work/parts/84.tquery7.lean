/-! the twin answers: pairs that are alike -/
def alkR (n : Nat) (mul : Nat → Nat → Nat) : Nat → Nat
  | 0 => 0
  | x + 1 => alkR n mul x + cnt (fun y => mul x y == mul y x) n
theorem ct_alike {T0 : tS} {n : Nat} {mul : Nat → Nat → Nat} {inv : Nat → Nat} (h : tTab T0 n mul inv) : tMi mX6_alike 1 (fun _ => []) T0 (fun r T' => r = nI (alkR n mul n) ∧ T' = T0) := by
  obtain ⟨hG, hn, h20, hmul, hinv⟩ := id h
  refine en_alike T0 _ (fun c hc => s_alike_0 c T0 ?_)
  refine loopUp (N := n) (P := fun x => h_alike_4 c (nI (alkR n mul x)) (nI x) T0) ?_ ?_ 0 (Nat.zero_le _)
  · refine s_alike_4 c _ _ T0 ⟨fun _ => ?_, fun e => absurd (by rw [h20]; exact Int32.le_refl _) e⟩
    rw [hc]
    exact ⟨_, rfl, rfl, rfl⟩
  · intro x hx nx
    refine s_alike_4 c _ _ T0 ⟨fun e => absurd e (by rw [h20]; exact nI_ge hx (by omega)), fun _ => ?_⟩
    refine loopUp (N := n) (P := fun y => h_alike_14 c (nI (alkR n mul x + cnt (fun y => mul x y == mul y x) y)) (nI x) (nI y) T0) ?_ ?_ 0 (Nat.zero_le _)
    · refine s_alike_14 c _ _ _ T0 ⟨fun _ => ?_, fun e => absurd (by rw [h20]; exact Int32.le_refl _) e⟩
      rw [nI_1]
      exact nx
    · intro y hy nx2
      refine s_alike_14 c _ _ _ T0 ⟨fun e => absurd e (by rw [h20]; exact nI_ge hy (by omega)), fun _ => ⟨tBy_in h hx hy, tBy_in h hy hx, ?_⟩⟩
      have l1 := hG.2.1 x y hx hy
      have l2 := hG.2.1 y x hy hx
      rw [tBy_at h hx hy, tBy_at h hy hx, x_inj (by omega) (by omega), nI_1]
      refine ⟨fun e => ?_, fun e => ?_⟩
      · rw [zI_f (by decide), show (0 : Int32) = nI 0 from rfl, nI_add]
        have : cnt (fun y => mul x y == mul y x) (y + 1) = cnt (fun y => mul x y == mul y x) y := by
          show _ + (if _ then 1 else 0) = _
          rw [if_neg (by simpa using e), Nat.add_zero]
        rw [this] at nx2
        exact nx2
      · rw [zI_t (by decide), show (1 : Int32) = nI 1 from rfl, nI_add]
        have : cnt (fun y => mul x y == mul y x) (y + 1) = cnt (fun y => mul x y == mul y x) y + 1 := by
          show _ + (if _ then 1 else 0) = _
          rw [if_pos (by simpa using e)]
        rw [this] at nx2
        exact nx2
