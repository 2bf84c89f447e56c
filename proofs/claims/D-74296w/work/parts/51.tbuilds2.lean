/-! the twin builds: the whole -/
abbrev tSc : List Nat := [25, 26, 27, 28, 29, 30, 31, 32]
abbrev tSb : List Nat := [20, 21, 22, 23, 24, 25, 26, 27, 28, 29, 30, 31, 32]
theorem tGrp_of {T0 : tS} {n : Nat} {mul : Nat → Nat → Nat} {inv : Nat → Nat} (h0 : tTab T0 n mul inv) (hF : gFew n mul) {c : tC} (next : ∀ T, tEq tSc T0 T → tGrp T n mul inv (subsL n mul) (fstL n mul inv (subsL n mul)) → c.2.2.2.2.2.2 none T) : h_builds_19 c 0 (tA (tI T0 25 1) 27 (va_up (T0.2.2.1 27) 0 1)) := by
  have hG := h0.1
  have hn := h0.2.1
  obtain ⟨sl, sl2⟩ := subsL_ok hG hF
  have hL := sl.len hF
  have hFl : (fstL n mul inv (subsL n mul)).length ≤ 60 := Nat.le_trans (fstR_len n mul inv _ _) hL
  have hLs : ∀ s, s ∈ subsL n mul → s < 2 ^ n := fun s hs => (sl.2.1 s hs).1
  have hFs : ∀ s, s ∈ fstL n mul inv (subsL n mul) → s < 2 ^ n := fun s hs => hLs s (fstL_mem.mp hs).1
  have hin : ∀ s, s ∈ subsL n mul → ft n mul inv s ∈ fstL n mul inv (subsL n mul) := fun s hs => fst_in hG hF (sl.2.1 s hs)
  refine t_subs (S := [25, 27]) hG hF (fun f hf => by rcases hf with rfl | rfl <;> decide) (by decide) (by decide) (by decide) h0 (fun T1 e1 l1 => ?_) 129 [1] 0 _ rfl rfl ⟨by simp, fun s hs => by rw [List.mem_singleton] at hs; subst hs; exact sg_one hG, by simp⟩ (Nat.zero_le _) ((tEq.sI _ _ (by decide)).trans (tEq.sA _ _ (by decide))) ⟨rfl, fun i hi => ?_⟩
  · have t1 := h0.same e1 (by decide) (by decide) (by decide)
    refine t_firsts (T0 := T1) (L := subsL n mul) hL hLs t1 l1 (fun T2 e2 l2 => ?_) 0 (Nat.zero_le _) _ (tEq.sI _ _ (by decide)) ⟨by rw [tI_is]; rfl, fun i hi => absurd hi (Nat.not_lt_zero _)⟩
    have t2 := t1.same e2 (by decide) (by decide) (by decide)
    have l12 := l1.same e2 (by decide) (by decide)
    refine t_wipe (F := fstL n mul inv (subsL n mul)) (by omega) l2 (fun T3 e3 w3 => ?_) 0 (Nat.zero_le _) T2 (tEq.refl _ _) (fun i hi => absurd hi (Nat.not_lt_zero _))
    have t3 := t2.same e3 (by decide) (by decide) (by decide)
    have l13 := l12.same e3 (by decide) (by decide)
    have l23 := l2.same e3 (by decide) (by decide)
    refine t_sorts hL hFl hLs hFs hin t3 l13 l23 (fun T4 e4 a4 b4 => ?_) 0 (Nat.zero_le _) T3 (tEq.refl _ _) (fun i hi => absurd hi (Nat.not_lt_zero _)) (fun i hi => w3 i hi)
    have t4 := t3.same e4 (by decide) (by decide) (by decide)
    have l14 := l13.same e4 (by decide) (by decide)
    have l24 := l23.same e4 (by decide) (by decide)
    refine t_cosets hFl hFs t4 l24 (fun T5 e5 a5 => ?_) 0 (Nat.zero_le _) T4 (tEq.refl _ _) (fun i x hi => absurd hi (Nat.not_lt_zero _))
    have t5 := t4.same e5 (by decide) (by decide) (by decide)
    have l25 := l24.same e5 (by decide) (by decide)
    refine t_marks hFl hFs t5 l25 a5 (fun T6 e6 a6 => ?_) 0 (Nat.zero_le _) T5 (tEq.refl _ _) (fun i x hi => absurd hi (Nat.not_lt_zero _))
    refine next T6 ((((((e1.mono (by decide)).trans (e2.mono (by decide))).trans (e3.mono (by decide))).trans (e4.mono (by decide))).trans (e5.mono (by decide))).trans (e6.mono (by decide))) ?_
    have e46 : tEq [31, 32] T4 T6 := (e5.mono (by decide)).trans (e6.mono (by decide))
    refine ⟨t5.same e6 (by decide) (by decide) (by decide), hF, rfl, rfl, l14.same e46 (by decide) (by decide), l24.same e46 (by decide) (by decide), fun k hk => ?_, fun i hi => ?_, fun i x hi hx => ?_, a6⟩
    · rw [e46.a 28 (by decide)]; exact a4 k hk
    · rw [e46.a 30 (by decide)]; exact b4 i hi
    · rw [e6.a 32 (by decide)]; exact a5 i x hi hx
  · have : i = 0 := by simpa using hi
    subst this
    rw [tA_as, up_self]
    rfl
theorem ct_builds {T0 : tS} {p q : Nat} {mv : Nat → List Nat} (hm : tMov T0 p q mv) (hfew : rFew p q mv) (hF : ∀ N f, rGrp p q mv N f → gFew N (mulF f N)) : tMv mX6_builds 3 (fun _ => []) T0 (fun T' => tEq tSb T0 T' ∧ ∃ N f, rGrp p q mv N f ∧ tMemF T' p N f ∧ tGrp T' N (mulF f N) (invF f N) (subsL N (mulF f N)) (fstL N (mulF f N) (invF f N) (subsL N (mulF f N)))) := by
  refine en_builds T0 _ (fun c hc => s_builds_0 c T0 ⟨_, ct_buildsMembers hm, ?_⟩)
  rintro r T4 ⟨e4, hx⟩
  rcases hx with ⟨-, rfl, N, f, g1, g2, g3⟩ | ⟨h, -⟩
  · refine ⟨vpI (n := 0) (by decide), ?_⟩
    refine tGrp_of g3 (hF N f g1) (fun T e g => ?_)
    rw [hc]
    exact ⟨rfl, (e4.mono (by decide)).trans (e.mono (by decide)), N, f, g1, g2.same e (by decide), g⟩
  · exact absurd hfew h
