/-! the twin: a troupe comes in force; the last one comes back -/
def tMovF (T : tS) (p q : Nat) (mv : Nat → List Nat) : Prop := 1 ≤ p ∧ p ≤ 6 ∧ q ≤ 4 ∧ (∀ k, k < q → rOk p (mv k)) ∧ T.1 16 = nI p ∧ T.1 17 = nI q ∧ ∀ k i, k < q → i < p → T.2.2.1 19 (6 * k + i) = nI (rAt (mv k) i)
theorem ct_inForce (T0 : tS) : tMv mX6_inForce 0 (fun _ => []) T0 (fun T' => tEq [16, 17, 18, 19, 36, 46, 47, 58, 60] T0 T' ∧ T'.1 16 = T0.1 12 ∧ T'.1 17 = T0.1 13 ∧ T'.1 18 = T0.1 14 ∧ T'.1 58 = 0 ∧ T'.1 60 = 0 ∧ (∀ j, j < 24 → T'.2.2.1 19 j = T0.2.2.1 15 j) ∧ (∀ j, j < 8 → T'.2.2.2 46 j = T0.2.2.2 44 j) ∧ (∀ j, j < 512 → T'.2.2.2 47 j = T0.2.2.2 45 j) ∧ ∀ j, j < 64 → T'.2.2.2 36 j = 0) := by
  refine en_inForce T0 _ (fun c hc => s_inForce_0 c T0 ?_)
  have hb : tEq [16, 17, 18] T0 (tI (tI (tI T0 16 (T0.1 12)) 17 (T0.1 13)) 18 (T0.1 14)) := ((tEq.sI _ _ (by decide)).trans (tEq.sI _ _ (by decide))).trans (tEq.sI _ _ (by decide))
  have g16 : (tI (tI (tI T0 16 (T0.1 12)) 17 (T0.1 13)) 18 (T0.1 14)).1 16 = T0.1 12 := by rw [tI_in (by decide), tI_in (by decide), tI_is]
  have g17 : (tI (tI (tI T0 16 (T0.1 12)) 17 (T0.1 13)) 18 (T0.1 14)).1 17 = T0.1 13 := by rw [tI_in (by decide), tI_is]
  have g18 : (tI (tI (tI T0 16 (T0.1 12)) 17 (T0.1 13)) 18 (T0.1 14)).1 18 = T0.1 14 := by rw [tI_is]
  generalize (tI (tI (tI T0 16 (T0.1 12)) 17 (T0.1 13)) 18 (T0.1 14)) = TB at hb g16 g17 g18
  refine loopUp (N := 24) (P := fun i => ∀ T, tEq [19] TB T → (∀ j, j < i → T.2.2.1 19 j = T0.2.2.1 15 j) → h_inForce_26 c (nI i) T) ?_ ?_ 0 (Nat.zero_le _) TB (tEq.refl _ _) (fun j hj => absurd hj (Nat.not_lt_zero _))
  · intro T1 e1 a1
    refine s_inForce_26 c _ T1 ⟨fun _ => ?_, fun e => absurd (Int32.le_refl _) e⟩
    refine loopUp (N := 8) (P := fun i => ∀ T, tEq [46] T1 T → (∀ j, j < i → T.2.2.2 46 j = T0.2.2.2 44 j) → h_inForce_52 c (nI i) T) ?_ ?_ 0 (Nat.zero_le _) T1 (tEq.refl _ _) (fun j hj => absurd hj (Nat.not_lt_zero _))
    · intro T2 e2 a2
      refine s_inForce_52 c _ T2 ⟨fun _ => ?_, fun e => absurd (Int32.le_refl _) e⟩
      refine loopUp (N := 512) (P := fun i => ∀ T, tEq [47] T2 T → (∀ j, j < i → T.2.2.2 47 j = T0.2.2.2 45 j) → h_inForce_78 c (nI i) T) ?_ ?_ 0 (Nat.zero_le _) T2 (tEq.refl _ _) (fun j hj => absurd hj (Nat.not_lt_zero _))
      · intro T3 e3 a3
        refine s_inForce_78 c _ T3 ⟨fun _ => ?_, fun e => absurd (Int32.le_refl _) e⟩
        refine loopUp (N := 64) (P := fun i => ∀ T, tEq [36] T3 T → (∀ j, j < i → T.2.2.2 36 j = 0) → h_inForce_105 c (nI i) T) ?_ ?_ 0 (Nat.zero_le _) T3 (tEq.refl _ _) (fun j hj => absurd hj (Nat.not_lt_zero _))
        · intro T4 e4 a4
          refine s_inForce_105 c _ T4 ⟨fun _ => ?_, fun e => absurd (Int32.le_refl _) e⟩
          rw [hc]
          have b : tEq [19, 36, 46, 47] TB T4 := (((e1.mono (by decide)).trans (e2.mono (by decide))).trans (e3.mono (by decide))).trans (e4.mono (by decide))
          have h23 : tEq [36, 47] T2 T4 := (e3.mono (by decide)).trans (e4.mono (by decide))
          have h14 : tEq [36, 46, 47] T1 T4 := (e2.mono (by decide)).trans (h23.mono (by decide))
          refine ⟨rfl, (((hb.mono (by decide)).trans (b.mono (by decide))).trans (tEq.sI _ _ (by decide))).trans (tEq.sI _ _ (by decide)), ?_, ?_, ?_, tI_is, by rw [tI_in (by decide), tI_is], fun j hj => ?_, fun j hj => ?_, fun j hj => ?_, a4⟩
          · rw [tI_in (by decide), tI_in (by decide), b.i 16 (by decide), g16]
          · rw [tI_in (by decide), tI_in (by decide), b.i 17 (by decide), g17]
          · rw [tI_in (by decide), tI_in (by decide), b.i 18 (by decide), g18]
          · rw [tI_l, tI_l, h14.a 19 (by decide)]; exact a1 j hj
          · rw [tI_l, tI_l, h23.b 46 (by decide)]; exact a2 j hj
          · rw [tI_l, tI_l, e4.b 47 (by decide)]; exact a3 j hj
        · intro i hi nx T e a
          refine s_inForce_105 c _ T ⟨fun e => absurd e (nI_ge hi (by decide)), fun _ => ⟨vpI (by omega), ?_⟩⟩
          rw [nI_1, nI_clamp (show i < 2 ^ 31 by omega)]
          refine nx _ (e.trans (tEq.sB _ _ (by decide))) (fun j hj => ?_)
          rw [tB_bs]
          by_cases q : j = i
          · subst q; exact up_self
          · rw [up_ne q]; exact a j (by omega)
      · intro i hi nx T e a
        refine s_inForce_78 c _ T ⟨fun e => absurd e (nI_ge hi (by decide)), fun _ => ⟨vpI (by omega), vpI (by omega), ?_⟩⟩
        rw [nI_1, nI_clamp (show i < 2 ^ 31 by omega)]
        refine nx _ (e.trans (tEq.sB _ _ (by decide))) (fun j hj => ?_)
        rw [tB_bs]
        by_cases q : j = i
        · subst q; rw [up_self, e.b 45 (by decide), e2.b 45 (by decide), e1.b 45 (by decide), hb.b 45 (by decide)]
        · rw [up_ne q]; exact a j (by omega)
    · intro i hi nx T e a
      refine s_inForce_52 c _ T ⟨fun e => absurd e (nI_ge hi (by decide)), fun _ => ⟨vpI (by omega), vpI (by omega), ?_⟩⟩
      rw [nI_1, nI_clamp (show i < 2 ^ 31 by omega)]
      refine nx _ (e.trans (tEq.sB _ _ (by decide))) (fun j hj => ?_)
      rw [tB_bs]
      by_cases q : j = i
      · subst q; rw [up_self, e.b 44 (by decide), e1.b 44 (by decide), hb.b 44 (by decide)]
      · rw [up_ne q]; exact a j (by omega)
  · intro i hi nx T e a
    refine s_inForce_26 c _ T ⟨fun e => absurd e (nI_ge hi (by decide)), fun _ => ⟨vpI (by omega), vpI (by omega), ?_⟩⟩
    rw [nI_1, nI_clamp (show i < 2 ^ 31 by omega)]
    refine nx _ (e.trans (tEq.sA _ _ (by decide))) (fun j hj => ?_)
    rw [tA_as]
    by_cases q : j = i
    · subst q; rw [up_self, e.a 15 (by decide), hb.a 15 (by decide)]
    · rw [up_ne q]; exact a j (by omega)
abbrev tSg : List Nat := [12, 13, 14, 15, 20, 21, 22, 23, 24, 25, 26, 27, 28, 29, 30, 31, 32, 44, 45, 58]
theorem ct_goesBack {T0 : tS} {p q : Nat} {mv : Nat → List Nat} (hm : tMovF T0 p q mv) (hfew : rFew p q mv) (hF : ∀ N f, rGrp p q mv N f → gFew N (mulF f N)) : tMv mX6_goesBack 4 (fun _ => []) T0 (fun T' => tEq tSg T0 T' ∧ tMov T' p q mv ∧ T'.1 14 = T0.1 18 ∧ T'.1 58 = 0 ∧ (∀ j, j < 24 → T'.2.2.1 15 j = T0.2.2.1 19 j) ∧ (∀ j, j < 8 → T'.2.2.2 44 j = T0.2.2.2 46 j) ∧ (∀ j, j < 512 → T'.2.2.2 45 j = T0.2.2.2 47 j) ∧ ∃ N f, rGrp p q mv N f ∧ tMemF T' p N f ∧ tGrp T' N (mulF f N) (invF f N) (subsL N (mulF f N)) (fstL N (mulF f N) (invF f N) (subsL N (mulF f N)))) := by
  obtain ⟨p1, p6, q4, mok, h16, h17, h19⟩ := id hm
  refine en_goesBack T0 _ (fun c hc => s_goesBack_0 c T0 ?_)
  have hb : tEq [12, 13, 14] T0 (tI (tI (tI T0 12 (T0.1 16)) 13 (T0.1 17)) 14 (T0.1 18)) := ((tEq.sI _ _ (by decide)).trans (tEq.sI _ _ (by decide))).trans (tEq.sI _ _ (by decide))
  have g12 : (tI (tI (tI T0 12 (T0.1 16)) 13 (T0.1 17)) 14 (T0.1 18)).1 12 = T0.1 16 := by rw [tI_in (by decide), tI_in (by decide), tI_is]
  have g13 : (tI (tI (tI T0 12 (T0.1 16)) 13 (T0.1 17)) 14 (T0.1 18)).1 13 = T0.1 17 := by rw [tI_in (by decide), tI_is]
  have g14 : (tI (tI (tI T0 12 (T0.1 16)) 13 (T0.1 17)) 14 (T0.1 18)).1 14 = T0.1 18 := by rw [tI_is]
  generalize (tI (tI (tI T0 12 (T0.1 16)) 13 (T0.1 17)) 14 (T0.1 18)) = TB at hb g12 g13 g14
  refine loopUp (N := 24) (P := fun i => ∀ T, tEq [15] TB T → (∀ j, j < i → T.2.2.1 15 j = T0.2.2.1 19 j) → h_goesBack_26 c (nI i) T) ?_ ?_ 0 (Nat.zero_le _) TB (tEq.refl _ _) (fun j hj => absurd hj (Nat.not_lt_zero _))
  · intro T1 e1 a1
    refine s_goesBack_26 c _ T1 ⟨fun _ => ?_, fun e => absurd (Int32.le_refl _) e⟩
    refine loopUp (N := 8) (P := fun i => ∀ T, tEq [44] T1 T → (∀ j, j < i → T.2.2.2 44 j = T0.2.2.2 46 j) → h_goesBack_52 c (nI i) T) ?_ ?_ 0 (Nat.zero_le _) T1 (tEq.refl _ _) (fun j hj => absurd hj (Nat.not_lt_zero _))
    · intro T2 e2 a2
      refine s_goesBack_52 c _ T2 ⟨fun _ => ?_, fun e => absurd (Int32.le_refl _) e⟩
      refine loopUp (N := 512) (P := fun i => ∀ T, tEq [45] T2 T → (∀ j, j < i → T.2.2.2 45 j = T0.2.2.2 47 j) → h_goesBack_78 c (nI i) T) ?_ ?_ 0 (Nat.zero_le _) T2 (tEq.refl _ _) (fun j hj => absurd hj (Nat.not_lt_zero _))
      · intro T3 e3 a3
        have b13 : tEq [44, 45] T1 T3 := (e2.mono (by decide)).trans (e3.mono (by decide))
        have bb3 : tEq [15, 44, 45] TB T3 := (e1.mono (by decide)).trans (b13.mono (by decide))
        have m3 : tMov T3 p q mv := ⟨p1, p6, q4, mok, by rw [bb3.i 12 (by decide), g12, h16], by rw [bb3.i 13 (by decide), g13, h17], fun k i hk hi => by rw [b13.a 15 (by decide), a1 _ (by omega)]; exact h19 k i hk hi⟩
        refine s_goesBack_78 c _ T3 ⟨fun _ => ⟨_, ct_builds m3 hfew hF, ?_⟩, fun e => absurd (Int32.le_refl _) e⟩
        rintro T5 ⟨e5, N, f, f1, f2, f3⟩
        rw [hc]
        have e58 : tEq [58] T5 (tI T5 58 0) := tEq.sI _ _ (by decide)
        refine ⟨rfl, (((hb.mono (by decide)).trans (bb3.mono (by decide))).trans (e5.mono (by decide))).trans (e58.mono (by decide)), (m3.same e5 (by decide) (by decide) (by decide)).same e58 (by decide) (by decide) (by decide), ?_, tI_is, fun j hj => ?_, fun j hj => ?_, fun j hj => ?_, N, f, f1, f2, f3⟩
        · rw [tI_in (by decide), e5.i 14 (by decide), bb3.i 14 (by decide), g14]
        · rw [tI_l, e5.a 15 (by decide), b13.a 15 (by decide)]; exact a1 j hj
        · rw [tI_l, e5.b 44 (by decide), e3.b 44 (by decide)]; exact a2 j hj
        · rw [tI_l, e5.b 45 (by decide)]; exact a3 j hj
      · intro i hi nx T e a
        refine s_goesBack_78 c _ T ⟨fun e => absurd e (nI_ge hi (by decide)), fun _ => ⟨vpI (by omega), vpI (by omega), ?_⟩⟩
        rw [nI_1, nI_clamp (show i < 2 ^ 31 by omega)]
        refine nx _ (e.trans (tEq.sB _ _ (by decide))) (fun j hj => ?_)
        rw [tB_bs]
        by_cases q : j = i
        · subst q; rw [up_self, e.b 47 (by decide), e2.b 47 (by decide), e1.b 47 (by decide), hb.b 47 (by decide)]
        · rw [up_ne q]; exact a j (by omega)
    · intro i hi nx T e a
      refine s_goesBack_52 c _ T ⟨fun e => absurd e (nI_ge hi (by decide)), fun _ => ⟨vpI (by omega), vpI (by omega), ?_⟩⟩
      rw [nI_1, nI_clamp (show i < 2 ^ 31 by omega)]
      refine nx _ (e.trans (tEq.sB _ _ (by decide))) (fun j hj => ?_)
      rw [tB_bs]
      by_cases q : j = i
      · subst q; rw [up_self, e.b 46 (by decide), e1.b 46 (by decide), hb.b 46 (by decide)]
      · rw [up_ne q]; exact a j (by omega)
  · intro i hi nx T e a
    refine s_goesBack_26 c _ T ⟨fun e => absurd e (nI_ge hi (by decide)), fun _ => ⟨vpI (by omega), vpI (by omega), ?_⟩⟩
    rw [nI_1, nI_clamp (show i < 2 ^ 31 by omega)]
    refine nx _ (e.trans (tEq.sA _ _ (by decide))) (fun j hj => ?_)
    rw [tA_as]
    by_cases q : j = i
    · subst q; rw [up_self, e.a 19 (by decide), hb.a 19 (by decide)]
    · rw [up_ne q]; exact a j (by omega)
