/-! by (II)I level 0 -/
def h_by_0 (c : tC) (x1 : Int32) (x2 : Int32) (T : tS) : Prop := tX mX6_by 0 c 0 [some (.ref c.2.2.2.1), some (.int x1), some (.int x2)] T
set_option maxHeartbeats 2000000 in
theorem s_by_0 (c : tC) (x1 : Int32) (x2 : Int32) (T : tS) (H : vp_in (((24 : Int32) * x1) + x2) 576 ∧ (c.2.2.2.2.2.2 (some (.int (T.2.2.1 23 (((24 : Int32) * x1) + x2).toNatClampNeg))) T)) : h_by_0 c x1 x2 T := by
  intro ok
  refine e_aload_n dX6_by_0 rfl ?_
  refine t_getA dX6_by_1 fX6_23 q2519 (by decide) rfl ?_
  refine e_bipush (24) dX6_by_4 (by decide) ?_
  refine e_iload_n dX6_by_6 rfl ?_
  refine e_imul dX6_by_7 ?_
  refine e_iload_n dX6_by_8 rfl ?_
  refine e_iadd dX6_by_9 ?_
  obtain ⟨g1, H⟩ := H
  refine t_iald dX6_by_10 (by decide) rfl g1 ?_
  exact e_ireturn .int dX6_by_11 rfl rfl ⟨_, _, rfl, rfl, H⟩

theorem en_by (x1 : Int32) (x2 : Int32) (T : tS) (Q : Option Value → tS → Prop) (H : ∀ c : tC, c.2.2.2.2.2.2 = Q → h_by_0 c x1 x2 T) : tM mX6_by 0 (fun b => [.int x1, .int x2]) T Q :=
  tM_mk (by decide) rfl (fun b => Nat.le_of_ble_eq_true rfl) (fun c hc ok => E.less2 (H c hc ok) (eS_s (eS_s (eS_s eS_0))))
/-! here (I)I level 0 -/
def h_here_0 (c : tC) (x1 : Int32) (T : tS) : Prop := tX mX6_here 0 c 0 [some (.ref c.2.2.2.1), some (.int x1)] T
set_option maxHeartbeats 2000000 in
theorem s_here_0 (c : tC) (x1 : Int32) (T : tS) (H : ((T.1 2) ≤ ((T.1 3) + x1) → c.2.2.2.2.2.2 (some (.int (-1 : Int32))) T) ∧ (¬ (T.1 2) ≤ ((T.1 3) + x1) → vp_in ((T.1 3) + x1) 700 ∧ (c.2.2.2.2.2.2 (some (.int (T.2.2.1 0 ((T.1 3) + x1).toNatClampNeg))) T))) : h_here_0 c x1 T := by
  intro ok
  refine e_aload_n dX6_here_0 rfl ?_
  refine t_getI dX6_here_1 fX6_3 q2499 (by decide) rfl ?_
  refine e_iload_n dX6_here_4 rfl ?_
  refine e_iadd dX6_here_5 ?_
  refine e_aload_n dX6_here_6 rfl ?_
  refine t_getI dX6_here_7 fX6_2 q2498 (by decide) rfl ?_
  refine e_icmp_ge 27 dX6_here_10 (by decide) (fun g1 => ?_) (fun g1 => ?_)
  · replace H := H.1 g1
    refine e_iconst (-1) dX6_here_27 (by decide) ?_
    exact e_ireturn .int dX6_here_28 rfl rfl ⟨_, _, rfl, rfl, H⟩
  · replace H := H.2 g1
    refine e_aload_n dX6_here_13 rfl ?_
    refine t_getA dX6_here_14 fX6_0 q2496 (by decide) rfl ?_
    refine e_aload_n dX6_here_17 rfl ?_
    refine t_getI dX6_here_18 fX6_3 q2499 (by decide) rfl ?_
    refine e_iload_n dX6_here_21 rfl ?_
    refine e_iadd dX6_here_22 ?_
    obtain ⟨g2, H⟩ := H
    refine t_iald dX6_here_23 (by decide) rfl g2 ?_
    refine e_goto 28 dX6_here_24 (by decide) ?_
    exact e_ireturn .int dX6_here_28 rfl rfl ⟨_, _, rfl, rfl, H⟩

theorem en_here (x1 : Int32) (T : tS) (Q : Option Value → tS → Prop) (H : ∀ c : tC, c.2.2.2.2.2.2 = Q → h_here_0 c x1 T) : tM mX6_here 0 (fun b => [.int x1]) T Q :=
  tM_mk (by decide) rfl (fun b => Nat.le_of_ble_eq_true rfl) (fun c hc ok => E.less2 (H c hc ok) (eS_s (eS_s eS_0)))
/-! isGood ()Z level 0 -/
def h_isGood_0 (c : tC) (T : tS) : Prop := tX mX6_isGood 0 c 0 [some (.ref c.2.2.2.1)] T
set_option maxHeartbeats 2000000 in
theorem s_isGood_0 (c : tC) (T : tS) (H : (¬ (T.1 7) = 0 → c.2.2.2.2.2.2 (some (.int (0 : Int32))) T) ∧ ((T.1 7) = 0 → c.2.2.2.2.2.2 (some (.int (1 : Int32))) T)) : h_isGood_0 c T := by
  intro ok
  refine e_aload_n dX6_isGood_0 rfl ?_
  refine t_getI dX6_isGood_1 fX6_7 q2503 (by decide) rfl ?_
  refine e_if_ne 11 dX6_isGood_4 (by decide) (fun g1 => ?_) (fun g1 => ?_)
  · replace H := H.1 g1
    refine e_iconst (0) dX6_isGood_11 (by decide) ?_
    exact e_ireturn .boolean dX6_isGood_12 rfl (by decide) ⟨_, _, rfl, rfl, H⟩
  · replace H := H.2 g1
    refine e_iconst (1) dX6_isGood_7 (by decide) ?_
    refine e_goto 12 dX6_isGood_8 (by decide) ?_
    exact e_ireturn .boolean dX6_isGood_12 rfl (by decide) ⟨_, _, rfl, rfl, H⟩

theorem en_isGood (T : tS) (Q : Option Value → tS → Prop) (H : ∀ c : tC, c.2.2.2.2.2.2 = Q → h_isGood_0 c T) : tM mX6_isGood 0 (fun b => []) T Q :=
  tM_mk (by decide) rfl (fun b => Nat.le_of_ble_eq_true rfl) (fun c hc ok => E.less2 (H c hc ok) (eS_s eS_0))
/-! isWord (J)Z level 0 -/
def h_isWord_0 (c : tC) (x1 : Int64) (T : tS) : Prop := tX mX6_isWord 0 c 0 [some (.ref c.2.2.2.1), some (.long x1), none] T
set_option maxHeartbeats 2000000 in
theorem s_isWord_0 (c : tC) (x1 : Int64) (T : tS) (H : (¬ (T.1 7) = 0 → c.2.2.2.2.2.2 (some (.int (0 : Int32))) T) ∧ ((T.1 7) = 0 → (¬ (T.1 5) = (1 : Int32) → c.2.2.2.2.2.2 (some (.int (0 : Int32))) T) ∧ ((T.1 5) = (1 : Int32) → (¬ (lg_cmp (T.2.1 11) x1) = 0 → c.2.2.2.2.2.2 (some (.int (0 : Int32))) T) ∧ ((lg_cmp (T.2.1 11) x1) = 0 → c.2.2.2.2.2.2 (some (.int (1 : Int32))) T)))) : h_isWord_0 c x1 T := by
  intro ok
  refine e_aload_n dX6_isWord_0 rfl ?_
  refine t_getI dX6_isWord_1 fX6_7 q2503 (by decide) rfl ?_
  refine e_if_ne 28 dX6_isWord_4 (by decide) (fun g1 => ?_) (fun g1 => ?_)
  · replace H := H.1 g1
    refine e_iconst (0) dX6_isWord_28 (by decide) ?_
    exact e_ireturn .boolean dX6_isWord_29 rfl (by decide) ⟨_, _, rfl, rfl, H⟩
  · replace H := H.2 g1
    refine e_aload_n dX6_isWord_7 rfl ?_
    refine t_getI dX6_isWord_8 fX6_5 q2501 (by decide) rfl ?_
    refine e_iconst (1) dX6_isWord_11 (by decide) ?_
    refine e_icmp_ne 28 dX6_isWord_12 (by decide) (fun g2 => ?_) (fun g2 => ?_)
    · replace H := H.1 g2
      refine e_iconst (0) dX6_isWord_28 (by decide) ?_
      exact e_ireturn .boolean dX6_isWord_29 rfl (by decide) ⟨_, _, rfl, rfl, H⟩
    · replace H := H.2 g2
      refine e_aload_n dX6_isWord_15 rfl ?_
      refine t_getL dX6_isWord_16 fX6_11 q2507 (by decide) rfl ?_
      refine e_lload_n dX6_isWord_19 rfl ?_
      refine e_lcmp dX6_isWord_20 ?_
      refine e_if_ne 28 dX6_isWord_21 (by decide) (fun g3 => ?_) (fun g3 => ?_)
      · replace H := H.1 g3
        refine e_iconst (0) dX6_isWord_28 (by decide) ?_
        exact e_ireturn .boolean dX6_isWord_29 rfl (by decide) ⟨_, _, rfl, rfl, H⟩
      · replace H := H.2 g3
        refine e_iconst (1) dX6_isWord_24 (by decide) ?_
        refine e_goto 29 dX6_isWord_25 (by decide) ?_
        exact e_ireturn .boolean dX6_isWord_29 rfl (by decide) ⟨_, _, rfl, rfl, H⟩

theorem en_isWord (x1 : Int64) (T : tS) (Q : Option Value → tS → Prop) (H : ∀ c : tC, c.2.2.2.2.2.2 = Q → h_isWord_0 c x1 T) : tM mX6_isWord 0 (fun b => [.long x1]) T Q :=
  tM_mk (by decide) rfl (fun b => Nat.le_of_ble_eq_true rfl) (fun c hc ok => E.less2 (H c hc ok) (eS_s (eS_s (eS_n eS_0))))
/-! isSignHere (I)Z level 0 -/
def h_isSignHere_0 (c : tC) (x1 : Int32) (T : tS) : Prop := tX mX6_isSignHere 0 c 0 [some (.ref c.2.2.2.1), some (.int x1)] T
set_option maxHeartbeats 2000000 in
theorem s_isSignHere_0 (c : tC) (x1 : Int32) (T : tS) (H : (¬ (T.1 7) = 0 → c.2.2.2.2.2.2 (some (.int (0 : Int32))) T) ∧ ((T.1 7) = 0 → (¬ (T.1 5) = (3 : Int32) → c.2.2.2.2.2.2 (some (.int (0 : Int32))) T) ∧ ((T.1 5) = (3 : Int32) → (¬ (T.1 6) = x1 → c.2.2.2.2.2.2 (some (.int (0 : Int32))) T) ∧ ((T.1 6) = x1 → c.2.2.2.2.2.2 (some (.int (1 : Int32))) T)))) : h_isSignHere_0 c x1 T := by
  intro ok
  refine e_aload_n dX6_isSignHere_0 rfl ?_
  refine t_getI dX6_isSignHere_1 fX6_7 q2503 (by decide) rfl ?_
  refine e_if_ne 27 dX6_isSignHere_4 (by decide) (fun g1 => ?_) (fun g1 => ?_)
  · replace H := H.1 g1
    refine e_iconst (0) dX6_isSignHere_27 (by decide) ?_
    exact e_ireturn .boolean dX6_isSignHere_28 rfl (by decide) ⟨_, _, rfl, rfl, H⟩
  · replace H := H.2 g1
    refine e_aload_n dX6_isSignHere_7 rfl ?_
    refine t_getI dX6_isSignHere_8 fX6_5 q2501 (by decide) rfl ?_
    refine e_iconst (3) dX6_isSignHere_11 (by decide) ?_
    refine e_icmp_ne 27 dX6_isSignHere_12 (by decide) (fun g2 => ?_) (fun g2 => ?_)
    · replace H := H.1 g2
      refine e_iconst (0) dX6_isSignHere_27 (by decide) ?_
      exact e_ireturn .boolean dX6_isSignHere_28 rfl (by decide) ⟨_, _, rfl, rfl, H⟩
    · replace H := H.2 g2
      refine e_aload_n dX6_isSignHere_15 rfl ?_
      refine t_getI dX6_isSignHere_16 fX6_6 q2502 (by decide) rfl ?_
      refine e_iload_n dX6_isSignHere_19 rfl ?_
      refine e_icmp_ne 27 dX6_isSignHere_20 (by decide) (fun g3 => ?_) (fun g3 => ?_)
      · replace H := H.1 g3
        refine e_iconst (0) dX6_isSignHere_27 (by decide) ?_
        exact e_ireturn .boolean dX6_isSignHere_28 rfl (by decide) ⟨_, _, rfl, rfl, H⟩
      · replace H := H.2 g3
        refine e_iconst (1) dX6_isSignHere_23 (by decide) ?_
        refine e_goto 28 dX6_isSignHere_24 (by decide) ?_
        exact e_ireturn .boolean dX6_isSignHere_28 rfl (by decide) ⟨_, _, rfl, rfl, H⟩

theorem en_isSignHere (x1 : Int32) (T : tS) (Q : Option Value → tS → Prop) (H : ∀ c : tC, c.2.2.2.2.2.2 = Q → h_isSignHere_0 c x1 T) : tM mX6_isSignHere 0 (fun b => [.int x1]) T Q :=
  tM_mk (by decide) rfl (fun b => Nat.le_of_ble_eq_true rfl) (fun c hc ok => E.less2 (H c hc ok) (eS_s (eS_s eS_0)))
/-! isName ()Z level 0 -/
def h_isName_0 (c : tC) (T : tS) : Prop := tX mX6_isName 0 c 0 [some (.ref c.2.2.2.1)] T
set_option maxHeartbeats 2000000 in
theorem s_isName_0 (c : tC) (T : tS) (H : (¬ (T.1 5) = (1 : Int32) → c.2.2.2.2.2.2 (some (.int (0 : Int32))) T) ∧ ((T.1 5) = (1 : Int32) → ((lg_cmp (T.2.1 11) (123610792682867 : Int64)) = 0 → c.2.2.2.2.2.2 (some (.int (0 : Int32))) T) ∧ (¬ (lg_cmp (T.2.1 11) (123610792682867 : Int64)) = 0 → ((lg_cmp (T.2.1 11) (1836021349 : Int64)) = 0 → c.2.2.2.2.2.2 (some (.int (0 : Int32))) T) ∧ (¬ (lg_cmp (T.2.1 11) (1836021349 : Int64)) = 0 → ((lg_cmp (T.2.1 11) (7103860 : Int64)) = 0 → c.2.2.2.2.2.2 (some (.int (0 : Int32))) T) ∧ (¬ (lg_cmp (T.2.1 11) (7103860 : Int64)) = 0 → ((lg_cmp (T.2.1 11) (1936683636 : Int64)) = 0 → c.2.2.2.2.2.2 (some (.int (0 : Int32))) T) ∧ (¬ (lg_cmp (T.2.1 11) (1936683636 : Int64)) = 0 → c.2.2.2.2.2.2 (some (.int (1 : Int32))) T)))))) : h_isName_0 c T := by
  intro ok
  refine e_aload_n dX6_isName_0 rfl ?_
  refine t_getI dX6_isName_1 fX6_5 q2501 (by decide) rfl ?_
  refine e_iconst (1) dX6_isName_4 (by decide) ?_
  refine e_icmp_ne 56 dX6_isName_5 (by decide) (fun g1 => ?_) (fun g1 => ?_)
  · replace H := H.1 g1
    refine e_iconst (0) dX6_isName_56 (by decide) ?_
    exact e_ireturn .boolean dX6_isName_57 rfl (by decide) ⟨_, _, rfl, rfl, H⟩
  · replace H := H.2 g1
    refine e_aload_n dX6_isName_8 rfl ?_
    refine t_getL dX6_isName_9 fX6_11 q2507 (by decide) rfl ?_
    refine e_ldc2 dX6_isName_12 q2739 ?_
    refine e_lcmp dX6_isName_15 ?_
    refine e_if_eq 56 dX6_isName_16 (by decide) (fun g2 => ?_) (fun g2 => ?_)
    · replace H := H.1 g2
      refine e_iconst (0) dX6_isName_56 (by decide) ?_
      exact e_ireturn .boolean dX6_isName_57 rfl (by decide) ⟨_, _, rfl, rfl, H⟩
    · replace H := H.2 g2
      refine e_aload_n dX6_isName_19 rfl ?_
      refine t_getL dX6_isName_20 fX6_11 q2507 (by decide) rfl ?_
      refine e_ldc2 dX6_isName_23 q2768 ?_
      refine e_lcmp dX6_isName_26 ?_
      refine e_if_eq 56 dX6_isName_27 (by decide) (fun g3 => ?_) (fun g3 => ?_)
      · replace H := H.1 g3
        refine e_iconst (0) dX6_isName_56 (by decide) ?_
        exact e_ireturn .boolean dX6_isName_57 rfl (by decide) ⟨_, _, rfl, rfl, H⟩
      · replace H := H.2 g3
        refine e_aload_n dX6_isName_30 rfl ?_
        refine t_getL dX6_isName_31 fX6_11 q2507 (by decide) rfl ?_
        refine e_ldc2 dX6_isName_34 q2773 ?_
        refine e_lcmp dX6_isName_37 ?_
        refine e_if_eq 56 dX6_isName_38 (by decide) (fun g4 => ?_) (fun g4 => ?_)
        · replace H := H.1 g4
          refine e_iconst (0) dX6_isName_56 (by decide) ?_
          exact e_ireturn .boolean dX6_isName_57 rfl (by decide) ⟨_, _, rfl, rfl, H⟩
        · replace H := H.2 g4
          refine e_aload_n dX6_isName_41 rfl ?_
          refine t_getL dX6_isName_42 fX6_11 q2507 (by decide) rfl ?_
          refine e_ldc2 dX6_isName_45 q2782 ?_
          refine e_lcmp dX6_isName_48 ?_
          refine e_if_eq 56 dX6_isName_49 (by decide) (fun g5 => ?_) (fun g5 => ?_)
          · replace H := H.1 g5
            refine e_iconst (0) dX6_isName_56 (by decide) ?_
            exact e_ireturn .boolean dX6_isName_57 rfl (by decide) ⟨_, _, rfl, rfl, H⟩
          · replace H := H.2 g5
            refine e_iconst (1) dX6_isName_52 (by decide) ?_
            refine e_goto 57 dX6_isName_53 (by decide) ?_
            exact e_ireturn .boolean dX6_isName_57 rfl (by decide) ⟨_, _, rfl, rfl, H⟩

theorem en_isName (T : tS) (Q : Option Value → tS → Prop) (H : ∀ c : tC, c.2.2.2.2.2.2 = Q → h_isName_0 c T) : tM mX6_isName 0 (fun b => []) T Q :=
  tM_mk (by decide) rfl (fun b => Nat.le_of_ble_eq_true rfl) (fun c hc ok => E.less2 (H c hc ok) (eS_s eS_0))
/-! isSort (I)Z level 1 -/
def h_isSort_0 (c : tC) (x1 : Int32) (T : tS) : Prop := tX mX6_isSort 1 c 0 [some (.ref c.2.2.2.1), some (.int x1)] T
set_option maxHeartbeats 2000000 in
theorem s_isSort_0 (c : tC) (x1 : Int32) (T : tS) (H : narrow .boolean (.int (zI ((0 : Int64) ≤ x1.toInt64 ∧ x1.toInt64 ≤ (((T.1 26) - (1 : Int32)).toInt64)))) = .int (zI ((0 : Int64) ≤ x1.toInt64 ∧ x1.toInt64 ≤ (((T.1 26) - (1 : Int32)).toInt64))) ∧ c.2.2.2.2.2.2 (some (.int (zI ((0 : Int64) ≤ x1.toInt64 ∧ x1.toInt64 ≤ (((T.1 26) - (1 : Int32)).toInt64))))) T) : h_isSort_0 c x1 T := by
  intro ok
  refine e_iload_n dX6_isSort_0 rfl ?_
  refine e_i2l dX6_isSort_1 ?_
  refine e_lconst 0 dX6_isSort_2 (by decide) ?_
  refine e_aload_n dX6_isSort_3 rfl ?_
  refine t_getI dX6_isSort_4 fX6_26 q2522 (by decide) rfl ?_
  refine e_iconst (1) dX6_isSort_7 (by decide) ?_
  refine e_isub dX6_isSort_8 ?_
  refine e_i2l dX6_isSort_9 ?_
  refine t_callS (As := [.long x1.toInt64, .long (0 : Int64), .long (((T.1 26) - (1 : Int32)).toInt64)]) ok (ct_isIn x1.toInt64 (0 : Int64) (((T.1 26) - (1 : Int32)).toInt64)) dX6_isSort_10 wX6_isIn q2707 q2708 rfl (by decide) rfl (Nat.le_of_ble_eq_true rfl) ?_
  exact e_ireturn .boolean dX6_isSort_13 rfl H.1 ⟨_, _, rfl, rfl, H.2⟩

theorem en_isSort (x1 : Int32) (T : tS) (Q : Option Value → tS → Prop) (H : ∀ c : tC, c.2.2.2.2.2.2 = Q → h_isSort_0 c x1 T) : tM mX6_isSort 1 (fun b => [.int x1]) T Q :=
  tM_mk (by decide) rfl (fun b => Nat.le_of_ble_eq_true rfl) (fun c hc ok => E.less2 (H c hc ok) (eS_s (eS_s eS_0)))
/-! isMember (I)Z level 1 -/
def h_isMember_0 (c : tC) (x1 : Int32) (T : tS) : Prop := tX mX6_isMember 1 c 0 [some (.ref c.2.2.2.1), some (.int x1)] T
set_option maxHeartbeats 2000000 in
theorem s_isMember_0 (c : tC) (x1 : Int32) (T : tS) (H : narrow .boolean (.int (zI ((0 : Int64) ≤ x1.toInt64 ∧ x1.toInt64 ≤ (((T.1 20) - (1 : Int32)).toInt64)))) = .int (zI ((0 : Int64) ≤ x1.toInt64 ∧ x1.toInt64 ≤ (((T.1 20) - (1 : Int32)).toInt64))) ∧ c.2.2.2.2.2.2 (some (.int (zI ((0 : Int64) ≤ x1.toInt64 ∧ x1.toInt64 ≤ (((T.1 20) - (1 : Int32)).toInt64))))) T) : h_isMember_0 c x1 T := by
  intro ok
  refine e_iload_n dX6_isMember_0 rfl ?_
  refine e_i2l dX6_isMember_1 ?_
  refine e_lconst 0 dX6_isMember_2 (by decide) ?_
  refine e_aload_n dX6_isMember_3 rfl ?_
  refine t_getI dX6_isMember_4 fX6_20 q2516 (by decide) rfl ?_
  refine e_iconst (1) dX6_isMember_7 (by decide) ?_
  refine e_isub dX6_isMember_8 ?_
  refine e_i2l dX6_isMember_9 ?_
  refine t_callS (As := [.long x1.toInt64, .long (0 : Int64), .long (((T.1 20) - (1 : Int32)).toInt64)]) ok (ct_isIn x1.toInt64 (0 : Int64) (((T.1 20) - (1 : Int32)).toInt64)) dX6_isMember_10 wX6_isIn q2707 q2708 rfl (by decide) rfl (Nat.le_of_ble_eq_true rfl) ?_
  exact e_ireturn .boolean dX6_isMember_13 rfl H.1 ⟨_, _, rfl, rfl, H.2⟩

theorem en_isMember (x1 : Int32) (T : tS) (Q : Option Value → tS → Prop) (H : ∀ c : tC, c.2.2.2.2.2.2 = Q → h_isMember_0 c x1 T) : tM mX6_isMember 1 (fun b => [.int x1]) T Q :=
  tM_mk (by decide) rfl (fun b => Nat.le_of_ble_eq_true rfl) (fun c hc ok => E.less2 (H c hc ok) (eS_s (eS_s eS_0)))
/-! areMembers (I)Z level 1 -/
def h_areMembers_0 (c : tC) (x1 : Int32) (T : tS) : Prop := tX mX6_areMembers 1 c 0 [some (.ref c.2.2.2.1), some (.int x1)] T
set_option maxHeartbeats 2000000 in
theorem s_areMembers_0 (c : tC) (x1 : Int32) (T : tS) (H : narrow .boolean (.int (zI ((0 : Int64) ≤ x1.toInt64 ∧ x1.toInt64 ≤ ((((1 : Int32) <<< ((T.1 20) &&& 31)) - (1 : Int32)).toInt64)))) = .int (zI ((0 : Int64) ≤ x1.toInt64 ∧ x1.toInt64 ≤ ((((1 : Int32) <<< ((T.1 20) &&& 31)) - (1 : Int32)).toInt64))) ∧ c.2.2.2.2.2.2 (some (.int (zI ((0 : Int64) ≤ x1.toInt64 ∧ x1.toInt64 ≤ ((((1 : Int32) <<< ((T.1 20) &&& 31)) - (1 : Int32)).toInt64))))) T) : h_areMembers_0 c x1 T := by
  intro ok
  refine e_iload_n dX6_areMembers_0 rfl ?_
  refine e_i2l dX6_areMembers_1 ?_
  refine e_lconst 0 dX6_areMembers_2 (by decide) ?_
  refine e_iconst (1) dX6_areMembers_3 (by decide) ?_
  refine e_aload_n dX6_areMembers_4 rfl ?_
  refine t_getI dX6_areMembers_5 fX6_20 q2516 (by decide) rfl ?_
  refine e_ishl dX6_areMembers_8 ?_
  refine e_iconst (1) dX6_areMembers_9 (by decide) ?_
  refine e_isub dX6_areMembers_10 ?_
  refine e_i2l dX6_areMembers_11 ?_
  refine t_callS (As := [.long x1.toInt64, .long (0 : Int64), .long ((((1 : Int32) <<< ((T.1 20) &&& 31)) - (1 : Int32)).toInt64)]) ok (ct_isIn x1.toInt64 (0 : Int64) ((((1 : Int32) <<< ((T.1 20) &&& 31)) - (1 : Int32)).toInt64)) dX6_areMembers_12 wX6_isIn q2707 q2708 rfl (by decide) rfl (Nat.le_of_ble_eq_true rfl) ?_
  exact e_ireturn .boolean dX6_areMembers_15 rfl H.1 ⟨_, _, rfl, rfl, H.2⟩

theorem en_areMembers (x1 : Int32) (T : tS) (Q : Option Value → tS → Prop) (H : ∀ c : tC, c.2.2.2.2.2.2 = Q → h_areMembers_0 c x1 T) : tM mX6_areMembers 1 (fun b => [.int x1]) T Q :=
  tM_mk (by decide) rfl (fun b => Nat.le_of_ble_eq_true rfl) (fun c hc ok => E.less2 (H c hc ok) (eS_s (eS_s eS_0)))
