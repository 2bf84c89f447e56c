/-! about (I)I level 2 -/
def h_about_0 (c : tC) (x1 : Int32) (T : tS) : Prop := tX mX6_about 2 c 0 [some (.ref c.2.2.2.1), some (.int x1)] T
set_option maxHeartbeats 2000000 in
theorem s_about_0 (c : tC) (x1 : Int32) (T : tS) (H : ((x1.toInt < 0 ∨ 8 < x1.toInt) → c.2.2.2.2.2.2 (some (.int (-1 : Int32))) T) ∧ (x1 = nI 0 → c.2.2.2.2.2.2 (some (.int (T.1 16))) T) ∧ (x1 = nI 1 → c.2.2.2.2.2.2 (some (.int (T.1 17))) T) ∧ (x1 = nI 2 → c.2.2.2.2.2.2 (some (.int (T.1 18))) T) ∧ (x1 = nI 3 → c.2.2.2.2.2.2 (some (.int (T.1 20))) T) ∧ (x1 = nI 4 → c.2.2.2.2.2.2 (some (.int (T.1 25))) T) ∧ (x1 = nI 5 → c.2.2.2.2.2.2 (some (.int (T.1 26))) T) ∧ (x1 = nI 6 → ∃ Q3 : Int32 → tS → Prop, tMi mX6_areAlike 1 (fun b => [.int (((1 : Int32) <<< ((T.1 20) &&& 31)) - (1 : Int32))]) T Q3 ∧ ∀ (r8 : Int32) (T6 : tS), Q3 r8 T6 → c.2.2.2.2.2.2 (some (.int (zI (¬ r8 = 0)))) T6) ∧ (x1 = nI 7 → c.2.2.2.2.2.2 (some (.int (T.1 60))) T) ∧ (x1 = nI 8 → c.2.2.2.2.2.2 (some (.int (T.1 1))) T)) : h_about_0 c x1 T := by
  intro ok
  refine e_iload_n dX6_about_0 rfl ?_
  rcases eSwitch 8 x1 with g1 | ⟨k2, g1, rfl⟩
  · replace H := H.1 g1
    refine e_switchOut 108 dX6_about_1 g1 (by decide) ?_
    refine e_iconst (-1) dX6_about_108 (by decide) ?_
    exact e_ireturn .int dX6_about_109 rfl rfl ⟨_, _, rfl, rfl, H⟩
  · replace H := H.2
    rcases (show k2 = 0 ∨ k2 = 1 ∨ k2 = 2 ∨ k2 = 3 ∨ k2 = 4 ∨ k2 = 5 ∨ k2 = 6 ∨ k2 = 7 ∨ k2 = 8 by omega) with rfl | rfl | rfl | rfl | rfl | rfl | rfl | rfl | rfl
    · replace H := H.1 rfl
      refine e_switchIn (off := 51) 52 dX6_about_1 (by decide) (by decide) (by decide) (by decide) ?_
      refine e_aload_n dX6_about_52 rfl ?_
      refine t_getI dX6_about_53 fX6_16 q2512 (by decide) rfl ?_
      exact e_ireturn .int dX6_about_56 rfl rfl ⟨_, _, rfl, rfl, H⟩
    · replace H := H.2.1 rfl
      refine e_switchIn (off := 56) 57 dX6_about_1 (by decide) (by decide) (by decide) (by decide) ?_
      refine e_aload_n dX6_about_57 rfl ?_
      refine t_getI dX6_about_58 fX6_17 q2513 (by decide) rfl ?_
      exact e_ireturn .int dX6_about_61 rfl rfl ⟨_, _, rfl, rfl, H⟩
    · replace H := H.2.2.1 rfl
      refine e_switchIn (off := 61) 62 dX6_about_1 (by decide) (by decide) (by decide) (by decide) ?_
      refine e_aload_n dX6_about_62 rfl ?_
      refine t_getI dX6_about_63 fX6_18 q2514 (by decide) rfl ?_
      exact e_ireturn .int dX6_about_66 rfl rfl ⟨_, _, rfl, rfl, H⟩
    · replace H := H.2.2.2.1 rfl
      refine e_switchIn (off := 66) 67 dX6_about_1 (by decide) (by decide) (by decide) (by decide) ?_
      refine e_aload_n dX6_about_67 rfl ?_
      refine t_getI dX6_about_68 fX6_20 q2516 (by decide) rfl ?_
      exact e_ireturn .int dX6_about_71 rfl rfl ⟨_, _, rfl, rfl, H⟩
    · replace H := H.2.2.2.2.1 rfl
      refine e_switchIn (off := 71) 72 dX6_about_1 (by decide) (by decide) (by decide) (by decide) ?_
      refine e_aload_n dX6_about_72 rfl ?_
      refine t_getI dX6_about_73 fX6_25 q2521 (by decide) rfl ?_
      exact e_ireturn .int dX6_about_76 rfl rfl ⟨_, _, rfl, rfl, H⟩
    · replace H := H.2.2.2.2.2.1 rfl
      refine e_switchIn (off := 76) 77 dX6_about_1 (by decide) (by decide) (by decide) (by decide) ?_
      refine e_aload_n dX6_about_77 rfl ?_
      refine t_getI dX6_about_78 fX6_26 q2522 (by decide) rfl ?_
      exact e_ireturn .int dX6_about_81 rfl rfl ⟨_, _, rfl, rfl, H⟩
    · replace H := H.2.2.2.2.2.2.1 rfl
      refine e_switchIn (off := 81) 82 dX6_about_1 (by decide) (by decide) (by decide) (by decide) ?_
      refine e_aload_n dX6_about_82 rfl ?_
      refine e_iconst (1) dX6_about_83 (by decide) ?_
      refine e_aload_n dX6_about_84 rfl ?_
      refine t_getI dX6_about_85 fX6_20 q2516 (by decide) rfl ?_
      refine e_ishl dX6_about_88 ?_
      refine e_iconst (1) dX6_about_89 (by decide) ?_
      refine e_isub dX6_about_90 ?_
      obtain ⟨Q3, hC4, H⟩ := H
      refine t_callV (As := [.int (((1 : Int32) <<< ((T.1 20) &&& 31)) - (1 : Int32))]) ok hC4 dX6_about_91 wX6_areAlike q2881 q2883 qs108 rfl rfl (by decide) rfl (Nat.le_of_ble_eq_true rfl) (fun v5 T6 e7 => ?_)
      obtain ⟨r8, rfl, e7⟩ := e7
      replace H := H r8 T6 e7
      refine t_callS (As := [.int r8]) ok (ct_truth r8) dX6_about_94 wX6_truth q2489 q2490 rfl (by decide) rfl (Nat.le_of_ble_eq_true rfl) ?_
      exact e_ireturn .int dX6_about_97 rfl rfl ⟨_, _, rfl, rfl, H⟩
    · replace H := H.2.2.2.2.2.2.2.1 rfl
      refine e_switchIn (off := 97) 98 dX6_about_1 (by decide) (by decide) (by decide) (by decide) ?_
      refine e_aload_n dX6_about_98 rfl ?_
      refine t_getI dX6_about_99 fX6_60 q2556 (by decide) rfl ?_
      exact e_ireturn .int dX6_about_102 rfl rfl ⟨_, _, rfl, rfl, H⟩
    · replace H := H.2.2.2.2.2.2.2.2 rfl
      refine e_switchIn (off := 102) 103 dX6_about_1 (by decide) (by decide) (by decide) (by decide) ?_
      refine e_aload_n dX6_about_103 rfl ?_
      refine t_getI dX6_about_104 fX6_1 q2497 (by decide) rfl ?_
      exact e_ireturn .int dX6_about_107 rfl rfl ⟨_, _, rfl, rfl, H⟩

theorem en_about (x1 : Int32) (T : tS) (Q : Option Value → tS → Prop) (H : ∀ c : tC, c.2.2.2.2.2.2 = Q → h_about_0 c x1 T) : tM mX6_about 2 (fun b => [.int x1]) T Q :=
  tM_mk (by decide) rfl (fun b => Nat.le_of_ble_eq_true rfl) (fun c hc ok => E.less2 (H c hc ok) (eS_s (eS_s eS_0)))
/-! areAlike (I)Z level 1 -/
def h_areAlike_0 (c : tC) (x1 : Int32) (T : tS) : Prop := tX mX6_areAlike 1 c 0 [some (.ref c.2.2.2.1), some (.int x1), none, none] T
def h_areAlike_2 (c : tC) (x1 : Int32) (x2 : Int32) (T : tS) : Prop := tX mX6_areAlike 1 c 2 [some (.ref c.2.2.2.1), some (.int x1), some (.int x2), none] T
def h_areAlike_12 (c : tC) (x1 : Int32) (x2 : Int32) (x3 : Int32) (T : tS) : Prop := tX mX6_areAlike 1 c 12 [some (.ref c.2.2.2.1), some (.int x1), some (.int x2), some (.int x3)] T
def h_areAlike_53 (c : tC) (x1 : Int32) (x2 : Int32) (x3 : Int32) (T : tS) : Prop := tX mX6_areAlike 1 c 53 [some (.ref c.2.2.2.1), some (.int x1), some (.int x2), some (.int x3)] T
set_option maxHeartbeats 2000000 in
theorem s_areAlike_0 (c : tC) (x1 : Int32) (T : tS) (H : h_areAlike_2 c x1 (0 : Int32) T) : h_areAlike_0 c x1 T := by
  intro ok
  refine e_iconst (0) dX6_areAlike_0 (by decide) ?_
  refine e_istore_n _ dX6_areAlike_1 (by decide) rfl rfl ?_
  exact H ok

set_option maxHeartbeats 2000000 in
theorem s_areAlike_2 (c : tC) (x1 : Int32) (x2 : Int32) (T : tS) (H : ((T.1 20) ≤ x2 → c.2.2.2.2.2.2 (some (.int (1 : Int32))) T) ∧ (¬ (T.1 20) ≤ x2 → h_areAlike_12 c x1 x2 (0 : Int32) T)) : h_areAlike_2 c x1 x2 T := by
  intro ok
  refine e_iload_n dX6_areAlike_2 rfl ?_
  refine e_aload_n dX6_areAlike_3 rfl ?_
  refine t_getI dX6_areAlike_4 fX6_20 q2516 (by decide) rfl ?_
  refine e_icmp_ge 65 dX6_areAlike_7 (by decide) (fun g1 => ?_) (fun g1 => ?_)
  · replace H := H.1 g1
    refine e_iconst (1) dX6_areAlike_65 (by decide) ?_
    exact e_ireturn .boolean dX6_areAlike_66 rfl (by decide) ⟨_, _, rfl, rfl, H⟩
  · replace H := H.2 g1
    refine e_iconst (0) dX6_areAlike_10 (by decide) ?_
    refine e_istore_n _ dX6_areAlike_11 (by decide) rfl rfl ?_
    exact H ok

set_option maxHeartbeats 2000000 in
theorem s_areAlike_12 (c : tC) (x1 : Int32) (x2 : Int32) (x3 : Int32) (T : tS) (H : ((T.1 20) ≤ x3 → h_areAlike_2 c x1 (x2 + 1) T) ∧ (¬ (T.1 20) ≤ x3 → ((zI (tBit x1 x2)) = 0 → h_areAlike_53 c x1 x2 x3 T) ∧ (¬ (zI (tBit x1 x2)) = 0 → ((zI (tBit x1 x3)) = 0 → h_areAlike_53 c x1 x2 x3 T) ∧ (¬ (zI (tBit x1 x3)) = 0 → vp_in (24 * x2 + x3) 576 ∧ (vp_in (24 * x3 + x2) 576 ∧ (((tBy T x2 x3) = (tBy T x3 x2) → h_areAlike_53 c x1 x2 x3 T) ∧ (¬ (tBy T x2 x3) = (tBy T x3 x2) → c.2.2.2.2.2.2 (some (.int (0 : Int32))) T))))))) : h_areAlike_12 c x1 x2 x3 T := by
  intro ok
  refine e_iload_n dX6_areAlike_12 rfl ?_
  refine e_aload_n dX6_areAlike_13 rfl ?_
  refine t_getI dX6_areAlike_14 fX6_20 q2516 (by decide) rfl ?_
  refine e_icmp_ge 59 dX6_areAlike_17 (by decide) (fun g1 => ?_) (fun g1 => ?_)
  · replace H := H.1 g1
    refine e_iinc (x2 + 1) _ dX6_areAlike_59 rfl rfl (by decide) rfl rfl ?_
    refine e_goto 2 dX6_areAlike_62 (by decide) ?_
    exact E.less2 (H ok) (eS_s (eS_s (eS_s (eS_n eS_0))))
  · replace H := H.2 g1
    refine e_iload_n dX6_areAlike_20 rfl ?_
    refine e_iload_n dX6_areAlike_21 rfl ?_
    refine t_callS (As := [.int x1, .int x2]) ok (ct_holds x1 x2) dX6_areAlike_22 wX6_holds q2447 q2448 rfl (by decide) rfl (Nat.le_of_ble_eq_true rfl) ?_
    refine e_if_eq 53 dX6_areAlike_25 (by decide) (fun g2 => ?_) (fun g2 => ?_)
    · replace H := H.1 g2
      exact H ok
    · replace H := H.2 g2
      refine e_iload_n dX6_areAlike_28 rfl ?_
      refine e_iload_n dX6_areAlike_29 rfl ?_
      refine t_callS (As := [.int x1, .int x3]) ok (ct_holds x1 x3) dX6_areAlike_30 wX6_holds q2447 q2448 rfl (by decide) rfl (Nat.le_of_ble_eq_true rfl) ?_
      refine e_if_eq 53 dX6_areAlike_33 (by decide) (fun g3 => ?_) (fun g3 => ?_)
      · replace H := H.1 g3
        exact H ok
      · replace H := H.2 g3
        refine e_aload_n dX6_areAlike_36 rfl ?_
        refine e_iload_n dX6_areAlike_37 rfl ?_
        refine e_iload_n dX6_areAlike_38 rfl ?_
        obtain ⟨g8, H⟩ := H
        refine t_callV (As := [.int x2, .int x3]) ok (ct_by T x2 x3 g8) dX6_areAlike_39 wX6_by q2454 q2456 qs62 rfl rfl (by decide) rfl (Nat.le_of_ble_eq_true rfl) (fun v4 T5 e7 => ?_)
        obtain ⟨r6, rfl, rfl, hT⟩ := e7
        rw [hT]
        refine e_aload_n dX6_areAlike_42 rfl ?_
        refine e_iload_n dX6_areAlike_43 rfl ?_
        refine e_iload_n dX6_areAlike_44 rfl ?_
        obtain ⟨g13, H⟩ := H
        refine t_callV (As := [.int x3, .int x2]) ok (ct_by T x3 x2 g13) dX6_areAlike_45 wX6_by q2454 q2456 qs62 rfl rfl (by decide) rfl (Nat.le_of_ble_eq_true rfl) (fun v9 T10 e12 => ?_)
        obtain ⟨r11, rfl, rfl, hT⟩ := e12
        rw [hT]
        refine e_icmp_eq 53 dX6_areAlike_48 (by decide) (fun g14 => ?_) (fun g14 => ?_)
        · replace H := H.1 g14
          exact H ok
        · replace H := H.2 g14
          refine e_iconst (0) dX6_areAlike_51 (by decide) ?_
          exact e_ireturn .boolean dX6_areAlike_52 rfl (by decide) ⟨_, _, rfl, rfl, H⟩

set_option maxHeartbeats 2000000 in
theorem s_areAlike_53 (c : tC) (x1 : Int32) (x2 : Int32) (x3 : Int32) (T : tS) (H : h_areAlike_12 c x1 x2 (x3 + 1) T) : h_areAlike_53 c x1 x2 x3 T := by
  intro ok
  refine e_iinc (x3 + 1) _ dX6_areAlike_53 rfl rfl (by decide) rfl rfl ?_
  refine e_goto 12 dX6_areAlike_56 (by decide) ?_
  exact H ok

theorem en_areAlike (x1 : Int32) (T : tS) (Q : Option Value → tS → Prop) (H : ∀ c : tC, c.2.2.2.2.2.2 = Q → h_areAlike_0 c x1 T) : tM mX6_areAlike 1 (fun b => [.int x1]) T Q :=
  tM_mk (by decide) rfl (fun b => Nat.le_of_ble_eq_true rfl) (fun c hc ok => E.less2 (H c hc ok) (eS_s (eS_s (eS_n (eS_n eS_0)))))
/-! moves (II)I level 2 -/
def h_moves_0 (c : tC) (x1 : Int32) (x2 : Int32) (T : tS) : Prop := tX mX6_moves 2 c 0 [some (.ref c.2.2.2.1), some (.int x1), some (.int x2)] T
set_option maxHeartbeats 2000000 in
theorem s_moves_0 (c : tC) (x1 : Int32) (x2 : Int32) (T : tS) (H : ((zI (0 ≤ x1.toInt64 ∧ x1.toInt64 ≤ (T.1 20 - 1).toInt64)) = 0 → c.2.2.2.2.2.2 (some (.int (-1 : Int32))) T) ∧ (¬ (zI (0 ≤ x1.toInt64 ∧ x1.toInt64 ≤ (T.1 20 - 1).toInt64)) = 0 → ((zI ((0 : Int64) ≤ x2.toInt64 ∧ x2.toInt64 ≤ (((T.1 16) - (1 : Int32)).toInt64))) = 0 → c.2.2.2.2.2.2 (some (.int (-1 : Int32))) T) ∧ (¬ (zI ((0 : Int64) ≤ x2.toInt64 ∧ x2.toInt64 ≤ (((T.1 16) - (1 : Int32)).toInt64))) = 0 → vp_in (((6 : Int32) * x1) + x2) 144 ∧ (c.2.2.2.2.2.2 (some (.int (T.2.2.1 21 (((6 : Int32) * x1) + x2).toNatClampNeg))) T)))) : h_moves_0 c x1 x2 T := by
  intro ok
  refine e_aload_n dX6_moves_0 rfl ?_
  refine e_iload_n dX6_moves_1 rfl ?_
  refine t_callV (As := [.int x1]) ok (ct_isMember T x1) dX6_moves_2 wX6_isMember q2889 q2891 qs109 rfl rfl (by decide) rfl (Nat.le_of_ble_eq_true rfl) (fun v1 T2 e4 => ?_)
  obtain ⟨r3, rfl, rfl, hT⟩ := e4
  rw [hT]
  refine e_if_eq 38 dX6_moves_5 (by decide) (fun g5 => ?_) (fun g5 => ?_)
  · replace H := H.1 g5
    refine e_iconst (-1) dX6_moves_38 (by decide) ?_
    exact e_ireturn .int dX6_moves_39 rfl rfl ⟨_, _, rfl, rfl, H⟩
  · replace H := H.2 g5
    refine e_iload_n dX6_moves_8 rfl ?_
    refine e_i2l dX6_moves_9 ?_
    refine e_lconst 0 dX6_moves_10 (by decide) ?_
    refine e_aload_n dX6_moves_11 rfl ?_
    refine t_getI dX6_moves_12 fX6_16 q2512 (by decide) rfl ?_
    refine e_iconst (1) dX6_moves_15 (by decide) ?_
    refine e_isub dX6_moves_16 ?_
    refine e_i2l dX6_moves_17 ?_
    refine t_callS (As := [.long x2.toInt64, .long (0 : Int64), .long (((T.1 16) - (1 : Int32)).toInt64)]) ok (ct_isIn x2.toInt64 (0 : Int64) (((T.1 16) - (1 : Int32)).toInt64)) dX6_moves_18 wX6_isIn q2707 q2708 rfl (by decide) rfl (Nat.le_of_ble_eq_true rfl) ?_
    refine e_if_eq 38 dX6_moves_21 (by decide) (fun g6 => ?_) (fun g6 => ?_)
    · replace H := H.1 g6
      refine e_iconst (-1) dX6_moves_38 (by decide) ?_
      exact e_ireturn .int dX6_moves_39 rfl rfl ⟨_, _, rfl, rfl, H⟩
    · replace H := H.2 g6
      refine e_aload_n dX6_moves_24 rfl ?_
      refine t_getA dX6_moves_25 fX6_21 q2517 (by decide) rfl ?_
      refine e_bipush (6) dX6_moves_28 (by decide) ?_
      refine e_iload_n dX6_moves_30 rfl ?_
      refine e_imul dX6_moves_31 ?_
      refine e_iload_n dX6_moves_32 rfl ?_
      refine e_iadd dX6_moves_33 ?_
      obtain ⟨g7, H⟩ := H
      refine t_iald dX6_moves_34 (by decide) rfl g7 ?_
      refine e_goto 39 dX6_moves_35 (by decide) ?_
      exact e_ireturn .int dX6_moves_39 rfl rfl ⟨_, _, rfl, rfl, H⟩

theorem en_moves (x1 : Int32) (x2 : Int32) (T : tS) (Q : Option Value → tS → Prop) (H : ∀ c : tC, c.2.2.2.2.2.2 = Q → h_moves_0 c x1 x2 T) : tM mX6_moves 2 (fun b => [.int x1, .int x2]) T Q :=
  tM_mk (by decide) rfl (fun b => Nat.le_of_ble_eq_true rfl) (fun c hc ok => E.less2 (H c hc ok) (eS_s (eS_s (eS_s eS_0))))
/-! times (II)I level 2 -/
def h_times_0 (c : tC) (x1 : Int32) (x2 : Int32) (T : tS) : Prop := tX mX6_times 2 c 0 [some (.ref c.2.2.2.1), some (.int x1), some (.int x2)] T
set_option maxHeartbeats 2000000 in
theorem s_times_0 (c : tC) (x1 : Int32) (x2 : Int32) (T : tS) (H : ((zI (0 ≤ x1.toInt64 ∧ x1.toInt64 ≤ (T.1 20 - 1).toInt64)) = 0 → c.2.2.2.2.2.2 (some (.int (-1 : Int32))) T) ∧ (¬ (zI (0 ≤ x1.toInt64 ∧ x1.toInt64 ≤ (T.1 20 - 1).toInt64)) = 0 → ((zI (0 ≤ x2.toInt64 ∧ x2.toInt64 ≤ (T.1 20 - 1).toInt64)) = 0 → c.2.2.2.2.2.2 (some (.int (-1 : Int32))) T) ∧ (¬ (zI (0 ≤ x2.toInt64 ∧ x2.toInt64 ≤ (T.1 20 - 1).toInt64)) = 0 → vp_in (24 * x1 + x2) 576 ∧ (c.2.2.2.2.2.2 (some (.int (tBy T x1 x2))) T)))) : h_times_0 c x1 x2 T := by
  intro ok
  refine e_aload_n dX6_times_0 rfl ?_
  refine e_iload_n dX6_times_1 rfl ?_
  refine t_callV (As := [.int x1]) ok (ct_isMember T x1) dX6_times_2 wX6_isMember q2889 q2891 qs109 rfl rfl (by decide) rfl (Nat.le_of_ble_eq_true rfl) (fun v1 T2 e4 => ?_)
  obtain ⟨r3, rfl, rfl, hT⟩ := e4
  rw [hT]
  refine e_if_eq 25 dX6_times_5 (by decide) (fun g5 => ?_) (fun g5 => ?_)
  · replace H := H.1 g5
    refine e_iconst (-1) dX6_times_25 (by decide) ?_
    exact e_ireturn .int dX6_times_26 rfl rfl ⟨_, _, rfl, rfl, H⟩
  · replace H := H.2 g5
    refine e_aload_n dX6_times_8 rfl ?_
    refine e_iload_n dX6_times_9 rfl ?_
    refine t_callV (As := [.int x2]) ok (ct_isMember T x2) dX6_times_10 wX6_isMember q2889 q2891 qs109 rfl rfl (by decide) rfl (Nat.le_of_ble_eq_true rfl) (fun v6 T7 e9 => ?_)
    obtain ⟨r8, rfl, rfl, hT⟩ := e9
    rw [hT]
    refine e_if_eq 25 dX6_times_13 (by decide) (fun g10 => ?_) (fun g10 => ?_)
    · replace H := H.1 g10
      refine e_iconst (-1) dX6_times_25 (by decide) ?_
      exact e_ireturn .int dX6_times_26 rfl rfl ⟨_, _, rfl, rfl, H⟩
    · replace H := H.2 g10
      refine e_aload_n dX6_times_16 rfl ?_
      refine e_iload_n dX6_times_17 rfl ?_
      refine e_iload_n dX6_times_18 rfl ?_
      obtain ⟨g15, H⟩ := H
      refine t_callV (As := [.int x1, .int x2]) ok (ct_by T x1 x2 g15) dX6_times_19 wX6_by q2454 q2456 qs62 rfl rfl (by decide) rfl (Nat.le_of_ble_eq_true rfl) (fun v11 T12 e14 => ?_)
      obtain ⟨r13, rfl, rfl, hT⟩ := e14
      rw [hT]
      refine e_goto 26 dX6_times_22 (by decide) ?_
      exact e_ireturn .int dX6_times_26 rfl rfl ⟨_, _, rfl, rfl, H⟩

theorem en_times (x1 : Int32) (x2 : Int32) (T : tS) (Q : Option Value → tS → Prop) (H : ∀ c : tC, c.2.2.2.2.2.2 = Q → h_times_0 c x1 x2 T) : tM mX6_times 2 (fun b => [.int x1, .int x2]) T Q :=
  tM_mk (by decide) rfl (fun b => Nat.le_of_ble_eq_true rfl) (fun c hc ok => E.less2 (H c hc ok) (eS_s (eS_s (eS_s eS_0))))
/-! timesOf (I)I level 1 -/
def h_timesOf_0 (c : tC) (x1 : Int32) (T : tS) : Prop := tX mX6_timesOf 1 c 0 [some (.ref c.2.2.2.1), some (.int x1), none, none] T
def h_timesOf_4 (c : tC) (x1 : Int32) (x2 : Int32) (x3 : Int32) (T : tS) : Prop := tX mX6_timesOf 1 c 4 [some (.ref c.2.2.2.1), some (.int x1), some (.int x2), some (.int x3)] T
set_option maxHeartbeats 2000000 in
theorem s_timesOf_0 (c : tC) (x1 : Int32) (T : tS) (H : h_timesOf_4 c x1 (1 : Int32) x1 T) : h_timesOf_0 c x1 T := by
  intro ok
  refine e_iconst (1) dX6_timesOf_0 (by decide) ?_
  refine e_istore_n _ dX6_timesOf_1 (by decide) rfl rfl ?_
  refine e_iload_n dX6_timesOf_2 rfl ?_
  refine e_istore_n _ dX6_timesOf_3 (by decide) rfl rfl ?_
  exact H ok

set_option maxHeartbeats 2000000 in
theorem s_timesOf_4 (c : tC) (x1 : Int32) (x2 : Int32) (x3 : Int32) (T : tS) (H : (x3 = 0 → c.2.2.2.2.2.2 (some (.int x2)) T) ∧ (¬ x3 = 0 → vp_in (24 * x3 + x1) 576 ∧ (h_timesOf_4 c x1 (x2 + 1) (tBy T x3 x1) T))) : h_timesOf_4 c x1 x2 x3 T := by
  intro ok
  refine e_iload_n dX6_timesOf_4 rfl ?_
  refine e_if_eq 21 dX6_timesOf_5 (by decide) (fun g1 => ?_) (fun g1 => ?_)
  · replace H := H.1 g1
    refine e_iload_n dX6_timesOf_21 rfl ?_
    exact e_ireturn .int dX6_timesOf_22 rfl rfl ⟨_, _, rfl, rfl, H⟩
  · replace H := H.2 g1
    refine e_iinc (x2 + 1) _ dX6_timesOf_8 rfl rfl (by decide) rfl rfl ?_
    refine e_aload_n dX6_timesOf_11 rfl ?_
    refine e_iload_n dX6_timesOf_12 rfl ?_
    refine e_iload_n dX6_timesOf_13 rfl ?_
    obtain ⟨g6, H⟩ := H
    refine t_callV (As := [.int x3, .int x1]) ok (ct_by T x3 x1 g6) dX6_timesOf_14 wX6_by q2454 q2456 qs62 rfl rfl (by decide) rfl (Nat.le_of_ble_eq_true rfl) (fun v2 T3 e5 => ?_)
    obtain ⟨r4, rfl, rfl, hT⟩ := e5
    rw [hT]
    refine e_istore_n _ dX6_timesOf_17 (by decide) rfl rfl ?_
    refine e_goto 4 dX6_timesOf_18 (by decide) ?_
    exact H ok

theorem en_timesOf (x1 : Int32) (T : tS) (Q : Option Value → tS → Prop) (H : ∀ c : tC, c.2.2.2.2.2.2 = Q → h_timesOf_0 c x1 T) : tM mX6_timesOf 1 (fun b => [.int x1]) T Q :=
  tM_mk (by decide) rfl (fun b => Nat.le_of_ble_eq_true rfl) (fun c hc ok => E.less2 (H c hc ok) (eS_s (eS_s (eS_n (eS_n eS_0)))))
/-! order (I)I level 2 -/
def h_order_0 (c : tC) (x1 : Int32) (T : tS) : Prop := tX mX6_order 2 c 0 [some (.ref c.2.2.2.1), some (.int x1)] T
set_option maxHeartbeats 2000000 in
theorem s_order_0 (c : tC) (x1 : Int32) (T : tS) (H : ((zI (0 ≤ x1.toInt64 ∧ x1.toInt64 ≤ (T.1 20 - 1).toInt64)) = 0 → c.2.2.2.2.2.2 (some (.int (-1 : Int32))) T) ∧ (¬ (zI (0 ≤ x1.toInt64 ∧ x1.toInt64 ≤ (T.1 20 - 1).toInt64)) = 0 → ∃ Q6 : Int32 → tS → Prop, tMi mX6_timesOf 1 (fun b => [.int x1]) T Q6 ∧ ∀ (r11 : Int32) (T9 : tS), Q6 r11 T9 → c.2.2.2.2.2.2 (some (.int r11)) T9)) : h_order_0 c x1 T := by
  intro ok
  refine e_aload_n dX6_order_0 rfl ?_
  refine e_iload_n dX6_order_1 rfl ?_
  refine t_callV (As := [.int x1]) ok (ct_isMember T x1) dX6_order_2 wX6_isMember q2889 q2891 qs109 rfl rfl (by decide) rfl (Nat.le_of_ble_eq_true rfl) (fun v1 T2 e4 => ?_)
  obtain ⟨r3, rfl, rfl, hT⟩ := e4
  rw [hT]
  refine e_if_eq 16 dX6_order_5 (by decide) (fun g5 => ?_) (fun g5 => ?_)
  · replace H := H.1 g5
    refine e_iconst (-1) dX6_order_16 (by decide) ?_
    exact e_ireturn .int dX6_order_17 rfl rfl ⟨_, _, rfl, rfl, H⟩
  · replace H := H.2 g5
    refine e_aload_n dX6_order_8 rfl ?_
    refine e_iload_n dX6_order_9 rfl ?_
    obtain ⟨Q6, hC7, H⟩ := H
    refine t_callV (As := [.int x1]) ok hC7 dX6_order_10 wX6_timesOf q2901 q2903 qs110 rfl rfl (by decide) rfl (Nat.le_of_ble_eq_true rfl) (fun v8 T9 e10 => ?_)
    obtain ⟨r11, rfl, e10⟩ := e10
    replace H := H r11 T9 e10
    refine e_goto 17 dX6_order_13 (by decide) ?_
    exact e_ireturn .int dX6_order_17 rfl rfl ⟨_, _, rfl, rfl, H⟩

theorem en_order (x1 : Int32) (T : tS) (Q : Option Value → tS → Prop) (H : ∀ c : tC, c.2.2.2.2.2.2 = Q → h_order_0 c x1 T) : tM mX6_order 2 (fun b => [.int x1]) T Q :=
  tM_mk (by decide) rfl (fun b => Nat.le_of_ble_eq_true rfl) (fun c hc ok => E.less2 (H c hc ok) (eS_s (eS_s eS_0)))
/-! orders (I)I level 2 -/
def h_orders_0 (c : tC) (x1 : Int32) (T : tS) : Prop := tX mX6_orders 2 c 0 [some (.ref c.2.2.2.1), some (.int x1), none, none] T
def h_orders_18 (c : tC) (x1 : Int32) (x2 : Int32) (x3 : Int32) (T : tS) : Prop := tX mX6_orders 2 c 18 [some (.ref c.2.2.2.1), some (.int x1), some (.int x2), some (.int x3)] T
set_option maxHeartbeats 2000000 in
theorem s_orders_0 (c : tC) (x1 : Int32) (T : tS) (H : (¬ (zI ((1 : Int64) ≤ x1.toInt64 ∧ x1.toInt64 ≤ (24 : Int64))) = 0 → h_orders_18 c x1 (0 : Int32) (0 : Int32) T) ∧ ((zI ((1 : Int64) ≤ x1.toInt64 ∧ x1.toInt64 ≤ (24 : Int64))) = 0 → c.2.2.2.2.2.2 (some (.int (-1 : Int32))) T)) : h_orders_0 c x1 T := by
  intro ok
  refine e_iload_n dX6_orders_0 rfl ?_
  refine e_i2l dX6_orders_1 ?_
  refine e_lconst 1 dX6_orders_2 (by decide) ?_
  refine e_ldc2 dX6_orders_3 q2909 ?_
  refine t_callS (As := [.long x1.toInt64, .long (1 : Int64), .long (24 : Int64)]) ok (ct_isIn x1.toInt64 (1 : Int64) (24 : Int64)) dX6_orders_6 wX6_isIn q2707 q2708 rfl (by decide) rfl (Nat.le_of_ble_eq_true rfl) ?_
  refine e_if_ne 14 dX6_orders_9 (by decide) (fun g1 => ?_) (fun g1 => ?_)
  · replace H := H.1 g1
    refine e_iconst (0) dX6_orders_14 (by decide) ?_
    refine e_istore_n _ dX6_orders_15 (by decide) rfl rfl ?_
    refine e_iconst (0) dX6_orders_16 (by decide) ?_
    refine e_istore_n _ dX6_orders_17 (by decide) rfl rfl ?_
    exact H ok
  · replace H := H.2 g1
    refine e_iconst (-1) dX6_orders_12 (by decide) ?_
    exact e_ireturn .int dX6_orders_13 rfl rfl ⟨_, _, rfl, rfl, H⟩

set_option maxHeartbeats 2000000 in
theorem s_orders_18 (c : tC) (x1 : Int32) (x2 : Int32) (x3 : Int32) (T : tS) (H : ((T.1 20) ≤ x3 → c.2.2.2.2.2.2 (some (.int x2)) T) ∧ (¬ (T.1 20) ≤ x3 → ∃ Q2 : Int32 → tS → Prop, tMi mX6_timesOf 1 (fun b => [.int x3]) T Q2 ∧ ∀ (r7 : Int32) (T5 : tS), Q2 r7 T5 → (¬ r7 = x1 → h_orders_18 c x1 (x2 + (zI (¬ (0 : Int32) = 0))) (x3 + 1) T5) ∧ (r7 = x1 → h_orders_18 c x1 (x2 + (zI (¬ (1 : Int32) = 0))) (x3 + 1) T5))) : h_orders_18 c x1 x2 x3 T := by
  intro ok
  refine e_iload_n dX6_orders_18 rfl ?_
  refine e_aload_n dX6_orders_19 rfl ?_
  refine t_getI dX6_orders_20 fX6_20 q2516 (by decide) rfl ?_
  refine e_icmp_ge 52 dX6_orders_23 (by decide) (fun g1 => ?_) (fun g1 => ?_)
  · replace H := H.1 g1
    refine e_iload_n dX6_orders_52 rfl ?_
    exact e_ireturn .int dX6_orders_53 rfl rfl ⟨_, _, rfl, rfl, H⟩
  · replace H := H.2 g1
    refine e_iload_n dX6_orders_26 rfl ?_
    refine e_aload_n dX6_orders_27 rfl ?_
    refine e_iload_n dX6_orders_28 rfl ?_
    obtain ⟨Q2, hC3, H⟩ := H
    refine t_callV (As := [.int x3]) ok hC3 dX6_orders_29 wX6_timesOf q2901 q2903 qs110 rfl rfl (by decide) rfl (Nat.le_of_ble_eq_true rfl) (fun v4 T5 e6 => ?_)
    obtain ⟨r7, rfl, e6⟩ := e6
    replace H := H r7 T5 e6
    refine e_iload_n dX6_orders_32 rfl ?_
    refine e_icmp_ne 40 dX6_orders_33 (by decide) (fun g8 => ?_) (fun g8 => ?_)
    · replace H := H.1 g8
      refine e_iconst (0) dX6_orders_40 (by decide) ?_
      refine t_callS (As := [.int (0 : Int32)]) ok (ct_truth (0 : Int32)) dX6_orders_41 wX6_truth q2489 q2490 rfl (by decide) rfl (Nat.le_of_ble_eq_true rfl) ?_
      refine e_iadd dX6_orders_44 ?_
      refine e_istore_n _ dX6_orders_45 (by decide) rfl rfl ?_
      refine e_iinc (x3 + 1) _ dX6_orders_46 rfl rfl (by decide) rfl rfl ?_
      refine e_goto 18 dX6_orders_49 (by decide) ?_
      exact H ok
    · replace H := H.2 g8
      refine e_iconst (1) dX6_orders_36 (by decide) ?_
      refine e_goto 41 dX6_orders_37 (by decide) ?_
      refine t_callS (As := [.int (1 : Int32)]) ok (ct_truth (1 : Int32)) dX6_orders_41 wX6_truth q2489 q2490 rfl (by decide) rfl (Nat.le_of_ble_eq_true rfl) ?_
      refine e_iadd dX6_orders_44 ?_
      refine e_istore_n _ dX6_orders_45 (by decide) rfl rfl ?_
      refine e_iinc (x3 + 1) _ dX6_orders_46 rfl rfl (by decide) rfl rfl ?_
      refine e_goto 18 dX6_orders_49 (by decide) ?_
      exact H ok

theorem en_orders (x1 : Int32) (T : tS) (Q : Option Value → tS → Prop) (H : ∀ c : tC, c.2.2.2.2.2.2 = Q → h_orders_0 c x1 T) : tM mX6_orders 2 (fun b => [.int x1]) T Q :=
  tM_mk (by decide) rfl (fun b => Nat.le_of_ble_eq_true rfl) (fun c hc ok => E.less2 (H c hc ok) (eS_s (eS_s (eS_n (eS_n eS_0)))))
/-! alike ()I level 1 -/
def h_alike_0 (c : tC) (T : tS) : Prop := tX mX6_alike 1 c 0 [some (.ref c.2.2.2.1), none, none, none] T
def h_alike_4 (c : tC) (x1 : Int32) (x2 : Int32) (T : tS) : Prop := tX mX6_alike 1 c 4 [some (.ref c.2.2.2.1), some (.int x1), some (.int x2), none] T
def h_alike_14 (c : tC) (x1 : Int32) (x2 : Int32) (x3 : Int32) (T : tS) : Prop := tX mX6_alike 1 c 14 [some (.ref c.2.2.2.1), some (.int x1), some (.int x2), some (.int x3)] T
set_option maxHeartbeats 2000000 in
theorem s_alike_0 (c : tC) (T : tS) (H : h_alike_4 c (0 : Int32) (0 : Int32) T) : h_alike_0 c T := by
  intro ok
  refine e_iconst (0) dX6_alike_0 (by decide) ?_
  refine e_istore_n _ dX6_alike_1 (by decide) rfl rfl ?_
  refine e_iconst (0) dX6_alike_2 (by decide) ?_
  refine e_istore_n _ dX6_alike_3 (by decide) rfl rfl ?_
  exact H ok

set_option maxHeartbeats 2000000 in
theorem s_alike_4 (c : tC) (x1 : Int32) (x2 : Int32) (T : tS) (H : ((T.1 20) ≤ x2 → c.2.2.2.2.2.2 (some (.int x1)) T) ∧ (¬ (T.1 20) ≤ x2 → h_alike_14 c x1 x2 (0 : Int32) T)) : h_alike_4 c x1 x2 T := by
  intro ok
  refine e_iload_n dX6_alike_4 rfl ?_
  refine e_aload_n dX6_alike_5 rfl ?_
  refine t_getI dX6_alike_6 fX6_20 q2516 (by decide) rfl ?_
  refine e_icmp_ge 60 dX6_alike_9 (by decide) (fun g1 => ?_) (fun g1 => ?_)
  · replace H := H.1 g1
    refine e_iload_n dX6_alike_60 rfl ?_
    exact e_ireturn .int dX6_alike_61 rfl rfl ⟨_, _, rfl, rfl, H⟩
  · replace H := H.2 g1
    refine e_iconst (0) dX6_alike_12 (by decide) ?_
    refine e_istore_n _ dX6_alike_13 (by decide) rfl rfl ?_
    exact H ok

set_option maxHeartbeats 2000000 in
theorem s_alike_14 (c : tC) (x1 : Int32) (x2 : Int32) (x3 : Int32) (T : tS) (H : ((T.1 20) ≤ x3 → h_alike_4 c x1 (x2 + 1) T) ∧ (¬ (T.1 20) ≤ x3 → vp_in (24 * x2 + x3) 576 ∧ (vp_in (24 * x3 + x2) 576 ∧ ((¬ (tBy T x2 x3) = (tBy T x3 x2) → h_alike_14 c (x1 + (zI (¬ (0 : Int32) = 0))) x2 (x3 + 1) T) ∧ ((tBy T x2 x3) = (tBy T x3 x2) → h_alike_14 c (x1 + (zI (¬ (1 : Int32) = 0))) x2 (x3 + 1) T))))) : h_alike_14 c x1 x2 x3 T := by
  intro ok
  refine e_iload_n dX6_alike_14 rfl ?_
  refine e_aload_n dX6_alike_15 rfl ?_
  refine t_getI dX6_alike_16 fX6_20 q2516 (by decide) rfl ?_
  refine e_icmp_ge 54 dX6_alike_19 (by decide) (fun g1 => ?_) (fun g1 => ?_)
  · replace H := H.1 g1
    refine e_iinc (x2 + 1) _ dX6_alike_54 rfl rfl (by decide) rfl rfl ?_
    refine e_goto 4 dX6_alike_57 (by decide) ?_
    exact E.less2 (H ok) (eS_s (eS_s (eS_s (eS_n eS_0))))
  · replace H := H.2 g1
    refine e_iload_n dX6_alike_22 rfl ?_
    refine e_aload_n dX6_alike_23 rfl ?_
    refine e_iload_n dX6_alike_24 rfl ?_
    refine e_iload_n dX6_alike_25 rfl ?_
    obtain ⟨g6, H⟩ := H
    refine t_callV (As := [.int x2, .int x3]) ok (ct_by T x2 x3 g6) dX6_alike_26 wX6_by q2454 q2456 qs62 rfl rfl (by decide) rfl (Nat.le_of_ble_eq_true rfl) (fun v2 T3 e5 => ?_)
    obtain ⟨r4, rfl, rfl, hT⟩ := e5
    rw [hT]
    refine e_aload_n dX6_alike_29 rfl ?_
    refine e_iload_n dX6_alike_30 rfl ?_
    refine e_iload_n dX6_alike_31 rfl ?_
    obtain ⟨g11, H⟩ := H
    refine t_callV (As := [.int x3, .int x2]) ok (ct_by T x3 x2 g11) dX6_alike_32 wX6_by q2454 q2456 qs62 rfl rfl (by decide) rfl (Nat.le_of_ble_eq_true rfl) (fun v7 T8 e10 => ?_)
    obtain ⟨r9, rfl, rfl, hT⟩ := e10
    rw [hT]
    refine e_icmp_ne 42 dX6_alike_35 (by decide) (fun g12 => ?_) (fun g12 => ?_)
    · replace H := H.1 g12
      refine e_iconst (0) dX6_alike_42 (by decide) ?_
      refine t_callS (As := [.int (0 : Int32)]) ok (ct_truth (0 : Int32)) dX6_alike_43 wX6_truth q2489 q2490 rfl (by decide) rfl (Nat.le_of_ble_eq_true rfl) ?_
      refine e_iadd dX6_alike_46 ?_
      refine e_istore_n _ dX6_alike_47 (by decide) rfl rfl ?_
      refine e_iinc (x3 + 1) _ dX6_alike_48 rfl rfl (by decide) rfl rfl ?_
      refine e_goto 14 dX6_alike_51 (by decide) ?_
      exact H ok
    · replace H := H.2 g12
      refine e_iconst (1) dX6_alike_38 (by decide) ?_
      refine e_goto 43 dX6_alike_39 (by decide) ?_
      refine t_callS (As := [.int (1 : Int32)]) ok (ct_truth (1 : Int32)) dX6_alike_43 wX6_truth q2489 q2490 rfl (by decide) rfl (Nat.le_of_ble_eq_true rfl) ?_
      refine e_iadd dX6_alike_46 ?_
      refine e_istore_n _ dX6_alike_47 (by decide) rfl rfl ?_
      refine e_iinc (x3 + 1) _ dX6_alike_48 rfl rfl (by decide) rfl rfl ?_
      refine e_goto 14 dX6_alike_51 (by decide) ?_
      exact H ok

theorem en_alike (T : tS) (Q : Option Value → tS → Prop) (H : ∀ c : tC, c.2.2.2.2.2.2 = Q → h_alike_0 c T) : tM mX6_alike 1 (fun b => []) T Q :=
  tM_mk (by decide) rfl (fun b => Nat.le_of_ble_eq_true rfl) (fun c hc ok => E.less2 (H c hc ok) (eS_s (eS_n (eS_n (eS_n eS_0)))))
/-! makesOf (I)I level 2 -/
def h_makesOf_0 (c : tC) (x1 : Int32) (T : tS) : Prop := tX mX6_makesOf 2 c 0 [some (.ref c.2.2.2.1), some (.int x1)] T
set_option maxHeartbeats 2000000 in
theorem s_makesOf_0 (c : tC) (x1 : Int32) (T : tS) (H : ((zI (0 ≤ x1.toInt64 ∧ x1.toInt64 ≤ ((1 : Int32) <<< (T.1 20 &&& 31) - 1).toInt64)) = 0 → c.2.2.2.2.2.2 (some (.int (-1 : Int32))) T) ∧ (¬ (zI (0 ≤ x1.toInt64 ∧ x1.toInt64 ≤ ((1 : Int32) <<< (T.1 20 &&& 31) - 1).toInt64)) = 0 → ∃ Q6 : Int32 → tS → Prop, tMi mX6_closed 1 (fun b => [.int x1]) T Q6 ∧ ∀ (r11 : Int32) (T9 : tS), Q6 r11 T9 → c.2.2.2.2.2.2 (some (.int r11)) T9)) : h_makesOf_0 c x1 T := by
  intro ok
  refine e_aload_n dX6_makesOf_0 rfl ?_
  refine e_iload_n dX6_makesOf_1 rfl ?_
  refine t_callV (As := [.int x1]) ok (ct_areMembers T x1) dX6_makesOf_2 wX6_areMembers q2918 q2920 qs111 rfl rfl (by decide) rfl (Nat.le_of_ble_eq_true rfl) (fun v1 T2 e4 => ?_)
  obtain ⟨r3, rfl, rfl, hT⟩ := e4
  rw [hT]
  refine e_if_eq 16 dX6_makesOf_5 (by decide) (fun g5 => ?_) (fun g5 => ?_)
  · replace H := H.1 g5
    refine e_iconst (-1) dX6_makesOf_16 (by decide) ?_
    exact e_ireturn .int dX6_makesOf_17 rfl rfl ⟨_, _, rfl, rfl, H⟩
  · replace H := H.2 g5
    refine e_aload_n dX6_makesOf_8 rfl ?_
    refine e_iload_n dX6_makesOf_9 rfl ?_
    obtain ⟨Q6, hC7, H⟩ := H
    refine t_callV (As := [.int x1]) ok hC7 dX6_makesOf_10 wX6_closed q2450 q2452 qs61 rfl rfl (by decide) rfl (Nat.le_of_ble_eq_true rfl) (fun v8 T9 e10 => ?_)
    obtain ⟨r11, rfl, e10⟩ := e10
    replace H := H r11 T9 e10
    refine e_goto 17 dX6_makesOf_13 (by decide) ?_
    exact e_ireturn .int dX6_makesOf_17 rfl rfl ⟨_, _, rfl, rfl, H⟩

theorem en_makesOf (x1 : Int32) (T : tS) (Q : Option Value → tS → Prop) (H : ∀ c : tC, c.2.2.2.2.2.2 = Q → h_makesOf_0 c x1 T) : tM mX6_makesOf 2 (fun b => [.int x1]) T Q :=
  tM_mk (by decide) rfl (fun b => Nat.le_of_ble_eq_true rfl) (fun c hc ok => E.less2 (H c hc ok) (eS_s (eS_s eS_0)))
/-! sortOf (I)I level 2 -/
def h_sortOf_0 (c : tC) (x1 : Int32) (T : tS) : Prop := tX mX6_sortOf 2 c 0 [some (.ref c.2.2.2.1), some (.int x1)] T
set_option maxHeartbeats 2000000 in
theorem s_sortOf_0 (c : tC) (x1 : Int32) (T : tS) (H : ((zI (0 ≤ x1.toInt64 ∧ x1.toInt64 ≤ ((1 : Int32) <<< (T.1 20 &&& 31) - 1).toInt64)) = 0 → c.2.2.2.2.2.2 (some (.int (-1 : Int32))) T) ∧ (¬ (zI (0 ≤ x1.toInt64 ∧ x1.toInt64 ≤ ((1 : Int32) <<< (T.1 20 &&& 31) - 1).toInt64)) = 0 → ∃ Q6 : Int32 → tS → Prop, tMi mX6_closed 1 (fun b => [.int x1]) T Q6 ∧ ∀ (r11 : Int32) (T9 : tS), Q6 r11 T9 → ∃ Q12 : Int32 → tS → Prop, tMi mX6_sortOfSet 1 (fun b => [.int r11]) T9 Q12 ∧ ∀ (r17 : Int32) (T15 : tS), Q12 r17 T15 → c.2.2.2.2.2.2 (some (.int r17)) T15)) : h_sortOf_0 c x1 T := by
  intro ok
  refine e_aload_n dX6_sortOf_0 rfl ?_
  refine e_iload_n dX6_sortOf_1 rfl ?_
  refine t_callV (As := [.int x1]) ok (ct_areMembers T x1) dX6_sortOf_2 wX6_areMembers q2918 q2920 qs111 rfl rfl (by decide) rfl (Nat.le_of_ble_eq_true rfl) (fun v1 T2 e4 => ?_)
  obtain ⟨r3, rfl, rfl, hT⟩ := e4
  rw [hT]
  refine e_if_eq 20 dX6_sortOf_5 (by decide) (fun g5 => ?_) (fun g5 => ?_)
  · replace H := H.1 g5
    refine e_iconst (-1) dX6_sortOf_20 (by decide) ?_
    exact e_ireturn .int dX6_sortOf_21 rfl rfl ⟨_, _, rfl, rfl, H⟩
  · replace H := H.2 g5
    refine e_aload_n dX6_sortOf_8 rfl ?_
    refine e_aload_n dX6_sortOf_9 rfl ?_
    refine e_iload_n dX6_sortOf_10 rfl ?_
    obtain ⟨Q6, hC7, H⟩ := H
    refine t_callV (As := [.int x1]) ok hC7 dX6_sortOf_11 wX6_closed q2450 q2452 qs61 rfl rfl (by decide) rfl (Nat.le_of_ble_eq_true rfl) (fun v8 T9 e10 => ?_)
    obtain ⟨r11, rfl, e10⟩ := e10
    replace H := H r11 T9 e10
    obtain ⟨Q12, hC13, H⟩ := H
    refine t_callV (As := [.int r11]) ok hC13 dX6_sortOf_14 wX6_sortOfSet q2926 q2928 qs112 rfl rfl (by decide) rfl (Nat.le_of_ble_eq_true rfl) (fun v14 T15 e16 => ?_)
    obtain ⟨r17, rfl, e16⟩ := e16
    replace H := H r17 T15 e16
    refine e_goto 21 dX6_sortOf_17 (by decide) ?_
    exact e_ireturn .int dX6_sortOf_21 rfl rfl ⟨_, _, rfl, rfl, H⟩

theorem en_sortOf (x1 : Int32) (T : tS) (Q : Option Value → tS → Prop) (H : ∀ c : tC, c.2.2.2.2.2.2 = Q → h_sortOf_0 c x1 T) : tM mX6_sortOf 2 (fun b => [.int x1]) T Q :=
  tM_mk (by decide) rfl (fun b => Nat.le_of_ble_eq_true rfl) (fun c hc ok => E.less2 (H c hc ok) (eS_s (eS_s eS_0)))
/-! normOf (I)I level 2 -/
def h_normOf_0 (c : tC) (x1 : Int32) (T : tS) : Prop := tX mX6_normOf 2 c 0 [some (.ref c.2.2.2.1), some (.int x1), none, none] T
def h_normOf_4 (c : tC) (x1 : Int32) (x2 : Int32) (x3 : Int32) (T : tS) : Prop := tX mX6_normOf 2 c 4 [some (.ref c.2.2.2.1), some (.int x1), some (.int x2), some (.int x3)] T
set_option maxHeartbeats 2000000 in
theorem s_normOf_0 (c : tC) (x1 : Int32) (T : tS) (H : h_normOf_4 c x1 (0 : Int32) (0 : Int32) T) : h_normOf_0 c x1 T := by
  intro ok
  refine e_iconst (0) dX6_normOf_0 (by decide) ?_
  refine e_istore_n _ dX6_normOf_1 (by decide) rfl rfl ?_
  refine e_iconst (0) dX6_normOf_2 (by decide) ?_
  refine e_istore_n _ dX6_normOf_3 (by decide) rfl rfl ?_
  exact H ok

set_option maxHeartbeats 2000000 in
theorem s_normOf_4 (c : tC) (x1 : Int32) (x2 : Int32) (x3 : Int32) (T : tS) (H : ((T.1 20) ≤ x3 → c.2.2.2.2.2.2 (some (.int x2)) T) ∧ (¬ (T.1 20) ≤ x3 → ∃ Q2 : Int32 → tS → Prop, tMi mX6_turned 1 (fun b => [.int x1, .int x3]) T Q2 ∧ ∀ (r7 : Int32) (T5 : tS), Q2 r7 T5 → (¬ r7 = x1 → h_normOf_4 c x1 (x2 ||| ((zI (¬ (0 : Int32) = 0)) <<< (x3 &&& 31))) (x3 + 1) T5) ∧ (r7 = x1 → h_normOf_4 c x1 (x2 ||| ((zI (¬ (1 : Int32) = 0)) <<< (x3 &&& 31))) (x3 + 1) T5))) : h_normOf_4 c x1 x2 x3 T := by
  intro ok
  refine e_iload_n dX6_normOf_4 rfl ?_
  refine e_aload_n dX6_normOf_5 rfl ?_
  refine t_getI dX6_normOf_6 fX6_20 q2516 (by decide) rfl ?_
  refine e_icmp_ge 41 dX6_normOf_9 (by decide) (fun g1 => ?_) (fun g1 => ?_)
  · replace H := H.1 g1
    refine e_iload_n dX6_normOf_41 rfl ?_
    exact e_ireturn .int dX6_normOf_42 rfl rfl ⟨_, _, rfl, rfl, H⟩
  · replace H := H.2 g1
    refine e_iload_n dX6_normOf_12 rfl ?_
    refine e_aload_n dX6_normOf_13 rfl ?_
    refine e_iload_n dX6_normOf_14 rfl ?_
    refine e_iload_n dX6_normOf_15 rfl ?_
    obtain ⟨Q2, hC3, H⟩ := H
    refine t_callV (As := [.int x1, .int x3]) ok hC3 dX6_normOf_16 wX6_turned q2466 q2468 qs65 rfl rfl (by decide) rfl (Nat.le_of_ble_eq_true rfl) (fun v4 T5 e6 => ?_)
    obtain ⟨r7, rfl, e6⟩ := e6
    replace H := H r7 T5 e6
    refine e_iload_n dX6_normOf_19 rfl ?_
    refine e_icmp_ne 27 dX6_normOf_20 (by decide) (fun g8 => ?_) (fun g8 => ?_)
    · replace H := H.1 g8
      refine e_iconst (0) dX6_normOf_27 (by decide) ?_
      refine t_callS (As := [.int (0 : Int32)]) ok (ct_truth (0 : Int32)) dX6_normOf_28 wX6_truth q2489 q2490 rfl (by decide) rfl (Nat.le_of_ble_eq_true rfl) ?_
      refine e_iload_n dX6_normOf_31 rfl ?_
      refine e_ishl dX6_normOf_32 ?_
      refine e_ior dX6_normOf_33 ?_
      refine e_istore_n _ dX6_normOf_34 (by decide) rfl rfl ?_
      refine e_iinc (x3 + 1) _ dX6_normOf_35 rfl rfl (by decide) rfl rfl ?_
      refine e_goto 4 dX6_normOf_38 (by decide) ?_
      exact H ok
    · replace H := H.2 g8
      refine e_iconst (1) dX6_normOf_23 (by decide) ?_
      refine e_goto 28 dX6_normOf_24 (by decide) ?_
      refine t_callS (As := [.int (1 : Int32)]) ok (ct_truth (1 : Int32)) dX6_normOf_28 wX6_truth q2489 q2490 rfl (by decide) rfl (Nat.le_of_ble_eq_true rfl) ?_
      refine e_iload_n dX6_normOf_31 rfl ?_
      refine e_ishl dX6_normOf_32 ?_
      refine e_ior dX6_normOf_33 ?_
      refine e_istore_n _ dX6_normOf_34 (by decide) rfl rfl ?_
      refine e_iinc (x3 + 1) _ dX6_normOf_35 rfl rfl (by decide) rfl rfl ?_
      refine e_goto 4 dX6_normOf_38 (by decide) ?_
      exact H ok

theorem en_normOf (x1 : Int32) (T : tS) (Q : Option Value → tS → Prop) (H : ∀ c : tC, c.2.2.2.2.2.2 = Q → h_normOf_0 c x1 T) : tM mX6_normOf 2 (fun b => [.int x1]) T Q :=
  tM_mk (by decide) rfl (fun b => Nat.le_of_ble_eq_true rfl) (fun c hc ok => E.less2 (H c hc ok) (eS_s (eS_s (eS_n (eS_n eS_0)))))
/-! isOfOne (I)Z level 2 -/
def h_isOfOne_0 (c : tC) (x1 : Int32) (T : tS) : Prop := tX mX6_isOfOne 2 c 0 [some (.ref c.2.2.2.1), some (.int x1), none] T
def h_isOfOne_2 (c : tC) (x1 : Int32) (x2 : Int32) (T : tS) : Prop := tX mX6_isOfOne 2 c 2 [some (.ref c.2.2.2.1), some (.int x1), some (.int x2)] T
def h_isOfOne_31 (c : tC) (x1 : Int32) (x2 : Int32) (T : tS) : Prop := tX mX6_isOfOne 2 c 31 [some (.ref c.2.2.2.1), some (.int x1), some (.int x2)] T
set_option maxHeartbeats 2000000 in
theorem s_isOfOne_0 (c : tC) (x1 : Int32) (T : tS) (H : h_isOfOne_2 c x1 (0 : Int32) T) : h_isOfOne_0 c x1 T := by
  intro ok
  refine e_iconst (0) dX6_isOfOne_0 (by decide) ?_
  refine e_istore_n _ dX6_isOfOne_1 (by decide) rfl rfl ?_
  exact H ok

set_option maxHeartbeats 2000000 in
theorem s_isOfOne_2 (c : tC) (x1 : Int32) (x2 : Int32) (T : tS) (H : ((T.1 20) ≤ x2 → c.2.2.2.2.2.2 (some (.int (0 : Int32))) T) ∧ (¬ (T.1 20) ≤ x2 → ((zI (tBit x1 x2)) = 0 → h_isOfOne_31 c x1 x2 T) ∧ (¬ (zI (tBit x1 x2)) = 0 → ∃ Q3 : Int32 → tS → Prop, tMi mX6_closed 1 (fun b => [.int ((1 : Int32) <<< (x2 &&& 31))]) T Q3 ∧ ∀ (r8 : Int32) (T6 : tS), Q3 r8 T6 → (¬ r8 = x1 → h_isOfOne_31 c x1 x2 T6) ∧ (r8 = x1 → c.2.2.2.2.2.2 (some (.int (1 : Int32))) T6)))) : h_isOfOne_2 c x1 x2 T := by
  intro ok
  refine e_iload_n dX6_isOfOne_2 rfl ?_
  refine e_aload_n dX6_isOfOne_3 rfl ?_
  refine t_getI dX6_isOfOne_4 fX6_20 q2516 (by decide) rfl ?_
  refine e_icmp_ge 37 dX6_isOfOne_7 (by decide) (fun g1 => ?_) (fun g1 => ?_)
  · replace H := H.1 g1
    refine e_iconst (0) dX6_isOfOne_37 (by decide) ?_
    exact e_ireturn .boolean dX6_isOfOne_38 rfl (by decide) ⟨_, _, rfl, rfl, H⟩
  · replace H := H.2 g1
    refine e_iload_n dX6_isOfOne_10 rfl ?_
    refine e_iload_n dX6_isOfOne_11 rfl ?_
    refine t_callS (As := [.int x1, .int x2]) ok (ct_holds x1 x2) dX6_isOfOne_12 wX6_holds q2447 q2448 rfl (by decide) rfl (Nat.le_of_ble_eq_true rfl) ?_
    refine e_if_eq 31 dX6_isOfOne_15 (by decide) (fun g2 => ?_) (fun g2 => ?_)
    · replace H := H.1 g2
      exact H ok
    · replace H := H.2 g2
      refine e_aload_n dX6_isOfOne_18 rfl ?_
      refine e_iconst (1) dX6_isOfOne_19 (by decide) ?_
      refine e_iload_n dX6_isOfOne_20 rfl ?_
      refine e_ishl dX6_isOfOne_21 ?_
      obtain ⟨Q3, hC4, H⟩ := H
      refine t_callV (As := [.int ((1 : Int32) <<< (x2 &&& 31))]) ok hC4 dX6_isOfOne_22 wX6_closed q2450 q2452 qs61 rfl rfl (by decide) rfl (Nat.le_of_ble_eq_true rfl) (fun v5 T6 e7 => ?_)
      obtain ⟨r8, rfl, e7⟩ := e7
      replace H := H r8 T6 e7
      refine e_iload_n dX6_isOfOne_25 rfl ?_
      refine e_icmp_ne 31 dX6_isOfOne_26 (by decide) (fun g9 => ?_) (fun g9 => ?_)
      · replace H := H.1 g9
        exact H ok
      · replace H := H.2 g9
        refine e_iconst (1) dX6_isOfOne_29 (by decide) ?_
        exact e_ireturn .boolean dX6_isOfOne_30 rfl (by decide) ⟨_, _, rfl, rfl, H⟩

set_option maxHeartbeats 2000000 in
theorem s_isOfOne_31 (c : tC) (x1 : Int32) (x2 : Int32) (T : tS) (H : h_isOfOne_2 c x1 (x2 + 1) T) : h_isOfOne_31 c x1 x2 T := by
  intro ok
  refine e_iinc (x2 + 1) _ dX6_isOfOne_31 rfl rfl (by decide) rfl rfl ?_
  refine e_goto 2 dX6_isOfOne_34 (by decide) ?_
  exact H ok

theorem en_isOfOne (x1 : Int32) (T : tS) (Q : Option Value → tS → Prop) (H : ∀ c : tC, c.2.2.2.2.2.2 = Q → h_isOfOne_0 c x1 T) : tM mX6_isOfOne 2 (fun b => [.int x1]) T Q :=
  tM_mk (by decide) rfl (fun b => Nat.le_of_ble_eq_true rfl) (fun c hc ok => E.less2 (H c hc ok) (eS_s (eS_s (eS_n eS_0))))
/-! sort (II)I level 3 -/
def h_sort_0 (c : tC) (x1 : Int32) (x2 : Int32) (T : tS) : Prop := tX mX6_sort 3 c 0 [some (.ref c.2.2.2.1), some (.int x1), some (.int x2)] T
set_option maxHeartbeats 2000000 in
theorem s_sort_0 (c : tC) (x1 : Int32) (x2 : Int32) (T : tS) (H : (¬ (zI (0 ≤ x1.toInt64 ∧ x1.toInt64 ≤ (T.1 26 - 1).toInt64)) = 0 → ((x2.toInt < 0 ∨ 5 < x2.toInt) → c.2.2.2.2.2.2 (some (.int (-1 : Int32))) T) ∧ (x2 = nI 0 → vp_in x1 64 ∧ (c.2.2.2.2.2.2 (some (.int (tOnes (T.2.2.1 29 x1.toNatClampNeg)))) T)) ∧ (x2 = nI 1 → vp_in x1 64 ∧ (c.2.2.2.2.2.2 (some (.int (T.2.2.1 30 x1.toNatClampNeg))) T)) ∧ (x2 = nI 2 → vp_in x1 64 ∧ (c.2.2.2.2.2.2 (some (.int (T.2.2.1 29 x1.toNatClampNeg))) T)) ∧ (x2 = nI 3 → vp_in x1 64 ∧ (∃ Q12 : Int32 → tS → Prop, tMi mX6_normOf 2 (fun b => [.int (T.2.2.1 29 x1.toNatClampNeg)]) T Q12 ∧ ∀ (r17 : Int32) (T15 : tS), Q12 r17 T15 → c.2.2.2.2.2.2 (some (.int (tOnes r17))) T15)) ∧ (x2 = nI 4 → vp_in x1 64 ∧ (∃ Q19 : Int32 → tS → Prop, tMi mX6_isOfOne 2 (fun b => [.int (T.2.2.1 29 x1.toNatClampNeg)]) T Q19 ∧ ∀ (r24 : Int32) (T22 : tS), Q19 r24 T22 → c.2.2.2.2.2.2 (some (.int (zI (¬ r24 = 0)))) T22)) ∧ (x2 = nI 5 → vp_in x1 64 ∧ (∃ Q26 : Int32 → tS → Prop, tMi mX6_areAlike 1 (fun b => [.int (T.2.2.1 29 x1.toNatClampNeg)]) T Q26 ∧ ∀ (r31 : Int32) (T29 : tS), Q26 r31 T29 → c.2.2.2.2.2.2 (some (.int (zI (¬ r31 = 0)))) T29))) ∧ ((zI (0 ≤ x1.toInt64 ∧ x1.toInt64 ≤ (T.1 26 - 1).toInt64)) = 0 → c.2.2.2.2.2.2 (some (.int (-1 : Int32))) T)) : h_sort_0 c x1 x2 T := by
  intro ok
  refine e_aload_n dX6_sort_0 rfl ?_
  refine e_iload_n dX6_sort_1 rfl ?_
  refine t_callV (As := [.int x1]) ok (ct_isSort T x1) dX6_sort_2 wX6_isSort q2934 q2936 qs113 rfl rfl (by decide) rfl (Nat.le_of_ble_eq_true rfl) (fun v1 T2 e4 => ?_)
  obtain ⟨r3, rfl, rfl, hT⟩ := e4
  rw [hT]
  refine e_if_ne 10 dX6_sort_5 (by decide) (fun g5 => ?_) (fun g5 => ?_)
  · replace H := H.1 g5
    refine e_iload_n dX6_sort_10 rfl ?_
    rcases eSwitch 5 x2 with g6 | ⟨k7, g6, rfl⟩
    · replace H := H.1 g6
      refine e_switchOut 114 dX6_sort_11 g6 (by decide) ?_
      refine e_iconst (-1) dX6_sort_114 (by decide) ?_
      exact e_ireturn .int dX6_sort_115 rfl rfl ⟨_, _, rfl, rfl, H⟩
    · replace H := H.2
      rcases (show k7 = 0 ∨ k7 = 1 ∨ k7 = 2 ∨ k7 = 3 ∨ k7 = 4 ∨ k7 = 5 by omega) with rfl | rfl | rfl | rfl | rfl | rfl
      · replace H := H.1 rfl
        refine e_switchIn (off := 37) 48 dX6_sort_11 (by decide) (by decide) (by decide) (by decide) ?_
        refine e_aload_n dX6_sort_48 rfl ?_
        refine t_getA dX6_sort_49 fX6_29 q2525 (by decide) rfl ?_
        refine e_iload_n dX6_sort_52 rfl ?_
        obtain ⟨g8, H⟩ := H
        refine t_iald dX6_sort_53 (by decide) rfl g8 ?_
        refine t_callS (As := [.int (T.2.2.1 29 x1.toNatClampNeg)]) ok (ct_ones (T.2.2.1 29 x1.toNatClampNeg)) dX6_sort_54 wX6_ones q2474 q2475 rfl (by decide) rfl (Nat.le_of_ble_eq_true rfl) ?_
        exact e_ireturn .int dX6_sort_57 rfl rfl ⟨_, _, rfl, rfl, H⟩
      · replace H := H.2.1 rfl
        refine e_switchIn (off := 47) 58 dX6_sort_11 (by decide) (by decide) (by decide) (by decide) ?_
        refine e_aload_n dX6_sort_58 rfl ?_
        refine t_getA dX6_sort_59 fX6_30 q2526 (by decide) rfl ?_
        refine e_iload_n dX6_sort_62 rfl ?_
        obtain ⟨g9, H⟩ := H
        refine t_iald dX6_sort_63 (by decide) rfl g9 ?_
        exact e_ireturn .int dX6_sort_64 rfl rfl ⟨_, _, rfl, rfl, H⟩
      · replace H := H.2.2.1 rfl
        refine e_switchIn (off := 54) 65 dX6_sort_11 (by decide) (by decide) (by decide) (by decide) ?_
        refine e_aload_n dX6_sort_65 rfl ?_
        refine t_getA dX6_sort_66 fX6_29 q2525 (by decide) rfl ?_
        refine e_iload_n dX6_sort_69 rfl ?_
        obtain ⟨g10, H⟩ := H
        refine t_iald dX6_sort_70 (by decide) rfl g10 ?_
        exact e_ireturn .int dX6_sort_71 rfl rfl ⟨_, _, rfl, rfl, H⟩
      · replace H := H.2.2.2.1 rfl
        refine e_switchIn (off := 61) 72 dX6_sort_11 (by decide) (by decide) (by decide) (by decide) ?_
        refine e_aload_n dX6_sort_72 rfl ?_
        refine e_aload_n dX6_sort_73 rfl ?_
        refine t_getA dX6_sort_74 fX6_29 q2525 (by decide) rfl ?_
        refine e_iload_n dX6_sort_77 rfl ?_
        obtain ⟨g11, H⟩ := H
        refine t_iald dX6_sort_78 (by decide) rfl g11 ?_
        obtain ⟨Q12, hC13, H⟩ := H
        refine t_callV (As := [.int (T.2.2.1 29 x1.toNatClampNeg)]) ok hC13 dX6_sort_79 wX6_normOf q2938 q2940 qs114 rfl rfl (by decide) rfl (Nat.le_of_ble_eq_true rfl) (fun v14 T15 e16 => ?_)
        obtain ⟨r17, rfl, e16⟩ := e16
        replace H := H r17 T15 e16
        refine t_callS (As := [.int r17]) ok (ct_ones r17) dX6_sort_82 wX6_ones q2474 q2475 rfl (by decide) rfl (Nat.le_of_ble_eq_true rfl) ?_
        exact e_ireturn .int dX6_sort_85 rfl rfl ⟨_, _, rfl, rfl, H⟩
      · replace H := H.2.2.2.2.1 rfl
        refine e_switchIn (off := 75) 86 dX6_sort_11 (by decide) (by decide) (by decide) (by decide) ?_
        refine e_aload_n dX6_sort_86 rfl ?_
        refine e_aload_n dX6_sort_87 rfl ?_
        refine t_getA dX6_sort_88 fX6_29 q2525 (by decide) rfl ?_
        refine e_iload_n dX6_sort_91 rfl ?_
        obtain ⟨g18, H⟩ := H
        refine t_iald dX6_sort_92 (by decide) rfl g18 ?_
        obtain ⟨Q19, hC20, H⟩ := H
        refine t_callV (As := [.int (T.2.2.1 29 x1.toNatClampNeg)]) ok hC20 dX6_sort_93 wX6_isOfOne q2942 q2944 qs115 rfl rfl (by decide) rfl (Nat.le_of_ble_eq_true rfl) (fun v21 T22 e23 => ?_)
        obtain ⟨r24, rfl, e23⟩ := e23
        replace H := H r24 T22 e23
        refine t_callS (As := [.int r24]) ok (ct_truth r24) dX6_sort_96 wX6_truth q2489 q2490 rfl (by decide) rfl (Nat.le_of_ble_eq_true rfl) ?_
        exact e_ireturn .int dX6_sort_99 rfl rfl ⟨_, _, rfl, rfl, H⟩
      · replace H := H.2.2.2.2.2 rfl
        refine e_switchIn (off := 89) 100 dX6_sort_11 (by decide) (by decide) (by decide) (by decide) ?_
        refine e_aload_n dX6_sort_100 rfl ?_
        refine e_aload_n dX6_sort_101 rfl ?_
        refine t_getA dX6_sort_102 fX6_29 q2525 (by decide) rfl ?_
        refine e_iload_n dX6_sort_105 rfl ?_
        obtain ⟨g25, H⟩ := H
        refine t_iald dX6_sort_106 (by decide) rfl g25 ?_
        obtain ⟨Q26, hC27, H⟩ := H
        refine t_callV (As := [.int (T.2.2.1 29 x1.toNatClampNeg)]) ok hC27 dX6_sort_107 wX6_areAlike q2881 q2883 qs108 rfl rfl (by decide) rfl (Nat.le_of_ble_eq_true rfl) (fun v28 T29 e30 => ?_)
        obtain ⟨r31, rfl, e30⟩ := e30
        replace H := H r31 T29 e30
        refine t_callS (As := [.int r31]) ok (ct_truth r31) dX6_sort_110 wX6_truth q2489 q2490 rfl (by decide) rfl (Nat.le_of_ble_eq_true rfl) ?_
        exact e_ireturn .int dX6_sort_113 rfl rfl ⟨_, _, rfl, rfl, H⟩
  · replace H := H.2 g5
    refine e_iconst (-1) dX6_sort_8 (by decide) ?_
    exact e_ireturn .int dX6_sort_9 rfl rfl ⟨_, _, rfl, rfl, H⟩

theorem en_sort (x1 : Int32) (x2 : Int32) (T : tS) (Q : Option Value → tS → Prop) (H : ∀ c : tC, c.2.2.2.2.2.2 = Q → h_sort_0 c x1 x2 T) : tM mX6_sort 3 (fun b => [.int x1, .int x2]) T Q :=
  tM_mk (by decide) rfl (fun b => Nat.le_of_ble_eq_true rfl) (fun c hc ok => E.less2 (H c hc ok) (eS_s (eS_s (eS_s eS_0))))
/-! meet (II)I level 2 -/
def h_meet_0 (c : tC) (x1 : Int32) (x2 : Int32) (T : tS) : Prop := tX mX6_meet 2 c 0 [some (.ref c.2.2.2.1), some (.int x1), some (.int x2)] T
set_option maxHeartbeats 2000000 in
theorem s_meet_0 (c : tC) (x1 : Int32) (x2 : Int32) (T : tS) (H : ((zI (0 ≤ x1.toInt64 ∧ x1.toInt64 ≤ (T.1 26 - 1).toInt64)) = 0 → c.2.2.2.2.2.2 (some (.int (-1 : Int32))) T) ∧ (¬ (zI (0 ≤ x1.toInt64 ∧ x1.toInt64 ≤ (T.1 26 - 1).toInt64)) = 0 → (¬ (zI (0 ≤ x2.toInt64 ∧ x2.toInt64 ≤ (T.1 26 - 1).toInt64)) = 0 → vp_in x1 64 ∧ (vp_in x2 64 ∧ (∃ Q13 : Int32 → tS → Prop, tMi mX6_sortOfSet 1 (fun b => [.int ((T.2.2.1 29 x1.toNatClampNeg) &&& (T.2.2.1 29 x2.toNatClampNeg))]) T Q13 ∧ ∀ (r18 : Int32) (T16 : tS), Q13 r18 T16 → c.2.2.2.2.2.2 (some (.int r18)) T16))) ∧ ((zI (0 ≤ x2.toInt64 ∧ x2.toInt64 ≤ (T.1 26 - 1).toInt64)) = 0 → c.2.2.2.2.2.2 (some (.int (-1 : Int32))) T))) : h_meet_0 c x1 x2 T := by
  intro ok
  refine e_aload_n dX6_meet_0 rfl ?_
  refine e_iload_n dX6_meet_1 rfl ?_
  refine t_callV (As := [.int x1]) ok (ct_isSort T x1) dX6_meet_2 wX6_isSort q2934 q2936 qs113 rfl rfl (by decide) rfl (Nat.le_of_ble_eq_true rfl) (fun v1 T2 e4 => ?_)
  obtain ⟨r3, rfl, rfl, hT⟩ := e4
  rw [hT]
  refine e_if_eq 16 dX6_meet_5 (by decide) (fun g5 => ?_) (fun g5 => ?_)
  · replace H := H.1 g5
    refine e_iconst (-1) dX6_meet_16 (by decide) ?_
    exact e_ireturn .int dX6_meet_17 rfl rfl ⟨_, _, rfl, rfl, H⟩
  · replace H := H.2 g5
    refine e_aload_n dX6_meet_8 rfl ?_
    refine e_iload_n dX6_meet_9 rfl ?_
    refine t_callV (As := [.int x2]) ok (ct_isSort T x2) dX6_meet_10 wX6_isSort q2934 q2936 qs113 rfl rfl (by decide) rfl (Nat.le_of_ble_eq_true rfl) (fun v6 T7 e9 => ?_)
    obtain ⟨r8, rfl, rfl, hT⟩ := e9
    rw [hT]
    refine e_if_ne 18 dX6_meet_13 (by decide) (fun g10 => ?_) (fun g10 => ?_)
    · replace H := H.1 g10
      refine e_aload_n dX6_meet_18 rfl ?_
      refine e_aload_n dX6_meet_19 rfl ?_
      refine t_getA dX6_meet_20 fX6_29 q2525 (by decide) rfl ?_
      refine e_iload_n dX6_meet_23 rfl ?_
      obtain ⟨g11, H⟩ := H
      refine t_iald dX6_meet_24 (by decide) rfl g11 ?_
      refine e_aload_n dX6_meet_25 rfl ?_
      refine t_getA dX6_meet_26 fX6_29 q2525 (by decide) rfl ?_
      refine e_iload_n dX6_meet_29 rfl ?_
      obtain ⟨g12, H⟩ := H
      refine t_iald dX6_meet_30 (by decide) rfl g12 ?_
      refine e_iand dX6_meet_31 ?_
      obtain ⟨Q13, hC14, H⟩ := H
      refine t_callV (As := [.int ((T.2.2.1 29 x1.toNatClampNeg) &&& (T.2.2.1 29 x2.toNatClampNeg))]) ok hC14 dX6_meet_32 wX6_sortOfSet q2926 q2928 qs112 rfl rfl (by decide) rfl (Nat.le_of_ble_eq_true rfl) (fun v15 T16 e17 => ?_)
      obtain ⟨r18, rfl, e17⟩ := e17
      replace H := H r18 T16 e17
      exact e_ireturn .int dX6_meet_35 rfl rfl ⟨_, _, rfl, rfl, H⟩
    · replace H := H.2 g10
      refine e_iconst (-1) dX6_meet_16 (by decide) ?_
      exact e_ireturn .int dX6_meet_17 rfl rfl ⟨_, _, rfl, rfl, H⟩

theorem en_meet (x1 : Int32) (x2 : Int32) (T : tS) (Q : Option Value → tS → Prop) (H : ∀ c : tC, c.2.2.2.2.2.2 = Q → h_meet_0 c x1 x2 T) : tM mX6_meet 2 (fun b => [.int x1, .int x2]) T Q :=
  tM_mk (by decide) rfl (fun b => Nat.le_of_ble_eq_true rfl) (fun c hc ok => E.less2 (H c hc ok) (eS_s (eS_s (eS_s eS_0))))
/-! join (II)I level 2 -/
def h_join_0 (c : tC) (x1 : Int32) (x2 : Int32) (T : tS) : Prop := tX mX6_join 2 c 0 [some (.ref c.2.2.2.1), some (.int x1), some (.int x2)] T
set_option maxHeartbeats 2000000 in
theorem s_join_0 (c : tC) (x1 : Int32) (x2 : Int32) (T : tS) (H : ((zI (0 ≤ x1.toInt64 ∧ x1.toInt64 ≤ (T.1 26 - 1).toInt64)) = 0 → c.2.2.2.2.2.2 (some (.int (-1 : Int32))) T) ∧ (¬ (zI (0 ≤ x1.toInt64 ∧ x1.toInt64 ≤ (T.1 26 - 1).toInt64)) = 0 → (¬ (zI (0 ≤ x2.toInt64 ∧ x2.toInt64 ≤ (T.1 26 - 1).toInt64)) = 0 → vp_in x1 64 ∧ (vp_in x2 64 ∧ (∃ Q13 : Int32 → tS → Prop, tMi mX6_closed 1 (fun b => [.int ((T.2.2.1 29 x1.toNatClampNeg) ||| (T.2.2.1 29 x2.toNatClampNeg))]) T Q13 ∧ ∀ (r18 : Int32) (T16 : tS), Q13 r18 T16 → ∃ Q19 : Int32 → tS → Prop, tMi mX6_sortOfSet 1 (fun b => [.int r18]) T16 Q19 ∧ ∀ (r24 : Int32) (T22 : tS), Q19 r24 T22 → c.2.2.2.2.2.2 (some (.int r24)) T22))) ∧ ((zI (0 ≤ x2.toInt64 ∧ x2.toInt64 ≤ (T.1 26 - 1).toInt64)) = 0 → c.2.2.2.2.2.2 (some (.int (-1 : Int32))) T))) : h_join_0 c x1 x2 T := by
  intro ok
  refine e_aload_n dX6_join_0 rfl ?_
  refine e_iload_n dX6_join_1 rfl ?_
  refine t_callV (As := [.int x1]) ok (ct_isSort T x1) dX6_join_2 wX6_isSort q2934 q2936 qs113 rfl rfl (by decide) rfl (Nat.le_of_ble_eq_true rfl) (fun v1 T2 e4 => ?_)
  obtain ⟨r3, rfl, rfl, hT⟩ := e4
  rw [hT]
  refine e_if_eq 16 dX6_join_5 (by decide) (fun g5 => ?_) (fun g5 => ?_)
  · replace H := H.1 g5
    refine e_iconst (-1) dX6_join_16 (by decide) ?_
    exact e_ireturn .int dX6_join_17 rfl rfl ⟨_, _, rfl, rfl, H⟩
  · replace H := H.2 g5
    refine e_aload_n dX6_join_8 rfl ?_
    refine e_iload_n dX6_join_9 rfl ?_
    refine t_callV (As := [.int x2]) ok (ct_isSort T x2) dX6_join_10 wX6_isSort q2934 q2936 qs113 rfl rfl (by decide) rfl (Nat.le_of_ble_eq_true rfl) (fun v6 T7 e9 => ?_)
    obtain ⟨r8, rfl, rfl, hT⟩ := e9
    rw [hT]
    refine e_if_ne 18 dX6_join_13 (by decide) (fun g10 => ?_) (fun g10 => ?_)
    · replace H := H.1 g10
      refine e_aload_n dX6_join_18 rfl ?_
      refine e_aload_n dX6_join_19 rfl ?_
      refine e_aload_n dX6_join_20 rfl ?_
      refine t_getA dX6_join_21 fX6_29 q2525 (by decide) rfl ?_
      refine e_iload_n dX6_join_24 rfl ?_
      obtain ⟨g11, H⟩ := H
      refine t_iald dX6_join_25 (by decide) rfl g11 ?_
      refine e_aload_n dX6_join_26 rfl ?_
      refine t_getA dX6_join_27 fX6_29 q2525 (by decide) rfl ?_
      refine e_iload_n dX6_join_30 rfl ?_
      obtain ⟨g12, H⟩ := H
      refine t_iald dX6_join_31 (by decide) rfl g12 ?_
      refine e_ior dX6_join_32 ?_
      obtain ⟨Q13, hC14, H⟩ := H
      refine t_callV (As := [.int ((T.2.2.1 29 x1.toNatClampNeg) ||| (T.2.2.1 29 x2.toNatClampNeg))]) ok hC14 dX6_join_33 wX6_closed q2450 q2452 qs61 rfl rfl (by decide) rfl (Nat.le_of_ble_eq_true rfl) (fun v15 T16 e17 => ?_)
      obtain ⟨r18, rfl, e17⟩ := e17
      replace H := H r18 T16 e17
      obtain ⟨Q19, hC20, H⟩ := H
      refine t_callV (As := [.int r18]) ok hC20 dX6_join_36 wX6_sortOfSet q2926 q2928 qs112 rfl rfl (by decide) rfl (Nat.le_of_ble_eq_true rfl) (fun v21 T22 e23 => ?_)
      obtain ⟨r24, rfl, e23⟩ := e23
      replace H := H r24 T22 e23
      exact e_ireturn .int dX6_join_39 rfl rfl ⟨_, _, rfl, rfl, H⟩
    · replace H := H.2 g10
      refine e_iconst (-1) dX6_join_16 (by decide) ?_
      exact e_ireturn .int dX6_join_17 rfl rfl ⟨_, _, rfl, rfl, H⟩

theorem en_join (x1 : Int32) (x2 : Int32) (T : tS) (Q : Option Value → tS → Prop) (H : ∀ c : tC, c.2.2.2.2.2.2 = Q → h_join_0 c x1 x2 T) : tM mX6_join 2 (fun b => [.int x1, .int x2]) T Q :=
  tM_mk (by decide) rfl (fun b => Nat.le_of_ble_eq_true rfl) (fun c hc ok => E.less2 (H c hc ok) (eS_s (eS_s (eS_s eS_0))))
/-! within (II)I level 2 -/
def h_within_0 (c : tC) (x1 : Int32) (x2 : Int32) (T : tS) : Prop := tX mX6_within 2 c 0 [some (.ref c.2.2.2.1), some (.int x1), some (.int x2), none, none] T
def h_within_23 (c : tC) (x1 : Int32) (x2 : Int32) (x3 : Int32) (x4 : Int32) (T : tS) : Prop := tX mX6_within 2 c 23 [some (.ref c.2.2.2.1), some (.int x1), some (.int x2), some (.int x3), some (.int x4)] T
set_option maxHeartbeats 2000000 in
theorem s_within_0 (c : tC) (x1 : Int32) (x2 : Int32) (T : tS) (H : ((zI (0 ≤ x1.toInt64 ∧ x1.toInt64 ≤ (T.1 26 - 1).toInt64)) = 0 → c.2.2.2.2.2.2 (some (.int (-1 : Int32))) T) ∧ (¬ (zI (0 ≤ x1.toInt64 ∧ x1.toInt64 ≤ (T.1 26 - 1).toInt64)) = 0 → (¬ (zI (0 ≤ x2.toInt64 ∧ x2.toInt64 ≤ (T.1 26 - 1).toInt64)) = 0 → h_within_23 c x1 x2 (0 : Int32) (0 : Int32) T) ∧ ((zI (0 ≤ x2.toInt64 ∧ x2.toInt64 ≤ (T.1 26 - 1).toInt64)) = 0 → c.2.2.2.2.2.2 (some (.int (-1 : Int32))) T))) : h_within_0 c x1 x2 T := by
  intro ok
  refine e_aload_n dX6_within_0 rfl ?_
  refine e_iload_n dX6_within_1 rfl ?_
  refine t_callV (As := [.int x1]) ok (ct_isSort T x1) dX6_within_2 wX6_isSort q2934 q2936 qs113 rfl rfl (by decide) rfl (Nat.le_of_ble_eq_true rfl) (fun v1 T2 e4 => ?_)
  obtain ⟨r3, rfl, rfl, hT⟩ := e4
  rw [hT]
  refine e_if_eq 16 dX6_within_5 (by decide) (fun g5 => ?_) (fun g5 => ?_)
  · replace H := H.1 g5
    refine e_iconst (-1) dX6_within_16 (by decide) ?_
    exact e_ireturn .int dX6_within_17 rfl rfl ⟨_, _, rfl, rfl, H⟩
  · replace H := H.2 g5
    refine e_aload_n dX6_within_8 rfl ?_
    refine e_iload_n dX6_within_9 rfl ?_
    refine t_callV (As := [.int x2]) ok (ct_isSort T x2) dX6_within_10 wX6_isSort q2934 q2936 qs113 rfl rfl (by decide) rfl (Nat.le_of_ble_eq_true rfl) (fun v6 T7 e9 => ?_)
    obtain ⟨r8, rfl, rfl, hT⟩ := e9
    rw [hT]
    refine e_if_ne 18 dX6_within_13 (by decide) (fun g10 => ?_) (fun g10 => ?_)
    · replace H := H.1 g10
      refine e_iconst (0) dX6_within_18 (by decide) ?_
      refine e_istore_n _ dX6_within_19 (by decide) rfl rfl ?_
      refine e_iconst (0) dX6_within_20 (by decide) ?_
      refine e_istore _ dX6_within_21 (by decide) rfl rfl ?_
      exact H ok
    · replace H := H.2 g10
      refine e_iconst (-1) dX6_within_16 (by decide) ?_
      exact e_ireturn .int dX6_within_17 rfl rfl ⟨_, _, rfl, rfl, H⟩

set_option maxHeartbeats 2000000 in
theorem s_within_23 (c : tC) (x1 : Int32) (x2 : Int32) (x3 : Int32) (x4 : Int32) (T : tS) (H : ((T.1 25) ≤ x4 → c.2.2.2.2.2.2 (some (.int x3)) T) ∧ (¬ (T.1 25) ≤ x4 → vp_in x4 128 ∧ ((¬ (T.2.2.1 28 x4.toNatClampNeg) = x1 → h_within_23 c x1 x2 (x3 + (zI (¬ (0 : Int32) = 0))) (x4 + 1) T) ∧ ((T.2.2.1 28 x4.toNatClampNeg) = x1 → vp_in x4 128 ∧ (vp_in x2 64 ∧ ((¬ ((T.2.2.1 27 x4.toNatClampNeg) &&& ((T.2.2.1 29 x2.toNatClampNeg) ^^^ (-1 : Int32))) = 0 → h_within_23 c x1 x2 (x3 + (zI (¬ (0 : Int32) = 0))) (x4 + 1) T) ∧ (((T.2.2.1 27 x4.toNatClampNeg) &&& ((T.2.2.1 29 x2.toNatClampNeg) ^^^ (-1 : Int32))) = 0 → h_within_23 c x1 x2 (x3 + (zI (¬ (1 : Int32) = 0))) (x4 + 1) T))))))) : h_within_23 c x1 x2 x3 x4 T := by
  intro ok
  refine e_iload dX6_within_23 rfl ?_
  refine e_aload_n dX6_within_25 rfl ?_
  refine t_getI dX6_within_26 fX6_25 q2521 (by decide) rfl ?_
  refine e_icmp_ge 79 dX6_within_29 (by decide) (fun g1 => ?_) (fun g1 => ?_)
  · replace H := H.1 g1
    refine e_iload_n dX6_within_79 rfl ?_
    exact e_ireturn .int dX6_within_80 rfl rfl ⟨_, _, rfl, rfl, H⟩
  · replace H := H.2 g1
    refine e_iload_n dX6_within_32 rfl ?_
    refine e_aload_n dX6_within_33 rfl ?_
    refine t_getA dX6_within_34 fX6_28 q2524 (by decide) rfl ?_
    refine e_iload dX6_within_37 rfl ?_
    obtain ⟨g2, H⟩ := H
    refine t_iald dX6_within_39 (by decide) rfl g2 ?_
    refine e_iload_n dX6_within_40 rfl ?_
    refine e_icmp_ne 67 dX6_within_41 (by decide) (fun g3 => ?_) (fun g3 => ?_)
    · replace H := H.1 g3
      refine e_iconst (0) dX6_within_67 (by decide) ?_
      refine t_callS (As := [.int (0 : Int32)]) ok (ct_truth (0 : Int32)) dX6_within_68 wX6_truth q2489 q2490 rfl (by decide) rfl (Nat.le_of_ble_eq_true rfl) ?_
      refine e_iadd dX6_within_71 ?_
      refine e_istore_n _ dX6_within_72 (by decide) rfl rfl ?_
      refine e_iinc (x4 + 1) _ dX6_within_73 rfl rfl (by decide) rfl rfl ?_
      refine e_goto 23 dX6_within_76 (by decide) ?_
      exact H ok
    · replace H := H.2 g3
      refine e_aload_n dX6_within_44 rfl ?_
      refine t_getA dX6_within_45 fX6_27 q2523 (by decide) rfl ?_
      refine e_iload dX6_within_48 rfl ?_
      obtain ⟨g4, H⟩ := H
      refine t_iald dX6_within_50 (by decide) rfl g4 ?_
      refine e_aload_n dX6_within_51 rfl ?_
      refine t_getA dX6_within_52 fX6_29 q2525 (by decide) rfl ?_
      refine e_iload_n dX6_within_55 rfl ?_
      obtain ⟨g5, H⟩ := H
      refine t_iald dX6_within_56 (by decide) rfl g5 ?_
      refine e_iconst (-1) dX6_within_57 (by decide) ?_
      refine e_ixor dX6_within_58 ?_
      refine e_iand dX6_within_59 ?_
      refine e_if_ne 67 dX6_within_60 (by decide) (fun g6 => ?_) (fun g6 => ?_)
      · replace H := H.1 g6
        refine e_iconst (0) dX6_within_67 (by decide) ?_
        refine t_callS (As := [.int (0 : Int32)]) ok (ct_truth (0 : Int32)) dX6_within_68 wX6_truth q2489 q2490 rfl (by decide) rfl (Nat.le_of_ble_eq_true rfl) ?_
        refine e_iadd dX6_within_71 ?_
        refine e_istore_n _ dX6_within_72 (by decide) rfl rfl ?_
        refine e_iinc (x4 + 1) _ dX6_within_73 rfl rfl (by decide) rfl rfl ?_
        refine e_goto 23 dX6_within_76 (by decide) ?_
        exact H ok
      · replace H := H.2 g6
        refine e_iconst (1) dX6_within_63 (by decide) ?_
        refine e_goto 68 dX6_within_64 (by decide) ?_
        refine t_callS (As := [.int (1 : Int32)]) ok (ct_truth (1 : Int32)) dX6_within_68 wX6_truth q2489 q2490 rfl (by decide) rfl (Nat.le_of_ble_eq_true rfl) ?_
        refine e_iadd dX6_within_71 ?_
        refine e_istore_n _ dX6_within_72 (by decide) rfl rfl ?_
        refine e_iinc (x4 + 1) _ dX6_within_73 rfl rfl (by decide) rfl rfl ?_
        refine e_goto 23 dX6_within_76 (by decide) ?_
        exact H ok

theorem en_within (x1 : Int32) (x2 : Int32) (T : tS) (Q : Option Value → tS → Prop) (H : ∀ c : tC, c.2.2.2.2.2.2 = Q → h_within_0 c x1 x2 T) : tM mX6_within 2 (fun b => [.int x1, .int x2]) T Q :=
  tM_mk (by decide) rfl (fun b => Nat.le_of_ble_eq_true rfl) (fun c hc ok => E.less2 (H c hc ok) (eS_s (eS_s (eS_s (eS_n (eS_n eS_0))))))
/-! mark (II)I level 2 -/
def h_mark_0 (c : tC) (x1 : Int32) (x2 : Int32) (T : tS) : Prop := tX mX6_mark 2 c 0 [some (.ref c.2.2.2.1), some (.int x1), some (.int x2)] T
set_option maxHeartbeats 2000000 in
theorem s_mark_0 (c : tC) (x1 : Int32) (x2 : Int32) (T : tS) (H : ((zI (0 ≤ x1.toInt64 ∧ x1.toInt64 ≤ (T.1 26 - 1).toInt64)) = 0 → c.2.2.2.2.2.2 (some (.int (-1 : Int32))) T) ∧ (¬ (zI (0 ≤ x1.toInt64 ∧ x1.toInt64 ≤ (T.1 26 - 1).toInt64)) = 0 → ((zI (0 ≤ x2.toInt64 ∧ x2.toInt64 ≤ (T.1 26 - 1).toInt64)) = 0 → c.2.2.2.2.2.2 (some (.int (-1 : Int32))) T) ∧ (¬ (zI (0 ≤ x2.toInt64 ∧ x2.toInt64 ≤ (T.1 26 - 1).toInt64)) = 0 → vp_in (((64 : Int32) * x1) + x2) 4096 ∧ (c.2.2.2.2.2.2 (some (.int (T.2.2.1 31 (((64 : Int32) * x1) + x2).toNatClampNeg))) T)))) : h_mark_0 c x1 x2 T := by
  intro ok
  refine e_aload_n dX6_mark_0 rfl ?_
  refine e_iload_n dX6_mark_1 rfl ?_
  refine t_callV (As := [.int x1]) ok (ct_isSort T x1) dX6_mark_2 wX6_isSort q2934 q2936 qs113 rfl rfl (by decide) rfl (Nat.le_of_ble_eq_true rfl) (fun v1 T2 e4 => ?_)
  obtain ⟨r3, rfl, rfl, hT⟩ := e4
  rw [hT]
  refine e_if_eq 30 dX6_mark_5 (by decide) (fun g5 => ?_) (fun g5 => ?_)
  · replace H := H.1 g5
    refine e_iconst (-1) dX6_mark_30 (by decide) ?_
    exact e_ireturn .int dX6_mark_31 rfl rfl ⟨_, _, rfl, rfl, H⟩
  · replace H := H.2 g5
    refine e_aload_n dX6_mark_8 rfl ?_
    refine e_iload_n dX6_mark_9 rfl ?_
    refine t_callV (As := [.int x2]) ok (ct_isSort T x2) dX6_mark_10 wX6_isSort q2934 q2936 qs113 rfl rfl (by decide) rfl (Nat.le_of_ble_eq_true rfl) (fun v6 T7 e9 => ?_)
    obtain ⟨r8, rfl, rfl, hT⟩ := e9
    rw [hT]
    refine e_if_eq 30 dX6_mark_13 (by decide) (fun g10 => ?_) (fun g10 => ?_)
    · replace H := H.1 g10
      refine e_iconst (-1) dX6_mark_30 (by decide) ?_
      exact e_ireturn .int dX6_mark_31 rfl rfl ⟨_, _, rfl, rfl, H⟩
    · replace H := H.2 g10
      refine e_aload_n dX6_mark_16 rfl ?_
      refine t_getA dX6_mark_17 fX6_31 q2527 (by decide) rfl ?_
      refine e_bipush (64) dX6_mark_20 (by decide) ?_
      refine e_iload_n dX6_mark_22 rfl ?_
      refine e_imul dX6_mark_23 ?_
      refine e_iload_n dX6_mark_24 rfl ?_
      refine e_iadd dX6_mark_25 ?_
      obtain ⟨g11, H⟩ := H
      refine t_iald dX6_mark_26 (by decide) rfl g11 ?_
      refine e_goto 31 dX6_mark_27 (by decide) ?_
      exact e_ireturn .int dX6_mark_31 rfl rfl ⟨_, _, rfl, rfl, H⟩

theorem en_mark (x1 : Int32) (x2 : Int32) (T : tS) (Q : Option Value → tS → Prop) (H : ∀ c : tC, c.2.2.2.2.2.2 = Q → h_mark_0 c x1 x2 T) : tM mX6_mark 2 (fun b => [.int x1, .int x2]) T Q :=
  tM_mk (by decide) rfl (fun b => Nat.le_of_ble_eq_true rfl) (fun c hc ok => E.less2 (H c hc ok) (eS_s (eS_s (eS_s eS_0))))
/-! worksProduct (II)V level 1 -/
def h_worksProduct_0 (c : tC) (x1 : Int32) (x2 : Int32) (T : tS) : Prop := tX mX6_worksProduct 1 c 0 [some (.ref c.2.2.2.1), some (.int x1), some (.int x2), none] T
def h_worksProduct_2 (c : tC) (x1 : Int32) (x2 : Int32) (x3 : Int32) (T : tS) : Prop := tX mX6_worksProduct 1 c 2 [some (.ref c.2.2.2.1), some (.int x1), some (.int x2), some (.int x3)] T
set_option maxHeartbeats 2000000 in
theorem s_worksProduct_0 (c : tC) (x1 : Int32) (x2 : Int32) (T : tS) (H : h_worksProduct_2 c x1 x2 (0 : Int32) T) : h_worksProduct_0 c x1 x2 T := by
  intro ok
  refine e_iconst (0) dX6_worksProduct_0 (by decide) ?_
  refine e_istore_n _ dX6_worksProduct_1 (by decide) rfl rfl ?_
  exact H ok

set_option maxHeartbeats 2000000 in
theorem s_worksProduct_2 (c : tC) (x1 : Int32) (x2 : Int32) (x3 : Int32) (T : tS) (H : ((T.1 26) ≤ x3 → ∃ Q2 : tS → Prop, tMv mX6_numbers 0 (fun b => [.ref (tAd b 34), .ref (tAd b 48), .int (0 : Int32)]) T Q2 ∧ ∀ T5 : tS, Q2 T5 → c.2.2.2.2.2.2 none T5) ∧ (¬ (T.1 26) ≤ x3 → vp_in (((64 : Int32) * x1) + x3) 4096 ∧ (vp_in (((64 : Int32) * x2) + x3) 4096 ∧ (vp_in x3 64 ∧ (h_worksProduct_2 c x1 x2 (x3 + 1) (tB T 34 (va_up (T.2.2.2 34) x3.toNatClampNeg (((T.2.2.1 31 (((64 : Int32) * x1) + x3).toNatClampNeg).toInt64) * ((T.2.2.1 31 (((64 : Int32) * x2) + x3).toNatClampNeg).toInt64))))))))) : h_worksProduct_2 c x1 x2 x3 T := by
  intro ok
  refine e_iload_n dX6_worksProduct_2 rfl ?_
  refine e_aload_n dX6_worksProduct_3 rfl ?_
  refine t_getI dX6_worksProduct_4 fX6_26 q2522 (by decide) rfl ?_
  refine e_icmp_ge 47 dX6_worksProduct_7 (by decide) (fun g1 => ?_) (fun g1 => ?_)
  · replace H := H.1 g1
    refine e_aload_n dX6_worksProduct_47 rfl ?_
    refine e_aload_n dX6_worksProduct_48 rfl ?_
    refine t_getA dX6_worksProduct_49 fX6_34 q2530 (by decide) rfl ?_
    refine e_aload_n dX6_worksProduct_52 rfl ?_
    refine t_getA dX6_worksProduct_53 fX6_48 q2544 (by decide) rfl ?_
    refine e_iconst (0) dX6_worksProduct_56 (by decide) ?_
    obtain ⟨Q2, hC3, H⟩ := H
    refine t_callV (As := [.ref (tAd c.2.2.2.1 34), .ref (tAd c.2.2.2.1 48), .int (0 : Int32)]) ok hC3 dX6_worksProduct_57 wX6_numbers q2833 q2835 qs98 rfl rfl (by decide) rfl (Nat.le_of_ble_eq_true rfl) (fun v4 T5 e6 => ?_)
    obtain ⟨rfl, e6⟩ := e6
    replace H := H T5 e6
    exact e_return dX6_worksProduct_60 rfl ⟨_, _, rfl, rfl, H⟩
  · replace H := H.2 g1
    refine e_aload_n dX6_worksProduct_10 rfl ?_
    refine t_getA dX6_worksProduct_11 fX6_34 q2530 (by decide) rfl ?_
    refine e_iload_n dX6_worksProduct_14 rfl ?_
    refine e_aload_n dX6_worksProduct_15 rfl ?_
    refine t_getA dX6_worksProduct_16 fX6_31 q2527 (by decide) rfl ?_
    refine e_bipush (64) dX6_worksProduct_19 (by decide) ?_
    refine e_iload_n dX6_worksProduct_21 rfl ?_
    refine e_imul dX6_worksProduct_22 ?_
    refine e_iload_n dX6_worksProduct_23 rfl ?_
    refine e_iadd dX6_worksProduct_24 ?_
    obtain ⟨g8, H⟩ := H
    refine t_iald dX6_worksProduct_25 (by decide) rfl g8 ?_
    refine e_i2l dX6_worksProduct_26 ?_
    refine e_aload_n dX6_worksProduct_27 rfl ?_
    refine t_getA dX6_worksProduct_28 fX6_31 q2527 (by decide) rfl ?_
    refine e_bipush (64) dX6_worksProduct_31 (by decide) ?_
    refine e_iload_n dX6_worksProduct_33 rfl ?_
    refine e_imul dX6_worksProduct_34 ?_
    refine e_iload_n dX6_worksProduct_35 rfl ?_
    refine e_iadd dX6_worksProduct_36 ?_
    obtain ⟨g9, H⟩ := H
    refine t_iald dX6_worksProduct_37 (by decide) rfl g9 ?_
    refine e_i2l dX6_worksProduct_38 ?_
    refine e_lmul dX6_worksProduct_39 ?_
    obtain ⟨g10, H⟩ := H
    refine t_last dX6_worksProduct_40 (by decide) rfl ok.1 g10 ?_
    refine e_iinc (x3 + 1) _ dX6_worksProduct_41 rfl rfl (by decide) rfl rfl ?_
    refine e_goto 2 dX6_worksProduct_44 (by decide) ?_
    exact H ok

theorem en_worksProduct (x1 : Int32) (x2 : Int32) (T : tS) (Q : Option Value → tS → Prop) (H : ∀ c : tC, c.2.2.2.2.2.2 = Q → h_worksProduct_0 c x1 x2 T) : tM mX6_worksProduct 1 (fun b => [.int x1, .int x2]) T Q :=
  tM_mk (by decide) rfl (fun b => Nat.le_of_ble_eq_true rfl) (fun c hc ok => E.less2 (H c hc ok) (eS_s (eS_s (eS_s (eS_n eS_0)))))
/-! product (III)I level 2 -/
def h_product_0 (c : tC) (x1 : Int32) (x2 : Int32) (x3 : Int32) (T : tS) : Prop := tX mX6_product 2 c 0 [some (.ref c.2.2.2.1), some (.int x1), some (.int x2), some (.int x3)] T
set_option maxHeartbeats 2000000 in
theorem s_product_0 (c : tC) (x1 : Int32) (x2 : Int32) (x3 : Int32) (T : tS) (H : ((zI (0 ≤ x1.toInt64 ∧ x1.toInt64 ≤ (T.1 26 - 1).toInt64)) = 0 → c.2.2.2.2.2.2 (some (.int (-1 : Int32))) T) ∧ (¬ (zI (0 ≤ x1.toInt64 ∧ x1.toInt64 ≤ (T.1 26 - 1).toInt64)) = 0 → ((zI (0 ≤ x2.toInt64 ∧ x2.toInt64 ≤ (T.1 26 - 1).toInt64)) = 0 → c.2.2.2.2.2.2 (some (.int (-1 : Int32))) T) ∧ (¬ (zI (0 ≤ x2.toInt64 ∧ x2.toInt64 ≤ (T.1 26 - 1).toInt64)) = 0 → (¬ (zI (0 ≤ x3.toInt64 ∧ x3.toInt64 ≤ (T.1 26 - 1).toInt64)) = 0 → ∃ Q16 : tS → Prop, tMv mX6_worksProduct 1 (fun b => [.int x1, .int x2]) T Q16 ∧ ∀ T19 : tS, Q16 T19 → vp_in x3 64 ∧ (c.2.2.2.2.2.2 (some (.int ((T19.2.2.2 48 x3.toNatClampNeg).toInt32))) T19)) ∧ ((zI (0 ≤ x3.toInt64 ∧ x3.toInt64 ≤ (T.1 26 - 1).toInt64)) = 0 → c.2.2.2.2.2.2 (some (.int (-1 : Int32))) T)))) : h_product_0 c x1 x2 x3 T := by
  intro ok
  refine e_aload_n dX6_product_0 rfl ?_
  refine e_iload_n dX6_product_1 rfl ?_
  refine t_callV (As := [.int x1]) ok (ct_isSort T x1) dX6_product_2 wX6_isSort q2934 q2936 qs113 rfl rfl (by decide) rfl (Nat.le_of_ble_eq_true rfl) (fun v1 T2 e4 => ?_)
  obtain ⟨r3, rfl, rfl, hT⟩ := e4
  rw [hT]
  refine e_if_eq 24 dX6_product_5 (by decide) (fun g5 => ?_) (fun g5 => ?_)
  · replace H := H.1 g5
    refine e_iconst (-1) dX6_product_24 (by decide) ?_
    exact e_ireturn .int dX6_product_25 rfl rfl ⟨_, _, rfl, rfl, H⟩
  · replace H := H.2 g5
    refine e_aload_n dX6_product_8 rfl ?_
    refine e_iload_n dX6_product_9 rfl ?_
    refine t_callV (As := [.int x2]) ok (ct_isSort T x2) dX6_product_10 wX6_isSort q2934 q2936 qs113 rfl rfl (by decide) rfl (Nat.le_of_ble_eq_true rfl) (fun v6 T7 e9 => ?_)
    obtain ⟨r8, rfl, rfl, hT⟩ := e9
    rw [hT]
    refine e_if_eq 24 dX6_product_13 (by decide) (fun g10 => ?_) (fun g10 => ?_)
    · replace H := H.1 g10
      refine e_iconst (-1) dX6_product_24 (by decide) ?_
      exact e_ireturn .int dX6_product_25 rfl rfl ⟨_, _, rfl, rfl, H⟩
    · replace H := H.2 g10
      refine e_aload_n dX6_product_16 rfl ?_
      refine e_iload_n dX6_product_17 rfl ?_
      refine t_callV (As := [.int x3]) ok (ct_isSort T x3) dX6_product_18 wX6_isSort q2934 q2936 qs113 rfl rfl (by decide) rfl (Nat.le_of_ble_eq_true rfl) (fun v11 T12 e14 => ?_)
      obtain ⟨r13, rfl, rfl, hT⟩ := e14
      rw [hT]
      refine e_if_ne 26 dX6_product_21 (by decide) (fun g15 => ?_) (fun g15 => ?_)
      · replace H := H.1 g15
        refine e_aload_n dX6_product_26 rfl ?_
        refine e_iload_n dX6_product_27 rfl ?_
        refine e_iload_n dX6_product_28 rfl ?_
        obtain ⟨Q16, hC17, H⟩ := H
        refine t_callV (As := [.int x1, .int x2]) ok hC17 dX6_product_29 wX6_worksProduct q2966 q2968 qs116 rfl rfl (by decide) rfl (Nat.le_of_ble_eq_true rfl) (fun v18 T19 e20 => ?_)
        obtain ⟨rfl, e20⟩ := e20
        replace H := H T19 e20
        refine e_aload_n dX6_product_32 rfl ?_
        refine t_getA dX6_product_33 fX6_48 q2544 (by decide) rfl ?_
        refine e_iload_n dX6_product_36 rfl ?_
        obtain ⟨g22, H⟩ := H
        refine t_lald dX6_product_37 (by decide) rfl g22 ?_
        refine e_l2i dX6_product_38 ?_
        exact e_ireturn .int dX6_product_39 rfl rfl ⟨_, _, rfl, rfl, H⟩
      · replace H := H.2 g15
        refine e_iconst (-1) dX6_product_24 (by decide) ?_
        exact e_ireturn .int dX6_product_25 rfl rfl ⟨_, _, rfl, rfl, H⟩

theorem en_product (x1 : Int32) (x2 : Int32) (x3 : Int32) (T : tS) (Q : Option Value → tS → Prop) (H : ∀ c : tC, c.2.2.2.2.2.2 = Q → h_product_0 c x1 x2 x3 T) : tM mX6_product 2 (fun b => [.int x1, .int x2, .int x3]) T Q :=
  tM_mk (by decide) rfl (fun b => Nat.le_of_ble_eq_true rfl) (fun c hc ok => E.less2 (H c hc ok) (eS_s (eS_s (eS_s (eS_s eS_0)))))
/-! pairs (II)I level 2 -/
def h_pairs_0 (c : tC) (x1 : Int32) (x2 : Int32) (T : tS) : Prop := tX mX6_pairs 2 c 0 [some (.ref c.2.2.2.1), some (.int x1), some (.int x2), none, none, none] T
def h_pairs_29 (c : tC) (x3 : Int64) (x5 : Int32) (T : tS) : Prop := tX mX6_pairs 2 c 29 [some (.ref c.2.2.2.1), none, none, some (.long x3), none, some (.int x5)] T
set_option maxHeartbeats 2000000 in
theorem s_pairs_0 (c : tC) (x1 : Int32) (x2 : Int32) (T : tS) (H : ((zI (0 ≤ x1.toInt64 ∧ x1.toInt64 ≤ (T.1 26 - 1).toInt64)) = 0 → c.2.2.2.2.2.2 (some (.int (-1 : Int32))) T) ∧ (¬ (zI (0 ≤ x1.toInt64 ∧ x1.toInt64 ≤ (T.1 26 - 1).toInt64)) = 0 → (¬ (zI (0 ≤ x2.toInt64 ∧ x2.toInt64 ≤ (T.1 26 - 1).toInt64)) = 0 → ∃ Q11 : tS → Prop, tMv mX6_worksProduct 1 (fun b => [.int x1, .int x2]) T Q11 ∧ ∀ T14 : tS, Q11 T14 → h_pairs_29 c (0 : Int64) (0 : Int32) T14) ∧ ((zI (0 ≤ x2.toInt64 ∧ x2.toInt64 ≤ (T.1 26 - 1).toInt64)) = 0 → c.2.2.2.2.2.2 (some (.int (-1 : Int32))) T))) : h_pairs_0 c x1 x2 T := by
  intro ok
  refine e_aload_n dX6_pairs_0 rfl ?_
  refine e_iload_n dX6_pairs_1 rfl ?_
  refine t_callV (As := [.int x1]) ok (ct_isSort T x1) dX6_pairs_2 wX6_isSort q2934 q2936 qs113 rfl rfl (by decide) rfl (Nat.le_of_ble_eq_true rfl) (fun v1 T2 e4 => ?_)
  obtain ⟨r3, rfl, rfl, hT⟩ := e4
  rw [hT]
  refine e_if_eq 16 dX6_pairs_5 (by decide) (fun g5 => ?_) (fun g5 => ?_)
  · replace H := H.1 g5
    refine e_iconst (-1) dX6_pairs_16 (by decide) ?_
    exact e_ireturn .int dX6_pairs_17 rfl rfl ⟨_, _, rfl, rfl, H⟩
  · replace H := H.2 g5
    refine e_aload_n dX6_pairs_8 rfl ?_
    refine e_iload_n dX6_pairs_9 rfl ?_
    refine t_callV (As := [.int x2]) ok (ct_isSort T x2) dX6_pairs_10 wX6_isSort q2934 q2936 qs113 rfl rfl (by decide) rfl (Nat.le_of_ble_eq_true rfl) (fun v6 T7 e9 => ?_)
    obtain ⟨r8, rfl, rfl, hT⟩ := e9
    rw [hT]
    refine e_if_ne 18 dX6_pairs_13 (by decide) (fun g10 => ?_) (fun g10 => ?_)
    · replace H := H.1 g10
      refine e_aload_n dX6_pairs_18 rfl ?_
      refine e_iload_n dX6_pairs_19 rfl ?_
      refine e_iload_n dX6_pairs_20 rfl ?_
      obtain ⟨Q11, hC12, H⟩ := H
      refine t_callV (As := [.int x1, .int x2]) ok hC12 dX6_pairs_21 wX6_worksProduct q2966 q2968 qs116 rfl rfl (by decide) rfl (Nat.le_of_ble_eq_true rfl) (fun v13 T14 e15 => ?_)
      obtain ⟨rfl, e15⟩ := e15
      replace H := H T14 e15
      refine e_lconst 0 dX6_pairs_24 (by decide) ?_
      refine e_lstore_n _ dX6_pairs_25 (by decide) rfl rfl ?_
      refine e_iconst (0) dX6_pairs_26 (by decide) ?_
      refine e_istore _ dX6_pairs_27 (by decide) trivial rfl ?_
      exact E.less2 (H ok) (eS_s (eS_n (eS_n (eS_s (eS_n (eS_s eS_0))))))
    · replace H := H.2 g10
      refine e_iconst (-1) dX6_pairs_16 (by decide) ?_
      exact e_ireturn .int dX6_pairs_17 rfl rfl ⟨_, _, rfl, rfl, H⟩

set_option maxHeartbeats 2000000 in
theorem s_pairs_29 (c : tC) (x3 : Int64) (x5 : Int32) (T : tS) (H : ((T.1 26) ≤ x5 → c.2.2.2.2.2.2 (some (.int x3.toInt32)) T) ∧ (¬ (T.1 26) ≤ x5 → vp_in x5 64 ∧ (h_pairs_29 c (x3 + (T.2.2.2 48 x5.toNatClampNeg)) (x5 + 1) T))) : h_pairs_29 c x3 x5 T := by
  intro ok
  refine e_iload dX6_pairs_29 rfl ?_
  refine e_aload_n dX6_pairs_31 rfl ?_
  refine t_getI dX6_pairs_32 fX6_26 q2522 (by decide) rfl ?_
  refine e_icmp_ge 54 dX6_pairs_35 (by decide) (fun g1 => ?_) (fun g1 => ?_)
  · replace H := H.1 g1
    refine e_lload_n dX6_pairs_54 rfl ?_
    refine e_l2i dX6_pairs_55 ?_
    exact e_ireturn .int dX6_pairs_56 rfl rfl ⟨_, _, rfl, rfl, H⟩
  · replace H := H.2 g1
    refine e_lload_n dX6_pairs_38 rfl ?_
    refine e_aload_n dX6_pairs_39 rfl ?_
    refine t_getA dX6_pairs_40 fX6_48 q2544 (by decide) rfl ?_
    refine e_iload dX6_pairs_43 rfl ?_
    obtain ⟨g2, H⟩ := H
    refine t_lald dX6_pairs_45 (by decide) rfl g2 ?_
    refine e_ladd dX6_pairs_46 ?_
    refine e_lstore_n _ dX6_pairs_47 (by decide) trivial rfl ?_
    refine e_iinc (x5 + 1) _ dX6_pairs_48 rfl rfl (by decide) trivial rfl ?_
    refine e_goto 29 dX6_pairs_51 (by decide) ?_
    exact H ok

theorem en_pairs (x1 : Int32) (x2 : Int32) (T : tS) (Q : Option Value → tS → Prop) (H : ∀ c : tC, c.2.2.2.2.2.2 = Q → h_pairs_0 c x1 x2 T) : tM mX6_pairs 2 (fun b => [.int x1, .int x2]) T Q :=
  tM_mk (by decide) rfl (fun b => Nat.le_of_ble_eq_true rfl) (fun c hc ok => E.less2 (H c hc ok) (eS_s (eS_s (eS_s (eS_n (eS_n (eS_n eS_0)))))))
/-! residueOf (II)I level 2 -/
def h_residueOf_0 (c : tC) (x1 : Int32) (x2 : Int32) (T : tS) : Prop := tX mX6_residueOf 2 c 0 [some (.ref c.2.2.2.1), some (.int x1), some (.int x2), none, none, none, none, none, none] T
def h_residueOf_13 (c : tC) (x2 : Int32) (x3 : Int32) (x4 : Int32) (x5 : Int32) (T : tS) : Prop := tX mX6_residueOf 2 c 13 [some (.ref c.2.2.2.1), none, some (.int x2), some (.int x3), some (.int x4), some (.int x5), none, none, none] T
def h_residueOf_74 (c : tC) (x2 : Int32) (x3 : Int32) (x4 : Int32) (x5 : Int32) (x6 : Int32) (T : tS) : Prop := tX mX6_residueOf 2 c 74 [some (.ref c.2.2.2.1), none, some (.int x2), some (.int x3), some (.int x4), some (.int x5), some (.int x6), none, none] T
def h_residueOf_106 (c : tC) (x2 : Int32) (x3 : Int32) (x4 : Int32) (x5 : Int32) (x7 : Int32) (x8 : Int32) (T : tS) : Prop := tX mX6_residueOf 2 c 106 [some (.ref c.2.2.2.1), none, some (.int x2), some (.int x3), some (.int x4), some (.int x5), none, some (.int x7), some (.int x8)] T
def h_residueOf_152 (c : tC) (x2 : Int32) (x3 : Int32) (x4 : Int32) (x5 : Int32) (x8 : Int32) (T : tS) : Prop := tX mX6_residueOf 2 c 152 [some (.ref c.2.2.2.1), none, some (.int x2), some (.int x3), some (.int x4), some (.int x5), none, none, some (.int x8)] T
def h_residueOf_165 (c : tC) (x2 : Int32) (x3 : Int32) (x4 : Int32) (x5 : Int32) (x7 : Int32) (T : tS) : Prop := tX mX6_residueOf 2 c 165 [some (.ref c.2.2.2.1), none, some (.int x2), some (.int x3), some (.int x4), some (.int x5), none, some (.int x7), none] T
def h_residueOf_179 (c : tC) (x2 : Int32) (x3 : Int32) (x4 : Int32) (x5 : Int32) (T : tS) : Prop := tX mX6_residueOf 2 c 179 [some (.ref c.2.2.2.1), none, some (.int x2), some (.int x3), some (.int x4), some (.int x5), none, none, none] T
set_option maxHeartbeats 2000000 in
theorem s_residueOf_0 (c : tC) (x1 : Int32) (x2 : Int32) (T : tS) (H : vp_in x1 64 ∧ (h_residueOf_13 c x2 (T.2.2.1 29 x1.toNatClampNeg) (T.2.2.1 29 x1.toNatClampNeg) (0 : Int32) T)) : h_residueOf_0 c x1 x2 T := by
  intro ok
  refine e_aload_n dX6_residueOf_0 rfl ?_
  refine t_getA dX6_residueOf_1 fX6_29 q2525 (by decide) rfl ?_
  refine e_iload_n dX6_residueOf_4 rfl ?_
  obtain ⟨g1, H⟩ := H
  refine t_iald dX6_residueOf_5 (by decide) rfl g1 ?_
  refine e_istore_n _ dX6_residueOf_6 (by decide) rfl rfl ?_
  refine e_iload_n dX6_residueOf_7 rfl ?_
  refine e_istore _ dX6_residueOf_8 (by decide) rfl rfl ?_
  refine e_iconst (0) dX6_residueOf_10 (by decide) ?_
  refine e_istore _ dX6_residueOf_11 (by decide) rfl rfl ?_
  exact E.less2 (H ok) (eS_s (eS_n (eS_s (eS_s (eS_s (eS_s (eS_n (eS_n (eS_n eS_0)))))))))

set_option maxHeartbeats 2000000 in
theorem s_residueOf_13 (c : tC) (x2 : Int32) (x3 : Int32) (x4 : Int32) (x5 : Int32) (T : tS) (H : ((T.1 25) ≤ x5 → ∃ Q2 : Int32 → tS → Prop, tMi mX6_sortOfSet 1 (fun b => [.int x4]) T Q2 ∧ ∀ (r7 : Int32) (T5 : tS), Q2 r7 T5 → c.2.2.2.2.2.2 (some (.int r7)) T5) ∧ (¬ (T.1 25) ≤ x5 → vp_in x5 128 ∧ ((¬ ((T.2.2.1 27 x5.toNatClampNeg) &&& (x3 ^^^ (-1 : Int32))) = 0 → h_residueOf_179 c x2 x3 x4 x5 T) ∧ (((T.2.2.1 27 x5.toNatClampNeg) &&& (x3 ^^^ (-1 : Int32))) = 0 → vp_in x5 128 ∧ (((tOnes (T.2.2.1 27 x5.toNatClampNeg)) < (tOnes x4) → vp_in x5 128 ∧ (¬ (tOnes (T.2.2.1 27 x5.toNatClampNeg)) = 0 ∧ (h_residueOf_74 c x2 x3 x4 x5 ((tOnes x3) / (tOnes (T.2.2.1 27 x5.toNatClampNeg))) T))) ∧ (¬ (tOnes (T.2.2.1 27 x5.toNatClampNeg)) < (tOnes x4) → h_residueOf_179 c x2 x3 x4 x5 T)))))) : h_residueOf_13 c x2 x3 x4 x5 T := by
  intro ok
  refine e_iload dX6_residueOf_13 rfl ?_
  refine e_aload_n dX6_residueOf_15 rfl ?_
  refine t_getI dX6_residueOf_16 fX6_25 q2521 (by decide) rfl ?_
  refine e_icmp_ge 185 dX6_residueOf_19 (by decide) (fun g1 => ?_) (fun g1 => ?_)
  · replace H := H.1 g1
    refine e_aload_n dX6_residueOf_185 rfl ?_
    refine e_iload dX6_residueOf_186 rfl ?_
    obtain ⟨Q2, hC3, H⟩ := H
    refine t_callV (As := [.int x4]) ok hC3 dX6_residueOf_188 wX6_sortOfSet q2926 q2928 qs112 rfl rfl (by decide) rfl (Nat.le_of_ble_eq_true rfl) (fun v4 T5 e6 => ?_)
    obtain ⟨r7, rfl, e6⟩ := e6
    replace H := H r7 T5 e6
    exact e_ireturn .int dX6_residueOf_191 rfl rfl ⟨_, _, rfl, rfl, H⟩
  · replace H := H.2 g1
    refine e_aload_n dX6_residueOf_22 rfl ?_
    refine t_getA dX6_residueOf_23 fX6_27 q2523 (by decide) rfl ?_
    refine e_iload dX6_residueOf_26 rfl ?_
    obtain ⟨g8, H⟩ := H
    refine t_iald dX6_residueOf_28 (by decide) rfl g8 ?_
    refine e_iload_n dX6_residueOf_29 rfl ?_
    refine e_iconst (-1) dX6_residueOf_30 (by decide) ?_
    refine e_ixor dX6_residueOf_31 ?_
    refine e_iand dX6_residueOf_32 ?_
    refine e_if_ne 179 dX6_residueOf_33 (by decide) (fun g9 => ?_) (fun g9 => ?_)
    · replace H := H.1 g9
      exact H ok
    · replace H := H.2 g9
      refine e_aload_n dX6_residueOf_36 rfl ?_
      refine t_getA dX6_residueOf_37 fX6_27 q2523 (by decide) rfl ?_
      refine e_iload dX6_residueOf_40 rfl ?_
      obtain ⟨g10, H⟩ := H
      refine t_iald dX6_residueOf_42 (by decide) rfl g10 ?_
      refine t_callS (As := [.int (T.2.2.1 27 x5.toNatClampNeg)]) ok (ct_ones (T.2.2.1 27 x5.toNatClampNeg)) dX6_residueOf_43 wX6_ones q2474 q2475 rfl (by decide) rfl (Nat.le_of_ble_eq_true rfl) ?_
      refine e_iload dX6_residueOf_46 rfl ?_
      refine t_callS (As := [.int x4]) ok (ct_ones x4) dX6_residueOf_48 wX6_ones q2474 q2475 rfl (by decide) rfl (Nat.le_of_ble_eq_true rfl) ?_
      refine e_icmp_lt 57 dX6_residueOf_51 (by decide) (fun g11 => ?_) (fun g11 => ?_)
      · replace H := H.1 g11
        refine e_iload_n dX6_residueOf_57 rfl ?_
        refine t_callS (As := [.int x3]) ok (ct_ones x3) dX6_residueOf_58 wX6_ones q2474 q2475 rfl (by decide) rfl (Nat.le_of_ble_eq_true rfl) ?_
        refine e_aload_n dX6_residueOf_61 rfl ?_
        refine t_getA dX6_residueOf_62 fX6_27 q2523 (by decide) rfl ?_
        refine e_iload dX6_residueOf_65 rfl ?_
        obtain ⟨g12, H⟩ := H
        refine t_iald dX6_residueOf_67 (by decide) rfl g12 ?_
        refine t_callS (As := [.int (T.2.2.1 27 x5.toNatClampNeg)]) ok (ct_ones (T.2.2.1 27 x5.toNatClampNeg)) dX6_residueOf_68 wX6_ones q2474 q2475 rfl (by decide) rfl (Nat.le_of_ble_eq_true rfl) ?_
        obtain ⟨g13, H⟩ := H
        refine e_idiv dX6_residueOf_71 g13 ?_
        refine e_istore _ dX6_residueOf_72 (by decide) rfl rfl ?_
        exact H ok
      · replace H := H.2 g11
        refine e_goto 179 dX6_residueOf_54 (by decide) ?_
        exact H ok

set_option maxHeartbeats 2000000 in
theorem s_residueOf_74 (c : tC) (x2 : Int32) (x3 : Int32) (x4 : Int32) (x5 : Int32) (x6 : Int32) (T : tS) (H : ¬ x2 = 0 ∧ ((¬ (x6 - x6 / x2 * x2) = 0 → (¬ x6 = (1 : Int32) → h_residueOf_106 c x2 x3 x4 x5 (0 : Int32) (0 : Int32) T) ∧ (x6 = (1 : Int32) → h_residueOf_106 c x2 x3 x4 x5 (1 : Int32) (0 : Int32) T)) ∧ ((x6 - x6 / x2 * x2) = 0 → ¬ x2 = 0 ∧ (h_residueOf_74 c x2 x3 x4 x5 (x6 / x2) T)))) : h_residueOf_74 c x2 x3 x4 x5 x6 T := by
  intro ok
  refine e_iload dX6_residueOf_74 rfl ?_
  refine e_iload_n dX6_residueOf_76 rfl ?_
  obtain ⟨g1, H⟩ := H
  refine e_irem dX6_residueOf_77 g1 ?_
  refine e_if_ne 90 dX6_residueOf_78 (by decide) (fun g2 => ?_) (fun g2 => ?_)
  · replace H := H.1 g2
    refine e_iload dX6_residueOf_90 rfl ?_
    refine e_iconst (1) dX6_residueOf_92 (by decide) ?_
    refine e_icmp_ne 100 dX6_residueOf_93 (by decide) (fun g3 => ?_) (fun g3 => ?_)
    · replace H := H.1 g3
      refine e_iconst (0) dX6_residueOf_100 (by decide) ?_
      refine e_istore _ dX6_residueOf_101 (by decide) rfl rfl ?_
      refine e_iconst (0) dX6_residueOf_103 (by decide) ?_
      refine e_istore _ dX6_residueOf_104 (by decide) rfl rfl ?_
      exact E.less2 (H ok) (eS_s (eS_n (eS_s (eS_s (eS_s (eS_s (eS_n (eS_s (eS_s eS_0)))))))))
    · replace H := H.2 g3
      refine e_iconst (1) dX6_residueOf_96 (by decide) ?_
      refine e_goto 101 dX6_residueOf_97 (by decide) ?_
      refine e_istore _ dX6_residueOf_101 (by decide) rfl rfl ?_
      refine e_iconst (0) dX6_residueOf_103 (by decide) ?_
      refine e_istore _ dX6_residueOf_104 (by decide) rfl rfl ?_
      exact E.less2 (H ok) (eS_s (eS_n (eS_s (eS_s (eS_s (eS_s (eS_n (eS_s (eS_s eS_0)))))))))
  · replace H := H.2 g2
    refine e_iload dX6_residueOf_81 rfl ?_
    refine e_iload_n dX6_residueOf_83 rfl ?_
    obtain ⟨g4, H⟩ := H
    refine e_idiv dX6_residueOf_84 g4 ?_
    refine e_istore _ dX6_residueOf_85 (by decide) rfl rfl ?_
    refine e_goto 74 dX6_residueOf_87 (by decide) ?_
    exact H ok

set_option maxHeartbeats 2000000 in
theorem s_residueOf_106 (c : tC) (x2 : Int32) (x3 : Int32) (x4 : Int32) (x5 : Int32) (x7 : Int32) (x8 : Int32) (T : tS) (H : ((T.1 20) ≤ x8 → h_residueOf_165 c x2 x3 x4 x5 x7 T) ∧ (¬ (T.1 20) ≤ x8 → (x7 = 0 → h_residueOf_165 c x2 x3 x4 x5 x7 T) ∧ (¬ x7 = 0 → ((zI (tBit x3 x8)) = 0 → h_residueOf_152 c x2 x3 x4 x5 x8 T) ∧ (¬ (zI (tBit x3 x8)) = 0 → vp_in x5 128 ∧ (∃ Q5 : Int32 → tS → Prop, tMi mX6_turned 1 (fun b => [.int (T.2.2.1 27 x5.toNatClampNeg), .int x8]) T Q5 ∧ ∀ (r10 : Int32) (T8 : tS), Q5 r10 T8 → vp_in x5 128 ∧ ((¬ r10 = (T8.2.2.1 27 x5.toNatClampNeg) → h_residueOf_106 c x2 x3 x4 x5 (0 : Int32) (x8 + 1) T8) ∧ (r10 = (T8.2.2.1 27 x5.toNatClampNeg) → h_residueOf_152 c x2 x3 x4 x5 x8 T8))))))) : h_residueOf_106 c x2 x3 x4 x5 x7 x8 T := by
  intro ok
  refine e_iload dX6_residueOf_106 rfl ?_
  refine e_aload_n dX6_residueOf_108 rfl ?_
  refine t_getI dX6_residueOf_109 fX6_20 q2516 (by decide) rfl ?_
  refine e_icmp_ge 165 dX6_residueOf_112 (by decide) (fun g1 => ?_) (fun g1 => ?_)
  · replace H := H.1 g1
    exact E.less2 (H ok) (eS_s (eS_n (eS_s (eS_s (eS_s (eS_s (eS_n (eS_s (eS_n eS_0)))))))))
  · replace H := H.2 g1
    refine e_iload dX6_residueOf_115 rfl ?_
    refine e_if_eq 165 dX6_residueOf_117 (by decide) (fun g2 => ?_) (fun g2 => ?_)
    · replace H := H.1 g2
      exact E.less2 (H ok) (eS_s (eS_n (eS_s (eS_s (eS_s (eS_s (eS_n (eS_s (eS_n eS_0)))))))))
    · replace H := H.2 g2
      refine e_iload_n dX6_residueOf_120 rfl ?_
      refine e_iload dX6_residueOf_121 rfl ?_
      refine t_callS (As := [.int x3, .int x8]) ok (ct_holds x3 x8) dX6_residueOf_123 wX6_holds q2447 q2448 rfl (by decide) rfl (Nat.le_of_ble_eq_true rfl) ?_
      refine e_if_eq 152 dX6_residueOf_126 (by decide) (fun g3 => ?_) (fun g3 => ?_)
      · replace H := H.1 g3
        exact E.less2 (H ok) (eS_s (eS_n (eS_s (eS_s (eS_s (eS_s (eS_n (eS_n (eS_s eS_0)))))))))
      · replace H := H.2 g3
        refine e_aload_n dX6_residueOf_129 rfl ?_
        refine e_aload_n dX6_residueOf_130 rfl ?_
        refine t_getA dX6_residueOf_131 fX6_27 q2523 (by decide) rfl ?_
        refine e_iload dX6_residueOf_134 rfl ?_
        obtain ⟨g4, H⟩ := H
        refine t_iald dX6_residueOf_136 (by decide) rfl g4 ?_
        refine e_iload dX6_residueOf_137 rfl ?_
        obtain ⟨Q5, hC6, H⟩ := H
        refine t_callV (As := [.int (T.2.2.1 27 x5.toNatClampNeg), .int x8]) ok hC6 dX6_residueOf_139 wX6_turned q2466 q2468 qs65 rfl rfl (by decide) rfl (Nat.le_of_ble_eq_true rfl) (fun v7 T8 e9 => ?_)
        obtain ⟨r10, rfl, e9⟩ := e9
        replace H := H r10 T8 e9
        refine e_aload_n dX6_residueOf_142 rfl ?_
        refine t_getA dX6_residueOf_143 fX6_27 q2523 (by decide) rfl ?_
        refine e_iload dX6_residueOf_146 rfl ?_
        obtain ⟨g11, H⟩ := H
        refine t_iald dX6_residueOf_148 (by decide) rfl g11 ?_
        refine e_icmp_ne 156 dX6_residueOf_149 (by decide) (fun g12 => ?_) (fun g12 => ?_)
        · replace H := H.1 g12
          refine e_iconst (0) dX6_residueOf_156 (by decide) ?_
          refine e_istore _ dX6_residueOf_157 (by decide) trivial rfl ?_
          refine e_iinc (x8 + 1) _ dX6_residueOf_159 rfl rfl (by decide) rfl rfl ?_
          refine e_goto 106 dX6_residueOf_162 (by decide) ?_
          exact H ok
        · replace H := H.2 g12
          exact E.less2 (H ok) (eS_s (eS_n (eS_s (eS_s (eS_s (eS_s (eS_n (eS_n (eS_s eS_0)))))))))

set_option maxHeartbeats 2000000 in
theorem s_residueOf_152 (c : tC) (x2 : Int32) (x3 : Int32) (x4 : Int32) (x5 : Int32) (x8 : Int32) (T : tS) (H : h_residueOf_106 c x2 x3 x4 x5 (1 : Int32) (x8 + 1) T) : h_residueOf_152 c x2 x3 x4 x5 x8 T := by
  intro ok
  refine e_iconst (1) dX6_residueOf_152 (by decide) ?_
  refine e_goto 157 dX6_residueOf_153 (by decide) ?_
  refine e_istore _ dX6_residueOf_157 (by decide) trivial rfl ?_
  refine e_iinc (x8 + 1) _ dX6_residueOf_159 rfl rfl (by decide) rfl rfl ?_
  refine e_goto 106 dX6_residueOf_162 (by decide) ?_
  exact H ok

set_option maxHeartbeats 2000000 in
theorem s_residueOf_165 (c : tC) (x2 : Int32) (x3 : Int32) (x4 : Int32) (x5 : Int32) (x7 : Int32) (T : tS) (H : (x7 = 0 → h_residueOf_179 c x2 x3 x4 x5 T) ∧ (¬ x7 = 0 → vp_in x5 128 ∧ (h_residueOf_179 c x2 x3 (T.2.2.1 27 x5.toNatClampNeg) x5 T))) : h_residueOf_165 c x2 x3 x4 x5 x7 T := by
  intro ok
  refine e_iload dX6_residueOf_165 rfl ?_
  refine e_if_eq 179 dX6_residueOf_167 (by decide) (fun g1 => ?_) (fun g1 => ?_)
  · replace H := H.1 g1
    exact E.less2 (H ok) (eS_s (eS_n (eS_s (eS_s (eS_s (eS_s (eS_n (eS_n (eS_n eS_0)))))))))
  · replace H := H.2 g1
    refine e_aload_n dX6_residueOf_170 rfl ?_
    refine t_getA dX6_residueOf_171 fX6_27 q2523 (by decide) rfl ?_
    refine e_iload dX6_residueOf_174 rfl ?_
    obtain ⟨g2, H⟩ := H
    refine t_iald dX6_residueOf_176 (by decide) rfl g2 ?_
    refine e_istore _ dX6_residueOf_177 (by decide) rfl rfl ?_
    exact E.less2 (H ok) (eS_s (eS_n (eS_s (eS_s (eS_s (eS_s (eS_n (eS_n (eS_n eS_0)))))))))

set_option maxHeartbeats 2000000 in
theorem s_residueOf_179 (c : tC) (x2 : Int32) (x3 : Int32) (x4 : Int32) (x5 : Int32) (T : tS) (H : h_residueOf_13 c x2 x3 x4 (x5 + 1) T) : h_residueOf_179 c x2 x3 x4 x5 T := by
  intro ok
  refine e_iinc (x5 + 1) _ dX6_residueOf_179 rfl rfl (by decide) rfl rfl ?_
  refine e_goto 13 dX6_residueOf_182 (by decide) ?_
  exact H ok

theorem en_residueOf (x1 : Int32) (x2 : Int32) (T : tS) (Q : Option Value → tS → Prop) (H : ∀ c : tC, c.2.2.2.2.2.2 = Q → h_residueOf_0 c x1 x2 T) : tM mX6_residueOf 2 (fun b => [.int x1, .int x2]) T Q :=
  tM_mk (by decide) rfl (fun b => Nat.le_of_ble_eq_true rfl) (fun c hc ok => E.less2 (H c hc ok) (eS_s (eS_s (eS_s (eS_n (eS_n (eS_n (eS_n (eS_n (eS_n eS_0))))))))))
/-! residue (II)I level 3 -/
def h_residue_0 (c : tC) (x1 : Int32) (x2 : Int32) (T : tS) : Prop := tX mX6_residue 3 c 0 [some (.ref c.2.2.2.1), some (.int x1), some (.int x2)] T
set_option maxHeartbeats 2000000 in
theorem s_residue_0 (c : tC) (x1 : Int32) (x2 : Int32) (T : tS) (H : ((zI (0 ≤ x1.toInt64 ∧ x1.toInt64 ≤ (T.1 26 - 1).toInt64)) = 0 → c.2.2.2.2.2.2 (some (.int (-1 : Int32))) T) ∧ (¬ (zI (0 ≤ x1.toInt64 ∧ x1.toInt64 ≤ (T.1 26 - 1).toInt64)) = 0 → ((zI (x2 = 2 ∨ x2 = 3 ∨ x2 = 5)) = 0 → c.2.2.2.2.2.2 (some (.int (-1 : Int32))) T) ∧ (¬ (zI (x2 = 2 ∨ x2 = 3 ∨ x2 = 5)) = 0 → ∃ Q7 : Int32 → tS → Prop, tMi mX6_residueOf 2 (fun b => [.int x1, .int x2]) T Q7 ∧ ∀ (r12 : Int32) (T10 : tS), Q7 r12 T10 → c.2.2.2.2.2.2 (some (.int r12)) T10))) : h_residue_0 c x1 x2 T := by
  intro ok
  refine e_aload_n dX6_residue_0 rfl ?_
  refine e_iload_n dX6_residue_1 rfl ?_
  refine t_callV (As := [.int x1]) ok (ct_isSort T x1) dX6_residue_2 wX6_isSort q2934 q2936 qs113 rfl rfl (by decide) rfl (Nat.le_of_ble_eq_true rfl) (fun v1 T2 e4 => ?_)
  obtain ⟨r3, rfl, rfl, hT⟩ := e4
  rw [hT]
  refine e_if_eq 24 dX6_residue_5 (by decide) (fun g5 => ?_) (fun g5 => ?_)
  · replace H := H.1 g5
    refine e_iconst (-1) dX6_residue_24 (by decide) ?_
    exact e_ireturn .int dX6_residue_25 rfl rfl ⟨_, _, rfl, rfl, H⟩
  · replace H := H.2 g5
    refine e_iload_n dX6_residue_8 rfl ?_
    refine t_callS (As := [.int x2]) ok (ct_isPrime x2) dX6_residue_9 wX6_isPrime q2978 q2979 rfl (by decide) rfl (Nat.le_of_ble_eq_true rfl) ?_
    refine e_if_eq 24 dX6_residue_12 (by decide) (fun g6 => ?_) (fun g6 => ?_)
    · replace H := H.1 g6
      refine e_iconst (-1) dX6_residue_24 (by decide) ?_
      exact e_ireturn .int dX6_residue_25 rfl rfl ⟨_, _, rfl, rfl, H⟩
    · replace H := H.2 g6
      refine e_aload_n dX6_residue_15 rfl ?_
      refine e_iload_n dX6_residue_16 rfl ?_
      refine e_iload_n dX6_residue_17 rfl ?_
      obtain ⟨Q7, hC8, H⟩ := H
      refine t_callV (As := [.int x1, .int x2]) ok hC8 dX6_residue_18 wX6_residueOf q2981 q2983 qs117 rfl rfl (by decide) rfl (Nat.le_of_ble_eq_true rfl) (fun v9 T10 e11 => ?_)
      obtain ⟨r12, rfl, e11⟩ := e11
      replace H := H r12 T10 e11
      refine e_goto 25 dX6_residue_21 (by decide) ?_
      exact e_ireturn .int dX6_residue_25 rfl rfl ⟨_, _, rfl, rfl, H⟩

theorem en_residue (x1 : Int32) (x2 : Int32) (T : tS) (Q : Option Value → tS → Prop) (H : ∀ c : tC, c.2.2.2.2.2.2 = Q → h_residue_0 c x1 x2 T) : tM mX6_residue 3 (fun b => [.int x1, .int x2]) T Q :=
  tM_mk (by decide) rfl (fun b => Nat.le_of_ble_eq_true rfl) (fun c hc ok => E.less2 (H c hc ok) (eS_s (eS_s (eS_s eS_0))))
/-! blockOf (II)I level 3 -/
def h_blockOf_0 (c : tC) (x1 : Int32) (x2 : Int32) (T : tS) : Prop := tX mX6_blockOf 3 c 0 [some (.ref c.2.2.2.1), some (.int x1), some (.int x2), none, none, none] T
def h_blockOf_13 (c : tC) (x2 : Int32) (x3 : Int32) (x4 : Int32) (x5 : Int32) (T : tS) : Prop := tX mX6_blockOf 3 c 13 [some (.ref c.2.2.2.1), none, some (.int x2), some (.int x3), some (.int x4), some (.int x5)] T
set_option maxHeartbeats 2000000 in
theorem s_blockOf_0 (c : tC) (x1 : Int32) (x2 : Int32) (T : tS) (H : ∃ Q1 : Int32 → tS → Prop, tMi mX6_residueOf 2 (fun b => [.int x1, .int x2]) T Q1 ∧ ∀ (r6 : Int32) (T4 : tS), Q1 r6 T4 → h_blockOf_13 c x2 r6 (0 : Int32) (0 : Int32) T4) : h_blockOf_0 c x1 x2 T := by
  intro ok
  refine e_aload_n dX6_blockOf_0 rfl ?_
  refine e_iload_n dX6_blockOf_1 rfl ?_
  refine e_iload_n dX6_blockOf_2 rfl ?_
  obtain ⟨Q1, hC2, H⟩ := H
  refine t_callV (As := [.int x1, .int x2]) ok hC2 dX6_blockOf_3 wX6_residueOf q2981 q2983 qs117 rfl rfl (by decide) rfl (Nat.le_of_ble_eq_true rfl) (fun v3 T4 e5 => ?_)
  obtain ⟨r6, rfl, e5⟩ := e5
  replace H := H r6 T4 e5
  refine e_istore_n _ dX6_blockOf_6 (by decide) rfl rfl ?_
  refine e_iconst (0) dX6_blockOf_7 (by decide) ?_
  refine e_istore _ dX6_blockOf_8 (by decide) rfl rfl ?_
  refine e_iconst (0) dX6_blockOf_10 (by decide) ?_
  refine e_istore _ dX6_blockOf_11 (by decide) rfl rfl ?_
  exact E.less2 (H ok) (eS_s (eS_n (eS_s (eS_s (eS_s (eS_s eS_0))))))

set_option maxHeartbeats 2000000 in
theorem s_blockOf_13 (c : tC) (x2 : Int32) (x3 : Int32) (x4 : Int32) (x5 : Int32) (T : tS) (H : ((T.1 26) ≤ x5 → c.2.2.2.2.2.2 (some (.int x4)) T) ∧ (¬ (T.1 26) ≤ x5 → ∃ Q2 : Int32 → tS → Prop, tMi mX6_residueOf 2 (fun b => [.int x5, .int x2]) T Q2 ∧ ∀ (r7 : Int32) (T5 : tS), Q2 r7 T5 → (¬ r7 = x3 → h_blockOf_13 c x2 x3 (x4 ||| ((zI (¬ (0 : Int32) = 0)) <<< (x5 &&& 31))) (x5 + 1) T5) ∧ (r7 = x3 → h_blockOf_13 c x2 x3 (x4 ||| ((zI (¬ (1 : Int32) = 0)) <<< (x5 &&& 31))) (x5 + 1) T5))) : h_blockOf_13 c x2 x3 x4 x5 T := by
  intro ok
  refine e_iload dX6_blockOf_13 rfl ?_
  refine e_aload_n dX6_blockOf_15 rfl ?_
  refine t_getI dX6_blockOf_16 fX6_26 q2522 (by decide) rfl ?_
  refine e_icmp_ge 55 dX6_blockOf_19 (by decide) (fun g1 => ?_) (fun g1 => ?_)
  · replace H := H.1 g1
    refine e_iload dX6_blockOf_55 rfl ?_
    exact e_ireturn .int dX6_blockOf_57 rfl rfl ⟨_, _, rfl, rfl, H⟩
  · replace H := H.2 g1
    refine e_iload dX6_blockOf_22 rfl ?_
    refine e_aload_n dX6_blockOf_24 rfl ?_
    refine e_iload dX6_blockOf_25 rfl ?_
    refine e_iload_n dX6_blockOf_27 rfl ?_
    obtain ⟨Q2, hC3, H⟩ := H
    refine t_callV (As := [.int x5, .int x2]) ok hC3 dX6_blockOf_28 wX6_residueOf q2981 q2983 qs117 rfl rfl (by decide) rfl (Nat.le_of_ble_eq_true rfl) (fun v4 T5 e6 => ?_)
    obtain ⟨r7, rfl, e6⟩ := e6
    replace H := H r7 T5 e6
    refine e_iload_n dX6_blockOf_31 rfl ?_
    refine e_icmp_ne 39 dX6_blockOf_32 (by decide) (fun g8 => ?_) (fun g8 => ?_)
    · replace H := H.1 g8
      refine e_iconst (0) dX6_blockOf_39 (by decide) ?_
      refine t_callS (As := [.int (0 : Int32)]) ok (ct_truth (0 : Int32)) dX6_blockOf_40 wX6_truth q2489 q2490 rfl (by decide) rfl (Nat.le_of_ble_eq_true rfl) ?_
      refine e_iload dX6_blockOf_43 rfl ?_
      refine e_ishl dX6_blockOf_45 ?_
      refine e_ior dX6_blockOf_46 ?_
      refine e_istore _ dX6_blockOf_47 (by decide) rfl rfl ?_
      refine e_iinc (x5 + 1) _ dX6_blockOf_49 rfl rfl (by decide) rfl rfl ?_
      refine e_goto 13 dX6_blockOf_52 (by decide) ?_
      exact H ok
    · replace H := H.2 g8
      refine e_iconst (1) dX6_blockOf_35 (by decide) ?_
      refine e_goto 40 dX6_blockOf_36 (by decide) ?_
      refine t_callS (As := [.int (1 : Int32)]) ok (ct_truth (1 : Int32)) dX6_blockOf_40 wX6_truth q2489 q2490 rfl (by decide) rfl (Nat.le_of_ble_eq_true rfl) ?_
      refine e_iload dX6_blockOf_43 rfl ?_
      refine e_ishl dX6_blockOf_45 ?_
      refine e_ior dX6_blockOf_46 ?_
      refine e_istore _ dX6_blockOf_47 (by decide) rfl rfl ?_
      refine e_iinc (x5 + 1) _ dX6_blockOf_49 rfl rfl (by decide) rfl rfl ?_
      refine e_goto 13 dX6_blockOf_52 (by decide) ?_
      exact H ok

theorem en_blockOf (x1 : Int32) (x2 : Int32) (T : tS) (Q : Option Value → tS → Prop) (H : ∀ c : tC, c.2.2.2.2.2.2 = Q → h_blockOf_0 c x1 x2 T) : tM mX6_blockOf 3 (fun b => [.int x1, .int x2]) T Q :=
  tM_mk (by decide) rfl (fun b => Nat.le_of_ble_eq_true rfl) (fun c hc ok => E.less2 (H c hc ok) (eS_s (eS_s (eS_s (eS_n (eS_n (eS_n eS_0)))))))
/-! block (II)I level 4 -/
def h_block_0 (c : tC) (x1 : Int32) (x2 : Int32) (T : tS) : Prop := tX mX6_block 4 c 0 [some (.ref c.2.2.2.1), some (.int x1), some (.int x2)] T
set_option maxHeartbeats 2000000 in
theorem s_block_0 (c : tC) (x1 : Int32) (x2 : Int32) (T : tS) (H : ((zI (0 ≤ x1.toInt64 ∧ x1.toInt64 ≤ (T.1 26 - 1).toInt64)) = 0 → c.2.2.2.2.2.2 (some (.int (-1 : Int32))) T) ∧ (¬ (zI (0 ≤ x1.toInt64 ∧ x1.toInt64 ≤ (T.1 26 - 1).toInt64)) = 0 → ((zI (x2 = 2 ∨ x2 = 3 ∨ x2 = 5)) = 0 → c.2.2.2.2.2.2 (some (.int (-1 : Int32))) T) ∧ (¬ (zI (x2 = 2 ∨ x2 = 3 ∨ x2 = 5)) = 0 → ∃ Q7 : Int32 → tS → Prop, tMi mX6_blockOf 3 (fun b => [.int x1, .int x2]) T Q7 ∧ ∀ (r12 : Int32) (T10 : tS), Q7 r12 T10 → c.2.2.2.2.2.2 (some (.int r12)) T10))) : h_block_0 c x1 x2 T := by
  intro ok
  refine e_aload_n dX6_block_0 rfl ?_
  refine e_iload_n dX6_block_1 rfl ?_
  refine t_callV (As := [.int x1]) ok (ct_isSort T x1) dX6_block_2 wX6_isSort q2934 q2936 qs113 rfl rfl (by decide) rfl (Nat.le_of_ble_eq_true rfl) (fun v1 T2 e4 => ?_)
  obtain ⟨r3, rfl, rfl, hT⟩ := e4
  rw [hT]
  refine e_if_eq 24 dX6_block_5 (by decide) (fun g5 => ?_) (fun g5 => ?_)
  · replace H := H.1 g5
    refine e_iconst (-1) dX6_block_24 (by decide) ?_
    exact e_ireturn .int dX6_block_25 rfl rfl ⟨_, _, rfl, rfl, H⟩
  · replace H := H.2 g5
    refine e_iload_n dX6_block_8 rfl ?_
    refine t_callS (As := [.int x2]) ok (ct_isPrime x2) dX6_block_9 wX6_isPrime q2978 q2979 rfl (by decide) rfl (Nat.le_of_ble_eq_true rfl) ?_
    refine e_if_eq 24 dX6_block_12 (by decide) (fun g6 => ?_) (fun g6 => ?_)
    · replace H := H.1 g6
      refine e_iconst (-1) dX6_block_24 (by decide) ?_
      exact e_ireturn .int dX6_block_25 rfl rfl ⟨_, _, rfl, rfl, H⟩
    · replace H := H.2 g6
      refine e_aload_n dX6_block_15 rfl ?_
      refine e_iload_n dX6_block_16 rfl ?_
      refine e_iload_n dX6_block_17 rfl ?_
      obtain ⟨Q7, hC8, H⟩ := H
      refine t_callV (As := [.int x1, .int x2]) ok hC8 dX6_block_18 wX6_blockOf q2989 q2991 qs118 rfl rfl (by decide) rfl (Nat.le_of_ble_eq_true rfl) (fun v9 T10 e11 => ?_)
      obtain ⟨r12, rfl, e11⟩ := e11
      replace H := H r12 T10 e11
      refine e_goto 25 dX6_block_21 (by decide) ?_
      exact e_ireturn .int dX6_block_25 rfl rfl ⟨_, _, rfl, rfl, H⟩

theorem en_block (x1 : Int32) (x2 : Int32) (T : tS) (Q : Option Value → tS → Prop) (H : ∀ c : tC, c.2.2.2.2.2.2 = Q → h_block_0 c x1 x2 T) : tM mX6_block 4 (fun b => [.int x1, .int x2]) T Q :=
  tM_mk (by decide) rfl (fun b => Nat.le_of_ble_eq_true rfl) (fun c hc ok => E.less2 (H c hc ok) (eS_s (eS_s (eS_s eS_0))))
/-! keeper (I)I level 1 -/
def h_keeper_0 (c : tC) (x1 : Int32) (T : tS) : Prop := tX mX6_keeper 1 c 0 [some (.ref c.2.2.2.1), some (.int x1), none, none] T
def h_keeper_22 (c : tC) (x1 : Int32) (x2 : Int32) (x3 : Int32) (T : tS) : Prop := tX mX6_keeper 1 c 22 [some (.ref c.2.2.2.1), some (.int x1), some (.int x2), some (.int x3)] T
set_option maxHeartbeats 2000000 in
theorem s_keeper_0 (c : tC) (x1 : Int32) (T : tS) (H : (¬ (zI ((0 : Int64) ≤ x1.toInt64 ∧ x1.toInt64 ≤ (((T.1 16) - (1 : Int32)).toInt64))) = 0 → h_keeper_22 c x1 (0 : Int32) (0 : Int32) T) ∧ ((zI ((0 : Int64) ≤ x1.toInt64 ∧ x1.toInt64 ≤ (((T.1 16) - (1 : Int32)).toInt64))) = 0 → c.2.2.2.2.2.2 (some (.int (-1 : Int32))) T)) : h_keeper_0 c x1 T := by
  intro ok
  refine e_iload_n dX6_keeper_0 rfl ?_
  refine e_i2l dX6_keeper_1 ?_
  refine e_lconst 0 dX6_keeper_2 (by decide) ?_
  refine e_aload_n dX6_keeper_3 rfl ?_
  refine t_getI dX6_keeper_4 fX6_16 q2512 (by decide) rfl ?_
  refine e_iconst (1) dX6_keeper_7 (by decide) ?_
  refine e_isub dX6_keeper_8 ?_
  refine e_i2l dX6_keeper_9 ?_
  refine t_callS (As := [.long x1.toInt64, .long (0 : Int64), .long (((T.1 16) - (1 : Int32)).toInt64)]) ok (ct_isIn x1.toInt64 (0 : Int64) (((T.1 16) - (1 : Int32)).toInt64)) dX6_keeper_10 wX6_isIn q2707 q2708 rfl (by decide) rfl (Nat.le_of_ble_eq_true rfl) ?_
  refine e_if_ne 18 dX6_keeper_13 (by decide) (fun g1 => ?_) (fun g1 => ?_)
  · replace H := H.1 g1
    refine e_iconst (0) dX6_keeper_18 (by decide) ?_
    refine e_istore_n _ dX6_keeper_19 (by decide) rfl rfl ?_
    refine e_iconst (0) dX6_keeper_20 (by decide) ?_
    refine e_istore_n _ dX6_keeper_21 (by decide) rfl rfl ?_
    exact H ok
  · replace H := H.2 g1
    refine e_iconst (-1) dX6_keeper_16 (by decide) ?_
    exact e_ireturn .int dX6_keeper_17 rfl rfl ⟨_, _, rfl, rfl, H⟩

set_option maxHeartbeats 2000000 in
theorem s_keeper_22 (c : tC) (x1 : Int32) (x2 : Int32) (x3 : Int32) (T : tS) (H : ((T.1 20) ≤ x3 → c.2.2.2.2.2.2 (some (.int x2)) T) ∧ (¬ (T.1 20) ≤ x3 → vp_in (((6 : Int32) * x3) + x1) 144 ∧ ((¬ (T.2.2.1 21 (((6 : Int32) * x3) + x1).toNatClampNeg) = x1 → h_keeper_22 c x1 (x2 ||| ((zI (¬ (0 : Int32) = 0)) <<< (x3 &&& 31))) (x3 + 1) T) ∧ ((T.2.2.1 21 (((6 : Int32) * x3) + x1).toNatClampNeg) = x1 → h_keeper_22 c x1 (x2 ||| ((zI (¬ (1 : Int32) = 0)) <<< (x3 &&& 31))) (x3 + 1) T)))) : h_keeper_22 c x1 x2 x3 T := by
  intro ok
  refine e_iload_n dX6_keeper_22 rfl ?_
  refine e_aload_n dX6_keeper_23 rfl ?_
  refine t_getI dX6_keeper_24 fX6_20 q2516 (by decide) rfl ?_
  refine e_icmp_ge 64 dX6_keeper_27 (by decide) (fun g1 => ?_) (fun g1 => ?_)
  · replace H := H.1 g1
    refine e_iload_n dX6_keeper_64 rfl ?_
    exact e_ireturn .int dX6_keeper_65 rfl rfl ⟨_, _, rfl, rfl, H⟩
  · replace H := H.2 g1
    refine e_iload_n dX6_keeper_30 rfl ?_
    refine e_aload_n dX6_keeper_31 rfl ?_
    refine t_getA dX6_keeper_32 fX6_21 q2517 (by decide) rfl ?_
    refine e_bipush (6) dX6_keeper_35 (by decide) ?_
    refine e_iload_n dX6_keeper_37 rfl ?_
    refine e_imul dX6_keeper_38 ?_
    refine e_iload_n dX6_keeper_39 rfl ?_
    refine e_iadd dX6_keeper_40 ?_
    obtain ⟨g2, H⟩ := H
    refine t_iald dX6_keeper_41 (by decide) rfl g2 ?_
    refine e_iload_n dX6_keeper_42 rfl ?_
    refine e_icmp_ne 50 dX6_keeper_43 (by decide) (fun g3 => ?_) (fun g3 => ?_)
    · replace H := H.1 g3
      refine e_iconst (0) dX6_keeper_50 (by decide) ?_
      refine t_callS (As := [.int (0 : Int32)]) ok (ct_truth (0 : Int32)) dX6_keeper_51 wX6_truth q2489 q2490 rfl (by decide) rfl (Nat.le_of_ble_eq_true rfl) ?_
      refine e_iload_n dX6_keeper_54 rfl ?_
      refine e_ishl dX6_keeper_55 ?_
      refine e_ior dX6_keeper_56 ?_
      refine e_istore_n _ dX6_keeper_57 (by decide) rfl rfl ?_
      refine e_iinc (x3 + 1) _ dX6_keeper_58 rfl rfl (by decide) rfl rfl ?_
      refine e_goto 22 dX6_keeper_61 (by decide) ?_
      exact H ok
    · replace H := H.2 g3
      refine e_iconst (1) dX6_keeper_46 (by decide) ?_
      refine e_goto 51 dX6_keeper_47 (by decide) ?_
      refine t_callS (As := [.int (1 : Int32)]) ok (ct_truth (1 : Int32)) dX6_keeper_51 wX6_truth q2489 q2490 rfl (by decide) rfl (Nat.le_of_ble_eq_true rfl) ?_
      refine e_iload_n dX6_keeper_54 rfl ?_
      refine e_ishl dX6_keeper_55 ?_
      refine e_ior dX6_keeper_56 ?_
      refine e_istore_n _ dX6_keeper_57 (by decide) rfl rfl ?_
      refine e_iinc (x3 + 1) _ dX6_keeper_58 rfl rfl (by decide) rfl rfl ?_
      refine e_goto 22 dX6_keeper_61 (by decide) ?_
      exact H ok

theorem en_keeper (x1 : Int32) (T : tS) (Q : Option Value → tS → Prop) (H : ∀ c : tC, c.2.2.2.2.2.2 = Q → h_keeper_0 c x1 T) : tM mX6_keeper 1 (fun b => [.int x1]) T Q :=
  tM_mk (by decide) rfl (fun b => Nat.le_of_ble_eq_true rfl) (fun c hc ok => E.less2 (H c hc ok) (eS_s (eS_s (eS_n (eS_n eS_0)))))
/-! orbit (I)I level 1 -/
def h_orbit_0 (c : tC) (x1 : Int32) (T : tS) : Prop := tX mX6_orbit 1 c 0 [some (.ref c.2.2.2.1), some (.int x1), none, none] T
def h_orbit_22 (c : tC) (x1 : Int32) (x2 : Int32) (x3 : Int32) (T : tS) : Prop := tX mX6_orbit 1 c 22 [some (.ref c.2.2.2.1), some (.int x1), some (.int x2), some (.int x3)] T
set_option maxHeartbeats 2000000 in
theorem s_orbit_0 (c : tC) (x1 : Int32) (T : tS) (H : (¬ (zI ((0 : Int64) ≤ x1.toInt64 ∧ x1.toInt64 ≤ (((T.1 16) - (1 : Int32)).toInt64))) = 0 → h_orbit_22 c x1 (0 : Int32) (0 : Int32) T) ∧ ((zI ((0 : Int64) ≤ x1.toInt64 ∧ x1.toInt64 ≤ (((T.1 16) - (1 : Int32)).toInt64))) = 0 → c.2.2.2.2.2.2 (some (.int (-1 : Int32))) T)) : h_orbit_0 c x1 T := by
  intro ok
  refine e_iload_n dX6_orbit_0 rfl ?_
  refine e_i2l dX6_orbit_1 ?_
  refine e_lconst 0 dX6_orbit_2 (by decide) ?_
  refine e_aload_n dX6_orbit_3 rfl ?_
  refine t_getI dX6_orbit_4 fX6_16 q2512 (by decide) rfl ?_
  refine e_iconst (1) dX6_orbit_7 (by decide) ?_
  refine e_isub dX6_orbit_8 ?_
  refine e_i2l dX6_orbit_9 ?_
  refine t_callS (As := [.long x1.toInt64, .long (0 : Int64), .long (((T.1 16) - (1 : Int32)).toInt64)]) ok (ct_isIn x1.toInt64 (0 : Int64) (((T.1 16) - (1 : Int32)).toInt64)) dX6_orbit_10 wX6_isIn q2707 q2708 rfl (by decide) rfl (Nat.le_of_ble_eq_true rfl) ?_
  refine e_if_ne 18 dX6_orbit_13 (by decide) (fun g1 => ?_) (fun g1 => ?_)
  · replace H := H.1 g1
    refine e_iconst (0) dX6_orbit_18 (by decide) ?_
    refine e_istore_n _ dX6_orbit_19 (by decide) rfl rfl ?_
    refine e_iconst (0) dX6_orbit_20 (by decide) ?_
    refine e_istore_n _ dX6_orbit_21 (by decide) rfl rfl ?_
    exact H ok
  · replace H := H.2 g1
    refine e_iconst (-1) dX6_orbit_16 (by decide) ?_
    exact e_ireturn .int dX6_orbit_17 rfl rfl ⟨_, _, rfl, rfl, H⟩

set_option maxHeartbeats 2000000 in
theorem s_orbit_22 (c : tC) (x1 : Int32) (x2 : Int32) (x3 : Int32) (T : tS) (H : ((T.1 20) ≤ x3 → c.2.2.2.2.2.2 (some (.int x2)) T) ∧ (¬ (T.1 20) ≤ x3 → vp_in (((6 : Int32) * x3) + x1) 144 ∧ (h_orbit_22 c x1 (x2 ||| ((1 : Int32) <<< ((T.2.2.1 21 (((6 : Int32) * x3) + x1).toNatClampNeg) &&& 31))) (x3 + 1) T))) : h_orbit_22 c x1 x2 x3 T := by
  intro ok
  refine e_iload_n dX6_orbit_22 rfl ?_
  refine e_aload_n dX6_orbit_23 rfl ?_
  refine t_getI dX6_orbit_24 fX6_20 q2516 (by decide) rfl ?_
  refine e_icmp_ge 52 dX6_orbit_27 (by decide) (fun g1 => ?_) (fun g1 => ?_)
  · replace H := H.1 g1
    refine e_iload_n dX6_orbit_52 rfl ?_
    exact e_ireturn .int dX6_orbit_53 rfl rfl ⟨_, _, rfl, rfl, H⟩
  · replace H := H.2 g1
    refine e_iload_n dX6_orbit_30 rfl ?_
    refine e_iconst (1) dX6_orbit_31 (by decide) ?_
    refine e_aload_n dX6_orbit_32 rfl ?_
    refine t_getA dX6_orbit_33 fX6_21 q2517 (by decide) rfl ?_
    refine e_bipush (6) dX6_orbit_36 (by decide) ?_
    refine e_iload_n dX6_orbit_38 rfl ?_
    refine e_imul dX6_orbit_39 ?_
    refine e_iload_n dX6_orbit_40 rfl ?_
    refine e_iadd dX6_orbit_41 ?_
    obtain ⟨g2, H⟩ := H
    refine t_iald dX6_orbit_42 (by decide) rfl g2 ?_
    refine e_ishl dX6_orbit_43 ?_
    refine e_ior dX6_orbit_44 ?_
    refine e_istore_n _ dX6_orbit_45 (by decide) rfl rfl ?_
    refine e_iinc (x3 + 1) _ dX6_orbit_46 rfl rfl (by decide) rfl rfl ?_
    refine e_goto 22 dX6_orbit_49 (by decide) ?_
    exact H ok

theorem en_orbit (x1 : Int32) (T : tS) (Q : Option Value → tS → Prop) (H : ∀ c : tC, c.2.2.2.2.2.2 = Q → h_orbit_0 c x1 T) : tM mX6_orbit 1 (fun b => [.int x1]) T Q :=
  tM_mk (by decide) rfl (fun b => Nat.le_of_ble_eq_true rfl) (fun c hc ok => E.less2 (H c hc ok) (eS_s (eS_s (eS_n (eS_n eS_0)))))
/-! coset (II)I level 2 -/
def h_coset_0 (c : tC) (x1 : Int32) (x2 : Int32) (T : tS) : Prop := tX mX6_coset 2 c 0 [some (.ref c.2.2.2.1), some (.int x1), some (.int x2)] T
set_option maxHeartbeats 2000000 in
theorem s_coset_0 (c : tC) (x1 : Int32) (x2 : Int32) (T : tS) (H : ((zI (0 ≤ x1.toInt64 ∧ x1.toInt64 ≤ (T.1 26 - 1).toInt64)) = 0 → c.2.2.2.2.2.2 (some (.int (-1 : Int32))) T) ∧ (¬ (zI (0 ≤ x1.toInt64 ∧ x1.toInt64 ≤ (T.1 26 - 1).toInt64)) = 0 → ((zI (0 ≤ x2.toInt64 ∧ x2.toInt64 ≤ (T.1 20 - 1).toInt64)) = 0 → c.2.2.2.2.2.2 (some (.int (-1 : Int32))) T) ∧ (¬ (zI (0 ≤ x2.toInt64 ∧ x2.toInt64 ≤ (T.1 20 - 1).toInt64)) = 0 → vp_in (((24 : Int32) * x1) + x2) 1536 ∧ (c.2.2.2.2.2.2 (some (.int (T.2.2.1 32 (((24 : Int32) * x1) + x2).toNatClampNeg))) T)))) : h_coset_0 c x1 x2 T := by
  intro ok
  refine e_aload_n dX6_coset_0 rfl ?_
  refine e_iload_n dX6_coset_1 rfl ?_
  refine t_callV (As := [.int x1]) ok (ct_isSort T x1) dX6_coset_2 wX6_isSort q2934 q2936 qs113 rfl rfl (by decide) rfl (Nat.le_of_ble_eq_true rfl) (fun v1 T2 e4 => ?_)
  obtain ⟨r3, rfl, rfl, hT⟩ := e4
  rw [hT]
  refine e_if_eq 30 dX6_coset_5 (by decide) (fun g5 => ?_) (fun g5 => ?_)
  · replace H := H.1 g5
    refine e_iconst (-1) dX6_coset_30 (by decide) ?_
    exact e_ireturn .int dX6_coset_31 rfl rfl ⟨_, _, rfl, rfl, H⟩
  · replace H := H.2 g5
    refine e_aload_n dX6_coset_8 rfl ?_
    refine e_iload_n dX6_coset_9 rfl ?_
    refine t_callV (As := [.int x2]) ok (ct_isMember T x2) dX6_coset_10 wX6_isMember q2889 q2891 qs109 rfl rfl (by decide) rfl (Nat.le_of_ble_eq_true rfl) (fun v6 T7 e9 => ?_)
    obtain ⟨r8, rfl, rfl, hT⟩ := e9
    rw [hT]
    refine e_if_eq 30 dX6_coset_13 (by decide) (fun g10 => ?_) (fun g10 => ?_)
    · replace H := H.1 g10
      refine e_iconst (-1) dX6_coset_30 (by decide) ?_
      exact e_ireturn .int dX6_coset_31 rfl rfl ⟨_, _, rfl, rfl, H⟩
    · replace H := H.2 g10
      refine e_aload_n dX6_coset_16 rfl ?_
      refine t_getA dX6_coset_17 fX6_32 q2528 (by decide) rfl ?_
      refine e_bipush (24) dX6_coset_20 (by decide) ?_
      refine e_iload_n dX6_coset_22 rfl ?_
      refine e_imul dX6_coset_23 ?_
      refine e_iload_n dX6_coset_24 rfl ?_
      refine e_iadd dX6_coset_25 ?_
      obtain ⟨g11, H⟩ := H
      refine t_iald dX6_coset_26 (by decide) rfl g11 ?_
      refine e_goto 31 dX6_coset_27 (by decide) ?_
      exact e_ireturn .int dX6_coset_31 rfl rfl ⟨_, _, rfl, rfl, H⟩

theorem en_coset (x1 : Int32) (x2 : Int32) (T : tS) (Q : Option Value → tS → Prop) (H : ∀ c : tC, c.2.2.2.2.2.2 = Q → h_coset_0 c x1 x2 T) : tM mX6_coset 2 (fun b => [.int x1, .int x2]) T Q :=
  tM_mk (by decide) rfl (fun b => Nat.le_of_ble_eq_true rfl) (fun c hc ok => E.less2 (H c hc ok) (eS_s (eS_s (eS_s eS_0))))
/-! takes (III)I level 2 -/
def h_takes_0 (c : tC) (x1 : Int32) (x2 : Int32) (x3 : Int32) (T : tS) : Prop := tX mX6_takes 2 c 0 [some (.ref c.2.2.2.1), some (.int x1), some (.int x2), some (.int x3)] T
set_option maxHeartbeats 2000000 in
theorem s_takes_0 (c : tC) (x1 : Int32) (x2 : Int32) (x3 : Int32) (T : tS) (H : ((zI (0 ≤ x1.toInt64 ∧ x1.toInt64 ≤ (T.1 26 - 1).toInt64)) = 0 → c.2.2.2.2.2.2 (some (.int (-1 : Int32))) T) ∧ (¬ (zI (0 ≤ x1.toInt64 ∧ x1.toInt64 ≤ (T.1 26 - 1).toInt64)) = 0 → ((zI (0 ≤ x2.toInt64 ∧ x2.toInt64 ≤ (T.1 20 - 1).toInt64)) = 0 → c.2.2.2.2.2.2 (some (.int (-1 : Int32))) T) ∧ (¬ (zI (0 ≤ x2.toInt64 ∧ x2.toInt64 ≤ (T.1 20 - 1).toInt64)) = 0 → ((zI (0 ≤ x3.toInt64 ∧ x3.toInt64 ≤ (T.1 20 - 1).toInt64)) = 0 → c.2.2.2.2.2.2 (some (.int (-1 : Int32))) T) ∧ (¬ (zI (0 ≤ x3.toInt64 ∧ x3.toInt64 ≤ (T.1 20 - 1).toInt64)) = 0 → vp_in (24 * x2 + x3) 576 ∧ (vp_in (((24 : Int32) * x1) + (tBy T x2 x3)) 1536 ∧ (c.2.2.2.2.2.2 (some (.int (T.2.2.1 32 (((24 : Int32) * x1) + (tBy T x2 x3)).toNatClampNeg))) T)))))) : h_takes_0 c x1 x2 x3 T := by
  intro ok
  refine e_aload_n dX6_takes_0 rfl ?_
  refine e_iload_n dX6_takes_1 rfl ?_
  refine t_callV (As := [.int x1]) ok (ct_isSort T x1) dX6_takes_2 wX6_isSort q2934 q2936 qs113 rfl rfl (by decide) rfl (Nat.le_of_ble_eq_true rfl) (fun v1 T2 e4 => ?_)
  obtain ⟨r3, rfl, rfl, hT⟩ := e4
  rw [hT]
  refine e_if_eq 43 dX6_takes_5 (by decide) (fun g5 => ?_) (fun g5 => ?_)
  · replace H := H.1 g5
    refine e_iconst (-1) dX6_takes_43 (by decide) ?_
    exact e_ireturn .int dX6_takes_44 rfl rfl ⟨_, _, rfl, rfl, H⟩
  · replace H := H.2 g5
    refine e_aload_n dX6_takes_8 rfl ?_
    refine e_iload_n dX6_takes_9 rfl ?_
    refine t_callV (As := [.int x2]) ok (ct_isMember T x2) dX6_takes_10 wX6_isMember q2889 q2891 qs109 rfl rfl (by decide) rfl (Nat.le_of_ble_eq_true rfl) (fun v6 T7 e9 => ?_)
    obtain ⟨r8, rfl, rfl, hT⟩ := e9
    rw [hT]
    refine e_if_eq 43 dX6_takes_13 (by decide) (fun g10 => ?_) (fun g10 => ?_)
    · replace H := H.1 g10
      refine e_iconst (-1) dX6_takes_43 (by decide) ?_
      exact e_ireturn .int dX6_takes_44 rfl rfl ⟨_, _, rfl, rfl, H⟩
    · replace H := H.2 g10
      refine e_aload_n dX6_takes_16 rfl ?_
      refine e_iload_n dX6_takes_17 rfl ?_
      refine t_callV (As := [.int x3]) ok (ct_isMember T x3) dX6_takes_18 wX6_isMember q2889 q2891 qs109 rfl rfl (by decide) rfl (Nat.le_of_ble_eq_true rfl) (fun v11 T12 e14 => ?_)
      obtain ⟨r13, rfl, rfl, hT⟩ := e14
      rw [hT]
      refine e_if_eq 43 dX6_takes_21 (by decide) (fun g15 => ?_) (fun g15 => ?_)
      · replace H := H.1 g15
        refine e_iconst (-1) dX6_takes_43 (by decide) ?_
        exact e_ireturn .int dX6_takes_44 rfl rfl ⟨_, _, rfl, rfl, H⟩
      · replace H := H.2 g15
        refine e_aload_n dX6_takes_24 rfl ?_
        refine t_getA dX6_takes_25 fX6_32 q2528 (by decide) rfl ?_
        refine e_bipush (24) dX6_takes_28 (by decide) ?_
        refine e_iload_n dX6_takes_30 rfl ?_
        refine e_imul dX6_takes_31 ?_
        refine e_aload_n dX6_takes_32 rfl ?_
        refine e_iload_n dX6_takes_33 rfl ?_
        refine e_iload_n dX6_takes_34 rfl ?_
        obtain ⟨g20, H⟩ := H
        refine t_callV (As := [.int x2, .int x3]) ok (ct_by T x2 x3 g20) dX6_takes_35 wX6_by q2454 q2456 qs62 rfl rfl (by decide) rfl (Nat.le_of_ble_eq_true rfl) (fun v16 T17 e19 => ?_)
        obtain ⟨r18, rfl, rfl, hT⟩ := e19
        rw [hT]
        refine e_iadd dX6_takes_38 ?_
        obtain ⟨g21, H⟩ := H
        refine t_iald dX6_takes_39 (by decide) rfl g21 ?_
        refine e_goto 44 dX6_takes_40 (by decide) ?_
        exact e_ireturn .int dX6_takes_44 rfl rfl ⟨_, _, rfl, rfl, H⟩

theorem en_takes (x1 : Int32) (x2 : Int32) (x3 : Int32) (T : tS) (Q : Option Value → tS → Prop) (H : ∀ c : tC, c.2.2.2.2.2.2 = Q → h_takes_0 c x1 x2 x3 T) : tM mX6_takes 2 (fun b => [.int x1, .int x2, .int x3]) T Q :=
  tM_mk (by decide) rfl (fun b => Nat.le_of_ble_eq_true rfl) (fun c hc ok => E.less2 (H c hc ok) (eS_s (eS_s (eS_s (eS_s eS_0)))))
/-! moebius (I)I level 2 -/
def h_moebius_0 (c : tC) (x1 : Int32) (T : tS) : Prop := tX mX6_moebius 2 c 0 [some (.ref c.2.2.2.1), some (.int x1), none, none, none] T
def h_moebius_17 (c : tC) (x1 : Int32) (x2 : Int32) (T : tS) : Prop := tX mX6_moebius 2 c 17 [some (.ref c.2.2.2.1), some (.int x1), some (.int x2), none, none] T
def h_moebius_23 (c : tC) (x1 : Int32) (x2 : Int32) (x3 : Int32) (T : tS) : Prop := tX mX6_moebius 2 c 23 [some (.ref c.2.2.2.1), some (.int x1), some (.int x2), some (.int x3), none] T
def h_moebius_72 (c : tC) (x1 : Int32) (x2 : Int32) (x3 : Int32) (x4 : Int32) (T : tS) : Prop := tX mX6_moebius 2 c 72 [some (.ref c.2.2.2.1), some (.int x1), some (.int x2), some (.int x3), some (.int x4)] T
def h_moebius_130 (c : tC) (x1 : Int32) (x2 : Int32) (x3 : Int32) (x4 : Int32) (T : tS) : Prop := tX mX6_moebius 2 c 130 [some (.ref c.2.2.2.1), some (.int x1), some (.int x2), some (.int x3), some (.int x4)] T
def h_moebius_136 (c : tC) (x1 : Int32) (x2 : Int32) (x3 : Int32) (T : tS) : Prop := tX mX6_moebius 2 c 136 [some (.ref c.2.2.2.1), some (.int x1), some (.int x2), some (.int x3), none] T
set_option maxHeartbeats 2000000 in
theorem s_moebius_0 (c : tC) (x1 : Int32) (T : tS) (H : (¬ (zI (0 ≤ x1.toInt64 ∧ x1.toInt64 ≤ (T.1 26 - 1).toInt64)) = 0 → h_moebius_17 c x1 (T.1 20) T) ∧ ((zI (0 ≤ x1.toInt64 ∧ x1.toInt64 ≤ (T.1 26 - 1).toInt64)) = 0 → c.2.2.2.2.2.2 (some (.int (-1000000 : Int32))) T)) : h_moebius_0 c x1 T := by
  intro ok
  refine e_aload_n dX6_moebius_0 rfl ?_
  refine e_iload_n dX6_moebius_1 rfl ?_
  refine t_callV (As := [.int x1]) ok (ct_isSort T x1) dX6_moebius_2 wX6_isSort q2934 q2936 qs113 rfl rfl (by decide) rfl (Nat.le_of_ble_eq_true rfl) (fun v1 T2 e4 => ?_)
  obtain ⟨r3, rfl, rfl, hT⟩ := e4
  rw [hT]
  refine e_if_ne 12 dX6_moebius_5 (by decide) (fun g5 => ?_) (fun g5 => ?_)
  · replace H := H.1 g5
    refine e_aload_n dX6_moebius_12 rfl ?_
    refine t_getI dX6_moebius_13 fX6_20 q2516 (by decide) rfl ?_
    refine e_istore_n _ dX6_moebius_16 (by decide) rfl rfl ?_
    exact H ok
  · replace H := H.2 g5
    refine e_ldcw dX6_moebius_8 q3013 ?_
    exact e_ireturn .int dX6_moebius_11 rfl rfl ⟨_, _, rfl, rfl, H⟩

set_option maxHeartbeats 2000000 in
theorem s_moebius_17 (c : tC) (x1 : Int32) (x2 : Int32) (T : tS) (H : (x2 ≤ 0 → vp_in x1 64 ∧ (∃ Q3 : Int32 → tS → Prop, tMi mX6_subIndex 0 (fun b => [.int (T.2.2.1 29 x1.toNatClampNeg)]) T Q3 ∧ ∀ (r8 : Int32) (T6 : tS), Q3 r8 T6 → vp_in r8 128 ∧ (c.2.2.2.2.2.2 (some (.int (T6.2.2.1 49 r8.toNatClampNeg))) T6))) ∧ (¬ x2 ≤ 0 → h_moebius_23 c x1 x2 (0 : Int32) T)) : h_moebius_17 c x1 x2 T := by
  intro ok
  refine e_iload_n dX6_moebius_17 rfl ?_
  refine e_if_le 148 dX6_moebius_18 (by decide) (fun g1 => ?_) (fun g1 => ?_)
  · replace H := H.1 g1
    refine e_aload_n dX6_moebius_148 rfl ?_
    refine t_getA dX6_moebius_149 fX6_49 q2545 (by decide) rfl ?_
    refine e_aload_n dX6_moebius_152 rfl ?_
    refine e_aload_n dX6_moebius_153 rfl ?_
    refine t_getA dX6_moebius_154 fX6_29 q2525 (by decide) rfl ?_
    refine e_iload_n dX6_moebius_157 rfl ?_
    obtain ⟨g2, H⟩ := H
    refine t_iald dX6_moebius_158 (by decide) rfl g2 ?_
    obtain ⟨Q3, hC4, H⟩ := H
    refine t_callV (As := [.int (T.2.2.1 29 x1.toNatClampNeg)]) ok hC4 dX6_moebius_159 wX6_subIndex q2458 q2460 qs63 rfl rfl (by decide) rfl (Nat.le_of_ble_eq_true rfl) (fun v5 T6 e7 => ?_)
    obtain ⟨r8, rfl, e7⟩ := e7
    replace H := H r8 T6 e7
    obtain ⟨g9, H⟩ := H
    refine t_iald dX6_moebius_162 (by decide) rfl g9 ?_
    exact e_ireturn .int dX6_moebius_163 rfl rfl ⟨_, _, rfl, rfl, H⟩
  · replace H := H.2 g1
    refine e_iconst (0) dX6_moebius_21 (by decide) ?_
    refine e_istore_n _ dX6_moebius_22 (by decide) rfl rfl ?_
    exact H ok

set_option maxHeartbeats 2000000 in
theorem s_moebius_23 (c : tC) (x1 : Int32) (x2 : Int32) (x3 : Int32) (T : tS) (H : ((T.1 25) ≤ x3 → h_moebius_17 c x1 (x2 + (-1)) T) ∧ (¬ (T.1 25) ≤ x3 → vp_in x3 128 ∧ (((tOnes (T.2.2.1 27 x3.toNatClampNeg)) = x2 → (¬ x2 = (T.1 20) → vp_in x3 128 ∧ (h_moebius_72 c x1 x2 x3 (0 : Int32) (tA T 49 (va_up (T.2.2.1 49) x3.toNatClampNeg (zI (¬ (0 : Int32) = 0)))))) ∧ (x2 = (T.1 20) → vp_in x3 128 ∧ (h_moebius_72 c x1 x2 x3 (0 : Int32) (tA T 49 (va_up (T.2.2.1 49) x3.toNatClampNeg (zI (¬ (1 : Int32) = 0))))))) ∧ (¬ (tOnes (T.2.2.1 27 x3.toNatClampNeg)) = x2 → h_moebius_136 c x1 x2 x3 T)))) : h_moebius_23 c x1 x2 x3 T := by
  intro ok
  refine e_iload_n dX6_moebius_23 rfl ?_
  refine e_aload_n dX6_moebius_24 rfl ?_
  refine t_getI dX6_moebius_25 fX6_25 q2521 (by decide) rfl ?_
  refine e_icmp_ge 142 dX6_moebius_28 (by decide) (fun g1 => ?_) (fun g1 => ?_)
  · replace H := H.1 g1
    refine e_iinc (x2 + (-1)) _ dX6_moebius_142 rfl rfl (by decide) rfl rfl ?_
    refine e_goto 17 dX6_moebius_145 (by decide) ?_
    exact E.less2 (H ok) (eS_s (eS_s (eS_s (eS_n (eS_n eS_0)))))
  · replace H := H.2 g1
    refine e_aload_n dX6_moebius_31 rfl ?_
    refine t_getA dX6_moebius_32 fX6_27 q2523 (by decide) rfl ?_
    refine e_iload_n dX6_moebius_35 rfl ?_
    obtain ⟨g2, H⟩ := H
    refine t_iald dX6_moebius_36 (by decide) rfl g2 ?_
    refine t_callS (As := [.int (T.2.2.1 27 x3.toNatClampNeg)]) ok (ct_ones (T.2.2.1 27 x3.toNatClampNeg)) dX6_moebius_37 wX6_ones q2474 q2475 rfl (by decide) rfl (Nat.le_of_ble_eq_true rfl) ?_
    refine e_iload_n dX6_moebius_40 rfl ?_
    refine e_icmp_eq 47 dX6_moebius_41 (by decide) (fun g3 => ?_) (fun g3 => ?_)
    · replace H := H.1 g3
      refine e_aload_n dX6_moebius_47 rfl ?_
      refine t_getA dX6_moebius_48 fX6_49 q2545 (by decide) rfl ?_
      refine e_iload_n dX6_moebius_51 rfl ?_
      refine e_iload_n dX6_moebius_52 rfl ?_
      refine e_aload_n dX6_moebius_53 rfl ?_
      refine t_getI dX6_moebius_54 fX6_20 q2516 (by decide) rfl ?_
      refine e_icmp_ne 64 dX6_moebius_57 (by decide) (fun g4 => ?_) (fun g4 => ?_)
      · replace H := H.1 g4
        refine e_iconst (0) dX6_moebius_64 (by decide) ?_
        refine t_callS (As := [.int (0 : Int32)]) ok (ct_truth (0 : Int32)) dX6_moebius_65 wX6_truth q2489 q2490 rfl (by decide) rfl (Nat.le_of_ble_eq_true rfl) ?_
        obtain ⟨g5, H⟩ := H
        refine t_iast dX6_moebius_68 (by decide) rfl ok.1 g5 ?_
        refine e_iconst (0) dX6_moebius_69 (by decide) ?_
        refine e_istore _ dX6_moebius_70 (by decide) rfl rfl ?_
        exact H ok
      · replace H := H.2 g4
        refine e_iconst (1) dX6_moebius_60 (by decide) ?_
        refine e_goto 65 dX6_moebius_61 (by decide) ?_
        refine t_callS (As := [.int (1 : Int32)]) ok (ct_truth (1 : Int32)) dX6_moebius_65 wX6_truth q2489 q2490 rfl (by decide) rfl (Nat.le_of_ble_eq_true rfl) ?_
        obtain ⟨g6, H⟩ := H
        refine t_iast dX6_moebius_68 (by decide) rfl ok.1 g6 ?_
        refine e_iconst (0) dX6_moebius_69 (by decide) ?_
        refine e_istore _ dX6_moebius_70 (by decide) rfl rfl ?_
        exact H ok
    · replace H := H.2 g3
      refine e_goto 136 dX6_moebius_44 (by decide) ?_
      exact H ok

set_option maxHeartbeats 2000000 in
theorem s_moebius_72 (c : tC) (x1 : Int32) (x2 : Int32) (x3 : Int32) (x4 : Int32) (T : tS) (H : ((T.1 25) ≤ x4 → h_moebius_136 c x1 x2 x3 T) ∧ (¬ (T.1 25) ≤ x4 → vp_in x4 128 ∧ (((tOnes (T.2.2.1 27 x4.toNatClampNeg)) ≤ x2 → h_moebius_130 c x1 x2 x3 x4 T) ∧ (¬ (tOnes (T.2.2.1 27 x4.toNatClampNeg)) ≤ x2 → vp_in x3 128 ∧ (vp_in x4 128 ∧ ((¬ ((T.2.2.1 27 x3.toNatClampNeg) &&& ((T.2.2.1 27 x4.toNatClampNeg) ^^^ (-1 : Int32))) = 0 → h_moebius_130 c x1 x2 x3 x4 T) ∧ (((T.2.2.1 27 x3.toNatClampNeg) &&& ((T.2.2.1 27 x4.toNatClampNeg) ^^^ (-1 : Int32))) = 0 → vp_in x3 128 ∧ (vp_in x4 128 ∧ (vp_in x3 128 ∧ (h_moebius_130 c x1 x2 x3 x4 (tA T 49 (va_up (T.2.2.1 49) x3.toNatClampNeg ((T.2.2.1 49 x3.toNatClampNeg) - (T.2.2.1 49 x4.toNatClampNeg)))))))))))))) : h_moebius_72 c x1 x2 x3 x4 T := by
  intro ok
  refine e_iload dX6_moebius_72 rfl ?_
  refine e_aload_n dX6_moebius_74 rfl ?_
  refine t_getI dX6_moebius_75 fX6_25 q2521 (by decide) rfl ?_
  refine e_icmp_ge 136 dX6_moebius_78 (by decide) (fun g1 => ?_) (fun g1 => ?_)
  · replace H := H.1 g1
    exact E.less2 (H ok) (eS_s (eS_s (eS_s (eS_s (eS_n eS_0)))))
  · replace H := H.2 g1
    refine e_aload_n dX6_moebius_81 rfl ?_
    refine t_getA dX6_moebius_82 fX6_27 q2523 (by decide) rfl ?_
    refine e_iload dX6_moebius_85 rfl ?_
    obtain ⟨g2, H⟩ := H
    refine t_iald dX6_moebius_87 (by decide) rfl g2 ?_
    refine t_callS (As := [.int (T.2.2.1 27 x4.toNatClampNeg)]) ok (ct_ones (T.2.2.1 27 x4.toNatClampNeg)) dX6_moebius_88 wX6_ones q2474 q2475 rfl (by decide) rfl (Nat.le_of_ble_eq_true rfl) ?_
    refine e_iload_n dX6_moebius_91 rfl ?_
    refine e_icmp_le 130 dX6_moebius_92 (by decide) (fun g3 => ?_) (fun g3 => ?_)
    · replace H := H.1 g3
      exact H ok
    · replace H := H.2 g3
      refine e_aload_n dX6_moebius_95 rfl ?_
      refine t_getA dX6_moebius_96 fX6_27 q2523 (by decide) rfl ?_
      refine e_iload_n dX6_moebius_99 rfl ?_
      obtain ⟨g4, H⟩ := H
      refine t_iald dX6_moebius_100 (by decide) rfl g4 ?_
      refine e_aload_n dX6_moebius_101 rfl ?_
      refine t_getA dX6_moebius_102 fX6_27 q2523 (by decide) rfl ?_
      refine e_iload dX6_moebius_105 rfl ?_
      obtain ⟨g5, H⟩ := H
      refine t_iald dX6_moebius_107 (by decide) rfl g5 ?_
      refine e_iconst (-1) dX6_moebius_108 (by decide) ?_
      refine e_ixor dX6_moebius_109 ?_
      refine e_iand dX6_moebius_110 ?_
      refine e_if_ne 130 dX6_moebius_111 (by decide) (fun g6 => ?_) (fun g6 => ?_)
      · replace H := H.1 g6
        exact H ok
      · replace H := H.2 g6
        refine e_aload_n dX6_moebius_114 rfl ?_
        refine t_getA dX6_moebius_115 fX6_49 q2545 (by decide) rfl ?_
        refine e_iload_n dX6_moebius_118 rfl ?_
        refine e_dup2 dX6_moebius_119 rfl rfl ?_
        obtain ⟨g7, H⟩ := H
        refine t_iald dX6_moebius_120 (by decide) rfl g7 ?_
        refine e_aload_n dX6_moebius_121 rfl ?_
        refine t_getA dX6_moebius_122 fX6_49 q2545 (by decide) rfl ?_
        refine e_iload dX6_moebius_125 rfl ?_
        obtain ⟨g8, H⟩ := H
        refine t_iald dX6_moebius_127 (by decide) rfl g8 ?_
        refine e_isub dX6_moebius_128 ?_
        obtain ⟨g9, H⟩ := H
        refine t_iast dX6_moebius_129 (by decide) rfl ok.1 g9 ?_
        exact H ok

set_option maxHeartbeats 2000000 in
theorem s_moebius_130 (c : tC) (x1 : Int32) (x2 : Int32) (x3 : Int32) (x4 : Int32) (T : tS) (H : h_moebius_72 c x1 x2 x3 (x4 + 1) T) : h_moebius_130 c x1 x2 x3 x4 T := by
  intro ok
  refine e_iinc (x4 + 1) _ dX6_moebius_130 rfl rfl (by decide) rfl rfl ?_
  refine e_goto 72 dX6_moebius_133 (by decide) ?_
  exact H ok

set_option maxHeartbeats 2000000 in
theorem s_moebius_136 (c : tC) (x1 : Int32) (x2 : Int32) (x3 : Int32) (T : tS) (H : h_moebius_23 c x1 x2 (x3 + 1) T) : h_moebius_136 c x1 x2 x3 T := by
  intro ok
  refine e_iinc (x3 + 1) _ dX6_moebius_136 rfl rfl (by decide) rfl rfl ?_
  refine e_goto 23 dX6_moebius_139 (by decide) ?_
  exact H ok

theorem en_moebius (x1 : Int32) (T : tS) (Q : Option Value → tS → Prop) (H : ∀ c : tC, c.2.2.2.2.2.2 = Q → h_moebius_0 c x1 T) : tM mX6_moebius 2 (fun b => [.int x1]) T Q :=
  tM_mk (by decide) rfl (fun b => Nat.le_of_ble_eq_true rfl) (fun c hc ok => E.less2 (H c hc ok) (eS_s (eS_s (eS_n (eS_n (eS_n eS_0))))))
/-! mixed (I)I level 2 -/
def h_mixed_0 (c : tC) (x1 : Int32) (T : tS) : Prop := tX mX6_mixed 2 c 0 [some (.ref c.2.2.2.1), some (.int x1), none, none, none] T
def h_mixed_14 (c : tC) (x1 : Int32) (x2 : Int32) (x3 : Int32) (T : tS) : Prop := tX mX6_mixed 2 c 14 [some (.ref c.2.2.2.1), some (.int x1), some (.int x2), some (.int x3), none] T
def h_mixed_25 (c : tC) (x1 : Int32) (x2 : Int32) (x3 : Int32) (x4 : Int32) (T : tS) : Prop := tX mX6_mixed 2 c 25 [some (.ref c.2.2.2.1), some (.int x1), some (.int x2), some (.int x3), some (.int x4)] T
def h_mixed_94 (c : tC) (x1 : Int32) (x2 : Int32) (x3 : Int32) (x4 : Int32) (T : tS) : Prop := tX mX6_mixed 2 c 94 [some (.ref c.2.2.2.1), some (.int x1), some (.int x2), some (.int x3), some (.int x4)] T
set_option maxHeartbeats 2000000 in
theorem s_mixed_0 (c : tC) (x1 : Int32) (T : tS) (H : (¬ (zI (0 ≤ x1.toInt64 ∧ x1.toInt64 ≤ (T.1 26 - 1).toInt64)) = 0 → h_mixed_14 c x1 (0 : Int32) (0 : Int32) T) ∧ ((zI (0 ≤ x1.toInt64 ∧ x1.toInt64 ≤ (T.1 26 - 1).toInt64)) = 0 → c.2.2.2.2.2.2 (some (.int (-1 : Int32))) T)) : h_mixed_0 c x1 T := by
  intro ok
  refine e_aload_n dX6_mixed_0 rfl ?_
  refine e_iload_n dX6_mixed_1 rfl ?_
  refine t_callV (As := [.int x1]) ok (ct_isSort T x1) dX6_mixed_2 wX6_isSort q2934 q2936 qs113 rfl rfl (by decide) rfl (Nat.le_of_ble_eq_true rfl) (fun v1 T2 e4 => ?_)
  obtain ⟨r3, rfl, rfl, hT⟩ := e4
  rw [hT]
  refine e_if_ne 10 dX6_mixed_5 (by decide) (fun g5 => ?_) (fun g5 => ?_)
  · replace H := H.1 g5
    refine e_iconst (0) dX6_mixed_10 (by decide) ?_
    refine e_istore_n _ dX6_mixed_11 (by decide) rfl rfl ?_
    refine e_iconst (0) dX6_mixed_12 (by decide) ?_
    refine e_istore_n _ dX6_mixed_13 (by decide) rfl rfl ?_
    exact H ok
  · replace H := H.2 g5
    refine e_iconst (-1) dX6_mixed_8 (by decide) ?_
    exact e_ireturn .int dX6_mixed_9 rfl rfl ⟨_, _, rfl, rfl, H⟩

set_option maxHeartbeats 2000000 in
theorem s_mixed_14 (c : tC) (x1 : Int32) (x2 : Int32) (x3 : Int32) (T : tS) (H : ((T.1 20) ≤ x3 → ∃ Q2 : Int32 → tS → Prop, tMi mX6_closed 1 (fun b => [.int x2]) T Q2 ∧ ∀ (r7 : Int32) (T5 : tS), Q2 r7 T5 → ∃ Q8 : Int32 → tS → Prop, tMi mX6_sortOfSet 1 (fun b => [.int r7]) T5 Q8 ∧ ∀ (r13 : Int32) (T11 : tS), Q8 r13 T11 → c.2.2.2.2.2.2 (some (.int r13)) T11) ∧ (¬ (T.1 20) ≤ x3 → h_mixed_25 c x1 x2 x3 (0 : Int32) T)) : h_mixed_14 c x1 x2 x3 T := by
  intro ok
  refine e_iload_n dX6_mixed_14 rfl ?_
  refine e_aload_n dX6_mixed_15 rfl ?_
  refine t_getI dX6_mixed_16 fX6_20 q2516 (by decide) rfl ?_
  refine e_icmp_ge 106 dX6_mixed_19 (by decide) (fun g1 => ?_) (fun g1 => ?_)
  · replace H := H.1 g1
    refine e_aload_n dX6_mixed_106 rfl ?_
    refine e_aload_n dX6_mixed_107 rfl ?_
    refine e_iload_n dX6_mixed_108 rfl ?_
    obtain ⟨Q2, hC3, H⟩ := H
    refine t_callV (As := [.int x2]) ok hC3 dX6_mixed_109 wX6_closed q2450 q2452 qs61 rfl rfl (by decide) rfl (Nat.le_of_ble_eq_true rfl) (fun v4 T5 e6 => ?_)
    obtain ⟨r7, rfl, e6⟩ := e6
    replace H := H r7 T5 e6
    obtain ⟨Q8, hC9, H⟩ := H
    refine t_callV (As := [.int r7]) ok hC9 dX6_mixed_112 wX6_sortOfSet q2926 q2928 qs112 rfl rfl (by decide) rfl (Nat.le_of_ble_eq_true rfl) (fun v10 T11 e12 => ?_)
    obtain ⟨r13, rfl, e12⟩ := e12
    replace H := H r13 T11 e12
    exact e_ireturn .int dX6_mixed_115 rfl rfl ⟨_, _, rfl, rfl, H⟩
  · replace H := H.2 g1
    refine e_iconst (0) dX6_mixed_22 (by decide) ?_
    refine e_istore _ dX6_mixed_23 (by decide) rfl rfl ?_
    exact H ok

set_option maxHeartbeats 2000000 in
theorem s_mixed_25 (c : tC) (x1 : Int32) (x2 : Int32) (x3 : Int32) (x4 : Int32) (T : tS) (H : ((T.1 20) ≤ x4 → h_mixed_14 c x1 x2 (x3 + 1) T) ∧ (¬ (T.1 20) ≤ x4 → vp_in x1 64 ∧ (((zI (tBit (T.2.2.1 29 x1.toNatClampNeg) x3)) = 0 → h_mixed_94 c x1 x2 x3 x4 T) ∧ (¬ (zI (tBit (T.2.2.1 29 x1.toNatClampNeg) x3)) = 0 → vp_in x1 64 ∧ (((zI (tBit (T.2.2.1 29 x1.toNatClampNeg) x4)) = 0 → h_mixed_94 c x1 x2 x3 x4 T) ∧ (¬ (zI (tBit (T.2.2.1 29 x1.toNatClampNeg) x4)) = 0 → vp_in x3 24 ∧ (vp_in x4 24 ∧ (vp_in (24 * (T.2.2.1 24 x3.toNatClampNeg) + (T.2.2.1 24 x4.toNatClampNeg)) 576 ∧ (vp_in (24 * (tBy T (T.2.2.1 24 x3.toNatClampNeg) (T.2.2.1 24 x4.toNatClampNeg)) + x3) 576 ∧ (vp_in (24 * (tBy T (tBy T (T.2.2.1 24 x3.toNatClampNeg) (T.2.2.1 24 x4.toNatClampNeg)) x3) + x4) 576 ∧ (h_mixed_94 c x1 (x2 ||| ((1 : Int32) <<< ((tBy T (tBy T (tBy T (T.2.2.1 24 x3.toNatClampNeg) (T.2.2.1 24 x4.toNatClampNeg)) x3) x4) &&& 31))) x3 x4 T))))))))))) : h_mixed_25 c x1 x2 x3 x4 T := by
  intro ok
  refine e_iload dX6_mixed_25 rfl ?_
  refine e_aload_n dX6_mixed_27 rfl ?_
  refine t_getI dX6_mixed_28 fX6_20 q2516 (by decide) rfl ?_
  refine e_icmp_ge 100 dX6_mixed_31 (by decide) (fun g1 => ?_) (fun g1 => ?_)
  · replace H := H.1 g1
    refine e_iinc (x3 + 1) _ dX6_mixed_100 rfl rfl (by decide) rfl rfl ?_
    refine e_goto 14 dX6_mixed_103 (by decide) ?_
    exact E.less2 (H ok) (eS_s (eS_s (eS_s (eS_s (eS_n eS_0)))))
  · replace H := H.2 g1
    refine e_aload_n dX6_mixed_34 rfl ?_
    refine t_getA dX6_mixed_35 fX6_29 q2525 (by decide) rfl ?_
    refine e_iload_n dX6_mixed_38 rfl ?_
    obtain ⟨g2, H⟩ := H
    refine t_iald dX6_mixed_39 (by decide) rfl g2 ?_
    refine e_iload_n dX6_mixed_40 rfl ?_
    refine t_callS (As := [.int (T.2.2.1 29 x1.toNatClampNeg), .int x3]) ok (ct_holds (T.2.2.1 29 x1.toNatClampNeg) x3) dX6_mixed_41 wX6_holds q2447 q2448 rfl (by decide) rfl (Nat.le_of_ble_eq_true rfl) ?_
    refine e_if_eq 94 dX6_mixed_44 (by decide) (fun g3 => ?_) (fun g3 => ?_)
    · replace H := H.1 g3
      exact H ok
    · replace H := H.2 g3
      refine e_aload_n dX6_mixed_47 rfl ?_
      refine t_getA dX6_mixed_48 fX6_29 q2525 (by decide) rfl ?_
      refine e_iload_n dX6_mixed_51 rfl ?_
      obtain ⟨g4, H⟩ := H
      refine t_iald dX6_mixed_52 (by decide) rfl g4 ?_
      refine e_iload dX6_mixed_53 rfl ?_
      refine t_callS (As := [.int (T.2.2.1 29 x1.toNatClampNeg), .int x4]) ok (ct_holds (T.2.2.1 29 x1.toNatClampNeg) x4) dX6_mixed_55 wX6_holds q2447 q2448 rfl (by decide) rfl (Nat.le_of_ble_eq_true rfl) ?_
      refine e_if_eq 94 dX6_mixed_58 (by decide) (fun g5 => ?_) (fun g5 => ?_)
      · replace H := H.1 g5
        exact H ok
      · replace H := H.2 g5
        refine e_iload_n dX6_mixed_61 rfl ?_
        refine e_iconst (1) dX6_mixed_62 (by decide) ?_
        refine e_aload_n dX6_mixed_63 rfl ?_
        refine e_aload_n dX6_mixed_64 rfl ?_
        refine e_aload_n dX6_mixed_65 rfl ?_
        refine e_aload_n dX6_mixed_66 rfl ?_
        refine t_getA dX6_mixed_67 fX6_24 q2520 (by decide) rfl ?_
        refine e_iload_n dX6_mixed_70 rfl ?_
        obtain ⟨g6, H⟩ := H
        refine t_iald dX6_mixed_71 (by decide) rfl g6 ?_
        refine e_aload_n dX6_mixed_72 rfl ?_
        refine t_getA dX6_mixed_73 fX6_24 q2520 (by decide) rfl ?_
        refine e_iload dX6_mixed_76 rfl ?_
        obtain ⟨g7, H⟩ := H
        refine t_iald dX6_mixed_78 (by decide) rfl g7 ?_
        obtain ⟨g12, H⟩ := H
        refine t_callV (As := [.int (T.2.2.1 24 x3.toNatClampNeg), .int (T.2.2.1 24 x4.toNatClampNeg)]) ok (ct_by T (T.2.2.1 24 x3.toNatClampNeg) (T.2.2.1 24 x4.toNatClampNeg) g12) dX6_mixed_79 wX6_by q2454 q2456 qs62 rfl rfl (by decide) rfl (Nat.le_of_ble_eq_true rfl) (fun v8 T9 e11 => ?_)
        obtain ⟨r10, rfl, rfl, hT⟩ := e11
        rw [hT]
        refine e_iload_n dX6_mixed_82 rfl ?_
        obtain ⟨g17, H⟩ := H
        refine t_callV (As := [.int (tBy T (T.2.2.1 24 x3.toNatClampNeg) (T.2.2.1 24 x4.toNatClampNeg)), .int x3]) ok (ct_by T (tBy T (T.2.2.1 24 x3.toNatClampNeg) (T.2.2.1 24 x4.toNatClampNeg)) x3 g17) dX6_mixed_83 wX6_by q2454 q2456 qs62 rfl rfl (by decide) rfl (Nat.le_of_ble_eq_true rfl) (fun v13 T14 e16 => ?_)
        obtain ⟨r15, rfl, rfl, hT⟩ := e16
        rw [hT]
        refine e_iload dX6_mixed_86 rfl ?_
        obtain ⟨g22, H⟩ := H
        refine t_callV (As := [.int (tBy T (tBy T (T.2.2.1 24 x3.toNatClampNeg) (T.2.2.1 24 x4.toNatClampNeg)) x3), .int x4]) ok (ct_by T (tBy T (tBy T (T.2.2.1 24 x3.toNatClampNeg) (T.2.2.1 24 x4.toNatClampNeg)) x3) x4 g22) dX6_mixed_88 wX6_by q2454 q2456 qs62 rfl rfl (by decide) rfl (Nat.le_of_ble_eq_true rfl) (fun v18 T19 e21 => ?_)
        obtain ⟨r20, rfl, rfl, hT⟩ := e21
        rw [hT]
        refine e_ishl dX6_mixed_91 ?_
        refine e_ior dX6_mixed_92 ?_
        refine e_istore_n _ dX6_mixed_93 (by decide) rfl rfl ?_
        exact H ok

set_option maxHeartbeats 2000000 in
theorem s_mixed_94 (c : tC) (x1 : Int32) (x2 : Int32) (x3 : Int32) (x4 : Int32) (T : tS) (H : h_mixed_25 c x1 x2 x3 (x4 + 1) T) : h_mixed_94 c x1 x2 x3 x4 T := by
  intro ok
  refine e_iinc (x4 + 1) _ dX6_mixed_94 rfl rfl (by decide) rfl rfl ?_
  refine e_goto 25 dX6_mixed_97 (by decide) ?_
  exact H ok

theorem en_mixed (x1 : Int32) (T : tS) (Q : Option Value → tS → Prop) (H : ∀ c : tC, c.2.2.2.2.2.2 = Q → h_mixed_0 c x1 T) : tM mX6_mixed 2 (fun b => [.int x1]) T Q :=
  tM_mk (by decide) rfl (fun b => Nat.le_of_ble_eq_true rfl) (fun c hc ok => E.less2 (H c hc ok) (eS_s (eS_s (eS_n (eS_n (eS_n eS_0))))))
/-! centre (I)I level 2 -/
def h_centre_0 (c : tC) (x1 : Int32) (T : tS) : Prop := tX mX6_centre 2 c 0 [some (.ref c.2.2.2.1), some (.int x1), none, none, none, none] T
def h_centre_14 (c : tC) (x1 : Int32) (x2 : Int32) (x3 : Int32) (T : tS) : Prop := tX mX6_centre 2 c 14 [some (.ref c.2.2.2.1), some (.int x1), some (.int x2), some (.int x3), none, none] T
def h_centre_37 (c : tC) (x1 : Int32) (x2 : Int32) (x3 : Int32) (x4 : Int32) (x5 : Int32) (T : tS) : Prop := tX mX6_centre 2 c 37 [some (.ref c.2.2.2.1), some (.int x1), some (.int x2), some (.int x3), some (.int x4), some (.int x5)] T
def h_centre_82 (c : tC) (x1 : Int32) (x2 : Int32) (x3 : Int32) (x5 : Int32) (T : tS) : Prop := tX mX6_centre 2 c 82 [some (.ref c.2.2.2.1), some (.int x1), some (.int x2), some (.int x3), none, some (.int x5)] T
def h_centre_95 (c : tC) (x1 : Int32) (x2 : Int32) (x3 : Int32) (x4 : Int32) (T : tS) : Prop := tX mX6_centre 2 c 95 [some (.ref c.2.2.2.1), some (.int x1), some (.int x2), some (.int x3), some (.int x4), none] T
set_option maxHeartbeats 2000000 in
theorem s_centre_0 (c : tC) (x1 : Int32) (T : tS) (H : (¬ (zI (0 ≤ x1.toInt64 ∧ x1.toInt64 ≤ (T.1 26 - 1).toInt64)) = 0 → h_centre_14 c x1 (0 : Int32) (0 : Int32) T) ∧ ((zI (0 ≤ x1.toInt64 ∧ x1.toInt64 ≤ (T.1 26 - 1).toInt64)) = 0 → c.2.2.2.2.2.2 (some (.int (-1 : Int32))) T)) : h_centre_0 c x1 T := by
  intro ok
  refine e_aload_n dX6_centre_0 rfl ?_
  refine e_iload_n dX6_centre_1 rfl ?_
  refine t_callV (As := [.int x1]) ok (ct_isSort T x1) dX6_centre_2 wX6_isSort q2934 q2936 qs113 rfl rfl (by decide) rfl (Nat.le_of_ble_eq_true rfl) (fun v1 T2 e4 => ?_)
  obtain ⟨r3, rfl, rfl, hT⟩ := e4
  rw [hT]
  refine e_if_ne 10 dX6_centre_5 (by decide) (fun g5 => ?_) (fun g5 => ?_)
  · replace H := H.1 g5
    refine e_iconst (0) dX6_centre_10 (by decide) ?_
    refine e_istore_n _ dX6_centre_11 (by decide) rfl rfl ?_
    refine e_iconst (0) dX6_centre_12 (by decide) ?_
    refine e_istore_n _ dX6_centre_13 (by decide) rfl rfl ?_
    exact H ok
  · replace H := H.2 g5
    refine e_iconst (-1) dX6_centre_8 (by decide) ?_
    exact e_ireturn .int dX6_centre_9 rfl rfl ⟨_, _, rfl, rfl, H⟩

set_option maxHeartbeats 2000000 in
theorem s_centre_14 (c : tC) (x1 : Int32) (x2 : Int32) (x3 : Int32) (T : tS) (H : ((T.1 20) ≤ x3 → c.2.2.2.2.2.2 (some (.int x2)) T) ∧ (¬ (T.1 20) ≤ x3 → vp_in x1 64 ∧ (h_centre_37 c x1 x2 x3 (zI (tBit (T.2.2.1 29 x1.toNatClampNeg) x3)) (0 : Int32) T))) : h_centre_14 c x1 x2 x3 T := by
  intro ok
  refine e_iload_n dX6_centre_14 rfl ?_
  refine e_aload_n dX6_centre_15 rfl ?_
  refine t_getI dX6_centre_16 fX6_20 q2516 (by decide) rfl ?_
  refine e_icmp_ge 111 dX6_centre_19 (by decide) (fun g1 => ?_) (fun g1 => ?_)
  · replace H := H.1 g1
    refine e_iload_n dX6_centre_111 rfl ?_
    exact e_ireturn .int dX6_centre_112 rfl rfl ⟨_, _, rfl, rfl, H⟩
  · replace H := H.2 g1
    refine e_aload_n dX6_centre_22 rfl ?_
    refine t_getA dX6_centre_23 fX6_29 q2525 (by decide) rfl ?_
    refine e_iload_n dX6_centre_26 rfl ?_
    obtain ⟨g2, H⟩ := H
    refine t_iald dX6_centre_27 (by decide) rfl g2 ?_
    refine e_iload_n dX6_centre_28 rfl ?_
    refine t_callS (As := [.int (T.2.2.1 29 x1.toNatClampNeg), .int x3]) ok (ct_holds (T.2.2.1 29 x1.toNatClampNeg) x3) dX6_centre_29 wX6_holds q2447 q2448 rfl (by decide) rfl (Nat.le_of_ble_eq_true rfl) ?_
    refine e_istore _ dX6_centre_32 (by decide) rfl rfl ?_
    refine e_iconst (0) dX6_centre_34 (by decide) ?_
    refine e_istore _ dX6_centre_35 (by decide) rfl rfl ?_
    exact H ok

set_option maxHeartbeats 2000000 in
theorem s_centre_37 (c : tC) (x1 : Int32) (x2 : Int32) (x3 : Int32) (x4 : Int32) (x5 : Int32) (T : tS) (H : ((T.1 20) ≤ x5 → h_centre_95 c x1 x2 x3 x4 T) ∧ (¬ (T.1 20) ≤ x5 → (x4 = 0 → h_centre_95 c x1 x2 x3 x4 T) ∧ (¬ x4 = 0 → vp_in x1 64 ∧ (((zI (tBit (T.2.2.1 29 x1.toNatClampNeg) x5)) = 0 → h_centre_82 c x1 x2 x3 x5 T) ∧ (¬ (zI (tBit (T.2.2.1 29 x1.toNatClampNeg) x5)) = 0 → vp_in (24 * x3 + x5) 576 ∧ (vp_in (24 * x5 + x3) 576 ∧ ((¬ (tBy T x3 x5) = (tBy T x5 x3) → h_centre_37 c x1 x2 x3 (0 : Int32) (x5 + 1) T) ∧ ((tBy T x3 x5) = (tBy T x5 x3) → h_centre_82 c x1 x2 x3 x5 T)))))))) : h_centre_37 c x1 x2 x3 x4 x5 T := by
  intro ok
  refine e_iload dX6_centre_37 rfl ?_
  refine e_aload_n dX6_centre_39 rfl ?_
  refine t_getI dX6_centre_40 fX6_20 q2516 (by decide) rfl ?_
  refine e_icmp_ge 95 dX6_centre_43 (by decide) (fun g1 => ?_) (fun g1 => ?_)
  · replace H := H.1 g1
    exact E.less2 (H ok) (eS_s (eS_s (eS_s (eS_s (eS_s (eS_n eS_0))))))
  · replace H := H.2 g1
    refine e_iload dX6_centre_46 rfl ?_
    refine e_if_eq 95 dX6_centre_48 (by decide) (fun g2 => ?_) (fun g2 => ?_)
    · replace H := H.1 g2
      exact E.less2 (H ok) (eS_s (eS_s (eS_s (eS_s (eS_s (eS_n eS_0))))))
    · replace H := H.2 g2
      refine e_aload_n dX6_centre_51 rfl ?_
      refine t_getA dX6_centre_52 fX6_29 q2525 (by decide) rfl ?_
      refine e_iload_n dX6_centre_55 rfl ?_
      obtain ⟨g3, H⟩ := H
      refine t_iald dX6_centre_56 (by decide) rfl g3 ?_
      refine e_iload dX6_centre_57 rfl ?_
      refine t_callS (As := [.int (T.2.2.1 29 x1.toNatClampNeg), .int x5]) ok (ct_holds (T.2.2.1 29 x1.toNatClampNeg) x5) dX6_centre_59 wX6_holds q2447 q2448 rfl (by decide) rfl (Nat.le_of_ble_eq_true rfl) ?_
      refine e_if_eq 82 dX6_centre_62 (by decide) (fun g4 => ?_) (fun g4 => ?_)
      · replace H := H.1 g4
        exact E.less2 (H ok) (eS_s (eS_s (eS_s (eS_s (eS_n (eS_s eS_0))))))
      · replace H := H.2 g4
        refine e_aload_n dX6_centre_65 rfl ?_
        refine e_iload_n dX6_centre_66 rfl ?_
        refine e_iload dX6_centre_67 rfl ?_
        obtain ⟨g9, H⟩ := H
        refine t_callV (As := [.int x3, .int x5]) ok (ct_by T x3 x5 g9) dX6_centre_69 wX6_by q2454 q2456 qs62 rfl rfl (by decide) rfl (Nat.le_of_ble_eq_true rfl) (fun v5 T6 e8 => ?_)
        obtain ⟨r7, rfl, rfl, hT⟩ := e8
        rw [hT]
        refine e_aload_n dX6_centre_72 rfl ?_
        refine e_iload dX6_centre_73 rfl ?_
        refine e_iload_n dX6_centre_75 rfl ?_
        obtain ⟨g14, H⟩ := H
        refine t_callV (As := [.int x5, .int x3]) ok (ct_by T x5 x3 g14) dX6_centre_76 wX6_by q2454 q2456 qs62 rfl rfl (by decide) rfl (Nat.le_of_ble_eq_true rfl) (fun v10 T11 e13 => ?_)
        obtain ⟨r12, rfl, rfl, hT⟩ := e13
        rw [hT]
        refine e_icmp_ne 86 dX6_centre_79 (by decide) (fun g15 => ?_) (fun g15 => ?_)
        · replace H := H.1 g15
          refine e_iconst (0) dX6_centre_86 (by decide) ?_
          refine e_istore _ dX6_centre_87 (by decide) rfl rfl ?_
          refine e_iinc (x5 + 1) _ dX6_centre_89 rfl rfl (by decide) rfl rfl ?_
          refine e_goto 37 dX6_centre_92 (by decide) ?_
          exact H ok
        · replace H := H.2 g15
          exact E.less2 (H ok) (eS_s (eS_s (eS_s (eS_s (eS_n (eS_s eS_0))))))

set_option maxHeartbeats 2000000 in
theorem s_centre_82 (c : tC) (x1 : Int32) (x2 : Int32) (x3 : Int32) (x5 : Int32) (T : tS) (H : h_centre_37 c x1 x2 x3 (1 : Int32) (x5 + 1) T) : h_centre_82 c x1 x2 x3 x5 T := by
  intro ok
  refine e_iconst (1) dX6_centre_82 (by decide) ?_
  refine e_goto 87 dX6_centre_83 (by decide) ?_
  refine e_istore _ dX6_centre_87 (by decide) rfl rfl ?_
  refine e_iinc (x5 + 1) _ dX6_centre_89 rfl rfl (by decide) rfl rfl ?_
  refine e_goto 37 dX6_centre_92 (by decide) ?_
  exact H ok

set_option maxHeartbeats 2000000 in
theorem s_centre_95 (c : tC) (x1 : Int32) (x2 : Int32) (x3 : Int32) (x4 : Int32) (T : tS) (H : h_centre_14 c x1 (x2 ||| ((zI (¬ x4 = 0)) <<< (x3 &&& 31))) (x3 + 1) T) : h_centre_95 c x1 x2 x3 x4 T := by
  intro ok
  refine e_iload_n dX6_centre_95 rfl ?_
  refine e_iload dX6_centre_96 rfl ?_
  refine t_callS (As := [.int x4]) ok (ct_truth x4) dX6_centre_98 wX6_truth q2489 q2490 rfl (by decide) rfl (Nat.le_of_ble_eq_true rfl) ?_
  refine e_iload_n dX6_centre_101 rfl ?_
  refine e_ishl dX6_centre_102 ?_
  refine e_ior dX6_centre_103 ?_
  refine e_istore_n _ dX6_centre_104 (by decide) rfl rfl ?_
  refine e_iinc (x3 + 1) _ dX6_centre_105 rfl rfl (by decide) rfl rfl ?_
  refine e_goto 14 dX6_centre_108 (by decide) ?_
  exact E.less2 (H ok) (eS_s (eS_s (eS_s (eS_s (eS_n (eS_n eS_0))))))

theorem en_centre (x1 : Int32) (T : tS) (Q : Option Value → tS → Prop) (H : ∀ c : tC, c.2.2.2.2.2.2 = Q → h_centre_0 c x1 T) : tM mX6_centre 2 (fun b => [.int x1]) T Q :=
  tM_mk (by decide) rfl (fun b => Nat.le_of_ble_eq_true rfl) (fun c hc ok => E.less2 (H c hc ok) (eS_s (eS_s (eS_n (eS_n (eS_n (eS_n eS_0)))))))
/-! likes (I)I level 2 -/
def h_likes_0 (c : tC) (x1 : Int32) (T : tS) : Prop := tX mX6_likes 2 c 0 [some (.ref c.2.2.2.1), some (.int x1), none, none] T
def h_likes_14 (c : tC) (x1 : Int32) (x2 : Int32) (x3 : Int32) (T : tS) : Prop := tX mX6_likes 2 c 14 [some (.ref c.2.2.2.1), some (.int x1), some (.int x2), some (.int x3)] T
set_option maxHeartbeats 2000000 in
theorem s_likes_0 (c : tC) (x1 : Int32) (T : tS) (H : (¬ (zI (0 ≤ x1.toInt64 ∧ x1.toInt64 ≤ (T.1 20 - 1).toInt64)) = 0 → h_likes_14 c x1 (0 : Int32) (0 : Int32) T) ∧ ((zI (0 ≤ x1.toInt64 ∧ x1.toInt64 ≤ (T.1 20 - 1).toInt64)) = 0 → c.2.2.2.2.2.2 (some (.int (-1 : Int32))) T)) : h_likes_0 c x1 T := by
  intro ok
  refine e_aload_n dX6_likes_0 rfl ?_
  refine e_iload_n dX6_likes_1 rfl ?_
  refine t_callV (As := [.int x1]) ok (ct_isMember T x1) dX6_likes_2 wX6_isMember q2889 q2891 qs109 rfl rfl (by decide) rfl (Nat.le_of_ble_eq_true rfl) (fun v1 T2 e4 => ?_)
  obtain ⟨r3, rfl, rfl, hT⟩ := e4
  rw [hT]
  refine e_if_ne 10 dX6_likes_5 (by decide) (fun g5 => ?_) (fun g5 => ?_)
  · replace H := H.1 g5
    refine e_iconst (0) dX6_likes_10 (by decide) ?_
    refine e_istore_n _ dX6_likes_11 (by decide) rfl rfl ?_
    refine e_iconst (0) dX6_likes_12 (by decide) ?_
    refine e_istore_n _ dX6_likes_13 (by decide) rfl rfl ?_
    exact H ok
  · replace H := H.2 g5
    refine e_iconst (-1) dX6_likes_8 (by decide) ?_
    exact e_ireturn .int dX6_likes_9 rfl rfl ⟨_, _, rfl, rfl, H⟩

set_option maxHeartbeats 2000000 in
theorem s_likes_14 (c : tC) (x1 : Int32) (x2 : Int32) (x3 : Int32) (T : tS) (H : ((T.1 20) ≤ x3 → c.2.2.2.2.2.2 (some (.int (tOnes x2))) T) ∧ (¬ (T.1 20) ≤ x3 → vp_in x3 24 ∧ (vp_in (24 * (T.2.2.1 24 x3.toNatClampNeg) + x1) 576 ∧ (vp_in (24 * (tBy T (T.2.2.1 24 x3.toNatClampNeg) x1) + x3) 576 ∧ (h_likes_14 c x1 (x2 ||| ((1 : Int32) <<< ((tBy T (tBy T (T.2.2.1 24 x3.toNatClampNeg) x1) x3) &&& 31))) (x3 + 1) T))))) : h_likes_14 c x1 x2 x3 T := by
  intro ok
  refine e_iload_n dX6_likes_14 rfl ?_
  refine e_aload_n dX6_likes_15 rfl ?_
  refine t_getI dX6_likes_16 fX6_20 q2516 (by decide) rfl ?_
  refine e_icmp_ge 49 dX6_likes_19 (by decide) (fun g1 => ?_) (fun g1 => ?_)
  · replace H := H.1 g1
    refine e_iload_n dX6_likes_49 rfl ?_
    refine t_callS (As := [.int x2]) ok (ct_ones x2) dX6_likes_50 wX6_ones q2474 q2475 rfl (by decide) rfl (Nat.le_of_ble_eq_true rfl) ?_
    exact e_ireturn .int dX6_likes_53 rfl rfl ⟨_, _, rfl, rfl, H⟩
  · replace H := H.2 g1
    refine e_iload_n dX6_likes_22 rfl ?_
    refine e_iconst (1) dX6_likes_23 (by decide) ?_
    refine e_aload_n dX6_likes_24 rfl ?_
    refine e_aload_n dX6_likes_25 rfl ?_
    refine e_aload_n dX6_likes_26 rfl ?_
    refine t_getA dX6_likes_27 fX6_24 q2520 (by decide) rfl ?_
    refine e_iload_n dX6_likes_30 rfl ?_
    obtain ⟨g2, H⟩ := H
    refine t_iald dX6_likes_31 (by decide) rfl g2 ?_
    refine e_iload_n dX6_likes_32 rfl ?_
    obtain ⟨g7, H⟩ := H
    refine t_callV (As := [.int (T.2.2.1 24 x3.toNatClampNeg), .int x1]) ok (ct_by T (T.2.2.1 24 x3.toNatClampNeg) x1 g7) dX6_likes_33 wX6_by q2454 q2456 qs62 rfl rfl (by decide) rfl (Nat.le_of_ble_eq_true rfl) (fun v3 T4 e6 => ?_)
    obtain ⟨r5, rfl, rfl, hT⟩ := e6
    rw [hT]
    refine e_iload_n dX6_likes_36 rfl ?_
    obtain ⟨g12, H⟩ := H
    refine t_callV (As := [.int (tBy T (T.2.2.1 24 x3.toNatClampNeg) x1), .int x3]) ok (ct_by T (tBy T (T.2.2.1 24 x3.toNatClampNeg) x1) x3 g12) dX6_likes_37 wX6_by q2454 q2456 qs62 rfl rfl (by decide) rfl (Nat.le_of_ble_eq_true rfl) (fun v8 T9 e11 => ?_)
    obtain ⟨r10, rfl, rfl, hT⟩ := e11
    rw [hT]
    refine e_ishl dX6_likes_40 ?_
    refine e_ior dX6_likes_41 ?_
    refine e_istore_n _ dX6_likes_42 (by decide) rfl rfl ?_
    refine e_iinc (x3 + 1) _ dX6_likes_43 rfl rfl (by decide) rfl rfl ?_
    refine e_goto 14 dX6_likes_46 (by decide) ?_
    exact H ok

theorem en_likes (x1 : Int32) (T : tS) (Q : Option Value → tS → Prop) (H : ∀ c : tC, c.2.2.2.2.2.2 = Q → h_likes_0 c x1 T) : tM mX6_likes 2 (fun b => [.int x1]) T Q :=
  tM_mk (by decide) rfl (fun b => Nat.le_of_ble_eq_true rfl) (fun c hc ok => E.less2 (H c hc ok) (eS_s (eS_s (eS_n (eS_n eS_0)))))
