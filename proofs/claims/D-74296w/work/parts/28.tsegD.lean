/-! moveLine ()V level 3 -/
def h_moveLine_0 (c : tC) (T : tS) : Prop := tX mX6_moveLine 3 c 0 [some (.ref c.2.2.2.1), none, none, none, none] T
def h_moveLine_18 (c : tC) (x1 : Int32) (T : tS) : Prop := tX mX6_moveLine 3 c 18 [some (.ref c.2.2.2.1), some (.int x1), none, none, none] T
def h_moveLine_29 (c : tC) (x1 : Int32) (T : tS) : Prop := tX mX6_moveLine 3 c 29 [some (.ref c.2.2.2.1), some (.int x1), none, none, none] T
def h_moveLine_33 (c : tC) (x1 : Int32) (x2 : Int32) (x3 : Int32) (T : tS) : Prop := tX mX6_moveLine 3 c 33 [some (.ref c.2.2.2.1), some (.int x1), some (.int x2), some (.int x3), none] T
def h_moveLine_61 (c : tC) (x1 : Int32) (x2 : Int32) (x3 : Int32) (T : tS) : Prop := tX mX6_moveLine 3 c 61 [some (.ref c.2.2.2.1), some (.int x1), some (.int x2), some (.int x3), none] T
def h_moveLine_92 (c : tC) (x1 : Int32) (x2 : Int32) (x3 : Int32) (x4 : Int32) (T : tS) : Prop := tX mX6_moveLine 3 c 92 [some (.ref c.2.2.2.1), some (.int x1), some (.int x2), some (.int x3), some (.int x4)] T
def h_moveLine_97 (c : tC) (x1 : Int32) (x2 : Int32) (x3 : Int32) (x4 : Int32) (T : tS) : Prop := tX mX6_moveLine 3 c 97 [some (.ref c.2.2.2.1), some (.int x1), some (.int x2), some (.int x3), some (.int x4)] T
def h_moveLine_138 (c : tC) (x1 : Int32) (T : tS) : Prop := tX mX6_moveLine 3 c 138 [some (.ref c.2.2.2.1), some (.int x1), none, none, none] T
set_option maxHeartbeats 2000000 in
theorem s_moveLine_0 (c : tC) (T : tS) (H : (¬ (T.1 13) = (4 : Int32) → h_moveLine_18 c (T.1 4) T) ∧ ((T.1 13) = (4 : Int32) → ∃ Q2 : tS → Prop, tMv mX6_wrong 1 (fun b => [.int (5 : Int32)]) T Q2 ∧ ∀ T5 : tS, Q2 T5 → h_moveLine_18 c (T.1 4) T5)) : h_moveLine_0 c T := by
  intro ok
  refine e_aload_n dX6_moveLine_0 rfl ?_
  refine t_getI dX6_moveLine_1 fX6_4 q2500 (by decide) rfl ?_
  refine e_istore_n _ dX6_moveLine_4 (by decide) rfl rfl ?_
  refine e_aload_n dX6_moveLine_5 rfl ?_
  refine t_getI dX6_moveLine_6 fX6_13 q2509 (by decide) rfl ?_
  refine e_iconst (4) dX6_moveLine_9 (by decide) ?_
  refine e_icmp_ne 18 dX6_moveLine_10 (by decide) (fun g1 => ?_) (fun g1 => ?_)
  · replace H := H.1 g1
    exact H ok
  · replace H := H.2 g1
    refine e_aload_n dX6_moveLine_13 rfl ?_
    refine e_iconst (5) dX6_moveLine_14 (by decide) ?_
    obtain ⟨Q2, hC3, H⟩ := H
    refine t_callV (As := [.int (5 : Int32)]) ok hC3 dX6_moveLine_15 wX6_wrong q2744 q2746 qs77 rfl rfl (by decide) rfl (Nat.le_of_ble_eq_true rfl) (fun v4 T5 e6 => ?_)
    obtain ⟨rfl, e6⟩ := e6
    replace H := H T5 e6
    exact H ok

set_option maxHeartbeats 2000000 in
theorem s_moveLine_18 (c : tC) (x1 : Int32) (T : tS) (H : ((zI (T.1 7 = 0)) = 0 → h_moveLine_29 c x1 T) ∧ (¬ (zI (T.1 7 = 0)) = 0 → ∃ Q6 : tS → Prop, tMv mX6_goOn 1 (fun b => []) T Q6 ∧ ∀ T9 : tS, Q6 T9 → h_moveLine_29 c x1 T9)) : h_moveLine_18 c x1 T := by
  intro ok
  refine e_aload_n dX6_moveLine_18 rfl ?_
  refine t_callV (As := []) ok (ct_isGood T ) dX6_moveLine_19 wX6_isGood q2752 q2754 qs79 rfl rfl (by decide) rfl (Nat.le_of_ble_eq_true rfl) (fun v1 T2 e4 => ?_)
  obtain ⟨r3, rfl, rfl, hT⟩ := e4
  rw [hT]
  refine e_if_eq 29 dX6_moveLine_22 (by decide) (fun g5 => ?_) (fun g5 => ?_)
  · replace H := H.1 g5
    exact H ok
  · replace H := H.2 g5
    refine e_aload_n dX6_moveLine_25 rfl ?_
    obtain ⟨Q6, hC7, H⟩ := H
    refine t_callV (As := []) ok hC7 dX6_moveLine_26 wX6_goOn q2718 q2720 qs73 rfl rfl (by decide) rfl (Nat.le_of_ble_eq_true rfl) (fun v8 T9 e10 => ?_)
    obtain ⟨rfl, e10⟩ := e10
    replace H := H T9 e10
    exact H ok

set_option maxHeartbeats 2000000 in
theorem s_moveLine_29 (c : tC) (x1 : Int32) (T : tS) (H : h_moveLine_33 c x1 (0 : Int32) (0 : Int32) T) : h_moveLine_29 c x1 T := by
  intro ok
  refine e_iconst (0) dX6_moveLine_29 (by decide) ?_
  refine e_istore_n _ dX6_moveLine_30 (by decide) rfl rfl ?_
  refine e_iconst (0) dX6_moveLine_31 (by decide) ?_
  refine e_istore_n _ dX6_moveLine_32 (by decide) rfl rfl ?_
  exact H ok

set_option maxHeartbeats 2000000 in
theorem s_moveLine_33 (c : tC) (x1 : Int32) (x2 : Int32) (x3 : Int32) (T : tS) (H : ((T.1 12) ≤ x3 → h_moveLine_138 c x1 T) ∧ (¬ (T.1 12) ≤ x3 → ((zI (T.1 7 = 0)) = 0 → h_moveLine_138 c x1 T) ∧ (¬ (zI (T.1 7 = 0)) = 0 → ((T.1 5) = (2 : Int32) → h_moveLine_61 c x1 x2 x3 T) ∧ (¬ (T.1 5) = (2 : Int32) → ∃ Q8 : tS → Prop, tMv mX6_wrong 1 (fun b => [.int (2 : Int32)]) T Q8 ∧ ∀ T11 : tS, Q8 T11 → h_moveLine_61 c x1 x2 x3 T11)))) : h_moveLine_33 c x1 x2 x3 T := by
  intro ok
  refine e_iload_n dX6_moveLine_33 rfl ?_
  refine e_aload_n dX6_moveLine_34 rfl ?_
  refine t_getI dX6_moveLine_35 fX6_12 q2508 (by decide) rfl ?_
  refine e_icmp_ge 138 dX6_moveLine_38 (by decide) (fun g1 => ?_) (fun g1 => ?_)
  · replace H := H.1 g1
    exact E.less2 (H ok) (eS_s (eS_s (eS_n (eS_n (eS_n eS_0)))))
  · replace H := H.2 g1
    refine e_aload_n dX6_moveLine_41 rfl ?_
    refine t_callV (As := []) ok (ct_isGood T ) dX6_moveLine_42 wX6_isGood q2752 q2754 qs79 rfl rfl (by decide) rfl (Nat.le_of_ble_eq_true rfl) (fun v2 T3 e5 => ?_)
    obtain ⟨r4, rfl, rfl, hT⟩ := e5
    rw [hT]
    refine e_if_eq 138 dX6_moveLine_45 (by decide) (fun g6 => ?_) (fun g6 => ?_)
    · replace H := H.1 g6
      exact E.less2 (H ok) (eS_s (eS_s (eS_n (eS_n (eS_n eS_0)))))
    · replace H := H.2 g6
      refine e_aload_n dX6_moveLine_48 rfl ?_
      refine t_getI dX6_moveLine_49 fX6_5 q2501 (by decide) rfl ?_
      refine e_iconst (2) dX6_moveLine_52 (by decide) ?_
      refine e_icmp_eq 61 dX6_moveLine_53 (by decide) (fun g7 => ?_) (fun g7 => ?_)
      · replace H := H.1 g7
        exact H ok
      · replace H := H.2 g7
        refine e_aload_n dX6_moveLine_56 rfl ?_
        refine e_iconst (2) dX6_moveLine_57 (by decide) ?_
        obtain ⟨Q8, hC9, H⟩ := H
        refine t_callV (As := [.int (2 : Int32)]) ok hC9 dX6_moveLine_58 wX6_wrong q2744 q2746 qs77 rfl rfl (by decide) rfl (Nat.le_of_ble_eq_true rfl) (fun v10 T11 e12 => ?_)
        obtain ⟨rfl, e12⟩ := e12
        replace H := H T11 e12
        exact H ok

set_option maxHeartbeats 2000000 in
theorem s_moveLine_61 (c : tC) (x1 : Int32) (x2 : Int32) (x3 : Int32) (T : tS) (H : ((zI (T.1 7 = 0)) = 0 → h_moveLine_97 c x1 x2 x3 (T.1 6) T) ∧ (¬ (zI (T.1 7 = 0)) = 0 → ((T.1 12) ≤ (T.1 6) → h_moveLine_92 c x1 x2 x3 (T.1 6) T) ∧ (¬ (T.1 12) ≤ (T.1 6) → ((zI (tBit x2 (T.1 6))) = 0 → h_moveLine_97 c x1 x2 x3 (T.1 6) T) ∧ (¬ (zI (tBit x2 (T.1 6))) = 0 → h_moveLine_92 c x1 x2 x3 (T.1 6) T)))) : h_moveLine_61 c x1 x2 x3 T := by
  intro ok
  refine e_aload_n dX6_moveLine_61 rfl ?_
  refine t_getI dX6_moveLine_62 fX6_6 q2502 (by decide) rfl ?_
  refine e_istore _ dX6_moveLine_65 (by decide) rfl rfl ?_
  refine e_aload_n dX6_moveLine_67 rfl ?_
  refine t_callV (As := []) ok (ct_isGood T ) dX6_moveLine_68 wX6_isGood q2752 q2754 qs79 rfl rfl (by decide) rfl (Nat.le_of_ble_eq_true rfl) (fun v1 T2 e4 => ?_)
  obtain ⟨r3, rfl, rfl, hT⟩ := e4
  rw [hT]
  refine e_if_eq 97 dX6_moveLine_71 (by decide) (fun g5 => ?_) (fun g5 => ?_)
  · replace H := H.1 g5
    exact H ok
  · replace H := H.2 g5
    refine e_iload dX6_moveLine_74 rfl ?_
    refine e_aload_n dX6_moveLine_76 rfl ?_
    refine t_getI dX6_moveLine_77 fX6_12 q2508 (by decide) rfl ?_
    refine e_icmp_ge 92 dX6_moveLine_80 (by decide) (fun g6 => ?_) (fun g6 => ?_)
    · replace H := H.1 g6
      exact H ok
    · replace H := H.2 g6
      refine e_iload_n dX6_moveLine_83 rfl ?_
      refine e_iload dX6_moveLine_84 rfl ?_
      refine t_callS (As := [.int x2, .int (T.1 6)]) ok (ct_holds x2 (T.1 6)) dX6_moveLine_86 wX6_holds q2447 q2448 rfl (by decide) rfl (Nat.le_of_ble_eq_true rfl) ?_
      refine e_if_eq 97 dX6_moveLine_89 (by decide) (fun g7 => ?_) (fun g7 => ?_)
      · replace H := H.1 g7
        exact H ok
      · replace H := H.2 g7
        exact H ok

set_option maxHeartbeats 2000000 in
theorem s_moveLine_92 (c : tC) (x1 : Int32) (x2 : Int32) (x3 : Int32) (x4 : Int32) (T : tS) (H : ∃ Q1 : tS → Prop, tMv mX6_wrong 1 (fun b => [.int (4 : Int32)]) T Q1 ∧ ∀ T4 : tS, Q1 T4 → h_moveLine_97 c x1 x2 x3 x4 T4) : h_moveLine_92 c x1 x2 x3 x4 T := by
  intro ok
  refine e_aload_n dX6_moveLine_92 rfl ?_
  refine e_iconst (4) dX6_moveLine_93 (by decide) ?_
  obtain ⟨Q1, hC2, H⟩ := H
  refine t_callV (As := [.int (4 : Int32)]) ok hC2 dX6_moveLine_94 wX6_wrong q2744 q2746 qs77 rfl rfl (by decide) rfl (Nat.le_of_ble_eq_true rfl) (fun v3 T4 e5 => ?_)
  obtain ⟨rfl, e5⟩ := e5
  replace H := H T4 e5
  exact H ok

set_option maxHeartbeats 2000000 in
theorem s_moveLine_97 (c : tC) (x1 : Int32) (x2 : Int32) (x3 : Int32) (x4 : Int32) (T : tS) (H : ((T.1 7) ≤ 0 → vp_in (((6 : Int32) * (T.1 13)) + x3) 24 ∧ (∃ Q3 : tS → Prop, tMv mX6_goOn 1 (fun b => []) (tA T 15 (va_up (T.2.2.1 15) (((6 : Int32) * (T.1 13)) + x3).toNatClampNeg x4)) Q3 ∧ ∀ T6 : tS, Q3 T6 → h_moveLine_33 c x1 (x2 ||| ((1 : Int32) <<< (x4 &&& 31))) (x3 + 1) T6)) ∧ (¬ (T.1 7) ≤ 0 → c.2.2.2.2.2.2 none T)) : h_moveLine_97 c x1 x2 x3 x4 T := by
  intro ok
  refine e_aload_n dX6_moveLine_97 rfl ?_
  refine t_getI dX6_moveLine_98 fX6_7 q2503 (by decide) rfl ?_
  refine e_if_le 105 dX6_moveLine_101 (by decide) (fun g1 => ?_) (fun g1 => ?_)
  · replace H := H.1 g1
    refine e_iload_n dX6_moveLine_105 rfl ?_
    refine e_iconst (1) dX6_moveLine_106 (by decide) ?_
    refine e_iload dX6_moveLine_107 rfl ?_
    refine e_ishl dX6_moveLine_109 ?_
    refine e_ior dX6_moveLine_110 ?_
    refine e_istore_n _ dX6_moveLine_111 (by decide) rfl rfl ?_
    refine e_aload_n dX6_moveLine_112 rfl ?_
    refine t_getA dX6_moveLine_113 fX6_15 q2511 (by decide) rfl ?_
    refine e_bipush (6) dX6_moveLine_116 (by decide) ?_
    refine e_aload_n dX6_moveLine_118 rfl ?_
    refine t_getI dX6_moveLine_119 fX6_13 q2509 (by decide) rfl ?_
    refine e_imul dX6_moveLine_122 ?_
    refine e_iload_n dX6_moveLine_123 rfl ?_
    refine e_iadd dX6_moveLine_124 ?_
    refine e_iload dX6_moveLine_125 rfl ?_
    obtain ⟨g2, H⟩ := H
    refine t_iast dX6_moveLine_127 (by decide) rfl ok.1 g2 ?_
    refine e_aload_n dX6_moveLine_128 rfl ?_
    obtain ⟨Q3, hC4, H⟩ := H
    refine t_callV (As := []) ok hC4 dX6_moveLine_129 wX6_goOn q2718 q2720 qs73 rfl rfl (by decide) rfl (Nat.le_of_ble_eq_true rfl) (fun v5 T6 e7 => ?_)
    obtain ⟨rfl, e7⟩ := e7
    replace H := H T6 e7
    refine e_iinc (x3 + 1) _ dX6_moveLine_132 rfl rfl (by decide) rfl rfl ?_
    refine e_goto 33 dX6_moveLine_135 (by decide) ?_
    exact E.less2 (H ok) (eS_s (eS_s (eS_s (eS_s (eS_n eS_0)))))
  · replace H := H.2 g1
    exact e_return dX6_moveLine_104 rfl ⟨_, _, rfl, rfl, H⟩

set_option maxHeartbeats 2000000 in
theorem s_moveLine_138 (c : tC) (x1 : Int32) (T : tS) (H : ∃ Q1 : tS → Prop, tMv mX6_must 2 (fun b => [.int (59 : Int32)]) T Q1 ∧ ∀ T4 : tS, Q1 T4 → ((T4.1 7) ≤ 0 → ∃ Q8 : Int32 → tS → Prop, tMi mX6_buildsMembers 1 (fun b => []) (tI T4 13 ((T4.1 13) + (1 : Int32))) Q8 ∧ ∀ (r13 : Int32) (T11 : tS), Q8 r13 T11 → (¬ r13 = 0 → c.2.2.2.2.2.2 none T11) ∧ (r13 = 0 → ∃ Q15 : tS → Prop, tMv mX6_wrongAt 0 (fun b => [.int (5 : Int32), .int x1]) T11 Q15 ∧ ∀ T18 : tS, Q15 T18 → c.2.2.2.2.2.2 none T18)) ∧ (¬ (T4.1 7) ≤ 0 → c.2.2.2.2.2.2 none T4)) : h_moveLine_138 c x1 T := by
  intro ok
  refine e_aload_n dX6_moveLine_138 rfl ?_
  refine e_bipush (59) dX6_moveLine_139 (by decide) ?_
  obtain ⟨Q1, hC2, H⟩ := H
  refine t_callV (As := [.int (59 : Int32)]) ok hC2 dX6_moveLine_141 wX6_must q2760 q2762 qs81 rfl rfl (by decide) rfl (Nat.le_of_ble_eq_true rfl) (fun v3 T4 e5 => ?_)
  obtain ⟨rfl, e5⟩ := e5
  replace H := H T4 e5
  refine e_aload_n dX6_moveLine_144 rfl ?_
  refine t_getI dX6_moveLine_145 fX6_7 q2503 (by decide) rfl ?_
  refine e_if_le 152 dX6_moveLine_148 (by decide) (fun g7 => ?_) (fun g7 => ?_)
  · replace H := H.1 g7
    refine e_aload_n dX6_moveLine_152 rfl ?_
    refine e_dup dX6_moveLine_153 rfl ?_
    refine t_getI dX6_moveLine_154 fX6_13 q2509 (by decide) rfl ?_
    refine e_iconst (1) dX6_moveLine_157 (by decide) ?_
    refine e_iadd dX6_moveLine_158 ?_
    refine t_putI dX6_moveLine_159 fX6_13 q2509 (eFit_i _) (by decide) rfl ok.1 ?_
    refine e_aload_n dX6_moveLine_162 rfl ?_
    obtain ⟨Q8, hC9, H⟩ := H
    refine t_callV (As := []) ok hC9 dX6_moveLine_163 wX6_buildsMembers q2431 q2433 qs57 rfl rfl (by decide) rfl (Nat.le_of_ble_eq_true rfl) (fun v10 T11 e12 => ?_)
    obtain ⟨r13, rfl, e12⟩ := e12
    replace H := H r13 T11 e12
    refine e_if_ne 175 dX6_moveLine_166 (by decide) (fun g14 => ?_) (fun g14 => ?_)
    · replace H := H.1 g14
      exact e_return dX6_moveLine_175 rfl ⟨_, _, rfl, rfl, H⟩
    · replace H := H.2 g14
      refine e_aload_n dX6_moveLine_169 rfl ?_
      refine e_iconst (5) dX6_moveLine_170 (by decide) ?_
      refine e_iload_n dX6_moveLine_171 rfl ?_
      obtain ⟨Q15, hC16, H⟩ := H
      refine t_callV (As := [.int (5 : Int32), .int x1]) ok hC16 dX6_moveLine_172 wX6_wrongAt q2748 q2750 qs78 rfl rfl (by decide) rfl (Nat.le_of_ble_eq_true rfl) (fun v17 T18 e19 => ?_)
      obtain ⟨rfl, e19⟩ := e19
      replace H := H T18 e19
      exact e_return dX6_moveLine_175 rfl ⟨_, _, rfl, rfl, H⟩
  · replace H := H.2 g7
    exact e_return dX6_moveLine_151 rfl ⟨_, _, rfl, rfl, H⟩

theorem en_moveLine (T : tS) (Q : Option Value → tS → Prop) (H : ∀ c : tC, c.2.2.2.2.2.2 = Q → h_moveLine_0 c T) : tM mX6_moveLine 3 (fun b => []) T Q :=
  tM_mk (by decide) rfl (fun b => Nat.le_of_ble_eq_true rfl) (fun c hc ok => E.less2 (H c hc ok) (eS_s (eS_n (eS_n (eS_n (eS_n eS_0))))))
/-! letLine ()V level 8 -/
def h_letLine_0 (c : tC) (T : tS) : Prop := tX mX6_letLine 8 c 0 [some (.ref c.2.2.2.1), none, none, none, none] T
def h_letLine_19 (c : tC) (x1 : Int32) (T : tS) : Prop := tX mX6_letLine 8 c 19 [some (.ref c.2.2.2.1), some (.int x1), none, none, none] T
def h_letLine_30 (c : tC) (x1 : Int32) (T : tS) : Prop := tX mX6_letLine 8 c 30 [some (.ref c.2.2.2.1), some (.int x1), none, none, none] T
def h_letLine_49 (c : tC) (x1 : Int32) (T : tS) : Prop := tX mX6_letLine 8 c 49 [some (.ref c.2.2.2.1), some (.int x1), none, none, none] T
def h_letLine_69 (c : tC) (x1 : Int32) (T : tS) : Prop := tX mX6_letLine 8 c 69 [some (.ref c.2.2.2.1), some (.int x1), none, none, none] T
def h_letLine_123 (c : tC) (x2 : Int64) (T : tS) : Prop := tX mX6_letLine 8 c 123 [some (.ref c.2.2.2.1), none, some (.long x2), none, none] T
def h_letLine_144 (c : tC) (x4 : Int32) (T : tS) : Prop := tX mX6_letLine 8 c 144 [some (.ref c.2.2.2.1), none, none, none, some (.int x4)] T
set_option maxHeartbeats 2000000 in
theorem s_letLine_0 (c : tC) (T : tS) (H : (¬ (T.1 14) = (8 : Int32) → h_letLine_19 c (T.1 4) T) ∧ ((T.1 14) = (8 : Int32) → ∃ Q2 : tS → Prop, tMv mX6_wrong 1 (fun b => [.int (5 : Int32)]) T Q2 ∧ ∀ T5 : tS, Q2 T5 → h_letLine_19 c (T.1 4) T5)) : h_letLine_0 c T := by
  intro ok
  refine e_aload_n dX6_letLine_0 rfl ?_
  refine t_getI dX6_letLine_1 fX6_4 q2500 (by decide) rfl ?_
  refine e_istore_n _ dX6_letLine_4 (by decide) rfl rfl ?_
  refine e_aload_n dX6_letLine_5 rfl ?_
  refine t_getI dX6_letLine_6 fX6_14 q2510 (by decide) rfl ?_
  refine e_bipush (8) dX6_letLine_9 (by decide) ?_
  refine e_icmp_ne 19 dX6_letLine_11 (by decide) (fun g1 => ?_) (fun g1 => ?_)
  · replace H := H.1 g1
    exact H ok
  · replace H := H.2 g1
    refine e_aload_n dX6_letLine_14 rfl ?_
    refine e_iconst (5) dX6_letLine_15 (by decide) ?_
    obtain ⟨Q2, hC3, H⟩ := H
    refine t_callV (As := [.int (5 : Int32)]) ok hC3 dX6_letLine_16 wX6_wrong q2744 q2746 qs77 rfl rfl (by decide) rfl (Nat.le_of_ble_eq_true rfl) (fun v4 T5 e6 => ?_)
    obtain ⟨rfl, e6⟩ := e6
    replace H := H T5 e6
    exact H ok

set_option maxHeartbeats 2000000 in
theorem s_letLine_19 (c : tC) (x1 : Int32) (T : tS) (H : ((zI (T.1 7 = 0)) = 0 → h_letLine_30 c x1 T) ∧ (¬ (zI (T.1 7 = 0)) = 0 → ∃ Q6 : tS → Prop, tMv mX6_goOn 1 (fun b => []) T Q6 ∧ ∀ T9 : tS, Q6 T9 → h_letLine_30 c x1 T9)) : h_letLine_19 c x1 T := by
  intro ok
  refine e_aload_n dX6_letLine_19 rfl ?_
  refine t_callV (As := []) ok (ct_isGood T ) dX6_letLine_20 wX6_isGood q2752 q2754 qs79 rfl rfl (by decide) rfl (Nat.le_of_ble_eq_true rfl) (fun v1 T2 e4 => ?_)
  obtain ⟨r3, rfl, rfl, hT⟩ := e4
  rw [hT]
  refine e_if_eq 30 dX6_letLine_23 (by decide) (fun g5 => ?_) (fun g5 => ?_)
  · replace H := H.1 g5
    exact H ok
  · replace H := H.2 g5
    refine e_aload_n dX6_letLine_26 rfl ?_
    obtain ⟨Q6, hC7, H⟩ := H
    refine t_callV (As := []) ok hC7 dX6_letLine_27 wX6_goOn q2718 q2720 qs73 rfl rfl (by decide) rfl (Nat.le_of_ble_eq_true rfl) (fun v8 T9 e10 => ?_)
    obtain ⟨rfl, e10⟩ := e10
    replace H := H T9 e10
    exact H ok

set_option maxHeartbeats 2000000 in
theorem s_letLine_30 (c : tC) (x1 : Int32) (T : tS) (H : ((zI (T.1 7 = 0)) = 0 → h_letLine_49 c x1 T) ∧ (¬ (zI (T.1 7 = 0)) = 0 → (¬ (zI (tName T)) = 0 → h_letLine_49 c x1 T) ∧ ((zI (tName T)) = 0 → ∃ Q11 : tS → Prop, tMv mX6_wrong 1 (fun b => [.int (2 : Int32)]) T Q11 ∧ ∀ T14 : tS, Q11 T14 → h_letLine_49 c x1 T14))) : h_letLine_30 c x1 T := by
  intro ok
  refine e_aload_n dX6_letLine_30 rfl ?_
  refine t_callV (As := []) ok (ct_isGood T ) dX6_letLine_31 wX6_isGood q2752 q2754 qs79 rfl rfl (by decide) rfl (Nat.le_of_ble_eq_true rfl) (fun v1 T2 e4 => ?_)
  obtain ⟨r3, rfl, rfl, hT⟩ := e4
  rw [hT]
  refine e_if_eq 49 dX6_letLine_34 (by decide) (fun g5 => ?_) (fun g5 => ?_)
  · replace H := H.1 g5
    exact H ok
  · replace H := H.2 g5
    refine e_aload_n dX6_letLine_37 rfl ?_
    refine t_callV (As := []) ok (ct_isName T ) dX6_letLine_38 wX6_isName q2778 q2780 qs85 rfl rfl (by decide) rfl (Nat.le_of_ble_eq_true rfl) (fun v6 T7 e9 => ?_)
    obtain ⟨r8, rfl, rfl, hT⟩ := e9
    rw [hT]
    refine e_if_ne 49 dX6_letLine_41 (by decide) (fun g10 => ?_) (fun g10 => ?_)
    · replace H := H.1 g10
      exact H ok
    · replace H := H.2 g10
      refine e_aload_n dX6_letLine_44 rfl ?_
      refine e_iconst (2) dX6_letLine_45 (by decide) ?_
      obtain ⟨Q11, hC12, H⟩ := H
      refine t_callV (As := [.int (2 : Int32)]) ok hC12 dX6_letLine_46 wX6_wrong q2744 q2746 qs77 rfl rfl (by decide) rfl (Nat.le_of_ble_eq_true rfl) (fun v13 T14 e15 => ?_)
      obtain ⟨rfl, e15⟩ := e15
      replace H := H T14 e15
      exact H ok

set_option maxHeartbeats 2000000 in
theorem s_letLine_49 (c : tC) (x1 : Int32) (T : tS) (H : ((zI (T.1 7 = 0)) = 0 → h_letLine_69 c x1 T) ∧ (¬ (zI (T.1 7 = 0)) = 0 → ∃ Q6 : Int32 → tS → Prop, tMi mX6_nameAt 0 (fun b => []) T Q6 ∧ ∀ (r11 : Int32) (T9 : tS), Q6 r11 T9 → (r11 = (-1 : Int32) → h_letLine_69 c x1 T9) ∧ (¬ r11 = (-1 : Int32) → ∃ Q13 : tS → Prop, tMv mX6_wrong 1 (fun b => [.int (3 : Int32)]) T9 Q13 ∧ ∀ T16 : tS, Q13 T16 → h_letLine_69 c x1 T16))) : h_letLine_49 c x1 T := by
  intro ok
  refine e_aload_n dX6_letLine_49 rfl ?_
  refine t_callV (As := []) ok (ct_isGood T ) dX6_letLine_50 wX6_isGood q2752 q2754 qs79 rfl rfl (by decide) rfl (Nat.le_of_ble_eq_true rfl) (fun v1 T2 e4 => ?_)
  obtain ⟨r3, rfl, rfl, hT⟩ := e4
  rw [hT]
  refine e_if_eq 69 dX6_letLine_53 (by decide) (fun g5 => ?_) (fun g5 => ?_)
  · replace H := H.1 g5
    exact H ok
  · replace H := H.2 g5
    refine e_aload_n dX6_letLine_56 rfl ?_
    obtain ⟨Q6, hC7, H⟩ := H
    refine t_callV (As := []) ok hC7 dX6_letLine_57 wX6_nameAt q2783 q2785 qs86 rfl rfl (by decide) rfl (Nat.le_of_ble_eq_true rfl) (fun v8 T9 e10 => ?_)
    obtain ⟨r11, rfl, e10⟩ := e10
    replace H := H r11 T9 e10
    refine e_iconst (-1) dX6_letLine_60 (by decide) ?_
    refine e_icmp_eq 69 dX6_letLine_61 (by decide) (fun g12 => ?_) (fun g12 => ?_)
    · replace H := H.1 g12
      exact H ok
    · replace H := H.2 g12
      refine e_aload_n dX6_letLine_64 rfl ?_
      refine e_iconst (3) dX6_letLine_65 (by decide) ?_
      obtain ⟨Q13, hC14, H⟩ := H
      refine t_callV (As := [.int (3 : Int32)]) ok hC14 dX6_letLine_66 wX6_wrong q2744 q2746 qs77 rfl rfl (by decide) rfl (Nat.le_of_ble_eq_true rfl) (fun v15 T16 e17 => ?_)
      obtain ⟨rfl, e17⟩ := e17
      replace H := H T16 e17
      exact H ok

set_option maxHeartbeats 2000000 in
theorem s_letLine_69 (c : tC) (x1 : Int32) (T : tS) (H : ((T.1 7) ≤ 0 → ∃ Q2 : tS → Prop, tMv mX6_goOn 1 (fun b => []) T Q2 ∧ ∀ T5 : tS, Q2 T5 → ∃ Q8 : tS → Prop, tMv mX6_must 2 (fun b => [.int (61 : Int32)]) T5 Q8 ∧ ∀ T11 : tS, Q8 T11 → ∃ Q14 : tS → Prop, tMv mX6_formula 7 (fun b => []) T11 Q14 ∧ ∀ T17 : tS, Q14 T17 → ∃ Q20 : tS → Prop, tMv mX6_must 2 (fun b => [.int (59 : Int32)]) T17 Q20 ∧ ∀ T23 : tS, Q20 T23 → ((zI (T23.1 7 = 0)) = 0 → h_letLine_123 c (T.2.1 11) T23) ∧ (¬ (zI (T23.1 7 = 0)) = 0 → ((T23.1 39) = 0 → h_letLine_123 c (T.2.1 11) T23) ∧ (¬ (T23.1 39) = 0 → ∃ Q32 : tS → Prop, tMv mX6_wrongAt 0 (fun b => [.int (6 : Int32), .int x1]) T23 Q32 ∧ ∀ T35 : tS, Q32 T35 → h_letLine_123 c (T.2.1 11) T35))) ∧ (¬ (T.1 7) ≤ 0 → c.2.2.2.2.2.2 none T)) : h_letLine_69 c x1 T := by
  intro ok
  refine e_aload_n dX6_letLine_69 rfl ?_
  refine t_getI dX6_letLine_70 fX6_7 q2503 (by decide) rfl ?_
  refine e_if_le 77 dX6_letLine_73 (by decide) (fun g1 => ?_) (fun g1 => ?_)
  · replace H := H.1 g1
    refine e_aload_n dX6_letLine_77 rfl ?_
    refine t_getL dX6_letLine_78 fX6_11 q2507 (by decide) rfl ?_
    refine e_lstore_n _ dX6_letLine_81 (by decide) rfl rfl ?_
    refine e_aload_n dX6_letLine_82 rfl ?_
    obtain ⟨Q2, hC3, H⟩ := H
    refine t_callV (As := []) ok hC3 dX6_letLine_83 wX6_goOn q2718 q2720 qs73 rfl rfl (by decide) rfl (Nat.le_of_ble_eq_true rfl) (fun v4 T5 e6 => ?_)
    obtain ⟨rfl, e6⟩ := e6
    replace H := H T5 e6
    refine e_aload_n dX6_letLine_86 rfl ?_
    refine e_bipush (61) dX6_letLine_87 (by decide) ?_
    obtain ⟨Q8, hC9, H⟩ := H
    refine t_callV (As := [.int (61 : Int32)]) ok hC9 dX6_letLine_89 wX6_must q2760 q2762 qs81 rfl rfl (by decide) rfl (Nat.le_of_ble_eq_true rfl) (fun v10 T11 e12 => ?_)
    obtain ⟨rfl, e12⟩ := e12
    replace H := H T11 e12
    refine e_aload_n dX6_letLine_92 rfl ?_
    obtain ⟨Q14, hC15, H⟩ := H
    refine t_callV (As := []) ok hC15 dX6_letLine_93 wX6_formula q2787 q2789 qs87 rfl rfl (by decide) rfl (Nat.le_of_ble_eq_true rfl) (fun v16 T17 e18 => ?_)
    obtain ⟨rfl, e18⟩ := e18
    replace H := H T17 e18
    refine e_aload_n dX6_letLine_96 rfl ?_
    refine e_bipush (59) dX6_letLine_97 (by decide) ?_
    obtain ⟨Q20, hC21, H⟩ := H
    refine t_callV (As := [.int (59 : Int32)]) ok hC21 dX6_letLine_99 wX6_must q2760 q2762 qs81 rfl rfl (by decide) rfl (Nat.le_of_ble_eq_true rfl) (fun v22 T23 e24 => ?_)
    obtain ⟨rfl, e24⟩ := e24
    replace H := H T23 e24
    refine e_aload_n dX6_letLine_102 rfl ?_
    refine t_callV (As := []) ok (ct_isGood T23 ) dX6_letLine_103 wX6_isGood q2752 q2754 qs79 rfl rfl (by decide) rfl (Nat.le_of_ble_eq_true rfl) (fun v26 T27 e29 => ?_)
    obtain ⟨r28, rfl, rfl, hT⟩ := e29
    rw [hT]
    refine e_if_eq 123 dX6_letLine_106 (by decide) (fun g30 => ?_) (fun g30 => ?_)
    · replace H := H.1 g30
      exact E.less2 (H ok) (eS_s (eS_n (eS_s (eS_n (eS_n eS_0)))))
    · replace H := H.2 g30
      refine e_aload_n dX6_letLine_109 rfl ?_
      refine t_getI dX6_letLine_110 fX6_39 q2535 (by decide) rfl ?_
      refine e_if_eq 123 dX6_letLine_113 (by decide) (fun g31 => ?_) (fun g31 => ?_)
      · replace H := H.1 g31
        exact E.less2 (H ok) (eS_s (eS_n (eS_s (eS_n (eS_n eS_0)))))
      · replace H := H.2 g31
        refine e_aload_n dX6_letLine_116 rfl ?_
        refine e_bipush (6) dX6_letLine_117 (by decide) ?_
        refine e_iload_n dX6_letLine_119 rfl ?_
        obtain ⟨Q32, hC33, H⟩ := H
        refine t_callV (As := [.int (6 : Int32), .int x1]) ok hC33 dX6_letLine_120 wX6_wrongAt q2748 q2750 qs78 rfl rfl (by decide) rfl (Nat.le_of_ble_eq_true rfl) (fun v34 T35 e36 => ?_)
        obtain ⟨rfl, e36⟩ := e36
        replace H := H T35 e36
        exact E.less2 (H ok) (eS_s (eS_n (eS_s (eS_n (eS_n eS_0)))))
  · replace H := H.2 g1
    exact e_return dX6_letLine_76 rfl ⟨_, _, rfl, rfl, H⟩

set_option maxHeartbeats 2000000 in
theorem s_letLine_123 (c : tC) (x2 : Int64) (T : tS) (H : ((T.1 7) ≤ 0 → vp_in (T.1 14) 8 ∧ (h_letLine_144 c (0 : Int32) (tB T 44 (va_up (T.2.2.2 44) (T.1 14).toNatClampNeg x2)))) ∧ (¬ (T.1 7) ≤ 0 → c.2.2.2.2.2.2 none T)) : h_letLine_123 c x2 T := by
  intro ok
  refine e_aload_n dX6_letLine_123 rfl ?_
  refine t_getI dX6_letLine_124 fX6_7 q2503 (by decide) rfl ?_
  refine e_if_le 131 dX6_letLine_127 (by decide) (fun g1 => ?_) (fun g1 => ?_)
  · replace H := H.1 g1
    refine e_aload_n dX6_letLine_131 rfl ?_
    refine t_getA dX6_letLine_132 fX6_44 q2540 (by decide) rfl ?_
    refine e_aload_n dX6_letLine_135 rfl ?_
    refine t_getI dX6_letLine_136 fX6_14 q2510 (by decide) rfl ?_
    refine e_lload_n dX6_letLine_139 rfl ?_
    obtain ⟨g2, H⟩ := H
    refine t_last dX6_letLine_140 (by decide) rfl ok.1 g2 ?_
    refine e_iconst (0) dX6_letLine_141 (by decide) ?_
    refine e_istore _ dX6_letLine_142 (by decide) trivial rfl ?_
    exact E.less2 (H ok) (eS_s (eS_n (eS_n (eS_n (eS_s eS_0)))))
  · replace H := H.2 g1
    exact e_return dX6_letLine_130 rfl ⟨_, _, rfl, rfl, H⟩

set_option maxHeartbeats 2000000 in
theorem s_letLine_144 (c : tC) (x4 : Int32) (T : tS) (H : ((T.1 26) ≤ x4 → c.2.2.2.2.2.2 none (tI T 14 ((T.1 14) + (1 : Int32)))) ∧ (¬ (T.1 26) ≤ x4 → vp_in x4 2560 ∧ (vp_in (((64 : Int32) * (T.1 14)) + x4) 512 ∧ (h_letLine_144 c (x4 + 1) (tB T 45 (va_up (T.2.2.2 45) (((64 : Int32) * (T.1 14)) + x4).toNatClampNeg (T.2.2.2 33 x4.toNatClampNeg))))))) : h_letLine_144 c x4 T := by
  intro ok
  refine e_iload dX6_letLine_144 rfl ?_
  refine e_aload_n dX6_letLine_146 rfl ?_
  refine t_getI dX6_letLine_147 fX6_26 q2522 (by decide) rfl ?_
  refine e_icmp_ge 181 dX6_letLine_150 (by decide) (fun g1 => ?_) (fun g1 => ?_)
  · replace H := H.1 g1
    refine e_aload_n dX6_letLine_181 rfl ?_
    refine e_dup dX6_letLine_182 rfl ?_
    refine t_getI dX6_letLine_183 fX6_14 q2510 (by decide) rfl ?_
    refine e_iconst (1) dX6_letLine_186 (by decide) ?_
    refine e_iadd dX6_letLine_187 ?_
    refine t_putI dX6_letLine_188 fX6_14 q2510 (eFit_i _) (by decide) rfl ok.1 ?_
    exact e_return dX6_letLine_191 rfl ⟨_, _, rfl, rfl, H⟩
  · replace H := H.2 g1
    refine e_aload_n dX6_letLine_153 rfl ?_
    refine t_getA dX6_letLine_154 fX6_45 q2541 (by decide) rfl ?_
    refine e_bipush (64) dX6_letLine_157 (by decide) ?_
    refine e_aload_n dX6_letLine_159 rfl ?_
    refine t_getI dX6_letLine_160 fX6_14 q2510 (by decide) rfl ?_
    refine e_imul dX6_letLine_163 ?_
    refine e_iload dX6_letLine_164 rfl ?_
    refine e_iadd dX6_letLine_166 ?_
    refine e_aload_n dX6_letLine_167 rfl ?_
    refine t_getA dX6_letLine_168 fX6_33 q2529 (by decide) rfl ?_
    refine e_iload dX6_letLine_171 rfl ?_
    obtain ⟨g2, H⟩ := H
    refine t_lald dX6_letLine_173 (by decide) rfl g2 ?_
    obtain ⟨g3, H⟩ := H
    refine t_last dX6_letLine_174 (by decide) rfl ok.1 g3 ?_
    refine e_iinc (x4 + 1) _ dX6_letLine_175 rfl rfl (by decide) trivial rfl ?_
    refine e_goto 144 dX6_letLine_178 (by decide) ?_
    exact H ok

theorem en_letLine (T : tS) (Q : Option Value → tS → Prop) (H : ∀ c : tC, c.2.2.2.2.2.2 = Q → h_letLine_0 c T) : tM mX6_letLine 8 (fun b => []) T Q :=
  tM_mk (by decide) rfl (fun b => Nat.le_of_ble_eq_true rfl) (fun c hc ok => E.less2 (H c hc ok) (eS_s (eS_n (eS_n (eS_n (eS_n eS_0))))))
/-! reads ()V level 9 -/
def h_reads_0 (c : tC) (T : tS) : Prop := tX mX6_reads 9 c 0 [some (.ref c.2.2.2.1)] T
def h_reads_15 (c : tC) (T : tS) : Prop := tX mX6_reads 9 c 15 [some (.ref c.2.2.2.1)] T
def h_reads_26 (c : tC) (T : tS) : Prop := tX mX6_reads 9 c 26 [some (.ref c.2.2.2.1)] T
def h_reads_43 (c : tC) (T : tS) : Prop := tX mX6_reads 9 c 43 [some (.ref c.2.2.2.1)] T
def h_reads_71 (c : tC) (T : tS) : Prop := tX mX6_reads 9 c 71 [some (.ref c.2.2.2.1)] T
set_option maxHeartbeats 2000000 in
theorem s_reads_0 (c : tC) (T : tS) (H : (¬ (zI (T.1 7 = 0 ∧ T.1 5 = 1 ∧ T.2.1 11 = (123610792682867 : Int64))) = 0 → h_reads_15 c T) ∧ ((zI (T.1 7 = 0 ∧ T.1 5 = 1 ∧ T.2.1 11 = (123610792682867 : Int64))) = 0 → ∃ Q6 : tS → Prop, tMv mX6_wrong 1 (fun b => [.int (2 : Int32)]) T Q6 ∧ ∀ T9 : tS, Q6 T9 → h_reads_15 c T9)) : h_reads_0 c T := by
  intro ok
  refine e_aload_n dX6_reads_0 rfl ?_
  refine e_ldc2 dX6_reads_1 q2739 ?_
  refine t_callV (As := [.long (123610792682867 : Int64)]) ok (ct_isWord T (123610792682867 : Int64)) dX6_reads_4 wX6_isWord q2740 q2742 qs76 rfl rfl (by decide) rfl (Nat.le_of_ble_eq_true rfl) (fun v1 T2 e4 => ?_)
  obtain ⟨r3, rfl, rfl, hT⟩ := e4
  rw [hT]
  refine e_if_ne 15 dX6_reads_7 (by decide) (fun g5 => ?_) (fun g5 => ?_)
  · replace H := H.1 g5
    exact H ok
  · replace H := H.2 g5
    refine e_aload_n dX6_reads_10 rfl ?_
    refine e_iconst (2) dX6_reads_11 (by decide) ?_
    obtain ⟨Q6, hC7, H⟩ := H
    refine t_callV (As := [.int (2 : Int32)]) ok hC7 dX6_reads_12 wX6_wrong q2744 q2746 qs77 rfl rfl (by decide) rfl (Nat.le_of_ble_eq_true rfl) (fun v8 T9 e10 => ?_)
    obtain ⟨rfl, e10⟩ := e10
    replace H := H T9 e10
    exact H ok

set_option maxHeartbeats 2000000 in
theorem s_reads_15 (c : tC) (T : tS) (H : ((zI (T.1 7 = 0)) = 0 → h_reads_26 c T) ∧ (¬ (zI (T.1 7 = 0)) = 0 → ∃ Q6 : tS → Prop, tMv mX6_goOn 1 (fun b => []) T Q6 ∧ ∀ T9 : tS, Q6 T9 → h_reads_26 c T9)) : h_reads_15 c T := by
  intro ok
  refine e_aload_n dX6_reads_15 rfl ?_
  refine t_callV (As := []) ok (ct_isGood T ) dX6_reads_16 wX6_isGood q2752 q2754 qs79 rfl rfl (by decide) rfl (Nat.le_of_ble_eq_true rfl) (fun v1 T2 e4 => ?_)
  obtain ⟨r3, rfl, rfl, hT⟩ := e4
  rw [hT]
  refine e_if_eq 26 dX6_reads_19 (by decide) (fun g5 => ?_) (fun g5 => ?_)
  · replace H := H.1 g5
    exact H ok
  · replace H := H.2 g5
    refine e_aload_n dX6_reads_22 rfl ?_
    obtain ⟨Q6, hC7, H⟩ := H
    refine t_callV (As := []) ok hC7 dX6_reads_23 wX6_goOn q2718 q2720 qs73 rfl rfl (by decide) rfl (Nat.le_of_ble_eq_true rfl) (fun v8 T9 e10 => ?_)
    obtain ⟨rfl, e10⟩ := e10
    replace H := H T9 e10
    exact H ok

set_option maxHeartbeats 2000000 in
theorem s_reads_26 (c : tC) (T : tS) (H : ∃ Q1 : Int32 → tS → Prop, tMi mX6_number 2 (fun b => [.int (1 : Int32), .int (6 : Int32)]) T Q1 ∧ ∀ (r6 : Int32) (T4 : tS), Q1 r6 T4 → ∃ Q7 : tS → Prop, tMv mX6_must 2 (fun b => [.int (59 : Int32)]) (tI T4 12 r6) Q7 ∧ ∀ T10 : tS, Q7 T10 → h_reads_43 c T10) : h_reads_26 c T := by
  intro ok
  refine e_aload_n dX6_reads_26 rfl ?_
  refine e_aload_n dX6_reads_27 rfl ?_
  refine e_iconst (1) dX6_reads_28 (by decide) ?_
  refine e_bipush (6) dX6_reads_29 (by decide) ?_
  obtain ⟨Q1, hC2, H⟩ := H
  refine t_callV (As := [.int (1 : Int32), .int (6 : Int32)]) ok hC2 dX6_reads_31 wX6_number q2756 q2758 qs80 rfl rfl (by decide) rfl (Nat.le_of_ble_eq_true rfl) (fun v3 T4 e5 => ?_)
  obtain ⟨r6, rfl, e5⟩ := e5
  replace H := H r6 T4 e5
  refine t_putI dX6_reads_34 fX6_12 q2508 (eFit_i _) (by decide) rfl ok.1 ?_
  refine e_aload_n dX6_reads_37 rfl ?_
  refine e_bipush (59) dX6_reads_38 (by decide) ?_
  obtain ⟨Q7, hC8, H⟩ := H
  refine t_callV (As := [.int (59 : Int32)]) ok hC8 dX6_reads_40 wX6_must q2760 q2762 qs81 rfl rfl (by decide) rfl (Nat.le_of_ble_eq_true rfl) (fun v9 T10 e11 => ?_)
  obtain ⟨rfl, e11⟩ := e11
  replace H := H T10 e11
  exact H ok

set_option maxHeartbeats 2000000 in
theorem s_reads_43 (c : tC) (T : tS) (H : ((zI (T.1 7 = 0 ∧ T.1 5 = 1 ∧ T.2.1 11 = (1836021349 : Int64))) = 0 → ((zI (T.1 7 = 0)) = 0 → h_reads_71 c T) ∧ (¬ (zI (T.1 7 = 0)) = 0 → ∃ Q11 : tS → Prop, tMv mX6_builds 3 (fun b => []) T Q11 ∧ ∀ T14 : tS, Q11 T14 → h_reads_71 c T14)) ∧ (¬ (zI (T.1 7 = 0 ∧ T.1 5 = 1 ∧ T.2.1 11 = (1836021349 : Int64))) = 0 → ∃ Q17 : tS → Prop, tMv mX6_moveLine 3 (fun b => []) T Q17 ∧ ∀ T20 : tS, Q17 T20 → h_reads_43 c T20)) : h_reads_43 c T := by
  intro ok
  refine e_aload_n dX6_reads_43 rfl ?_
  refine e_ldc2 dX6_reads_44 q2768 ?_
  refine t_callV (As := [.long (1836021349 : Int64)]) ok (ct_isWord T (1836021349 : Int64)) dX6_reads_47 wX6_isWord q2740 q2742 qs76 rfl rfl (by decide) rfl (Nat.le_of_ble_eq_true rfl) (fun v1 T2 e4 => ?_)
  obtain ⟨r3, rfl, rfl, hT⟩ := e4
  rw [hT]
  refine e_if_eq 60 dX6_reads_50 (by decide) (fun g5 => ?_) (fun g5 => ?_)
  · replace H := H.1 g5
    refine e_aload_n dX6_reads_60 rfl ?_
    refine t_callV (As := []) ok (ct_isGood T ) dX6_reads_61 wX6_isGood q2752 q2754 qs79 rfl rfl (by decide) rfl (Nat.le_of_ble_eq_true rfl) (fun v6 T7 e9 => ?_)
    obtain ⟨r8, rfl, rfl, hT⟩ := e9
    rw [hT]
    refine e_if_eq 71 dX6_reads_64 (by decide) (fun g10 => ?_) (fun g10 => ?_)
    · replace H := H.1 g10
      exact H ok
    · replace H := H.2 g10
      refine e_aload_n dX6_reads_67 rfl ?_
      obtain ⟨Q11, hC12, H⟩ := H
      refine t_callV (As := []) ok hC12 dX6_reads_68 wX6_builds q2427 q2429 qs56 rfl rfl (by decide) rfl (Nat.le_of_ble_eq_true rfl) (fun v13 T14 e15 => ?_)
      obtain ⟨rfl, e15⟩ := e15
      replace H := H T14 e15
      exact H ok
  · replace H := H.2 g5
    refine e_aload_n dX6_reads_53 rfl ?_
    obtain ⟨Q17, hC18, H⟩ := H
    refine t_callV (As := []) ok hC18 dX6_reads_54 wX6_moveLine q2769 q2771 qs83 rfl rfl (by decide) rfl (Nat.le_of_ble_eq_true rfl) (fun v19 T20 e21 => ?_)
    obtain ⟨rfl, e21⟩ := e21
    replace H := H T20 e21
    refine e_goto 43 dX6_reads_57 (by decide) ?_
    exact H ok

set_option maxHeartbeats 2000000 in
theorem s_reads_71 (c : tC) (T : tS) (H : ((zI (T.1 7 = 0 ∧ T.1 5 = 1 ∧ T.2.1 11 = (7103860 : Int64))) = 0 → ((zI (T.1 7 = 0)) = 0 → c.2.2.2.2.2.2 none T) ∧ (¬ (zI (T.1 7 = 0)) = 0 → ((T.1 5) = 0 → c.2.2.2.2.2.2 none T) ∧ (¬ (T.1 5) = 0 → ∃ Q12 : tS → Prop, tMv mX6_wrong 1 (fun b => [.int (2 : Int32)]) T Q12 ∧ ∀ T15 : tS, Q12 T15 → c.2.2.2.2.2.2 none T15))) ∧ (¬ (zI (T.1 7 = 0 ∧ T.1 5 = 1 ∧ T.2.1 11 = (7103860 : Int64))) = 0 → ∃ Q18 : tS → Prop, tMv mX6_letLine 8 (fun b => []) T Q18 ∧ ∀ T21 : tS, Q18 T21 → h_reads_71 c T21)) : h_reads_71 c T := by
  intro ok
  refine e_aload_n dX6_reads_71 rfl ?_
  refine e_ldc2 dX6_reads_72 q2773 ?_
  refine t_callV (As := [.long (7103860 : Int64)]) ok (ct_isWord T (7103860 : Int64)) dX6_reads_75 wX6_isWord q2740 q2742 qs76 rfl rfl (by decide) rfl (Nat.le_of_ble_eq_true rfl) (fun v1 T2 e4 => ?_)
  obtain ⟨r3, rfl, rfl, hT⟩ := e4
  rw [hT]
  refine e_if_eq 88 dX6_reads_78 (by decide) (fun g5 => ?_) (fun g5 => ?_)
  · replace H := H.1 g5
    refine e_aload_n dX6_reads_88 rfl ?_
    refine t_callV (As := []) ok (ct_isGood T ) dX6_reads_89 wX6_isGood q2752 q2754 qs79 rfl rfl (by decide) rfl (Nat.le_of_ble_eq_true rfl) (fun v6 T7 e9 => ?_)
    obtain ⟨r8, rfl, rfl, hT⟩ := e9
    rw [hT]
    refine e_if_eq 107 dX6_reads_92 (by decide) (fun g10 => ?_) (fun g10 => ?_)
    · replace H := H.1 g10
      exact e_return dX6_reads_107 rfl ⟨_, _, rfl, rfl, H⟩
    · replace H := H.2 g10
      refine e_aload_n dX6_reads_95 rfl ?_
      refine t_getI dX6_reads_96 fX6_5 q2501 (by decide) rfl ?_
      refine e_if_eq 107 dX6_reads_99 (by decide) (fun g11 => ?_) (fun g11 => ?_)
      · replace H := H.1 g11
        exact e_return dX6_reads_107 rfl ⟨_, _, rfl, rfl, H⟩
      · replace H := H.2 g11
        refine e_aload_n dX6_reads_102 rfl ?_
        refine e_iconst (2) dX6_reads_103 (by decide) ?_
        obtain ⟨Q12, hC13, H⟩ := H
        refine t_callV (As := [.int (2 : Int32)]) ok hC13 dX6_reads_104 wX6_wrong q2744 q2746 qs77 rfl rfl (by decide) rfl (Nat.le_of_ble_eq_true rfl) (fun v14 T15 e16 => ?_)
        obtain ⟨rfl, e16⟩ := e16
        replace H := H T15 e16
        exact e_return dX6_reads_107 rfl ⟨_, _, rfl, rfl, H⟩
  · replace H := H.2 g5
    refine e_aload_n dX6_reads_81 rfl ?_
    obtain ⟨Q18, hC19, H⟩ := H
    refine t_callV (As := []) ok hC19 dX6_reads_82 wX6_letLine q2774 q2776 qs84 rfl rfl (by decide) rfl (Nat.le_of_ble_eq_true rfl) (fun v20 T21 e22 => ?_)
    obtain ⟨rfl, e22⟩ := e22
    replace H := H T21 e22
    refine e_goto 71 dX6_reads_85 (by decide) ?_
    exact H ok

theorem en_reads (T : tS) (Q : Option Value → tS → Prop) (H : ∀ c : tC, c.2.2.2.2.2.2 = Q → h_reads_0 c T) : tM mX6_reads 9 (fun b => []) T Q :=
  tM_mk (by decide) rfl (fun b => Nat.le_of_ble_eq_true rfl) (fun c hc ok => E.less2 (H c hc ok) (eS_s eS_0))
/-! troupe ()I level 10 -/
def h_troupe_0 (c : tC) (T : tS) : Prop := tX mX6_troupe 10 c 0 [some (.ref c.2.2.2.1)] T
set_option maxHeartbeats 2000000 in
theorem s_troupe_0 (c : tC) (T : tS) (H : ∃ Q1 : tS → Prop, tMv mX6_begins 2 (fun b => []) (tI (tI (tI T 12 (1 : Int32)) 13 (0 : Int32)) 14 (0 : Int32)) Q1 ∧ ∀ T4 : tS, Q1 T4 → ∃ Q7 : tS → Prop, tMv mX6_reads 9 (fun b => []) T4 Q7 ∧ ∀ T10 : tS, Q7 T10 → ∃ Q13 : tS → Prop, tMv mX6_tells 0 (fun b => []) T10 Q13 ∧ ∀ T16 : tS, Q13 T16 → ((T16.1 7) ≤ 0 → ∃ Q20 : tS → Prop, tMv mX6_inForce 0 (fun b => []) T16 Q20 ∧ ∀ T23 : tS, Q20 T23 → c.2.2.2.2.2.2 (some (.int (T23.1 20))) T23) ∧ (¬ (T16.1 7) ≤ 0 → ∃ Q26 : tS → Prop, tMv mX6_goesBack 4 (fun b => []) T16 Q26 ∧ ∀ T29 : tS, Q26 T29 → c.2.2.2.2.2.2 (some (.int (-1 : Int32))) T29)) : h_troupe_0 c T := by
  intro ok
  refine e_aload_n dX6_troupe_0 rfl ?_
  refine e_iconst (1) dX6_troupe_1 (by decide) ?_
  refine t_putI dX6_troupe_2 fX6_12 q2508 (eFit_i _) (by decide) rfl ok.1 ?_
  refine e_aload_n dX6_troupe_5 rfl ?_
  refine e_iconst (0) dX6_troupe_6 (by decide) ?_
  refine t_putI dX6_troupe_7 fX6_13 q2509 (eFit_i _) (by decide) rfl ok.1 ?_
  refine e_aload_n dX6_troupe_10 rfl ?_
  refine e_iconst (0) dX6_troupe_11 (by decide) ?_
  refine t_putI dX6_troupe_12 fX6_14 q2510 (eFit_i _) (by decide) rfl ok.1 ?_
  refine e_aload_n dX6_troupe_15 rfl ?_
  obtain ⟨Q1, hC2, H⟩ := H
  refine t_callV (As := []) ok hC2 dX6_troupe_16 wX6_begins q2714 q2716 qs72 rfl rfl (by decide) rfl (Nat.le_of_ble_eq_true rfl) (fun v3 T4 e5 => ?_)
  obtain ⟨rfl, e5⟩ := e5
  replace H := H T4 e5
  refine e_aload_n dX6_troupe_19 rfl ?_
  obtain ⟨Q7, hC8, H⟩ := H
  refine t_callV (As := []) ok hC8 dX6_troupe_20 wX6_reads q2735 q2737 qs75 rfl rfl (by decide) rfl (Nat.le_of_ble_eq_true rfl) (fun v9 T10 e11 => ?_)
  obtain ⟨rfl, e11⟩ := e11
  replace H := H T10 e11
  refine e_aload_n dX6_troupe_23 rfl ?_
  obtain ⟨Q13, hC14, H⟩ := H
  refine t_callV (As := []) ok hC14 dX6_troupe_24 wX6_tells q2865 q2867 qs106 rfl rfl (by decide) rfl (Nat.le_of_ble_eq_true rfl) (fun v15 T16 e17 => ?_)
  obtain ⟨rfl, e17⟩ := e17
  replace H := H T16 e17
  refine e_aload_n dX6_troupe_27 rfl ?_
  refine t_getI dX6_troupe_28 fX6_7 q2503 (by decide) rfl ?_
  refine e_if_le 40 dX6_troupe_31 (by decide) (fun g19 => ?_) (fun g19 => ?_)
  · replace H := H.1 g19
    refine e_aload_n dX6_troupe_40 rfl ?_
    obtain ⟨Q20, hC21, H⟩ := H
    refine t_callV (As := []) ok hC21 dX6_troupe_41 wX6_inForce q2492 q2494 qs70 rfl rfl (by decide) rfl (Nat.le_of_ble_eq_true rfl) (fun v22 T23 e24 => ?_)
    obtain ⟨rfl, e24⟩ := e24
    replace H := H T23 e24
    refine e_aload_n dX6_troupe_44 rfl ?_
    refine t_getI dX6_troupe_45 fX6_20 q2516 (by decide) rfl ?_
    exact e_ireturn .int dX6_troupe_48 rfl rfl ⟨_, _, rfl, rfl, H⟩
  · replace H := H.2 g19
    refine e_aload_n dX6_troupe_34 rfl ?_
    obtain ⟨Q26, hC27, H⟩ := H
    refine t_callV (As := []) ok hC27 dX6_troupe_35 wX6_goesBack q2869 q2871 qs107 rfl rfl (by decide) rfl (Nat.le_of_ble_eq_true rfl) (fun v28 T29 e30 => ?_)
    obtain ⟨rfl, e30⟩ := e30
    replace H := H T29 e30
    refine e_iconst (-1) dX6_troupe_38 (by decide) ?_
    exact e_ireturn .int dX6_troupe_39 rfl rfl ⟨_, _, rfl, rfl, H⟩

theorem en_troupe (T : tS) (Q : Option Value → tS → Prop) (H : ∀ c : tC, c.2.2.2.2.2.2 = Q → h_troupe_0 c T) : tM mX6_troupe 10 (fun b => []) T Q :=
  tM_mk (by decide) rfl (fun b => Nat.le_of_ble_eq_true rfl) (fun c hc ok => E.less2 (H c hc ok) (eS_s eS_0))
/-! makes ()I level 8 -/
def h_makes_0 (c : tC) (T : tS) : Prop := tX mX6_makes 8 c 0 [some (.ref c.2.2.2.1), none] T
def h_makes_27 (c : tC) (T : tS) : Prop := tX mX6_makes 8 c 27 [some (.ref c.2.2.2.1), none] T
def h_makes_48 (c : tC) (T : tS) : Prop := tX mX6_makes 8 c 48 [some (.ref c.2.2.2.1), none] T
def h_makes_67 (c : tC) (x1 : Int32) (T : tS) : Prop := tX mX6_makes 8 c 67 [some (.ref c.2.2.2.1), some (.int x1)] T
set_option maxHeartbeats 2000000 in
theorem s_makes_0 (c : tC) (T : tS) (H : ∃ Q1 : tS → Prop, tMv mX6_begins 2 (fun b => []) T Q1 ∧ ∀ T4 : tS, Q1 T4 → ∃ Q7 : tS → Prop, tMv mX6_formula 7 (fun b => []) T4 Q7 ∧ ∀ T10 : tS, Q7 T10 → ((zI (T10.1 7 = 0)) = 0 → h_makes_27 c T10) ∧ (¬ (zI (T10.1 7 = 0)) = 0 → ((T10.1 5) = 0 → h_makes_27 c T10) ∧ (¬ (T10.1 5) = 0 → ∃ Q19 : tS → Prop, tMv mX6_wrong 1 (fun b => [.int (2 : Int32)]) T10 Q19 ∧ ∀ T22 : tS, Q19 T22 → h_makes_27 c T22))) : h_makes_0 c T := by
  intro ok
  refine e_aload_n dX6_makes_0 rfl ?_
  obtain ⟨Q1, hC2, H⟩ := H
  refine t_callV (As := []) ok hC2 dX6_makes_1 wX6_begins q2714 q2716 qs72 rfl rfl (by decide) rfl (Nat.le_of_ble_eq_true rfl) (fun v3 T4 e5 => ?_)
  obtain ⟨rfl, e5⟩ := e5
  replace H := H T4 e5
  refine e_aload_n dX6_makes_4 rfl ?_
  obtain ⟨Q7, hC8, H⟩ := H
  refine t_callV (As := []) ok hC8 dX6_makes_5 wX6_formula q2787 q2789 qs87 rfl rfl (by decide) rfl (Nat.le_of_ble_eq_true rfl) (fun v9 T10 e11 => ?_)
  obtain ⟨rfl, e11⟩ := e11
  replace H := H T10 e11
  refine e_aload_n dX6_makes_8 rfl ?_
  refine t_callV (As := []) ok (ct_isGood T10 ) dX6_makes_9 wX6_isGood q2752 q2754 qs79 rfl rfl (by decide) rfl (Nat.le_of_ble_eq_true rfl) (fun v13 T14 e16 => ?_)
  obtain ⟨r15, rfl, rfl, hT⟩ := e16
  rw [hT]
  refine e_if_eq 27 dX6_makes_12 (by decide) (fun g17 => ?_) (fun g17 => ?_)
  · replace H := H.1 g17
    exact H ok
  · replace H := H.2 g17
    refine e_aload_n dX6_makes_15 rfl ?_
    refine t_getI dX6_makes_16 fX6_5 q2501 (by decide) rfl ?_
    refine e_if_eq 27 dX6_makes_19 (by decide) (fun g18 => ?_) (fun g18 => ?_)
    · replace H := H.1 g18
      exact H ok
    · replace H := H.2 g18
      refine e_aload_n dX6_makes_22 rfl ?_
      refine e_iconst (2) dX6_makes_23 (by decide) ?_
      obtain ⟨Q19, hC20, H⟩ := H
      refine t_callV (As := [.int (2 : Int32)]) ok hC20 dX6_makes_24 wX6_wrong q2744 q2746 qs77 rfl rfl (by decide) rfl (Nat.le_of_ble_eq_true rfl) (fun v21 T22 e23 => ?_)
      obtain ⟨rfl, e23⟩ := e23
      replace H := H T22 e23
      exact H ok

set_option maxHeartbeats 2000000 in
theorem s_makes_27 (c : tC) (T : tS) (H : ((zI (T.1 7 = 0)) = 0 → h_makes_48 c T) ∧ (¬ (zI (T.1 7 = 0)) = 0 → ((T.1 39) = 0 → h_makes_48 c T) ∧ (¬ (T.1 39) = 0 → ∃ Q7 : tS → Prop, tMv mX6_wrongAt 0 (fun b => [.int (6 : Int32), .int (0 : Int32)]) T Q7 ∧ ∀ T10 : tS, Q7 T10 → h_makes_48 c T10))) : h_makes_27 c T := by
  intro ok
  refine e_aload_n dX6_makes_27 rfl ?_
  refine t_callV (As := []) ok (ct_isGood T ) dX6_makes_28 wX6_isGood q2752 q2754 qs79 rfl rfl (by decide) rfl (Nat.le_of_ble_eq_true rfl) (fun v1 T2 e4 => ?_)
  obtain ⟨r3, rfl, rfl, hT⟩ := e4
  rw [hT]
  refine e_if_eq 48 dX6_makes_31 (by decide) (fun g5 => ?_) (fun g5 => ?_)
  · replace H := H.1 g5
    exact H ok
  · replace H := H.2 g5
    refine e_aload_n dX6_makes_34 rfl ?_
    refine t_getI dX6_makes_35 fX6_39 q2535 (by decide) rfl ?_
    refine e_if_eq 48 dX6_makes_38 (by decide) (fun g6 => ?_) (fun g6 => ?_)
    · replace H := H.1 g6
      exact H ok
    · replace H := H.2 g6
      refine e_aload_n dX6_makes_41 rfl ?_
      refine e_bipush (6) dX6_makes_42 (by decide) ?_
      refine e_iconst (0) dX6_makes_44 (by decide) ?_
      obtain ⟨Q7, hC8, H⟩ := H
      refine t_callV (As := [.int (6 : Int32), .int (0 : Int32)]) ok hC8 dX6_makes_45 wX6_wrongAt q2748 q2750 qs78 rfl rfl (by decide) rfl (Nat.le_of_ble_eq_true rfl) (fun v9 T10 e11 => ?_)
      obtain ⟨rfl, e11⟩ := e11
      replace H := H T10 e11
      exact H ok

set_option maxHeartbeats 2000000 in
theorem s_makes_48 (c : tC) (T : tS) (H : ∃ Q1 : tS → Prop, tMv mX6_tells 0 (fun b => []) T Q1 ∧ ∀ T4 : tS, Q1 T4 → ((T4.1 7) ≤ 0 → ∃ Q8 : tS → Prop, tMv mX6_act 0 (fun b => []) T4 Q8 ∧ ∀ T11 : tS, Q8 T11 → h_makes_67 c (0 : Int32) T11) ∧ (¬ (T4.1 7) ≤ 0 → c.2.2.2.2.2.2 (some (.int (-1 : Int32))) T4)) : h_makes_48 c T := by
  intro ok
  refine e_aload_n dX6_makes_48 rfl ?_
  obtain ⟨Q1, hC2, H⟩ := H
  refine t_callV (As := []) ok hC2 dX6_makes_49 wX6_tells q2865 q2867 qs106 rfl rfl (by decide) rfl (Nat.le_of_ble_eq_true rfl) (fun v3 T4 e5 => ?_)
  obtain ⟨rfl, e5⟩ := e5
  replace H := H T4 e5
  refine e_aload_n dX6_makes_52 rfl ?_
  refine t_getI dX6_makes_53 fX6_7 q2503 (by decide) rfl ?_
  refine e_if_le 61 dX6_makes_56 (by decide) (fun g7 => ?_) (fun g7 => ?_)
  · replace H := H.1 g7
    refine e_aload_n dX6_makes_61 rfl ?_
    obtain ⟨Q8, hC9, H⟩ := H
    refine t_callV (As := []) ok hC9 dX6_makes_62 wX6_act q3112 q3114 qs126 rfl rfl (by decide) rfl (Nat.le_of_ble_eq_true rfl) (fun v10 T11 e12 => ?_)
    obtain ⟨rfl, e12⟩ := e12
    replace H := H T11 e12
    refine e_iconst (0) dX6_makes_65 (by decide) ?_
    refine e_istore_n _ dX6_makes_66 (by decide) rfl rfl ?_
    exact H ok
  · replace H := H.2 g7
    refine e_iconst (-1) dX6_makes_59 (by decide) ?_
    exact e_ireturn .int dX6_makes_60 rfl rfl ⟨_, _, rfl, rfl, H⟩

set_option maxHeartbeats 2000000 in
theorem s_makes_67 (c : tC) (x1 : Int32) (T : tS) (H : ((T.1 26) ≤ x1 → ∃ Q2 : Int32 → tS → Prop, tMi mX6_parts 1 (fun b => []) T Q2 ∧ ∀ (r7 : Int32) (T5 : tS), Q2 r7 T5 → c.2.2.2.2.2.2 (some (.int r7)) T5) ∧ (¬ (T.1 26) ≤ x1 → vp_in x1 2560 ∧ (vp_in x1 64 ∧ (h_makes_67 c (x1 + 1) (tB T 36 (va_up (T.2.2.2 36) x1.toNatClampNeg (T.2.2.2 33 x1.toNatClampNeg))))))) : h_makes_67 c x1 T := by
  intro ok
  refine e_iload_n dX6_makes_67 rfl ?_
  refine e_aload_n dX6_makes_68 rfl ?_
  refine t_getI dX6_makes_69 fX6_26 q2522 (by decide) rfl ?_
  refine e_icmp_ge 93 dX6_makes_72 (by decide) (fun g1 => ?_) (fun g1 => ?_)
  · replace H := H.1 g1
    refine e_aload_n dX6_makes_93 rfl ?_
    obtain ⟨Q2, hC3, H⟩ := H
    refine t_callV (As := []) ok hC3 dX6_makes_94 wX6_parts q3116 q3088 q3089 rfl rfl (by decide) rfl (Nat.le_of_ble_eq_true rfl) (fun v4 T5 e6 => ?_)
    obtain ⟨r7, rfl, e6⟩ := e6
    replace H := H r7 T5 e6
    exact e_ireturn .int dX6_makes_97 rfl rfl ⟨_, _, rfl, rfl, H⟩
  · replace H := H.2 g1
    refine e_aload_n dX6_makes_75 rfl ?_
    refine t_getA dX6_makes_76 fX6_36 q2532 (by decide) rfl ?_
    refine e_iload_n dX6_makes_79 rfl ?_
    refine e_aload_n dX6_makes_80 rfl ?_
    refine t_getA dX6_makes_81 fX6_33 q2529 (by decide) rfl ?_
    refine e_iload_n dX6_makes_84 rfl ?_
    obtain ⟨g8, H⟩ := H
    refine t_lald dX6_makes_85 (by decide) rfl g8 ?_
    obtain ⟨g9, H⟩ := H
    refine t_last dX6_makes_86 (by decide) rfl ok.1 g9 ?_
    refine e_iinc (x1 + 1) _ dX6_makes_87 rfl rfl (by decide) rfl rfl ?_
    refine e_goto 67 dX6_makes_90 (by decide) ?_
    exact H ok

theorem en_makes (T : tS) (Q : Option Value → tS → Prop) (H : ∀ c : tC, c.2.2.2.2.2.2 = Q → h_makes_0 c T) : tM mX6_makes 8 (fun b => []) T Q :=
  tM_mk (by decide) rfl (fun b => Nat.le_of_ble_eq_true rfl) (fun c hc ok => E.less2 (H c hc ok) (eS_s (eS_n eS_0)))
