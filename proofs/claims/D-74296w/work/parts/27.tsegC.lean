/-! feed (IIIII)I level 1 -/
def h_feed_0 (c : tC) (x1 : Int32) (x2 : Int32) (x3 : Int32) (x4 : Int32) (x5 : Int32) (T : tS) : Prop := tX mX6_feed 1 c 0 [some (.ref c.2.2.2.1), some (.int x1), some (.int x2), some (.int x3), some (.int x4), some (.int x5)] T
set_option maxHeartbeats 2000000 in
theorem s_feed_0 (c : tC) (x1 : Int32) (x2 : Int32) (x3 : Int32) (x4 : Int32) (x5 : Int32) (T : tS) (H : (((T.1 1) + (20 : Int32)) ≤ (700 : Int32) → ∃ Q2 : tS → Prop, tMv mX6_four 0 (fun b => [.int x1]) T Q2 ∧ ∀ T5 : tS, Q2 T5 → ∃ Q8 : tS → Prop, tMv mX6_four 0 (fun b => [.int x2]) T5 Q8 ∧ ∀ T11 : tS, Q8 T11 → ∃ Q14 : tS → Prop, tMv mX6_four 0 (fun b => [.int x3]) T11 Q14 ∧ ∀ T17 : tS, Q14 T17 → ∃ Q20 : tS → Prop, tMv mX6_four 0 (fun b => [.int x4]) T17 Q20 ∧ ∀ T23 : tS, Q20 T23 → ∃ Q26 : tS → Prop, tMv mX6_four 0 (fun b => [.int x5]) T23 Q26 ∧ ∀ T29 : tS, Q26 T29 → c.2.2.2.2.2.2 (some (.int (T29.1 1))) T29) ∧ (¬ ((T.1 1) + (20 : Int32)) ≤ (700 : Int32) → c.2.2.2.2.2.2 (some (.int (-1 : Int32))) T)) : h_feed_0 c x1 x2 x3 x4 x5 T := by
  intro ok
  refine e_aload_n dX6_feed_0 rfl ?_
  refine t_getI dX6_feed_1 fX6_1 q2497 (by decide) rfl ?_
  refine e_bipush (20) dX6_feed_4 (by decide) ?_
  refine e_iadd dX6_feed_6 ?_
  refine e_sipush (700) dX6_feed_7 (by decide) ?_
  refine e_icmp_le 15 dX6_feed_10 (by decide) (fun g1 => ?_) (fun g1 => ?_)
  · replace H := H.1 g1
    refine e_aload_n dX6_feed_15 rfl ?_
    refine e_iload_n dX6_feed_16 rfl ?_
    obtain ⟨Q2, hC3, H⟩ := H
    refine t_callV (As := [.int x1]) ok hC3 dX6_feed_17 wX6_four q2699 q2701 qs71 rfl rfl (by decide) rfl (Nat.le_of_ble_eq_true rfl) (fun v4 T5 e6 => ?_)
    obtain ⟨rfl, e6⟩ := e6
    replace H := H T5 e6
    refine e_aload_n dX6_feed_20 rfl ?_
    refine e_iload_n dX6_feed_21 rfl ?_
    obtain ⟨Q8, hC9, H⟩ := H
    refine t_callV (As := [.int x2]) ok hC9 dX6_feed_22 wX6_four q2699 q2701 qs71 rfl rfl (by decide) rfl (Nat.le_of_ble_eq_true rfl) (fun v10 T11 e12 => ?_)
    obtain ⟨rfl, e12⟩ := e12
    replace H := H T11 e12
    refine e_aload_n dX6_feed_25 rfl ?_
    refine e_iload_n dX6_feed_26 rfl ?_
    obtain ⟨Q14, hC15, H⟩ := H
    refine t_callV (As := [.int x3]) ok hC15 dX6_feed_27 wX6_four q2699 q2701 qs71 rfl rfl (by decide) rfl (Nat.le_of_ble_eq_true rfl) (fun v16 T17 e18 => ?_)
    obtain ⟨rfl, e18⟩ := e18
    replace H := H T17 e18
    refine e_aload_n dX6_feed_30 rfl ?_
    refine e_iload dX6_feed_31 rfl ?_
    obtain ⟨Q20, hC21, H⟩ := H
    refine t_callV (As := [.int x4]) ok hC21 dX6_feed_33 wX6_four q2699 q2701 qs71 rfl rfl (by decide) rfl (Nat.le_of_ble_eq_true rfl) (fun v22 T23 e24 => ?_)
    obtain ⟨rfl, e24⟩ := e24
    replace H := H T23 e24
    refine e_aload_n dX6_feed_36 rfl ?_
    refine e_iload dX6_feed_37 rfl ?_
    obtain ⟨Q26, hC27, H⟩ := H
    refine t_callV (As := [.int x5]) ok hC27 dX6_feed_39 wX6_four q2699 q2701 qs71 rfl rfl (by decide) rfl (Nat.le_of_ble_eq_true rfl) (fun v28 T29 e30 => ?_)
    obtain ⟨rfl, e30⟩ := e30
    replace H := H T29 e30
    refine e_aload_n dX6_feed_42 rfl ?_
    refine t_getI dX6_feed_43 fX6_1 q2497 (by decide) rfl ?_
    exact e_ireturn .int dX6_feed_46 rfl rfl ⟨_, _, rfl, rfl, H⟩
  · replace H := H.2 g1
    refine e_iconst (-1) dX6_feed_13 (by decide) ?_
    exact e_ireturn .int dX6_feed_14 rfl rfl ⟨_, _, rfl, rfl, H⟩

theorem en_feed (x1 : Int32) (x2 : Int32) (x3 : Int32) (x4 : Int32) (x5 : Int32) (T : tS) (Q : Option Value → tS → Prop) (H : ∀ c : tC, c.2.2.2.2.2.2 = Q → h_feed_0 c x1 x2 x3 x4 x5 T) : tM mX6_feed 1 (fun b => [.int x1, .int x2, .int x3, .int x4, .int x5]) T Q :=
  tM_mk (by decide) rfl (fun b => Nat.le_of_ble_eq_true rfl) (fun c hc ok => E.less2 (H c hc ok) (eS_s (eS_s (eS_s (eS_s (eS_s (eS_s eS_0)))))))
/-! end (I)I level 1 -/
def h_end_0 (c : tC) (x1 : Int32) (T : tS) : Prop := tX mX6_end 1 c 0 [some (.ref c.2.2.2.1), some (.int x1)] T
set_option maxHeartbeats 2000000 in
theorem s_end_0 (c : tC) (x1 : Int32) (T : tS) (H : (¬ (zI ((0 : Int64) ≤ x1.toInt64 ∧ x1.toInt64 ≤ ((T.1 1).toInt64))) = 0 → c.2.2.2.2.2.2 (some (.int x1)) (tI T 1 x1)) ∧ ((zI ((0 : Int64) ≤ x1.toInt64 ∧ x1.toInt64 ≤ ((T.1 1).toInt64))) = 0 → c.2.2.2.2.2.2 (some (.int (-1 : Int32))) T)) : h_end_0 c x1 T := by
  intro ok
  refine e_iload_n dX6_end_0 rfl ?_
  refine e_i2l dX6_end_1 ?_
  refine e_lconst 0 dX6_end_2 (by decide) ?_
  refine e_aload_n dX6_end_3 rfl ?_
  refine t_getI dX6_end_4 fX6_1 q2497 (by decide) rfl ?_
  refine e_i2l dX6_end_7 ?_
  refine t_callS (As := [.long x1.toInt64, .long (0 : Int64), .long ((T.1 1).toInt64)]) ok (ct_isIn x1.toInt64 (0 : Int64) ((T.1 1).toInt64)) dX6_end_8 wX6_isIn q2707 q2708 rfl (by decide) rfl (Nat.le_of_ble_eq_true rfl) ?_
  refine e_if_ne 16 dX6_end_11 (by decide) (fun g1 => ?_) (fun g1 => ?_)
  · replace H := H.1 g1
    refine e_aload_n dX6_end_16 rfl ?_
    refine e_iload_n dX6_end_17 rfl ?_
    refine t_putI dX6_end_18 fX6_1 q2497 (eFit_i _) (by decide) rfl ok.1 ?_
    refine e_iload_n dX6_end_21 rfl ?_
    exact e_ireturn .int dX6_end_22 rfl rfl ⟨_, _, rfl, rfl, H⟩
  · replace H := H.2 g1
    refine e_iconst (-1) dX6_end_14 (by decide) ?_
    exact e_ireturn .int dX6_end_15 rfl rfl ⟨_, _, rfl, rfl, H⟩

theorem en_end (x1 : Int32) (T : tS) (Q : Option Value → tS → Prop) (H : ∀ c : tC, c.2.2.2.2.2.2 = Q → h_end_0 c x1 T) : tM mX6_end 1 (fun b => [.int x1]) T Q :=
  tM_mk (by decide) rfl (fun b => Nat.le_of_ble_eq_true rfl) (fun c hc ok => E.less2 (H c hc ok) (eS_s (eS_s eS_0)))
/-! goOn ()V level 1 -/
def h_goOn_0 (c : tC) (T : tS) : Prop := tX mX6_goOn 1 c 0 [some (.ref c.2.2.2.1), none, none] T
def h_goOn_20 (c : tC) (T : tS) : Prop := tX mX6_goOn 1 c 20 [some (.ref c.2.2.2.1), none, none] T
def h_goOn_76 (c : tC) (x2 : Int32) (T : tS) : Prop := tX mX6_goOn 1 c 76 [some (.ref c.2.2.2.1), none, some (.int x2)] T
def h_goOn_111 (c : tC) (x2 : Int32) (T : tS) : Prop := tX mX6_goOn 1 c 111 [some (.ref c.2.2.2.1), none, some (.int x2)] T
def h_goOn_142 (c : tC) (x2 : Int32) (T : tS) : Prop := tX mX6_goOn 1 c 142 [some (.ref c.2.2.2.1), none, some (.int x2)] T
def h_goOn_178 (c : tC) (x2 : Int32) (T : tS) : Prop := tX mX6_goOn 1 c 178 [some (.ref c.2.2.2.1), none, some (.int x2)] T
def h_goOn_235 (c : tC) (x2 : Int32) (T : tS) : Prop := tX mX6_goOn 1 c 235 [some (.ref c.2.2.2.1), none, some (.int x2)] T
set_option maxHeartbeats 2000000 in
theorem s_goOn_0 (c : tC) (T : tS) (H : (T.1 3 + (0 : Int32) < T.1 2 → vp_in (T.1 3 + (0 : Int32)) 700) ∧ (((tHere T (0 : Int32)) = (32 : Int32) → h_goOn_20 c T) ∧ (¬ (tHere T (0 : Int32)) = (32 : Int32) → (T.1 3 + (0 : Int32) < T.1 2 → vp_in (T.1 3 + (0 : Int32)) 700) ∧ ((¬ (tHere T (0 : Int32)) = (10 : Int32) → ((tI (tL (tI T 4 (T.1 3)) 11 (0 : Int64)) 6 (0 : Int32)).1 3 + (0 : Int32) < (tI (tL (tI T 4 (T.1 3)) 11 (0 : Int64)) 6 (0 : Int32)).1 2 → vp_in ((tI (tL (tI T 4 (T.1 3)) 11 (0 : Int64)) 6 (0 : Int32)).1 3 + (0 : Int32)) 700) ∧ ((0 ≤ (tHere (tI (tL (tI T 4 (T.1 3)) 11 (0 : Int64)) 6 (0 : Int32)) (0 : Int32)) → ((zI (tLet (tHere (tI (tL (tI T 4 (T.1 3)) 11 (0 : Int64)) 6 (0 : Int32)) (0 : Int32)))) = 0 → ((zI (tDig (tHere (tI (tL (tI T 4 (T.1 3)) 11 (0 : Int64)) 6 (0 : Int32)) (0 : Int32)))) = 0 → ((zI (tSgn (tHere (tI (tL (tI T 4 (T.1 3)) 11 (0 : Int64)) 6 (0 : Int32)) (0 : Int32)))) = 0 → h_goOn_235 c (1 : Int32) (tI (tI (tI (tL (tI T 4 (T.1 3)) 11 (0 : Int64)) 6 (0 : Int32)) 5 (4 : Int32)) 6 (tHere (tI (tL (tI T 4 (T.1 3)) 11 (0 : Int64)) 6 (0 : Int32)) (0 : Int32)))) ∧ (¬ (zI (tSgn (tHere (tI (tL (tI T 4 (T.1 3)) 11 (0 : Int64)) 6 (0 : Int32)) (0 : Int32)))) = 0 → h_goOn_235 c (1 : Int32) (tI (tI (tI (tL (tI T 4 (T.1 3)) 11 (0 : Int64)) 6 (0 : Int32)) 5 (3 : Int32)) 6 (tHere (tI (tL (tI T 4 (T.1 3)) 11 (0 : Int64)) 6 (0 : Int32)) (0 : Int32))))) ∧ (¬ (zI (tDig (tHere (tI (tL (tI T 4 (T.1 3)) 11 (0 : Int64)) 6 (0 : Int32)) (0 : Int32)))) = 0 → h_goOn_142 c (0 : Int32) (tI (tL (tI T 4 (T.1 3)) 11 (0 : Int64)) 6 (0 : Int32)))) ∧ (¬ (zI (tLet (tHere (tI (tL (tI T 4 (T.1 3)) 11 (0 : Int64)) 6 (0 : Int32)) (0 : Int32)))) = 0 → h_goOn_76 c (0 : Int32) (tI (tL (tI T 4 (T.1 3)) 11 (0 : Int64)) 6 (0 : Int32)))) ∧ (¬ 0 ≤ (tHere (tI (tL (tI T 4 (T.1 3)) 11 (0 : Int64)) 6 (0 : Int32)) (0 : Int32)) → c.2.2.2.2.2.2 none (tI (tI (tL (tI T 4 (T.1 3)) 11 (0 : Int64)) 6 (0 : Int32)) 5 (0 : Int32))))) ∧ ((tHere T (0 : Int32)) = (10 : Int32) → h_goOn_20 c T))))) : h_goOn_0 c T := by
  intro ok
  refine e_aload_n dX6_goOn_0 rfl ?_
  refine e_iconst (0) dX6_goOn_1 (by decide) ?_
  obtain ⟨g5, H⟩ := H
  refine t_callV (As := [.int (0 : Int32)]) ok (ct_here T (0 : Int32) g5) dX6_goOn_2 wX6_here q2722 q2724 qs74 rfl rfl (by decide) rfl (Nat.le_of_ble_eq_true rfl) (fun v1 T2 e4 => ?_)
  obtain ⟨r3, rfl, rfl, hT⟩ := e4
  rw [hT]
  refine e_bipush (32) dX6_goOn_5 (by decide) ?_
  refine e_icmp_eq 20 dX6_goOn_7 (by decide) (fun g6 => ?_) (fun g6 => ?_)
  · replace H := H.1 g6
    exact H ok
  · replace H := H.2 g6
    refine e_aload_n dX6_goOn_10 rfl ?_
    refine e_iconst (0) dX6_goOn_11 (by decide) ?_
    obtain ⟨g11, H⟩ := H
    refine t_callV (As := [.int (0 : Int32)]) ok (ct_here T (0 : Int32) g11) dX6_goOn_12 wX6_here q2722 q2724 qs74 rfl rfl (by decide) rfl (Nat.le_of_ble_eq_true rfl) (fun v7 T8 e10 => ?_)
    obtain ⟨r9, rfl, rfl, hT⟩ := e10
    rw [hT]
    refine e_bipush (10) dX6_goOn_15 (by decide) ?_
    refine e_icmp_ne 33 dX6_goOn_17 (by decide) (fun g12 => ?_) (fun g12 => ?_)
    · replace H := H.1 g12
      refine e_aload_n dX6_goOn_33 rfl ?_
      refine e_aload_n dX6_goOn_34 rfl ?_
      refine t_getI dX6_goOn_35 fX6_3 q2499 (by decide) rfl ?_
      refine t_putI dX6_goOn_38 fX6_4 q2500 (eFit_i _) (by decide) rfl ok.1 ?_
      refine e_aload_n dX6_goOn_41 rfl ?_
      refine e_lconst 0 dX6_goOn_42 (by decide) ?_
      refine t_putL dX6_goOn_43 fX6_11 q2507 (eFit_l _) (by decide) rfl ok.1 ?_
      refine e_aload_n dX6_goOn_46 rfl ?_
      refine e_iconst (0) dX6_goOn_47 (by decide) ?_
      refine t_putI dX6_goOn_48 fX6_6 q2502 (eFit_i _) (by decide) rfl ok.1 ?_
      refine e_aload_n dX6_goOn_51 rfl ?_
      refine e_iconst (0) dX6_goOn_52 (by decide) ?_
      obtain ⟨g17, H⟩ := H
      refine t_callV (As := [.int (0 : Int32)]) ok (ct_here (tI (tL (tI T 4 (T.1 3)) 11 (0 : Int64)) 6 (0 : Int32)) (0 : Int32) g17) dX6_goOn_53 wX6_here q2722 q2724 qs74 rfl rfl (by decide) rfl (Nat.le_of_ble_eq_true rfl) (fun v13 T14 e16 => ?_)
      obtain ⟨r15, rfl, rfl, hT⟩ := e16
      rw [hT]
      refine e_istore_n _ dX6_goOn_56 (by decide) rfl rfl ?_
      refine e_iconst (0) dX6_goOn_57 (by decide) ?_
      refine e_istore_n _ dX6_goOn_58 (by decide) rfl rfl ?_
      refine e_iload_n dX6_goOn_59 rfl ?_
      refine e_if_ge 69 dX6_goOn_60 (by decide) (fun g18 => ?_) (fun g18 => ?_)
      · replace H := H.1 g18
        refine e_iload_n dX6_goOn_69 rfl ?_
        refine t_callS (As := [.int (tHere (tI (tL (tI T 4 (T.1 3)) 11 (0 : Int64)) 6 (0 : Int32)) (0 : Int32))]) ok (ct_isLetter (tHere (tI (tL (tI T 4 (T.1 3)) 11 (0 : Int64)) 6 (0 : Int32)) (0 : Int32))) dX6_goOn_70 wX6_isLetter q2726 q2727 rfl (by decide) rfl (Nat.le_of_ble_eq_true rfl) ?_
        refine e_if_eq 135 dX6_goOn_73 (by decide) (fun g19 => ?_) (fun g19 => ?_)
        · replace H := H.1 g19
          refine e_iload_n dX6_goOn_135 rfl ?_
          refine t_callS (As := [.int (tHere (tI (tL (tI T 4 (T.1 3)) 11 (0 : Int64)) 6 (0 : Int32)) (0 : Int32))]) ok (ct_isDigit (tHere (tI (tL (tI T 4 (T.1 3)) 11 (0 : Int64)) 6 (0 : Int32)) (0 : Int32))) dX6_goOn_136 wX6_isDigit q2729 q2730 rfl (by decide) rfl (Nat.le_of_ble_eq_true rfl) ?_
          refine e_if_eq 212 dX6_goOn_139 (by decide) (fun g20 => ?_) (fun g20 => ?_)
          · replace H := H.1 g20
            refine e_aload_n dX6_goOn_212 rfl ?_
            refine e_iload_n dX6_goOn_213 rfl ?_
            refine t_callS (As := [.int (tHere (tI (tL (tI T 4 (T.1 3)) 11 (0 : Int64)) 6 (0 : Int32)) (0 : Int32))]) ok (ct_isSign (tHere (tI (tL (tI T 4 (T.1 3)) 11 (0 : Int64)) 6 (0 : Int32)) (0 : Int32))) dX6_goOn_214 wX6_isSign q2732 q2733 rfl (by decide) rfl (Nat.le_of_ble_eq_true rfl) ?_
            refine e_if_eq 224 dX6_goOn_217 (by decide) (fun g21 => ?_) (fun g21 => ?_)
            · replace H := H.1 g21
              refine e_iconst (4) dX6_goOn_224 (by decide) ?_
              refine t_putI dX6_goOn_225 fX6_5 q2501 (eFit_i _) (by decide) rfl ok.1 ?_
              refine e_aload_n dX6_goOn_228 rfl ?_
              refine e_iload_n dX6_goOn_229 rfl ?_
              refine t_putI dX6_goOn_230 fX6_6 q2502 (eFit_i _) (by decide) rfl ok.1 ?_
              refine e_iconst (1) dX6_goOn_233 (by decide) ?_
              refine e_istore_n _ dX6_goOn_234 (by decide) rfl rfl ?_
              exact E.less2 (H ok) (eS_s (eS_n (eS_s eS_0)))
            · replace H := H.2 g21
              refine e_iconst (3) dX6_goOn_220 (by decide) ?_
              refine e_goto 225 dX6_goOn_221 (by decide) ?_
              refine t_putI dX6_goOn_225 fX6_5 q2501 (eFit_i _) (by decide) rfl ok.1 ?_
              refine e_aload_n dX6_goOn_228 rfl ?_
              refine e_iload_n dX6_goOn_229 rfl ?_
              refine t_putI dX6_goOn_230 fX6_6 q2502 (eFit_i _) (by decide) rfl ok.1 ?_
              refine e_iconst (1) dX6_goOn_233 (by decide) ?_
              refine e_istore_n _ dX6_goOn_234 (by decide) rfl rfl ?_
              exact E.less2 (H ok) (eS_s (eS_n (eS_s eS_0)))
          · replace H := H.2 g20
            exact E.less2 (H ok) (eS_s (eS_n (eS_s eS_0)))
        · replace H := H.2 g19
          exact E.less2 (H ok) (eS_s (eS_n (eS_s eS_0)))
      · replace H := H.2 g18
        refine e_aload_n dX6_goOn_63 rfl ?_
        refine e_iconst (0) dX6_goOn_64 (by decide) ?_
        refine t_putI dX6_goOn_65 fX6_5 q2501 (eFit_i _) (by decide) rfl ok.1 ?_
        exact e_return dX6_goOn_68 rfl ⟨_, _, rfl, rfl, H⟩
    · replace H := H.2 g12
      exact H ok

set_option maxHeartbeats 2000000 in
theorem s_goOn_20 (c : tC) (T : tS) (H : h_goOn_0 c (tI T 3 ((T.1 3) + (1 : Int32)))) : h_goOn_20 c T := by
  intro ok
  refine e_aload_n dX6_goOn_20 rfl ?_
  refine e_dup dX6_goOn_21 rfl ?_
  refine t_getI dX6_goOn_22 fX6_3 q2499 (by decide) rfl ?_
  refine e_iconst (1) dX6_goOn_25 (by decide) ?_
  refine e_iadd dX6_goOn_26 ?_
  refine t_putI dX6_goOn_27 fX6_3 q2499 (eFit_i _) (by decide) rfl ok.1 ?_
  refine e_goto 0 dX6_goOn_30 (by decide) ?_
  exact H ok

set_option maxHeartbeats 2000000 in
theorem s_goOn_76 (c : tC) (x2 : Int32) (T : tS) (H : (T.1 3 + x2 < T.1 2 → vp_in (T.1 3 + x2) 700) ∧ (((zI (tLet (tHere T x2))) = 0 → (x2 ≤ (6 : Int32) → h_goOn_235 c x2 (tI T 5 (1 : Int32))) ∧ (¬ x2 ≤ (6 : Int32) → h_goOn_235 c x2 (tI T 5 (4 : Int32)))) ∧ (¬ (zI (tLet (tHere T x2))) = 0 → ((6 : Int32) ≤ x2 → h_goOn_111 c x2 T) ∧ (¬ (6 : Int32) ≤ x2 → (T.1 3 + x2 < T.1 2 → vp_in (T.1 3 + x2) 700) ∧ (h_goOn_111 c x2 (tL T 11 (((T.2.1 11) <<< ((8 : Int32).toInt64 &&& 63)) ||| ((tHere T x2).toInt64)))))))) : h_goOn_76 c x2 T := by
  intro ok
  refine e_aload_n dX6_goOn_76 rfl ?_
  refine e_iload_n dX6_goOn_77 rfl ?_
  obtain ⟨g5, H⟩ := H
  refine t_callV (As := [.int x2]) ok (ct_here T x2 g5) dX6_goOn_78 wX6_here q2722 q2724 qs74 rfl rfl (by decide) rfl (Nat.le_of_ble_eq_true rfl) (fun v1 T2 e4 => ?_)
  obtain ⟨r3, rfl, rfl, hT⟩ := e4
  rw [hT]
  refine t_callS (As := [.int (tHere T x2)]) ok (ct_isLetter (tHere T x2)) dX6_goOn_81 wX6_isLetter q2726 q2727 rfl (by decide) rfl (Nat.le_of_ble_eq_true rfl) ?_
  refine e_if_eq 117 dX6_goOn_84 (by decide) (fun g6 => ?_) (fun g6 => ?_)
  · replace H := H.1 g6
    refine e_aload_n dX6_goOn_117 rfl ?_
    refine e_iload_n dX6_goOn_118 rfl ?_
    refine e_bipush (6) dX6_goOn_119 (by decide) ?_
    refine e_icmp_le 128 dX6_goOn_121 (by decide) (fun g7 => ?_) (fun g7 => ?_)
    · replace H := H.1 g7
      refine e_iconst (1) dX6_goOn_128 (by decide) ?_
      refine t_putI dX6_goOn_129 fX6_5 q2501 (eFit_i _) (by decide) rfl ok.1 ?_
      refine e_goto 235 dX6_goOn_132 (by decide) ?_
      exact H ok
    · replace H := H.2 g7
      refine e_iconst (4) dX6_goOn_124 (by decide) ?_
      refine e_goto 129 dX6_goOn_125 (by decide) ?_
      refine t_putI dX6_goOn_129 fX6_5 q2501 (eFit_i _) (by decide) rfl ok.1 ?_
      refine e_goto 235 dX6_goOn_132 (by decide) ?_
      exact H ok
  · replace H := H.2 g6
    refine e_iload_n dX6_goOn_87 rfl ?_
    refine e_bipush (6) dX6_goOn_88 (by decide) ?_
    refine e_icmp_ge 111 dX6_goOn_90 (by decide) (fun g8 => ?_) (fun g8 => ?_)
    · replace H := H.1 g8
      exact H ok
    · replace H := H.2 g8
      refine e_aload_n dX6_goOn_93 rfl ?_
      refine e_aload_n dX6_goOn_94 rfl ?_
      refine t_getL dX6_goOn_95 fX6_11 q2507 (by decide) rfl ?_
      refine e_bipush (8) dX6_goOn_98 (by decide) ?_
      refine e_lshl dX6_goOn_100 ?_
      refine e_aload_n dX6_goOn_101 rfl ?_
      refine e_iload_n dX6_goOn_102 rfl ?_
      obtain ⟨g13, H⟩ := H
      refine t_callV (As := [.int x2]) ok (ct_here T x2 g13) dX6_goOn_103 wX6_here q2722 q2724 qs74 rfl rfl (by decide) rfl (Nat.le_of_ble_eq_true rfl) (fun v9 T10 e12 => ?_)
      obtain ⟨r11, rfl, rfl, hT⟩ := e12
      rw [hT]
      refine e_i2l dX6_goOn_106 ?_
      refine e_lor dX6_goOn_107 ?_
      refine t_putL dX6_goOn_108 fX6_11 q2507 (eFit_l _) (by decide) rfl ok.1 ?_
      exact H ok

set_option maxHeartbeats 2000000 in
theorem s_goOn_111 (c : tC) (x2 : Int32) (T : tS) (H : h_goOn_76 c (x2 + 1) T) : h_goOn_111 c x2 T := by
  intro ok
  refine e_iinc (x2 + 1) _ dX6_goOn_111 rfl rfl (by decide) trivial rfl ?_
  refine e_goto 76 dX6_goOn_114 (by decide) ?_
  exact H ok

set_option maxHeartbeats 2000000 in
theorem s_goOn_142 (c : tC) (x2 : Int32) (T : tS) (H : (T.1 3 + x2 < T.1 2 → vp_in (T.1 3 + x2) 700) ∧ (((zI (tDig (tHere T x2))) = 0 → ((3 : Int32) < x2 → h_goOn_235 c x2 (tI T 5 (4 : Int32))) ∧ (¬ (3 : Int32) < x2 → (T.1 3 + x2 < T.1 2 → vp_in (T.1 3 + x2) 700) ∧ (((zI (tLet (tHere T x2))) = 0 → h_goOn_235 c x2 (tI T 5 (2 : Int32))) ∧ (¬ (zI (tLet (tHere T x2))) = 0 → h_goOn_235 c x2 (tI T 5 (4 : Int32)))))) ∧ (¬ (zI (tDig (tHere T x2))) = 0 → ((3 : Int32) ≤ x2 → h_goOn_178 c x2 T) ∧ (¬ (3 : Int32) ≤ x2 → (T.1 3 + x2 < T.1 2 → vp_in (T.1 3 + x2) 700) ∧ (h_goOn_178 c x2 (tI T 6 ((((10 : Int32) * (T.1 6)) + (tHere T x2)) - (48 : Int32)))))))) : h_goOn_142 c x2 T := by
  intro ok
  refine e_aload_n dX6_goOn_142 rfl ?_
  refine e_iload_n dX6_goOn_143 rfl ?_
  obtain ⟨g5, H⟩ := H
  refine t_callV (As := [.int x2]) ok (ct_here T x2 g5) dX6_goOn_144 wX6_here q2722 q2724 qs74 rfl rfl (by decide) rfl (Nat.le_of_ble_eq_true rfl) (fun v1 T2 e4 => ?_)
  obtain ⟨r3, rfl, rfl, hT⟩ := e4
  rw [hT]
  refine t_callS (As := [.int (tHere T x2)]) ok (ct_isDigit (tHere T x2)) dX6_goOn_147 wX6_isDigit q2729 q2730 rfl (by decide) rfl (Nat.le_of_ble_eq_true rfl) ?_
  refine e_if_eq 184 dX6_goOn_150 (by decide) (fun g6 => ?_) (fun g6 => ?_)
  · replace H := H.1 g6
    refine e_aload_n dX6_goOn_184 rfl ?_
    refine e_iload_n dX6_goOn_185 rfl ?_
    refine e_iconst (3) dX6_goOn_186 (by decide) ?_
    refine e_icmp_gt 201 dX6_goOn_187 (by decide) (fun g7 => ?_) (fun g7 => ?_)
    · replace H := H.1 g7
      refine e_iconst (4) dX6_goOn_201 (by decide) ?_
      refine e_goto 206 dX6_goOn_202 (by decide) ?_
      refine t_putI dX6_goOn_206 fX6_5 q2501 (eFit_i _) (by decide) rfl ok.1 ?_
      refine e_goto 235 dX6_goOn_209 (by decide) ?_
      exact H ok
    · replace H := H.2 g7
      refine e_aload_n dX6_goOn_190 rfl ?_
      refine e_iload_n dX6_goOn_191 rfl ?_
      obtain ⟨g12, H⟩ := H
      refine t_callV (As := [.int x2]) ok (ct_here T x2 g12) dX6_goOn_192 wX6_here q2722 q2724 qs74 rfl rfl (by decide) rfl (Nat.le_of_ble_eq_true rfl) (fun v8 T9 e11 => ?_)
      obtain ⟨r10, rfl, rfl, hT⟩ := e11
      rw [hT]
      refine t_callS (As := [.int (tHere T x2)]) ok (ct_isLetter (tHere T x2)) dX6_goOn_195 wX6_isLetter q2726 q2727 rfl (by decide) rfl (Nat.le_of_ble_eq_true rfl) ?_
      refine e_if_eq 205 dX6_goOn_198 (by decide) (fun g13 => ?_) (fun g13 => ?_)
      · replace H := H.1 g13
        refine e_iconst (2) dX6_goOn_205 (by decide) ?_
        refine t_putI dX6_goOn_206 fX6_5 q2501 (eFit_i _) (by decide) rfl ok.1 ?_
        refine e_goto 235 dX6_goOn_209 (by decide) ?_
        exact H ok
      · replace H := H.2 g13
        refine e_iconst (4) dX6_goOn_201 (by decide) ?_
        refine e_goto 206 dX6_goOn_202 (by decide) ?_
        refine t_putI dX6_goOn_206 fX6_5 q2501 (eFit_i _) (by decide) rfl ok.1 ?_
        refine e_goto 235 dX6_goOn_209 (by decide) ?_
        exact H ok
  · replace H := H.2 g6
    refine e_iload_n dX6_goOn_153 rfl ?_
    refine e_iconst (3) dX6_goOn_154 (by decide) ?_
    refine e_icmp_ge 178 dX6_goOn_155 (by decide) (fun g14 => ?_) (fun g14 => ?_)
    · replace H := H.1 g14
      exact H ok
    · replace H := H.2 g14
      refine e_aload_n dX6_goOn_158 rfl ?_
      refine e_bipush (10) dX6_goOn_159 (by decide) ?_
      refine e_aload_n dX6_goOn_161 rfl ?_
      refine t_getI dX6_goOn_162 fX6_6 q2502 (by decide) rfl ?_
      refine e_imul dX6_goOn_165 ?_
      refine e_aload_n dX6_goOn_166 rfl ?_
      refine e_iload_n dX6_goOn_167 rfl ?_
      obtain ⟨g19, H⟩ := H
      refine t_callV (As := [.int x2]) ok (ct_here T x2 g19) dX6_goOn_168 wX6_here q2722 q2724 qs74 rfl rfl (by decide) rfl (Nat.le_of_ble_eq_true rfl) (fun v15 T16 e18 => ?_)
      obtain ⟨r17, rfl, rfl, hT⟩ := e18
      rw [hT]
      refine e_iadd dX6_goOn_171 ?_
      refine e_bipush (48) dX6_goOn_172 (by decide) ?_
      refine e_isub dX6_goOn_174 ?_
      refine t_putI dX6_goOn_175 fX6_6 q2502 (eFit_i _) (by decide) rfl ok.1 ?_
      exact H ok

set_option maxHeartbeats 2000000 in
theorem s_goOn_178 (c : tC) (x2 : Int32) (T : tS) (H : h_goOn_142 c (x2 + 1) T) : h_goOn_178 c x2 T := by
  intro ok
  refine e_iinc (x2 + 1) _ dX6_goOn_178 rfl rfl (by decide) trivial rfl ?_
  refine e_goto 142 dX6_goOn_181 (by decide) ?_
  exact H ok

set_option maxHeartbeats 2000000 in
theorem s_goOn_235 (c : tC) (x2 : Int32) (T : tS) (H : c.2.2.2.2.2.2 none (tI T 3 ((T.1 3) + x2))) : h_goOn_235 c x2 T := by
  intro ok
  refine e_aload_n dX6_goOn_235 rfl ?_
  refine e_dup dX6_goOn_236 rfl ?_
  refine t_getI dX6_goOn_237 fX6_3 q2499 (by decide) rfl ?_
  refine e_iload_n dX6_goOn_240 rfl ?_
  refine e_iadd dX6_goOn_241 ?_
  refine t_putI dX6_goOn_242 fX6_3 q2499 (eFit_i _) (by decide) rfl ok.1 ?_
  exact e_return dX6_goOn_245 rfl ⟨_, _, rfl, rfl, H⟩

theorem en_goOn (T : tS) (Q : Option Value → tS → Prop) (H : ∀ c : tC, c.2.2.2.2.2.2 = Q → h_goOn_0 c T) : tM mX6_goOn 1 (fun b => []) T Q :=
  tM_mk (by decide) rfl (fun b => Nat.le_of_ble_eq_true rfl) (fun c hc ok => E.less2 (H c hc ok) (eS_s (eS_n (eS_n eS_0))))
/-! begins ()V level 2 -/
def h_begins_0 (c : tC) (T : tS) : Prop := tX mX6_begins 2 c 0 [some (.ref c.2.2.2.1)] T
set_option maxHeartbeats 2000000 in
theorem s_begins_0 (c : tC) (T : tS) (H : ∃ Q1 : tS → Prop, tMv mX6_goOn 1 (fun b => []) (tI (tI (tI (tI (tI T 2 (T.1 1)) 1 (0 : Int32)) 3 (0 : Int32)) 7 (0 : Int32)) 8 (-1 : Int32)) Q1 ∧ ∀ T4 : tS, Q1 T4 → c.2.2.2.2.2.2 none T4) : h_begins_0 c T := by
  intro ok
  refine e_aload_n dX6_begins_0 rfl ?_
  refine e_aload_n dX6_begins_1 rfl ?_
  refine t_getI dX6_begins_2 fX6_1 q2497 (by decide) rfl ?_
  refine t_putI dX6_begins_5 fX6_2 q2498 (eFit_i _) (by decide) rfl ok.1 ?_
  refine e_aload_n dX6_begins_8 rfl ?_
  refine e_iconst (0) dX6_begins_9 (by decide) ?_
  refine t_putI dX6_begins_10 fX6_1 q2497 (eFit_i _) (by decide) rfl ok.1 ?_
  refine e_aload_n dX6_begins_13 rfl ?_
  refine e_iconst (0) dX6_begins_14 (by decide) ?_
  refine t_putI dX6_begins_15 fX6_3 q2499 (eFit_i _) (by decide) rfl ok.1 ?_
  refine e_aload_n dX6_begins_18 rfl ?_
  refine e_iconst (0) dX6_begins_19 (by decide) ?_
  refine t_putI dX6_begins_20 fX6_7 q2503 (eFit_i _) (by decide) rfl ok.1 ?_
  refine e_aload_n dX6_begins_23 rfl ?_
  refine e_iconst (-1) dX6_begins_24 (by decide) ?_
  refine t_putI dX6_begins_25 fX6_8 q2504 (eFit_i _) (by decide) rfl ok.1 ?_
  refine e_aload_n dX6_begins_28 rfl ?_
  obtain ⟨Q1, hC2, H⟩ := H
  refine t_callV (As := []) ok hC2 dX6_begins_29 wX6_goOn q2718 q2720 qs73 rfl rfl (by decide) rfl (Nat.le_of_ble_eq_true rfl) (fun v3 T4 e5 => ?_)
  obtain ⟨rfl, e5⟩ := e5
  replace H := H T4 e5
  exact e_return dX6_begins_32 rfl ⟨_, _, rfl, rfl, H⟩

theorem en_begins (T : tS) (Q : Option Value → tS → Prop) (H : ∀ c : tC, c.2.2.2.2.2.2 = Q → h_begins_0 c T) : tM mX6_begins 2 (fun b => []) T Q :=
  tM_mk (by decide) rfl (fun b => Nat.le_of_ble_eq_true rfl) (fun c hc ok => E.less2 (H c hc ok) (eS_s eS_0))
/-! must (I)V level 2 -/
def h_must_0 (c : tC) (x1 : Int32) (T : tS) : Prop := tX mX6_must 2 c 0 [some (.ref c.2.2.2.1), some (.int x1)] T
def h_must_20 (c : tC) (T : tS) : Prop := tX mX6_must 2 c 20 [some (.ref c.2.2.2.1), none] T
set_option maxHeartbeats 2000000 in
theorem s_must_0 (c : tC) (x1 : Int32) (T : tS) (H : ((zI (T.1 7 = 0)) = 0 → h_must_20 c T) ∧ (¬ (zI (T.1 7 = 0)) = 0 → (¬ (zI (T.1 7 = 0 ∧ T.1 5 = 3 ∧ T.1 6 = x1)) = 0 → h_must_20 c T) ∧ ((zI (T.1 7 = 0 ∧ T.1 5 = 3 ∧ T.1 6 = x1)) = 0 → ∃ Q11 : tS → Prop, tMv mX6_wrong 1 (fun b => [.int (2 : Int32)]) T Q11 ∧ ∀ T14 : tS, Q11 T14 → h_must_20 c T14))) : h_must_0 c x1 T := by
  intro ok
  refine e_aload_n dX6_must_0 rfl ?_
  refine t_callV (As := []) ok (ct_isGood T ) dX6_must_1 wX6_isGood q2752 q2754 qs79 rfl rfl (by decide) rfl (Nat.le_of_ble_eq_true rfl) (fun v1 T2 e4 => ?_)
  obtain ⟨r3, rfl, rfl, hT⟩ := e4
  rw [hT]
  refine e_if_eq 20 dX6_must_4 (by decide) (fun g5 => ?_) (fun g5 => ?_)
  · replace H := H.1 g5
    exact E.less2 (H ok) (eS_s (eS_n eS_0))
  · replace H := H.2 g5
    refine e_aload_n dX6_must_7 rfl ?_
    refine e_iload_n dX6_must_8 rfl ?_
    refine t_callV (As := [.int x1]) ok (ct_isSignHere T x1) dX6_must_9 wX6_isSignHere q2764 q2766 qs82 rfl rfl (by decide) rfl (Nat.le_of_ble_eq_true rfl) (fun v6 T7 e9 => ?_)
    obtain ⟨r8, rfl, rfl, hT⟩ := e9
    rw [hT]
    refine e_if_ne 20 dX6_must_12 (by decide) (fun g10 => ?_) (fun g10 => ?_)
    · replace H := H.1 g10
      exact E.less2 (H ok) (eS_s (eS_n eS_0))
    · replace H := H.2 g10
      refine e_aload_n dX6_must_15 rfl ?_
      refine e_iconst (2) dX6_must_16 (by decide) ?_
      obtain ⟨Q11, hC12, H⟩ := H
      refine t_callV (As := [.int (2 : Int32)]) ok hC12 dX6_must_17 wX6_wrong q2744 q2746 qs77 rfl rfl (by decide) rfl (Nat.le_of_ble_eq_true rfl) (fun v13 T14 e15 => ?_)
      obtain ⟨rfl, e15⟩ := e15
      replace H := H T14 e15
      exact E.less2 (H ok) (eS_s (eS_n eS_0))

set_option maxHeartbeats 2000000 in
theorem s_must_20 (c : tC) (T : tS) (H : ((zI (T.1 7 = 0)) = 0 → c.2.2.2.2.2.2 none T) ∧ (¬ (zI (T.1 7 = 0)) = 0 → ∃ Q6 : tS → Prop, tMv mX6_goOn 1 (fun b => []) T Q6 ∧ ∀ T9 : tS, Q6 T9 → c.2.2.2.2.2.2 none T9)) : h_must_20 c T := by
  intro ok
  refine e_aload_n dX6_must_20 rfl ?_
  refine t_callV (As := []) ok (ct_isGood T ) dX6_must_21 wX6_isGood q2752 q2754 qs79 rfl rfl (by decide) rfl (Nat.le_of_ble_eq_true rfl) (fun v1 T2 e4 => ?_)
  obtain ⟨r3, rfl, rfl, hT⟩ := e4
  rw [hT]
  refine e_if_eq 31 dX6_must_24 (by decide) (fun g5 => ?_) (fun g5 => ?_)
  · replace H := H.1 g5
    exact e_return dX6_must_31 rfl ⟨_, _, rfl, rfl, H⟩
  · replace H := H.2 g5
    refine e_aload_n dX6_must_27 rfl ?_
    obtain ⟨Q6, hC7, H⟩ := H
    refine t_callV (As := []) ok hC7 dX6_must_28 wX6_goOn q2718 q2720 qs73 rfl rfl (by decide) rfl (Nat.le_of_ble_eq_true rfl) (fun v8 T9 e10 => ?_)
    obtain ⟨rfl, e10⟩ := e10
    replace H := H T9 e10
    exact e_return dX6_must_31 rfl ⟨_, _, rfl, rfl, H⟩

theorem en_must (x1 : Int32) (T : tS) (Q : Option Value → tS → Prop) (H : ∀ c : tC, c.2.2.2.2.2.2 = Q → h_must_0 c x1 T) : tM mX6_must 2 (fun b => [.int x1]) T Q :=
  tM_mk (by decide) rfl (fun b => Nat.le_of_ble_eq_true rfl) (fun c hc ok => E.less2 (H c hc ok) (eS_s (eS_s eS_0)))
/-! number (II)I level 2 -/
def h_number_0 (c : tC) (x1 : Int32) (x2 : Int32) (T : tS) : Prop := tX mX6_number 2 c 0 [some (.ref c.2.2.2.1), some (.int x1), some (.int x2), none] T
def h_number_20 (c : tC) (x1 : Int32) (x2 : Int32) (T : tS) : Prop := tX mX6_number 2 c 20 [some (.ref c.2.2.2.1), some (.int x1), some (.int x2), none] T
def h_number_49 (c : tC) (x3 : Int32) (T : tS) : Prop := tX mX6_number 2 c 49 [some (.ref c.2.2.2.1), none, none, some (.int x3)] T
set_option maxHeartbeats 2000000 in
theorem s_number_0 (c : tC) (x1 : Int32) (x2 : Int32) (T : tS) (H : ((zI (T.1 7 = 0)) = 0 → h_number_20 c x1 x2 T) ∧ (¬ (zI (T.1 7 = 0)) = 0 → ((T.1 5) = (2 : Int32) → h_number_20 c x1 x2 T) ∧ (¬ (T.1 5) = (2 : Int32) → ∃ Q7 : tS → Prop, tMv mX6_wrong 1 (fun b => [.int (2 : Int32)]) T Q7 ∧ ∀ T10 : tS, Q7 T10 → h_number_20 c x1 x2 T10))) : h_number_0 c x1 x2 T := by
  intro ok
  refine e_aload_n dX6_number_0 rfl ?_
  refine t_callV (As := []) ok (ct_isGood T ) dX6_number_1 wX6_isGood q2752 q2754 qs79 rfl rfl (by decide) rfl (Nat.le_of_ble_eq_true rfl) (fun v1 T2 e4 => ?_)
  obtain ⟨r3, rfl, rfl, hT⟩ := e4
  rw [hT]
  refine e_if_eq 20 dX6_number_4 (by decide) (fun g5 => ?_) (fun g5 => ?_)
  · replace H := H.1 g5
    exact H ok
  · replace H := H.2 g5
    refine e_aload_n dX6_number_7 rfl ?_
    refine t_getI dX6_number_8 fX6_5 q2501 (by decide) rfl ?_
    refine e_iconst (2) dX6_number_11 (by decide) ?_
    refine e_icmp_eq 20 dX6_number_12 (by decide) (fun g6 => ?_) (fun g6 => ?_)
    · replace H := H.1 g6
      exact H ok
    · replace H := H.2 g6
      refine e_aload_n dX6_number_15 rfl ?_
      refine e_iconst (2) dX6_number_16 (by decide) ?_
      obtain ⟨Q7, hC8, H⟩ := H
      refine t_callV (As := [.int (2 : Int32)]) ok hC8 dX6_number_17 wX6_wrong q2744 q2746 qs77 rfl rfl (by decide) rfl (Nat.le_of_ble_eq_true rfl) (fun v9 T10 e11 => ?_)
      obtain ⟨rfl, e11⟩ := e11
      replace H := H T10 e11
      exact H ok

set_option maxHeartbeats 2000000 in
theorem s_number_20 (c : tC) (x1 : Int32) (x2 : Int32) (T : tS) (H : ((zI (T.1 7 = 0)) = 0 → h_number_49 c (T.1 6) T) ∧ (¬ (zI (T.1 7 = 0)) = 0 → (¬ (zI (x1.toInt64 ≤ ((T.1 6).toInt64) ∧ ((T.1 6).toInt64) ≤ x2.toInt64)) = 0 → h_number_49 c (T.1 6) T) ∧ ((zI (x1.toInt64 ≤ ((T.1 6).toInt64) ∧ ((T.1 6).toInt64) ≤ x2.toInt64)) = 0 → ∃ Q7 : tS → Prop, tMv mX6_wrong 1 (fun b => [.int (4 : Int32)]) T Q7 ∧ ∀ T10 : tS, Q7 T10 → h_number_49 c (T.1 6) T10))) : h_number_20 c x1 x2 T := by
  intro ok
  refine e_aload_n dX6_number_20 rfl ?_
  refine t_getI dX6_number_21 fX6_6 q2502 (by decide) rfl ?_
  refine e_istore_n _ dX6_number_24 (by decide) rfl rfl ?_
  refine e_aload_n dX6_number_25 rfl ?_
  refine t_callV (As := []) ok (ct_isGood T ) dX6_number_26 wX6_isGood q2752 q2754 qs79 rfl rfl (by decide) rfl (Nat.le_of_ble_eq_true rfl) (fun v1 T2 e4 => ?_)
  obtain ⟨r3, rfl, rfl, hT⟩ := e4
  rw [hT]
  refine e_if_eq 49 dX6_number_29 (by decide) (fun g5 => ?_) (fun g5 => ?_)
  · replace H := H.1 g5
    exact E.less2 (H ok) (eS_s (eS_n (eS_n (eS_s eS_0))))
  · replace H := H.2 g5
    refine e_iload_n dX6_number_32 rfl ?_
    refine e_i2l dX6_number_33 ?_
    refine e_iload_n dX6_number_34 rfl ?_
    refine e_i2l dX6_number_35 ?_
    refine e_iload_n dX6_number_36 rfl ?_
    refine e_i2l dX6_number_37 ?_
    refine t_callS (As := [.long ((T.1 6).toInt64), .long x1.toInt64, .long x2.toInt64]) ok (ct_isIn ((T.1 6).toInt64) x1.toInt64 x2.toInt64) dX6_number_38 wX6_isIn q2707 q2708 rfl (by decide) rfl (Nat.le_of_ble_eq_true rfl) ?_
    refine e_if_ne 49 dX6_number_41 (by decide) (fun g6 => ?_) (fun g6 => ?_)
    · replace H := H.1 g6
      exact E.less2 (H ok) (eS_s (eS_n (eS_n (eS_s eS_0))))
    · replace H := H.2 g6
      refine e_aload_n dX6_number_44 rfl ?_
      refine e_iconst (4) dX6_number_45 (by decide) ?_
      obtain ⟨Q7, hC8, H⟩ := H
      refine t_callV (As := [.int (4 : Int32)]) ok hC8 dX6_number_46 wX6_wrong q2744 q2746 qs77 rfl rfl (by decide) rfl (Nat.le_of_ble_eq_true rfl) (fun v9 T10 e11 => ?_)
      obtain ⟨rfl, e11⟩ := e11
      replace H := H T10 e11
      exact E.less2 (H ok) (eS_s (eS_n (eS_n (eS_s eS_0))))

set_option maxHeartbeats 2000000 in
theorem s_number_49 (c : tC) (x3 : Int32) (T : tS) (H : ((zI (T.1 7 = 0)) = 0 → c.2.2.2.2.2.2 (some (.int x3)) T) ∧ (¬ (zI (T.1 7 = 0)) = 0 → ∃ Q6 : tS → Prop, tMv mX6_goOn 1 (fun b => []) T Q6 ∧ ∀ T9 : tS, Q6 T9 → c.2.2.2.2.2.2 (some (.int x3)) T9)) : h_number_49 c x3 T := by
  intro ok
  refine e_aload_n dX6_number_49 rfl ?_
  refine t_callV (As := []) ok (ct_isGood T ) dX6_number_50 wX6_isGood q2752 q2754 qs79 rfl rfl (by decide) rfl (Nat.le_of_ble_eq_true rfl) (fun v1 T2 e4 => ?_)
  obtain ⟨r3, rfl, rfl, hT⟩ := e4
  rw [hT]
  refine e_if_eq 60 dX6_number_53 (by decide) (fun g5 => ?_) (fun g5 => ?_)
  · replace H := H.1 g5
    refine e_iload_n dX6_number_60 rfl ?_
    exact e_ireturn .int dX6_number_61 rfl rfl ⟨_, _, rfl, rfl, H⟩
  · replace H := H.2 g5
    refine e_aload_n dX6_number_56 rfl ?_
    obtain ⟨Q6, hC7, H⟩ := H
    refine t_callV (As := []) ok hC7 dX6_number_57 wX6_goOn q2718 q2720 qs73 rfl rfl (by decide) rfl (Nat.le_of_ble_eq_true rfl) (fun v8 T9 e10 => ?_)
    obtain ⟨rfl, e10⟩ := e10
    replace H := H T9 e10
    refine e_iload_n dX6_number_60 rfl ?_
    exact e_ireturn .int dX6_number_61 rfl rfl ⟨_, _, rfl, rfl, H⟩

theorem en_number (x1 : Int32) (x2 : Int32) (T : tS) (Q : Option Value → tS → Prop) (H : ∀ c : tC, c.2.2.2.2.2.2 = Q → h_number_0 c x1 x2 T) : tM mX6_number 2 (fun b => [.int x1, .int x2]) T Q :=
  tM_mk (by decide) rfl (fun b => Nat.le_of_ble_eq_true rfl) (fun c hc ok => E.less2 (H c hc ok) (eS_s (eS_s (eS_s (eS_n eS_0)))))
/-! isFit ([JI)Z level 1 -/
def h_isFit_0 (c : tC) (x1 : Nat) (x2 : Int32) (T : tS) : Prop := tX mX6_isFit 1 c 0 [some (.ref c.2.2.2.1), some (.ref (tAd c.2.2.2.1 x1)), some (.int x2), none, none] T
def h_isFit_5 (c : tC) (x1 : Nat) (x2 : Int32) (x3 : Int32) (x4 : Int32) (T : tS) : Prop := tX mX6_isFit 1 c 5 [some (.ref c.2.2.2.1), some (.ref (tAd c.2.2.2.1 x1)), some (.int x2), some (.int x3), some (.int x4)] T
def h_isFit_40 (c : tC) (x1 : Nat) (x2 : Int32) (x4 : Int32) (T : tS) : Prop := tX mX6_isFit 1 c 40 [some (.ref c.2.2.2.1), some (.ref (tAd c.2.2.2.1 x1)), some (.int x2), none, some (.int x4)] T
def h_isFit_51 (c : tC) (x1 : Nat) (x2 : Int32) (x3 : Int32) (x4 : Int32) (T : tS) : Prop := tX mX6_isFit 1 c 51 [some (.ref c.2.2.2.1), some (.ref (tAd c.2.2.2.1 x1)), some (.int x2), some (.int x3), some (.int x4)] T
set_option maxHeartbeats 2000000 in
theorem s_isFit_0 (c : tC) (x1 : Nat) (x2 : Int32) (T : tS) (ha1 : x1 < 66) (hk1 : tKd x1 = 3) (H : h_isFit_5 c x1 x2 (1 : Int32) (0 : Int32) T) : h_isFit_0 c x1 x2 T := by
  intro ok
  refine e_iconst (1) dX6_isFit_0 (by decide) ?_
  refine e_istore_n _ dX6_isFit_1 (by decide) rfl rfl ?_
  refine e_iconst (0) dX6_isFit_2 (by decide) ?_
  refine e_istore _ dX6_isFit_3 (by decide) rfl rfl ?_
  exact H ok

set_option maxHeartbeats 2000000 in
theorem s_isFit_5 (c : tC) (x1 : Nat) (x2 : Int32) (x3 : Int32) (x4 : Int32) (T : tS) (ha1 : x1 < 66) (hk1 : tKd x1 = 3) (H : ((T.1 26) ≤ x4 → h_isFit_51 c x1 x2 x3 (0 : Int32) T) ∧ (¬ (T.1 26) ≤ x4 → (x3 = 0 → h_isFit_40 c x1 x2 x4 T) ∧ (¬ x3 = 0 → vp_in (x2 + x4) (tLn x1) ∧ (((zI ((-1000000000000 : Int64) ≤ (T.2.2.2 x1 (x2 + x4).toNatClampNeg) ∧ (T.2.2.2 x1 (x2 + x4).toNatClampNeg) ≤ (1000000000000 : Int64))) = 0 → h_isFit_40 c x1 x2 x4 T) ∧ (¬ (zI ((-1000000000000 : Int64) ≤ (T.2.2.2 x1 (x2 + x4).toNatClampNeg) ∧ (T.2.2.2 x1 (x2 + x4).toNatClampNeg) ≤ (1000000000000 : Int64))) = 0 → h_isFit_5 c x1 x2 (1 : Int32) (x4 + 1) T))))) : h_isFit_5 c x1 x2 x3 x4 T := by
  intro ok
  refine e_iload dX6_isFit_5 rfl ?_
  refine e_aload_n dX6_isFit_7 rfl ?_
  refine t_getI dX6_isFit_8 fX6_26 q2522 (by decide) rfl ?_
  refine e_icmp_ge 48 dX6_isFit_11 (by decide) (fun g1 => ?_) (fun g1 => ?_)
  · replace H := H.1 g1
    refine e_iconst (0) dX6_isFit_48 (by decide) ?_
    refine e_istore _ dX6_isFit_49 (by decide) rfl rfl ?_
    exact H ok
  · replace H := H.2 g1
    refine e_iload_n dX6_isFit_14 rfl ?_
    refine e_if_eq 40 dX6_isFit_15 (by decide) (fun g2 => ?_) (fun g2 => ?_)
    · replace H := H.1 g2
      exact E.less2 (H ok) (eS_s (eS_s (eS_s (eS_n (eS_s eS_0)))))
    · replace H := H.2 g2
      refine e_aload_n dX6_isFit_18 rfl ?_
      refine e_iload_n dX6_isFit_19 rfl ?_
      refine e_iload dX6_isFit_20 rfl ?_
      refine e_iadd dX6_isFit_22 ?_
      obtain ⟨g3, H⟩ := H
      refine t_lald dX6_isFit_23 ha1 hk1 g3 ?_
      refine e_ldc2 dX6_isFit_24 q2811 ?_
      refine e_ldc2 dX6_isFit_27 q2812 ?_
      refine t_callS (As := [.long (T.2.2.2 x1 (x2 + x4).toNatClampNeg), .long (-1000000000000 : Int64), .long (1000000000000 : Int64)]) ok (ct_isIn (T.2.2.2 x1 (x2 + x4).toNatClampNeg) (-1000000000000 : Int64) (1000000000000 : Int64)) dX6_isFit_30 wX6_isIn q2707 q2708 rfl (by decide) rfl (Nat.le_of_ble_eq_true rfl) ?_
      refine e_if_eq 40 dX6_isFit_33 (by decide) (fun g4 => ?_) (fun g4 => ?_)
      · replace H := H.1 g4
        exact E.less2 (H ok) (eS_s (eS_s (eS_s (eS_n (eS_s eS_0)))))
      · replace H := H.2 g4
        refine e_iconst (1) dX6_isFit_36 (by decide) ?_
        refine e_goto 41 dX6_isFit_37 (by decide) ?_
        refine e_istore_n _ dX6_isFit_41 (by decide) rfl rfl ?_
        refine e_iinc (x4 + 1) _ dX6_isFit_42 rfl rfl (by decide) rfl rfl ?_
        refine e_goto 5 dX6_isFit_45 (by decide) ?_
        exact H ok

set_option maxHeartbeats 2000000 in
theorem s_isFit_40 (c : tC) (x1 : Nat) (x2 : Int32) (x4 : Int32) (T : tS) (ha1 : x1 < 66) (hk1 : tKd x1 = 3) (H : h_isFit_5 c x1 x2 (0 : Int32) (x4 + 1) T) : h_isFit_40 c x1 x2 x4 T := by
  intro ok
  refine e_iconst (0) dX6_isFit_40 (by decide) ?_
  refine e_istore_n _ dX6_isFit_41 (by decide) rfl rfl ?_
  refine e_iinc (x4 + 1) _ dX6_isFit_42 rfl rfl (by decide) rfl rfl ?_
  refine e_goto 5 dX6_isFit_45 (by decide) ?_
  exact H ok

set_option maxHeartbeats 2000000 in
theorem s_isFit_51 (c : tC) (x1 : Nat) (x2 : Int32) (x3 : Int32) (x4 : Int32) (T : tS) (ha1 : x1 < 66) (hk1 : tKd x1 = 3) (H : ((T.1 26) ≤ x4 → narrow .boolean (.int x3) = .int x3 ∧ c.2.2.2.2.2.2 (some (.int x3)) T) ∧ (¬ (T.1 26) ≤ x4 → (x3 = 0 → narrow .boolean (.int x3) = .int x3 ∧ c.2.2.2.2.2.2 (some (.int x3)) T) ∧ (¬ x3 = 0 → ∃ Q3 : Int64 → tS → Prop, tMl mX6_markAt 0 (fun b => [.ref (tAd b x1), .int x2, .int x4]) T Q3 ∧ ∀ (r8 : Int64) (T6 : tS), Q3 r8 T6 → h_isFit_51 c x1 x2 (zI ((-1000000000000 : Int64) ≤ r8 ∧ r8 ≤ (1000000000000 : Int64))) (x4 + 1) T6))) : h_isFit_51 c x1 x2 x3 x4 T := by
  intro ok
  refine e_iload dX6_isFit_51 rfl ?_
  refine e_aload_n dX6_isFit_53 rfl ?_
  refine t_getI dX6_isFit_54 fX6_26 q2522 (by decide) rfl ?_
  refine e_icmp_ge 88 dX6_isFit_57 (by decide) (fun g1 => ?_) (fun g1 => ?_)
  · replace H := H.1 g1
    refine e_iload_n dX6_isFit_88 rfl ?_
    exact e_ireturn .boolean dX6_isFit_89 rfl H.1 ⟨_, _, rfl, rfl, H.2⟩
  · replace H := H.2 g1
    refine e_iload_n dX6_isFit_60 rfl ?_
    refine e_if_eq 88 dX6_isFit_61 (by decide) (fun g2 => ?_) (fun g2 => ?_)
    · replace H := H.1 g2
      refine e_iload_n dX6_isFit_88 rfl ?_
      exact e_ireturn .boolean dX6_isFit_89 rfl H.1 ⟨_, _, rfl, rfl, H.2⟩
    · replace H := H.2 g2
      refine e_aload_n dX6_isFit_64 rfl ?_
      refine e_aload_n dX6_isFit_65 rfl ?_
      refine e_iload_n dX6_isFit_66 rfl ?_
      refine e_iload dX6_isFit_67 rfl ?_
      obtain ⟨Q3, hC4, H⟩ := H
      refine t_callV (As := [.ref (tAd c.2.2.2.1 x1), .int x2, .int x4]) ok hC4 dX6_isFit_69 wX6_markAt q2813 q2815 qs93 rfl rfl (by decide) rfl (Nat.le_of_ble_eq_true rfl) (fun v5 T6 e7 => ?_)
      obtain ⟨r8, rfl, e7⟩ := e7
      replace H := H r8 T6 e7
      refine e_ldc2 dX6_isFit_72 q2811 ?_
      refine e_ldc2 dX6_isFit_75 q2812 ?_
      refine t_callS (As := [.long r8, .long (-1000000000000 : Int64), .long (1000000000000 : Int64)]) ok (ct_isIn r8 (-1000000000000 : Int64) (1000000000000 : Int64)) dX6_isFit_78 wX6_isIn q2707 q2708 rfl (by decide) rfl (Nat.le_of_ble_eq_true rfl) ?_
      refine e_istore_n _ dX6_isFit_81 (by decide) rfl rfl ?_
      refine e_iinc (x4 + 1) _ dX6_isFit_82 rfl rfl (by decide) rfl rfl ?_
      refine e_goto 51 dX6_isFit_85 (by decide) ?_
      exact H ok

theorem en_isFit (x1 : Nat) (x2 : Int32) (T : tS) (Q : Option Value → tS → Prop) (H : ∀ c : tC, c.2.2.2.2.2.2 = Q → h_isFit_0 c x1 x2 T) : tM mX6_isFit 1 (fun b => [.ref (tAd b x1), .int x2]) T Q :=
  tM_mk (by decide) rfl (fun b => Nat.le_of_ble_eq_true rfl) (fun c hc ok => E.less2 (H c hc ok) (eS_s (eS_s (eS_s (eS_n (eS_n eS_0))))))
/-! looks ()V level 2 -/
def h_looks_0 (c : tC) (T : tS) : Prop := tX mX6_looks 2 c 0 [some (.ref c.2.2.2.1), none] T
def h_looks_28 (c : tC) (x1 : Int32) (T : tS) : Prop := tX mX6_looks 2 c 28 [some (.ref c.2.2.2.1), some (.int x1)] T
set_option maxHeartbeats 2000000 in
theorem s_looks_0 (c : tC) (T : tS) (H : ∃ Q1 : Int32 → tS → Prop, tMi mX6_isFit 1 (fun b => [.ref (tAd b 33), .int ((64 : Int32) * ((T.1 38) - (1 : Int32)))]) T Q1 ∧ ∀ (r6 : Int32) (T4 : tS), Q1 r6 T4 → (r6 = 0 → h_looks_28 c (0 : Int32) (tI T4 39 (1 : Int32))) ∧ (¬ r6 = 0 → c.2.2.2.2.2.2 none T4)) : h_looks_0 c T := by
  intro ok
  refine e_aload_n dX6_looks_0 rfl ?_
  refine e_aload_n dX6_looks_1 rfl ?_
  refine t_getA dX6_looks_2 fX6_33 q2529 (by decide) rfl ?_
  refine e_bipush (64) dX6_looks_5 (by decide) ?_
  refine e_aload_n dX6_looks_7 rfl ?_
  refine t_getI dX6_looks_8 fX6_38 q2534 (by decide) rfl ?_
  refine e_iconst (1) dX6_looks_11 (by decide) ?_
  refine e_isub dX6_looks_12 ?_
  refine e_imul dX6_looks_13 ?_
  obtain ⟨Q1, hC2, H⟩ := H
  refine t_callV (As := [.ref (tAd c.2.2.2.1 33), .int ((64 : Int32) * ((T.1 38) - (1 : Int32)))]) ok hC2 dX6_looks_14 wX6_isFit q2807 q2809 qs92 rfl rfl (by decide) rfl (Nat.le_of_ble_eq_true rfl) (fun v3 T4 e5 => ?_)
  obtain ⟨r6, rfl, e5⟩ := e5
  replace H := H r6 T4 e5
  refine e_if_eq 21 dX6_looks_17 (by decide) (fun g7 => ?_) (fun g7 => ?_)
  · replace H := H.1 g7
    refine e_aload_n dX6_looks_21 rfl ?_
    refine e_iconst (1) dX6_looks_22 (by decide) ?_
    refine t_putI dX6_looks_23 fX6_39 q2535 eFit_z1 (by decide) rfl ok.1 ?_
    refine e_iconst (0) dX6_looks_26 (by decide) ?_
    refine e_istore_n _ dX6_looks_27 (by decide) rfl rfl ?_
    exact H ok
  · replace H := H.2 g7
    exact e_return dX6_looks_20 rfl ⟨_, _, rfl, rfl, H⟩

set_option maxHeartbeats 2000000 in
theorem s_looks_28 (c : tC) (x1 : Int32) (T : tS) (H : ((T.1 26) ≤ x1 → c.2.2.2.2.2.2 none T) ∧ (¬ (T.1 26) ≤ x1 → vp_in (((64 : Int32) * ((T.1 38) - (1 : Int32))) + x1) 2560 ∧ (h_looks_28 c (x1 + 1) (tB T 33 (va_up (T.2.2.2 33) (((64 : Int32) * ((T.1 38) - (1 : Int32))) + x1).toNatClampNeg (0 : Int64)))))) : h_looks_28 c x1 T := by
  intro ok
  refine e_iload_n dX6_looks_28 rfl ?_
  refine e_aload_n dX6_looks_29 rfl ?_
  refine t_getI dX6_looks_30 fX6_26 q2522 (by decide) rfl ?_
  refine e_icmp_ge 59 dX6_looks_33 (by decide) (fun g1 => ?_) (fun g1 => ?_)
  · replace H := H.1 g1
    exact e_return dX6_looks_59 rfl ⟨_, _, rfl, rfl, H⟩
  · replace H := H.2 g1
    refine e_aload_n dX6_looks_36 rfl ?_
    refine t_getA dX6_looks_37 fX6_33 q2529 (by decide) rfl ?_
    refine e_bipush (64) dX6_looks_40 (by decide) ?_
    refine e_aload_n dX6_looks_42 rfl ?_
    refine t_getI dX6_looks_43 fX6_38 q2534 (by decide) rfl ?_
    refine e_iconst (1) dX6_looks_46 (by decide) ?_
    refine e_isub dX6_looks_47 ?_
    refine e_imul dX6_looks_48 ?_
    refine e_iload_n dX6_looks_49 rfl ?_
    refine e_iadd dX6_looks_50 ?_
    refine e_lconst 0 dX6_looks_51 (by decide) ?_
    obtain ⟨g2, H⟩ := H
    refine t_last dX6_looks_52 (by decide) rfl ok.1 g2 ?_
    refine e_iinc (x1 + 1) _ dX6_looks_53 rfl rfl (by decide) rfl rfl ?_
    refine e_goto 28 dX6_looks_56 (by decide) ?_
    exact H ok

theorem en_looks (T : tS) (Q : Option Value → tS → Prop) (H : ∀ c : tC, c.2.2.2.2.2.2 = Q → h_looks_0 c T) : tM mX6_looks 2 (fun b => []) T Q :=
  tM_mk (by decide) rfl (fun b => Nat.le_of_ble_eq_true rfl) (fun c hc ok => E.less2 (H c hc ok) (eS_s (eS_n eS_0)))
/-! lays (IJ)V level 3 -/
def h_lays_0 (c : tC) (x1 : Int32) (x2 : Int64) (T : tS) : Prop := tX mX6_lays 3 c 0 [some (.ref c.2.2.2.1), some (.int x1), some (.long x2), none, none] T
def h_lays_3 (c : tC) (x1 : Int32) (x2 : Int64) (x4 : Int32) (T : tS) : Prop := tX mX6_lays 3 c 3 [some (.ref c.2.2.2.1), some (.int x1), some (.long x2), none, some (.int x4)] T
set_option maxHeartbeats 2000000 in
theorem s_lays_0 (c : tC) (x1 : Int32) (x2 : Int64) (T : tS) (H : h_lays_3 c x1 x2 (0 : Int32) T) : h_lays_0 c x1 x2 T := by
  intro ok
  refine e_iconst (0) dX6_lays_0 (by decide) ?_
  refine e_istore _ dX6_lays_1 (by decide) trivial rfl ?_
  exact H ok

set_option maxHeartbeats 2000000 in
theorem s_lays_3 (c : tC) (x1 : Int32) (x2 : Int64) (x4 : Int32) (T : tS) (H : ((T.1 26) ≤ x4 → ∃ Q2 : tS → Prop, tMv mX6_looks 2 (fun b => []) (tI T 38 ((T.1 38) + (1 : Int32))) Q2 ∧ ∀ T5 : tS, Q2 T5 → c.2.2.2.2.2.2 none T5) ∧ (¬ (T.1 26) ≤ x4 → (¬ x4 = x1 → vp_in (((64 : Int32) * (T.1 38)) + x4) 2560 ∧ (h_lays_3 c x1 x2 (x4 + 1) (tB T 33 (va_up (T.2.2.2 33) (((64 : Int32) * (T.1 38)) + x4).toNatClampNeg (0 : Int64))))) ∧ (x4 = x1 → vp_in (((64 : Int32) * (T.1 38)) + x4) 2560 ∧ (h_lays_3 c x1 x2 (x4 + 1) (tB T 33 (va_up (T.2.2.2 33) (((64 : Int32) * (T.1 38)) + x4).toNatClampNeg x2)))))) : h_lays_3 c x1 x2 x4 T := by
  intro ok
  refine e_iload dX6_lays_3 rfl ?_
  refine e_aload_n dX6_lays_5 rfl ?_
  refine t_getI dX6_lays_6 fX6_26 q2522 (by decide) rfl ?_
  refine e_icmp_ge 44 dX6_lays_9 (by decide) (fun g1 => ?_) (fun g1 => ?_)
  · replace H := H.1 g1
    refine e_aload_n dX6_lays_44 rfl ?_
    refine e_dup dX6_lays_45 rfl ?_
    refine t_getI dX6_lays_46 fX6_38 q2534 (by decide) rfl ?_
    refine e_iconst (1) dX6_lays_49 (by decide) ?_
    refine e_iadd dX6_lays_50 ?_
    refine t_putI dX6_lays_51 fX6_38 q2534 (eFit_i _) (by decide) rfl ok.1 ?_
    refine e_aload_n dX6_lays_54 rfl ?_
    obtain ⟨Q2, hC3, H⟩ := H
    refine t_callV (As := []) ok hC3 dX6_lays_55 wX6_looks q2803 q2805 qs91 rfl rfl (by decide) rfl (Nat.le_of_ble_eq_true rfl) (fun v4 T5 e6 => ?_)
    obtain ⟨rfl, e6⟩ := e6
    replace H := H T5 e6
    exact e_return dX6_lays_58 rfl ⟨_, _, rfl, rfl, H⟩
  · replace H := H.2 g1
    refine e_aload_n dX6_lays_12 rfl ?_
    refine t_getA dX6_lays_13 fX6_33 q2529 (by decide) rfl ?_
    refine e_bipush (64) dX6_lays_16 (by decide) ?_
    refine e_aload_n dX6_lays_18 rfl ?_
    refine t_getI dX6_lays_19 fX6_38 q2534 (by decide) rfl ?_
    refine e_imul dX6_lays_22 ?_
    refine e_iload dX6_lays_23 rfl ?_
    refine e_iadd dX6_lays_25 ?_
    refine e_iload dX6_lays_26 rfl ?_
    refine e_iload_n dX6_lays_28 rfl ?_
    refine e_icmp_ne 36 dX6_lays_29 (by decide) (fun g8 => ?_) (fun g8 => ?_)
    · replace H := H.1 g8
      refine e_lconst 0 dX6_lays_36 (by decide) ?_
      obtain ⟨g9, H⟩ := H
      refine t_last dX6_lays_37 (by decide) rfl ok.1 g9 ?_
      refine e_iinc (x4 + 1) _ dX6_lays_38 rfl rfl (by decide) trivial rfl ?_
      refine e_goto 3 dX6_lays_41 (by decide) ?_
      exact H ok
    · replace H := H.2 g8
      refine e_lload_n dX6_lays_32 rfl ?_
      refine e_goto 37 dX6_lays_33 (by decide) ?_
      obtain ⟨g10, H⟩ := H
      refine t_last dX6_lays_37 (by decide) rfl ok.1 g10 ?_
      refine e_iinc (x4 + 1) _ dX6_lays_38 rfl rfl (by decide) trivial rfl ?_
      refine e_goto 3 dX6_lays_41 (by decide) ?_
      exact H ok

theorem en_lays (x1 : Int32) (x2 : Int64) (T : tS) (Q : Option Value → tS → Prop) (H : ∀ c : tC, c.2.2.2.2.2.2 = Q → h_lays_0 c x1 x2 T) : tM mX6_lays 3 (fun b => [.int x1, .long x2]) T Q :=
  tM_mk (by decide) rfl (fun b => Nat.le_of_ble_eq_true rfl) (fun c hc ok => E.less2 (H c hc ok) (eS_s (eS_s (eS_s (eS_n (eS_n eS_0))))))
/-! adds (I)V level 3 -/
def h_adds_0 (c : tC) (x1 : Int32) (T : tS) : Prop := tX mX6_adds 3 c 0 [some (.ref c.2.2.2.1), some (.int x1), none] T
def h_adds_2 (c : tC) (x1 : Int32) (x2 : Int32) (T : tS) : Prop := tX mX6_adds 3 c 2 [some (.ref c.2.2.2.1), some (.int x1), some (.int x2)] T
set_option maxHeartbeats 2000000 in
theorem s_adds_0 (c : tC) (x1 : Int32) (T : tS) (H : h_adds_2 c x1 (0 : Int32) T) : h_adds_0 c x1 T := by
  intro ok
  refine e_iconst (0) dX6_adds_0 (by decide) ?_
  refine e_istore_n _ dX6_adds_1 (by decide) rfl rfl ?_
  exact H ok

set_option maxHeartbeats 2000000 in
theorem s_adds_2 (c : tC) (x1 : Int32) (x2 : Int32) (T : tS) (H : ((T.1 26) ≤ x2 → ∃ Q2 : tS → Prop, tMv mX6_looks 2 (fun b => []) (tI T 38 ((T.1 38) - (1 : Int32))) Q2 ∧ ∀ T5 : tS, Q2 T5 → c.2.2.2.2.2.2 none T5) ∧ (¬ (T.1 26) ≤ x2 → vp_in (((64 : Int32) * ((T.1 38) - (2 : Int32))) + x2) 2560 ∧ (vp_in (((64 : Int32) * ((T.1 38) - (1 : Int32))) + x2) 2560 ∧ (vp_in (((64 : Int32) * ((T.1 38) - (2 : Int32))) + x2) 2560 ∧ (h_adds_2 c x1 (x2 + 1) (tB T 33 (va_up (T.2.2.2 33) (((64 : Int32) * ((T.1 38) - (2 : Int32))) + x2).toNatClampNeg ((T.2.2.2 33 (((64 : Int32) * ((T.1 38) - (2 : Int32))) + x2).toNatClampNeg) + (x1.toInt64 * (T.2.2.2 33 (((64 : Int32) * ((T.1 38) - (1 : Int32))) + x2).toNatClampNeg)))))))))) : h_adds_2 c x1 x2 T := by
  intro ok
  refine e_iload_n dX6_adds_2 rfl ?_
  refine e_aload_n dX6_adds_3 rfl ?_
  refine t_getI dX6_adds_4 fX6_26 q2522 (by decide) rfl ?_
  refine e_icmp_ge 54 dX6_adds_7 (by decide) (fun g1 => ?_) (fun g1 => ?_)
  · replace H := H.1 g1
    refine e_aload_n dX6_adds_54 rfl ?_
    refine e_dup dX6_adds_55 rfl ?_
    refine t_getI dX6_adds_56 fX6_38 q2534 (by decide) rfl ?_
    refine e_iconst (1) dX6_adds_59 (by decide) ?_
    refine e_isub dX6_adds_60 ?_
    refine t_putI dX6_adds_61 fX6_38 q2534 (eFit_i _) (by decide) rfl ok.1 ?_
    refine e_aload_n dX6_adds_64 rfl ?_
    obtain ⟨Q2, hC3, H⟩ := H
    refine t_callV (As := []) ok hC3 dX6_adds_65 wX6_looks q2803 q2805 qs91 rfl rfl (by decide) rfl (Nat.le_of_ble_eq_true rfl) (fun v4 T5 e6 => ?_)
    obtain ⟨rfl, e6⟩ := e6
    replace H := H T5 e6
    exact e_return dX6_adds_68 rfl ⟨_, _, rfl, rfl, H⟩
  · replace H := H.2 g1
    refine e_aload_n dX6_adds_10 rfl ?_
    refine t_getA dX6_adds_11 fX6_33 q2529 (by decide) rfl ?_
    refine e_bipush (64) dX6_adds_14 (by decide) ?_
    refine e_aload_n dX6_adds_16 rfl ?_
    refine t_getI dX6_adds_17 fX6_38 q2534 (by decide) rfl ?_
    refine e_iconst (2) dX6_adds_20 (by decide) ?_
    refine e_isub dX6_adds_21 ?_
    refine e_imul dX6_adds_22 ?_
    refine e_iload_n dX6_adds_23 rfl ?_
    refine e_iadd dX6_adds_24 ?_
    refine e_dup2 dX6_adds_25 rfl rfl ?_
    obtain ⟨g8, H⟩ := H
    refine t_lald dX6_adds_26 (by decide) rfl g8 ?_
    refine e_iload_n dX6_adds_27 rfl ?_
    refine e_i2l dX6_adds_28 ?_
    refine e_aload_n dX6_adds_29 rfl ?_
    refine t_getA dX6_adds_30 fX6_33 q2529 (by decide) rfl ?_
    refine e_bipush (64) dX6_adds_33 (by decide) ?_
    refine e_aload_n dX6_adds_35 rfl ?_
    refine t_getI dX6_adds_36 fX6_38 q2534 (by decide) rfl ?_
    refine e_iconst (1) dX6_adds_39 (by decide) ?_
    refine e_isub dX6_adds_40 ?_
    refine e_imul dX6_adds_41 ?_
    refine e_iload_n dX6_adds_42 rfl ?_
    refine e_iadd dX6_adds_43 ?_
    obtain ⟨g9, H⟩ := H
    refine t_lald dX6_adds_44 (by decide) rfl g9 ?_
    refine e_lmul dX6_adds_45 ?_
    refine e_ladd dX6_adds_46 ?_
    obtain ⟨g10, H⟩ := H
    refine t_last dX6_adds_47 (by decide) rfl ok.1 g10 ?_
    refine e_iinc (x2 + 1) _ dX6_adds_48 rfl rfl (by decide) rfl rfl ?_
    refine e_goto 2 dX6_adds_51 (by decide) ?_
    exact H ok

theorem en_adds (x1 : Int32) (T : tS) (Q : Option Value → tS → Prop) (H : ∀ c : tC, c.2.2.2.2.2.2 = Q → h_adds_0 c x1 T) : tM mX6_adds 3 (fun b => [.int x1]) T Q :=
  tM_mk (by decide) rfl (fun b => Nat.le_of_ble_eq_true rfl) (fun c hc ok => E.less2 (H c hc ok) (eS_s (eS_s (eS_n eS_0))))
/-! marksOf (I[J)V level 1 -/
def h_marksOf_0 (c : tC) (x1 : Int32) (x2 : Nat) (T : tS) : Prop := tX mX6_marksOf 1 c 0 [some (.ref c.2.2.2.1), some (.int x1), some (.ref (tAd c.2.2.2.1 x2)), none] T
def h_marksOf_2 (c : tC) (x1 : Int32) (x2 : Nat) (x3 : Int32) (T : tS) : Prop := tX mX6_marksOf 1 c 2 [some (.ref c.2.2.2.1), some (.int x1), some (.ref (tAd c.2.2.2.1 x2)), some (.int x3)] T
set_option maxHeartbeats 2000000 in
theorem s_marksOf_0 (c : tC) (x1 : Int32) (x2 : Nat) (T : tS) (ha2 : x2 < 66) (hk2 : tKd x2 = 3) (H : h_marksOf_2 c x1 x2 (0 : Int32) T) : h_marksOf_0 c x1 x2 T := by
  intro ok
  refine e_iconst (0) dX6_marksOf_0 (by decide) ?_
  refine e_istore_n _ dX6_marksOf_1 (by decide) rfl rfl ?_
  exact H ok

set_option maxHeartbeats 2000000 in
theorem s_marksOf_2 (c : tC) (x1 : Int32) (x2 : Nat) (x3 : Int32) (T : tS) (ha2 : x2 < 66) (hk2 : tKd x2 = 3) (H : ((T.1 26) ≤ x3 → c.2.2.2.2.2.2 none T) ∧ (¬ (T.1 26) ≤ x3 → ∃ Q2 : Int64 → tS → Prop, tMl mX6_markAt 0 (fun b => [.ref (tAd b 33), .int ((64 : Int32) * x1), .int x3]) T Q2 ∧ ∀ (r7 : Int64) (T5 : tS), Q2 r7 T5 → vp_in x3 (tLn x2) ∧ (h_marksOf_2 c x1 x2 (x3 + 1) (tB T5 x2 (va_up (T5.2.2.2 x2) x3.toNatClampNeg r7))))) : h_marksOf_2 c x1 x2 x3 T := by
  intro ok
  refine e_iload_n dX6_marksOf_2 rfl ?_
  refine e_aload_n dX6_marksOf_3 rfl ?_
  refine t_getI dX6_marksOf_4 fX6_26 q2522 (by decide) rfl ?_
  refine e_icmp_ge 32 dX6_marksOf_7 (by decide) (fun g1 => ?_) (fun g1 => ?_)
  · replace H := H.1 g1
    exact e_return dX6_marksOf_32 rfl ⟨_, _, rfl, rfl, H⟩
  · replace H := H.2 g1
    refine e_aload_n dX6_marksOf_10 rfl ?_
    refine e_iload_n dX6_marksOf_11 rfl ?_
    refine e_aload_n dX6_marksOf_12 rfl ?_
    refine e_aload_n dX6_marksOf_13 rfl ?_
    refine t_getA dX6_marksOf_14 fX6_33 q2529 (by decide) rfl ?_
    refine e_bipush (64) dX6_marksOf_17 (by decide) ?_
    refine e_iload_n dX6_marksOf_19 rfl ?_
    refine e_imul dX6_marksOf_20 ?_
    refine e_iload_n dX6_marksOf_21 rfl ?_
    obtain ⟨Q2, hC3, H⟩ := H
    refine t_callV (As := [.ref (tAd c.2.2.2.1 33), .int ((64 : Int32) * x1), .int x3]) ok hC3 dX6_marksOf_22 wX6_markAt q2813 q2815 qs93 rfl rfl (by decide) rfl (Nat.le_of_ble_eq_true rfl) (fun v4 T5 e6 => ?_)
    obtain ⟨r7, rfl, e6⟩ := e6
    replace H := H r7 T5 e6
    obtain ⟨g8, H⟩ := H
    refine t_last dX6_marksOf_25 ha2 hk2 ok.1 g8 ?_
    refine e_iinc (x3 + 1) _ dX6_marksOf_26 rfl rfl (by decide) rfl rfl ?_
    refine e_goto 2 dX6_marksOf_29 (by decide) ?_
    exact H ok

theorem en_marksOf (x1 : Int32) (x2 : Nat) (T : tS) (Q : Option Value → tS → Prop) (H : ∀ c : tC, c.2.2.2.2.2.2 = Q → h_marksOf_0 c x1 x2 T) : tM mX6_marksOf 1 (fun b => [.int x1, .ref (tAd b x2)]) T Q :=
  tM_mk (by decide) rfl (fun b => Nat.le_of_ble_eq_true rfl) (fun c hc ok => E.less2 (H c hc ok) (eS_s (eS_s (eS_s (eS_n eS_0)))))
/-! timesTwo ()V level 3 -/
def h_timesTwo_0 (c : tC) (T : tS) : Prop := tX mX6_timesTwo 3 c 0 [some (.ref c.2.2.2.1)] T
set_option maxHeartbeats 2000000 in
theorem s_timesTwo_0 (c : tC) (T : tS) (H : ∃ Q1 : tS → Prop, tMv mX6_marksOf 1 (fun b => [.int ((T.1 38) - (2 : Int32)), .ref (tAd b 34)]) T Q1 ∧ ∀ T4 : tS, Q1 T4 → ∃ Q7 : tS → Prop, tMv mX6_marksOf 1 (fun b => [.int ((T4.1 38) - (1 : Int32)), .ref (tAd b 35)]) T4 Q7 ∧ ∀ T10 : tS, Q7 T10 → ∃ Q13 : tS → Prop, tMv mX6_multiplies 0 (fun b => []) T10 Q13 ∧ ∀ T16 : tS, Q13 T16 → ∃ Q19 : tS → Prop, tMv mX6_numbers 0 (fun b => [.ref (tAd b 34), .ref (tAd b 33), .int ((64 : Int32) * (((T16.1 38) - (1 : Int32)) - (1 : Int32)))]) (tI T16 38 ((T16.1 38) - (1 : Int32))) Q19 ∧ ∀ T22 : tS, Q19 T22 → ∃ Q25 : tS → Prop, tMv mX6_looks 2 (fun b => []) T22 Q25 ∧ ∀ T28 : tS, Q25 T28 → c.2.2.2.2.2.2 none T28) : h_timesTwo_0 c T := by
  intro ok
  refine e_aload_n dX6_timesTwo_0 rfl ?_
  refine e_aload_n dX6_timesTwo_1 rfl ?_
  refine t_getI dX6_timesTwo_2 fX6_38 q2534 (by decide) rfl ?_
  refine e_iconst (2) dX6_timesTwo_5 (by decide) ?_
  refine e_isub dX6_timesTwo_6 ?_
  refine e_aload_n dX6_timesTwo_7 rfl ?_
  refine t_getA dX6_timesTwo_8 fX6_34 q2530 (by decide) rfl ?_
  obtain ⟨Q1, hC2, H⟩ := H
  refine t_callV (As := [.int ((T.1 38) - (2 : Int32)), .ref (tAd c.2.2.2.1 34)]) ok hC2 dX6_timesTwo_11 wX6_marksOf q2825 q2827 qs96 rfl rfl (by decide) rfl (Nat.le_of_ble_eq_true rfl) (fun v3 T4 e5 => ?_)
  obtain ⟨rfl, e5⟩ := e5
  replace H := H T4 e5
  refine e_aload_n dX6_timesTwo_14 rfl ?_
  refine e_aload_n dX6_timesTwo_15 rfl ?_
  refine t_getI dX6_timesTwo_16 fX6_38 q2534 (by decide) rfl ?_
  refine e_iconst (1) dX6_timesTwo_19 (by decide) ?_
  refine e_isub dX6_timesTwo_20 ?_
  refine e_aload_n dX6_timesTwo_21 rfl ?_
  refine t_getA dX6_timesTwo_22 fX6_35 q2531 (by decide) rfl ?_
  obtain ⟨Q7, hC8, H⟩ := H
  refine t_callV (As := [.int ((T4.1 38) - (1 : Int32)), .ref (tAd c.2.2.2.1 35)]) ok hC8 dX6_timesTwo_25 wX6_marksOf q2825 q2827 qs96 rfl rfl (by decide) rfl (Nat.le_of_ble_eq_true rfl) (fun v9 T10 e11 => ?_)
  obtain ⟨rfl, e11⟩ := e11
  replace H := H T10 e11
  refine e_aload_n dX6_timesTwo_28 rfl ?_
  obtain ⟨Q13, hC14, H⟩ := H
  refine t_callV (As := []) ok hC14 dX6_timesTwo_29 wX6_multiplies q2829 q2831 qs97 rfl rfl (by decide) rfl (Nat.le_of_ble_eq_true rfl) (fun v15 T16 e17 => ?_)
  obtain ⟨rfl, e17⟩ := e17
  replace H := H T16 e17
  refine e_aload_n dX6_timesTwo_32 rfl ?_
  refine e_dup dX6_timesTwo_33 rfl ?_
  refine t_getI dX6_timesTwo_34 fX6_38 q2534 (by decide) rfl ?_
  refine e_iconst (1) dX6_timesTwo_37 (by decide) ?_
  refine e_isub dX6_timesTwo_38 ?_
  refine t_putI dX6_timesTwo_39 fX6_38 q2534 (eFit_i _) (by decide) rfl ok.1 ?_
  refine e_aload_n dX6_timesTwo_42 rfl ?_
  refine e_aload_n dX6_timesTwo_43 rfl ?_
  refine t_getA dX6_timesTwo_44 fX6_34 q2530 (by decide) rfl ?_
  refine e_aload_n dX6_timesTwo_47 rfl ?_
  refine t_getA dX6_timesTwo_48 fX6_33 q2529 (by decide) rfl ?_
  refine e_bipush (64) dX6_timesTwo_51 (by decide) ?_
  refine e_aload_n dX6_timesTwo_53 rfl ?_
  refine t_getI dX6_timesTwo_54 fX6_38 q2534 (by decide) rfl ?_
  refine e_iconst (1) dX6_timesTwo_57 (by decide) ?_
  refine e_isub dX6_timesTwo_58 ?_
  refine e_imul dX6_timesTwo_59 ?_
  obtain ⟨Q19, hC20, H⟩ := H
  refine t_callV (As := [.ref (tAd c.2.2.2.1 34), .ref (tAd c.2.2.2.1 33), .int ((64 : Int32) * (((T16.1 38) - (1 : Int32)) - (1 : Int32)))]) ok hC20 dX6_timesTwo_60 wX6_numbers q2833 q2835 qs98 rfl rfl (by decide) rfl (Nat.le_of_ble_eq_true rfl) (fun v21 T22 e23 => ?_)
  obtain ⟨rfl, e23⟩ := e23
  replace H := H T22 e23
  refine e_aload_n dX6_timesTwo_63 rfl ?_
  obtain ⟨Q25, hC26, H⟩ := H
  refine t_callV (As := []) ok hC26 dX6_timesTwo_64 wX6_looks q2803 q2805 qs91 rfl rfl (by decide) rfl (Nat.le_of_ble_eq_true rfl) (fun v27 T28 e29 => ?_)
  obtain ⟨rfl, e29⟩ := e29
  replace H := H T28 e29
  exact e_return dX6_timesTwo_67 rfl ⟨_, _, rfl, rfl, H⟩

theorem en_timesTwo (T : tS) (Q : Option Value → tS → Prop) (H : ∀ c : tC, c.2.2.2.2.2.2 = Q → h_timesTwo_0 c T) : tM mX6_timesTwo 3 (fun b => []) T Q :=
  tM_mk (by decide) rfl (fun b => Nat.le_of_ble_eq_true rfl) (fun c hc ok => E.less2 (H c hc ok) (eS_s eS_0))
/-! powers (I)V level 3 -/
def h_powers_0 (c : tC) (x1 : Int32) (T : tS) : Prop := tX mX6_powers 3 c 0 [some (.ref c.2.2.2.1), some (.int x1), none] T
def h_powers_16 (c : tC) (x1 : Int32) (x2 : Int32) (T : tS) : Prop := tX mX6_powers 3 c 16 [some (.ref c.2.2.2.1), some (.int x1), some (.int x2)] T
def h_powers_39 (c : tC) (x1 : Int32) (x2 : Int32) (T : tS) : Prop := tX mX6_powers 3 c 39 [some (.ref c.2.2.2.1), some (.int x1), some (.int x2)] T
set_option maxHeartbeats 2000000 in
theorem s_powers_0 (c : tC) (x1 : Int32) (T : tS) (H : ∃ Q1 : tS → Prop, tMv mX6_marksOf 1 (fun b => [.int ((T.1 38) - (1 : Int32)), .ref (tAd b 35)]) T Q1 ∧ ∀ T4 : tS, Q1 T4 → h_powers_16 c x1 (0 : Int32) T4) : h_powers_0 c x1 T := by
  intro ok
  refine e_aload_n dX6_powers_0 rfl ?_
  refine e_aload_n dX6_powers_1 rfl ?_
  refine t_getI dX6_powers_2 fX6_38 q2534 (by decide) rfl ?_
  refine e_iconst (1) dX6_powers_5 (by decide) ?_
  refine e_isub dX6_powers_6 ?_
  refine e_aload_n dX6_powers_7 rfl ?_
  refine t_getA dX6_powers_8 fX6_35 q2531 (by decide) rfl ?_
  obtain ⟨Q1, hC2, H⟩ := H
  refine t_callV (As := [.int ((T.1 38) - (1 : Int32)), .ref (tAd c.2.2.2.1 35)]) ok hC2 dX6_powers_11 wX6_marksOf q2825 q2827 qs96 rfl rfl (by decide) rfl (Nat.le_of_ble_eq_true rfl) (fun v3 T4 e5 => ?_)
  obtain ⟨rfl, e5⟩ := e5
  replace H := H T4 e5
  refine e_iconst (0) dX6_powers_14 (by decide) ?_
  refine e_istore_n _ dX6_powers_15 (by decide) rfl rfl ?_
  exact H ok

set_option maxHeartbeats 2000000 in
theorem s_powers_16 (c : tC) (x1 : Int32) (x2 : Int32) (T : tS) (H : ((T.1 26) ≤ x2 → h_powers_39 c x1 (0 : Int32) T) ∧ (¬ (T.1 26) ≤ x2 → vp_in x2 64 ∧ (h_powers_16 c x1 (x2 + 1) (tB T 34 (va_up (T.2.2.2 34) x2.toNatClampNeg (1 : Int64)))))) : h_powers_16 c x1 x2 T := by
  intro ok
  refine e_iload_n dX6_powers_16 rfl ?_
  refine e_aload_n dX6_powers_17 rfl ?_
  refine t_getI dX6_powers_18 fX6_26 q2522 (by decide) rfl ?_
  refine e_icmp_ge 37 dX6_powers_21 (by decide) (fun g1 => ?_) (fun g1 => ?_)
  · replace H := H.1 g1
    refine e_iconst (0) dX6_powers_37 (by decide) ?_
    refine e_istore_n _ dX6_powers_38 (by decide) rfl rfl ?_
    exact H ok
  · replace H := H.2 g1
    refine e_aload_n dX6_powers_24 rfl ?_
    refine t_getA dX6_powers_25 fX6_34 q2530 (by decide) rfl ?_
    refine e_iload_n dX6_powers_28 rfl ?_
    refine e_lconst 1 dX6_powers_29 (by decide) ?_
    obtain ⟨g2, H⟩ := H
    refine t_last dX6_powers_30 (by decide) rfl ok.1 g2 ?_
    refine e_iinc (x2 + 1) _ dX6_powers_31 rfl rfl (by decide) rfl rfl ?_
    refine e_goto 16 dX6_powers_34 (by decide) ?_
    exact H ok

set_option maxHeartbeats 2000000 in
theorem s_powers_39 (c : tC) (x1 : Int32) (x2 : Int32) (T : tS) (H : (x1 ≤ x2 → (¬ x1 = 0 → c.2.2.2.2.2.2 none T) ∧ (x1 = 0 → ∃ Q3 : tS → Prop, tMv mX6_numbers 0 (fun b => [.ref (tAd b 34), .ref (tAd b 33), .int ((64 : Int32) * ((T.1 38) - (1 : Int32)))]) T Q3 ∧ ∀ T6 : tS, Q3 T6 → c.2.2.2.2.2.2 none T6)) ∧ (¬ x1 ≤ x2 → ∃ Q9 : tS → Prop, tMv mX6_multiplies 0 (fun b => []) T Q9 ∧ ∀ T12 : tS, Q9 T12 → ∃ Q15 : tS → Prop, tMv mX6_numbers 0 (fun b => [.ref (tAd b 34), .ref (tAd b 33), .int ((64 : Int32) * ((T12.1 38) - (1 : Int32)))]) T12 Q15 ∧ ∀ T18 : tS, Q15 T18 → ∃ Q21 : tS → Prop, tMv mX6_looks 2 (fun b => []) T18 Q21 ∧ ∀ T24 : tS, Q21 T24 → h_powers_39 c x1 (x2 + 1) T24)) : h_powers_39 c x1 x2 T := by
  intro ok
  refine e_iload_n dX6_powers_39 rfl ?_
  refine e_iload_n dX6_powers_40 rfl ?_
  refine e_icmp_ge 79 dX6_powers_41 (by decide) (fun g1 => ?_) (fun g1 => ?_)
  · replace H := H.1 g1
    refine e_iload_n dX6_powers_79 rfl ?_
    refine e_if_ne 104 dX6_powers_80 (by decide) (fun g2 => ?_) (fun g2 => ?_)
    · replace H := H.1 g2
      exact e_return dX6_powers_104 rfl ⟨_, _, rfl, rfl, H⟩
    · replace H := H.2 g2
      refine e_aload_n dX6_powers_83 rfl ?_
      refine e_aload_n dX6_powers_84 rfl ?_
      refine t_getA dX6_powers_85 fX6_34 q2530 (by decide) rfl ?_
      refine e_aload_n dX6_powers_88 rfl ?_
      refine t_getA dX6_powers_89 fX6_33 q2529 (by decide) rfl ?_
      refine e_bipush (64) dX6_powers_92 (by decide) ?_
      refine e_aload_n dX6_powers_94 rfl ?_
      refine t_getI dX6_powers_95 fX6_38 q2534 (by decide) rfl ?_
      refine e_iconst (1) dX6_powers_98 (by decide) ?_
      refine e_isub dX6_powers_99 ?_
      refine e_imul dX6_powers_100 ?_
      obtain ⟨Q3, hC4, H⟩ := H
      refine t_callV (As := [.ref (tAd c.2.2.2.1 34), .ref (tAd c.2.2.2.1 33), .int ((64 : Int32) * ((T.1 38) - (1 : Int32)))]) ok hC4 dX6_powers_101 wX6_numbers q2833 q2835 qs98 rfl rfl (by decide) rfl (Nat.le_of_ble_eq_true rfl) (fun v5 T6 e7 => ?_)
      obtain ⟨rfl, e7⟩ := e7
      replace H := H T6 e7
      exact e_return dX6_powers_104 rfl ⟨_, _, rfl, rfl, H⟩
  · replace H := H.2 g1
    refine e_aload_n dX6_powers_44 rfl ?_
    obtain ⟨Q9, hC10, H⟩ := H
    refine t_callV (As := []) ok hC10 dX6_powers_45 wX6_multiplies q2829 q2831 qs97 rfl rfl (by decide) rfl (Nat.le_of_ble_eq_true rfl) (fun v11 T12 e13 => ?_)
    obtain ⟨rfl, e13⟩ := e13
    replace H := H T12 e13
    refine e_aload_n dX6_powers_48 rfl ?_
    refine e_aload_n dX6_powers_49 rfl ?_
    refine t_getA dX6_powers_50 fX6_34 q2530 (by decide) rfl ?_
    refine e_aload_n dX6_powers_53 rfl ?_
    refine t_getA dX6_powers_54 fX6_33 q2529 (by decide) rfl ?_
    refine e_bipush (64) dX6_powers_57 (by decide) ?_
    refine e_aload_n dX6_powers_59 rfl ?_
    refine t_getI dX6_powers_60 fX6_38 q2534 (by decide) rfl ?_
    refine e_iconst (1) dX6_powers_63 (by decide) ?_
    refine e_isub dX6_powers_64 ?_
    refine e_imul dX6_powers_65 ?_
    obtain ⟨Q15, hC16, H⟩ := H
    refine t_callV (As := [.ref (tAd c.2.2.2.1 34), .ref (tAd c.2.2.2.1 33), .int ((64 : Int32) * ((T12.1 38) - (1 : Int32)))]) ok hC16 dX6_powers_66 wX6_numbers q2833 q2835 qs98 rfl rfl (by decide) rfl (Nat.le_of_ble_eq_true rfl) (fun v17 T18 e19 => ?_)
    obtain ⟨rfl, e19⟩ := e19
    replace H := H T18 e19
    refine e_aload_n dX6_powers_69 rfl ?_
    obtain ⟨Q21, hC22, H⟩ := H
    refine t_callV (As := []) ok hC22 dX6_powers_70 wX6_looks q2803 q2805 qs91 rfl rfl (by decide) rfl (Nat.le_of_ble_eq_true rfl) (fun v23 T24 e25 => ?_)
    obtain ⟨rfl, e25⟩ := e25
    replace H := H T24 e25
    refine e_iinc (x2 + 1) _ dX6_powers_73 rfl rfl (by decide) rfl rfl ?_
    refine e_goto 39 dX6_powers_76 (by decide) ?_
    exact H ok

theorem en_powers (x1 : Int32) (T : tS) (Q : Option Value → tS → Prop) (H : ∀ c : tC, c.2.2.2.2.2.2 = Q → h_powers_0 c x1 T) : tM mX6_powers 3 (fun b => [.int x1]) T Q :=
  tM_mk (by decide) rfl (fun b => Nat.le_of_ble_eq_true rfl) (fun c hc ok => E.less2 (H c hc ok) (eS_s (eS_s (eS_n eS_0))))
/-! works (I)V level 4 -/
def h_works_0 (c : tC) (x1 : Int32) (T : tS) : Prop := tX mX6_works 4 c 0 [some (.ref c.2.2.2.1), some (.int x1), none] T
def h_works_70 (c : tC) (x1 : Int32) (T : tS) : Prop := tX mX6_works 4 c 70 [some (.ref c.2.2.2.1), some (.int x1), none] T
set_option maxHeartbeats 2000000 in
theorem s_works_0 (c : tC) (x1 : Int32) (T : tS) (H : ((T.1 41) ≤ 0 → c.2.2.2.2.2.2 none T) ∧ (¬ (T.1 41) ≤ 0 → vp_in ((T.1 41) - (1 : Int32)) 80 ∧ (((T.2.2.1 40 ((T.1 41) - (1 : Int32)).toNatClampNeg) < x1 → c.2.2.2.2.2.2 none T) ∧ (¬ (T.2.2.1 40 ((T.1 41) - (1 : Int32)).toNatClampNeg) < x1 → vp_in ((T.1 41) - (1 : Int32)) 80 ∧ ((¬ (T.2.2.1 40 ((T.1 41) - (1 : Int32)).toNatClampNeg) = (4 : Int32) → (¬ (T.2.2.1 40 ((T.1 41) - (1 : Int32)).toNatClampNeg) = (2 : Int32) → ∃ Q7 : tS → Prop, tMv mX6_adds 3 (fun b => [.int (-1 : Int32)]) (tI T 41 ((T.1 41) - (1 : Int32))) Q7 ∧ ∀ T10 : tS, Q7 T10 → h_works_70 c x1 T10) ∧ ((T.2.2.1 40 ((T.1 41) - (1 : Int32)).toNatClampNeg) = (2 : Int32) → ∃ Q13 : tS → Prop, tMv mX6_adds 3 (fun b => [.int (1 : Int32)]) (tI T 41 ((T.1 41) - (1 : Int32))) Q13 ∧ ∀ T16 : tS, Q13 T16 → h_works_70 c x1 T16)) ∧ ((T.2.2.1 40 ((T.1 41) - (1 : Int32)).toNatClampNeg) = (4 : Int32) → ∃ Q19 : tS → Prop, tMv mX6_timesTwo 3 (fun b => []) (tI T 41 ((T.1 41) - (1 : Int32))) Q19 ∧ ∀ T22 : tS, Q19 T22 → h_works_70 c x1 T22)))))) : h_works_0 c x1 T := by
  intro ok
  refine e_aload_n dX6_works_0 rfl ?_
  refine t_getI dX6_works_1 fX6_41 q2537 (by decide) rfl ?_
  refine e_if_le 73 dX6_works_4 (by decide) (fun g1 => ?_) (fun g1 => ?_)
  · replace H := H.1 g1
    exact e_return dX6_works_73 rfl ⟨_, _, rfl, rfl, H⟩
  · replace H := H.2 g1
    refine e_aload_n dX6_works_7 rfl ?_
    refine t_getA dX6_works_8 fX6_40 q2536 (by decide) rfl ?_
    refine e_aload_n dX6_works_11 rfl ?_
    refine t_getI dX6_works_12 fX6_41 q2537 (by decide) rfl ?_
    refine e_iconst (1) dX6_works_15 (by decide) ?_
    refine e_isub dX6_works_16 ?_
    obtain ⟨g2, H⟩ := H
    refine t_iald dX6_works_17 (by decide) rfl g2 ?_
    refine e_iload_n dX6_works_18 rfl ?_
    refine e_icmp_lt 73 dX6_works_19 (by decide) (fun g3 => ?_) (fun g3 => ?_)
    · replace H := H.1 g3
      exact e_return dX6_works_73 rfl ⟨_, _, rfl, rfl, H⟩
    · replace H := H.2 g3
      refine e_aload_n dX6_works_22 rfl ?_
      refine t_getA dX6_works_23 fX6_40 q2536 (by decide) rfl ?_
      refine e_aload_n dX6_works_26 rfl ?_
      refine t_getI dX6_works_27 fX6_41 q2537 (by decide) rfl ?_
      refine e_iconst (1) dX6_works_30 (by decide) ?_
      refine e_isub dX6_works_31 ?_
      obtain ⟨g4, H⟩ := H
      refine t_iald dX6_works_32 (by decide) rfl g4 ?_
      refine e_istore_n _ dX6_works_33 (by decide) rfl rfl ?_
      refine e_aload_n dX6_works_34 rfl ?_
      refine e_dup dX6_works_35 rfl ?_
      refine t_getI dX6_works_36 fX6_41 q2537 (by decide) rfl ?_
      refine e_iconst (1) dX6_works_39 (by decide) ?_
      refine e_isub dX6_works_40 ?_
      refine t_putI dX6_works_41 fX6_41 q2537 (eFit_i _) (by decide) rfl ok.1 ?_
      refine e_iload_n dX6_works_44 rfl ?_
      refine e_iconst (4) dX6_works_45 (by decide) ?_
      refine e_icmp_ne 56 dX6_works_46 (by decide) (fun g5 => ?_) (fun g5 => ?_)
      · replace H := H.1 g5
        refine e_aload_n dX6_works_56 rfl ?_
        refine e_iload_n dX6_works_57 rfl ?_
        refine e_iconst (2) dX6_works_58 (by decide) ?_
        refine e_icmp_ne 66 dX6_works_59 (by decide) (fun g6 => ?_) (fun g6 => ?_)
        · replace H := H.1 g6
          refine e_iconst (-1) dX6_works_66 (by decide) ?_
          obtain ⟨Q7, hC8, H⟩ := H
          refine t_callV (As := [.int (-1 : Int32)]) ok hC8 dX6_works_67 wX6_adds q2857 q2859 qs104 rfl rfl (by decide) rfl (Nat.le_of_ble_eq_true rfl) (fun v9 T10 e11 => ?_)
          obtain ⟨rfl, e11⟩ := e11
          replace H := H T10 e11
          exact E.less2 (H ok) (eS_s (eS_s (eS_n eS_0)))
        · replace H := H.2 g6
          refine e_iconst (1) dX6_works_62 (by decide) ?_
          refine e_goto 67 dX6_works_63 (by decide) ?_
          obtain ⟨Q13, hC14, H⟩ := H
          refine t_callV (As := [.int (1 : Int32)]) ok hC14 dX6_works_67 wX6_adds q2857 q2859 qs104 rfl rfl (by decide) rfl (Nat.le_of_ble_eq_true rfl) (fun v15 T16 e17 => ?_)
          obtain ⟨rfl, e17⟩ := e17
          replace H := H T16 e17
          exact E.less2 (H ok) (eS_s (eS_s (eS_n eS_0)))
      · replace H := H.2 g5
        refine e_aload_n dX6_works_49 rfl ?_
        obtain ⟨Q19, hC20, H⟩ := H
        refine t_callV (As := []) ok hC20 dX6_works_50 wX6_timesTwo q2853 q2855 qs103 rfl rfl (by decide) rfl (Nat.le_of_ble_eq_true rfl) (fun v21 T22 e23 => ?_)
        obtain ⟨rfl, e23⟩ := e23
        replace H := H T22 e23
        refine e_goto 70 dX6_works_53 (by decide) ?_
        exact E.less2 (H ok) (eS_s (eS_s (eS_n eS_0)))

set_option maxHeartbeats 2000000 in
theorem s_works_70 (c : tC) (x1 : Int32) (T : tS) (H : h_works_0 c x1 T) : h_works_70 c x1 T := by
  intro ok
  refine e_goto 0 dX6_works_70 (by decide) ?_
  exact H ok

theorem en_works (x1 : Int32) (T : tS) (Q : Option Value → tS → Prop) (H : ∀ c : tC, c.2.2.2.2.2.2 = Q → h_works_0 c x1 T) : tM mX6_works 4 (fun b => [.int x1]) T Q :=
  tM_mk (by decide) rfl (fun b => Nat.le_of_ble_eq_true rfl) (fun c hc ok => E.less2 (H c hc ok) (eS_s (eS_s (eS_n eS_0))))
/-! waitsFor (I)V level 5 -/
def h_waitsFor_0 (c : tC) (x1 : Int32) (T : tS) : Prop := tX mX6_waitsFor 5 c 0 [some (.ref c.2.2.2.1), some (.int x1)] T
set_option maxHeartbeats 2000000 in
theorem s_waitsFor_0 (c : tC) (x1 : Int32) (T : tS) (H : (¬ x1 = (4 : Int32) → ∃ Q2 : tS → Prop, tMv mX6_works 4 (fun b => [.int (2 : Int32)]) T Q2 ∧ ∀ T5 : tS, Q2 T5 → vp_in (T5.1 41) 80 ∧ (∃ Q9 : tS → Prop, tMv mX6_goOn 1 (fun b => []) (tI (tA T5 40 (va_up (T5.2.2.1 40) (T5.1 41).toNatClampNeg x1)) 41 ((T5.1 41) + (1 : Int32))) Q9 ∧ ∀ T12 : tS, Q9 T12 → c.2.2.2.2.2.2 none T12)) ∧ (x1 = (4 : Int32) → ∃ Q15 : tS → Prop, tMv mX6_works 4 (fun b => [.int (4 : Int32)]) T Q15 ∧ ∀ T18 : tS, Q15 T18 → vp_in (T18.1 41) 80 ∧ (∃ Q22 : tS → Prop, tMv mX6_goOn 1 (fun b => []) (tI (tA T18 40 (va_up (T18.2.2.1 40) (T18.1 41).toNatClampNeg x1)) 41 ((T18.1 41) + (1 : Int32))) Q22 ∧ ∀ T25 : tS, Q22 T25 → c.2.2.2.2.2.2 none T25))) : h_waitsFor_0 c x1 T := by
  intro ok
  refine e_aload_n dX6_waitsFor_0 rfl ?_
  refine e_iload_n dX6_waitsFor_1 rfl ?_
  refine e_iconst (4) dX6_waitsFor_2 (by decide) ?_
  refine e_icmp_ne 10 dX6_waitsFor_3 (by decide) (fun g1 => ?_) (fun g1 => ?_)
  · replace H := H.1 g1
    refine e_iconst (2) dX6_waitsFor_10 (by decide) ?_
    obtain ⟨Q2, hC3, H⟩ := H
    refine t_callV (As := [.int (2 : Int32)]) ok hC3 dX6_waitsFor_11 wX6_works q2849 q2851 qs102 rfl rfl (by decide) rfl (Nat.le_of_ble_eq_true rfl) (fun v4 T5 e6 => ?_)
    obtain ⟨rfl, e6⟩ := e6
    replace H := H T5 e6
    refine e_aload_n dX6_waitsFor_14 rfl ?_
    refine t_getA dX6_waitsFor_15 fX6_40 q2536 (by decide) rfl ?_
    refine e_aload_n dX6_waitsFor_18 rfl ?_
    refine t_getI dX6_waitsFor_19 fX6_41 q2537 (by decide) rfl ?_
    refine e_iload_n dX6_waitsFor_22 rfl ?_
    obtain ⟨g8, H⟩ := H
    refine t_iast dX6_waitsFor_23 (by decide) rfl ok.1 g8 ?_
    refine e_aload_n dX6_waitsFor_24 rfl ?_
    refine e_dup dX6_waitsFor_25 rfl ?_
    refine t_getI dX6_waitsFor_26 fX6_41 q2537 (by decide) rfl ?_
    refine e_iconst (1) dX6_waitsFor_29 (by decide) ?_
    refine e_iadd dX6_waitsFor_30 ?_
    refine t_putI dX6_waitsFor_31 fX6_41 q2537 (eFit_i _) (by decide) rfl ok.1 ?_
    refine e_aload_n dX6_waitsFor_34 rfl ?_
    obtain ⟨Q9, hC10, H⟩ := H
    refine t_callV (As := []) ok hC10 dX6_waitsFor_35 wX6_goOn q2718 q2720 qs73 rfl rfl (by decide) rfl (Nat.le_of_ble_eq_true rfl) (fun v11 T12 e13 => ?_)
    obtain ⟨rfl, e13⟩ := e13
    replace H := H T12 e13
    exact e_return dX6_waitsFor_38 rfl ⟨_, _, rfl, rfl, H⟩
  · replace H := H.2 g1
    refine e_iconst (4) dX6_waitsFor_6 (by decide) ?_
    refine e_goto 11 dX6_waitsFor_7 (by decide) ?_
    obtain ⟨Q15, hC16, H⟩ := H
    refine t_callV (As := [.int (4 : Int32)]) ok hC16 dX6_waitsFor_11 wX6_works q2849 q2851 qs102 rfl rfl (by decide) rfl (Nat.le_of_ble_eq_true rfl) (fun v17 T18 e19 => ?_)
    obtain ⟨rfl, e19⟩ := e19
    replace H := H T18 e19
    refine e_aload_n dX6_waitsFor_14 rfl ?_
    refine t_getA dX6_waitsFor_15 fX6_40 q2536 (by decide) rfl ?_
    refine e_aload_n dX6_waitsFor_18 rfl ?_
    refine t_getI dX6_waitsFor_19 fX6_41 q2537 (by decide) rfl ?_
    refine e_iload_n dX6_waitsFor_22 rfl ?_
    obtain ⟨g21, H⟩ := H
    refine t_iast dX6_waitsFor_23 (by decide) rfl ok.1 g21 ?_
    refine e_aload_n dX6_waitsFor_24 rfl ?_
    refine e_dup dX6_waitsFor_25 rfl ?_
    refine t_getI dX6_waitsFor_26 fX6_41 q2537 (by decide) rfl ?_
    refine e_iconst (1) dX6_waitsFor_29 (by decide) ?_
    refine e_iadd dX6_waitsFor_30 ?_
    refine t_putI dX6_waitsFor_31 fX6_41 q2537 (eFit_i _) (by decide) rfl ok.1 ?_
    refine e_aload_n dX6_waitsFor_34 rfl ?_
    obtain ⟨Q22, hC23, H⟩ := H
    refine t_callV (As := []) ok hC23 dX6_waitsFor_35 wX6_goOn q2718 q2720 qs73 rfl rfl (by decide) rfl (Nat.le_of_ble_eq_true rfl) (fun v24 T25 e26 => ?_)
    obtain ⟨rfl, e26⟩ := e26
    replace H := H T25 e26
    exact e_return dX6_waitsFor_38 rfl ⟨_, _, rfl, rfl, H⟩

theorem en_waitsFor (x1 : Int32) (T : tS) (Q : Option Value → tS → Prop) (H : ∀ c : tC, c.2.2.2.2.2.2 = Q → h_waitsFor_0 c x1 T) : tM mX6_waitsFor 5 (fun b => [.int x1]) T Q :=
  tM_mk (by decide) rfl (fun b => Nat.le_of_ble_eq_true rfl) (fun c hc ok => E.less2 (H c hc ok) (eS_s (eS_s eS_0)))
/-! goesOn ()Z level 6 -/
def h_goesOn_0 (c : tC) (T : tS) : Prop := tX mX6_goesOn 6 c 0 [some (.ref c.2.2.2.1)] T
def h_goesOn_34 (c : tC) (T : tS) : Prop := tX mX6_goesOn 6 c 34 [some (.ref c.2.2.2.1)] T
set_option maxHeartbeats 2000000 in
theorem s_goesOn_0 (c : tC) (T : tS) (H : ((zI (T.1 7 = 0 ∧ T.1 5 = 3 ∧ T.1 6 = (42 : Int32))) = 0 → (¬ (zI (T.1 7 = 0 ∧ T.1 5 = 3 ∧ T.1 6 = (43 : Int32))) = 0 → h_goesOn_34 c T) ∧ ((zI (T.1 7 = 0 ∧ T.1 5 = 3 ∧ T.1 6 = (43 : Int32))) = 0 → ((zI (T.1 7 = 0 ∧ T.1 5 = 3 ∧ T.1 6 = (45 : Int32))) = 0 → c.2.2.2.2.2.2 (some (.int (0 : Int32))) T) ∧ (¬ (zI (T.1 7 = 0 ∧ T.1 5 = 3 ∧ T.1 6 = (45 : Int32))) = 0 → h_goesOn_34 c T))) ∧ (¬ (zI (T.1 7 = 0 ∧ T.1 5 = 3 ∧ T.1 6 = (42 : Int32))) = 0 → ∃ Q16 : tS → Prop, tMv mX6_waitsFor 5 (fun b => [.int (4 : Int32)]) T Q16 ∧ ∀ T19 : tS, Q16 T19 → c.2.2.2.2.2.2 (some (.int (1 : Int32))) T19)) : h_goesOn_0 c T := by
  intro ok
  refine e_aload_n dX6_goesOn_0 rfl ?_
  refine e_bipush (42) dX6_goesOn_1 (by decide) ?_
  refine t_callV (As := [.int (42 : Int32)]) ok (ct_isSignHere T (42 : Int32)) dX6_goesOn_3 wX6_isSignHere q2764 q2766 qs82 rfl rfl (by decide) rfl (Nat.le_of_ble_eq_true rfl) (fun v1 T2 e4 => ?_)
  obtain ⟨r3, rfl, rfl, hT⟩ := e4
  rw [hT]
  refine e_if_eq 16 dX6_goesOn_6 (by decide) (fun g5 => ?_) (fun g5 => ?_)
  · replace H := H.1 g5
    refine e_aload_n dX6_goesOn_16 rfl ?_
    refine e_bipush (43) dX6_goesOn_17 (by decide) ?_
    refine t_callV (As := [.int (43 : Int32)]) ok (ct_isSignHere T (43 : Int32)) dX6_goesOn_19 wX6_isSignHere q2764 q2766 qs82 rfl rfl (by decide) rfl (Nat.le_of_ble_eq_true rfl) (fun v6 T7 e9 => ?_)
    obtain ⟨r8, rfl, rfl, hT⟩ := e9
    rw [hT]
    refine e_if_ne 34 dX6_goesOn_22 (by decide) (fun g10 => ?_) (fun g10 => ?_)
    · replace H := H.1 g10
      exact H ok
    · replace H := H.2 g10
      refine e_aload_n dX6_goesOn_25 rfl ?_
      refine e_bipush (45) dX6_goesOn_26 (by decide) ?_
      refine t_callV (As := [.int (45 : Int32)]) ok (ct_isSignHere T (45 : Int32)) dX6_goesOn_28 wX6_isSignHere q2764 q2766 qs82 rfl rfl (by decide) rfl (Nat.le_of_ble_eq_true rfl) (fun v11 T12 e14 => ?_)
      obtain ⟨r13, rfl, rfl, hT⟩ := e14
      rw [hT]
      refine e_if_eq 54 dX6_goesOn_31 (by decide) (fun g15 => ?_) (fun g15 => ?_)
      · replace H := H.1 g15
        refine e_iconst (0) dX6_goesOn_54 (by decide) ?_
        exact e_ireturn .boolean dX6_goesOn_55 rfl (by decide) ⟨_, _, rfl, rfl, H⟩
      · replace H := H.2 g15
        exact H ok
  · replace H := H.2 g5
    refine e_aload_n dX6_goesOn_9 rfl ?_
    refine e_iconst (4) dX6_goesOn_10 (by decide) ?_
    obtain ⟨Q16, hC17, H⟩ := H
    refine t_callV (As := [.int (4 : Int32)]) ok hC17 dX6_goesOn_11 wX6_waitsFor q2845 q2847 qs101 rfl rfl (by decide) rfl (Nat.le_of_ble_eq_true rfl) (fun v18 T19 e20 => ?_)
    obtain ⟨rfl, e20⟩ := e20
    replace H := H T19 e20
    refine e_iconst (1) dX6_goesOn_14 (by decide) ?_
    exact e_ireturn .boolean dX6_goesOn_15 rfl (by decide) ⟨_, _, rfl, rfl, H⟩

set_option maxHeartbeats 2000000 in
theorem s_goesOn_34 (c : tC) (T : tS) (H : (¬ (T.1 6) = (43 : Int32) → ∃ Q2 : tS → Prop, tMv mX6_waitsFor 5 (fun b => [.int (3 : Int32)]) T Q2 ∧ ∀ T5 : tS, Q2 T5 → c.2.2.2.2.2.2 (some (.int (1 : Int32))) T5) ∧ ((T.1 6) = (43 : Int32) → ∃ Q8 : tS → Prop, tMv mX6_waitsFor 5 (fun b => [.int (2 : Int32)]) T Q8 ∧ ∀ T11 : tS, Q8 T11 → c.2.2.2.2.2.2 (some (.int (1 : Int32))) T11)) : h_goesOn_34 c T := by
  intro ok
  refine e_aload_n dX6_goesOn_34 rfl ?_
  refine e_aload_n dX6_goesOn_35 rfl ?_
  refine t_getI dX6_goesOn_36 fX6_6 q2502 (by decide) rfl ?_
  refine e_bipush (43) dX6_goesOn_39 (by decide) ?_
  refine e_icmp_ne 48 dX6_goesOn_41 (by decide) (fun g1 => ?_) (fun g1 => ?_)
  · replace H := H.1 g1
    refine e_iconst (3) dX6_goesOn_48 (by decide) ?_
    obtain ⟨Q2, hC3, H⟩ := H
    refine t_callV (As := [.int (3 : Int32)]) ok hC3 dX6_goesOn_49 wX6_waitsFor q2845 q2847 qs101 rfl rfl (by decide) rfl (Nat.le_of_ble_eq_true rfl) (fun v4 T5 e6 => ?_)
    obtain ⟨rfl, e6⟩ := e6
    replace H := H T5 e6
    refine e_iconst (1) dX6_goesOn_52 (by decide) ?_
    exact e_ireturn .boolean dX6_goesOn_53 rfl (by decide) ⟨_, _, rfl, rfl, H⟩
  · replace H := H.2 g1
    refine e_iconst (2) dX6_goesOn_44 (by decide) ?_
    refine e_goto 49 dX6_goesOn_45 (by decide) ?_
    obtain ⟨Q8, hC9, H⟩ := H
    refine t_callV (As := [.int (2 : Int32)]) ok hC9 dX6_goesOn_49 wX6_waitsFor q2845 q2847 qs101 rfl rfl (by decide) rfl (Nat.le_of_ble_eq_true rfl) (fun v10 T11 e12 => ?_)
    obtain ⟨rfl, e12⟩ := e12
    replace H := H T11 e12
    refine e_iconst (1) dX6_goesOn_52 (by decide) ?_
    exact e_ireturn .boolean dX6_goesOn_53 rfl (by decide) ⟨_, _, rfl, rfl, H⟩

theorem en_goesOn (T : tS) (Q : Option Value → tS → Prop) (H : ∀ c : tC, c.2.2.2.2.2.2 = Q → h_goesOn_0 c T) : tM mX6_goesOn 6 (fun b => []) T Q :=
  tM_mk (by decide) rfl (fun b => Nat.le_of_ble_eq_true rfl) (fun c hc ok => E.less2 (H c hc ok) (eS_s eS_0))
/-! countsUnit ()V level 2 -/
def h_countsUnit_0 (c : tC) (T : tS) : Prop := tX mX6_countsUnit 2 c 0 [some (.ref c.2.2.2.1)] T
def h_countsUnit_25 (c : tC) (T : tS) : Prop := tX mX6_countsUnit 2 c 25 [some (.ref c.2.2.2.1)] T
def h_countsUnit_30 (c : tC) (T : tS) : Prop := tX mX6_countsUnit 2 c 30 [some (.ref c.2.2.2.1)] T
set_option maxHeartbeats 2000000 in
theorem s_countsUnit_0 (c : tC) (T : tS) (H : ((zI (T.1 7 = 0)) = 0 → h_countsUnit_30 c T) ∧ (¬ (zI (T.1 7 = 0)) = 0 → ((T.1 43) = (30 : Int32) → h_countsUnit_25 c T) ∧ (¬ (T.1 43) = (30 : Int32) → ((T.1 42) ≤ (6 : Int32) → h_countsUnit_30 c T) ∧ (¬ (T.1 42) ≤ (6 : Int32) → h_countsUnit_25 c T)))) : h_countsUnit_0 c T := by
  intro ok
  refine e_aload_n dX6_countsUnit_0 rfl ?_
  refine t_callV (As := []) ok (ct_isGood T ) dX6_countsUnit_1 wX6_isGood q2752 q2754 qs79 rfl rfl (by decide) rfl (Nat.le_of_ble_eq_true rfl) (fun v1 T2 e4 => ?_)
  obtain ⟨r3, rfl, rfl, hT⟩ := e4
  rw [hT]
  refine e_if_eq 30 dX6_countsUnit_4 (by decide) (fun g5 => ?_) (fun g5 => ?_)
  · replace H := H.1 g5
    exact H ok
  · replace H := H.2 g5
    refine e_aload_n dX6_countsUnit_7 rfl ?_
    refine t_getI dX6_countsUnit_8 fX6_43 q2539 (by decide) rfl ?_
    refine e_bipush (30) dX6_countsUnit_11 (by decide) ?_
    refine e_icmp_eq 25 dX6_countsUnit_13 (by decide) (fun g6 => ?_) (fun g6 => ?_)
    · replace H := H.1 g6
      exact H ok
    · replace H := H.2 g6
      refine e_aload_n dX6_countsUnit_16 rfl ?_
      refine t_getI dX6_countsUnit_17 fX6_42 q2538 (by decide) rfl ?_
      refine e_bipush (6) dX6_countsUnit_20 (by decide) ?_
      refine e_icmp_le 30 dX6_countsUnit_22 (by decide) (fun g7 => ?_) (fun g7 => ?_)
      · replace H := H.1 g7
        exact H ok
      · replace H := H.2 g7
        exact H ok

set_option maxHeartbeats 2000000 in
theorem s_countsUnit_25 (c : tC) (T : tS) (H : ∃ Q1 : tS → Prop, tMv mX6_wrong 1 (fun b => [.int (5 : Int32)]) T Q1 ∧ ∀ T4 : tS, Q1 T4 → h_countsUnit_30 c T4) : h_countsUnit_25 c T := by
  intro ok
  refine e_aload_n dX6_countsUnit_25 rfl ?_
  refine e_iconst (5) dX6_countsUnit_26 (by decide) ?_
  obtain ⟨Q1, hC2, H⟩ := H
  refine t_callV (As := [.int (5 : Int32)]) ok hC2 dX6_countsUnit_27 wX6_wrong q2744 q2746 qs77 rfl rfl (by decide) rfl (Nat.le_of_ble_eq_true rfl) (fun v3 T4 e5 => ?_)
  obtain ⟨rfl, e5⟩ := e5
  replace H := H T4 e5
  exact H ok

set_option maxHeartbeats 2000000 in
theorem s_countsUnit_30 (c : tC) (T : tS) (H : c.2.2.2.2.2.2 none (tI T 43 ((T.1 43) + (1 : Int32)))) : h_countsUnit_30 c T := by
  intro ok
  refine e_aload_n dX6_countsUnit_30 rfl ?_
  refine e_dup dX6_countsUnit_31 rfl ?_
  refine t_getI dX6_countsUnit_32 fX6_43 q2539 (by decide) rfl ?_
  refine e_iconst (1) dX6_countsUnit_35 (by decide) ?_
  refine e_iadd dX6_countsUnit_36 ?_
  refine t_putI dX6_countsUnit_37 fX6_43 q2539 (eFit_i _) (by decide) rfl ok.1 ?_
  exact e_return dX6_countsUnit_40 rfl ⟨_, _, rfl, rfl, H⟩

theorem en_countsUnit (T : tS) (Q : Option Value → tS → Prop) (H : ∀ c : tC, c.2.2.2.2.2.2 = Q → h_countsUnit_0 c T) : tM mX6_countsUnit 2 (fun b => []) T Q :=
  tM_mk (by decide) rfl (fun b => Nat.le_of_ble_eq_true rfl) (fun c hc ok => E.less2 (H c hc ok) (eS_s eS_0))
/-! operand ()Z level 4 -/
def h_operand_0 (c : tC) (T : tS) : Prop := tX mX6_operand 4 c 0 [some (.ref c.2.2.2.1), none, none] T
def h_operand_18 (c : tC) (T : tS) : Prop := tX mX6_operand 4 c 18 [some (.ref c.2.2.2.1), none, none] T
def h_operand_125 (c : tC) (T : tS) : Prop := tX mX6_operand 4 c 125 [some (.ref c.2.2.2.1), none, none] T
def h_operand_150 (c : tC) (T : tS) : Prop := tX mX6_operand 4 c 150 [some (.ref c.2.2.2.1), none, none] T
def h_operand_170 (c : tC) (T : tS) : Prop := tX mX6_operand 4 c 170 [some (.ref c.2.2.2.1), none, none] T
def h_operand_193 (c : tC) (T : tS) : Prop := tX mX6_operand 4 c 193 [some (.ref c.2.2.2.1), none, none] T
def h_operand_241 (c : tC) (x1 : Int32) (T : tS) : Prop := tX mX6_operand 4 c 241 [some (.ref c.2.2.2.1), some (.int x1), none] T
def h_operand_254 (c : tC) (x1 : Int32) (x2 : Int32) (T : tS) : Prop := tX mX6_operand 4 c 254 [some (.ref c.2.2.2.1), some (.int x1), some (.int x2)] T
def h_operand_303 (c : tC) (T : tS) : Prop := tX mX6_operand 4 c 303 [some (.ref c.2.2.2.1), none, none] T
def h_operand_306 (c : tC) (T : tS) : Prop := tX mX6_operand 4 c 306 [some (.ref c.2.2.2.1), none, none] T
def h_operand_311 (c : tC) (T : tS) : Prop := tX mX6_operand 4 c 311 [some (.ref c.2.2.2.1), none, none] T
set_option maxHeartbeats 2000000 in
theorem s_operand_0 (c : tC) (T : tS) (H : (¬ (zI (T.1 7 = 0 ∧ T.1 5 = 3 ∧ T.1 6 = (45 : Int32))) = 0 → h_operand_18 c T) ∧ ((zI (T.1 7 = 0 ∧ T.1 5 = 3 ∧ T.1 6 = (45 : Int32))) = 0 → ((zI (T.1 7 = 0 ∧ T.1 5 = 3 ∧ T.1 6 = (40 : Int32))) = 0 → ((zI (T.1 7 = 0)) = 0 → h_operand_125 c T) ∧ (¬ (zI (T.1 7 = 0)) = 0 → (¬ (T.1 5) = (2 : Int32) → h_operand_125 c T) ∧ ((T.1 5) = (2 : Int32) → ∃ Q17 : tS → Prop, tMv mX6_countsUnit 2 (fun b => []) T Q17 ∧ ∀ T20 : tS, Q17 T20 → ∃ Q23 : tS → Prop, tMv mX6_lays 3 (fun b => [.int ((T20.1 26) - (1 : Int32)), .long ((T20.1 6).toInt64)]) T20 Q23 ∧ ∀ T26 : tS, Q23 T26 → h_operand_311 c T26))) ∧ (¬ (zI (T.1 7 = 0 ∧ T.1 5 = 3 ∧ T.1 6 = (40 : Int32))) = 0 → h_operand_18 c T))) : h_operand_0 c T := by
  intro ok
  refine e_aload_n dX6_operand_0 rfl ?_
  refine e_bipush (45) dX6_operand_1 (by decide) ?_
  refine t_callV (As := [.int (45 : Int32)]) ok (ct_isSignHere T (45 : Int32)) dX6_operand_3 wX6_isSignHere q2764 q2766 qs82 rfl rfl (by decide) rfl (Nat.le_of_ble_eq_true rfl) (fun v1 T2 e4 => ?_)
  obtain ⟨r3, rfl, rfl, hT⟩ := e4
  rw [hT]
  refine e_if_ne 18 dX6_operand_6 (by decide) (fun g5 => ?_) (fun g5 => ?_)
  · replace H := H.1 g5
    exact H ok
  · replace H := H.2 g5
    refine e_aload_n dX6_operand_9 rfl ?_
    refine e_bipush (40) dX6_operand_10 (by decide) ?_
    refine t_callV (As := [.int (40 : Int32)]) ok (ct_isSignHere T (40 : Int32)) dX6_operand_12 wX6_isSignHere q2764 q2766 qs82 rfl rfl (by decide) rfl (Nat.le_of_ble_eq_true rfl) (fun v6 T7 e9 => ?_)
    obtain ⟨r8, rfl, rfl, hT⟩ := e9
    rw [hT]
    refine e_if_eq 88 dX6_operand_15 (by decide) (fun g10 => ?_) (fun g10 => ?_)
    · replace H := H.1 g10
      refine e_aload_n dX6_operand_88 rfl ?_
      refine t_callV (As := []) ok (ct_isGood T ) dX6_operand_89 wX6_isGood q2752 q2754 qs79 rfl rfl (by decide) rfl (Nat.le_of_ble_eq_true rfl) (fun v11 T12 e14 => ?_)
      obtain ⟨r13, rfl, rfl, hT⟩ := e14
      rw [hT]
      refine e_if_eq 125 dX6_operand_92 (by decide) (fun g15 => ?_) (fun g15 => ?_)
      · replace H := H.1 g15
        exact H ok
      · replace H := H.2 g15
        refine e_aload_n dX6_operand_95 rfl ?_
        refine t_getI dX6_operand_96 fX6_5 q2501 (by decide) rfl ?_
        refine e_iconst (2) dX6_operand_99 (by decide) ?_
        refine e_icmp_ne 125 dX6_operand_100 (by decide) (fun g16 => ?_) (fun g16 => ?_)
        · replace H := H.1 g16
          exact H ok
        · replace H := H.2 g16
          refine e_aload_n dX6_operand_103 rfl ?_
          obtain ⟨Q17, hC18, H⟩ := H
          refine t_callV (As := []) ok hC18 dX6_operand_104 wX6_countsUnit q2795 q2797 qs89 rfl rfl (by decide) rfl (Nat.le_of_ble_eq_true rfl) (fun v19 T20 e21 => ?_)
          obtain ⟨rfl, e21⟩ := e21
          replace H := H T20 e21
          refine e_aload_n dX6_operand_107 rfl ?_
          refine e_aload_n dX6_operand_108 rfl ?_
          refine t_getI dX6_operand_109 fX6_26 q2522 (by decide) rfl ?_
          refine e_iconst (1) dX6_operand_112 (by decide) ?_
          refine e_isub dX6_operand_113 ?_
          refine e_aload_n dX6_operand_114 rfl ?_
          refine t_getI dX6_operand_115 fX6_6 q2502 (by decide) rfl ?_
          refine e_i2l dX6_operand_118 ?_
          obtain ⟨Q23, hC24, H⟩ := H
          refine t_callV (As := [.int ((T20.1 26) - (1 : Int32)), .long ((T20.1 6).toInt64)]) ok hC24 dX6_operand_119 wX6_lays q2799 q2801 qs90 rfl rfl (by decide) rfl (Nat.le_of_ble_eq_true rfl) (fun v25 T26 e27 => ?_)
          obtain ⟨rfl, e27⟩ := e27
          replace H := H T26 e27
          refine e_goto 311 dX6_operand_122 (by decide) ?_
          exact H ok
    · replace H := H.2 g10
      exact H ok

set_option maxHeartbeats 2000000 in
theorem s_operand_18 (c : tC) (T : tS) (H : (¬ (T.1 6) = (40 : Int32) → ∃ Q2 : tS → Prop, tMv mX6_countsUnit 2 (fun b => []) T Q2 ∧ ∀ T5 : tS, Q2 T5 → ((0 : Int32) = 0 → vp_in (T5.1 41) 80 ∧ (((zI ((tI (tI (tA T5 40 (va_up (T5.2.2.1 40) (T5.1 41).toNatClampNeg (1 : Int32))) 41 ((T5.1 41) + (1 : Int32))) 42 ((T5.1 42) + (1 : Int32))).1 7 = 0)) = 0 → c.2.2.2.2.2.2 (some (.int (0 : Int32))) (tI (tI (tA T5 40 (va_up (T5.2.2.1 40) (T5.1 41).toNatClampNeg (1 : Int32))) 41 ((T5.1 41) + (1 : Int32))) 42 ((T5.1 42) + (1 : Int32)))) ∧ (¬ (zI ((tI (tI (tA T5 40 (va_up (T5.2.2.1 40) (T5.1 41).toNatClampNeg (1 : Int32))) 41 ((T5.1 41) + (1 : Int32))) 42 ((T5.1 42) + (1 : Int32))).1 7 = 0)) = 0 → ∃ Q15 : tS → Prop, tMv mX6_goOn 1 (fun b => []) (tI (tI (tA T5 40 (va_up (T5.2.2.1 40) (T5.1 41).toNatClampNeg (1 : Int32))) 41 ((T5.1 41) + (1 : Int32))) 42 ((T5.1 42) + (1 : Int32))) Q15 ∧ ∀ T18 : tS, Q15 T18 → c.2.2.2.2.2.2 (some (.int (0 : Int32))) T18))) ∧ (¬ (0 : Int32) = 0 → vp_in (T5.1 41) 80 ∧ (((zI ((tI (tI (tA T5 40 (va_up (T5.2.2.1 40) (T5.1 41).toNatClampNeg (0 : Int32))) 41 ((T5.1 41) + (1 : Int32))) 42 ((T5.1 42) + (1 : Int32))).1 7 = 0)) = 0 → c.2.2.2.2.2.2 (some (.int (0 : Int32))) (tI (tI (tA T5 40 (va_up (T5.2.2.1 40) (T5.1 41).toNatClampNeg (0 : Int32))) 41 ((T5.1 41) + (1 : Int32))) 42 ((T5.1 42) + (1 : Int32)))) ∧ (¬ (zI ((tI (tI (tA T5 40 (va_up (T5.2.2.1 40) (T5.1 41).toNatClampNeg (0 : Int32))) 41 ((T5.1 41) + (1 : Int32))) 42 ((T5.1 42) + (1 : Int32))).1 7 = 0)) = 0 → ∃ Q27 : tS → Prop, tMv mX6_goOn 1 (fun b => []) (tI (tI (tA T5 40 (va_up (T5.2.2.1 40) (T5.1 41).toNatClampNeg (0 : Int32))) 41 ((T5.1 41) + (1 : Int32))) 42 ((T5.1 42) + (1 : Int32))) Q27 ∧ ∀ T30 : tS, Q27 T30 → c.2.2.2.2.2.2 (some (.int (0 : Int32))) T30)))) ∧ ((T.1 6) = (40 : Int32) → ∃ Q33 : tS → Prop, tMv mX6_countsUnit 2 (fun b => []) T Q33 ∧ ∀ T36 : tS, Q33 T36 → ((1 : Int32) = 0 → vp_in (T36.1 41) 80 ∧ (((zI ((tI (tI (tA T36 40 (va_up (T36.2.2.1 40) (T36.1 41).toNatClampNeg (1 : Int32))) 41 ((T36.1 41) + (1 : Int32))) 42 ((T36.1 42) + (1 : Int32))).1 7 = 0)) = 0 → c.2.2.2.2.2.2 (some (.int (0 : Int32))) (tI (tI (tA T36 40 (va_up (T36.2.2.1 40) (T36.1 41).toNatClampNeg (1 : Int32))) 41 ((T36.1 41) + (1 : Int32))) 42 ((T36.1 42) + (1 : Int32)))) ∧ (¬ (zI ((tI (tI (tA T36 40 (va_up (T36.2.2.1 40) (T36.1 41).toNatClampNeg (1 : Int32))) 41 ((T36.1 41) + (1 : Int32))) 42 ((T36.1 42) + (1 : Int32))).1 7 = 0)) = 0 → ∃ Q46 : tS → Prop, tMv mX6_goOn 1 (fun b => []) (tI (tI (tA T36 40 (va_up (T36.2.2.1 40) (T36.1 41).toNatClampNeg (1 : Int32))) 41 ((T36.1 41) + (1 : Int32))) 42 ((T36.1 42) + (1 : Int32))) Q46 ∧ ∀ T49 : tS, Q46 T49 → c.2.2.2.2.2.2 (some (.int (0 : Int32))) T49))) ∧ (¬ (1 : Int32) = 0 → vp_in (T36.1 41) 80 ∧ (((zI ((tI (tI (tA T36 40 (va_up (T36.2.2.1 40) (T36.1 41).toNatClampNeg (0 : Int32))) 41 ((T36.1 41) + (1 : Int32))) 42 ((T36.1 42) + (1 : Int32))).1 7 = 0)) = 0 → c.2.2.2.2.2.2 (some (.int (0 : Int32))) (tI (tI (tA T36 40 (va_up (T36.2.2.1 40) (T36.1 41).toNatClampNeg (0 : Int32))) 41 ((T36.1 41) + (1 : Int32))) 42 ((T36.1 42) + (1 : Int32)))) ∧ (¬ (zI ((tI (tI (tA T36 40 (va_up (T36.2.2.1 40) (T36.1 41).toNatClampNeg (0 : Int32))) 41 ((T36.1 41) + (1 : Int32))) 42 ((T36.1 42) + (1 : Int32))).1 7 = 0)) = 0 → ∃ Q58 : tS → Prop, tMv mX6_goOn 1 (fun b => []) (tI (tI (tA T36 40 (va_up (T36.2.2.1 40) (T36.1 41).toNatClampNeg (0 : Int32))) 41 ((T36.1 41) + (1 : Int32))) 42 ((T36.1 42) + (1 : Int32))) Q58 ∧ ∀ T61 : tS, Q58 T61 → c.2.2.2.2.2.2 (some (.int (0 : Int32))) T61))))) : h_operand_18 c T := by
  intro ok
  refine e_aload_n dX6_operand_18 rfl ?_
  refine t_getI dX6_operand_19 fX6_6 q2502 (by decide) rfl ?_
  refine e_bipush (40) dX6_operand_22 (by decide) ?_
  refine e_icmp_ne 31 dX6_operand_24 (by decide) (fun g1 => ?_) (fun g1 => ?_)
  · replace H := H.1 g1
    refine e_iconst (0) dX6_operand_31 (by decide) ?_
    refine e_istore_n _ dX6_operand_32 (by decide) rfl rfl ?_
    refine e_aload_n dX6_operand_33 rfl ?_
    obtain ⟨Q2, hC3, H⟩ := H
    refine t_callV (As := []) ok hC3 dX6_operand_34 wX6_countsUnit q2795 q2797 qs89 rfl rfl (by decide) rfl (Nat.le_of_ble_eq_true rfl) (fun v4 T5 e6 => ?_)
    obtain ⟨rfl, e6⟩ := e6
    replace H := H T5 e6
    refine e_aload_n dX6_operand_37 rfl ?_
    refine t_getA dX6_operand_38 fX6_40 q2536 (by decide) rfl ?_
    refine e_aload_n dX6_operand_41 rfl ?_
    refine t_getI dX6_operand_42 fX6_41 q2537 (by decide) rfl ?_
    refine e_iload_n dX6_operand_45 rfl ?_
    refine e_if_eq 53 dX6_operand_46 (by decide) (fun g8 => ?_) (fun g8 => ?_)
    · replace H := H.1 g8
      refine e_iconst (1) dX6_operand_53 (by decide) ?_
      obtain ⟨g9, H⟩ := H
      refine t_iast dX6_operand_54 (by decide) rfl ok.1 g9 ?_
      refine e_aload_n dX6_operand_55 rfl ?_
      refine e_dup dX6_operand_56 rfl ?_
      refine t_getI dX6_operand_57 fX6_41 q2537 (by decide) rfl ?_
      refine e_iconst (1) dX6_operand_60 (by decide) ?_
      refine e_iadd dX6_operand_61 ?_
      refine t_putI dX6_operand_62 fX6_41 q2537 (eFit_i _) (by decide) rfl ok.1 ?_
      refine e_aload_n dX6_operand_65 rfl ?_
      refine e_dup dX6_operand_66 rfl ?_
      refine t_getI dX6_operand_67 fX6_42 q2538 (by decide) rfl ?_
      refine e_iconst (1) dX6_operand_70 (by decide) ?_
      refine e_iadd dX6_operand_71 ?_
      refine t_putI dX6_operand_72 fX6_42 q2538 (eFit_i _) (by decide) rfl ok.1 ?_
      refine e_aload_n dX6_operand_75 rfl ?_
      refine t_callV (As := []) ok (ct_isGood (tI (tI (tA T5 40 (va_up (T5.2.2.1 40) (T5.1 41).toNatClampNeg (1 : Int32))) 41 ((T5.1 41) + (1 : Int32))) 42 ((T5.1 42) + (1 : Int32))) ) dX6_operand_76 wX6_isGood q2752 q2754 qs79 rfl rfl (by decide) rfl (Nat.le_of_ble_eq_true rfl) (fun v10 T11 e13 => ?_)
      obtain ⟨r12, rfl, rfl, hT⟩ := e13
      rw [hT]
      refine e_if_eq 86 dX6_operand_79 (by decide) (fun g14 => ?_) (fun g14 => ?_)
      · replace H := H.1 g14
        refine e_iconst (0) dX6_operand_86 (by decide) ?_
        exact e_ireturn .boolean dX6_operand_87 rfl (by decide) ⟨_, _, rfl, rfl, H⟩
      · replace H := H.2 g14
        refine e_aload_n dX6_operand_82 rfl ?_
        obtain ⟨Q15, hC16, H⟩ := H
        refine t_callV (As := []) ok hC16 dX6_operand_83 wX6_goOn q2718 q2720 qs73 rfl rfl (by decide) rfl (Nat.le_of_ble_eq_true rfl) (fun v17 T18 e19 => ?_)
        obtain ⟨rfl, e19⟩ := e19
        replace H := H T18 e19
        refine e_iconst (0) dX6_operand_86 (by decide) ?_
        exact e_ireturn .boolean dX6_operand_87 rfl (by decide) ⟨_, _, rfl, rfl, H⟩
    · replace H := H.2 g8
      refine e_iconst (0) dX6_operand_49 (by decide) ?_
      refine e_goto 54 dX6_operand_50 (by decide) ?_
      obtain ⟨g21, H⟩ := H
      refine t_iast dX6_operand_54 (by decide) rfl ok.1 g21 ?_
      refine e_aload_n dX6_operand_55 rfl ?_
      refine e_dup dX6_operand_56 rfl ?_
      refine t_getI dX6_operand_57 fX6_41 q2537 (by decide) rfl ?_
      refine e_iconst (1) dX6_operand_60 (by decide) ?_
      refine e_iadd dX6_operand_61 ?_
      refine t_putI dX6_operand_62 fX6_41 q2537 (eFit_i _) (by decide) rfl ok.1 ?_
      refine e_aload_n dX6_operand_65 rfl ?_
      refine e_dup dX6_operand_66 rfl ?_
      refine t_getI dX6_operand_67 fX6_42 q2538 (by decide) rfl ?_
      refine e_iconst (1) dX6_operand_70 (by decide) ?_
      refine e_iadd dX6_operand_71 ?_
      refine t_putI dX6_operand_72 fX6_42 q2538 (eFit_i _) (by decide) rfl ok.1 ?_
      refine e_aload_n dX6_operand_75 rfl ?_
      refine t_callV (As := []) ok (ct_isGood (tI (tI (tA T5 40 (va_up (T5.2.2.1 40) (T5.1 41).toNatClampNeg (0 : Int32))) 41 ((T5.1 41) + (1 : Int32))) 42 ((T5.1 42) + (1 : Int32))) ) dX6_operand_76 wX6_isGood q2752 q2754 qs79 rfl rfl (by decide) rfl (Nat.le_of_ble_eq_true rfl) (fun v22 T23 e25 => ?_)
      obtain ⟨r24, rfl, rfl, hT⟩ := e25
      rw [hT]
      refine e_if_eq 86 dX6_operand_79 (by decide) (fun g26 => ?_) (fun g26 => ?_)
      · replace H := H.1 g26
        refine e_iconst (0) dX6_operand_86 (by decide) ?_
        exact e_ireturn .boolean dX6_operand_87 rfl (by decide) ⟨_, _, rfl, rfl, H⟩
      · replace H := H.2 g26
        refine e_aload_n dX6_operand_82 rfl ?_
        obtain ⟨Q27, hC28, H⟩ := H
        refine t_callV (As := []) ok hC28 dX6_operand_83 wX6_goOn q2718 q2720 qs73 rfl rfl (by decide) rfl (Nat.le_of_ble_eq_true rfl) (fun v29 T30 e31 => ?_)
        obtain ⟨rfl, e31⟩ := e31
        replace H := H T30 e31
        refine e_iconst (0) dX6_operand_86 (by decide) ?_
        exact e_ireturn .boolean dX6_operand_87 rfl (by decide) ⟨_, _, rfl, rfl, H⟩
  · replace H := H.2 g1
    refine e_iconst (1) dX6_operand_27 (by decide) ?_
    refine e_goto 32 dX6_operand_28 (by decide) ?_
    refine e_istore_n _ dX6_operand_32 (by decide) rfl rfl ?_
    refine e_aload_n dX6_operand_33 rfl ?_
    obtain ⟨Q33, hC34, H⟩ := H
    refine t_callV (As := []) ok hC34 dX6_operand_34 wX6_countsUnit q2795 q2797 qs89 rfl rfl (by decide) rfl (Nat.le_of_ble_eq_true rfl) (fun v35 T36 e37 => ?_)
    obtain ⟨rfl, e37⟩ := e37
    replace H := H T36 e37
    refine e_aload_n dX6_operand_37 rfl ?_
    refine t_getA dX6_operand_38 fX6_40 q2536 (by decide) rfl ?_
    refine e_aload_n dX6_operand_41 rfl ?_
    refine t_getI dX6_operand_42 fX6_41 q2537 (by decide) rfl ?_
    refine e_iload_n dX6_operand_45 rfl ?_
    refine e_if_eq 53 dX6_operand_46 (by decide) (fun g39 => ?_) (fun g39 => ?_)
    · replace H := H.1 g39
      refine e_iconst (1) dX6_operand_53 (by decide) ?_
      obtain ⟨g40, H⟩ := H
      refine t_iast dX6_operand_54 (by decide) rfl ok.1 g40 ?_
      refine e_aload_n dX6_operand_55 rfl ?_
      refine e_dup dX6_operand_56 rfl ?_
      refine t_getI dX6_operand_57 fX6_41 q2537 (by decide) rfl ?_
      refine e_iconst (1) dX6_operand_60 (by decide) ?_
      refine e_iadd dX6_operand_61 ?_
      refine t_putI dX6_operand_62 fX6_41 q2537 (eFit_i _) (by decide) rfl ok.1 ?_
      refine e_aload_n dX6_operand_65 rfl ?_
      refine e_dup dX6_operand_66 rfl ?_
      refine t_getI dX6_operand_67 fX6_42 q2538 (by decide) rfl ?_
      refine e_iconst (1) dX6_operand_70 (by decide) ?_
      refine e_iadd dX6_operand_71 ?_
      refine t_putI dX6_operand_72 fX6_42 q2538 (eFit_i _) (by decide) rfl ok.1 ?_
      refine e_aload_n dX6_operand_75 rfl ?_
      refine t_callV (As := []) ok (ct_isGood (tI (tI (tA T36 40 (va_up (T36.2.2.1 40) (T36.1 41).toNatClampNeg (1 : Int32))) 41 ((T36.1 41) + (1 : Int32))) 42 ((T36.1 42) + (1 : Int32))) ) dX6_operand_76 wX6_isGood q2752 q2754 qs79 rfl rfl (by decide) rfl (Nat.le_of_ble_eq_true rfl) (fun v41 T42 e44 => ?_)
      obtain ⟨r43, rfl, rfl, hT⟩ := e44
      rw [hT]
      refine e_if_eq 86 dX6_operand_79 (by decide) (fun g45 => ?_) (fun g45 => ?_)
      · replace H := H.1 g45
        refine e_iconst (0) dX6_operand_86 (by decide) ?_
        exact e_ireturn .boolean dX6_operand_87 rfl (by decide) ⟨_, _, rfl, rfl, H⟩
      · replace H := H.2 g45
        refine e_aload_n dX6_operand_82 rfl ?_
        obtain ⟨Q46, hC47, H⟩ := H
        refine t_callV (As := []) ok hC47 dX6_operand_83 wX6_goOn q2718 q2720 qs73 rfl rfl (by decide) rfl (Nat.le_of_ble_eq_true rfl) (fun v48 T49 e50 => ?_)
        obtain ⟨rfl, e50⟩ := e50
        replace H := H T49 e50
        refine e_iconst (0) dX6_operand_86 (by decide) ?_
        exact e_ireturn .boolean dX6_operand_87 rfl (by decide) ⟨_, _, rfl, rfl, H⟩
    · replace H := H.2 g39
      refine e_iconst (0) dX6_operand_49 (by decide) ?_
      refine e_goto 54 dX6_operand_50 (by decide) ?_
      obtain ⟨g52, H⟩ := H
      refine t_iast dX6_operand_54 (by decide) rfl ok.1 g52 ?_
      refine e_aload_n dX6_operand_55 rfl ?_
      refine e_dup dX6_operand_56 rfl ?_
      refine t_getI dX6_operand_57 fX6_41 q2537 (by decide) rfl ?_
      refine e_iconst (1) dX6_operand_60 (by decide) ?_
      refine e_iadd dX6_operand_61 ?_
      refine t_putI dX6_operand_62 fX6_41 q2537 (eFit_i _) (by decide) rfl ok.1 ?_
      refine e_aload_n dX6_operand_65 rfl ?_
      refine e_dup dX6_operand_66 rfl ?_
      refine t_getI dX6_operand_67 fX6_42 q2538 (by decide) rfl ?_
      refine e_iconst (1) dX6_operand_70 (by decide) ?_
      refine e_iadd dX6_operand_71 ?_
      refine t_putI dX6_operand_72 fX6_42 q2538 (eFit_i _) (by decide) rfl ok.1 ?_
      refine e_aload_n dX6_operand_75 rfl ?_
      refine t_callV (As := []) ok (ct_isGood (tI (tI (tA T36 40 (va_up (T36.2.2.1 40) (T36.1 41).toNatClampNeg (0 : Int32))) 41 ((T36.1 41) + (1 : Int32))) 42 ((T36.1 42) + (1 : Int32))) ) dX6_operand_76 wX6_isGood q2752 q2754 qs79 rfl rfl (by decide) rfl (Nat.le_of_ble_eq_true rfl) (fun v53 T54 e56 => ?_)
      obtain ⟨r55, rfl, rfl, hT⟩ := e56
      rw [hT]
      refine e_if_eq 86 dX6_operand_79 (by decide) (fun g57 => ?_) (fun g57 => ?_)
      · replace H := H.1 g57
        refine e_iconst (0) dX6_operand_86 (by decide) ?_
        exact e_ireturn .boolean dX6_operand_87 rfl (by decide) ⟨_, _, rfl, rfl, H⟩
      · replace H := H.2 g57
        refine e_aload_n dX6_operand_82 rfl ?_
        obtain ⟨Q58, hC59, H⟩ := H
        refine t_callV (As := []) ok hC59 dX6_operand_83 wX6_goOn q2718 q2720 qs73 rfl rfl (by decide) rfl (Nat.le_of_ble_eq_true rfl) (fun v60 T61 e62 => ?_)
        obtain ⟨rfl, e62⟩ := e62
        replace H := H T61 e62
        refine e_iconst (0) dX6_operand_86 (by decide) ?_
        exact e_ireturn .boolean dX6_operand_87 rfl (by decide) ⟨_, _, rfl, rfl, H⟩

set_option maxHeartbeats 2000000 in
theorem s_operand_125 (c : tC) (T : tS) (H : ((zI (T.1 7 = 0 ∧ T.1 5 = 1 ∧ T.2.1 11 = (1936683636 : Int64))) = 0 → ((zI (T.1 7 = 0)) = 0 → h_operand_306 c T) ∧ (¬ (zI (T.1 7 = 0)) = 0 → ((zI (tName T)) = 0 → h_operand_306 c T) ∧ (¬ (zI (tName T)) = 0 → ∃ Q16 : Int32 → tS → Prop, tMi mX6_nameAt 0 (fun b => []) T Q16 ∧ ∀ (r21 : Int32) (T19 : tS), Q16 r21 T19 → (¬ r21 = (-1 : Int32) → h_operand_241 c r21 T19) ∧ (r21 = (-1 : Int32) → ∃ Q23 : tS → Prop, tMv mX6_wrong 1 (fun b => [.int (3 : Int32)]) T19 Q23 ∧ ∀ T26 : tS, Q23 T26 → h_operand_241 c r21 T26)))) ∧ (¬ (zI (T.1 7 = 0 ∧ T.1 5 = 1 ∧ T.2.1 11 = (1936683636 : Int64))) = 0 → ∃ Q29 : tS → Prop, tMv mX6_countsUnit 2 (fun b => []) T Q29 ∧ ∀ T32 : tS, Q29 T32 → ((zI (T32.1 7 = 0)) = 0 → h_operand_150 c T32) ∧ (¬ (zI (T32.1 7 = 0)) = 0 → ∃ Q40 : tS → Prop, tMv mX6_goOn 1 (fun b => []) T32 Q40 ∧ ∀ T43 : tS, Q40 T43 → h_operand_150 c T43))) : h_operand_125 c T := by
  intro ok
  refine e_aload_n dX6_operand_125 rfl ?_
  refine e_ldc2 dX6_operand_126 q2782 ?_
  refine t_callV (As := [.long (1936683636 : Int64)]) ok (ct_isWord T (1936683636 : Int64)) dX6_operand_129 wX6_isWord q2740 q2742 qs76 rfl rfl (by decide) rfl (Nat.le_of_ble_eq_true rfl) (fun v1 T2 e4 => ?_)
  obtain ⟨r3, rfl, rfl, hT⟩ := e4
  rw [hT]
  refine e_if_eq 212 dX6_operand_132 (by decide) (fun g5 => ?_) (fun g5 => ?_)
  · replace H := H.1 g5
    refine e_aload_n dX6_operand_212 rfl ?_
    refine t_callV (As := []) ok (ct_isGood T ) dX6_operand_213 wX6_isGood q2752 q2754 qs79 rfl rfl (by decide) rfl (Nat.le_of_ble_eq_true rfl) (fun v6 T7 e9 => ?_)
    obtain ⟨r8, rfl, rfl, hT⟩ := e9
    rw [hT]
    refine e_if_eq 306 dX6_operand_216 (by decide) (fun g10 => ?_) (fun g10 => ?_)
    · replace H := H.1 g10
      exact H ok
    · replace H := H.2 g10
      refine e_aload_n dX6_operand_219 rfl ?_
      refine t_callV (As := []) ok (ct_isName T ) dX6_operand_220 wX6_isName q2778 q2780 qs85 rfl rfl (by decide) rfl (Nat.le_of_ble_eq_true rfl) (fun v11 T12 e14 => ?_)
      obtain ⟨r13, rfl, rfl, hT⟩ := e14
      rw [hT]
      refine e_if_eq 306 dX6_operand_223 (by decide) (fun g15 => ?_) (fun g15 => ?_)
      · replace H := H.1 g15
        exact H ok
      · replace H := H.2 g15
        refine e_aload_n dX6_operand_226 rfl ?_
        obtain ⟨Q16, hC17, H⟩ := H
        refine t_callV (As := []) ok hC17 dX6_operand_227 wX6_nameAt q2783 q2785 qs86 rfl rfl (by decide) rfl (Nat.le_of_ble_eq_true rfl) (fun v18 T19 e20 => ?_)
        obtain ⟨r21, rfl, e20⟩ := e20
        replace H := H r21 T19 e20
        refine e_istore_n _ dX6_operand_230 (by decide) rfl rfl ?_
        refine e_iload_n dX6_operand_231 rfl ?_
        refine e_iconst (-1) dX6_operand_232 (by decide) ?_
        refine e_icmp_ne 241 dX6_operand_233 (by decide) (fun g22 => ?_) (fun g22 => ?_)
        · replace H := H.1 g22
          exact H ok
        · replace H := H.2 g22
          refine e_aload_n dX6_operand_236 rfl ?_
          refine e_iconst (3) dX6_operand_237 (by decide) ?_
          obtain ⟨Q23, hC24, H⟩ := H
          refine t_callV (As := [.int (3 : Int32)]) ok hC24 dX6_operand_238 wX6_wrong q2744 q2746 qs77 rfl rfl (by decide) rfl (Nat.le_of_ble_eq_true rfl) (fun v25 T26 e27 => ?_)
          obtain ⟨rfl, e27⟩ := e27
          replace H := H T26 e27
          exact H ok
  · replace H := H.2 g5
    refine e_aload_n dX6_operand_135 rfl ?_
    obtain ⟨Q29, hC30, H⟩ := H
    refine t_callV (As := []) ok hC30 dX6_operand_136 wX6_countsUnit q2795 q2797 qs89 rfl rfl (by decide) rfl (Nat.le_of_ble_eq_true rfl) (fun v31 T32 e33 => ?_)
    obtain ⟨rfl, e33⟩ := e33
    replace H := H T32 e33
    refine e_aload_n dX6_operand_139 rfl ?_
    refine t_callV (As := []) ok (ct_isGood T32 ) dX6_operand_140 wX6_isGood q2752 q2754 qs79 rfl rfl (by decide) rfl (Nat.le_of_ble_eq_true rfl) (fun v35 T36 e38 => ?_)
    obtain ⟨r37, rfl, rfl, hT⟩ := e38
    rw [hT]
    refine e_if_eq 150 dX6_operand_143 (by decide) (fun g39 => ?_) (fun g39 => ?_)
    · replace H := H.1 g39
      exact H ok
    · replace H := H.2 g39
      refine e_aload_n dX6_operand_146 rfl ?_
      obtain ⟨Q40, hC41, H⟩ := H
      refine t_callV (As := []) ok hC41 dX6_operand_147 wX6_goOn q2718 q2720 qs73 rfl rfl (by decide) rfl (Nat.le_of_ble_eq_true rfl) (fun v42 T43 e44 => ?_)
      obtain ⟨rfl, e44⟩ := e44
      replace H := H T43 e44
      exact H ok

set_option maxHeartbeats 2000000 in
theorem s_operand_150 (c : tC) (T : tS) (H : ((zI (T.1 7 = 0)) = 0 → h_operand_170 c T) ∧ (¬ (zI (T.1 7 = 0)) = 0 → ((T.1 5) = (2 : Int32) → h_operand_170 c T) ∧ (¬ (T.1 5) = (2 : Int32) → ∃ Q7 : tS → Prop, tMv mX6_wrong 1 (fun b => [.int (2 : Int32)]) T Q7 ∧ ∀ T10 : tS, Q7 T10 → h_operand_170 c T10))) : h_operand_150 c T := by
  intro ok
  refine e_aload_n dX6_operand_150 rfl ?_
  refine t_callV (As := []) ok (ct_isGood T ) dX6_operand_151 wX6_isGood q2752 q2754 qs79 rfl rfl (by decide) rfl (Nat.le_of_ble_eq_true rfl) (fun v1 T2 e4 => ?_)
  obtain ⟨r3, rfl, rfl, hT⟩ := e4
  rw [hT]
  refine e_if_eq 170 dX6_operand_154 (by decide) (fun g5 => ?_) (fun g5 => ?_)
  · replace H := H.1 g5
    exact H ok
  · replace H := H.2 g5
    refine e_aload_n dX6_operand_157 rfl ?_
    refine t_getI dX6_operand_158 fX6_5 q2501 (by decide) rfl ?_
    refine e_iconst (2) dX6_operand_161 (by decide) ?_
    refine e_icmp_eq 170 dX6_operand_162 (by decide) (fun g6 => ?_) (fun g6 => ?_)
    · replace H := H.1 g6
      exact H ok
    · replace H := H.2 g6
      refine e_aload_n dX6_operand_165 rfl ?_
      refine e_iconst (2) dX6_operand_166 (by decide) ?_
      obtain ⟨Q7, hC8, H⟩ := H
      refine t_callV (As := [.int (2 : Int32)]) ok hC8 dX6_operand_167 wX6_wrong q2744 q2746 qs77 rfl rfl (by decide) rfl (Nat.le_of_ble_eq_true rfl) (fun v9 T10 e11 => ?_)
      obtain ⟨rfl, e11⟩ := e11
      replace H := H T10 e11
      exact H ok

set_option maxHeartbeats 2000000 in
theorem s_operand_170 (c : tC) (T : tS) (H : ((zI (T.1 7 = 0)) = 0 → h_operand_193 c T) ∧ (¬ (zI (T.1 7 = 0)) = 0 → ((T.1 6) < (T.1 26) → h_operand_193 c T) ∧ (¬ (T.1 6) < (T.1 26) → ∃ Q7 : tS → Prop, tMv mX6_wrong 1 (fun b => [.int (4 : Int32)]) T Q7 ∧ ∀ T10 : tS, Q7 T10 → h_operand_193 c T10))) : h_operand_170 c T := by
  intro ok
  refine e_aload_n dX6_operand_170 rfl ?_
  refine t_callV (As := []) ok (ct_isGood T ) dX6_operand_171 wX6_isGood q2752 q2754 qs79 rfl rfl (by decide) rfl (Nat.le_of_ble_eq_true rfl) (fun v1 T2 e4 => ?_)
  obtain ⟨r3, rfl, rfl, hT⟩ := e4
  rw [hT]
  refine e_if_eq 193 dX6_operand_174 (by decide) (fun g5 => ?_) (fun g5 => ?_)
  · replace H := H.1 g5
    exact H ok
  · replace H := H.2 g5
    refine e_aload_n dX6_operand_177 rfl ?_
    refine t_getI dX6_operand_178 fX6_6 q2502 (by decide) rfl ?_
    refine e_aload_n dX6_operand_181 rfl ?_
    refine t_getI dX6_operand_182 fX6_26 q2522 (by decide) rfl ?_
    refine e_icmp_lt 193 dX6_operand_185 (by decide) (fun g6 => ?_) (fun g6 => ?_)
    · replace H := H.1 g6
      exact H ok
    · replace H := H.2 g6
      refine e_aload_n dX6_operand_188 rfl ?_
      refine e_iconst (4) dX6_operand_189 (by decide) ?_
      obtain ⟨Q7, hC8, H⟩ := H
      refine t_callV (As := [.int (4 : Int32)]) ok hC8 dX6_operand_190 wX6_wrong q2744 q2746 qs77 rfl rfl (by decide) rfl (Nat.le_of_ble_eq_true rfl) (fun v9 T10 e11 => ?_)
      obtain ⟨rfl, e11⟩ := e11
      replace H := H T10 e11
      exact H ok

set_option maxHeartbeats 2000000 in
theorem s_operand_193 (c : tC) (T : tS) (H : ((zI (T.1 7 = 0)) = 0 → h_operand_311 c T) ∧ (¬ (zI (T.1 7 = 0)) = 0 → ∃ Q6 : tS → Prop, tMv mX6_lays 3 (fun b => [.int (T.1 6), .long (1 : Int64)]) T Q6 ∧ ∀ T9 : tS, Q6 T9 → h_operand_311 c T9)) : h_operand_193 c T := by
  intro ok
  refine e_aload_n dX6_operand_193 rfl ?_
  refine t_callV (As := []) ok (ct_isGood T ) dX6_operand_194 wX6_isGood q2752 q2754 qs79 rfl rfl (by decide) rfl (Nat.le_of_ble_eq_true rfl) (fun v1 T2 e4 => ?_)
  obtain ⟨r3, rfl, rfl, hT⟩ := e4
  rw [hT]
  refine e_if_eq 311 dX6_operand_197 (by decide) (fun g5 => ?_) (fun g5 => ?_)
  · replace H := H.1 g5
    exact H ok
  · replace H := H.2 g5
    refine e_aload_n dX6_operand_200 rfl ?_
    refine e_aload_n dX6_operand_201 rfl ?_
    refine t_getI dX6_operand_202 fX6_6 q2502 (by decide) rfl ?_
    refine e_lconst 1 dX6_operand_205 (by decide) ?_
    obtain ⟨Q6, hC7, H⟩ := H
    refine t_callV (As := [.int (T.1 6), .long (1 : Int64)]) ok hC7 dX6_operand_206 wX6_lays q2799 q2801 qs90 rfl rfl (by decide) rfl (Nat.le_of_ble_eq_true rfl) (fun v8 T9 e10 => ?_)
    obtain ⟨rfl, e10⟩ := e10
    replace H := H T9 e10
    refine e_goto 311 dX6_operand_209 (by decide) ?_
    exact H ok

set_option maxHeartbeats 2000000 in
theorem s_operand_241 (c : tC) (x1 : Int32) (T : tS) (H : ∃ Q1 : tS → Prop, tMv mX6_countsUnit 2 (fun b => []) T Q1 ∧ ∀ T4 : tS, Q1 T4 → ((zI (T4.1 7 = 0)) = 0 → h_operand_303 c T4) ∧ (¬ (zI (T4.1 7 = 0)) = 0 → h_operand_254 c x1 (0 : Int32) T4)) : h_operand_241 c x1 T := by
  intro ok
  refine e_aload_n dX6_operand_241 rfl ?_
  obtain ⟨Q1, hC2, H⟩ := H
  refine t_callV (As := []) ok hC2 dX6_operand_242 wX6_countsUnit q2795 q2797 qs89 rfl rfl (by decide) rfl (Nat.le_of_ble_eq_true rfl) (fun v3 T4 e5 => ?_)
  obtain ⟨rfl, e5⟩ := e5
  replace H := H T4 e5
  refine e_aload_n dX6_operand_245 rfl ?_
  refine t_callV (As := []) ok (ct_isGood T4 ) dX6_operand_246 wX6_isGood q2752 q2754 qs79 rfl rfl (by decide) rfl (Nat.le_of_ble_eq_true rfl) (fun v7 T8 e10 => ?_)
  obtain ⟨r9, rfl, rfl, hT⟩ := e10
  rw [hT]
  refine e_if_eq 303 dX6_operand_249 (by decide) (fun g11 => ?_) (fun g11 => ?_)
  · replace H := H.1 g11
    exact E.less2 (H ok) (eS_s (eS_n (eS_n eS_0)))
  · replace H := H.2 g11
    refine e_iconst (0) dX6_operand_252 (by decide) ?_
    refine e_istore_n _ dX6_operand_253 (by decide) rfl rfl ?_
    exact H ok

set_option maxHeartbeats 2000000 in
theorem s_operand_254 (c : tC) (x1 : Int32) (x2 : Int32) (T : tS) (H : ((T.1 26) ≤ x2 → h_operand_303 c (tI T 38 ((T.1 38) + (1 : Int32)))) ∧ (¬ (T.1 26) ≤ x2 → vp_in (((64 : Int32) * x1) + x2) 512 ∧ (vp_in (((64 : Int32) * (T.1 38)) + x2) 2560 ∧ (h_operand_254 c x1 (x2 + 1) (tB T 33 (va_up (T.2.2.2 33) (((64 : Int32) * (T.1 38)) + x2).toNatClampNeg (T.2.2.2 45 (((64 : Int32) * x1) + x2).toNatClampNeg))))))) : h_operand_254 c x1 x2 T := by
  intro ok
  refine e_iload_n dX6_operand_254 rfl ?_
  refine e_aload_n dX6_operand_255 rfl ?_
  refine t_getI dX6_operand_256 fX6_26 q2522 (by decide) rfl ?_
  refine e_icmp_ge 293 dX6_operand_259 (by decide) (fun g1 => ?_) (fun g1 => ?_)
  · replace H := H.1 g1
    refine e_aload_n dX6_operand_293 rfl ?_
    refine e_dup dX6_operand_294 rfl ?_
    refine t_getI dX6_operand_295 fX6_38 q2534 (by decide) rfl ?_
    refine e_iconst (1) dX6_operand_298 (by decide) ?_
    refine e_iadd dX6_operand_299 ?_
    refine t_putI dX6_operand_300 fX6_38 q2534 (eFit_i _) (by decide) rfl ok.1 ?_
    exact E.less2 (H ok) (eS_s (eS_n (eS_n eS_0)))
  · replace H := H.2 g1
    refine e_aload_n dX6_operand_262 rfl ?_
    refine t_getA dX6_operand_263 fX6_33 q2529 (by decide) rfl ?_
    refine e_bipush (64) dX6_operand_266 (by decide) ?_
    refine e_aload_n dX6_operand_268 rfl ?_
    refine t_getI dX6_operand_269 fX6_38 q2534 (by decide) rfl ?_
    refine e_imul dX6_operand_272 ?_
    refine e_iload_n dX6_operand_273 rfl ?_
    refine e_iadd dX6_operand_274 ?_
    refine e_aload_n dX6_operand_275 rfl ?_
    refine t_getA dX6_operand_276 fX6_45 q2541 (by decide) rfl ?_
    refine e_bipush (64) dX6_operand_279 (by decide) ?_
    refine e_iload_n dX6_operand_281 rfl ?_
    refine e_imul dX6_operand_282 ?_
    refine e_iload_n dX6_operand_283 rfl ?_
    refine e_iadd dX6_operand_284 ?_
    obtain ⟨g2, H⟩ := H
    refine t_lald dX6_operand_285 (by decide) rfl g2 ?_
    obtain ⟨g3, H⟩ := H
    refine t_last dX6_operand_286 (by decide) rfl ok.1 g3 ?_
    refine e_iinc (x2 + 1) _ dX6_operand_287 rfl rfl (by decide) rfl rfl ?_
    refine e_goto 254 dX6_operand_290 (by decide) ?_
    exact H ok

set_option maxHeartbeats 2000000 in
theorem s_operand_303 (c : tC) (T : tS) (H : h_operand_311 c T) : h_operand_303 c T := by
  intro ok
  refine e_goto 311 dX6_operand_303 (by decide) ?_
  exact H ok

set_option maxHeartbeats 2000000 in
theorem s_operand_306 (c : tC) (T : tS) (H : ∃ Q1 : tS → Prop, tMv mX6_wrong 1 (fun b => [.int (2 : Int32)]) T Q1 ∧ ∀ T4 : tS, Q1 T4 → h_operand_311 c T4) : h_operand_306 c T := by
  intro ok
  refine e_aload_n dX6_operand_306 rfl ?_
  refine e_iconst (2) dX6_operand_307 (by decide) ?_
  obtain ⟨Q1, hC2, H⟩ := H
  refine t_callV (As := [.int (2 : Int32)]) ok hC2 dX6_operand_308 wX6_wrong q2744 q2746 qs77 rfl rfl (by decide) rfl (Nat.le_of_ble_eq_true rfl) (fun v3 T4 e5 => ?_)
  obtain ⟨rfl, e5⟩ := e5
  replace H := H T4 e5
  exact H ok

set_option maxHeartbeats 2000000 in
theorem s_operand_311 (c : tC) (T : tS) (H : ((zI (T.1 7 = 0)) = 0 → c.2.2.2.2.2.2 (some (.int (1 : Int32))) T) ∧ (¬ (zI (T.1 7 = 0)) = 0 → ∃ Q6 : tS → Prop, tMv mX6_goOn 1 (fun b => []) T Q6 ∧ ∀ T9 : tS, Q6 T9 → c.2.2.2.2.2.2 (some (.int (1 : Int32))) T9)) : h_operand_311 c T := by
  intro ok
  refine e_aload_n dX6_operand_311 rfl ?_
  refine t_callV (As := []) ok (ct_isGood T ) dX6_operand_312 wX6_isGood q2752 q2754 qs79 rfl rfl (by decide) rfl (Nat.le_of_ble_eq_true rfl) (fun v1 T2 e4 => ?_)
  obtain ⟨r3, rfl, rfl, hT⟩ := e4
  rw [hT]
  refine e_if_eq 322 dX6_operand_315 (by decide) (fun g5 => ?_) (fun g5 => ?_)
  · replace H := H.1 g5
    refine e_iconst (1) dX6_operand_322 (by decide) ?_
    exact e_ireturn .boolean dX6_operand_323 rfl (by decide) ⟨_, _, rfl, rfl, H⟩
  · replace H := H.2 g5
    refine e_aload_n dX6_operand_318 rfl ?_
    obtain ⟨Q6, hC7, H⟩ := H
    refine t_callV (As := []) ok hC7 dX6_operand_319 wX6_goOn q2718 q2720 qs73 rfl rfl (by decide) rfl (Nat.le_of_ble_eq_true rfl) (fun v8 T9 e10 => ?_)
    obtain ⟨rfl, e10⟩ := e10
    replace H := H T9 e10
    refine e_iconst (1) dX6_operand_322 (by decide) ?_
    exact e_ireturn .boolean dX6_operand_323 rfl (by decide) ⟨_, _, rfl, rfl, H⟩

theorem en_operand (T : tS) (Q : Option Value → tS → Prop) (H : ∀ c : tC, c.2.2.2.2.2.2 = Q → h_operand_0 c T) : tM mX6_operand 4 (fun b => []) T Q :=
  tM_mk (by decide) rfl (fun b => Nat.le_of_ble_eq_true rfl) (fun c hc ok => E.less2 (H c hc ok) (eS_s (eS_n (eS_n eS_0))))
/-! closes ()V level 4 -/
def h_closes_0 (c : tC) (T : tS) : Prop := tX mX6_closes 4 c 0 [some (.ref c.2.2.2.1), none] T
def h_closes_33 (c : tC) (T : tS) : Prop := tX mX6_closes 4 c 33 [some (.ref c.2.2.2.1), none] T
set_option maxHeartbeats 2000000 in
theorem s_closes_0 (c : tC) (T : tS) (H : ((zI (T.1 7 = 0 ∧ T.1 5 = 3 ∧ T.1 6 = (94 : Int32))) = 0 → h_closes_33 c T) ∧ (¬ (zI (T.1 7 = 0 ∧ T.1 5 = 3 ∧ T.1 6 = (94 : Int32))) = 0 → ∃ Q6 : tS → Prop, tMv mX6_goOn 1 (fun b => []) T Q6 ∧ ∀ T9 : tS, Q6 T9 → ∃ Q12 : Int32 → tS → Prop, tMi mX6_number 2 (fun b => [.int (0 : Int32), .int (9 : Int32)]) T9 Q12 ∧ ∀ (r17 : Int32) (T15 : tS), Q12 r17 T15 → ((zI (T15.1 7 = 0)) = 0 → h_closes_33 c T15) ∧ (¬ (zI (T15.1 7 = 0)) = 0 → ∃ Q23 : tS → Prop, tMv mX6_powers 3 (fun b => [.int r17]) T15 Q23 ∧ ∀ T26 : tS, Q23 T26 → h_closes_33 c T26))) : h_closes_0 c T := by
  intro ok
  refine e_aload_n dX6_closes_0 rfl ?_
  refine e_bipush (94) dX6_closes_1 (by decide) ?_
  refine t_callV (As := [.int (94 : Int32)]) ok (ct_isSignHere T (94 : Int32)) dX6_closes_3 wX6_isSignHere q2764 q2766 qs82 rfl rfl (by decide) rfl (Nat.le_of_ble_eq_true rfl) (fun v1 T2 e4 => ?_)
  obtain ⟨r3, rfl, rfl, hT⟩ := e4
  rw [hT]
  refine e_if_eq 33 dX6_closes_6 (by decide) (fun g5 => ?_) (fun g5 => ?_)
  · replace H := H.1 g5
    exact H ok
  · replace H := H.2 g5
    refine e_aload_n dX6_closes_9 rfl ?_
    obtain ⟨Q6, hC7, H⟩ := H
    refine t_callV (As := []) ok hC7 dX6_closes_10 wX6_goOn q2718 q2720 qs73 rfl rfl (by decide) rfl (Nat.le_of_ble_eq_true rfl) (fun v8 T9 e10 => ?_)
    obtain ⟨rfl, e10⟩ := e10
    replace H := H T9 e10
    refine e_aload_n dX6_closes_13 rfl ?_
    refine e_iconst (0) dX6_closes_14 (by decide) ?_
    refine e_bipush (9) dX6_closes_15 (by decide) ?_
    obtain ⟨Q12, hC13, H⟩ := H
    refine t_callV (As := [.int (0 : Int32), .int (9 : Int32)]) ok hC13 dX6_closes_17 wX6_number q2756 q2758 qs80 rfl rfl (by decide) rfl (Nat.le_of_ble_eq_true rfl) (fun v14 T15 e16 => ?_)
    obtain ⟨r17, rfl, e16⟩ := e16
    replace H := H r17 T15 e16
    refine e_istore_n _ dX6_closes_20 (by decide) rfl rfl ?_
    refine e_aload_n dX6_closes_21 rfl ?_
    refine t_callV (As := []) ok (ct_isGood T15 ) dX6_closes_22 wX6_isGood q2752 q2754 qs79 rfl rfl (by decide) rfl (Nat.le_of_ble_eq_true rfl) (fun v18 T19 e21 => ?_)
    obtain ⟨r20, rfl, rfl, hT⟩ := e21
    rw [hT]
    refine e_if_eq 33 dX6_closes_25 (by decide) (fun g22 => ?_) (fun g22 => ?_)
    · replace H := H.1 g22
      exact E.less2 (H ok) (eS_s (eS_n eS_0))
    · replace H := H.2 g22
      refine e_aload_n dX6_closes_28 rfl ?_
      refine e_iload_n dX6_closes_29 rfl ?_
      obtain ⟨Q23, hC24, H⟩ := H
      refine t_callV (As := [.int r17]) ok hC24 dX6_closes_30 wX6_powers q2821 q2823 qs95 rfl rfl (by decide) rfl (Nat.le_of_ble_eq_true rfl) (fun v25 T26 e27 => ?_)
      obtain ⟨rfl, e27⟩ := e27
      replace H := H T26 e27
      exact E.less2 (H ok) (eS_s (eS_n eS_0))

set_option maxHeartbeats 2000000 in
theorem s_closes_33 (c : tC) (T : tS) (H : ((zI (T.1 7 = 0)) = 0 → c.2.2.2.2.2.2 none T) ∧ (¬ (zI (T.1 7 = 0)) = 0 → ((T.1 41) ≤ 0 → c.2.2.2.2.2.2 none T) ∧ (¬ (T.1 41) ≤ 0 → vp_in ((T.1 41) - (1 : Int32)) 80 ∧ ((¬ (T.2.2.1 40 ((T.1 41) - (1 : Int32)).toNatClampNeg) = (1 : Int32) → c.2.2.2.2.2.2 none T) ∧ ((T.2.2.1 40 ((T.1 41) - (1 : Int32)).toNatClampNeg) = (1 : Int32) → ∃ Q9 : tS → Prop, tMv mX6_negates 0 (fun b => []) T Q9 ∧ ∀ T12 : tS, Q9 T12 → h_closes_33 c (tI (tI T12 41 ((T12.1 41) - (1 : Int32))) 42 ((T12.1 42) - (1 : Int32)))))))) : h_closes_33 c T := by
  intro ok
  refine e_aload_n dX6_closes_33 rfl ?_
  refine t_callV (As := []) ok (ct_isGood T ) dX6_closes_34 wX6_isGood q2752 q2754 qs79 rfl rfl (by decide) rfl (Nat.le_of_ble_eq_true rfl) (fun v1 T2 e4 => ?_)
  obtain ⟨r3, rfl, rfl, hT⟩ := e4
  rw [hT]
  refine e_if_eq 89 dX6_closes_37 (by decide) (fun g5 => ?_) (fun g5 => ?_)
  · replace H := H.1 g5
    exact e_return dX6_closes_89 rfl ⟨_, _, rfl, rfl, H⟩
  · replace H := H.2 g5
    refine e_aload_n dX6_closes_40 rfl ?_
    refine t_getI dX6_closes_41 fX6_41 q2537 (by decide) rfl ?_
    refine e_if_le 89 dX6_closes_44 (by decide) (fun g6 => ?_) (fun g6 => ?_)
    · replace H := H.1 g6
      exact e_return dX6_closes_89 rfl ⟨_, _, rfl, rfl, H⟩
    · replace H := H.2 g6
      refine e_aload_n dX6_closes_47 rfl ?_
      refine t_getA dX6_closes_48 fX6_40 q2536 (by decide) rfl ?_
      refine e_aload_n dX6_closes_51 rfl ?_
      refine t_getI dX6_closes_52 fX6_41 q2537 (by decide) rfl ?_
      refine e_iconst (1) dX6_closes_55 (by decide) ?_
      refine e_isub dX6_closes_56 ?_
      obtain ⟨g7, H⟩ := H
      refine t_iald dX6_closes_57 (by decide) rfl g7 ?_
      refine e_iconst (1) dX6_closes_58 (by decide) ?_
      refine e_icmp_ne 89 dX6_closes_59 (by decide) (fun g8 => ?_) (fun g8 => ?_)
      · replace H := H.1 g8
        exact e_return dX6_closes_89 rfl ⟨_, _, rfl, rfl, H⟩
      · replace H := H.2 g8
        refine e_aload_n dX6_closes_62 rfl ?_
        obtain ⟨Q9, hC10, H⟩ := H
        refine t_callV (As := []) ok hC10 dX6_closes_63 wX6_negates q2837 q2839 qs99 rfl rfl (by decide) rfl (Nat.le_of_ble_eq_true rfl) (fun v11 T12 e13 => ?_)
        obtain ⟨rfl, e13⟩ := e13
        replace H := H T12 e13
        refine e_aload_n dX6_closes_66 rfl ?_
        refine e_dup dX6_closes_67 rfl ?_
        refine t_getI dX6_closes_68 fX6_41 q2537 (by decide) rfl ?_
        refine e_iconst (1) dX6_closes_71 (by decide) ?_
        refine e_isub dX6_closes_72 ?_
        refine t_putI dX6_closes_73 fX6_41 q2537 (eFit_i _) (by decide) rfl ok.1 ?_
        refine e_aload_n dX6_closes_76 rfl ?_
        refine e_dup dX6_closes_77 rfl ?_
        refine t_getI dX6_closes_78 fX6_42 q2538 (by decide) rfl ?_
        refine e_iconst (1) dX6_closes_81 (by decide) ?_
        refine e_isub dX6_closes_82 ?_
        refine t_putI dX6_closes_83 fX6_42 q2538 (eFit_i _) (by decide) rfl ok.1 ?_
        refine e_goto 33 dX6_closes_86 (by decide) ?_
        exact H ok

theorem en_closes (T : tS) (Q : Option Value → tS → Prop) (H : ∀ c : tC, c.2.2.2.2.2.2 = Q → h_closes_0 c T) : tM mX6_closes 4 (fun b => []) T Q :=
  tM_mk (by decide) rfl (fun b => Nat.le_of_ble_eq_true rfl) (fun c hc ok => E.less2 (H c hc ok) (eS_s (eS_n eS_0)))
/-! formula ()V level 7 -/
def h_formula_0 (c : tC) (T : tS) : Prop := tX mX6_formula 7 c 0 [some (.ref c.2.2.2.1), none] T
def h_formula_27 (c : tC) (x1 : Int32) (T : tS) : Prop := tX mX6_formula 7 c 27 [some (.ref c.2.2.2.1), some (.int x1)] T
def h_formula_38 (c : tC) (T : tS) : Prop := tX mX6_formula 7 c 38 [some (.ref c.2.2.2.1), none] T
def h_formula_57 (c : tC) (T : tS) : Prop := tX mX6_formula 7 c 57 [some (.ref c.2.2.2.1), none] T
def h_formula_68 (c : tC) (T : tS) : Prop := tX mX6_formula 7 c 68 [some (.ref c.2.2.2.1), none] T
def h_formula_86 (c : tC) (T : tS) : Prop := tX mX6_formula 7 c 86 [some (.ref c.2.2.2.1), none] T
def h_formula_88 (c : tC) (x1 : Int32) (T : tS) : Prop := tX mX6_formula 7 c 88 [some (.ref c.2.2.2.1), some (.int x1)] T
def h_formula_166 (c : tC) (T : tS) : Prop := tX mX6_formula 7 c 166 [some (.ref c.2.2.2.1), none] T
def h_formula_171 (c : tC) (T : tS) : Prop := tX mX6_formula 7 c 171 [some (.ref c.2.2.2.1), none] T
def h_formula_190 (c : tC) (T : tS) : Prop := tX mX6_formula 7 c 190 [some (.ref c.2.2.2.1), none] T
set_option maxHeartbeats 2000000 in
theorem s_formula_0 (c : tC) (T : tS) (H : h_formula_27 c (1 : Int32) (tI (tI (tI (tI (tI T 38 (0 : Int32)) 41 (0 : Int32)) 42 (0 : Int32)) 43 (0 : Int32)) 39 (0 : Int32))) : h_formula_0 c T := by
  intro ok
  refine e_aload_n dX6_formula_0 rfl ?_
  refine e_iconst (0) dX6_formula_1 (by decide) ?_
  refine t_putI dX6_formula_2 fX6_38 q2534 (eFit_i _) (by decide) rfl ok.1 ?_
  refine e_aload_n dX6_formula_5 rfl ?_
  refine e_iconst (0) dX6_formula_6 (by decide) ?_
  refine t_putI dX6_formula_7 fX6_41 q2537 (eFit_i _) (by decide) rfl ok.1 ?_
  refine e_aload_n dX6_formula_10 rfl ?_
  refine e_iconst (0) dX6_formula_11 (by decide) ?_
  refine t_putI dX6_formula_12 fX6_42 q2538 (eFit_i _) (by decide) rfl ok.1 ?_
  refine e_aload_n dX6_formula_15 rfl ?_
  refine e_iconst (0) dX6_formula_16 (by decide) ?_
  refine t_putI dX6_formula_17 fX6_43 q2539 (eFit_i _) (by decide) rfl ok.1 ?_
  refine e_aload_n dX6_formula_20 rfl ?_
  refine e_iconst (0) dX6_formula_21 (by decide) ?_
  refine t_putI dX6_formula_22 fX6_39 q2535 eFit_z0 (by decide) rfl ok.1 ?_
  refine e_iconst (1) dX6_formula_25 (by decide) ?_
  refine e_istore_n _ dX6_formula_26 (by decide) rfl rfl ?_
  exact H ok

set_option maxHeartbeats 2000000 in
theorem s_formula_27 (c : tC) (x1 : Int32) (T : tS) (H : ((zI (T.1 7 = 0)) = 0 → h_formula_171 c T) ∧ (¬ (zI (T.1 7 = 0)) = 0 → (x1 = 0 → h_formula_171 c T) ∧ (¬ x1 = 0 → h_formula_38 c T))) : h_formula_27 c x1 T := by
  intro ok
  refine e_aload_n dX6_formula_27 rfl ?_
  refine t_callV (As := []) ok (ct_isGood T ) dX6_formula_28 wX6_isGood q2752 q2754 qs79 rfl rfl (by decide) rfl (Nat.le_of_ble_eq_true rfl) (fun v1 T2 e4 => ?_)
  obtain ⟨r3, rfl, rfl, hT⟩ := e4
  rw [hT]
  refine e_if_eq 171 dX6_formula_31 (by decide) (fun g5 => ?_) (fun g5 => ?_)
  · replace H := H.1 g5
    exact E.less2 (H ok) (eS_s (eS_n eS_0))
  · replace H := H.2 g5
    refine e_iload_n dX6_formula_34 rfl ?_
    refine e_if_eq 171 dX6_formula_35 (by decide) (fun g6 => ?_) (fun g6 => ?_)
    · replace H := H.1 g6
      exact E.less2 (H ok) (eS_s (eS_n eS_0))
    · replace H := H.2 g6
      exact E.less2 (H ok) (eS_s (eS_n eS_0))

set_option maxHeartbeats 2000000 in
theorem s_formula_38 (c : tC) (T : tS) (H : ((zI (T.1 7 = 0)) = 0 → h_formula_57 c T) ∧ (¬ (zI (T.1 7 = 0)) = 0 → ∃ Q6 : Int32 → tS → Prop, tMi mX6_operand 4 (fun b => []) T Q6 ∧ ∀ (r11 : Int32) (T9 : tS), Q6 r11 T9 → (¬ r11 = 0 → h_formula_57 c T9) ∧ (r11 = 0 → h_formula_38 c T9))) : h_formula_38 c T := by
  intro ok
  refine e_aload_n dX6_formula_38 rfl ?_
  refine t_callV (As := []) ok (ct_isGood T ) dX6_formula_39 wX6_isGood q2752 q2754 qs79 rfl rfl (by decide) rfl (Nat.le_of_ble_eq_true rfl) (fun v1 T2 e4 => ?_)
  obtain ⟨r3, rfl, rfl, hT⟩ := e4
  rw [hT]
  refine e_if_eq 57 dX6_formula_42 (by decide) (fun g5 => ?_) (fun g5 => ?_)
  · replace H := H.1 g5
    exact H ok
  · replace H := H.2 g5
    refine e_aload_n dX6_formula_45 rfl ?_
    obtain ⟨Q6, hC7, H⟩ := H
    refine t_callV (As := []) ok hC7 dX6_formula_46 wX6_operand q2791 q2793 qs88 rfl rfl (by decide) rfl (Nat.le_of_ble_eq_true rfl) (fun v8 T9 e10 => ?_)
    obtain ⟨r11, rfl, e10⟩ := e10
    replace H := H r11 T9 e10
    refine e_if_ne 57 dX6_formula_49 (by decide) (fun g12 => ?_) (fun g12 => ?_)
    · replace H := H.1 g12
      exact H ok
    · replace H := H.2 g12
      refine e_iconst (1) dX6_formula_52 (by decide) ?_
      refine e_istore_n _ dX6_formula_53 (by decide) rfl rfl ?_
      refine e_goto 38 dX6_formula_54 (by decide) ?_
      exact E.less2 (H ok) (eS_s (eS_n eS_0))

set_option maxHeartbeats 2000000 in
theorem s_formula_57 (c : tC) (T : tS) (H : ((zI (T.1 7 = 0)) = 0 → h_formula_68 c T) ∧ (¬ (zI (T.1 7 = 0)) = 0 → ∃ Q6 : tS → Prop, tMv mX6_closes 4 (fun b => []) T Q6 ∧ ∀ T9 : tS, Q6 T9 → h_formula_68 c T9)) : h_formula_57 c T := by
  intro ok
  refine e_aload_n dX6_formula_57 rfl ?_
  refine t_callV (As := []) ok (ct_isGood T ) dX6_formula_58 wX6_isGood q2752 q2754 qs79 rfl rfl (by decide) rfl (Nat.le_of_ble_eq_true rfl) (fun v1 T2 e4 => ?_)
  obtain ⟨r3, rfl, rfl, hT⟩ := e4
  rw [hT]
  refine e_if_eq 68 dX6_formula_61 (by decide) (fun g5 => ?_) (fun g5 => ?_)
  · replace H := H.1 g5
    exact H ok
  · replace H := H.2 g5
    refine e_aload_n dX6_formula_64 rfl ?_
    obtain ⟨Q6, hC7, H⟩ := H
    refine t_callV (As := []) ok hC7 dX6_formula_65 wX6_closes q2817 q2819 qs94 rfl rfl (by decide) rfl (Nat.le_of_ble_eq_true rfl) (fun v8 T9 e10 => ?_)
    obtain ⟨rfl, e10⟩ := e10
    replace H := H T9 e10
    exact H ok

set_option maxHeartbeats 2000000 in
theorem s_formula_68 (c : tC) (T : tS) (H : ((zI (T.1 7 = 0)) = 0 → h_formula_86 c T) ∧ (¬ (zI (T.1 7 = 0)) = 0 → ∃ Q6 : Int32 → tS → Prop, tMi mX6_goesOn 6 (fun b => []) T Q6 ∧ ∀ (r11 : Int32) (T9 : tS), Q6 r11 T9 → (r11 = 0 → h_formula_86 c T9) ∧ (¬ r11 = 0 → h_formula_88 c (1 : Int32) T9))) : h_formula_68 c T := by
  intro ok
  refine e_aload_n dX6_formula_68 rfl ?_
  refine t_callV (As := []) ok (ct_isGood T ) dX6_formula_69 wX6_isGood q2752 q2754 qs79 rfl rfl (by decide) rfl (Nat.le_of_ble_eq_true rfl) (fun v1 T2 e4 => ?_)
  obtain ⟨r3, rfl, rfl, hT⟩ := e4
  rw [hT]
  refine e_if_eq 86 dX6_formula_72 (by decide) (fun g5 => ?_) (fun g5 => ?_)
  · replace H := H.1 g5
    exact H ok
  · replace H := H.2 g5
    refine e_aload_n dX6_formula_75 rfl ?_
    obtain ⟨Q6, hC7, H⟩ := H
    refine t_callV (As := []) ok hC7 dX6_formula_76 wX6_goesOn q2841 q2843 qs100 rfl rfl (by decide) rfl (Nat.le_of_ble_eq_true rfl) (fun v8 T9 e10 => ?_)
    obtain ⟨r11, rfl, e10⟩ := e10
    replace H := H r11 T9 e10
    refine e_if_eq 86 dX6_formula_79 (by decide) (fun g12 => ?_) (fun g12 => ?_)
    · replace H := H.1 g12
      exact H ok
    · replace H := H.2 g12
      refine e_iconst (1) dX6_formula_82 (by decide) ?_
      refine e_goto 87 dX6_formula_83 (by decide) ?_
      refine e_istore_n _ dX6_formula_87 (by decide) rfl rfl ?_
      exact H ok

set_option maxHeartbeats 2000000 in
theorem s_formula_86 (c : tC) (T : tS) (H : h_formula_88 c (0 : Int32) T) : h_formula_86 c T := by
  intro ok
  refine e_iconst (0) dX6_formula_86 (by decide) ?_
  refine e_istore_n _ dX6_formula_87 (by decide) rfl rfl ?_
  exact H ok

set_option maxHeartbeats 2000000 in
theorem s_formula_88 (c : tC) (x1 : Int32) (T : tS) (H : ((zI (T.1 7 = 0)) = 0 → h_formula_27 c x1 T) ∧ (¬ (zI (T.1 7 = 0)) = 0 → (¬ x1 = 0 → h_formula_27 c x1 T) ∧ (x1 = 0 → ((zI (T.1 7 = 0 ∧ T.1 5 = 3 ∧ T.1 6 = (41 : Int32))) = 0 → h_formula_27 c x1 T) ∧ (¬ (zI (T.1 7 = 0 ∧ T.1 5 = 3 ∧ T.1 6 = (41 : Int32))) = 0 → ∃ Q12 : Int32 → tS → Prop, tMi mX6_isOpen 0 (fun b => []) T Q12 ∧ ∀ (r17 : Int32) (T15 : tS), Q12 r17 T15 → (r17 = 0 → h_formula_27 c x1 T15) ∧ (¬ r17 = 0 → ∃ Q19 : tS → Prop, tMv mX6_works 4 (fun b => [.int (2 : Int32)]) T15 Q19 ∧ ∀ T22 : tS, Q19 T22 → ∃ Q25 : tS → Prop, tMv mX6_goOn 1 (fun b => []) (tI (tI T22 41 ((T22.1 41) - (1 : Int32))) 42 ((T22.1 42) - (1 : Int32))) Q25 ∧ ∀ T28 : tS, Q25 T28 → ∃ Q31 : tS → Prop, tMv mX6_closes 4 (fun b => []) T28 Q31 ∧ ∀ T34 : tS, Q31 T34 → ((zI (T34.1 7 = 0)) = 0 → h_formula_166 c T34) ∧ (¬ (zI (T34.1 7 = 0)) = 0 → ∃ Q42 : Int32 → tS → Prop, tMi mX6_goesOn 6 (fun b => []) T34 Q42 ∧ ∀ (r47 : Int32) (T45 : tS), Q42 r47 T45 → (r47 = 0 → h_formula_166 c T45) ∧ (¬ r47 = 0 → h_formula_88 c (1 : Int32) T45))))))) : h_formula_88 c x1 T := by
  intro ok
  refine e_aload_n dX6_formula_88 rfl ?_
  refine t_callV (As := []) ok (ct_isGood T ) dX6_formula_89 wX6_isGood q2752 q2754 qs79 rfl rfl (by decide) rfl (Nat.le_of_ble_eq_true rfl) (fun v1 T2 e4 => ?_)
  obtain ⟨r3, rfl, rfl, hT⟩ := e4
  rw [hT]
  refine e_if_eq 27 dX6_formula_92 (by decide) (fun g5 => ?_) (fun g5 => ?_)
  · replace H := H.1 g5
    exact H ok
  · replace H := H.2 g5
    refine e_iload_n dX6_formula_95 rfl ?_
    refine e_if_ne 27 dX6_formula_96 (by decide) (fun g6 => ?_) (fun g6 => ?_)
    · replace H := H.1 g6
      exact H ok
    · replace H := H.2 g6
      refine e_aload_n dX6_formula_99 rfl ?_
      refine e_bipush (41) dX6_formula_100 (by decide) ?_
      refine t_callV (As := [.int (41 : Int32)]) ok (ct_isSignHere T (41 : Int32)) dX6_formula_102 wX6_isSignHere q2764 q2766 qs82 rfl rfl (by decide) rfl (Nat.le_of_ble_eq_true rfl) (fun v7 T8 e10 => ?_)
      obtain ⟨r9, rfl, rfl, hT⟩ := e10
      rw [hT]
      refine e_if_eq 27 dX6_formula_105 (by decide) (fun g11 => ?_) (fun g11 => ?_)
      · replace H := H.1 g11
        exact H ok
      · replace H := H.2 g11
        refine e_aload_n dX6_formula_108 rfl ?_
        obtain ⟨Q12, hC13, H⟩ := H
        refine t_callV (As := []) ok hC13 dX6_formula_109 wX6_isOpen q2861 q2863 qs105 rfl rfl (by decide) rfl (Nat.le_of_ble_eq_true rfl) (fun v14 T15 e16 => ?_)
        obtain ⟨r17, rfl, e16⟩ := e16
        replace H := H r17 T15 e16
        refine e_if_eq 27 dX6_formula_112 (by decide) (fun g18 => ?_) (fun g18 => ?_)
        · replace H := H.1 g18
          exact H ok
        · replace H := H.2 g18
          refine e_aload_n dX6_formula_115 rfl ?_
          refine e_iconst (2) dX6_formula_116 (by decide) ?_
          obtain ⟨Q19, hC20, H⟩ := H
          refine t_callV (As := [.int (2 : Int32)]) ok hC20 dX6_formula_117 wX6_works q2849 q2851 qs102 rfl rfl (by decide) rfl (Nat.le_of_ble_eq_true rfl) (fun v21 T22 e23 => ?_)
          obtain ⟨rfl, e23⟩ := e23
          replace H := H T22 e23
          refine e_aload_n dX6_formula_120 rfl ?_
          refine e_dup dX6_formula_121 rfl ?_
          refine t_getI dX6_formula_122 fX6_41 q2537 (by decide) rfl ?_
          refine e_iconst (1) dX6_formula_125 (by decide) ?_
          refine e_isub dX6_formula_126 ?_
          refine t_putI dX6_formula_127 fX6_41 q2537 (eFit_i _) (by decide) rfl ok.1 ?_
          refine e_aload_n dX6_formula_130 rfl ?_
          refine e_dup dX6_formula_131 rfl ?_
          refine t_getI dX6_formula_132 fX6_42 q2538 (by decide) rfl ?_
          refine e_iconst (1) dX6_formula_135 (by decide) ?_
          refine e_isub dX6_formula_136 ?_
          refine t_putI dX6_formula_137 fX6_42 q2538 (eFit_i _) (by decide) rfl ok.1 ?_
          refine e_aload_n dX6_formula_140 rfl ?_
          obtain ⟨Q25, hC26, H⟩ := H
          refine t_callV (As := []) ok hC26 dX6_formula_141 wX6_goOn q2718 q2720 qs73 rfl rfl (by decide) rfl (Nat.le_of_ble_eq_true rfl) (fun v27 T28 e29 => ?_)
          obtain ⟨rfl, e29⟩ := e29
          replace H := H T28 e29
          refine e_aload_n dX6_formula_144 rfl ?_
          obtain ⟨Q31, hC32, H⟩ := H
          refine t_callV (As := []) ok hC32 dX6_formula_145 wX6_closes q2817 q2819 qs94 rfl rfl (by decide) rfl (Nat.le_of_ble_eq_true rfl) (fun v33 T34 e35 => ?_)
          obtain ⟨rfl, e35⟩ := e35
          replace H := H T34 e35
          refine e_aload_n dX6_formula_148 rfl ?_
          refine t_callV (As := []) ok (ct_isGood T34 ) dX6_formula_149 wX6_isGood q2752 q2754 qs79 rfl rfl (by decide) rfl (Nat.le_of_ble_eq_true rfl) (fun v37 T38 e40 => ?_)
          obtain ⟨r39, rfl, rfl, hT⟩ := e40
          rw [hT]
          refine e_if_eq 166 dX6_formula_152 (by decide) (fun g41 => ?_) (fun g41 => ?_)
          · replace H := H.1 g41
            exact E.less2 (H ok) (eS_s (eS_n eS_0))
          · replace H := H.2 g41
            refine e_aload_n dX6_formula_155 rfl ?_
            obtain ⟨Q42, hC43, H⟩ := H
            refine t_callV (As := []) ok hC43 dX6_formula_156 wX6_goesOn q2841 q2843 qs100 rfl rfl (by decide) rfl (Nat.le_of_ble_eq_true rfl) (fun v44 T45 e46 => ?_)
            obtain ⟨r47, rfl, e46⟩ := e46
            replace H := H r47 T45 e46
            refine e_if_eq 166 dX6_formula_159 (by decide) (fun g48 => ?_) (fun g48 => ?_)
            · replace H := H.1 g48
              exact E.less2 (H ok) (eS_s (eS_n eS_0))
            · replace H := H.2 g48
              refine e_iconst (1) dX6_formula_162 (by decide) ?_
              refine e_goto 167 dX6_formula_163 (by decide) ?_
              refine e_istore_n _ dX6_formula_167 (by decide) rfl rfl ?_
              refine e_goto 88 dX6_formula_168 (by decide) ?_
              exact H ok

set_option maxHeartbeats 2000000 in
theorem s_formula_166 (c : tC) (T : tS) (H : h_formula_88 c (0 : Int32) T) : h_formula_166 c T := by
  intro ok
  refine e_iconst (0) dX6_formula_166 (by decide) ?_
  refine e_istore_n _ dX6_formula_167 (by decide) rfl rfl ?_
  refine e_goto 88 dX6_formula_168 (by decide) ?_
  exact H ok

set_option maxHeartbeats 2000000 in
theorem s_formula_171 (c : tC) (T : tS) (H : ((zI (T.1 7 = 0)) = 0 → h_formula_190 c T) ∧ (¬ (zI (T.1 7 = 0)) = 0 → ∃ Q6 : Int32 → tS → Prop, tMi mX6_isOpen 0 (fun b => []) T Q6 ∧ ∀ (r11 : Int32) (T9 : tS), Q6 r11 T9 → (r11 = 0 → h_formula_190 c T9) ∧ (¬ r11 = 0 → ∃ Q13 : tS → Prop, tMv mX6_wrong 1 (fun b => [.int (2 : Int32)]) T9 Q13 ∧ ∀ T16 : tS, Q13 T16 → h_formula_190 c T16))) : h_formula_171 c T := by
  intro ok
  refine e_aload_n dX6_formula_171 rfl ?_
  refine t_callV (As := []) ok (ct_isGood T ) dX6_formula_172 wX6_isGood q2752 q2754 qs79 rfl rfl (by decide) rfl (Nat.le_of_ble_eq_true rfl) (fun v1 T2 e4 => ?_)
  obtain ⟨r3, rfl, rfl, hT⟩ := e4
  rw [hT]
  refine e_if_eq 190 dX6_formula_175 (by decide) (fun g5 => ?_) (fun g5 => ?_)
  · replace H := H.1 g5
    exact H ok
  · replace H := H.2 g5
    refine e_aload_n dX6_formula_178 rfl ?_
    obtain ⟨Q6, hC7, H⟩ := H
    refine t_callV (As := []) ok hC7 dX6_formula_179 wX6_isOpen q2861 q2863 qs105 rfl rfl (by decide) rfl (Nat.le_of_ble_eq_true rfl) (fun v8 T9 e10 => ?_)
    obtain ⟨r11, rfl, e10⟩ := e10
    replace H := H r11 T9 e10
    refine e_if_eq 190 dX6_formula_182 (by decide) (fun g12 => ?_) (fun g12 => ?_)
    · replace H := H.1 g12
      exact H ok
    · replace H := H.2 g12
      refine e_aload_n dX6_formula_185 rfl ?_
      refine e_iconst (2) dX6_formula_186 (by decide) ?_
      obtain ⟨Q13, hC14, H⟩ := H
      refine t_callV (As := [.int (2 : Int32)]) ok hC14 dX6_formula_187 wX6_wrong q2744 q2746 qs77 rfl rfl (by decide) rfl (Nat.le_of_ble_eq_true rfl) (fun v15 T16 e17 => ?_)
      obtain ⟨rfl, e17⟩ := e17
      replace H := H T16 e17
      exact H ok

set_option maxHeartbeats 2000000 in
theorem s_formula_190 (c : tC) (T : tS) (H : ((zI (T.1 7 = 0)) = 0 → c.2.2.2.2.2.2 none T) ∧ (¬ (zI (T.1 7 = 0)) = 0 → ∃ Q6 : tS → Prop, tMv mX6_works 4 (fun b => [.int (2 : Int32)]) T Q6 ∧ ∀ T9 : tS, Q6 T9 → c.2.2.2.2.2.2 none T9)) : h_formula_190 c T := by
  intro ok
  refine e_aload_n dX6_formula_190 rfl ?_
  refine t_callV (As := []) ok (ct_isGood T ) dX6_formula_191 wX6_isGood q2752 q2754 qs79 rfl rfl (by decide) rfl (Nat.le_of_ble_eq_true rfl) (fun v1 T2 e4 => ?_)
  obtain ⟨r3, rfl, rfl, hT⟩ := e4
  rw [hT]
  refine e_if_eq 202 dX6_formula_194 (by decide) (fun g5 => ?_) (fun g5 => ?_)
  · replace H := H.1 g5
    exact e_return dX6_formula_202 rfl ⟨_, _, rfl, rfl, H⟩
  · replace H := H.2 g5
    refine e_aload_n dX6_formula_197 rfl ?_
    refine e_iconst (2) dX6_formula_198 (by decide) ?_
    obtain ⟨Q6, hC7, H⟩ := H
    refine t_callV (As := [.int (2 : Int32)]) ok hC7 dX6_formula_199 wX6_works q2849 q2851 qs102 rfl rfl (by decide) rfl (Nat.le_of_ble_eq_true rfl) (fun v8 T9 e10 => ?_)
    obtain ⟨rfl, e10⟩ := e10
    replace H := H T9 e10
    exact e_return dX6_formula_202 rfl ⟨_, _, rfl, rfl, H⟩

theorem en_formula (T : tS) (Q : Option Value → tS → Prop) (H : ∀ c : tC, c.2.2.2.2.2.2 = Q → h_formula_0 c T) : tM mX6_formula 7 (fun b => []) T Q :=
  tM_mk (by decide) rfl (fun b => Nat.le_of_ble_eq_true rfl) (fun c hc ok => E.less2 (H c hc ok) (eS_s (eS_n eS_0)))
