/-! act ()V level 0 -/
def h_act_0 (c : tC) (T : tS) : Prop := tX mX6_act 0 c 0 [some (.ref c.2.2.2.1), none] T
def h_act_12 (c : tC) (x1 : Int32) (T : tS) : Prop := tX mX6_act 0 c 12 [some (.ref c.2.2.2.1), some (.int x1)] T
def h_act_50 (c : tC) (T : tS) : Prop := tX mX6_act 0 c 50 [some (.ref c.2.2.2.1), none] T
def h_act_52 (c : tC) (x1 : Int32) (T : tS) : Prop := tX mX6_act 0 c 52 [some (.ref c.2.2.2.1), some (.int x1)] T
set_option maxHeartbeats 2000000 in
theorem s_act_0 (c : tC) (T : tS) (H : (¬ (T.1 60) = (12 : Int32) → h_act_50 c T) ∧ ((T.1 60) = (12 : Int32) → h_act_12 c (64 : Int32) T)) : h_act_0 c T := by
  intro ok
  refine e_aload_n dX6_act_0 rfl ?_
  refine t_getI dX6_act_1 fX6_60 q2556 (by decide) rfl ?_
  refine e_bipush (12) dX6_act_4 (by decide) ?_
  refine e_icmp_ne 50 dX6_act_6 (by decide) (fun g1 => ?_) (fun g1 => ?_)
  · replace H := H.1 g1
    exact H ok
  · replace H := H.2 g1
    refine e_bipush (64) dX6_act_9 (by decide) ?_
    refine e_istore_n _ dX6_act_11 (by decide) rfl rfl ?_
    exact H ok

set_option maxHeartbeats 2000000 in
theorem s_act_12 (c : tC) (x1 : Int32) (T : tS) (H : ((768 : Int32) ≤ x1 → h_act_50 c (tI T 60 ((T.1 60) - (1 : Int32)))) ∧ (¬ (768 : Int32) ≤ x1 → vp_in x1 768 ∧ (vp_in (x1 - (64 : Int32)) 768 ∧ (h_act_12 c (x1 + 1) (tB T 59 (va_up (T.2.2.2 59) (x1 - (64 : Int32)).toNatClampNeg (T.2.2.2 59 x1.toNatClampNeg))))))) : h_act_12 c x1 T := by
  intro ok
  refine e_iload_n dX6_act_12 rfl ?_
  refine e_sipush (768) dX6_act_13 (by decide) ?_
  refine e_icmp_ge 40 dX6_act_16 (by decide) (fun g1 => ?_) (fun g1 => ?_)
  · replace H := H.1 g1
    refine e_aload_n dX6_act_40 rfl ?_
    refine e_dup dX6_act_41 rfl ?_
    refine t_getI dX6_act_42 fX6_60 q2556 (by decide) rfl ?_
    refine e_iconst (1) dX6_act_45 (by decide) ?_
    refine e_isub dX6_act_46 ?_
    refine t_putI dX6_act_47 fX6_60 q2556 (eFit_i _) (by decide) rfl ok.1 ?_
    exact E.less2 (H ok) (eS_s (eS_n eS_0))
  · replace H := H.2 g1
    refine e_aload_n dX6_act_19 rfl ?_
    refine t_getA dX6_act_20 fX6_59 q2555 (by decide) rfl ?_
    refine e_iload_n dX6_act_23 rfl ?_
    refine e_bipush (64) dX6_act_24 (by decide) ?_
    refine e_isub dX6_act_26 ?_
    refine e_aload_n dX6_act_27 rfl ?_
    refine t_getA dX6_act_28 fX6_59 q2555 (by decide) rfl ?_
    refine e_iload_n dX6_act_31 rfl ?_
    obtain ⟨g2, H⟩ := H
    refine t_lald dX6_act_32 (by decide) rfl g2 ?_
    obtain ⟨g3, H⟩ := H
    refine t_last dX6_act_33 (by decide) rfl ok.1 g3 ?_
    refine e_iinc (x1 + 1) _ dX6_act_34 rfl rfl (by decide) rfl rfl ?_
    refine e_goto 12 dX6_act_37 (by decide) ?_
    exact H ok

set_option maxHeartbeats 2000000 in
theorem s_act_50 (c : tC) (T : tS) (H : h_act_52 c (0 : Int32) T) : h_act_50 c T := by
  intro ok
  refine e_iconst (0) dX6_act_50 (by decide) ?_
  refine e_istore_n _ dX6_act_51 (by decide) rfl rfl ?_
  exact H ok

set_option maxHeartbeats 2000000 in
theorem s_act_52 (c : tC) (x1 : Int32) (T : tS) (H : ((64 : Int32) ≤ x1 → c.2.2.2.2.2.2 none (tI T 60 ((T.1 60) + (1 : Int32)))) ∧ (¬ (64 : Int32) ≤ x1 → vp_in x1 64 ∧ (vp_in (((64 : Int32) * (T.1 60)) + x1) 768 ∧ (h_act_52 c (x1 + 1) (tB T 59 (va_up (T.2.2.2 59) (((64 : Int32) * (T.1 60)) + x1).toNatClampNeg (T.2.2.2 36 x1.toNatClampNeg))))))) : h_act_52 c x1 T := by
  intro ok
  refine e_iload_n dX6_act_52 rfl ?_
  refine e_bipush (64) dX6_act_53 (by decide) ?_
  refine e_icmp_ge 84 dX6_act_55 (by decide) (fun g1 => ?_) (fun g1 => ?_)
  · replace H := H.1 g1
    refine e_aload_n dX6_act_84 rfl ?_
    refine e_dup dX6_act_85 rfl ?_
    refine t_getI dX6_act_86 fX6_60 q2556 (by decide) rfl ?_
    refine e_iconst (1) dX6_act_89 (by decide) ?_
    refine e_iadd dX6_act_90 ?_
    refine t_putI dX6_act_91 fX6_60 q2556 (eFit_i _) (by decide) rfl ok.1 ?_
    exact e_return dX6_act_94 rfl ⟨_, _, rfl, rfl, H⟩
  · replace H := H.2 g1
    refine e_aload_n dX6_act_58 rfl ?_
    refine t_getA dX6_act_59 fX6_59 q2555 (by decide) rfl ?_
    refine e_bipush (64) dX6_act_62 (by decide) ?_
    refine e_aload_n dX6_act_64 rfl ?_
    refine t_getI dX6_act_65 fX6_60 q2556 (by decide) rfl ?_
    refine e_imul dX6_act_68 ?_
    refine e_iload_n dX6_act_69 rfl ?_
    refine e_iadd dX6_act_70 ?_
    refine e_aload_n dX6_act_71 rfl ?_
    refine t_getA dX6_act_72 fX6_36 q2532 (by decide) rfl ?_
    refine e_iload_n dX6_act_75 rfl ?_
    obtain ⟨g2, H⟩ := H
    refine t_lald dX6_act_76 (by decide) rfl g2 ?_
    obtain ⟨g3, H⟩ := H
    refine t_last dX6_act_77 (by decide) rfl ok.1 g3 ?_
    refine e_iinc (x1 + 1) _ dX6_act_78 rfl rfl (by decide) rfl rfl ?_
    refine e_goto 52 dX6_act_81 (by decide) ?_
    exact H ok

theorem en_act (T : tS) (Q : Option Value → tS → Prop) (H : ∀ c : tC, c.2.2.2.2.2.2 = Q → h_act_0 c T) : tM mX6_act 0 (fun b => []) T Q :=
  tM_mk (by decide) rfl (fun b => Nat.le_of_ble_eq_true rfl) (fun c hc ok => E.less2 (H c hc ok) (eS_s (eS_n eS_0)))
/-! exchanges (II)V level 0 -/
def h_exchanges_0 (c : tC) (x1 : Int32) (x2 : Int32) (T : tS) : Prop := tX mX6_exchanges 0 c 0 [some (.ref c.2.2.2.1), some (.int x1), some (.int x2), none, none] T
def h_exchanges_2 (c : tC) (x1 : Int32) (x2 : Int32) (x3 : Int32) (T : tS) : Prop := tX mX6_exchanges 0 c 2 [some (.ref c.2.2.2.1), some (.int x1), some (.int x2), some (.int x3), none] T
set_option maxHeartbeats 2000000 in
theorem s_exchanges_0 (c : tC) (x1 : Int32) (x2 : Int32) (T : tS) (H : h_exchanges_2 c x1 x2 (0 : Int32) T) : h_exchanges_0 c x1 x2 T := by
  intro ok
  refine e_iconst (0) dX6_exchanges_0 (by decide) ?_
  refine e_istore_n _ dX6_exchanges_1 (by decide) rfl rfl ?_
  exact H ok

set_option maxHeartbeats 2000000 in
theorem s_exchanges_2 (c : tC) (x1 : Int32) (x2 : Int32) (x3 : Int32) (T : tS) (H : ((6 : Int32) ≤ x3 → c.2.2.2.2.2.2 none T) ∧ (¬ (6 : Int32) ≤ x3 → vp_in (((6 : Int32) * x1) + x3) 144 ∧ (vp_in (((6 : Int32) * x2) + x3) 144 ∧ (vp_in (((6 : Int32) * x1) + x3) 144 ∧ (vp_in (((6 : Int32) * x2) + x3) 144 ∧ (h_exchanges_2 c x1 x2 (x3 + 1) (tA (tA T 21 (va_up (T.2.2.1 21) (((6 : Int32) * x1) + x3).toNatClampNeg (T.2.2.1 21 (((6 : Int32) * x2) + x3).toNatClampNeg))) 21 (va_up (va_up (T.2.2.1 21) (((6 : Int32) * x1) + x3).toNatClampNeg (T.2.2.1 21 (((6 : Int32) * x2) + x3).toNatClampNeg)) (((6 : Int32) * x2) + x3).toNatClampNeg (T.2.2.1 21 (((6 : Int32) * x1) + x3).toNatClampNeg))))))))) : h_exchanges_2 c x1 x2 x3 T := by
  intro ok
  refine e_iload_n dX6_exchanges_2 rfl ?_
  refine e_bipush (6) dX6_exchanges_3 (by decide) ?_
  refine e_icmp_ge 62 dX6_exchanges_5 (by decide) (fun g1 => ?_) (fun g1 => ?_)
  · replace H := H.1 g1
    exact e_return dX6_exchanges_62 rfl ⟨_, _, rfl, rfl, H⟩
  · replace H := H.2 g1
    refine e_aload_n dX6_exchanges_8 rfl ?_
    refine t_getA dX6_exchanges_9 fX6_21 q2517 (by decide) rfl ?_
    refine e_bipush (6) dX6_exchanges_12 (by decide) ?_
    refine e_iload_n dX6_exchanges_14 rfl ?_
    refine e_imul dX6_exchanges_15 ?_
    refine e_iload_n dX6_exchanges_16 rfl ?_
    refine e_iadd dX6_exchanges_17 ?_
    obtain ⟨g2, H⟩ := H
    refine t_iald dX6_exchanges_18 (by decide) rfl g2 ?_
    refine e_istore _ dX6_exchanges_19 (by decide) rfl rfl ?_
    refine e_aload_n dX6_exchanges_21 rfl ?_
    refine t_getA dX6_exchanges_22 fX6_21 q2517 (by decide) rfl ?_
    refine e_bipush (6) dX6_exchanges_25 (by decide) ?_
    refine e_iload_n dX6_exchanges_27 rfl ?_
    refine e_imul dX6_exchanges_28 ?_
    refine e_iload_n dX6_exchanges_29 rfl ?_
    refine e_iadd dX6_exchanges_30 ?_
    refine e_aload_n dX6_exchanges_31 rfl ?_
    refine t_getA dX6_exchanges_32 fX6_21 q2517 (by decide) rfl ?_
    refine e_bipush (6) dX6_exchanges_35 (by decide) ?_
    refine e_iload_n dX6_exchanges_37 rfl ?_
    refine e_imul dX6_exchanges_38 ?_
    refine e_iload_n dX6_exchanges_39 rfl ?_
    refine e_iadd dX6_exchanges_40 ?_
    obtain ⟨g3, H⟩ := H
    refine t_iald dX6_exchanges_41 (by decide) rfl g3 ?_
    obtain ⟨g4, H⟩ := H
    refine t_iast dX6_exchanges_42 (by decide) rfl ok.1 g4 ?_
    refine e_aload_n dX6_exchanges_43 rfl ?_
    refine t_getA dX6_exchanges_44 fX6_21 q2517 (by decide) rfl ?_
    refine e_bipush (6) dX6_exchanges_47 (by decide) ?_
    refine e_iload_n dX6_exchanges_49 rfl ?_
    refine e_imul dX6_exchanges_50 ?_
    refine e_iload_n dX6_exchanges_51 rfl ?_
    refine e_iadd dX6_exchanges_52 ?_
    refine e_iload dX6_exchanges_53 rfl ?_
    obtain ⟨g5, H⟩ := H
    refine t_iast dX6_exchanges_55 (by decide) rfl ok.1 g5 ?_
    refine e_iinc (x3 + 1) _ dX6_exchanges_56 rfl rfl (by decide) rfl rfl ?_
    refine e_goto 2 dX6_exchanges_59 (by decide) ?_
    exact E.less2 (H ok) (eS_s (eS_s (eS_s (eS_s (eS_n eS_0)))))

theorem en_exchanges (x1 : Int32) (x2 : Int32) (T : tS) (Q : Option Value → tS → Prop) (H : ∀ c : tC, c.2.2.2.2.2.2 = Q → h_exchanges_0 c x1 x2 T) : tM mX6_exchanges 0 (fun b => [.int x1, .int x2]) T Q :=
  tM_mk (by decide) rfl (fun b => Nat.le_of_ble_eq_true rfl) (fun c hc ok => E.less2 (H c hc ok) (eS_s (eS_s (eS_s (eS_n (eS_n eS_0))))))
/-! fault (I)I level 0 -/
def h_fault_0 (c : tC) (x1 : Int32) (T : tS) : Prop := tX mX6_fault 0 c 0 [some (.ref c.2.2.2.1), some (.int x1)] T
set_option maxHeartbeats 2000000 in
theorem s_fault_0 (c : tC) (x1 : Int32) (T : tS) (H : (¬ x1 = 0 → (¬ x1 = (1 : Int32) → c.2.2.2.2.2.2 (some (.int (-1 : Int32))) T) ∧ (x1 = (1 : Int32) → c.2.2.2.2.2.2 (some (.int (T.1 10))) T)) ∧ (x1 = 0 → c.2.2.2.2.2.2 (some (.int (T.1 9))) T)) : h_fault_0 c x1 T := by
  intro ok
  refine e_iload_n dX6_fault_0 rfl ?_
  refine e_if_ne 11 dX6_fault_1 (by decide) (fun g1 => ?_) (fun g1 => ?_)
  · replace H := H.1 g1
    refine e_iload_n dX6_fault_11 rfl ?_
    refine e_iconst (1) dX6_fault_12 (by decide) ?_
    refine e_icmp_ne 23 dX6_fault_13 (by decide) (fun g2 => ?_) (fun g2 => ?_)
    · replace H := H.1 g2
      refine e_iconst (-1) dX6_fault_23 (by decide) ?_
      exact e_ireturn .int dX6_fault_24 rfl rfl ⟨_, _, rfl, rfl, H⟩
    · replace H := H.2 g2
      refine e_aload_n dX6_fault_16 rfl ?_
      refine t_getI dX6_fault_17 fX6_10 q2506 (by decide) rfl ?_
      refine e_goto 24 dX6_fault_20 (by decide) ?_
      exact e_ireturn .int dX6_fault_24 rfl rfl ⟨_, _, rfl, rfl, H⟩
  · replace H := H.2 g1
    refine e_aload_n dX6_fault_4 rfl ?_
    refine t_getI dX6_fault_5 fX6_9 q2505 (by decide) rfl ?_
    refine e_goto 24 dX6_fault_8 (by decide) ?_
    exact e_ireturn .int dX6_fault_24 rfl rfl ⟨_, _, rfl, rfl, H⟩

theorem en_fault (x1 : Int32) (T : tS) (Q : Option Value → tS → Prop) (H : ∀ c : tC, c.2.2.2.2.2.2 = Q → h_fault_0 c x1 T) : tM mX6_fault 0 (fun b => [.int x1]) T Q :=
  tM_mk (by decide) rfl (fun b => Nat.le_of_ble_eq_true rfl) (fun c hc ok => E.less2 (H c hc ok) (eS_s (eS_s eS_0)))
/-! four (I)V level 0 -/
def h_four_0 (c : tC) (x1 : Int32) (T : tS) : Prop := tX mX6_four 0 c 0 [some (.ref c.2.2.2.1), some (.int x1), none] T
def h_four_3 (c : tC) (x1 : Int32) (x2 : Int32) (T : tS) : Prop := tX mX6_four 0 c 3 [some (.ref c.2.2.2.1), some (.int x1), some (.int x2)] T
set_option maxHeartbeats 2000000 in
theorem s_four_0 (c : tC) (x1 : Int32) (T : tS) (H : h_four_3 c x1 (24 : Int32) T) : h_four_0 c x1 T := by
  intro ok
  refine e_bipush (24) dX6_four_0 (by decide) ?_
  refine e_istore_n _ dX6_four_2 (by decide) rfl rfl ?_
  exact H ok

set_option maxHeartbeats 2000000 in
theorem s_four_3 (c : tC) (x1 : Int32) (x2 : Int32) (T : tS) (H : (x2 < 0 → c.2.2.2.2.2.2 none T) ∧ (¬ x2 < 0 → vp_in (T.1 1) 700 ∧ (h_four_3 c x1 (x2 + (-8)) (tI (tA T 0 (va_up (T.2.2.1 0) (T.1 1).toNatClampNeg ((x1 >>> (x2 &&& 31)) &&& (255 : Int32)))) 1 ((T.1 1) + (1 : Int32)))))) : h_four_3 c x1 x2 T := by
  intro ok
  refine e_iload_n dX6_four_3 rfl ?_
  refine e_if_lt 39 dX6_four_4 (by decide) (fun g1 => ?_) (fun g1 => ?_)
  · replace H := H.1 g1
    exact e_return dX6_four_39 rfl ⟨_, _, rfl, rfl, H⟩
  · replace H := H.2 g1
    refine e_aload_n dX6_four_7 rfl ?_
    refine t_getA dX6_four_8 fX6_0 q2496 (by decide) rfl ?_
    refine e_aload_n dX6_four_11 rfl ?_
    refine t_getI dX6_four_12 fX6_1 q2497 (by decide) rfl ?_
    refine e_iload_n dX6_four_15 rfl ?_
    refine e_iload_n dX6_four_16 rfl ?_
    refine e_ishr dX6_four_17 ?_
    refine e_sipush (255) dX6_four_18 (by decide) ?_
    refine e_iand dX6_four_21 ?_
    obtain ⟨g2, H⟩ := H
    refine t_iast dX6_four_22 (by decide) rfl ok.1 g2 ?_
    refine e_aload_n dX6_four_23 rfl ?_
    refine e_dup dX6_four_24 rfl ?_
    refine t_getI dX6_four_25 fX6_1 q2497 (by decide) rfl ?_
    refine e_iconst (1) dX6_four_28 (by decide) ?_
    refine e_iadd dX6_four_29 ?_
    refine t_putI dX6_four_30 fX6_1 q2497 (eFit_i _) (by decide) rfl ok.1 ?_
    refine e_iinc (x2 + (-8)) _ dX6_four_33 rfl rfl (by decide) rfl rfl ?_
    refine e_goto 3 dX6_four_36 (by decide) ?_
    exact H ok

theorem en_four (x1 : Int32) (T : tS) (Q : Option Value → tS → Prop) (H : ∀ c : tC, c.2.2.2.2.2.2 = Q → h_four_0 c x1 T) : tM mX6_four 0 (fun b => [.int x1]) T Q :=
  tM_mk (by decide) rfl (fun b => Nat.le_of_ble_eq_true rfl) (fun c hc ok => E.less2 (H c hc ok) (eS_s (eS_s (eS_n eS_0))))
/-! inForce ()V level 0 -/
def h_inForce_0 (c : tC) (T : tS) : Prop := tX mX6_inForce 0 c 0 [some (.ref c.2.2.2.1), none] T
def h_inForce_26 (c : tC) (x1 : Int32) (T : tS) : Prop := tX mX6_inForce 0 c 26 [some (.ref c.2.2.2.1), some (.int x1)] T
def h_inForce_52 (c : tC) (x1 : Int32) (T : tS) : Prop := tX mX6_inForce 0 c 52 [some (.ref c.2.2.2.1), some (.int x1)] T
def h_inForce_78 (c : tC) (x1 : Int32) (T : tS) : Prop := tX mX6_inForce 0 c 78 [some (.ref c.2.2.2.1), some (.int x1)] T
def h_inForce_105 (c : tC) (x1 : Int32) (T : tS) : Prop := tX mX6_inForce 0 c 105 [some (.ref c.2.2.2.1), some (.int x1)] T
set_option maxHeartbeats 2000000 in
theorem s_inForce_0 (c : tC) (T : tS) (H : h_inForce_26 c (0 : Int32) (tI (tI (tI T 16 (T.1 12)) 17 (T.1 13)) 18 (T.1 14))) : h_inForce_0 c T := by
  intro ok
  refine e_aload_n dX6_inForce_0 rfl ?_
  refine e_aload_n dX6_inForce_1 rfl ?_
  refine t_getI dX6_inForce_2 fX6_12 q2508 (by decide) rfl ?_
  refine t_putI dX6_inForce_5 fX6_16 q2512 (eFit_i _) (by decide) rfl ok.1 ?_
  refine e_aload_n dX6_inForce_8 rfl ?_
  refine e_aload_n dX6_inForce_9 rfl ?_
  refine t_getI dX6_inForce_10 fX6_13 q2509 (by decide) rfl ?_
  refine t_putI dX6_inForce_13 fX6_17 q2513 (eFit_i _) (by decide) rfl ok.1 ?_
  refine e_aload_n dX6_inForce_16 rfl ?_
  refine e_aload_n dX6_inForce_17 rfl ?_
  refine t_getI dX6_inForce_18 fX6_14 q2510 (by decide) rfl ?_
  refine t_putI dX6_inForce_21 fX6_18 q2514 (eFit_i _) (by decide) rfl ok.1 ?_
  refine e_iconst (0) dX6_inForce_24 (by decide) ?_
  refine e_istore_n _ dX6_inForce_25 (by decide) rfl rfl ?_
  exact H ok

set_option maxHeartbeats 2000000 in
theorem s_inForce_26 (c : tC) (x1 : Int32) (T : tS) (H : ((24 : Int32) ≤ x1 → h_inForce_52 c (0 : Int32) T) ∧ (¬ (24 : Int32) ≤ x1 → vp_in x1 24 ∧ (vp_in x1 24 ∧ (h_inForce_26 c (x1 + 1) (tA T 19 (va_up (T.2.2.1 19) x1.toNatClampNeg (T.2.2.1 15 x1.toNatClampNeg))))))) : h_inForce_26 c x1 T := by
  intro ok
  refine e_iload_n dX6_inForce_26 rfl ?_
  refine e_bipush (24) dX6_inForce_27 (by decide) ?_
  refine e_icmp_ge 50 dX6_inForce_29 (by decide) (fun g1 => ?_) (fun g1 => ?_)
  · replace H := H.1 g1
    refine e_iconst (0) dX6_inForce_50 (by decide) ?_
    refine e_istore_n _ dX6_inForce_51 (by decide) rfl rfl ?_
    exact H ok
  · replace H := H.2 g1
    refine e_aload_n dX6_inForce_32 rfl ?_
    refine t_getA dX6_inForce_33 fX6_19 q2515 (by decide) rfl ?_
    refine e_iload_n dX6_inForce_36 rfl ?_
    refine e_aload_n dX6_inForce_37 rfl ?_
    refine t_getA dX6_inForce_38 fX6_15 q2511 (by decide) rfl ?_
    refine e_iload_n dX6_inForce_41 rfl ?_
    obtain ⟨g2, H⟩ := H
    refine t_iald dX6_inForce_42 (by decide) rfl g2 ?_
    obtain ⟨g3, H⟩ := H
    refine t_iast dX6_inForce_43 (by decide) rfl ok.1 g3 ?_
    refine e_iinc (x1 + 1) _ dX6_inForce_44 rfl rfl (by decide) rfl rfl ?_
    refine e_goto 26 dX6_inForce_47 (by decide) ?_
    exact H ok

set_option maxHeartbeats 2000000 in
theorem s_inForce_52 (c : tC) (x1 : Int32) (T : tS) (H : ((8 : Int32) ≤ x1 → h_inForce_78 c (0 : Int32) T) ∧ (¬ (8 : Int32) ≤ x1 → vp_in x1 8 ∧ (vp_in x1 8 ∧ (h_inForce_52 c (x1 + 1) (tB T 46 (va_up (T.2.2.2 46) x1.toNatClampNeg (T.2.2.2 44 x1.toNatClampNeg))))))) : h_inForce_52 c x1 T := by
  intro ok
  refine e_iload_n dX6_inForce_52 rfl ?_
  refine e_bipush (8) dX6_inForce_53 (by decide) ?_
  refine e_icmp_ge 76 dX6_inForce_55 (by decide) (fun g1 => ?_) (fun g1 => ?_)
  · replace H := H.1 g1
    refine e_iconst (0) dX6_inForce_76 (by decide) ?_
    refine e_istore_n _ dX6_inForce_77 (by decide) rfl rfl ?_
    exact H ok
  · replace H := H.2 g1
    refine e_aload_n dX6_inForce_58 rfl ?_
    refine t_getA dX6_inForce_59 fX6_46 q2542 (by decide) rfl ?_
    refine e_iload_n dX6_inForce_62 rfl ?_
    refine e_aload_n dX6_inForce_63 rfl ?_
    refine t_getA dX6_inForce_64 fX6_44 q2540 (by decide) rfl ?_
    refine e_iload_n dX6_inForce_67 rfl ?_
    obtain ⟨g2, H⟩ := H
    refine t_lald dX6_inForce_68 (by decide) rfl g2 ?_
    obtain ⟨g3, H⟩ := H
    refine t_last dX6_inForce_69 (by decide) rfl ok.1 g3 ?_
    refine e_iinc (x1 + 1) _ dX6_inForce_70 rfl rfl (by decide) rfl rfl ?_
    refine e_goto 52 dX6_inForce_73 (by decide) ?_
    exact H ok

set_option maxHeartbeats 2000000 in
theorem s_inForce_78 (c : tC) (x1 : Int32) (T : tS) (H : ((512 : Int32) ≤ x1 → h_inForce_105 c (0 : Int32) T) ∧ (¬ (512 : Int32) ≤ x1 → vp_in x1 512 ∧ (vp_in x1 512 ∧ (h_inForce_78 c (x1 + 1) (tB T 47 (va_up (T.2.2.2 47) x1.toNatClampNeg (T.2.2.2 45 x1.toNatClampNeg))))))) : h_inForce_78 c x1 T := by
  intro ok
  refine e_iload_n dX6_inForce_78 rfl ?_
  refine e_sipush (512) dX6_inForce_79 (by decide) ?_
  refine e_icmp_ge 103 dX6_inForce_82 (by decide) (fun g1 => ?_) (fun g1 => ?_)
  · replace H := H.1 g1
    refine e_iconst (0) dX6_inForce_103 (by decide) ?_
    refine e_istore_n _ dX6_inForce_104 (by decide) rfl rfl ?_
    exact H ok
  · replace H := H.2 g1
    refine e_aload_n dX6_inForce_85 rfl ?_
    refine t_getA dX6_inForce_86 fX6_47 q2543 (by decide) rfl ?_
    refine e_iload_n dX6_inForce_89 rfl ?_
    refine e_aload_n dX6_inForce_90 rfl ?_
    refine t_getA dX6_inForce_91 fX6_45 q2541 (by decide) rfl ?_
    refine e_iload_n dX6_inForce_94 rfl ?_
    obtain ⟨g2, H⟩ := H
    refine t_lald dX6_inForce_95 (by decide) rfl g2 ?_
    obtain ⟨g3, H⟩ := H
    refine t_last dX6_inForce_96 (by decide) rfl ok.1 g3 ?_
    refine e_iinc (x1 + 1) _ dX6_inForce_97 rfl rfl (by decide) rfl rfl ?_
    refine e_goto 78 dX6_inForce_100 (by decide) ?_
    exact H ok

set_option maxHeartbeats 2000000 in
theorem s_inForce_105 (c : tC) (x1 : Int32) (T : tS) (H : ((64 : Int32) ≤ x1 → c.2.2.2.2.2.2 none (tI (tI T 60 (0 : Int32)) 58 (0 : Int32))) ∧ (¬ (64 : Int32) ≤ x1 → vp_in x1 64 ∧ (h_inForce_105 c (x1 + 1) (tB T 36 (va_up (T.2.2.2 36) x1.toNatClampNeg (0 : Int64)))))) : h_inForce_105 c x1 T := by
  intro ok
  refine e_iload_n dX6_inForce_105 rfl ?_
  refine e_bipush (64) dX6_inForce_106 (by decide) ?_
  refine e_icmp_ge 124 dX6_inForce_108 (by decide) (fun g1 => ?_) (fun g1 => ?_)
  · replace H := H.1 g1
    refine e_aload_n dX6_inForce_124 rfl ?_
    refine e_iconst (0) dX6_inForce_125 (by decide) ?_
    refine t_putI dX6_inForce_126 fX6_60 q2556 (eFit_i _) (by decide) rfl ok.1 ?_
    refine e_aload_n dX6_inForce_129 rfl ?_
    refine e_iconst (0) dX6_inForce_130 (by decide) ?_
    refine t_putI dX6_inForce_131 fX6_58 q2554 eFit_z0 (by decide) rfl ok.1 ?_
    exact e_return dX6_inForce_134 rfl ⟨_, _, rfl, rfl, H⟩
  · replace H := H.2 g1
    refine e_aload_n dX6_inForce_111 rfl ?_
    refine t_getA dX6_inForce_112 fX6_36 q2532 (by decide) rfl ?_
    refine e_iload_n dX6_inForce_115 rfl ?_
    refine e_lconst 0 dX6_inForce_116 (by decide) ?_
    obtain ⟨g2, H⟩ := H
    refine t_last dX6_inForce_117 (by decide) rfl ok.1 g2 ?_
    refine e_iinc (x1 + 1) _ dX6_inForce_118 rfl rfl (by decide) rfl rfl ?_
    refine e_goto 105 dX6_inForce_121 (by decide) ?_
    exact H ok

theorem en_inForce (T : tS) (Q : Option Value → tS → Prop) (H : ∀ c : tC, c.2.2.2.2.2.2 = Q → h_inForce_0 c T) : tM mX6_inForce 0 (fun b => []) T Q :=
  tM_mk (by decide) rfl (fun b => Nat.le_of_ble_eq_true rfl) (fun c hc ok => E.less2 (H c hc ok) (eS_s (eS_n eS_0)))
/-! indexOf ()I level 0 -/
def h_indexOf_0 (c : tC) (T : tS) : Prop := tX mX6_indexOf 0 c 0 [some (.ref c.2.2.2.1), none, none, none] T
def h_indexOf_2 (c : tC) (x1 : Int32) (T : tS) : Prop := tX mX6_indexOf 0 c 2 [some (.ref c.2.2.2.1), some (.int x1), none, none] T
def h_indexOf_14 (c : tC) (x1 : Int32) (x2 : Int32) (x3 : Int32) (T : tS) : Prop := tX mX6_indexOf 0 c 14 [some (.ref c.2.2.2.1), some (.int x1), some (.int x2), some (.int x3)] T
def h_indexOf_50 (c : tC) (x1 : Int32) (x3 : Int32) (T : tS) : Prop := tX mX6_indexOf 0 c 50 [some (.ref c.2.2.2.1), some (.int x1), none, some (.int x3)] T
set_option maxHeartbeats 2000000 in
theorem s_indexOf_0 (c : tC) (T : tS) (H : h_indexOf_2 c (0 : Int32) T) : h_indexOf_0 c T := by
  intro ok
  refine e_iconst (0) dX6_indexOf_0 (by decide) ?_
  refine e_istore_n _ dX6_indexOf_1 (by decide) rfl rfl ?_
  exact H ok

set_option maxHeartbeats 2000000 in
theorem s_indexOf_2 (c : tC) (x1 : Int32) (T : tS) (H : ((T.1 20) ≤ x1 → c.2.2.2.2.2.2 (some (.int (-1 : Int32))) T) ∧ (¬ (T.1 20) ≤ x1 → h_indexOf_14 c x1 (1 : Int32) (0 : Int32) T)) : h_indexOf_2 c x1 T := by
  intro ok
  refine e_iload_n dX6_indexOf_2 rfl ?_
  refine e_aload_n dX6_indexOf_3 rfl ?_
  refine t_getI dX6_indexOf_4 fX6_20 q2516 (by decide) rfl ?_
  refine e_icmp_ge 70 dX6_indexOf_7 (by decide) (fun g1 => ?_) (fun g1 => ?_)
  · replace H := H.1 g1
    refine e_iconst (-1) dX6_indexOf_70 (by decide) ?_
    exact e_ireturn .int dX6_indexOf_71 rfl rfl ⟨_, _, rfl, rfl, H⟩
  · replace H := H.2 g1
    refine e_iconst (1) dX6_indexOf_10 (by decide) ?_
    refine e_istore_n _ dX6_indexOf_11 (by decide) rfl rfl ?_
    refine e_iconst (0) dX6_indexOf_12 (by decide) ?_
    refine e_istore_n _ dX6_indexOf_13 (by decide) rfl rfl ?_
    exact H ok

set_option maxHeartbeats 2000000 in
theorem s_indexOf_14 (c : tC) (x1 : Int32) (x2 : Int32) (x3 : Int32) (T : tS) (H : ((T.1 12) ≤ x3 → (x2 = 0 → h_indexOf_2 c (x1 + 1) T) ∧ (¬ x2 = 0 → c.2.2.2.2.2.2 (some (.int x1)) T)) ∧ (¬ (T.1 12) ≤ x3 → (x2 = 0 → h_indexOf_50 c x1 x3 T) ∧ (¬ x2 = 0 → vp_in (((6 : Int32) * x1) + x3) 144 ∧ (vp_in x3 6 ∧ ((¬ (T.2.2.1 21 (((6 : Int32) * x1) + x3).toNatClampNeg) = (T.2.2.1 22 x3.toNatClampNeg) → h_indexOf_50 c x1 x3 T) ∧ ((T.2.2.1 21 (((6 : Int32) * x1) + x3).toNatClampNeg) = (T.2.2.1 22 x3.toNatClampNeg) → h_indexOf_14 c x1 (1 : Int32) (x3 + 1) T)))))) : h_indexOf_14 c x1 x2 x3 T := by
  intro ok
  refine e_iload_n dX6_indexOf_14 rfl ?_
  refine e_aload_n dX6_indexOf_15 rfl ?_
  refine t_getI dX6_indexOf_16 fX6_12 q2508 (by decide) rfl ?_
  refine e_icmp_ge 58 dX6_indexOf_19 (by decide) (fun g1 => ?_) (fun g1 => ?_)
  · replace H := H.1 g1
    refine e_iload_n dX6_indexOf_58 rfl ?_
    refine e_if_eq 64 dX6_indexOf_59 (by decide) (fun g2 => ?_) (fun g2 => ?_)
    · replace H := H.1 g2
      refine e_iinc (x1 + 1) _ dX6_indexOf_64 rfl rfl (by decide) rfl rfl ?_
      refine e_goto 2 dX6_indexOf_67 (by decide) ?_
      exact E.less2 (H ok) (eS_s (eS_s (eS_n (eS_n eS_0))))
    · replace H := H.2 g2
      refine e_iload_n dX6_indexOf_62 rfl ?_
      exact e_ireturn .int dX6_indexOf_63 rfl rfl ⟨_, _, rfl, rfl, H⟩
  · replace H := H.2 g1
    refine e_iload_n dX6_indexOf_22 rfl ?_
    refine e_if_eq 50 dX6_indexOf_23 (by decide) (fun g3 => ?_) (fun g3 => ?_)
    · replace H := H.1 g3
      exact E.less2 (H ok) (eS_s (eS_s (eS_n (eS_s eS_0))))
    · replace H := H.2 g3
      refine e_aload_n dX6_indexOf_26 rfl ?_
      refine t_getA dX6_indexOf_27 fX6_21 q2517 (by decide) rfl ?_
      refine e_bipush (6) dX6_indexOf_30 (by decide) ?_
      refine e_iload_n dX6_indexOf_32 rfl ?_
      refine e_imul dX6_indexOf_33 ?_
      refine e_iload_n dX6_indexOf_34 rfl ?_
      refine e_iadd dX6_indexOf_35 ?_
      obtain ⟨g4, H⟩ := H
      refine t_iald dX6_indexOf_36 (by decide) rfl g4 ?_
      refine e_aload_n dX6_indexOf_37 rfl ?_
      refine t_getA dX6_indexOf_38 fX6_22 q2518 (by decide) rfl ?_
      refine e_iload_n dX6_indexOf_41 rfl ?_
      obtain ⟨g5, H⟩ := H
      refine t_iald dX6_indexOf_42 (by decide) rfl g5 ?_
      refine e_icmp_ne 50 dX6_indexOf_43 (by decide) (fun g6 => ?_) (fun g6 => ?_)
      · replace H := H.1 g6
        exact E.less2 (H ok) (eS_s (eS_s (eS_n (eS_s eS_0))))
      · replace H := H.2 g6
        refine e_iconst (1) dX6_indexOf_46 (by decide) ?_
        refine e_goto 51 dX6_indexOf_47 (by decide) ?_
        refine e_istore_n _ dX6_indexOf_51 (by decide) rfl rfl ?_
        refine e_iinc (x3 + 1) _ dX6_indexOf_52 rfl rfl (by decide) rfl rfl ?_
        refine e_goto 14 dX6_indexOf_55 (by decide) ?_
        exact H ok

set_option maxHeartbeats 2000000 in
theorem s_indexOf_50 (c : tC) (x1 : Int32) (x3 : Int32) (T : tS) (H : h_indexOf_14 c x1 (0 : Int32) (x3 + 1) T) : h_indexOf_50 c x1 x3 T := by
  intro ok
  refine e_iconst (0) dX6_indexOf_50 (by decide) ?_
  refine e_istore_n _ dX6_indexOf_51 (by decide) rfl rfl ?_
  refine e_iinc (x3 + 1) _ dX6_indexOf_52 rfl rfl (by decide) rfl rfl ?_
  refine e_goto 14 dX6_indexOf_55 (by decide) ?_
  exact H ok

theorem en_indexOf (T : tS) (Q : Option Value → tS → Prop) (H : ∀ c : tC, c.2.2.2.2.2.2 = Q → h_indexOf_0 c T) : tM mX6_indexOf 0 (fun b => []) T Q :=
  tM_mk (by decide) rfl (fun b => Nat.le_of_ble_eq_true rfl) (fun c hc ok => E.less2 (H c hc ok) (eS_s (eS_n (eS_n (eS_n eS_0)))))
/-! isBehind (II)Z level 0 -/
def h_isBehind_0 (c : tC) (x1 : Int32) (x2 : Int32) (T : tS) : Prop := tX mX6_isBehind 0 c 0 [some (.ref c.2.2.2.1), some (.int x1), some (.int x2), none] T
def h_isBehind_2 (c : tC) (x1 : Int32) (x2 : Int32) (x3 : Int32) (T : tS) : Prop := tX mX6_isBehind 0 c 2 [some (.ref c.2.2.2.1), some (.int x1), some (.int x2), some (.int x3)] T
set_option maxHeartbeats 2000000 in
theorem s_isBehind_0 (c : tC) (x1 : Int32) (x2 : Int32) (T : tS) (H : h_isBehind_2 c x1 x2 (0 : Int32) T) : h_isBehind_0 c x1 x2 T := by
  intro ok
  refine e_iconst (0) dX6_isBehind_0 (by decide) ?_
  refine e_istore_n _ dX6_isBehind_1 (by decide) rfl rfl ?_
  exact H ok

set_option maxHeartbeats 2000000 in
theorem s_isBehind_2 (c : tC) (x1 : Int32) (x2 : Int32) (x3 : Int32) (T : tS) (H : ((T.1 12) ≤ x3 → c.2.2.2.2.2.2 (some (.int (0 : Int32))) T) ∧ (¬ (T.1 12) ≤ x3 → vp_in (((6 : Int32) * x1) + x3) 144 ∧ (vp_in (((6 : Int32) * x2) + x3) 144 ∧ (((T.2.2.1 21 (((6 : Int32) * x1) + x3).toNatClampNeg) = (T.2.2.1 21 (((6 : Int32) * x2) + x3).toNatClampNeg) → h_isBehind_2 c x1 x2 (x3 + 1) T) ∧ (¬ (T.2.2.1 21 (((6 : Int32) * x1) + x3).toNatClampNeg) = (T.2.2.1 21 (((6 : Int32) * x2) + x3).toNatClampNeg) → vp_in (((6 : Int32) * x1) + x3) 144 ∧ (vp_in (((6 : Int32) * x2) + x3) 144 ∧ (((T.2.2.1 21 (((6 : Int32) * x1) + x3).toNatClampNeg) ≤ (T.2.2.1 21 (((6 : Int32) * x2) + x3).toNatClampNeg) → c.2.2.2.2.2.2 (some (.int (0 : Int32))) T) ∧ (¬ (T.2.2.1 21 (((6 : Int32) * x1) + x3).toNatClampNeg) ≤ (T.2.2.1 21 (((6 : Int32) * x2) + x3).toNatClampNeg) → c.2.2.2.2.2.2 (some (.int (1 : Int32))) T)))))))) : h_isBehind_2 c x1 x2 x3 T := by
  intro ok
  refine e_iload_n dX6_isBehind_2 rfl ?_
  refine e_aload_n dX6_isBehind_3 rfl ?_
  refine t_getI dX6_isBehind_4 fX6_12 q2508 (by decide) rfl ?_
  refine e_icmp_ge 72 dX6_isBehind_7 (by decide) (fun g1 => ?_) (fun g1 => ?_)
  · replace H := H.1 g1
    refine e_iconst (0) dX6_isBehind_72 (by decide) ?_
    exact e_ireturn .boolean dX6_isBehind_73 rfl (by decide) ⟨_, _, rfl, rfl, H⟩
  · replace H := H.2 g1
    refine e_aload_n dX6_isBehind_10 rfl ?_
    refine t_getA dX6_isBehind_11 fX6_21 q2517 (by decide) rfl ?_
    refine e_bipush (6) dX6_isBehind_14 (by decide) ?_
    refine e_iload_n dX6_isBehind_16 rfl ?_
    refine e_imul dX6_isBehind_17 ?_
    refine e_iload_n dX6_isBehind_18 rfl ?_
    refine e_iadd dX6_isBehind_19 ?_
    obtain ⟨g2, H⟩ := H
    refine t_iald dX6_isBehind_20 (by decide) rfl g2 ?_
    refine e_aload_n dX6_isBehind_21 rfl ?_
    refine t_getA dX6_isBehind_22 fX6_21 q2517 (by decide) rfl ?_
    refine e_bipush (6) dX6_isBehind_25 (by decide) ?_
    refine e_iload_n dX6_isBehind_27 rfl ?_
    refine e_imul dX6_isBehind_28 ?_
    refine e_iload_n dX6_isBehind_29 rfl ?_
    refine e_iadd dX6_isBehind_30 ?_
    obtain ⟨g3, H⟩ := H
    refine t_iald dX6_isBehind_31 (by decide) rfl g3 ?_
    refine e_icmp_eq 66 dX6_isBehind_32 (by decide) (fun g4 => ?_) (fun g4 => ?_)
    · replace H := H.1 g4
      refine e_iinc (x3 + 1) _ dX6_isBehind_66 rfl rfl (by decide) rfl rfl ?_
      refine e_goto 2 dX6_isBehind_69 (by decide) ?_
      exact H ok
    · replace H := H.2 g4
      refine e_aload_n dX6_isBehind_35 rfl ?_
      refine t_getA dX6_isBehind_36 fX6_21 q2517 (by decide) rfl ?_
      refine e_bipush (6) dX6_isBehind_39 (by decide) ?_
      refine e_iload_n dX6_isBehind_41 rfl ?_
      refine e_imul dX6_isBehind_42 ?_
      refine e_iload_n dX6_isBehind_43 rfl ?_
      refine e_iadd dX6_isBehind_44 ?_
      obtain ⟨g5, H⟩ := H
      refine t_iald dX6_isBehind_45 (by decide) rfl g5 ?_
      refine e_aload_n dX6_isBehind_46 rfl ?_
      refine t_getA dX6_isBehind_47 fX6_21 q2517 (by decide) rfl ?_
      refine e_bipush (6) dX6_isBehind_50 (by decide) ?_
      refine e_iload_n dX6_isBehind_52 rfl ?_
      refine e_imul dX6_isBehind_53 ?_
      refine e_iload_n dX6_isBehind_54 rfl ?_
      refine e_iadd dX6_isBehind_55 ?_
      obtain ⟨g6, H⟩ := H
      refine t_iald dX6_isBehind_56 (by decide) rfl g6 ?_
      refine e_icmp_le 64 dX6_isBehind_57 (by decide) (fun g7 => ?_) (fun g7 => ?_)
      · replace H := H.1 g7
        refine e_iconst (0) dX6_isBehind_64 (by decide) ?_
        exact e_ireturn .boolean dX6_isBehind_65 rfl (by decide) ⟨_, _, rfl, rfl, H⟩
      · replace H := H.2 g7
        refine e_iconst (1) dX6_isBehind_60 (by decide) ?_
        refine e_goto 65 dX6_isBehind_61 (by decide) ?_
        exact e_ireturn .boolean dX6_isBehind_65 rfl (by decide) ⟨_, _, rfl, rfl, H⟩

theorem en_isBehind (x1 : Int32) (x2 : Int32) (T : tS) (Q : Option Value → tS → Prop) (H : ∀ c : tC, c.2.2.2.2.2.2 = Q → h_isBehind_0 c x1 x2 T) : tM mX6_isBehind 0 (fun b => [.int x1, .int x2]) T Q :=
  tM_mk (by decide) rfl (fun b => Nat.le_of_ble_eq_true rfl) (fun c hc ok => E.less2 (H c hc ok) (eS_s (eS_s (eS_s (eS_n eS_0)))))
/-! isBlank (I)Z level 0 -/
def h_isBlank_0 (c : tC) (x1 : Int32) (T : tS) : Prop := tX mX6_isBlank 0 c 0 [some (.ref c.2.2.2.1), some (.int x1)] T
set_option maxHeartbeats 2000000 in
theorem s_isBlank_0 (c : tC) (x1 : Int32) (T : tS) (H : (x1 ≤ (T.1 64) → c.2.2.2.2.2.2 (some (.int (0 : Int32))) T) ∧ (¬ x1 ≤ (T.1 64) → vp_in (T.1 64) 700 ∧ (((T.2.2.1 0 (T.1 64).toNatClampNeg) = (32 : Int32) → c.2.2.2.2.2.2 (some (.int (1 : Int32))) T) ∧ (¬ (T.2.2.1 0 (T.1 64).toNatClampNeg) = (32 : Int32) → vp_in (T.1 64) 700 ∧ ((¬ (T.2.2.1 0 (T.1 64).toNatClampNeg) = (10 : Int32) → c.2.2.2.2.2.2 (some (.int (0 : Int32))) T) ∧ ((T.2.2.1 0 (T.1 64).toNatClampNeg) = (10 : Int32) → c.2.2.2.2.2.2 (some (.int (1 : Int32))) T)))))) : h_isBlank_0 c x1 T := by
  intro ok
  refine e_aload_n dX6_isBlank_0 rfl ?_
  refine t_getI dX6_isBlank_1 fX6_64 q2560 (by decide) rfl ?_
  refine e_iload_n dX6_isBlank_4 rfl ?_
  refine e_icmp_ge 40 dX6_isBlank_5 (by decide) (fun g1 => ?_) (fun g1 => ?_)
  · replace H := H.1 g1
    refine e_iconst (0) dX6_isBlank_40 (by decide) ?_
    exact e_ireturn .boolean dX6_isBlank_41 rfl (by decide) ⟨_, _, rfl, rfl, H⟩
  · replace H := H.2 g1
    refine e_aload_n dX6_isBlank_8 rfl ?_
    refine t_getA dX6_isBlank_9 fX6_0 q2496 (by decide) rfl ?_
    refine e_aload_n dX6_isBlank_12 rfl ?_
    refine t_getI dX6_isBlank_13 fX6_64 q2560 (by decide) rfl ?_
    obtain ⟨g2, H⟩ := H
    refine t_iald dX6_isBlank_16 (by decide) rfl g2 ?_
    refine e_bipush (32) dX6_isBlank_17 (by decide) ?_
    refine e_icmp_eq 36 dX6_isBlank_19 (by decide) (fun g3 => ?_) (fun g3 => ?_)
    · replace H := H.1 g3
      refine e_iconst (1) dX6_isBlank_36 (by decide) ?_
      refine e_goto 41 dX6_isBlank_37 (by decide) ?_
      exact e_ireturn .boolean dX6_isBlank_41 rfl (by decide) ⟨_, _, rfl, rfl, H⟩
    · replace H := H.2 g3
      refine e_aload_n dX6_isBlank_22 rfl ?_
      refine t_getA dX6_isBlank_23 fX6_0 q2496 (by decide) rfl ?_
      refine e_aload_n dX6_isBlank_26 rfl ?_
      refine t_getI dX6_isBlank_27 fX6_64 q2560 (by decide) rfl ?_
      obtain ⟨g4, H⟩ := H
      refine t_iald dX6_isBlank_30 (by decide) rfl g4 ?_
      refine e_bipush (10) dX6_isBlank_31 (by decide) ?_
      refine e_icmp_ne 40 dX6_isBlank_33 (by decide) (fun g5 => ?_) (fun g5 => ?_)
      · replace H := H.1 g5
        refine e_iconst (0) dX6_isBlank_40 (by decide) ?_
        exact e_ireturn .boolean dX6_isBlank_41 rfl (by decide) ⟨_, _, rfl, rfl, H⟩
      · replace H := H.2 g5
        refine e_iconst (1) dX6_isBlank_36 (by decide) ?_
        refine e_goto 41 dX6_isBlank_37 (by decide) ?_
        exact e_ireturn .boolean dX6_isBlank_41 rfl (by decide) ⟨_, _, rfl, rfl, H⟩

theorem en_isBlank (x1 : Int32) (T : tS) (Q : Option Value → tS → Prop) (H : ∀ c : tC, c.2.2.2.2.2.2 = Q → h_isBlank_0 c x1 T) : tM mX6_isBlank 0 (fun b => [.int x1]) T Q :=
  tM_mk (by decide) rfl (fun b => Nat.le_of_ble_eq_true rfl) (fun c hc ok => E.less2 (H c hc ok) (eS_s (eS_s eS_0)))
/-! isOpen ()Z level 0 -/
def h_isOpen_0 (c : tC) (T : tS) : Prop := tX mX6_isOpen 0 c 0 [some (.ref c.2.2.2.1), none] T
def h_isOpen_2 (c : tC) (x1 : Int32) (T : tS) : Prop := tX mX6_isOpen 0 c 2 [some (.ref c.2.2.2.1), some (.int x1)] T
set_option maxHeartbeats 2000000 in
theorem s_isOpen_0 (c : tC) (T : tS) (H : h_isOpen_2 c (0 : Int32) T) : h_isOpen_0 c T := by
  intro ok
  refine e_iconst (0) dX6_isOpen_0 (by decide) ?_
  refine e_istore_n _ dX6_isOpen_1 (by decide) rfl rfl ?_
  exact H ok

set_option maxHeartbeats 2000000 in
theorem s_isOpen_2 (c : tC) (x1 : Int32) (T : tS) (H : ((T.1 41) ≤ x1 → c.2.2.2.2.2.2 (some (.int (0 : Int32))) T) ∧ (¬ (T.1 41) ≤ x1 → vp_in x1 80 ∧ ((¬ (T.2.2.1 40 x1.toNatClampNeg) = 0 → h_isOpen_2 c (x1 + 1) T) ∧ ((T.2.2.1 40 x1.toNatClampNeg) = 0 → c.2.2.2.2.2.2 (some (.int (1 : Int32))) T)))) : h_isOpen_2 c x1 T := by
  intro ok
  refine e_iload_n dX6_isOpen_2 rfl ?_
  refine e_aload_n dX6_isOpen_3 rfl ?_
  refine t_getI dX6_isOpen_4 fX6_41 q2537 (by decide) rfl ?_
  refine e_icmp_ge 27 dX6_isOpen_7 (by decide) (fun g1 => ?_) (fun g1 => ?_)
  · replace H := H.1 g1
    refine e_iconst (0) dX6_isOpen_27 (by decide) ?_
    exact e_ireturn .boolean dX6_isOpen_28 rfl (by decide) ⟨_, _, rfl, rfl, H⟩
  · replace H := H.2 g1
    refine e_aload_n dX6_isOpen_10 rfl ?_
    refine t_getA dX6_isOpen_11 fX6_40 q2536 (by decide) rfl ?_
    refine e_iload_n dX6_isOpen_14 rfl ?_
    obtain ⟨g2, H⟩ := H
    refine t_iald dX6_isOpen_15 (by decide) rfl g2 ?_
    refine e_if_ne 21 dX6_isOpen_16 (by decide) (fun g3 => ?_) (fun g3 => ?_)
    · replace H := H.1 g3
      refine e_iinc (x1 + 1) _ dX6_isOpen_21 rfl rfl (by decide) rfl rfl ?_
      refine e_goto 2 dX6_isOpen_24 (by decide) ?_
      exact H ok
    · replace H := H.2 g3
      refine e_iconst (1) dX6_isOpen_19 (by decide) ?_
      exact e_ireturn .boolean dX6_isOpen_20 rfl (by decide) ⟨_, _, rfl, rfl, H⟩

theorem en_isOpen (T : tS) (Q : Option Value → tS → Prop) (H : ∀ c : tC, c.2.2.2.2.2.2 = Q → h_isOpen_0 c T) : tM mX6_isOpen 0 (fun b => []) T Q :=
  tM_mk (by decide) rfl (fun b => Nat.le_of_ble_eq_true rfl) (fun c hc ok => E.less2 (H c hc ok) (eS_s (eS_n eS_0)))
/-! markAt ([JII)J level 0 -/
def h_markAt_0 (c : tC) (x1 : Nat) (x2 : Int32) (x3 : Int32) (T : tS) : Prop := tX mX6_markAt 0 c 0 [some (.ref c.2.2.2.1), some (.ref (tAd c.2.2.2.1 x1)), some (.int x2), some (.int x3), none, none, none] T
def h_markAt_6 (c : tC) (x1 : Nat) (x2 : Int32) (x3 : Int32) (x4 : Int64) (x6 : Int32) (T : tS) : Prop := tX mX6_markAt 0 c 6 [some (.ref c.2.2.2.1), some (.ref (tAd c.2.2.2.1 x1)), some (.int x2), some (.int x3), some (.long x4), none, some (.int x6)] T
set_option maxHeartbeats 2000000 in
theorem s_markAt_0 (c : tC) (x1 : Nat) (x2 : Int32) (x3 : Int32) (T : tS) (ha1 : x1 < 66) (hk1 : tKd x1 = 3) (H : h_markAt_6 c x1 x2 x3 (0 : Int64) (0 : Int32) T) : h_markAt_0 c x1 x2 x3 T := by
  intro ok
  refine e_lconst 0 dX6_markAt_0 (by decide) ?_
  refine e_lstore _ dX6_markAt_1 (by decide) rfl rfl ?_
  refine e_iconst (0) dX6_markAt_3 (by decide) ?_
  refine e_istore _ dX6_markAt_4 (by decide) trivial rfl ?_
  exact H ok

set_option maxHeartbeats 2000000 in
theorem s_markAt_6 (c : tC) (x1 : Nat) (x2 : Int32) (x3 : Int32) (x4 : Int64) (x6 : Int32) (T : tS) (ha1 : x1 < 66) (hk1 : tKd x1 = 3) (H : ((T.1 26) ≤ x6 → c.2.2.2.2.2.2 (some (.long x4)) T) ∧ (¬ (T.1 26) ≤ x6 → vp_in (x2 + x6) (tLn x1) ∧ (vp_in (((64 : Int32) * x6) + x3) 4096 ∧ (h_markAt_6 c x1 x2 x3 (x4 + ((T.2.2.2 x1 (x2 + x6).toNatClampNeg) * ((T.2.2.1 31 (((64 : Int32) * x6) + x3).toNatClampNeg).toInt64))) (x6 + 1) T)))) : h_markAt_6 c x1 x2 x3 x4 x6 T := by
  intro ok
  refine e_iload dX6_markAt_6 rfl ?_
  refine e_aload_n dX6_markAt_8 rfl ?_
  refine t_getI dX6_markAt_9 fX6_26 q2522 (by decide) rfl ?_
  refine e_icmp_ge 46 dX6_markAt_12 (by decide) (fun g1 => ?_) (fun g1 => ?_)
  · replace H := H.1 g1
    refine e_lload dX6_markAt_46 rfl ?_
    exact e_lreturn dX6_markAt_48 rfl ⟨_, _, rfl, rfl, H⟩
  · replace H := H.2 g1
    refine e_lload dX6_markAt_15 rfl ?_
    refine e_aload_n dX6_markAt_17 rfl ?_
    refine e_iload_n dX6_markAt_18 rfl ?_
    refine e_iload dX6_markAt_19 rfl ?_
    refine e_iadd dX6_markAt_21 ?_
    obtain ⟨g2, H⟩ := H
    refine t_lald dX6_markAt_22 ha1 hk1 g2 ?_
    refine e_aload_n dX6_markAt_23 rfl ?_
    refine t_getA dX6_markAt_24 fX6_31 q2527 (by decide) rfl ?_
    refine e_bipush (64) dX6_markAt_27 (by decide) ?_
    refine e_iload dX6_markAt_29 rfl ?_
    refine e_imul dX6_markAt_31 ?_
    refine e_iload_n dX6_markAt_32 rfl ?_
    refine e_iadd dX6_markAt_33 ?_
    obtain ⟨g3, H⟩ := H
    refine t_iald dX6_markAt_34 (by decide) rfl g3 ?_
    refine e_i2l dX6_markAt_35 ?_
    refine e_lmul dX6_markAt_36 ?_
    refine e_ladd dX6_markAt_37 ?_
    refine e_lstore _ dX6_markAt_38 (by decide) rfl rfl ?_
    refine e_iinc (x6 + 1) _ dX6_markAt_40 rfl rfl (by decide) trivial rfl ?_
    refine e_goto 6 dX6_markAt_43 (by decide) ?_
    exact H ok

theorem en_markAt (x1 : Nat) (x2 : Int32) (x3 : Int32) (T : tS) (Q : Option Value → tS → Prop) (H : ∀ c : tC, c.2.2.2.2.2.2 = Q → h_markAt_0 c x1 x2 x3 T) : tM mX6_markAt 0 (fun b => [.ref (tAd b x1), .int x2, .int x3]) T Q :=
  tM_mk (by decide) rfl (fun b => Nat.le_of_ble_eq_true rfl) (fun c hc ok => E.less2 (H c hc ok) (eS_s (eS_s (eS_s (eS_s (eS_n (eS_n (eS_n eS_0))))))))
/-! multiplies ()V level 0 -/
def h_multiplies_0 (c : tC) (T : tS) : Prop := tX mX6_multiplies 0 c 0 [some (.ref c.2.2.2.1), none, none, none, none, none] T
def h_multiplies_2 (c : tC) (x1 : Int32) (T : tS) : Prop := tX mX6_multiplies 0 c 2 [some (.ref c.2.2.2.1), some (.int x1), none, none, none, none] T
def h_multiplies_89 (c : tC) (x1 : Int32) (T : tS) : Prop := tX mX6_multiplies 0 c 89 [some (.ref c.2.2.2.1), some (.int x1), none, none, none, none] T
set_option maxHeartbeats 2000000 in
theorem s_multiplies_0 (c : tC) (T : tS) (H : h_multiplies_2 c (0 : Int32) T) : h_multiplies_0 c T := by
  intro ok
  refine e_iconst (0) dX6_multiplies_0 (by decide) ?_
  refine e_istore_n _ dX6_multiplies_1 (by decide) rfl rfl ?_
  exact H ok

set_option maxHeartbeats 2000000 in
theorem s_multiplies_2 (c : tC) (x1 : Int32) (T : tS) (H : ((T.1 26) ≤ x1 → c.2.2.2.2.2.2 none T) ∧ (¬ (T.1 26) ≤ x1 → vp_in x1 64 ∧ ((0 ≤ (lg_cmp (T.2.2.2 34 x1.toNatClampNeg) (0 : Int64)) → vp_in x1 64 ∧ (vp_in x1 64 ∧ ((0 ≤ (lg_cmp (T.2.2.2 35 x1.toNatClampNeg) (0 : Int64)) → vp_in x1 64 ∧ (((lg_cmp (T.2.2.2 34 x1.toNatClampNeg) (0 : Int64)) ≤ 0 → h_multiplies_89 c x1 T) ∧ (¬ (lg_cmp (T.2.2.2 34 x1.toNatClampNeg) (0 : Int64)) ≤ 0 → ¬ (T.2.2.2 34 x1.toNatClampNeg) = 0 ∧ (((lg_cmp (T.2.2.2 35 x1.toNatClampNeg) ((1000000000000 : Int64) / (T.2.2.2 34 x1.toNatClampNeg))) ≤ 0 → h_multiplies_89 c x1 T) ∧ (¬ (lg_cmp (T.2.2.2 35 x1.toNatClampNeg) ((1000000000000 : Int64) / (T.2.2.2 34 x1.toNatClampNeg))) ≤ 0 → h_multiplies_89 c x1 (tI T 39 (1 : Int32))))))) ∧ (¬ 0 ≤ (lg_cmp (T.2.2.2 35 x1.toNatClampNeg) (0 : Int64)) → vp_in x1 64 ∧ (((lg_cmp (T.2.2.2 34 x1.toNatClampNeg) (0 : Int64)) ≤ 0 → h_multiplies_89 c x1 T) ∧ (¬ (lg_cmp (T.2.2.2 34 x1.toNatClampNeg) (0 : Int64)) ≤ 0 → ¬ (T.2.2.2 34 x1.toNatClampNeg) = 0 ∧ (((lg_cmp (-(T.2.2.2 35 x1.toNatClampNeg)) ((1000000000000 : Int64) / (T.2.2.2 34 x1.toNatClampNeg))) ≤ 0 → h_multiplies_89 c x1 T) ∧ (¬ (lg_cmp (-(T.2.2.2 35 x1.toNatClampNeg)) ((1000000000000 : Int64) / (T.2.2.2 34 x1.toNatClampNeg))) ≤ 0 → h_multiplies_89 c x1 (tI T 39 (1 : Int32)))))))))) ∧ (¬ 0 ≤ (lg_cmp (T.2.2.2 34 x1.toNatClampNeg) (0 : Int64)) → vp_in x1 64 ∧ (vp_in x1 64 ∧ ((0 ≤ (lg_cmp (T.2.2.2 35 x1.toNatClampNeg) (0 : Int64)) → vp_in x1 64 ∧ (((lg_cmp (-(T.2.2.2 34 x1.toNatClampNeg)) (0 : Int64)) ≤ 0 → h_multiplies_89 c x1 T) ∧ (¬ (lg_cmp (-(T.2.2.2 34 x1.toNatClampNeg)) (0 : Int64)) ≤ 0 → ¬ (-(T.2.2.2 34 x1.toNatClampNeg)) = 0 ∧ (((lg_cmp (T.2.2.2 35 x1.toNatClampNeg) ((1000000000000 : Int64) / (-(T.2.2.2 34 x1.toNatClampNeg)))) ≤ 0 → h_multiplies_89 c x1 T) ∧ (¬ (lg_cmp (T.2.2.2 35 x1.toNatClampNeg) ((1000000000000 : Int64) / (-(T.2.2.2 34 x1.toNatClampNeg)))) ≤ 0 → h_multiplies_89 c x1 (tI T 39 (1 : Int32))))))) ∧ (¬ 0 ≤ (lg_cmp (T.2.2.2 35 x1.toNatClampNeg) (0 : Int64)) → vp_in x1 64 ∧ (((lg_cmp (-(T.2.2.2 34 x1.toNatClampNeg)) (0 : Int64)) ≤ 0 → h_multiplies_89 c x1 T) ∧ (¬ (lg_cmp (-(T.2.2.2 34 x1.toNatClampNeg)) (0 : Int64)) ≤ 0 → ¬ (-(T.2.2.2 34 x1.toNatClampNeg)) = 0 ∧ (((lg_cmp (-(T.2.2.2 35 x1.toNatClampNeg)) ((1000000000000 : Int64) / (-(T.2.2.2 34 x1.toNatClampNeg)))) ≤ 0 → h_multiplies_89 c x1 T) ∧ (¬ (lg_cmp (-(T.2.2.2 35 x1.toNatClampNeg)) ((1000000000000 : Int64) / (-(T.2.2.2 34 x1.toNatClampNeg)))) ≤ 0 → h_multiplies_89 c x1 (tI T 39 (1 : Int32))))))))))))) : h_multiplies_2 c x1 T := by
  intro ok
  refine e_iload_n dX6_multiplies_2 rfl ?_
  refine e_aload_n dX6_multiplies_3 rfl ?_
  refine t_getI dX6_multiplies_4 fX6_26 q2522 (by decide) rfl ?_
  refine e_icmp_ge 125 dX6_multiplies_7 (by decide) (fun g1 => ?_) (fun g1 => ?_)
  · replace H := H.1 g1
    exact e_return dX6_multiplies_125 rfl ⟨_, _, rfl, rfl, H⟩
  · replace H := H.2 g1
    refine e_aload_n dX6_multiplies_10 rfl ?_
    refine t_getA dX6_multiplies_11 fX6_34 q2530 (by decide) rfl ?_
    refine e_iload_n dX6_multiplies_14 rfl ?_
    obtain ⟨g2, H⟩ := H
    refine t_lald dX6_multiplies_15 (by decide) rfl g2 ?_
    refine e_lconst 0 dX6_multiplies_16 (by decide) ?_
    refine e_lcmp dX6_multiplies_17 ?_
    refine e_if_ge 31 dX6_multiplies_18 (by decide) (fun g3 => ?_) (fun g3 => ?_)
    · replace H := H.1 g3
      refine e_aload_n dX6_multiplies_31 rfl ?_
      refine t_getA dX6_multiplies_32 fX6_34 q2530 (by decide) rfl ?_
      refine e_iload_n dX6_multiplies_35 rfl ?_
      obtain ⟨g4, H⟩ := H
      refine t_lald dX6_multiplies_36 (by decide) rfl g4 ?_
      refine e_lstore_n _ dX6_multiplies_37 (by decide) rfl rfl ?_
      refine e_aload_n dX6_multiplies_38 rfl ?_
      refine t_getA dX6_multiplies_39 fX6_35 q2531 (by decide) rfl ?_
      refine e_iload_n dX6_multiplies_42 rfl ?_
      obtain ⟨g5, H⟩ := H
      refine t_lald dX6_multiplies_43 (by decide) rfl g5 ?_
      refine e_lconst 0 dX6_multiplies_44 (by decide) ?_
      refine e_lcmp dX6_multiplies_45 ?_
      refine e_if_ge 59 dX6_multiplies_46 (by decide) (fun g6 => ?_) (fun g6 => ?_)
      · replace H := H.1 g6
        refine e_aload_n dX6_multiplies_59 rfl ?_
        refine t_getA dX6_multiplies_60 fX6_35 q2531 (by decide) rfl ?_
        refine e_iload_n dX6_multiplies_63 rfl ?_
        obtain ⟨g7, H⟩ := H
        refine t_lald dX6_multiplies_64 (by decide) rfl g7 ?_
        refine e_lstore _ dX6_multiplies_65 (by decide) trivial rfl ?_
        refine e_lload_n dX6_multiplies_67 rfl ?_
        refine e_lconst 0 dX6_multiplies_68 (by decide) ?_
        refine e_lcmp dX6_multiplies_69 ?_
        refine e_if_le 89 dX6_multiplies_70 (by decide) (fun g8 => ?_) (fun g8 => ?_)
        · replace H := H.1 g8
          exact E.less2 (H ok) (eS_s (eS_s (eS_n (eS_n (eS_n (eS_n eS_0))))))
        · replace H := H.2 g8
          refine e_lload dX6_multiplies_73 rfl ?_
          refine e_ldc2 dX6_multiplies_75 q2812 ?_
          refine e_lload_n dX6_multiplies_78 rfl ?_
          obtain ⟨g9, H⟩ := H
          refine e_ldiv dX6_multiplies_79 g9 ?_
          refine e_lcmp dX6_multiplies_80 ?_
          refine e_if_le 89 dX6_multiplies_81 (by decide) (fun g10 => ?_) (fun g10 => ?_)
          · replace H := H.1 g10
            exact E.less2 (H ok) (eS_s (eS_s (eS_n (eS_n (eS_n (eS_n eS_0))))))
          · replace H := H.2 g10
            refine e_aload_n dX6_multiplies_84 rfl ?_
            refine e_iconst (1) dX6_multiplies_85 (by decide) ?_
            refine t_putI dX6_multiplies_86 fX6_39 q2535 eFit_z1 (by decide) rfl ok.1 ?_
            exact E.less2 (H ok) (eS_s (eS_s (eS_n (eS_n (eS_n (eS_n eS_0))))))
      · replace H := H.2 g6
        refine e_aload_n dX6_multiplies_49 rfl ?_
        refine t_getA dX6_multiplies_50 fX6_35 q2531 (by decide) rfl ?_
        refine e_iload_n dX6_multiplies_53 rfl ?_
        obtain ⟨g11, H⟩ := H
        refine t_lald dX6_multiplies_54 (by decide) rfl g11 ?_
        refine e_lneg dX6_multiplies_55 ?_
        refine e_goto 65 dX6_multiplies_56 (by decide) ?_
        refine e_lstore _ dX6_multiplies_65 (by decide) trivial rfl ?_
        refine e_lload_n dX6_multiplies_67 rfl ?_
        refine e_lconst 0 dX6_multiplies_68 (by decide) ?_
        refine e_lcmp dX6_multiplies_69 ?_
        refine e_if_le 89 dX6_multiplies_70 (by decide) (fun g12 => ?_) (fun g12 => ?_)
        · replace H := H.1 g12
          exact E.less2 (H ok) (eS_s (eS_s (eS_n (eS_n (eS_n (eS_n eS_0))))))
        · replace H := H.2 g12
          refine e_lload dX6_multiplies_73 rfl ?_
          refine e_ldc2 dX6_multiplies_75 q2812 ?_
          refine e_lload_n dX6_multiplies_78 rfl ?_
          obtain ⟨g13, H⟩ := H
          refine e_ldiv dX6_multiplies_79 g13 ?_
          refine e_lcmp dX6_multiplies_80 ?_
          refine e_if_le 89 dX6_multiplies_81 (by decide) (fun g14 => ?_) (fun g14 => ?_)
          · replace H := H.1 g14
            exact E.less2 (H ok) (eS_s (eS_s (eS_n (eS_n (eS_n (eS_n eS_0))))))
          · replace H := H.2 g14
            refine e_aload_n dX6_multiplies_84 rfl ?_
            refine e_iconst (1) dX6_multiplies_85 (by decide) ?_
            refine t_putI dX6_multiplies_86 fX6_39 q2535 eFit_z1 (by decide) rfl ok.1 ?_
            exact E.less2 (H ok) (eS_s (eS_s (eS_n (eS_n (eS_n (eS_n eS_0))))))
    · replace H := H.2 g3
      refine e_aload_n dX6_multiplies_21 rfl ?_
      refine t_getA dX6_multiplies_22 fX6_34 q2530 (by decide) rfl ?_
      refine e_iload_n dX6_multiplies_25 rfl ?_
      obtain ⟨g15, H⟩ := H
      refine t_lald dX6_multiplies_26 (by decide) rfl g15 ?_
      refine e_lneg dX6_multiplies_27 ?_
      refine e_goto 37 dX6_multiplies_28 (by decide) ?_
      refine e_lstore_n _ dX6_multiplies_37 (by decide) rfl rfl ?_
      refine e_aload_n dX6_multiplies_38 rfl ?_
      refine t_getA dX6_multiplies_39 fX6_35 q2531 (by decide) rfl ?_
      refine e_iload_n dX6_multiplies_42 rfl ?_
      obtain ⟨g16, H⟩ := H
      refine t_lald dX6_multiplies_43 (by decide) rfl g16 ?_
      refine e_lconst 0 dX6_multiplies_44 (by decide) ?_
      refine e_lcmp dX6_multiplies_45 ?_
      refine e_if_ge 59 dX6_multiplies_46 (by decide) (fun g17 => ?_) (fun g17 => ?_)
      · replace H := H.1 g17
        refine e_aload_n dX6_multiplies_59 rfl ?_
        refine t_getA dX6_multiplies_60 fX6_35 q2531 (by decide) rfl ?_
        refine e_iload_n dX6_multiplies_63 rfl ?_
        obtain ⟨g18, H⟩ := H
        refine t_lald dX6_multiplies_64 (by decide) rfl g18 ?_
        refine e_lstore _ dX6_multiplies_65 (by decide) trivial rfl ?_
        refine e_lload_n dX6_multiplies_67 rfl ?_
        refine e_lconst 0 dX6_multiplies_68 (by decide) ?_
        refine e_lcmp dX6_multiplies_69 ?_
        refine e_if_le 89 dX6_multiplies_70 (by decide) (fun g19 => ?_) (fun g19 => ?_)
        · replace H := H.1 g19
          exact E.less2 (H ok) (eS_s (eS_s (eS_n (eS_n (eS_n (eS_n eS_0))))))
        · replace H := H.2 g19
          refine e_lload dX6_multiplies_73 rfl ?_
          refine e_ldc2 dX6_multiplies_75 q2812 ?_
          refine e_lload_n dX6_multiplies_78 rfl ?_
          obtain ⟨g20, H⟩ := H
          refine e_ldiv dX6_multiplies_79 g20 ?_
          refine e_lcmp dX6_multiplies_80 ?_
          refine e_if_le 89 dX6_multiplies_81 (by decide) (fun g21 => ?_) (fun g21 => ?_)
          · replace H := H.1 g21
            exact E.less2 (H ok) (eS_s (eS_s (eS_n (eS_n (eS_n (eS_n eS_0))))))
          · replace H := H.2 g21
            refine e_aload_n dX6_multiplies_84 rfl ?_
            refine e_iconst (1) dX6_multiplies_85 (by decide) ?_
            refine t_putI dX6_multiplies_86 fX6_39 q2535 eFit_z1 (by decide) rfl ok.1 ?_
            exact E.less2 (H ok) (eS_s (eS_s (eS_n (eS_n (eS_n (eS_n eS_0))))))
      · replace H := H.2 g17
        refine e_aload_n dX6_multiplies_49 rfl ?_
        refine t_getA dX6_multiplies_50 fX6_35 q2531 (by decide) rfl ?_
        refine e_iload_n dX6_multiplies_53 rfl ?_
        obtain ⟨g22, H⟩ := H
        refine t_lald dX6_multiplies_54 (by decide) rfl g22 ?_
        refine e_lneg dX6_multiplies_55 ?_
        refine e_goto 65 dX6_multiplies_56 (by decide) ?_
        refine e_lstore _ dX6_multiplies_65 (by decide) trivial rfl ?_
        refine e_lload_n dX6_multiplies_67 rfl ?_
        refine e_lconst 0 dX6_multiplies_68 (by decide) ?_
        refine e_lcmp dX6_multiplies_69 ?_
        refine e_if_le 89 dX6_multiplies_70 (by decide) (fun g23 => ?_) (fun g23 => ?_)
        · replace H := H.1 g23
          exact E.less2 (H ok) (eS_s (eS_s (eS_n (eS_n (eS_n (eS_n eS_0))))))
        · replace H := H.2 g23
          refine e_lload dX6_multiplies_73 rfl ?_
          refine e_ldc2 dX6_multiplies_75 q2812 ?_
          refine e_lload_n dX6_multiplies_78 rfl ?_
          obtain ⟨g24, H⟩ := H
          refine e_ldiv dX6_multiplies_79 g24 ?_
          refine e_lcmp dX6_multiplies_80 ?_
          refine e_if_le 89 dX6_multiplies_81 (by decide) (fun g25 => ?_) (fun g25 => ?_)
          · replace H := H.1 g25
            exact E.less2 (H ok) (eS_s (eS_s (eS_n (eS_n (eS_n (eS_n eS_0))))))
          · replace H := H.2 g25
            refine e_aload_n dX6_multiplies_84 rfl ?_
            refine e_iconst (1) dX6_multiplies_85 (by decide) ?_
            refine t_putI dX6_multiplies_86 fX6_39 q2535 eFit_z1 (by decide) rfl ok.1 ?_
            exact E.less2 (H ok) (eS_s (eS_s (eS_n (eS_n (eS_n (eS_n eS_0))))))

set_option maxHeartbeats 2000000 in
theorem s_multiplies_89 (c : tC) (x1 : Int32) (T : tS) (H : ((T.1 39) = 0 → vp_in x1 64 ∧ (vp_in x1 64 ∧ (vp_in x1 64 ∧ (h_multiplies_2 c (x1 + 1) (tB T 34 (va_up (T.2.2.2 34) x1.toNatClampNeg ((T.2.2.2 34 x1.toNatClampNeg) * (T.2.2.2 35 x1.toNatClampNeg)))))))) ∧ (¬ (T.1 39) = 0 → vp_in x1 64 ∧ (h_multiplies_2 c (x1 + 1) (tB T 34 (va_up (T.2.2.2 34) x1.toNatClampNeg (0 : Int64)))))) : h_multiplies_89 c x1 T := by
  intro ok
  refine e_aload_n dX6_multiplies_89 rfl ?_
  refine t_getA dX6_multiplies_90 fX6_34 q2530 (by decide) rfl ?_
  refine e_iload_n dX6_multiplies_93 rfl ?_
  refine e_aload_n dX6_multiplies_94 rfl ?_
  refine t_getI dX6_multiplies_95 fX6_39 q2535 (by decide) rfl ?_
  refine e_if_eq 105 dX6_multiplies_98 (by decide) (fun g1 => ?_) (fun g1 => ?_)
  · replace H := H.1 g1
    refine e_aload_n dX6_multiplies_105 rfl ?_
    refine t_getA dX6_multiplies_106 fX6_34 q2530 (by decide) rfl ?_
    refine e_iload_n dX6_multiplies_109 rfl ?_
    obtain ⟨g2, H⟩ := H
    refine t_lald dX6_multiplies_110 (by decide) rfl g2 ?_
    refine e_aload_n dX6_multiplies_111 rfl ?_
    refine t_getA dX6_multiplies_112 fX6_35 q2531 (by decide) rfl ?_
    refine e_iload_n dX6_multiplies_115 rfl ?_
    obtain ⟨g3, H⟩ := H
    refine t_lald dX6_multiplies_116 (by decide) rfl g3 ?_
    refine e_lmul dX6_multiplies_117 ?_
    obtain ⟨g4, H⟩ := H
    refine t_last dX6_multiplies_118 (by decide) rfl ok.1 g4 ?_
    refine e_iinc (x1 + 1) _ dX6_multiplies_119 rfl rfl (by decide) rfl rfl ?_
    refine e_goto 2 dX6_multiplies_122 (by decide) ?_
    exact H ok
  · replace H := H.2 g1
    refine e_lconst 0 dX6_multiplies_101 (by decide) ?_
    refine e_goto 118 dX6_multiplies_102 (by decide) ?_
    obtain ⟨g5, H⟩ := H
    refine t_last dX6_multiplies_118 (by decide) rfl ok.1 g5 ?_
    refine e_iinc (x1 + 1) _ dX6_multiplies_119 rfl rfl (by decide) rfl rfl ?_
    refine e_goto 2 dX6_multiplies_122 (by decide) ?_
    exact H ok

theorem en_multiplies (T : tS) (Q : Option Value → tS → Prop) (H : ∀ c : tC, c.2.2.2.2.2.2 = Q → h_multiplies_0 c T) : tM mX6_multiplies 0 (fun b => []) T Q :=
  tM_mk (by decide) rfl (fun b => Nat.le_of_ble_eq_true rfl) (fun c hc ok => E.less2 (H c hc ok) (eS_s (eS_n (eS_n (eS_n (eS_n (eS_n eS_0)))))))
/-! nameAt ()I level 0 -/
def h_nameAt_0 (c : tC) (T : tS) : Prop := tX mX6_nameAt 0 c 0 [some (.ref c.2.2.2.1), none] T
def h_nameAt_2 (c : tC) (x1 : Int32) (T : tS) : Prop := tX mX6_nameAt 0 c 2 [some (.ref c.2.2.2.1), some (.int x1)] T
set_option maxHeartbeats 2000000 in
theorem s_nameAt_0 (c : tC) (T : tS) (H : h_nameAt_2 c (0 : Int32) T) : h_nameAt_0 c T := by
  intro ok
  refine e_iconst (0) dX6_nameAt_0 (by decide) ?_
  refine e_istore_n _ dX6_nameAt_1 (by decide) rfl rfl ?_
  exact H ok

set_option maxHeartbeats 2000000 in
theorem s_nameAt_2 (c : tC) (x1 : Int32) (T : tS) (H : ((T.1 14) ≤ x1 → c.2.2.2.2.2.2 (some (.int (-1 : Int32))) T) ∧ (¬ (T.1 14) ≤ x1 → vp_in x1 8 ∧ ((¬ (lg_cmp (T.2.2.2 44 x1.toNatClampNeg) (T.2.1 11)) = 0 → h_nameAt_2 c (x1 + 1) T) ∧ ((lg_cmp (T.2.2.2 44 x1.toNatClampNeg) (T.2.1 11)) = 0 → c.2.2.2.2.2.2 (some (.int x1)) T)))) : h_nameAt_2 c x1 T := by
  intro ok
  refine e_iload_n dX6_nameAt_2 rfl ?_
  refine e_aload_n dX6_nameAt_3 rfl ?_
  refine t_getI dX6_nameAt_4 fX6_14 q2510 (by decide) rfl ?_
  refine e_icmp_ge 32 dX6_nameAt_7 (by decide) (fun g1 => ?_) (fun g1 => ?_)
  · replace H := H.1 g1
    refine e_iconst (-1) dX6_nameAt_32 (by decide) ?_
    exact e_ireturn .int dX6_nameAt_33 rfl rfl ⟨_, _, rfl, rfl, H⟩
  · replace H := H.2 g1
    refine e_aload_n dX6_nameAt_10 rfl ?_
    refine t_getA dX6_nameAt_11 fX6_44 q2540 (by decide) rfl ?_
    refine e_iload_n dX6_nameAt_14 rfl ?_
    obtain ⟨g2, H⟩ := H
    refine t_lald dX6_nameAt_15 (by decide) rfl g2 ?_
    refine e_aload_n dX6_nameAt_16 rfl ?_
    refine t_getL dX6_nameAt_17 fX6_11 q2507 (by decide) rfl ?_
    refine e_lcmp dX6_nameAt_20 ?_
    refine e_if_ne 26 dX6_nameAt_21 (by decide) (fun g3 => ?_) (fun g3 => ?_)
    · replace H := H.1 g3
      refine e_iinc (x1 + 1) _ dX6_nameAt_26 rfl rfl (by decide) rfl rfl ?_
      refine e_goto 2 dX6_nameAt_29 (by decide) ?_
      exact H ok
    · replace H := H.2 g3
      refine e_iload_n dX6_nameAt_24 rfl ?_
      exact e_ireturn .int dX6_nameAt_25 rfl rfl ⟨_, _, rfl, rfl, H⟩

theorem en_nameAt (T : tS) (Q : Option Value → tS → Prop) (H : ∀ c : tC, c.2.2.2.2.2.2 = Q → h_nameAt_0 c T) : tM mX6_nameAt 0 (fun b => []) T Q :=
  tM_mk (by decide) rfl (fun b => Nat.le_of_ble_eq_true rfl) (fun c hc ok => E.less2 (H c hc ok) (eS_s (eS_n eS_0)))
/-! negates ()V level 0 -/
def h_negates_0 (c : tC) (T : tS) : Prop := tX mX6_negates 0 c 0 [some (.ref c.2.2.2.1), none] T
def h_negates_2 (c : tC) (x1 : Int32) (T : tS) : Prop := tX mX6_negates 0 c 2 [some (.ref c.2.2.2.1), some (.int x1)] T
set_option maxHeartbeats 2000000 in
theorem s_negates_0 (c : tC) (T : tS) (H : h_negates_2 c (0 : Int32) T) : h_negates_0 c T := by
  intro ok
  refine e_iconst (0) dX6_negates_0 (by decide) ?_
  refine e_istore_n _ dX6_negates_1 (by decide) rfl rfl ?_
  exact H ok

set_option maxHeartbeats 2000000 in
theorem s_negates_2 (c : tC) (x1 : Int32) (T : tS) (H : ((T.1 26) ≤ x1 → c.2.2.2.2.2.2 none T) ∧ (¬ (T.1 26) ≤ x1 → vp_in (((64 : Int32) * ((T.1 38) - (1 : Int32))) + x1) 2560 ∧ (vp_in (((64 : Int32) * ((T.1 38) - (1 : Int32))) + x1) 2560 ∧ (h_negates_2 c (x1 + 1) (tB T 33 (va_up (T.2.2.2 33) (((64 : Int32) * ((T.1 38) - (1 : Int32))) + x1).toNatClampNeg (-(T.2.2.2 33 (((64 : Int32) * ((T.1 38) - (1 : Int32))) + x1).toNatClampNeg)))))))) : h_negates_2 c x1 T := by
  intro ok
  refine e_iload_n dX6_negates_2 rfl ?_
  refine e_aload_n dX6_negates_3 rfl ?_
  refine t_getI dX6_negates_4 fX6_26 q2522 (by decide) rfl ?_
  refine e_icmp_ge 49 dX6_negates_7 (by decide) (fun g1 => ?_) (fun g1 => ?_)
  · replace H := H.1 g1
    exact e_return dX6_negates_49 rfl ⟨_, _, rfl, rfl, H⟩
  · replace H := H.2 g1
    refine e_aload_n dX6_negates_10 rfl ?_
    refine t_getA dX6_negates_11 fX6_33 q2529 (by decide) rfl ?_
    refine e_bipush (64) dX6_negates_14 (by decide) ?_
    refine e_aload_n dX6_negates_16 rfl ?_
    refine t_getI dX6_negates_17 fX6_38 q2534 (by decide) rfl ?_
    refine e_iconst (1) dX6_negates_20 (by decide) ?_
    refine e_isub dX6_negates_21 ?_
    refine e_imul dX6_negates_22 ?_
    refine e_iload_n dX6_negates_23 rfl ?_
    refine e_iadd dX6_negates_24 ?_
    refine e_aload_n dX6_negates_25 rfl ?_
    refine t_getA dX6_negates_26 fX6_33 q2529 (by decide) rfl ?_
    refine e_bipush (64) dX6_negates_29 (by decide) ?_
    refine e_aload_n dX6_negates_31 rfl ?_
    refine t_getI dX6_negates_32 fX6_38 q2534 (by decide) rfl ?_
    refine e_iconst (1) dX6_negates_35 (by decide) ?_
    refine e_isub dX6_negates_36 ?_
    refine e_imul dX6_negates_37 ?_
    refine e_iload_n dX6_negates_38 rfl ?_
    refine e_iadd dX6_negates_39 ?_
    obtain ⟨g2, H⟩ := H
    refine t_lald dX6_negates_40 (by decide) rfl g2 ?_
    refine e_lneg dX6_negates_41 ?_
    obtain ⟨g3, H⟩ := H
    refine t_last dX6_negates_42 (by decide) rfl ok.1 g3 ?_
    refine e_iinc (x1 + 1) _ dX6_negates_43 rfl rfl (by decide) rfl rfl ?_
    refine e_goto 2 dX6_negates_46 (by decide) ?_
    exact H ok

theorem en_negates (T : tS) (Q : Option Value → tS → Prop) (H : ∀ c : tC, c.2.2.2.2.2.2 = Q → h_negates_0 c T) : tM mX6_negates 0 (fun b => []) T Q :=
  tM_mk (by decide) rfl (fun b => Nat.le_of_ble_eq_true rfl) (fun c hc ok => E.less2 (H c hc ok) (eS_s (eS_n eS_0)))
/-! numbers ([J[JI)V level 0 -/
def h_numbers_0 (c : tC) (x1 : Nat) (x2 : Nat) (x3 : Int32) (T : tS) : Prop := tX mX6_numbers 0 c 0 [some (.ref c.2.2.2.1), some (.ref (tAd c.2.2.2.1 x1)), some (.ref (tAd c.2.2.2.1 x2)), some (.int x3), none, none, none, none] T
def h_numbers_8 (c : tC) (x1 : Nat) (x2 : Nat) (x3 : Int32) (x4 : Int32) (T : tS) : Prop := tX mX6_numbers 0 c 8 [some (.ref c.2.2.2.1), some (.ref (tAd c.2.2.2.1 x1)), some (.ref (tAd c.2.2.2.1 x2)), some (.int x3), some (.int x4), none, none, none] T
def h_numbers_25 (c : tC) (x1 : Nat) (x2 : Nat) (x3 : Int32) (x4 : Int32) (x5 : Int64) (x7 : Int32) (T : tS) : Prop := tX mX6_numbers 0 c 25 [some (.ref c.2.2.2.1), some (.ref (tAd c.2.2.2.1 x1)), some (.ref (tAd c.2.2.2.1 x2)), some (.int x3), some (.int x4), some (.long x5), none, some (.int x7)] T
set_option maxHeartbeats 2000000 in
theorem s_numbers_0 (c : tC) (x1 : Nat) (x2 : Nat) (x3 : Int32) (T : tS) (ha1 : x1 < 66) (hk1 : tKd x1 = 3) (ha2 : x2 < 66) (hk2 : tKd x2 = 3) (H : h_numbers_8 c x1 x2 x3 ((T.1 26) - (1 : Int32)) T) : h_numbers_0 c x1 x2 x3 T := by
  intro ok
  refine e_aload_n dX6_numbers_0 rfl ?_
  refine t_getI dX6_numbers_1 fX6_26 q2522 (by decide) rfl ?_
  refine e_iconst (1) dX6_numbers_4 (by decide) ?_
  refine e_isub dX6_numbers_5 ?_
  refine e_istore _ dX6_numbers_6 (by decide) rfl rfl ?_
  exact H ok

set_option maxHeartbeats 2000000 in
theorem s_numbers_8 (c : tC) (x1 : Nat) (x2 : Nat) (x3 : Int32) (x4 : Int32) (T : tS) (ha1 : x1 < 66) (hk1 : tKd x1 = 3) (ha2 : x2 < 66) (hk2 : tKd x2 = 3) (H : (x4 < 0 → c.2.2.2.2.2.2 none T) ∧ (¬ x4 < 0 → vp_in x4 (tLn x1) ∧ (h_numbers_25 c x1 x2 x3 x4 (T.2.2.2 x1 x4.toNatClampNeg) (x4 + (1 : Int32)) T))) : h_numbers_8 c x1 x2 x3 x4 T := by
  intro ok
  refine e_iload dX6_numbers_8 rfl ?_
  refine e_if_lt 95 dX6_numbers_10 (by decide) (fun g1 => ?_) (fun g1 => ?_)
  · replace H := H.1 g1
    exact e_return dX6_numbers_95 rfl ⟨_, _, rfl, rfl, H⟩
  · replace H := H.2 g1
    refine e_aload_n dX6_numbers_13 rfl ?_
    refine e_iload dX6_numbers_14 rfl ?_
    obtain ⟨g2, H⟩ := H
    refine t_lald dX6_numbers_16 ha1 hk1 g2 ?_
    refine e_lstore _ dX6_numbers_17 (by decide) rfl rfl ?_
    refine e_iload dX6_numbers_19 rfl ?_
    refine e_iconst (1) dX6_numbers_21 (by decide) ?_
    refine e_iadd dX6_numbers_22 ?_
    refine e_istore _ dX6_numbers_23 (by decide) trivial rfl ?_
    exact H ok

set_option maxHeartbeats 2000000 in
theorem s_numbers_25 (c : tC) (x1 : Nat) (x2 : Nat) (x3 : Int32) (x4 : Int32) (x5 : Int64) (x7 : Int32) (T : tS) (ha1 : x1 < 66) (hk1 : tKd x1 = 3) (ha2 : x2 < 66) (hk2 : tKd x2 = 3) (H : ((T.1 26) ≤ x7 → vp_in (((64 : Int32) * x4) + x4) 4096 ∧ (¬ ((T.2.2.1 31 (((64 : Int32) * x4) + x4).toNatClampNeg).toInt64) = 0 ∧ (vp_in (x3 + x4) (tLn x2) ∧ (h_numbers_8 c x1 x2 x3 (x4 + (-1)) (tB T x2 (va_up (T.2.2.2 x2) (x3 + x4).toNatClampNeg (x5 / ((T.2.2.1 31 (((64 : Int32) * x4) + x4).toNatClampNeg).toInt64)))))))) ∧ (¬ (T.1 26) ≤ x7 → vp_in (x3 + x7) (tLn x2) ∧ (vp_in (((64 : Int32) * x7) + x4) 4096 ∧ (h_numbers_25 c x1 x2 x3 x4 (x5 - ((T.2.2.2 x2 (x3 + x7).toNatClampNeg) * ((T.2.2.1 31 (((64 : Int32) * x7) + x4).toNatClampNeg).toInt64))) (x7 + 1) T)))) : h_numbers_25 c x1 x2 x3 x4 x5 x7 T := by
  intro ok
  refine e_iload dX6_numbers_25 rfl ?_
  refine e_aload_n dX6_numbers_27 rfl ?_
  refine t_getI dX6_numbers_28 fX6_26 q2522 (by decide) rfl ?_
  refine e_icmp_ge 66 dX6_numbers_31 (by decide) (fun g1 => ?_) (fun g1 => ?_)
  · replace H := H.1 g1
    refine e_aload_n dX6_numbers_66 rfl ?_
    refine e_iload_n dX6_numbers_67 rfl ?_
    refine e_iload dX6_numbers_68 rfl ?_
    refine e_iadd dX6_numbers_70 ?_
    refine e_lload dX6_numbers_71 rfl ?_
    refine e_aload_n dX6_numbers_73 rfl ?_
    refine t_getA dX6_numbers_74 fX6_31 q2527 (by decide) rfl ?_
    refine e_bipush (64) dX6_numbers_77 (by decide) ?_
    refine e_iload dX6_numbers_79 rfl ?_
    refine e_imul dX6_numbers_81 ?_
    refine e_iload dX6_numbers_82 rfl ?_
    refine e_iadd dX6_numbers_84 ?_
    obtain ⟨g2, H⟩ := H
    refine t_iald dX6_numbers_85 (by decide) rfl g2 ?_
    refine e_i2l dX6_numbers_86 ?_
    obtain ⟨g3, H⟩ := H
    refine e_ldiv dX6_numbers_87 g3 ?_
    obtain ⟨g4, H⟩ := H
    refine t_last dX6_numbers_88 ha2 hk2 ok.1 g4 ?_
    refine e_iinc (x4 + (-1)) _ dX6_numbers_89 rfl rfl (by decide) rfl rfl ?_
    refine e_goto 8 dX6_numbers_92 (by decide) ?_
    exact E.less2 (H ok) (eS_s (eS_s (eS_s (eS_s (eS_s (eS_n (eS_n (eS_n eS_0))))))))
  · replace H := H.2 g1
    refine e_lload dX6_numbers_34 rfl ?_
    refine e_aload_n dX6_numbers_36 rfl ?_
    refine e_iload_n dX6_numbers_37 rfl ?_
    refine e_iload dX6_numbers_38 rfl ?_
    refine e_iadd dX6_numbers_40 ?_
    obtain ⟨g5, H⟩ := H
    refine t_lald dX6_numbers_41 ha2 hk2 g5 ?_
    refine e_aload_n dX6_numbers_42 rfl ?_
    refine t_getA dX6_numbers_43 fX6_31 q2527 (by decide) rfl ?_
    refine e_bipush (64) dX6_numbers_46 (by decide) ?_
    refine e_iload dX6_numbers_48 rfl ?_
    refine e_imul dX6_numbers_50 ?_
    refine e_iload dX6_numbers_51 rfl ?_
    refine e_iadd dX6_numbers_53 ?_
    obtain ⟨g6, H⟩ := H
    refine t_iald dX6_numbers_54 (by decide) rfl g6 ?_
    refine e_i2l dX6_numbers_55 ?_
    refine e_lmul dX6_numbers_56 ?_
    refine e_lsub dX6_numbers_57 ?_
    refine e_lstore _ dX6_numbers_58 (by decide) rfl rfl ?_
    refine e_iinc (x7 + 1) _ dX6_numbers_60 rfl rfl (by decide) trivial rfl ?_
    refine e_goto 25 dX6_numbers_63 (by decide) ?_
    exact H ok

theorem en_numbers (x1 : Nat) (x2 : Nat) (x3 : Int32) (T : tS) (Q : Option Value → tS → Prop) (H : ∀ c : tC, c.2.2.2.2.2.2 = Q → h_numbers_0 c x1 x2 x3 T) : tM mX6_numbers 0 (fun b => [.ref (tAd b x1), .ref (tAd b x2), .int x3]) T Q :=
  tM_mk (by decide) rfl (fun b => Nat.le_of_ble_eq_true rfl) (fun c hc ok => E.less2 (H c hc ok) (eS_s (eS_s (eS_s (eS_s (eS_n (eS_n (eS_n (eS_n eS_0)))))))))
/-! sortOfFirst (I)I level 0 -/
def h_sortOfFirst_0 (c : tC) (x1 : Int32) (T : tS) : Prop := tX mX6_sortOfFirst 0 c 0 [some (.ref c.2.2.2.1), some (.int x1), none] T
def h_sortOfFirst_2 (c : tC) (x1 : Int32) (x2 : Int32) (T : tS) : Prop := tX mX6_sortOfFirst 0 c 2 [some (.ref c.2.2.2.1), some (.int x1), some (.int x2)] T
set_option maxHeartbeats 2000000 in
theorem s_sortOfFirst_0 (c : tC) (x1 : Int32) (T : tS) (H : h_sortOfFirst_2 c x1 (0 : Int32) T) : h_sortOfFirst_0 c x1 T := by
  intro ok
  refine e_iconst (0) dX6_sortOfFirst_0 (by decide) ?_
  refine e_istore_n _ dX6_sortOfFirst_1 (by decide) rfl rfl ?_
  exact H ok

set_option maxHeartbeats 2000000 in
theorem s_sortOfFirst_2 (c : tC) (x1 : Int32) (x2 : Int32) (T : tS) (H : ((T.1 26) ≤ x2 → c.2.2.2.2.2.2 (some (.int (-1 : Int32))) T) ∧ (¬ (T.1 26) ≤ x2 → vp_in x2 64 ∧ ((¬ (T.2.2.1 29 x2.toNatClampNeg) = x1 → h_sortOfFirst_2 c x1 (x2 + 1) T) ∧ ((T.2.2.1 29 x2.toNatClampNeg) = x1 → c.2.2.2.2.2.2 (some (.int x2)) T)))) : h_sortOfFirst_2 c x1 x2 T := by
  intro ok
  refine e_iload_n dX6_sortOfFirst_2 rfl ?_
  refine e_aload_n dX6_sortOfFirst_3 rfl ?_
  refine t_getI dX6_sortOfFirst_4 fX6_26 q2522 (by decide) rfl ?_
  refine e_icmp_ge 28 dX6_sortOfFirst_7 (by decide) (fun g1 => ?_) (fun g1 => ?_)
  · replace H := H.1 g1
    refine e_iconst (-1) dX6_sortOfFirst_28 (by decide) ?_
    exact e_ireturn .int dX6_sortOfFirst_29 rfl rfl ⟨_, _, rfl, rfl, H⟩
  · replace H := H.2 g1
    refine e_aload_n dX6_sortOfFirst_10 rfl ?_
    refine t_getA dX6_sortOfFirst_11 fX6_29 q2525 (by decide) rfl ?_
    refine e_iload_n dX6_sortOfFirst_14 rfl ?_
    obtain ⟨g2, H⟩ := H
    refine t_iald dX6_sortOfFirst_15 (by decide) rfl g2 ?_
    refine e_iload_n dX6_sortOfFirst_16 rfl ?_
    refine e_icmp_ne 22 dX6_sortOfFirst_17 (by decide) (fun g3 => ?_) (fun g3 => ?_)
    · replace H := H.1 g3
      refine e_iinc (x2 + 1) _ dX6_sortOfFirst_22 rfl rfl (by decide) rfl rfl ?_
      refine e_goto 2 dX6_sortOfFirst_25 (by decide) ?_
      exact H ok
    · replace H := H.2 g3
      refine e_iload_n dX6_sortOfFirst_20 rfl ?_
      exact e_ireturn .int dX6_sortOfFirst_21 rfl rfl ⟨_, _, rfl, rfl, H⟩

theorem en_sortOfFirst (x1 : Int32) (T : tS) (Q : Option Value → tS → Prop) (H : ∀ c : tC, c.2.2.2.2.2.2 = Q → h_sortOfFirst_0 c x1 T) : tM mX6_sortOfFirst 0 (fun b => [.int x1]) T Q :=
  tM_mk (by decide) rfl (fun b => Nat.le_of_ble_eq_true rfl) (fun c hc ok => E.less2 (H c hc ok) (eS_s (eS_s (eS_n eS_0))))
/-! subIndex (I)I level 0 -/
def h_subIndex_0 (c : tC) (x1 : Int32) (T : tS) : Prop := tX mX6_subIndex 0 c 0 [some (.ref c.2.2.2.1), some (.int x1), none] T
def h_subIndex_2 (c : tC) (x1 : Int32) (x2 : Int32) (T : tS) : Prop := tX mX6_subIndex 0 c 2 [some (.ref c.2.2.2.1), some (.int x1), some (.int x2)] T
set_option maxHeartbeats 2000000 in
theorem s_subIndex_0 (c : tC) (x1 : Int32) (T : tS) (H : h_subIndex_2 c x1 (0 : Int32) T) : h_subIndex_0 c x1 T := by
  intro ok
  refine e_iconst (0) dX6_subIndex_0 (by decide) ?_
  refine e_istore_n _ dX6_subIndex_1 (by decide) rfl rfl ?_
  exact H ok

set_option maxHeartbeats 2000000 in
theorem s_subIndex_2 (c : tC) (x1 : Int32) (x2 : Int32) (T : tS) (H : ((T.1 25) ≤ x2 → c.2.2.2.2.2.2 (some (.int (-1 : Int32))) T) ∧ (¬ (T.1 25) ≤ x2 → vp_in x2 128 ∧ ((¬ (T.2.2.1 27 x2.toNatClampNeg) = x1 → h_subIndex_2 c x1 (x2 + 1) T) ∧ ((T.2.2.1 27 x2.toNatClampNeg) = x1 → c.2.2.2.2.2.2 (some (.int x2)) T)))) : h_subIndex_2 c x1 x2 T := by
  intro ok
  refine e_iload_n dX6_subIndex_2 rfl ?_
  refine e_aload_n dX6_subIndex_3 rfl ?_
  refine t_getI dX6_subIndex_4 fX6_25 q2521 (by decide) rfl ?_
  refine e_icmp_ge 28 dX6_subIndex_7 (by decide) (fun g1 => ?_) (fun g1 => ?_)
  · replace H := H.1 g1
    refine e_iconst (-1) dX6_subIndex_28 (by decide) ?_
    exact e_ireturn .int dX6_subIndex_29 rfl rfl ⟨_, _, rfl, rfl, H⟩
  · replace H := H.2 g1
    refine e_aload_n dX6_subIndex_10 rfl ?_
    refine t_getA dX6_subIndex_11 fX6_27 q2523 (by decide) rfl ?_
    refine e_iload_n dX6_subIndex_14 rfl ?_
    obtain ⟨g2, H⟩ := H
    refine t_iald dX6_subIndex_15 (by decide) rfl g2 ?_
    refine e_iload_n dX6_subIndex_16 rfl ?_
    refine e_icmp_ne 22 dX6_subIndex_17 (by decide) (fun g3 => ?_) (fun g3 => ?_)
    · replace H := H.1 g3
      refine e_iinc (x2 + 1) _ dX6_subIndex_22 rfl rfl (by decide) rfl rfl ?_
      refine e_goto 2 dX6_subIndex_25 (by decide) ?_
      exact H ok
    · replace H := H.2 g3
      refine e_iload_n dX6_subIndex_20 rfl ?_
      exact e_ireturn .int dX6_subIndex_21 rfl rfl ⟨_, _, rfl, rfl, H⟩

theorem en_subIndex (x1 : Int32) (T : tS) (Q : Option Value → tS → Prop) (H : ∀ c : tC, c.2.2.2.2.2.2 = Q → h_subIndex_0 c x1 T) : tM mX6_subIndex 0 (fun b => [.int x1]) T Q :=
  tM_mk (by decide) rfl (fun b => Nat.le_of_ble_eq_true rfl) (fun c hc ok => E.less2 (H c hc ok) (eS_s (eS_s (eS_n eS_0))))
/-! tells ()V level 0 -/
def h_tells_0 (c : tC) (T : tS) : Prop := tX mX6_tells 0 c 0 [some (.ref c.2.2.2.1)] T
set_option maxHeartbeats 2000000 in
theorem s_tells_0 (c : tC) (T : tS) (H : c.2.2.2.2.2.2 none (tI (tI T 9 (T.1 7)) 10 (T.1 8))) : h_tells_0 c T := by
  intro ok
  refine e_aload_n dX6_tells_0 rfl ?_
  refine e_aload_n dX6_tells_1 rfl ?_
  refine t_getI dX6_tells_2 fX6_7 q2503 (by decide) rfl ?_
  refine t_putI dX6_tells_5 fX6_9 q2505 (eFit_i _) (by decide) rfl ok.1 ?_
  refine e_aload_n dX6_tells_8 rfl ?_
  refine e_aload_n dX6_tells_9 rfl ?_
  refine t_getI dX6_tells_10 fX6_8 q2504 (by decide) rfl ?_
  refine t_putI dX6_tells_13 fX6_10 q2506 (eFit_i _) (by decide) rfl ok.1 ?_
  exact e_return dX6_tells_16 rfl ⟨_, _, rfl, rfl, H⟩

theorem en_tells (T : tS) (Q : Option Value → tS → Prop) (H : ∀ c : tC, c.2.2.2.2.2.2 = Q → h_tells_0 c T) : tM mX6_tells 0 (fun b => []) T Q :=
  tM_mk (by decide) rfl (fun b => Nat.le_of_ble_eq_true rfl) (fun c hc ok => E.less2 (H c hc ok) (eS_s eS_0))
/-! undo ()I level 0 -/
def h_undo_0 (c : tC) (T : tS) : Prop := tX mX6_undo 0 c 0 [some (.ref c.2.2.2.1), none] T
def h_undo_21 (c : tC) (x1 : Int32) (T : tS) : Prop := tX mX6_undo 0 c 21 [some (.ref c.2.2.2.1), some (.int x1)] T
set_option maxHeartbeats 2000000 in
theorem s_undo_0 (c : tC) (T : tS) (H : (¬ (T.1 60) = 0 → h_undo_21 c (0 : Int32) (tI T 60 ((T.1 60) - (1 : Int32)))) ∧ ((T.1 60) = 0 → c.2.2.2.2.2.2 (some (.int (-1 : Int32))) T)) : h_undo_0 c T := by
  intro ok
  refine e_aload_n dX6_undo_0 rfl ?_
  refine t_getI dX6_undo_1 fX6_60 q2556 (by decide) rfl ?_
  refine e_if_ne 9 dX6_undo_4 (by decide) (fun g1 => ?_) (fun g1 => ?_)
  · replace H := H.1 g1
    refine e_aload_n dX6_undo_9 rfl ?_
    refine e_dup dX6_undo_10 rfl ?_
    refine t_getI dX6_undo_11 fX6_60 q2556 (by decide) rfl ?_
    refine e_iconst (1) dX6_undo_14 (by decide) ?_
    refine e_isub dX6_undo_15 ?_
    refine t_putI dX6_undo_16 fX6_60 q2556 (eFit_i _) (by decide) rfl ok.1 ?_
    refine e_iconst (0) dX6_undo_19 (by decide) ?_
    refine e_istore_n _ dX6_undo_20 (by decide) rfl rfl ?_
    exact H ok
  · replace H := H.2 g1
    refine e_iconst (-1) dX6_undo_7 (by decide) ?_
    exact e_ireturn .int dX6_undo_8 rfl rfl ⟨_, _, rfl, rfl, H⟩

set_option maxHeartbeats 2000000 in
theorem s_undo_21 (c : tC) (x1 : Int32) (T : tS) (H : ((64 : Int32) ≤ x1 → c.2.2.2.2.2.2 (some (.int (T.1 60))) T) ∧ (¬ (64 : Int32) ≤ x1 → vp_in (((64 : Int32) * (T.1 60)) + x1) 768 ∧ (vp_in x1 64 ∧ (h_undo_21 c (x1 + 1) (tB T 36 (va_up (T.2.2.2 36) x1.toNatClampNeg (T.2.2.2 59 (((64 : Int32) * (T.1 60)) + x1).toNatClampNeg))))))) : h_undo_21 c x1 T := by
  intro ok
  refine e_iload_n dX6_undo_21 rfl ?_
  refine e_bipush (64) dX6_undo_22 (by decide) ?_
  refine e_icmp_ge 53 dX6_undo_24 (by decide) (fun g1 => ?_) (fun g1 => ?_)
  · replace H := H.1 g1
    refine e_aload_n dX6_undo_53 rfl ?_
    refine t_getI dX6_undo_54 fX6_60 q2556 (by decide) rfl ?_
    exact e_ireturn .int dX6_undo_57 rfl rfl ⟨_, _, rfl, rfl, H⟩
  · replace H := H.2 g1
    refine e_aload_n dX6_undo_27 rfl ?_
    refine t_getA dX6_undo_28 fX6_36 q2532 (by decide) rfl ?_
    refine e_iload_n dX6_undo_31 rfl ?_
    refine e_aload_n dX6_undo_32 rfl ?_
    refine t_getA dX6_undo_33 fX6_59 q2555 (by decide) rfl ?_
    refine e_bipush (64) dX6_undo_36 (by decide) ?_
    refine e_aload_n dX6_undo_38 rfl ?_
    refine t_getI dX6_undo_39 fX6_60 q2556 (by decide) rfl ?_
    refine e_imul dX6_undo_42 ?_
    refine e_iload_n dX6_undo_43 rfl ?_
    refine e_iadd dX6_undo_44 ?_
    obtain ⟨g2, H⟩ := H
    refine t_lald dX6_undo_45 (by decide) rfl g2 ?_
    obtain ⟨g3, H⟩ := H
    refine t_last dX6_undo_46 (by decide) rfl ok.1 g3 ?_
    refine e_iinc (x1 + 1) _ dX6_undo_47 rfl rfl (by decide) rfl rfl ?_
    refine e_goto 21 dX6_undo_50 (by decide) ?_
    exact H ok

theorem en_undo (T : tS) (Q : Option Value → tS → Prop) (H : ∀ c : tC, c.2.2.2.2.2.2 = Q → h_undo_0 c T) : tM mX6_undo 0 (fun b => []) T Q :=
  tM_mk (by decide) rfl (fun b => Nat.le_of_ble_eq_true rfl) (fun c hc ok => E.less2 (H c hc ok) (eS_s (eS_n eS_0)))
/-! wrongAt (II)V level 0 -/
def h_wrongAt_0 (c : tC) (x1 : Int32) (x2 : Int32) (T : tS) : Prop := tX mX6_wrongAt 0 c 0 [some (.ref c.2.2.2.1), some (.int x1), some (.int x2)] T
set_option maxHeartbeats 2000000 in
theorem s_wrongAt_0 (c : tC) (x1 : Int32) (x2 : Int32) (T : tS) (H : ((T.1 7) ≤ 0 → c.2.2.2.2.2.2 none (tI (tI T 7 x1) 8 x2)) ∧ (¬ (T.1 7) ≤ 0 → c.2.2.2.2.2.2 none T)) : h_wrongAt_0 c x1 x2 T := by
  intro ok
  refine e_aload_n dX6_wrongAt_0 rfl ?_
  refine t_getI dX6_wrongAt_1 fX6_7 q2503 (by decide) rfl ?_
  refine e_if_le 8 dX6_wrongAt_4 (by decide) (fun g1 => ?_) (fun g1 => ?_)
  · replace H := H.1 g1
    refine e_aload_n dX6_wrongAt_8 rfl ?_
    refine e_iload_n dX6_wrongAt_9 rfl ?_
    refine t_putI dX6_wrongAt_10 fX6_7 q2503 (eFit_i _) (by decide) rfl ok.1 ?_
    refine e_aload_n dX6_wrongAt_13 rfl ?_
    refine e_iload_n dX6_wrongAt_14 rfl ?_
    refine t_putI dX6_wrongAt_15 fX6_8 q2504 (eFit_i _) (by decide) rfl ok.1 ?_
    exact e_return dX6_wrongAt_18 rfl ⟨_, _, rfl, rfl, H⟩
  · replace H := H.2 g1
    exact e_return dX6_wrongAt_7 rfl ⟨_, _, rfl, rfl, H⟩

theorem en_wrongAt (x1 : Int32) (x2 : Int32) (T : tS) (Q : Option Value → tS → Prop) (H : ∀ c : tC, c.2.2.2.2.2.2 = Q → h_wrongAt_0 c x1 x2 T) : tM mX6_wrongAt 0 (fun b => [.int x1, .int x2]) T Q :=
  tM_mk (by decide) rfl (fun b => Nat.le_of_ble_eq_true rfl) (fun c hc ok => E.less2 (H c hc ok) (eS_s (eS_s (eS_s eS_0))))
/-! wrong (I)V level 1 -/
def h_wrong_0 (c : tC) (x1 : Int32) (T : tS) : Prop := tX mX6_wrong 1 c 0 [some (.ref c.2.2.2.1), some (.int x1)] T
set_option maxHeartbeats 2000000 in
theorem s_wrong_0 (c : tC) (x1 : Int32) (T : tS) (H : (¬ (T.1 5) = (4 : Int32) → ∃ Q2 : tS → Prop, tMv mX6_wrongAt 0 (fun b => [.int x1, .int (T.1 4)]) T Q2 ∧ ∀ T5 : tS, Q2 T5 → c.2.2.2.2.2.2 none T5) ∧ ((T.1 5) = (4 : Int32) → ∃ Q8 : tS → Prop, tMv mX6_wrongAt 0 (fun b => [.int (1 : Int32), .int (T.1 4)]) T Q8 ∧ ∀ T11 : tS, Q8 T11 → c.2.2.2.2.2.2 none T11)) : h_wrong_0 c x1 T := by
  intro ok
  refine e_aload_n dX6_wrong_0 rfl ?_
  refine e_aload_n dX6_wrong_1 rfl ?_
  refine t_getI dX6_wrong_2 fX6_5 q2501 (by decide) rfl ?_
  refine e_iconst (4) dX6_wrong_5 (by decide) ?_
  refine e_icmp_ne 13 dX6_wrong_6 (by decide) (fun g1 => ?_) (fun g1 => ?_)
  · replace H := H.1 g1
    refine e_iload_n dX6_wrong_13 rfl ?_
    refine e_aload_n dX6_wrong_14 rfl ?_
    refine t_getI dX6_wrong_15 fX6_4 q2500 (by decide) rfl ?_
    obtain ⟨Q2, hC3, H⟩ := H
    refine t_callV (As := [.int x1, .int (T.1 4)]) ok hC3 dX6_wrong_18 wX6_wrongAt q2748 q2750 qs78 rfl rfl (by decide) rfl (Nat.le_of_ble_eq_true rfl) (fun v4 T5 e6 => ?_)
    obtain ⟨rfl, e6⟩ := e6
    replace H := H T5 e6
    exact e_return dX6_wrong_21 rfl ⟨_, _, rfl, rfl, H⟩
  · replace H := H.2 g1
    refine e_iconst (1) dX6_wrong_9 (by decide) ?_
    refine e_goto 14 dX6_wrong_10 (by decide) ?_
    refine e_aload_n dX6_wrong_14 rfl ?_
    refine t_getI dX6_wrong_15 fX6_4 q2500 (by decide) rfl ?_
    obtain ⟨Q8, hC9, H⟩ := H
    refine t_callV (As := [.int (1 : Int32), .int (T.1 4)]) ok hC9 dX6_wrong_18 wX6_wrongAt q2748 q2750 qs78 rfl rfl (by decide) rfl (Nat.le_of_ble_eq_true rfl) (fun v10 T11 e12 => ?_)
    obtain ⟨rfl, e12⟩ := e12
    replace H := H T11 e12
    exact e_return dX6_wrong_21 rfl ⟨_, _, rfl, rfl, H⟩

theorem en_wrong (x1 : Int32) (T : tS) (Q : Option Value → tS → Prop) (H : ∀ c : tC, c.2.2.2.2.2.2 = Q → h_wrong_0 c x1 T) : tM mX6_wrong 1 (fun b => [.int x1]) T Q :=
  tM_mk (by decide) rfl (fun b => Nat.le_of_ble_eq_true rfl) (fun c hc ok => E.less2 (H c hc ok) (eS_s (eS_s eS_0)))
