/-! sumWith (JJ)V level 1 -/
def h_sumWith_0 (c : tC) (x1 : Int64) (x3 : Int64) (T : tS) : Prop := tX mX6_sumWith 1 c 0 [some (.ref c.2.2.2.1), some (.long x1), none, some (.long x3), none, none, none, none, none, none, none] T
set_option maxHeartbeats 2000000 in
theorem s_sumWith_0 (c : tC) (x1 : Int64) (x3 : Int64) (T : tS) (H : ¬ (tGcd (((T.2.1 52) * x3) + (x1 * (T.2.1 53))) ((T.2.1 53) * x3)) = 0 ∧ (¬ (tGcd (((T.2.1 52) * x3) + (x1 * (T.2.1 53))) ((T.2.1 53) * x3)) = 0 ∧ (c.2.2.2.2.2.2 none (tL (tL T 52 ((((T.2.1 52) * x3) + (x1 * (T.2.1 53))) / (tGcd (((T.2.1 52) * x3) + (x1 * (T.2.1 53))) ((T.2.1 53) * x3)))) 53 (((T.2.1 53) * x3) / (tGcd (((T.2.1 52) * x3) + (x1 * (T.2.1 53))) ((T.2.1 53) * x3))))))) : h_sumWith_0 c x1 x3 T := by
  intro ok
  refine e_aload_n dX6_sumWith_0 rfl ?_
  refine t_getL dX6_sumWith_1 fX6_52 q2548 (by decide) rfl ?_
  refine e_lload_n dX6_sumWith_4 rfl ?_
  refine e_lmul dX6_sumWith_5 ?_
  refine e_lload_n dX6_sumWith_6 rfl ?_
  refine e_aload_n dX6_sumWith_7 rfl ?_
  refine t_getL dX6_sumWith_8 fX6_53 q2549 (by decide) rfl ?_
  refine e_lmul dX6_sumWith_11 ?_
  refine e_ladd dX6_sumWith_12 ?_
  refine e_lstore _ dX6_sumWith_13 (by decide) trivial rfl ?_
  refine e_aload_n dX6_sumWith_15 rfl ?_
  refine t_getL dX6_sumWith_16 fX6_53 q2549 (by decide) rfl ?_
  refine e_lload_n dX6_sumWith_19 rfl ?_
  refine e_lmul dX6_sumWith_20 ?_
  refine e_lstore _ dX6_sumWith_21 (by decide) trivial rfl ?_
  refine e_lload dX6_sumWith_23 rfl ?_
  refine e_lload dX6_sumWith_25 rfl ?_
  refine t_callS (As := [.long (((T.2.1 52) * x3) + (x1 * (T.2.1 53))), .long ((T.2.1 53) * x3)]) ok (ct_divisor (((T.2.1 52) * x3) + (x1 * (T.2.1 53))) ((T.2.1 53) * x3)) dX6_sumWith_27 wX6_divisor q3038 q3039 rfl (by decide) rfl (Nat.le_of_ble_eq_true rfl) ?_
  refine e_lstore _ dX6_sumWith_30 (by decide) trivial rfl ?_
  refine e_aload_n dX6_sumWith_32 rfl ?_
  refine e_lload dX6_sumWith_33 rfl ?_
  refine e_lload dX6_sumWith_35 rfl ?_
  obtain ⟨g1, H⟩ := H
  refine e_ldiv dX6_sumWith_37 g1 ?_
  refine t_putL dX6_sumWith_38 fX6_52 q2548 (eFit_l _) (by decide) rfl ok.1 ?_
  refine e_aload_n dX6_sumWith_41 rfl ?_
  refine e_lload dX6_sumWith_42 rfl ?_
  refine e_lload dX6_sumWith_44 rfl ?_
  obtain ⟨g2, H⟩ := H
  refine e_ldiv dX6_sumWith_46 g2 ?_
  refine t_putL dX6_sumWith_47 fX6_53 q2549 (eFit_l _) (by decide) rfl ok.1 ?_
  exact e_return dX6_sumWith_50 rfl ⟨_, _, rfl, rfl, H⟩

theorem en_sumWith (x1 : Int64) (x3 : Int64) (T : tS) (Q : Option Value → tS → Prop) (H : ∀ c : tC, c.2.2.2.2.2.2 = Q → h_sumWith_0 c x1 x3 T) : tM mX6_sumWith 1 (fun b => [.long x1, .long x3]) T Q :=
  tM_mk (by decide) rfl (fun b => Nat.le_of_ble_eq_true rfl) (fun c hc ok => E.less2 (H c hc ok) (eS_s (eS_s (eS_n (eS_s (eS_n (eS_n (eS_n (eS_n (eS_n (eS_n (eS_n eS_0))))))))))))
/-! peaks (I)V level 2 -/
def h_peaks_0 (c : tC) (x1 : Int32) (T : tS) : Prop := tX mX6_peaks 2 c 0 [some (.ref c.2.2.2.1), some (.int x1), none, none, none, none, none, none, none] T
def h_peaks_7 (c : tC) (x1 : Int32) (x2 : Int32) (T : tS) : Prop := tX mX6_peaks 2 c 7 [some (.ref c.2.2.2.1), some (.int x1), some (.int x2), none, none, none, none, none, none] T
def h_peaks_38 (c : tC) (x1 : Int32) (x2 : Int32) (x3 : Int32) (T : tS) : Prop := tX mX6_peaks 2 c 38 [some (.ref c.2.2.2.1), some (.int x1), some (.int x2), some (.int x3), none, none, none, none, none] T
def h_peaks_101 (c : tC) (x1 : Int32) (x2 : Int32) (x3 : Int32) (T : tS) : Prop := tX mX6_peaks 2 c 101 [some (.ref c.2.2.2.1), some (.int x1), some (.int x2), some (.int x3), none, none, none, none, none] T
set_option maxHeartbeats 2000000 in
theorem s_peaks_0 (c : tC) (x1 : Int32) (T : tS) (H : h_peaks_7 c x1 ((T.1 26) - (1 : Int32)) T) : h_peaks_0 c x1 T := by
  intro ok
  refine e_aload_n dX6_peaks_0 rfl ?_
  refine t_getI dX6_peaks_1 fX6_26 q2522 (by decide) rfl ?_
  refine e_iconst (1) dX6_peaks_4 (by decide) ?_
  refine e_isub dX6_peaks_5 ?_
  refine e_istore_n _ dX6_peaks_6 (by decide) rfl rfl ?_
  exact H ok

set_option maxHeartbeats 2000000 in
theorem s_peaks_7 (c : tC) (x1 : Int32) (x2 : Int32) (T : tS) (H : (x2 < 0 → c.2.2.2.2.2.2 none T) ∧ (¬ x2 < 0 → (¬ x2 = x1 → h_peaks_38 c x1 x2 (x2 + (1 : Int32)) (tL (tL T 52 ((zI (¬ (0 : Int32) = 0)).toInt64)) 53 (1 : Int64))) ∧ (x2 = x1 → h_peaks_38 c x1 x2 (x2 + (1 : Int32)) (tL (tL T 52 ((zI (¬ (1 : Int32) = 0)).toInt64)) 53 (1 : Int64))))) : h_peaks_7 c x1 x2 T := by
  intro ok
  refine e_iload_n dX6_peaks_7 rfl ?_
  refine e_if_lt 166 dX6_peaks_8 (by decide) (fun g1 => ?_) (fun g1 => ?_)
  · replace H := H.1 g1
    exact e_return dX6_peaks_166 rfl ⟨_, _, rfl, rfl, H⟩
  · replace H := H.2 g1
    refine e_aload_n dX6_peaks_11 rfl ?_
    refine e_iload_n dX6_peaks_12 rfl ?_
    refine e_iload_n dX6_peaks_13 rfl ?_
    refine e_icmp_ne 21 dX6_peaks_14 (by decide) (fun g2 => ?_) (fun g2 => ?_)
    · replace H := H.1 g2
      refine e_iconst (0) dX6_peaks_21 (by decide) ?_
      refine t_callS (As := [.int (0 : Int32)]) ok (ct_truth (0 : Int32)) dX6_peaks_22 wX6_truth q2489 q2490 rfl (by decide) rfl (Nat.le_of_ble_eq_true rfl) ?_
      refine e_i2l dX6_peaks_25 ?_
      refine t_putL dX6_peaks_26 fX6_52 q2548 (eFit_l _) (by decide) rfl ok.1 ?_
      refine e_aload_n dX6_peaks_29 rfl ?_
      refine e_lconst 1 dX6_peaks_30 (by decide) ?_
      refine t_putL dX6_peaks_31 fX6_53 q2549 (eFit_l _) (by decide) rfl ok.1 ?_
      refine e_iload_n dX6_peaks_34 rfl ?_
      refine e_iconst (1) dX6_peaks_35 (by decide) ?_
      refine e_iadd dX6_peaks_36 ?_
      refine e_istore_n _ dX6_peaks_37 (by decide) rfl rfl ?_
      exact H ok
    · replace H := H.2 g2
      refine e_iconst (1) dX6_peaks_17 (by decide) ?_
      refine e_goto 22 dX6_peaks_18 (by decide) ?_
      refine t_callS (As := [.int (1 : Int32)]) ok (ct_truth (1 : Int32)) dX6_peaks_22 wX6_truth q2489 q2490 rfl (by decide) rfl (Nat.le_of_ble_eq_true rfl) ?_
      refine e_i2l dX6_peaks_25 ?_
      refine t_putL dX6_peaks_26 fX6_52 q2548 (eFit_l _) (by decide) rfl ok.1 ?_
      refine e_aload_n dX6_peaks_29 rfl ?_
      refine e_lconst 1 dX6_peaks_30 (by decide) ?_
      refine t_putL dX6_peaks_31 fX6_53 q2549 (eFit_l _) (by decide) rfl ok.1 ?_
      refine e_iload_n dX6_peaks_34 rfl ?_
      refine e_iconst (1) dX6_peaks_35 (by decide) ?_
      refine e_iadd dX6_peaks_36 ?_
      refine e_istore_n _ dX6_peaks_37 (by decide) rfl rfl ?_
      exact H ok

set_option maxHeartbeats 2000000 in
theorem s_peaks_38 (c : tC) (x1 : Int32) (x2 : Int32) (x3 : Int32) (T : tS) (H : ((T.1 26) ≤ x3 → vp_in (((64 : Int32) * x2) + x2) 4096 ∧ (¬ (tGcd (T.2.1 52) ((T.2.1 53) * ((T.2.2.1 31 (((64 : Int32) * x2) + x2).toNatClampNeg).toInt64))) = 0 ∧ (vp_in x2 64 ∧ (¬ (tGcd (T.2.1 52) ((T.2.1 53) * ((T.2.2.1 31 (((64 : Int32) * x2) + x2).toNatClampNeg).toInt64))) = 0 ∧ (vp_in x2 64 ∧ (h_peaks_7 c x1 (x2 + (-1)) (tB (tB T 50 (va_up (T.2.2.2 50) x2.toNatClampNeg ((T.2.1 52) / (tGcd (T.2.1 52) ((T.2.1 53) * ((T.2.2.1 31 (((64 : Int32) * x2) + x2).toNatClampNeg).toInt64)))))) 51 (va_up (T.2.2.2 51) x2.toNatClampNeg (((T.2.1 53) * ((T.2.2.1 31 (((64 : Int32) * x2) + x2).toNatClampNeg).toInt64)) / (tGcd (T.2.1 52) ((T.2.1 53) * ((T.2.2.1 31 (((64 : Int32) * x2) + x2).toNatClampNeg).toInt64)))))))))))) ∧ (¬ (T.1 26) ≤ x3 → vp_in x3 64 ∧ (((lg_cmp (T.2.2.2 50 x3.toNatClampNeg) (0 : Int64)) = 0 → h_peaks_101 c x1 x2 x3 T) ∧ (¬ (lg_cmp (T.2.2.2 50 x3.toNatClampNeg) (0 : Int64)) = 0 → vp_in (((64 : Int32) * x3) + x2) 4096 ∧ (((T.2.2.1 31 (((64 : Int32) * x3) + x2).toNatClampNeg) = 0 → h_peaks_101 c x1 x2 x3 T) ∧ (¬ (T.2.2.1 31 (((64 : Int32) * x3) + x2).toNatClampNeg) = 0 → vp_in x3 64 ∧ (vp_in (((64 : Int32) * x3) + x2) 4096 ∧ (vp_in x3 64 ∧ (∃ Q14 : tS → Prop, tMv mX6_sumWith 1 (fun b => [.long ((-(T.2.2.2 50 x3.toNatClampNeg)) * ((T.2.2.1 31 (((64 : Int32) * x3) + x2).toNatClampNeg).toInt64)), .long (T.2.2.2 51 x3.toNatClampNeg)]) T Q14 ∧ ∀ T17 : tS, Q14 T17 → h_peaks_101 c x1 x2 x3 T17))))))))) : h_peaks_38 c x1 x2 x3 T := by
  intro ok
  refine e_iload_n dX6_peaks_38 rfl ?_
  refine e_aload_n dX6_peaks_39 rfl ?_
  refine t_getI dX6_peaks_40 fX6_26 q2522 (by decide) rfl ?_
  refine e_icmp_ge 107 dX6_peaks_43 (by decide) (fun g1 => ?_) (fun g1 => ?_)
  · replace H := H.1 g1
    refine e_aload_n dX6_peaks_107 rfl ?_
    refine t_getL dX6_peaks_108 fX6_52 q2548 (by decide) rfl ?_
    refine e_lstore_n _ dX6_peaks_111 (by decide) rfl rfl ?_
    refine e_aload_n dX6_peaks_112 rfl ?_
    refine t_getL dX6_peaks_113 fX6_53 q2549 (by decide) rfl ?_
    refine e_aload_n dX6_peaks_116 rfl ?_
    refine t_getA dX6_peaks_117 fX6_31 q2527 (by decide) rfl ?_
    refine e_bipush (64) dX6_peaks_120 (by decide) ?_
    refine e_iload_n dX6_peaks_122 rfl ?_
    refine e_imul dX6_peaks_123 ?_
    refine e_iload_n dX6_peaks_124 rfl ?_
    refine e_iadd dX6_peaks_125 ?_
    obtain ⟨g2, H⟩ := H
    refine t_iald dX6_peaks_126 (by decide) rfl g2 ?_
    refine e_i2l dX6_peaks_127 ?_
    refine e_lmul dX6_peaks_128 ?_
    refine e_lstore _ dX6_peaks_129 (by decide) trivial rfl ?_
    refine e_lload_n dX6_peaks_131 rfl ?_
    refine e_lload dX6_peaks_132 rfl ?_
    refine t_callS (As := [.long (T.2.1 52), .long ((T.2.1 53) * ((T.2.2.1 31 (((64 : Int32) * x2) + x2).toNatClampNeg).toInt64))]) ok (ct_divisor (T.2.1 52) ((T.2.1 53) * ((T.2.2.1 31 (((64 : Int32) * x2) + x2).toNatClampNeg).toInt64))) dX6_peaks_134 wX6_divisor q3038 q3039 rfl (by decide) rfl (Nat.le_of_ble_eq_true rfl) ?_
    refine e_lstore _ dX6_peaks_137 (by decide) trivial rfl ?_
    refine e_aload_n dX6_peaks_139 rfl ?_
    refine t_getA dX6_peaks_140 fX6_50 q2546 (by decide) rfl ?_
    refine e_iload_n dX6_peaks_143 rfl ?_
    refine e_lload_n dX6_peaks_144 rfl ?_
    refine e_lload dX6_peaks_145 rfl ?_
    obtain ⟨g3, H⟩ := H
    refine e_ldiv dX6_peaks_147 g3 ?_
    obtain ⟨g4, H⟩ := H
    refine t_last dX6_peaks_148 (by decide) rfl ok.1 g4 ?_
    refine e_aload_n dX6_peaks_149 rfl ?_
    refine t_getA dX6_peaks_150 fX6_51 q2547 (by decide) rfl ?_
    refine e_iload_n dX6_peaks_153 rfl ?_
    refine e_lload dX6_peaks_154 rfl ?_
    refine e_lload dX6_peaks_156 rfl ?_
    obtain ⟨g5, H⟩ := H
    refine e_ldiv dX6_peaks_158 g5 ?_
    obtain ⟨g6, H⟩ := H
    refine t_last dX6_peaks_159 (by decide) rfl ok.1 g6 ?_
    refine e_iinc (x2 + (-1)) _ dX6_peaks_160 rfl rfl (by decide) rfl rfl ?_
    refine e_goto 7 dX6_peaks_163 (by decide) ?_
    exact E.less2 (H ok) (eS_s (eS_s (eS_s (eS_n (eS_n (eS_n (eS_n (eS_n (eS_n eS_0)))))))))
  · replace H := H.2 g1
    refine e_aload_n dX6_peaks_46 rfl ?_
    refine t_getA dX6_peaks_47 fX6_50 q2546 (by decide) rfl ?_
    refine e_iload_n dX6_peaks_50 rfl ?_
    obtain ⟨g7, H⟩ := H
    refine t_lald dX6_peaks_51 (by decide) rfl g7 ?_
    refine e_lconst 0 dX6_peaks_52 (by decide) ?_
    refine e_lcmp dX6_peaks_53 ?_
    refine e_if_eq 101 dX6_peaks_54 (by decide) (fun g8 => ?_) (fun g8 => ?_)
    · replace H := H.1 g8
      exact H ok
    · replace H := H.2 g8
      refine e_aload_n dX6_peaks_57 rfl ?_
      refine t_getA dX6_peaks_58 fX6_31 q2527 (by decide) rfl ?_
      refine e_bipush (64) dX6_peaks_61 (by decide) ?_
      refine e_iload_n dX6_peaks_63 rfl ?_
      refine e_imul dX6_peaks_64 ?_
      refine e_iload_n dX6_peaks_65 rfl ?_
      refine e_iadd dX6_peaks_66 ?_
      obtain ⟨g9, H⟩ := H
      refine t_iald dX6_peaks_67 (by decide) rfl g9 ?_
      refine e_if_eq 101 dX6_peaks_68 (by decide) (fun g10 => ?_) (fun g10 => ?_)
      · replace H := H.1 g10
        exact H ok
      · replace H := H.2 g10
        refine e_aload_n dX6_peaks_71 rfl ?_
        refine e_aload_n dX6_peaks_72 rfl ?_
        refine t_getA dX6_peaks_73 fX6_50 q2546 (by decide) rfl ?_
        refine e_iload_n dX6_peaks_76 rfl ?_
        obtain ⟨g11, H⟩ := H
        refine t_lald dX6_peaks_77 (by decide) rfl g11 ?_
        refine e_lneg dX6_peaks_78 ?_
        refine e_aload_n dX6_peaks_79 rfl ?_
        refine t_getA dX6_peaks_80 fX6_31 q2527 (by decide) rfl ?_
        refine e_bipush (64) dX6_peaks_83 (by decide) ?_
        refine e_iload_n dX6_peaks_85 rfl ?_
        refine e_imul dX6_peaks_86 ?_
        refine e_iload_n dX6_peaks_87 rfl ?_
        refine e_iadd dX6_peaks_88 ?_
        obtain ⟨g12, H⟩ := H
        refine t_iald dX6_peaks_89 (by decide) rfl g12 ?_
        refine e_i2l dX6_peaks_90 ?_
        refine e_lmul dX6_peaks_91 ?_
        refine e_aload_n dX6_peaks_92 rfl ?_
        refine t_getA dX6_peaks_93 fX6_51 q2547 (by decide) rfl ?_
        refine e_iload_n dX6_peaks_96 rfl ?_
        obtain ⟨g13, H⟩ := H
        refine t_lald dX6_peaks_97 (by decide) rfl g13 ?_
        obtain ⟨Q14, hC15, H⟩ := H
        refine t_callV (As := [.long ((-(T.2.2.2 50 x3.toNatClampNeg)) * ((T.2.2.1 31 (((64 : Int32) * x3) + x2).toNatClampNeg).toInt64)), .long (T.2.2.2 51 x3.toNatClampNeg)]) ok hC15 dX6_peaks_98 wX6_sumWith q3034 q3036 qs120 rfl rfl (by decide) rfl (Nat.le_of_ble_eq_true rfl) (fun v16 T17 e18 => ?_)
        obtain ⟨rfl, e18⟩ := e18
        replace H := H T17 e18
        exact H ok

set_option maxHeartbeats 2000000 in
theorem s_peaks_101 (c : tC) (x1 : Int32) (x2 : Int32) (x3 : Int32) (T : tS) (H : h_peaks_38 c x1 x2 (x3 + 1) T) : h_peaks_101 c x1 x2 x3 T := by
  intro ok
  refine e_iinc (x3 + 1) _ dX6_peaks_101 rfl rfl (by decide) rfl rfl ?_
  refine e_goto 38 dX6_peaks_104 (by decide) ?_
  exact H ok

theorem en_peaks (x1 : Int32) (T : tS) (Q : Option Value → tS → Prop) (H : ∀ c : tC, c.2.2.2.2.2.2 = Q → h_peaks_0 c x1 T) : tM mX6_peaks 2 (fun b => [.int x1]) T Q :=
  tM_mk (by decide) rfl (fun b => Nat.le_of_ble_eq_true rfl) (fun c hc ok => E.less2 (H c hc ok) (eS_s (eS_s (eS_n (eS_n (eS_n (eS_n (eS_n (eS_n (eS_n eS_0))))))))))
/-! peak (III)I level 3 -/
def h_peak_0 (c : tC) (x1 : Int32) (x2 : Int32) (x3 : Int32) (T : tS) : Prop := tX mX6_peak 3 c 0 [some (.ref c.2.2.2.1), some (.int x1), some (.int x2), some (.int x3)] T
set_option maxHeartbeats 2000000 in
theorem s_peak_0 (c : tC) (x1 : Int32) (x2 : Int32) (x3 : Int32) (T : tS) (H : ((zI (0 ≤ x1.toInt64 ∧ x1.toInt64 ≤ (T.1 26 - 1).toInt64)) = 0 → c.2.2.2.2.2.2 (some (.int (-1000000 : Int32))) T) ∧ (¬ (zI (0 ≤ x1.toInt64 ∧ x1.toInt64 ≤ (T.1 26 - 1).toInt64)) = 0 → ((zI (0 ≤ x2.toInt64 ∧ x2.toInt64 ≤ (T.1 26 - 1).toInt64)) = 0 → c.2.2.2.2.2.2 (some (.int (-1000000 : Int32))) T) ∧ (¬ (zI (0 ≤ x2.toInt64 ∧ x2.toInt64 ≤ (T.1 26 - 1).toInt64)) = 0 → (¬ (zI ((0 : Int64) ≤ x3.toInt64 ∧ x3.toInt64 ≤ (1 : Int64))) = 0 → ∃ Q12 : tS → Prop, tMv mX6_peaks 2 (fun b => [.int x1]) T Q12 ∧ ∀ T15 : tS, Q12 T15 → (¬ x3 = 0 → vp_in x2 64 ∧ (c.2.2.2.2.2.2 (some (.int ((T15.2.2.2 51 x2.toNatClampNeg).toInt32))) T15)) ∧ (x3 = 0 → vp_in x2 64 ∧ (c.2.2.2.2.2.2 (some (.int ((T15.2.2.2 50 x2.toNatClampNeg).toInt32))) T15))) ∧ ((zI ((0 : Int64) ≤ x3.toInt64 ∧ x3.toInt64 ≤ (1 : Int64))) = 0 → c.2.2.2.2.2.2 (some (.int (-1000000 : Int32))) T)))) : h_peak_0 c x1 x2 x3 T := by
  intro ok
  refine e_aload_n dX6_peak_0 rfl ?_
  refine e_iload_n dX6_peak_1 rfl ?_
  refine t_callV (As := [.int x1]) ok (ct_isSort T x1) dX6_peak_2 wX6_isSort q2934 q2936 qs113 rfl rfl (by decide) rfl (Nat.le_of_ble_eq_true rfl) (fun v1 T2 e4 => ?_)
  obtain ⟨r3, rfl, rfl, hT⟩ := e4
  rw [hT]
  refine e_if_eq 26 dX6_peak_5 (by decide) (fun g5 => ?_) (fun g5 => ?_)
  · replace H := H.1 g5
    refine e_ldcw dX6_peak_26 q3013 ?_
    exact e_ireturn .int dX6_peak_29 rfl rfl ⟨_, _, rfl, rfl, H⟩
  · replace H := H.2 g5
    refine e_aload_n dX6_peak_8 rfl ?_
    refine e_iload_n dX6_peak_9 rfl ?_
    refine t_callV (As := [.int x2]) ok (ct_isSort T x2) dX6_peak_10 wX6_isSort q2934 q2936 qs113 rfl rfl (by decide) rfl (Nat.le_of_ble_eq_true rfl) (fun v6 T7 e9 => ?_)
    obtain ⟨r8, rfl, rfl, hT⟩ := e9
    rw [hT]
    refine e_if_eq 26 dX6_peak_13 (by decide) (fun g10 => ?_) (fun g10 => ?_)
    · replace H := H.1 g10
      refine e_ldcw dX6_peak_26 q3013 ?_
      exact e_ireturn .int dX6_peak_29 rfl rfl ⟨_, _, rfl, rfl, H⟩
    · replace H := H.2 g10
      refine e_iload_n dX6_peak_16 rfl ?_
      refine e_i2l dX6_peak_17 ?_
      refine e_lconst 0 dX6_peak_18 (by decide) ?_
      refine e_lconst 1 dX6_peak_19 (by decide) ?_
      refine t_callS (As := [.long x3.toInt64, .long (0 : Int64), .long (1 : Int64)]) ok (ct_isIn x3.toInt64 (0 : Int64) (1 : Int64)) dX6_peak_20 wX6_isIn q2707 q2708 rfl (by decide) rfl (Nat.le_of_ble_eq_true rfl) ?_
      refine e_if_ne 30 dX6_peak_23 (by decide) (fun g11 => ?_) (fun g11 => ?_)
      · replace H := H.1 g11
        refine e_aload_n dX6_peak_30 rfl ?_
        refine e_iload_n dX6_peak_31 rfl ?_
        obtain ⟨Q12, hC13, H⟩ := H
        refine t_callV (As := [.int x1]) ok hC13 dX6_peak_32 wX6_peaks q3030 q3032 qs119 rfl rfl (by decide) rfl (Nat.le_of_ble_eq_true rfl) (fun v14 T15 e16 => ?_)
        obtain ⟨rfl, e16⟩ := e16
        replace H := H T15 e16
        refine e_iload_n dX6_peak_35 rfl ?_
        refine e_if_ne 48 dX6_peak_36 (by decide) (fun g18 => ?_) (fun g18 => ?_)
        · replace H := H.1 g18
          refine e_aload_n dX6_peak_48 rfl ?_
          refine t_getA dX6_peak_49 fX6_51 q2547 (by decide) rfl ?_
          refine e_iload_n dX6_peak_52 rfl ?_
          obtain ⟨g19, H⟩ := H
          refine t_lald dX6_peak_53 (by decide) rfl g19 ?_
          refine e_l2i dX6_peak_54 ?_
          exact e_ireturn .int dX6_peak_55 rfl rfl ⟨_, _, rfl, rfl, H⟩
        · replace H := H.2 g18
          refine e_aload_n dX6_peak_39 rfl ?_
          refine t_getA dX6_peak_40 fX6_50 q2546 (by decide) rfl ?_
          refine e_iload_n dX6_peak_43 rfl ?_
          obtain ⟨g20, H⟩ := H
          refine t_lald dX6_peak_44 (by decide) rfl g20 ?_
          refine e_goto 54 dX6_peak_45 (by decide) ?_
          refine e_l2i dX6_peak_54 ?_
          exact e_ireturn .int dX6_peak_55 rfl rfl ⟨_, _, rfl, rfl, H⟩
      · replace H := H.2 g11
        refine e_ldcw dX6_peak_26 q3013 ?_
        exact e_ireturn .int dX6_peak_29 rfl rfl ⟨_, _, rfl, rfl, H⟩

theorem en_peak (x1 : Int32) (x2 : Int32) (x3 : Int32) (T : tS) (Q : Option Value → tS → Prop) (H : ∀ c : tC, c.2.2.2.2.2.2 = Q → h_peak_0 c x1 x2 x3 T) : tM mX6_peak 3 (fun b => [.int x1, .int x2, .int x3]) T Q :=
  tM_mk (by decide) rfl (fun b => Nat.le_of_ble_eq_true rfl) (fun c hc ok => E.less2 (H c hc ok) (eS_s (eS_s (eS_s (eS_s eS_0)))))
/-! local (IIII)I level 4 -/
def h_local_0 (c : tC) (x1 : Int32) (x2 : Int32) (x3 : Int32) (x4 : Int32) (T : tS) : Prop := tX mX6_local 4 c 0 [some (.ref c.2.2.2.1), some (.int x1), some (.int x2), some (.int x3), some (.int x4), none, none, none, none, none, none] T
def h_local_55 (c : tC) (x3 : Int32) (x4 : Int32) (x5 : Int32) (x6 : Int64) (x8 : Int64) (x10 : Int32) (T : tS) : Prop := tX mX6_local 4 c 55 [some (.ref c.2.2.2.1), none, none, some (.int x3), some (.int x4), some (.int x5), some (.long x6), none, some (.long x8), none, some (.int x10)] T
def h_local_123 (c : tC) (x3 : Int32) (x4 : Int32) (x5 : Int32) (x6 : Int64) (x8 : Int64) (x10 : Int32) (T : tS) : Prop := tX mX6_local 4 c 123 [some (.ref c.2.2.2.1), none, none, some (.int x3), some (.int x4), some (.int x5), some (.long x6), none, some (.long x8), none, some (.int x10)] T
set_option maxHeartbeats 2000000 in
theorem s_local_0 (c : tC) (x1 : Int32) (x2 : Int32) (x3 : Int32) (x4 : Int32) (T : tS) (H : ((zI (x1 = 2 ∨ x1 = 3 ∨ x1 = 5)) = 0 → c.2.2.2.2.2.2 (some (.int (-1000000 : Int32))) T) ∧ (¬ (zI (x1 = 2 ∨ x1 = 3 ∨ x1 = 5)) = 0 → ((zI (0 ≤ x2.toInt64 ∧ x2.toInt64 ≤ (T.1 26 - 1).toInt64)) = 0 → c.2.2.2.2.2.2 (some (.int (-1000000 : Int32))) T) ∧ (¬ (zI (0 ≤ x2.toInt64 ∧ x2.toInt64 ≤ (T.1 26 - 1).toInt64)) = 0 → ((zI (0 ≤ x3.toInt64 ∧ x3.toInt64 ≤ (T.1 26 - 1).toInt64)) = 0 → c.2.2.2.2.2.2 (some (.int (-1000000 : Int32))) T) ∧ (¬ (zI (0 ≤ x3.toInt64 ∧ x3.toInt64 ≤ (T.1 26 - 1).toInt64)) = 0 → (¬ (zI ((0 : Int64) ≤ x4.toInt64 ∧ x4.toInt64 ≤ (1 : Int64))) = 0 → ∃ Q13 : Int32 → tS → Prop, tMi mX6_blockOf 3 (fun b => [.int x2, .int x1]) T Q13 ∧ ∀ (r18 : Int32) (T16 : tS), Q13 r18 T16 → h_local_55 c x3 x4 r18 (0 : Int64) (1 : Int64) (0 : Int32) T16) ∧ ((zI ((0 : Int64) ≤ x4.toInt64 ∧ x4.toInt64 ≤ (1 : Int64))) = 0 → c.2.2.2.2.2.2 (some (.int (-1000000 : Int32))) T))))) : h_local_0 c x1 x2 x3 x4 T := by
  intro ok
  refine e_iload_n dX6_local_0 rfl ?_
  refine t_callS (As := [.int x1]) ok (ct_isPrime x1) dX6_local_1 wX6_isPrime q2978 q2979 rfl (by decide) rfl (Nat.le_of_ble_eq_true rfl) ?_
  refine e_if_eq 34 dX6_local_4 (by decide) (fun g1 => ?_) (fun g1 => ?_)
  · replace H := H.1 g1
    refine e_ldcw dX6_local_34 q3013 ?_
    exact e_ireturn .int dX6_local_37 rfl rfl ⟨_, _, rfl, rfl, H⟩
  · replace H := H.2 g1
    refine e_aload_n dX6_local_7 rfl ?_
    refine e_iload_n dX6_local_8 rfl ?_
    refine t_callV (As := [.int x2]) ok (ct_isSort T x2) dX6_local_9 wX6_isSort q2934 q2936 qs113 rfl rfl (by decide) rfl (Nat.le_of_ble_eq_true rfl) (fun v2 T3 e5 => ?_)
    obtain ⟨r4, rfl, rfl, hT⟩ := e5
    rw [hT]
    refine e_if_eq 34 dX6_local_12 (by decide) (fun g6 => ?_) (fun g6 => ?_)
    · replace H := H.1 g6
      refine e_ldcw dX6_local_34 q3013 ?_
      exact e_ireturn .int dX6_local_37 rfl rfl ⟨_, _, rfl, rfl, H⟩
    · replace H := H.2 g6
      refine e_aload_n dX6_local_15 rfl ?_
      refine e_iload_n dX6_local_16 rfl ?_
      refine t_callV (As := [.int x3]) ok (ct_isSort T x3) dX6_local_17 wX6_isSort q2934 q2936 qs113 rfl rfl (by decide) rfl (Nat.le_of_ble_eq_true rfl) (fun v7 T8 e10 => ?_)
      obtain ⟨r9, rfl, rfl, hT⟩ := e10
      rw [hT]
      refine e_if_eq 34 dX6_local_20 (by decide) (fun g11 => ?_) (fun g11 => ?_)
      · replace H := H.1 g11
        refine e_ldcw dX6_local_34 q3013 ?_
        exact e_ireturn .int dX6_local_37 rfl rfl ⟨_, _, rfl, rfl, H⟩
      · replace H := H.2 g11
        refine e_iload dX6_local_23 rfl ?_
        refine e_i2l dX6_local_25 ?_
        refine e_lconst 0 dX6_local_26 (by decide) ?_
        refine e_lconst 1 dX6_local_27 (by decide) ?_
        refine t_callS (As := [.long x4.toInt64, .long (0 : Int64), .long (1 : Int64)]) ok (ct_isIn x4.toInt64 (0 : Int64) (1 : Int64)) dX6_local_28 wX6_isIn q2707 q2708 rfl (by decide) rfl (Nat.le_of_ble_eq_true rfl) ?_
        refine e_if_ne 38 dX6_local_31 (by decide) (fun g12 => ?_) (fun g12 => ?_)
        · replace H := H.1 g12
          refine e_aload_n dX6_local_38 rfl ?_
          refine e_iload_n dX6_local_39 rfl ?_
          refine e_iload_n dX6_local_40 rfl ?_
          obtain ⟨Q13, hC14, H⟩ := H
          refine t_callV (As := [.int x2, .int x1]) ok hC14 dX6_local_41 wX6_blockOf q2989 q2991 qs118 rfl rfl (by decide) rfl (Nat.le_of_ble_eq_true rfl) (fun v15 T16 e17 => ?_)
          obtain ⟨r18, rfl, e17⟩ := e17
          replace H := H r18 T16 e17
          refine e_istore _ dX6_local_44 (by decide) rfl rfl ?_
          refine e_lconst 0 dX6_local_46 (by decide) ?_
          refine e_lstore _ dX6_local_47 (by decide) rfl rfl ?_
          refine e_lconst 1 dX6_local_49 (by decide) ?_
          refine e_lstore _ dX6_local_50 (by decide) trivial rfl ?_
          refine e_iconst (0) dX6_local_52 (by decide) ?_
          refine e_istore _ dX6_local_53 (by decide) trivial rfl ?_
          exact E.less2 (H ok) (eS_s (eS_n (eS_n (eS_s (eS_s (eS_s (eS_s (eS_n (eS_s (eS_n (eS_s eS_0)))))))))))
        · replace H := H.2 g12
          refine e_ldcw dX6_local_34 q3013 ?_
          exact e_ireturn .int dX6_local_37 rfl rfl ⟨_, _, rfl, rfl, H⟩

set_option maxHeartbeats 2000000 in
theorem s_local_55 (c : tC) (x3 : Int32) (x4 : Int32) (x5 : Int32) (x6 : Int64) (x8 : Int64) (x10 : Int32) (T : tS) (H : ((T.1 26) ≤ x10 → (¬ x4 = 0 → c.2.2.2.2.2.2 (some (.int x8.toInt32)) T) ∧ (x4 = 0 → c.2.2.2.2.2.2 (some (.int x6.toInt32)) T)) ∧ (¬ (T.1 26) ≤ x10 → (¬ (zI (tBit x5 x10)) = 0 → ∃ Q4 : tS → Prop, tMv mX6_peaks 2 (fun b => [.int x10]) T Q4 ∧ ∀ T7 : tS, Q4 T7 → vp_in x3 64 ∧ (vp_in x3 64 ∧ (∃ Q12 : tS → Prop, tMv mX6_sumWith 1 (fun b => [.long (T7.2.2.2 50 x3.toNatClampNeg), .long (T7.2.2.2 51 x3.toNatClampNeg)]) (tL (tL T7 52 x6) 53 x8) Q12 ∧ ∀ T15 : tS, Q12 T15 → h_local_123 c x3 x4 x5 (T15.2.1 52) (T15.2.1 53) x10 T15))) ∧ ((zI (tBit x5 x10)) = 0 → h_local_123 c x3 x4 x5 x6 x8 x10 T))) : h_local_55 c x3 x4 x5 x6 x8 x10 T := by
  intro ok
  refine e_iload dX6_local_55 rfl ?_
  refine e_aload_n dX6_local_57 rfl ?_
  refine t_getI dX6_local_58 fX6_26 q2522 (by decide) rfl ?_
  refine e_icmp_ge 129 dX6_local_61 (by decide) (fun g1 => ?_) (fun g1 => ?_)
  · replace H := H.1 g1
    refine e_iload dX6_local_129 rfl ?_
    refine e_if_ne 139 dX6_local_131 (by decide) (fun g2 => ?_) (fun g2 => ?_)
    · replace H := H.1 g2
      refine e_lload dX6_local_139 rfl ?_
      refine e_l2i dX6_local_141 ?_
      exact e_ireturn .int dX6_local_142 rfl rfl ⟨_, _, rfl, rfl, H⟩
    · replace H := H.2 g2
      refine e_lload dX6_local_134 rfl ?_
      refine e_goto 141 dX6_local_136 (by decide) ?_
      refine e_l2i dX6_local_141 ?_
      exact e_ireturn .int dX6_local_142 rfl rfl ⟨_, _, rfl, rfl, H⟩
  · replace H := H.2 g1
    refine e_iload dX6_local_64 rfl ?_
    refine e_iload dX6_local_66 rfl ?_
    refine t_callS (As := [.int x5, .int x10]) ok (ct_holds x5 x10) dX6_local_68 wX6_holds q2447 q2448 rfl (by decide) rfl (Nat.le_of_ble_eq_true rfl) ?_
    refine e_if_ne 77 dX6_local_71 (by decide) (fun g3 => ?_) (fun g3 => ?_)
    · replace H := H.1 g3
      refine e_aload_n dX6_local_77 rfl ?_
      refine e_iload dX6_local_78 rfl ?_
      obtain ⟨Q4, hC5, H⟩ := H
      refine t_callV (As := [.int x10]) ok hC5 dX6_local_80 wX6_peaks q3030 q3032 qs119 rfl rfl (by decide) rfl (Nat.le_of_ble_eq_true rfl) (fun v6 T7 e8 => ?_)
      obtain ⟨rfl, e8⟩ := e8
      replace H := H T7 e8
      refine e_aload_n dX6_local_83 rfl ?_
      refine e_lload dX6_local_84 rfl ?_
      refine t_putL dX6_local_86 fX6_52 q2548 (eFit_l _) (by decide) rfl ok.1 ?_
      refine e_aload_n dX6_local_89 rfl ?_
      refine e_lload dX6_local_90 rfl ?_
      refine t_putL dX6_local_92 fX6_53 q2549 (eFit_l _) (by decide) rfl ok.1 ?_
      refine e_aload_n dX6_local_95 rfl ?_
      refine e_aload_n dX6_local_96 rfl ?_
      refine t_getA dX6_local_97 fX6_50 q2546 (by decide) rfl ?_
      refine e_iload_n dX6_local_100 rfl ?_
      obtain ⟨g10, H⟩ := H
      refine t_lald dX6_local_101 (by decide) rfl g10 ?_
      refine e_aload_n dX6_local_102 rfl ?_
      refine t_getA dX6_local_103 fX6_51 q2547 (by decide) rfl ?_
      refine e_iload_n dX6_local_106 rfl ?_
      obtain ⟨g11, H⟩ := H
      refine t_lald dX6_local_107 (by decide) rfl g11 ?_
      obtain ⟨Q12, hC13, H⟩ := H
      refine t_callV (As := [.long (T7.2.2.2 50 x3.toNatClampNeg), .long (T7.2.2.2 51 x3.toNatClampNeg)]) ok hC13 dX6_local_108 wX6_sumWith q3034 q3036 qs120 rfl rfl (by decide) rfl (Nat.le_of_ble_eq_true rfl) (fun v14 T15 e16 => ?_)
      obtain ⟨rfl, e16⟩ := e16
      replace H := H T15 e16
      refine e_aload_n dX6_local_111 rfl ?_
      refine t_getL dX6_local_112 fX6_52 q2548 (by decide) rfl ?_
      refine e_lstore _ dX6_local_115 (by decide) rfl rfl ?_
      refine e_aload_n dX6_local_117 rfl ?_
      refine t_getL dX6_local_118 fX6_53 q2549 (by decide) rfl ?_
      refine e_lstore _ dX6_local_121 (by decide) trivial rfl ?_
      exact H ok
    · replace H := H.2 g3
      refine e_goto 123 dX6_local_74 (by decide) ?_
      exact H ok

set_option maxHeartbeats 2000000 in
theorem s_local_123 (c : tC) (x3 : Int32) (x4 : Int32) (x5 : Int32) (x6 : Int64) (x8 : Int64) (x10 : Int32) (T : tS) (H : h_local_55 c x3 x4 x5 x6 x8 (x10 + 1) T) : h_local_123 c x3 x4 x5 x6 x8 x10 T := by
  intro ok
  refine e_iinc (x10 + 1) _ dX6_local_123 rfl rfl (by decide) trivial rfl ?_
  refine e_goto 55 dX6_local_126 (by decide) ?_
  exact H ok

theorem en_local (x1 : Int32) (x2 : Int32) (x3 : Int32) (x4 : Int32) (T : tS) (Q : Option Value → tS → Prop) (H : ∀ c : tC, c.2.2.2.2.2.2 = Q → h_local_0 c x1 x2 x3 x4 T) : tM mX6_local 4 (fun b => [.int x1, .int x2, .int x3, .int x4]) T Q :=
  tM_mk (by decide) rfl (fun b => Nat.le_of_ble_eq_true rfl) (fun c hc ok => E.less2 (H c hc ok) (eS_s (eS_s (eS_s (eS_s (eS_s (eS_n (eS_n (eS_n (eS_n (eS_n (eS_n eS_0))))))))))))
/-! laysMade (I)V level 3 -/
def h_laysMade_0 (c : tC) (x1 : Int32) (T : tS) : Prop := tX mX6_laysMade 3 c 0 [some (.ref c.2.2.2.1), some (.int x1), none, none, none] T
def h_laysMade_21 (c : tC) (x2 : Int32) (x3 : Int32) (x4 : Int32) (T : tS) : Prop := tX mX6_laysMade 3 c 21 [some (.ref c.2.2.2.1), none, some (.int x2), some (.int x3), some (.int x4)] T
def h_laysMade_87 (c : tC) (x2 : Int32) (x3 : Int32) (x4 : Int32) (T : tS) : Prop := tX mX6_laysMade 3 c 87 [some (.ref c.2.2.2.1), none, some (.int x2), some (.int x3), some (.int x4)] T
set_option maxHeartbeats 2000000 in
theorem s_laysMade_0 (c : tC) (x1 : Int32) (T : tS) (H : vp_in x1 64 ∧ (∃ Q2 : Int32 → tS → Prop, tMi mX6_normOf 2 (fun b => [.int (T.2.2.1 29 x1.toNatClampNeg)]) T Q2 ∧ ∀ (r7 : Int32) (T5 : tS), Q2 r7 T5 → h_laysMade_21 c (T.2.2.1 29 x1.toNatClampNeg) r7 (0 : Int32) (tI T5 55 (0 : Int32)))) : h_laysMade_0 c x1 T := by
  intro ok
  refine e_aload_n dX6_laysMade_0 rfl ?_
  refine t_getA dX6_laysMade_1 fX6_29 q2525 (by decide) rfl ?_
  refine e_iload_n dX6_laysMade_4 rfl ?_
  obtain ⟨g1, H⟩ := H
  refine t_iald dX6_laysMade_5 (by decide) rfl g1 ?_
  refine e_istore_n _ dX6_laysMade_6 (by decide) rfl rfl ?_
  refine e_aload_n dX6_laysMade_7 rfl ?_
  refine e_iload_n dX6_laysMade_8 rfl ?_
  obtain ⟨Q2, hC3, H⟩ := H
  refine t_callV (As := [.int (T.2.2.1 29 x1.toNatClampNeg)]) ok hC3 dX6_laysMade_9 wX6_normOf q2938 q2940 qs114 rfl rfl (by decide) rfl (Nat.le_of_ble_eq_true rfl) (fun v4 T5 e6 => ?_)
  obtain ⟨r7, rfl, e6⟩ := e6
  replace H := H r7 T5 e6
  refine e_istore_n _ dX6_laysMade_12 (by decide) rfl rfl ?_
  refine e_aload_n dX6_laysMade_13 rfl ?_
  refine e_iconst (0) dX6_laysMade_14 (by decide) ?_
  refine t_putI dX6_laysMade_15 fX6_55 q2551 (eFit_i _) (by decide) rfl ok.1 ?_
  refine e_iconst (0) dX6_laysMade_18 (by decide) ?_
  refine e_istore _ dX6_laysMade_19 (by decide) rfl rfl ?_
  exact E.less2 (H ok) (eS_s (eS_n (eS_s (eS_s (eS_s eS_0)))))

set_option maxHeartbeats 2000000 in
theorem s_laysMade_21 (c : tC) (x2 : Int32) (x3 : Int32) (x4 : Int32) (T : tS) (H : ((T.1 20) ≤ x4 → c.2.2.2.2.2.2 none T) ∧ (¬ (T.1 20) ≤ x4 → ((zI (tBit x3 x4)) = 0 → h_laysMade_87 c x2 x3 x4 T) ∧ (¬ (zI (tBit x3 x4)) = 0 → ∃ Q3 : Int32 → tS → Prop, tMi mX6_leastOf 1 (fun b => [.int x2, .int x4]) T Q3 ∧ ∀ (r8 : Int32) (T6 : tS), Q3 r8 T6 → (r8 = x4 → ∃ Q10 : Int32 → tS → Prop, tMi mX6_closed 1 (fun b => [.int (x2 ||| ((1 : Int32) <<< (x4 &&& 31)))]) T6 Q10 ∧ ∀ (r15 : Int32) (T13 : tS), Q10 r15 T13 → ∃ Q16 : Int32 → tS → Prop, tMi mX6_sortOfSet 1 (fun b => [.int r15]) T13 Q16 ∧ ∀ (r21 : Int32) (T19 : tS), Q16 r21 T19 → vp_in (T6.1 55) 24 ∧ (h_laysMade_87 c x2 x3 x4 (tI (tA T19 54 (va_up (T19.2.2.1 54) (T6.1 55).toNatClampNeg r21)) 55 ((T19.1 55) + (1 : Int32))))) ∧ (¬ r8 = x4 → h_laysMade_87 c x2 x3 x4 T6)))) : h_laysMade_21 c x2 x3 x4 T := by
  intro ok
  refine e_iload dX6_laysMade_21 rfl ?_
  refine e_aload_n dX6_laysMade_23 rfl ?_
  refine t_getI dX6_laysMade_24 fX6_20 q2516 (by decide) rfl ?_
  refine e_icmp_ge 93 dX6_laysMade_27 (by decide) (fun g1 => ?_) (fun g1 => ?_)
  · replace H := H.1 g1
    exact e_return dX6_laysMade_93 rfl ⟨_, _, rfl, rfl, H⟩
  · replace H := H.2 g1
    refine e_iload_n dX6_laysMade_30 rfl ?_
    refine e_iload dX6_laysMade_31 rfl ?_
    refine t_callS (As := [.int x3, .int x4]) ok (ct_holds x3 x4) dX6_laysMade_33 wX6_holds q2447 q2448 rfl (by decide) rfl (Nat.le_of_ble_eq_true rfl) ?_
    refine e_if_eq 87 dX6_laysMade_36 (by decide) (fun g2 => ?_) (fun g2 => ?_)
    · replace H := H.1 g2
      exact H ok
    · replace H := H.2 g2
      refine e_aload_n dX6_laysMade_39 rfl ?_
      refine e_iload_n dX6_laysMade_40 rfl ?_
      refine e_iload dX6_laysMade_41 rfl ?_
      obtain ⟨Q3, hC4, H⟩ := H
      refine t_callV (As := [.int x2, .int x4]) ok hC4 dX6_laysMade_43 wX6_leastOf q2481 q2483 qs68 rfl rfl (by decide) rfl (Nat.le_of_ble_eq_true rfl) (fun v5 T6 e7 => ?_)
      obtain ⟨r8, rfl, e7⟩ := e7
      replace H := H r8 T6 e7
      refine e_iload dX6_laysMade_46 rfl ?_
      refine e_icmp_eq 54 dX6_laysMade_48 (by decide) (fun g9 => ?_) (fun g9 => ?_)
      · replace H := H.1 g9
        refine e_aload_n dX6_laysMade_54 rfl ?_
        refine t_getA dX6_laysMade_55 fX6_54 q2550 (by decide) rfl ?_
        refine e_aload_n dX6_laysMade_58 rfl ?_
        refine t_getI dX6_laysMade_59 fX6_55 q2551 (by decide) rfl ?_
        refine e_aload_n dX6_laysMade_62 rfl ?_
        refine e_aload_n dX6_laysMade_63 rfl ?_
        refine e_iload_n dX6_laysMade_64 rfl ?_
        refine e_iconst (1) dX6_laysMade_65 (by decide) ?_
        refine e_iload dX6_laysMade_66 rfl ?_
        refine e_ishl dX6_laysMade_68 ?_
        refine e_ior dX6_laysMade_69 ?_
        obtain ⟨Q10, hC11, H⟩ := H
        refine t_callV (As := [.int (x2 ||| ((1 : Int32) <<< (x4 &&& 31)))]) ok hC11 dX6_laysMade_70 wX6_closed q2450 q2452 qs61 rfl rfl (by decide) rfl (Nat.le_of_ble_eq_true rfl) (fun v12 T13 e14 => ?_)
        obtain ⟨r15, rfl, e14⟩ := e14
        replace H := H r15 T13 e14
        obtain ⟨Q16, hC17, H⟩ := H
        refine t_callV (As := [.int r15]) ok hC17 dX6_laysMade_73 wX6_sortOfSet q2926 q2928 qs112 rfl rfl (by decide) rfl (Nat.le_of_ble_eq_true rfl) (fun v18 T19 e20 => ?_)
        obtain ⟨r21, rfl, e20⟩ := e20
        replace H := H r21 T19 e20
        obtain ⟨g22, H⟩ := H
        refine t_iast dX6_laysMade_76 (by decide) rfl ok.1 g22 ?_
        refine e_aload_n dX6_laysMade_77 rfl ?_
        refine e_dup dX6_laysMade_78 rfl ?_
        refine t_getI dX6_laysMade_79 fX6_55 q2551 (by decide) rfl ?_
        refine e_iconst (1) dX6_laysMade_82 (by decide) ?_
        refine e_iadd dX6_laysMade_83 ?_
        refine t_putI dX6_laysMade_84 fX6_55 q2551 (eFit_i _) (by decide) rfl ok.1 ?_
        exact H ok
      · replace H := H.2 g9
        refine e_goto 87 dX6_laysMade_51 (by decide) ?_
        exact H ok

set_option maxHeartbeats 2000000 in
theorem s_laysMade_87 (c : tC) (x2 : Int32) (x3 : Int32) (x4 : Int32) (T : tS) (H : h_laysMade_21 c x2 x3 (x4 + 1) T) : h_laysMade_87 c x2 x3 x4 T := by
  intro ok
  refine e_iinc (x4 + 1) _ dX6_laysMade_87 rfl rfl (by decide) rfl rfl ?_
  refine e_goto 21 dX6_laysMade_90 (by decide) ?_
  exact H ok

theorem en_laysMade (x1 : Int32) (T : tS) (Q : Option Value → tS → Prop) (H : ∀ c : tC, c.2.2.2.2.2.2 = Q → h_laysMade_0 c x1 T) : tM mX6_laysMade 3 (fun b => [.int x1]) T Q :=
  tM_mk (by decide) rfl (fun b => Nat.le_of_ble_eq_true rfl) (fun c hc ok => E.less2 (H c hc ok) (eS_s (eS_s (eS_n (eS_n (eS_n eS_0))))))
/-! congruenceOf ([JI)J level 4 -/
def h_congruenceOf_0 (c : tC) (x1 : Nat) (x2 : Int32) (T : tS) : Prop := tX mX6_congruenceOf 4 c 0 [some (.ref c.2.2.2.1), some (.ref (tAd c.2.2.2.1 x1)), some (.int x2), none, none, none] T
def h_congruenceOf_10 (c : tC) (x1 : Nat) (x3 : Int64) (x5 : Int32) (T : tS) : Prop := tX mX6_congruenceOf 4 c 10 [some (.ref c.2.2.2.1), some (.ref (tAd c.2.2.2.1 x1)), none, some (.long x3), none, some (.int x5)] T
set_option maxHeartbeats 2000000 in
theorem s_congruenceOf_0 (c : tC) (x1 : Nat) (x2 : Int32) (T : tS) (ha1 : x1 < 66) (hk1 : tKd x1 = 3) (H : ∃ Q1 : tS → Prop, tMv mX6_laysMade 3 (fun b => [.int x2]) T Q1 ∧ ∀ T4 : tS, Q1 T4 → h_congruenceOf_10 c x1 (0 : Int64) (0 : Int32) T4) : h_congruenceOf_0 c x1 x2 T := by
  intro ok
  refine e_aload_n dX6_congruenceOf_0 rfl ?_
  refine e_iload_n dX6_congruenceOf_1 rfl ?_
  obtain ⟨Q1, hC2, H⟩ := H
  refine t_callV (As := [.int x2]) ok hC2 dX6_congruenceOf_2 wX6_laysMade q3053 q3055 qs122 rfl rfl (by decide) rfl (Nat.le_of_ble_eq_true rfl) (fun v3 T4 e5 => ?_)
  obtain ⟨rfl, e5⟩ := e5
  replace H := H T4 e5
  refine e_lconst 0 dX6_congruenceOf_5 (by decide) ?_
  refine e_lstore_n _ dX6_congruenceOf_6 (by decide) rfl rfl ?_
  refine e_iconst (0) dX6_congruenceOf_7 (by decide) ?_
  refine e_istore _ dX6_congruenceOf_8 (by decide) trivial rfl ?_
  exact E.less2 (H ok) (eS_s (eS_s (eS_n (eS_s (eS_n (eS_s eS_0))))))

set_option maxHeartbeats 2000000 in
theorem s_congruenceOf_10 (c : tC) (x1 : Nat) (x3 : Int64) (x5 : Int32) (T : tS) (ha1 : x1 < 66) (hk1 : tKd x1 = 3) (H : ((T.1 55) ≤ x5 → c.2.2.2.2.2.2 (some (.long x3)) T) ∧ (¬ (T.1 55) ≤ x5 → vp_in x5 24 ∧ (vp_in (T.2.2.1 54 x5.toNatClampNeg) (tLn x1) ∧ (h_congruenceOf_10 c x1 (x3 + (T.2.2.2 x1 (T.2.2.1 54 x5.toNatClampNeg).toNatClampNeg)) (x5 + 1) T)))) : h_congruenceOf_10 c x1 x3 x5 T := by
  intro ok
  refine e_iload dX6_congruenceOf_10 rfl ?_
  refine e_aload_n dX6_congruenceOf_12 rfl ?_
  refine t_getI dX6_congruenceOf_13 fX6_55 q2551 (by decide) rfl ?_
  refine e_icmp_ge 37 dX6_congruenceOf_16 (by decide) (fun g1 => ?_) (fun g1 => ?_)
  · replace H := H.1 g1
    refine e_lload_n dX6_congruenceOf_37 rfl ?_
    exact e_lreturn dX6_congruenceOf_38 rfl ⟨_, _, rfl, rfl, H⟩
  · replace H := H.2 g1
    refine e_lload_n dX6_congruenceOf_19 rfl ?_
    refine e_aload_n dX6_congruenceOf_20 rfl ?_
    refine e_aload_n dX6_congruenceOf_21 rfl ?_
    refine t_getA dX6_congruenceOf_22 fX6_54 q2550 (by decide) rfl ?_
    refine e_iload dX6_congruenceOf_25 rfl ?_
    obtain ⟨g2, H⟩ := H
    refine t_iald dX6_congruenceOf_27 (by decide) rfl g2 ?_
    obtain ⟨g3, H⟩ := H
    refine t_lald dX6_congruenceOf_28 ha1 hk1 g3 ?_
    refine e_ladd dX6_congruenceOf_29 ?_
    refine e_lstore_n _ dX6_congruenceOf_30 (by decide) trivial rfl ?_
    refine e_iinc (x5 + 1) _ dX6_congruenceOf_31 rfl rfl (by decide) trivial rfl ?_
    refine e_goto 10 dX6_congruenceOf_34 (by decide) ?_
    exact H ok

theorem en_congruenceOf (x1 : Nat) (x2 : Int32) (T : tS) (Q : Option Value → tS → Prop) (H : ∀ c : tC, c.2.2.2.2.2.2 = Q → h_congruenceOf_0 c x1 x2 T) : tM mX6_congruenceOf 4 (fun b => [.ref (tAd b x1), .int x2]) T Q :=
  tM_mk (by decide) rfl (fun b => Nat.le_of_ble_eq_true rfl) (fun c hc ok => E.less2 (H c hc ok) (eS_s (eS_s (eS_s (eS_n (eS_n (eS_n eS_0)))))))
/-! isUnitAt (II)Z level 1 -/
def h_isUnitAt_0 (c : tC) (x1 : Int32) (T : tS) : Prop := tX mX6_isUnitAt 1 c 0 [some (.ref c.2.2.2.1), some (.int x1), none, none, none] T
def h_isUnitAt_5 (c : tC) (x1 : Int32) (x3 : Int32) (x4 : Int32) (T : tS) : Prop := tX mX6_isUnitAt 1 c 5 [some (.ref c.2.2.2.1), some (.int x1), none, some (.int x3), some (.int x4)] T
set_option maxHeartbeats 2000000 in
theorem s_isUnitAt_0 (c : tC) (x1 : Int32) (T : tS) (H : h_isUnitAt_5 c x1 (0 : Int32) (0 : Int32) T) : h_isUnitAt_0 c x1 T := by
  intro ok
  refine e_iconst (0) dX6_isUnitAt_0 (by decide) ?_
  refine e_istore_n _ dX6_isUnitAt_1 (by decide) trivial rfl ?_
  refine e_iconst (0) dX6_isUnitAt_2 (by decide) ?_
  refine e_istore _ dX6_isUnitAt_3 (by decide) rfl rfl ?_
  exact H ok

set_option maxHeartbeats 2000000 in
theorem s_isUnitAt_5 (c : tC) (x1 : Int32) (x3 : Int32) (x4 : Int32) (T : tS) (H : ((T.1 55) ≤ x4 → ¬ (T.1 55) = 0 ∧ ((¬ (x3 - x3 / (T.1 55) * (T.1 55)) = 0 → c.2.2.2.2.2.2 (some (.int (0 : Int32))) T) ∧ ((x3 - x3 / (T.1 55) * (T.1 55)) = 0 → c.2.2.2.2.2.2 (some (.int (1 : Int32))) T))) ∧ (¬ (T.1 55) ≤ x4 → vp_in x4 24 ∧ (((zI (tBit x1 (((T.1 26) - (1 : Int32)) - (T.2.2.1 54 x4.toNatClampNeg)))) = 0 → h_isUnitAt_5 c x1 (x3 + (1 : Int32)) (x4 + 1) T) ∧ (¬ (zI (tBit x1 (((T.1 26) - (1 : Int32)) - (T.2.2.1 54 x4.toNatClampNeg)))) = 0 → h_isUnitAt_5 c x1 (x3 + (-1 : Int32)) (x4 + 1) T)))) : h_isUnitAt_5 c x1 x3 x4 T := by
  intro ok
  refine e_iload dX6_isUnitAt_5 rfl ?_
  refine e_aload_n dX6_isUnitAt_7 rfl ?_
  refine t_getI dX6_isUnitAt_8 fX6_55 q2551 (by decide) rfl ?_
  refine e_icmp_ge 49 dX6_isUnitAt_11 (by decide) (fun g1 => ?_) (fun g1 => ?_)
  · replace H := H.1 g1
    refine e_iload_n dX6_isUnitAt_49 rfl ?_
    refine e_aload_n dX6_isUnitAt_50 rfl ?_
    refine t_getI dX6_isUnitAt_51 fX6_55 q2551 (by decide) rfl ?_
    obtain ⟨g2, H⟩ := H
    refine e_irem dX6_isUnitAt_54 g2 ?_
    refine e_if_ne 62 dX6_isUnitAt_55 (by decide) (fun g3 => ?_) (fun g3 => ?_)
    · replace H := H.1 g3
      refine e_iconst (0) dX6_isUnitAt_62 (by decide) ?_
      exact e_ireturn .boolean dX6_isUnitAt_63 rfl (by decide) ⟨_, _, rfl, rfl, H⟩
    · replace H := H.2 g3
      refine e_iconst (1) dX6_isUnitAt_58 (by decide) ?_
      refine e_goto 63 dX6_isUnitAt_59 (by decide) ?_
      exact e_ireturn .boolean dX6_isUnitAt_63 rfl (by decide) ⟨_, _, rfl, rfl, H⟩
  · replace H := H.2 g1
    refine e_iload_n dX6_isUnitAt_14 rfl ?_
    refine e_iload_n dX6_isUnitAt_15 rfl ?_
    refine e_aload_n dX6_isUnitAt_16 rfl ?_
    refine t_getI dX6_isUnitAt_17 fX6_26 q2522 (by decide) rfl ?_
    refine e_iconst (1) dX6_isUnitAt_20 (by decide) ?_
    refine e_isub dX6_isUnitAt_21 ?_
    refine e_aload_n dX6_isUnitAt_22 rfl ?_
    refine t_getA dX6_isUnitAt_23 fX6_54 q2550 (by decide) rfl ?_
    refine e_iload dX6_isUnitAt_26 rfl ?_
    obtain ⟨g4, H⟩ := H
    refine t_iald dX6_isUnitAt_28 (by decide) rfl g4 ?_
    refine e_isub dX6_isUnitAt_29 ?_
    refine t_callS (As := [.int x1, .int (((T.1 26) - (1 : Int32)) - (T.2.2.1 54 x4.toNatClampNeg))]) ok (ct_holds x1 (((T.1 26) - (1 : Int32)) - (T.2.2.1 54 x4.toNatClampNeg))) dX6_isUnitAt_30 wX6_holds q2447 q2448 rfl (by decide) rfl (Nat.le_of_ble_eq_true rfl) ?_
    refine e_if_eq 40 dX6_isUnitAt_33 (by decide) (fun g5 => ?_) (fun g5 => ?_)
    · replace H := H.1 g5
      refine e_iconst (1) dX6_isUnitAt_40 (by decide) ?_
      refine e_iadd dX6_isUnitAt_41 ?_
      refine e_istore_n _ dX6_isUnitAt_42 (by decide) trivial rfl ?_
      refine e_iinc (x4 + 1) _ dX6_isUnitAt_43 rfl rfl (by decide) rfl rfl ?_
      refine e_goto 5 dX6_isUnitAt_46 (by decide) ?_
      exact H ok
    · replace H := H.2 g5
      refine e_iconst (-1) dX6_isUnitAt_36 (by decide) ?_
      refine e_goto 41 dX6_isUnitAt_37 (by decide) ?_
      refine e_iadd dX6_isUnitAt_41 ?_
      refine e_istore_n _ dX6_isUnitAt_42 (by decide) trivial rfl ?_
      refine e_iinc (x4 + 1) _ dX6_isUnitAt_43 rfl rfl (by decide) rfl rfl ?_
      refine e_goto 5 dX6_isUnitAt_46 (by decide) ?_
      exact H ok

theorem en_isUnitAt (x1 : Int32) (x2 : Int32) (T : tS) (Q : Option Value → tS → Prop) (H : ∀ c : tC, c.2.2.2.2.2.2 = Q → h_isUnitAt_0 c x1 T) : tM mX6_isUnitAt 1 (fun b => [.int x1, .int x2]) T Q :=
  tM_mk (by decide) rfl (fun b => Nat.le_of_ble_eq_true rfl) (fun c hc ok => E.less2 (H c hc ok) (eS_s (eS_s (eS_n (eS_n (eS_n eS_0))))))
/-! laysUnits ()V level 4 -/
def h_laysUnits_0 (c : tC) (T : tS) : Prop := tX mX6_laysUnits 4 c 0 [some (.ref c.2.2.2.1), none, none, none, none, none] T
def h_laysUnits_32 (c : tC) (x1 : Int32) (T : tS) : Prop := tX mX6_laysUnits 4 c 32 [some (.ref c.2.2.2.1), some (.int x1), none, none, none, none] T
def h_laysUnits_63 (c : tC) (x1 : Int32) (x2 : Int32) (x3 : Int32) (x4 : Int32) (x5 : Int32) (T : tS) : Prop := tX mX6_laysUnits 4 c 63 [some (.ref c.2.2.2.1), some (.int x1), some (.int x2), some (.int x3), some (.int x4), some (.int x5)] T
def h_laysUnits_111 (c : tC) (x1 : Int32) (x2 : Int32) (x3 : Int32) (x4 : Int32) (x5 : Int32) (T : tS) : Prop := tX mX6_laysUnits 4 c 111 [some (.ref c.2.2.2.1), some (.int x1), some (.int x2), some (.int x3), some (.int x4), some (.int x5)] T
def h_laysUnits_120 (c : tC) (x1 : Int32) (x3 : Int32) (x4 : Int32) (x5 : Int32) (T : tS) : Prop := tX mX6_laysUnits 4 c 120 [some (.ref c.2.2.2.1), some (.int x1), none, some (.int x3), some (.int x4), some (.int x5)] T
def h_laysUnits_163 (c : tC) (x1 : Int32) (x3 : Int32) (x4 : Int32) (x5 : Int32) (T : tS) : Prop := tX mX6_laysUnits 4 c 163 [some (.ref c.2.2.2.1), some (.int x1), none, some (.int x3), some (.int x4), some (.int x5)] T
def h_laysUnits_175 (c : tC) (x1 : Int32) (x3 : Int32) (x4 : Int32) (x5 : Int32) (T : tS) : Prop := tX mX6_laysUnits 4 c 175 [some (.ref c.2.2.2.1), some (.int x1), none, some (.int x3), some (.int x4), some (.int x5)] T
set_option maxHeartbeats 2000000 in
theorem s_laysUnits_0 (c : tC) (T : tS) (H : ((T.1 58) = 0 → vp_in (0 : Int32) 65536 ∧ (h_laysUnits_32 c ((T.1 26) - (1 : Int32)) (tA (tI (tI T 58 (1 : Int32)) 57 (1 : Int32)) 56 (va_up (T.2.2.1 56) (0 : Int32).toNatClampNeg (0 : Int32))))) ∧ (¬ (T.1 58) = 0 → c.2.2.2.2.2.2 none T)) : h_laysUnits_0 c T := by
  intro ok
  refine e_aload_n dX6_laysUnits_0 rfl ?_
  refine t_getI dX6_laysUnits_1 fX6_58 q2554 (by decide) rfl ?_
  refine e_if_eq 8 dX6_laysUnits_4 (by decide) (fun g1 => ?_) (fun g1 => ?_)
  · replace H := H.1 g1
    refine e_aload_n dX6_laysUnits_8 rfl ?_
    refine e_iconst (1) dX6_laysUnits_9 (by decide) ?_
    refine t_putI dX6_laysUnits_10 fX6_58 q2554 eFit_z1 (by decide) rfl ok.1 ?_
    refine e_aload_n dX6_laysUnits_13 rfl ?_
    refine e_iconst (1) dX6_laysUnits_14 (by decide) ?_
    refine t_putI dX6_laysUnits_15 fX6_57 q2553 (eFit_i _) (by decide) rfl ok.1 ?_
    refine e_aload_n dX6_laysUnits_18 rfl ?_
    refine t_getA dX6_laysUnits_19 fX6_56 q2552 (by decide) rfl ?_
    refine e_iconst (0) dX6_laysUnits_22 (by decide) ?_
    refine e_iconst (0) dX6_laysUnits_23 (by decide) ?_
    obtain ⟨g2, H⟩ := H
    refine t_iast dX6_laysUnits_24 (by decide) rfl ok.1 g2 ?_
    refine e_aload_n dX6_laysUnits_25 rfl ?_
    refine t_getI dX6_laysUnits_26 fX6_26 q2522 (by decide) rfl ?_
    refine e_iconst (1) dX6_laysUnits_29 (by decide) ?_
    refine e_isub dX6_laysUnits_30 ?_
    refine e_istore_n _ dX6_laysUnits_31 (by decide) rfl rfl ?_
    exact H ok
  · replace H := H.2 g1
    exact e_return dX6_laysUnits_7 rfl ⟨_, _, rfl, rfl, H⟩

set_option maxHeartbeats 2000000 in
theorem s_laysUnits_32 (c : tC) (x1 : Int32) (T : tS) (H : (x1 < 0 → c.2.2.2.2.2.2 none T) ∧ (¬ x1 < 0 → ∃ Q2 : tS → Prop, tMv mX6_laysMade 3 (fun b => [.int x1]) T Q2 ∧ ∀ T5 : tS, Q2 T5 → h_laysUnits_63 c x1 ((1 : Int32) <<< ((((T5.1 26) - (1 : Int32)) - x1) &&& 31)) (0 : Int32) (T5.1 57) (0 : Int32) T5)) : h_laysUnits_32 c x1 T := by
  intro ok
  refine e_iload_n dX6_laysUnits_32 rfl ?_
  refine e_if_lt 215 dX6_laysUnits_33 (by decide) (fun g1 => ?_) (fun g1 => ?_)
  · replace H := H.1 g1
    exact e_return dX6_laysUnits_215 rfl ⟨_, _, rfl, rfl, H⟩
  · replace H := H.2 g1
    refine e_aload_n dX6_laysUnits_36 rfl ?_
    refine e_iload_n dX6_laysUnits_37 rfl ?_
    obtain ⟨Q2, hC3, H⟩ := H
    refine t_callV (As := [.int x1]) ok hC3 dX6_laysUnits_38 wX6_laysMade q3053 q3055 qs122 rfl rfl (by decide) rfl (Nat.le_of_ble_eq_true rfl) (fun v4 T5 e6 => ?_)
    obtain ⟨rfl, e6⟩ := e6
    replace H := H T5 e6
    refine e_iconst (1) dX6_laysUnits_41 (by decide) ?_
    refine e_aload_n dX6_laysUnits_42 rfl ?_
    refine t_getI dX6_laysUnits_43 fX6_26 q2522 (by decide) rfl ?_
    refine e_iconst (1) dX6_laysUnits_46 (by decide) ?_
    refine e_isub dX6_laysUnits_47 ?_
    refine e_iload_n dX6_laysUnits_48 rfl ?_
    refine e_isub dX6_laysUnits_49 ?_
    refine e_ishl dX6_laysUnits_50 ?_
    refine e_istore_n _ dX6_laysUnits_51 (by decide) rfl rfl ?_
    refine e_iconst (0) dX6_laysUnits_52 (by decide) ?_
    refine e_istore_n _ dX6_laysUnits_53 (by decide) rfl rfl ?_
    refine e_aload_n dX6_laysUnits_54 rfl ?_
    refine t_getI dX6_laysUnits_55 fX6_57 q2553 (by decide) rfl ?_
    refine e_istore _ dX6_laysUnits_58 (by decide) rfl rfl ?_
    refine e_iconst (0) dX6_laysUnits_60 (by decide) ?_
    refine e_istore _ dX6_laysUnits_61 (by decide) rfl rfl ?_
    exact H ok

set_option maxHeartbeats 2000000 in
theorem s_laysUnits_63 (c : tC) (x1 : Int32) (x2 : Int32) (x3 : Int32) (x4 : Int32) (x5 : Int32) (T : tS) (H : ((T.1 57) ≤ x5 → h_laysUnits_120 c x1 x3 x4 (0 : Int32) T) ∧ (¬ (T.1 57) ≤ x5 → vp_in x5 65536 ∧ (∃ Q3 : Int32 → tS → Prop, tMi mX6_isUnitAt 1 (fun b => [.int ((T.2.2.1 56 x5.toNatClampNeg) ||| x2), .int x1]) T Q3 ∧ ∀ (r8 : Int32) (T6 : tS), Q3 r8 T6 → (¬ r8 = 0 → vp_in x5 65536 ∧ (vp_in x4 65536 ∧ (h_laysUnits_111 c x1 x2 x3 (x4 + 1) x5 (tA T6 56 (va_up (T6.2.2.1 56) x4.toNatClampNeg ((T6.2.2.1 56 x5.toNatClampNeg) ||| x2)))))) ∧ (r8 = 0 → h_laysUnits_111 c x1 x2 x3 x4 x5 T6)))) : h_laysUnits_63 c x1 x2 x3 x4 x5 T := by
  intro ok
  refine e_iload dX6_laysUnits_63 rfl ?_
  refine e_aload_n dX6_laysUnits_65 rfl ?_
  refine t_getI dX6_laysUnits_66 fX6_57 q2553 (by decide) rfl ?_
  refine e_icmp_ge 117 dX6_laysUnits_69 (by decide) (fun g1 => ?_) (fun g1 => ?_)
  · replace H := H.1 g1
    refine e_iconst (0) dX6_laysUnits_117 (by decide) ?_
    refine e_istore _ dX6_laysUnits_118 (by decide) rfl rfl ?_
    exact E.less2 (H ok) (eS_s (eS_s (eS_n (eS_s (eS_s (eS_s eS_0))))))
  · replace H := H.2 g1
    refine e_aload_n dX6_laysUnits_72 rfl ?_
    refine e_aload_n dX6_laysUnits_73 rfl ?_
    refine t_getA dX6_laysUnits_74 fX6_56 q2552 (by decide) rfl ?_
    refine e_iload dX6_laysUnits_77 rfl ?_
    obtain ⟨g2, H⟩ := H
    refine t_iald dX6_laysUnits_79 (by decide) rfl g2 ?_
    refine e_iload_n dX6_laysUnits_80 rfl ?_
    refine e_ior dX6_laysUnits_81 ?_
    refine e_iload_n dX6_laysUnits_82 rfl ?_
    obtain ⟨Q3, hC4, H⟩ := H
    refine t_callV (As := [.int ((T.2.2.1 56 x5.toNatClampNeg) ||| x2), .int x1]) ok hC4 dX6_laysUnits_83 wX6_isUnitAt q3057 q3059 qs123 rfl rfl (by decide) rfl (Nat.le_of_ble_eq_true rfl) (fun v5 T6 e7 => ?_)
    obtain ⟨r8, rfl, e7⟩ := e7
    replace H := H r8 T6 e7
    refine e_if_ne 92 dX6_laysUnits_86 (by decide) (fun g9 => ?_) (fun g9 => ?_)
    · replace H := H.1 g9
      refine e_aload_n dX6_laysUnits_92 rfl ?_
      refine t_getA dX6_laysUnits_93 fX6_56 q2552 (by decide) rfl ?_
      refine e_iload dX6_laysUnits_96 rfl ?_
      refine e_aload_n dX6_laysUnits_98 rfl ?_
      refine t_getA dX6_laysUnits_99 fX6_56 q2552 (by decide) rfl ?_
      refine e_iload dX6_laysUnits_102 rfl ?_
      obtain ⟨g10, H⟩ := H
      refine t_iald dX6_laysUnits_104 (by decide) rfl g10 ?_
      refine e_iload_n dX6_laysUnits_105 rfl ?_
      refine e_ior dX6_laysUnits_106 ?_
      obtain ⟨g11, H⟩ := H
      refine t_iast dX6_laysUnits_107 (by decide) rfl ok.1 g11 ?_
      refine e_iinc (x4 + 1) _ dX6_laysUnits_108 rfl rfl (by decide) rfl rfl ?_
      exact H ok
    · replace H := H.2 g9
      refine e_goto 111 dX6_laysUnits_89 (by decide) ?_
      exact H ok

set_option maxHeartbeats 2000000 in
theorem s_laysUnits_111 (c : tC) (x1 : Int32) (x2 : Int32) (x3 : Int32) (x4 : Int32) (x5 : Int32) (T : tS) (H : h_laysUnits_63 c x1 x2 x3 x4 (x5 + 1) T) : h_laysUnits_111 c x1 x2 x3 x4 x5 T := by
  intro ok
  refine e_iinc (x5 + 1) _ dX6_laysUnits_111 rfl rfl (by decide) rfl rfl ?_
  refine e_goto 63 dX6_laysUnits_114 (by decide) ?_
  exact H ok

set_option maxHeartbeats 2000000 in
theorem s_laysUnits_120 (c : tC) (x1 : Int32) (x3 : Int32) (x4 : Int32) (x5 : Int32) (T : tS) (H : ((T.1 57) ≤ x5 → h_laysUnits_175 c x1 x3 x4 (T.1 57) T) ∧ (¬ (T.1 57) ≤ x5 → vp_in x5 65536 ∧ (∃ Q3 : Int32 → tS → Prop, tMi mX6_isUnitAt 1 (fun b => [.int (T.2.2.1 56 x5.toNatClampNeg), .int x1]) T Q3 ∧ ∀ (r8 : Int32) (T6 : tS), Q3 r8 T6 → (¬ r8 = 0 → vp_in x5 65536 ∧ (vp_in x3 65536 ∧ (h_laysUnits_163 c x1 (x3 + 1) x4 x5 (tA T6 56 (va_up (T6.2.2.1 56) x3.toNatClampNeg (T6.2.2.1 56 x5.toNatClampNeg)))))) ∧ (r8 = 0 → h_laysUnits_163 c x1 x3 x4 x5 T6)))) : h_laysUnits_120 c x1 x3 x4 x5 T := by
  intro ok
  refine e_iload dX6_laysUnits_120 rfl ?_
  refine e_aload_n dX6_laysUnits_122 rfl ?_
  refine t_getI dX6_laysUnits_123 fX6_57 q2553 (by decide) rfl ?_
  refine e_icmp_ge 169 dX6_laysUnits_126 (by decide) (fun g1 => ?_) (fun g1 => ?_)
  · replace H := H.1 g1
    refine e_aload_n dX6_laysUnits_169 rfl ?_
    refine t_getI dX6_laysUnits_170 fX6_57 q2553 (by decide) rfl ?_
    refine e_istore _ dX6_laysUnits_173 (by decide) rfl rfl ?_
    exact H ok
  · replace H := H.2 g1
    refine e_aload_n dX6_laysUnits_129 rfl ?_
    refine e_aload_n dX6_laysUnits_130 rfl ?_
    refine t_getA dX6_laysUnits_131 fX6_56 q2552 (by decide) rfl ?_
    refine e_iload dX6_laysUnits_134 rfl ?_
    obtain ⟨g2, H⟩ := H
    refine t_iald dX6_laysUnits_136 (by decide) rfl g2 ?_
    refine e_iload_n dX6_laysUnits_137 rfl ?_
    obtain ⟨Q3, hC4, H⟩ := H
    refine t_callV (As := [.int (T.2.2.1 56 x5.toNatClampNeg), .int x1]) ok hC4 dX6_laysUnits_138 wX6_isUnitAt q3057 q3059 qs123 rfl rfl (by decide) rfl (Nat.le_of_ble_eq_true rfl) (fun v5 T6 e7 => ?_)
    obtain ⟨r8, rfl, e7⟩ := e7
    replace H := H r8 T6 e7
    refine e_if_ne 147 dX6_laysUnits_141 (by decide) (fun g9 => ?_) (fun g9 => ?_)
    · replace H := H.1 g9
      refine e_aload_n dX6_laysUnits_147 rfl ?_
      refine t_getA dX6_laysUnits_148 fX6_56 q2552 (by decide) rfl ?_
      refine e_iload_n dX6_laysUnits_151 rfl ?_
      refine e_aload_n dX6_laysUnits_152 rfl ?_
      refine t_getA dX6_laysUnits_153 fX6_56 q2552 (by decide) rfl ?_
      refine e_iload dX6_laysUnits_156 rfl ?_
      obtain ⟨g10, H⟩ := H
      refine t_iald dX6_laysUnits_158 (by decide) rfl g10 ?_
      obtain ⟨g11, H⟩ := H
      refine t_iast dX6_laysUnits_159 (by decide) rfl ok.1 g11 ?_
      refine e_iinc (x3 + 1) _ dX6_laysUnits_160 rfl rfl (by decide) trivial rfl ?_
      exact H ok
    · replace H := H.2 g9
      refine e_goto 163 dX6_laysUnits_144 (by decide) ?_
      exact H ok

set_option maxHeartbeats 2000000 in
theorem s_laysUnits_163 (c : tC) (x1 : Int32) (x3 : Int32) (x4 : Int32) (x5 : Int32) (T : tS) (H : h_laysUnits_120 c x1 x3 x4 (x5 + 1) T) : h_laysUnits_163 c x1 x3 x4 x5 T := by
  intro ok
  refine e_iinc (x5 + 1) _ dX6_laysUnits_163 rfl rfl (by decide) rfl rfl ?_
  refine e_goto 120 dX6_laysUnits_166 (by decide) ?_
  exact H ok

set_option maxHeartbeats 2000000 in
theorem s_laysUnits_175 (c : tC) (x1 : Int32) (x3 : Int32) (x4 : Int32) (x5 : Int32) (T : tS) (H : (x4 ≤ x5 → h_laysUnits_32 c (x1 + (-1)) (tI T 57 x3)) ∧ (¬ x4 ≤ x5 → vp_in x5 65536 ∧ (vp_in x3 65536 ∧ (h_laysUnits_175 c x1 (x3 + 1) x4 (x5 + 1) (tA T 56 (va_up (T.2.2.1 56) x3.toNatClampNeg (T.2.2.1 56 x5.toNatClampNeg))))))) : h_laysUnits_175 c x1 x3 x4 x5 T := by
  intro ok
  refine e_iload dX6_laysUnits_175 rfl ?_
  refine e_iload dX6_laysUnits_177 rfl ?_
  refine e_icmp_ge 204 dX6_laysUnits_179 (by decide) (fun g1 => ?_) (fun g1 => ?_)
  · replace H := H.1 g1
    refine e_aload_n dX6_laysUnits_204 rfl ?_
    refine e_iload_n dX6_laysUnits_205 rfl ?_
    refine t_putI dX6_laysUnits_206 fX6_57 q2553 (eFit_i _) (by decide) rfl ok.1 ?_
    refine e_iinc (x1 + (-1)) _ dX6_laysUnits_209 rfl rfl (by decide) rfl rfl ?_
    refine e_goto 32 dX6_laysUnits_212 (by decide) ?_
    exact E.less2 (H ok) (eS_s (eS_s (eS_n (eS_n (eS_n (eS_n eS_0))))))
  · replace H := H.2 g1
    refine e_aload_n dX6_laysUnits_182 rfl ?_
    refine t_getA dX6_laysUnits_183 fX6_56 q2552 (by decide) rfl ?_
    refine e_iload_n dX6_laysUnits_186 rfl ?_
    refine e_aload_n dX6_laysUnits_187 rfl ?_
    refine t_getA dX6_laysUnits_188 fX6_56 q2552 (by decide) rfl ?_
    refine e_iload dX6_laysUnits_191 rfl ?_
    obtain ⟨g2, H⟩ := H
    refine t_iald dX6_laysUnits_193 (by decide) rfl g2 ?_
    obtain ⟨g3, H⟩ := H
    refine t_iast dX6_laysUnits_194 (by decide) rfl ok.1 g3 ?_
    refine e_iinc (x3 + 1) _ dX6_laysUnits_195 rfl rfl (by decide) trivial rfl ?_
    refine e_iinc (x5 + 1) _ dX6_laysUnits_198 rfl rfl (by decide) rfl rfl ?_
    refine e_goto 175 dX6_laysUnits_201 (by decide) ?_
    exact H ok

theorem en_laysUnits (T : tS) (Q : Option Value → tS → Prop) (H : ∀ c : tC, c.2.2.2.2.2.2 = Q → h_laysUnits_0 c T) : tM mX6_laysUnits 4 (fun b => []) T Q :=
  tM_mk (by decide) rfl (fun b => Nat.le_of_ble_eq_true rfl) (fun c hc ok => E.less2 (H c hc ok) (eS_s (eS_n (eS_n (eS_n (eS_n (eS_n eS_0)))))))
/-! units ()I level 5 -/
def h_units_0 (c : tC) (T : tS) : Prop := tX mX6_units 5 c 0 [some (.ref c.2.2.2.1)] T
set_option maxHeartbeats 2000000 in
theorem s_units_0 (c : tC) (T : tS) (H : ∃ Q1 : tS → Prop, tMv mX6_laysUnits 4 (fun b => []) T Q1 ∧ ∀ T4 : tS, Q1 T4 → c.2.2.2.2.2.2 (some (.int (T4.1 57))) T4) : h_units_0 c T := by
  intro ok
  refine e_aload_n dX6_units_0 rfl ?_
  obtain ⟨Q1, hC2, H⟩ := H
  refine t_callV (As := []) ok hC2 dX6_units_1 wX6_laysUnits q3049 q3051 qs121 rfl rfl (by decide) rfl (Nat.le_of_ble_eq_true rfl) (fun v3 T4 e5 => ?_)
  obtain ⟨rfl, e5⟩ := e5
  replace H := H T4 e5
  refine e_aload_n dX6_units_4 rfl ?_
  refine t_getI dX6_units_5 fX6_57 q2553 (by decide) rfl ?_
  exact e_ireturn .int dX6_units_8 rfl rfl ⟨_, _, rfl, rfl, H⟩

theorem en_units (T : tS) (Q : Option Value → tS → Prop) (H : ∀ c : tC, c.2.2.2.2.2.2 = Q → h_units_0 c T) : tM mX6_units 5 (fun b => []) T Q :=
  tM_mk (by decide) rfl (fun b => Nat.le_of_ble_eq_true rfl) (fun c hc ok => E.less2 (H c hc ok) (eS_s eS_0))
/-! unit (II)I level 5 -/
def h_unit_0 (c : tC) (x1 : Int32) (x2 : Int32) (T : tS) : Prop := tX mX6_unit 5 c 0 [some (.ref c.2.2.2.1), some (.int x1), some (.int x2), none] T
def h_unit_38 (c : tC) (x1 : Int32) (x2 : Int32) (x3 : Int32) (T : tS) : Prop := tX mX6_unit 5 c 38 [some (.ref c.2.2.2.1), some (.int x1), some (.int x2), some (.int x3)] T
set_option maxHeartbeats 2000000 in
theorem s_unit_0 (c : tC) (x1 : Int32) (x2 : Int32) (T : tS) (H : (¬ (zI (0 ≤ x2.toInt64 ∧ x2.toInt64 ≤ (T.1 26 - 1).toInt64)) = 0 → ∃ Q6 : tS → Prop, tMv mX6_laysUnits 4 (fun b => []) T Q6 ∧ ∀ T9 : tS, Q6 T9 → (¬ (zI ((0 : Int64) ≤ x1.toInt64 ∧ x1.toInt64 ≤ (((T9.1 57) - (1 : Int32)).toInt64))) = 0 → h_unit_38 c x1 x2 (0 : Int32) T9) ∧ ((zI ((0 : Int64) ≤ x1.toInt64 ∧ x1.toInt64 ≤ (((T9.1 57) - (1 : Int32)).toInt64))) = 0 → c.2.2.2.2.2.2 (some (.int (-1000000 : Int32))) T9)) ∧ ((zI (0 ≤ x2.toInt64 ∧ x2.toInt64 ≤ (T.1 26 - 1).toInt64)) = 0 → c.2.2.2.2.2.2 (some (.int (-1000000 : Int32))) T)) : h_unit_0 c x1 x2 T := by
  intro ok
  refine e_aload_n dX6_unit_0 rfl ?_
  refine e_iload_n dX6_unit_1 rfl ?_
  refine t_callV (As := [.int x2]) ok (ct_isSort T x2) dX6_unit_2 wX6_isSort q2934 q2936 qs113 rfl rfl (by decide) rfl (Nat.le_of_ble_eq_true rfl) (fun v1 T2 e4 => ?_)
  obtain ⟨r3, rfl, rfl, hT⟩ := e4
  rw [hT]
  refine e_if_ne 12 dX6_unit_5 (by decide) (fun g5 => ?_) (fun g5 => ?_)
  · replace H := H.1 g5
    refine e_aload_n dX6_unit_12 rfl ?_
    obtain ⟨Q6, hC7, H⟩ := H
    refine t_callV (As := []) ok hC7 dX6_unit_13 wX6_laysUnits q3049 q3051 qs121 rfl rfl (by decide) rfl (Nat.le_of_ble_eq_true rfl) (fun v8 T9 e10 => ?_)
    obtain ⟨rfl, e10⟩ := e10
    replace H := H T9 e10
    refine e_iload_n dX6_unit_16 rfl ?_
    refine e_i2l dX6_unit_17 ?_
    refine e_lconst 0 dX6_unit_18 (by decide) ?_
    refine e_aload_n dX6_unit_19 rfl ?_
    refine t_getI dX6_unit_20 fX6_57 q2553 (by decide) rfl ?_
    refine e_iconst (1) dX6_unit_23 (by decide) ?_
    refine e_isub dX6_unit_24 ?_
    refine e_i2l dX6_unit_25 ?_
    refine t_callS (As := [.long x1.toInt64, .long (0 : Int64), .long (((T9.1 57) - (1 : Int32)).toInt64)]) ok (ct_isIn x1.toInt64 (0 : Int64) (((T9.1 57) - (1 : Int32)).toInt64)) dX6_unit_26 wX6_isIn q2707 q2708 rfl (by decide) rfl (Nat.le_of_ble_eq_true rfl) ?_
    refine e_if_ne 36 dX6_unit_29 (by decide) (fun g12 => ?_) (fun g12 => ?_)
    · replace H := H.1 g12
      refine e_iconst (0) dX6_unit_36 (by decide) ?_
      refine e_istore_n _ dX6_unit_37 (by decide) rfl rfl ?_
      exact H ok
    · replace H := H.2 g12
      refine e_ldcw dX6_unit_32 q3013 ?_
      exact e_ireturn .int dX6_unit_35 rfl rfl ⟨_, _, rfl, rfl, H⟩
  · replace H := H.2 g5
    refine e_ldcw dX6_unit_8 q3013 ?_
    exact e_ireturn .int dX6_unit_11 rfl rfl ⟨_, _, rfl, rfl, H⟩

set_option maxHeartbeats 2000000 in
theorem s_unit_38 (c : tC) (x1 : Int32) (x2 : Int32) (x3 : Int32) (T : tS) (H : ((T.1 26) ≤ x3 → ∃ Q2 : tS → Prop, tMv mX6_numbers 0 (fun b => [.ref (tAd b 34), .ref (tAd b 48), .int (0 : Int32)]) T Q2 ∧ ∀ T5 : tS, Q2 T5 → vp_in x2 64 ∧ (c.2.2.2.2.2.2 (some (.int ((T5.2.2.2 48 x2.toNatClampNeg).toInt32))) T5)) ∧ (¬ (T.1 26) ≤ x3 → vp_in x1 65536 ∧ (((zI (tBit (T.2.2.1 56 x1.toNatClampNeg) (((T.1 26) - (1 : Int32)) - x3))) = 0 → vp_in x3 64 ∧ (h_unit_38 c x1 x2 (x3 + 1) (tB T 34 (va_up (T.2.2.2 34) x3.toNatClampNeg (1 : Int64))))) ∧ (¬ (zI (tBit (T.2.2.1 56 x1.toNatClampNeg) (((T.1 26) - (1 : Int32)) - x3))) = 0 → vp_in x3 64 ∧ (h_unit_38 c x1 x2 (x3 + 1) (tB T 34 (va_up (T.2.2.2 34) x3.toNatClampNeg (-1 : Int64)))))))) : h_unit_38 c x1 x2 x3 T := by
  intro ok
  refine e_iload_n dX6_unit_38 rfl ?_
  refine e_aload_n dX6_unit_39 rfl ?_
  refine t_getI dX6_unit_40 fX6_26 q2522 (by decide) rfl ?_
  refine e_icmp_ge 85 dX6_unit_43 (by decide) (fun g1 => ?_) (fun g1 => ?_)
  · replace H := H.1 g1
    refine e_aload_n dX6_unit_85 rfl ?_
    refine e_aload_n dX6_unit_86 rfl ?_
    refine t_getA dX6_unit_87 fX6_34 q2530 (by decide) rfl ?_
    refine e_aload_n dX6_unit_90 rfl ?_
    refine t_getA dX6_unit_91 fX6_48 q2544 (by decide) rfl ?_
    refine e_iconst (0) dX6_unit_94 (by decide) ?_
    obtain ⟨Q2, hC3, H⟩ := H
    refine t_callV (As := [.ref (tAd c.2.2.2.1 34), .ref (tAd c.2.2.2.1 48), .int (0 : Int32)]) ok hC3 dX6_unit_95 wX6_numbers q2833 q2835 qs98 rfl rfl (by decide) rfl (Nat.le_of_ble_eq_true rfl) (fun v4 T5 e6 => ?_)
    obtain ⟨rfl, e6⟩ := e6
    replace H := H T5 e6
    refine e_aload_n dX6_unit_98 rfl ?_
    refine t_getA dX6_unit_99 fX6_48 q2544 (by decide) rfl ?_
    refine e_iload_n dX6_unit_102 rfl ?_
    obtain ⟨g8, H⟩ := H
    refine t_lald dX6_unit_103 (by decide) rfl g8 ?_
    refine e_l2i dX6_unit_104 ?_
    exact e_ireturn .int dX6_unit_105 rfl rfl ⟨_, _, rfl, rfl, H⟩
  · replace H := H.2 g1
    refine e_aload_n dX6_unit_46 rfl ?_
    refine t_getA dX6_unit_47 fX6_34 q2530 (by decide) rfl ?_
    refine e_iload_n dX6_unit_50 rfl ?_
    refine e_aload_n dX6_unit_51 rfl ?_
    refine t_getA dX6_unit_52 fX6_56 q2552 (by decide) rfl ?_
    refine e_iload_n dX6_unit_55 rfl ?_
    obtain ⟨g9, H⟩ := H
    refine t_iald dX6_unit_56 (by decide) rfl g9 ?_
    refine e_aload_n dX6_unit_57 rfl ?_
    refine t_getI dX6_unit_58 fX6_26 q2522 (by decide) rfl ?_
    refine e_iconst (1) dX6_unit_61 (by decide) ?_
    refine e_isub dX6_unit_62 ?_
    refine e_iload_n dX6_unit_63 rfl ?_
    refine e_isub dX6_unit_64 ?_
    refine t_callS (As := [.int (T.2.2.1 56 x1.toNatClampNeg), .int (((T.1 26) - (1 : Int32)) - x3)]) ok (ct_holds (T.2.2.1 56 x1.toNatClampNeg) (((T.1 26) - (1 : Int32)) - x3)) dX6_unit_65 wX6_holds q2447 q2448 rfl (by decide) rfl (Nat.le_of_ble_eq_true rfl) ?_
    refine e_if_eq 77 dX6_unit_68 (by decide) (fun g10 => ?_) (fun g10 => ?_)
    · replace H := H.1 g10
      refine e_lconst 1 dX6_unit_77 (by decide) ?_
      obtain ⟨g11, H⟩ := H
      refine t_last dX6_unit_78 (by decide) rfl ok.1 g11 ?_
      refine e_iinc (x3 + 1) _ dX6_unit_79 rfl rfl (by decide) rfl rfl ?_
      refine e_goto 38 dX6_unit_82 (by decide) ?_
      exact H ok
    · replace H := H.2 g10
      refine e_ldc2 dX6_unit_71 q3065 ?_
      refine e_goto 78 dX6_unit_74 (by decide) ?_
      obtain ⟨g12, H⟩ := H
      refine t_last dX6_unit_78 (by decide) rfl ok.1 g12 ?_
      refine e_iinc (x3 + 1) _ dX6_unit_79 rfl rfl (by decide) rfl rfl ?_
      refine e_goto 38 dX6_unit_82 (by decide) ?_
      exact H ok

theorem en_unit (x1 : Int32) (x2 : Int32) (T : tS) (Q : Option Value → tS → Prop) (H : ∀ c : tC, c.2.2.2.2.2.2 = Q → h_unit_0 c x1 x2 T) : tM mX6_unit 5 (fun b => [.int x1, .int x2]) T Q :=
  tM_mk (by decide) rfl (fun b => Nat.le_of_ble_eq_true rfl) (fun c hc ok => E.less2 (H c hc ok) (eS_s (eS_s (eS_s (eS_n eS_0)))))
/-! laysMarks ()V level 1 -/
def h_laysMarks_0 (c : tC) (T : tS) : Prop := tX mX6_laysMarks 1 c 0 [some (.ref c.2.2.2.1), none] T
def h_laysMarks_2 (c : tC) (x1 : Int32) (T : tS) : Prop := tX mX6_laysMarks 1 c 2 [some (.ref c.2.2.2.1), some (.int x1)] T
set_option maxHeartbeats 2000000 in
theorem s_laysMarks_0 (c : tC) (T : tS) (H : h_laysMarks_2 c (0 : Int32) T) : h_laysMarks_0 c T := by
  intro ok
  refine e_iconst (0) dX6_laysMarks_0 (by decide) ?_
  refine e_istore_n _ dX6_laysMarks_1 (by decide) rfl rfl ?_
  exact H ok

set_option maxHeartbeats 2000000 in
theorem s_laysMarks_2 (c : tC) (x1 : Int32) (T : tS) (H : ((T.1 26) ≤ x1 → c.2.2.2.2.2.2 none T) ∧ (¬ (T.1 26) ≤ x1 → ∃ Q2 : Int64 → tS → Prop, tMl mX6_markAt 0 (fun b => [.ref (tAd b 36), .int (0 : Int32), .int x1]) T Q2 ∧ ∀ (r7 : Int64) (T5 : tS), Q2 r7 T5 → vp_in x1 64 ∧ (h_laysMarks_2 c (x1 + 1) (tB T5 37 (va_up (T5.2.2.2 37) x1.toNatClampNeg r7))))) : h_laysMarks_2 c x1 T := by
  intro ok
  refine e_iload_n dX6_laysMarks_2 rfl ?_
  refine e_aload_n dX6_laysMarks_3 rfl ?_
  refine t_getI dX6_laysMarks_4 fX6_26 q2522 (by decide) rfl ?_
  refine e_icmp_ge 32 dX6_laysMarks_7 (by decide) (fun g1 => ?_) (fun g1 => ?_)
  · replace H := H.1 g1
    exact e_return dX6_laysMarks_32 rfl ⟨_, _, rfl, rfl, H⟩
  · replace H := H.2 g1
    refine e_aload_n dX6_laysMarks_10 rfl ?_
    refine t_getA dX6_laysMarks_11 fX6_37 q2533 (by decide) rfl ?_
    refine e_iload_n dX6_laysMarks_14 rfl ?_
    refine e_aload_n dX6_laysMarks_15 rfl ?_
    refine e_aload_n dX6_laysMarks_16 rfl ?_
    refine t_getA dX6_laysMarks_17 fX6_36 q2532 (by decide) rfl ?_
    refine e_iconst (0) dX6_laysMarks_20 (by decide) ?_
    refine e_iload_n dX6_laysMarks_21 rfl ?_
    obtain ⟨Q2, hC3, H⟩ := H
    refine t_callV (As := [.ref (tAd c.2.2.2.1 36), .int (0 : Int32), .int x1]) ok hC3 dX6_laysMarks_22 wX6_markAt q2813 q2815 qs93 rfl rfl (by decide) rfl (Nat.le_of_ble_eq_true rfl) (fun v4 T5 e6 => ?_)
    obtain ⟨r7, rfl, e6⟩ := e6
    replace H := H r7 T5 e6
    obtain ⟨g8, H⟩ := H
    refine t_last dX6_laysMarks_25 (by decide) rfl ok.1 g8 ?_
    refine e_iinc (x1 + 1) _ dX6_laysMarks_26 rfl rfl (by decide) rfl rfl ?_
    refine e_goto 2 dX6_laysMarks_29 (by decide) ?_
    exact H ok

theorem en_laysMarks (T : tS) (Q : Option Value → tS → Prop) (H : ∀ c : tC, c.2.2.2.2.2.2 = Q → h_laysMarks_0 c T) : tM mX6_laysMarks 1 (fun b => []) T Q :=
  tM_mk (by decide) rfl (fun b => Nat.le_of_ble_eq_true rfl) (fun c hc ok => E.less2 (H c hc ok) (eS_s (eS_n eS_0)))
/-! named (II)J level 2 -/
def h_named_0 (c : tC) (x1 : Int32) (x2 : Int32) (T : tS) : Prop := tX mX6_named 2 c 0 [some (.ref c.2.2.2.1), some (.int x1), some (.int x2)] T
set_option maxHeartbeats 2000000 in
theorem s_named_0 (c : tC) (x1 : Int32) (x2 : Int32) (T : tS) (H : ((zI ((0 : Int64) ≤ x1.toInt64 ∧ x1.toInt64 ≤ (((T.1 18) - (1 : Int32)).toInt64))) = 0 → c.2.2.2.2.2.2 (some (.long (-9223372036854775808 : Int64))) T) ∧ (¬ (zI ((0 : Int64) ≤ x1.toInt64 ∧ x1.toInt64 ≤ (((T.1 18) - (1 : Int32)).toInt64))) = 0 → ((zI (0 ≤ x2.toInt64 ∧ x2.toInt64 ≤ (T.1 26 - 1).toInt64)) = 0 → c.2.2.2.2.2.2 (some (.long (-9223372036854775808 : Int64))) T) ∧ (¬ (zI (0 ≤ x2.toInt64 ∧ x2.toInt64 ≤ (T.1 26 - 1).toInt64)) = 0 → vp_in (((64 : Int32) * x1) + x2) 512 ∧ (c.2.2.2.2.2.2 (some (.long (T.2.2.2 47 (((64 : Int32) * x1) + x2).toNatClampNeg))) T)))) : h_named_0 c x1 x2 T := by
  intro ok
  refine e_iload_n dX6_named_0 rfl ?_
  refine e_i2l dX6_named_1 ?_
  refine e_lconst 0 dX6_named_2 (by decide) ?_
  refine e_aload_n dX6_named_3 rfl ?_
  refine t_getI dX6_named_4 fX6_18 q2514 (by decide) rfl ?_
  refine e_iconst (1) dX6_named_7 (by decide) ?_
  refine e_isub dX6_named_8 ?_
  refine e_i2l dX6_named_9 ?_
  refine t_callS (As := [.long x1.toInt64, .long (0 : Int64), .long (((T.1 18) - (1 : Int32)).toInt64)]) ok (ct_isIn x1.toInt64 (0 : Int64) (((T.1 18) - (1 : Int32)).toInt64)) dX6_named_10 wX6_isIn q2707 q2708 rfl (by decide) rfl (Nat.le_of_ble_eq_true rfl) ?_
  refine e_if_eq 38 dX6_named_13 (by decide) (fun g1 => ?_) (fun g1 => ?_)
  · replace H := H.1 g1
    refine e_ldc2 dX6_named_38 q3074 ?_
    exact e_lreturn dX6_named_41 rfl ⟨_, _, rfl, rfl, H⟩
  · replace H := H.2 g1
    refine e_aload_n dX6_named_16 rfl ?_
    refine e_iload_n dX6_named_17 rfl ?_
    refine t_callV (As := [.int x2]) ok (ct_isSort T x2) dX6_named_18 wX6_isSort q2934 q2936 qs113 rfl rfl (by decide) rfl (Nat.le_of_ble_eq_true rfl) (fun v2 T3 e5 => ?_)
    obtain ⟨r4, rfl, rfl, hT⟩ := e5
    rw [hT]
    refine e_if_eq 38 dX6_named_21 (by decide) (fun g6 => ?_) (fun g6 => ?_)
    · replace H := H.1 g6
      refine e_ldc2 dX6_named_38 q3074 ?_
      exact e_lreturn dX6_named_41 rfl ⟨_, _, rfl, rfl, H⟩
    · replace H := H.2 g6
      refine e_aload_n dX6_named_24 rfl ?_
      refine t_getA dX6_named_25 fX6_47 q2543 (by decide) rfl ?_
      refine e_bipush (64) dX6_named_28 (by decide) ?_
      refine e_iload_n dX6_named_30 rfl ?_
      refine e_imul dX6_named_31 ?_
      refine e_iload_n dX6_named_32 rfl ?_
      refine e_iadd dX6_named_33 ?_
      obtain ⟨g7, H⟩ := H
      refine t_lald dX6_named_34 (by decide) rfl g7 ?_
      refine e_goto 41 dX6_named_35 (by decide) ?_
      exact e_lreturn dX6_named_41 rfl ⟨_, _, rfl, rfl, H⟩

theorem en_named (x1 : Int32) (x2 : Int32) (T : tS) (Q : Option Value → tS → Prop) (H : ∀ c : tC, c.2.2.2.2.2.2 = Q → h_named_0 c x1 x2 T) : tM mX6_named 2 (fun b => [.int x1, .int x2]) T Q :=
  tM_mk (by decide) rfl (fun b => Nat.le_of_ble_eq_true rfl) (fun c hc ok => E.less2 (H c hc ok) (eS_s (eS_s (eS_s eS_0))))
/-! has (I)J level 2 -/
def h_has_0 (c : tC) (x1 : Int32) (T : tS) : Prop := tX mX6_has 2 c 0 [some (.ref c.2.2.2.1), some (.int x1)] T
set_option maxHeartbeats 2000000 in
theorem s_has_0 (c : tC) (x1 : Int32) (T : tS) (H : ((zI (0 ≤ x1.toInt64 ∧ x1.toInt64 ≤ (T.1 26 - 1).toInt64)) = 0 → c.2.2.2.2.2.2 (some (.long (-9223372036854775808 : Int64))) T) ∧ (¬ (zI (0 ≤ x1.toInt64 ∧ x1.toInt64 ≤ (T.1 26 - 1).toInt64)) = 0 → vp_in x1 64 ∧ (c.2.2.2.2.2.2 (some (.long (T.2.2.2 36 x1.toNatClampNeg))) T))) : h_has_0 c x1 T := by
  intro ok
  refine e_aload_n dX6_has_0 rfl ?_
  refine e_iload_n dX6_has_1 rfl ?_
  refine t_callV (As := [.int x1]) ok (ct_isSort T x1) dX6_has_2 wX6_isSort q2934 q2936 qs113 rfl rfl (by decide) rfl (Nat.le_of_ble_eq_true rfl) (fun v1 T2 e4 => ?_)
  obtain ⟨r3, rfl, rfl, hT⟩ := e4
  rw [hT]
  refine e_if_eq 17 dX6_has_5 (by decide) (fun g5 => ?_) (fun g5 => ?_)
  · replace H := H.1 g5
    refine e_ldc2 dX6_has_17 q3074 ?_
    exact e_lreturn dX6_has_20 rfl ⟨_, _, rfl, rfl, H⟩
  · replace H := H.2 g5
    refine e_aload_n dX6_has_8 rfl ?_
    refine t_getA dX6_has_9 fX6_36 q2532 (by decide) rfl ?_
    refine e_iload_n dX6_has_12 rfl ?_
    obtain ⟨g6, H⟩ := H
    refine t_lald dX6_has_13 (by decide) rfl g6 ?_
    refine e_goto 20 dX6_has_14 (by decide) ?_
    exact e_lreturn dX6_has_20 rfl ⟨_, _, rfl, rfl, H⟩

theorem en_has (x1 : Int32) (T : tS) (Q : Option Value → tS → Prop) (H : ∀ c : tC, c.2.2.2.2.2.2 = Q → h_has_0 c x1 T) : tM mX6_has 2 (fun b => [.int x1]) T Q :=
  tM_mk (by decide) rfl (fun b => Nat.le_of_ble_eq_true rfl) (fun c hc ok => E.less2 (H c hc ok) (eS_s (eS_s eS_0)))
/-! marked (I)J level 2 -/
def h_marked_0 (c : tC) (x1 : Int32) (T : tS) : Prop := tX mX6_marked 2 c 0 [some (.ref c.2.2.2.1), some (.int x1)] T
set_option maxHeartbeats 2000000 in
theorem s_marked_0 (c : tC) (x1 : Int32) (T : tS) (H : ((zI (0 ≤ x1.toInt64 ∧ x1.toInt64 ≤ (T.1 26 - 1).toInt64)) = 0 → c.2.2.2.2.2.2 (some (.long (-9223372036854775808 : Int64))) T) ∧ (¬ (zI (0 ≤ x1.toInt64 ∧ x1.toInt64 ≤ (T.1 26 - 1).toInt64)) = 0 → ∃ Q6 : Int64 → tS → Prop, tMl mX6_markAt 0 (fun b => [.ref (tAd b 36), .int (0 : Int32), .int x1]) T Q6 ∧ ∀ (r11 : Int64) (T9 : tS), Q6 r11 T9 → c.2.2.2.2.2.2 (some (.long r11)) T9)) : h_marked_0 c x1 T := by
  intro ok
  refine e_aload_n dX6_marked_0 rfl ?_
  refine e_iload_n dX6_marked_1 rfl ?_
  refine t_callV (As := [.int x1]) ok (ct_isSort T x1) dX6_marked_2 wX6_isSort q2934 q2936 qs113 rfl rfl (by decide) rfl (Nat.le_of_ble_eq_true rfl) (fun v1 T2 e4 => ?_)
  obtain ⟨r3, rfl, rfl, hT⟩ := e4
  rw [hT]
  refine e_if_eq 21 dX6_marked_5 (by decide) (fun g5 => ?_) (fun g5 => ?_)
  · replace H := H.1 g5
    refine e_ldc2 dX6_marked_21 q3074 ?_
    exact e_lreturn dX6_marked_24 rfl ⟨_, _, rfl, rfl, H⟩
  · replace H := H.2 g5
    refine e_aload_n dX6_marked_8 rfl ?_
    refine e_aload_n dX6_marked_9 rfl ?_
    refine t_getA dX6_marked_10 fX6_36 q2532 (by decide) rfl ?_
    refine e_iconst (0) dX6_marked_13 (by decide) ?_
    refine e_iload_n dX6_marked_14 rfl ?_
    obtain ⟨Q6, hC7, H⟩ := H
    refine t_callV (As := [.ref (tAd c.2.2.2.1 36), .int (0 : Int32), .int x1]) ok hC7 dX6_marked_15 wX6_markAt q2813 q2815 qs93 rfl rfl (by decide) rfl (Nat.le_of_ble_eq_true rfl) (fun v8 T9 e10 => ?_)
    obtain ⟨r11, rfl, e10⟩ := e10
    replace H := H r11 T9 e10
    refine e_goto 24 dX6_marked_18 (by decide) ?_
    exact e_lreturn dX6_marked_24 rfl ⟨_, _, rfl, rfl, H⟩

theorem en_marked (x1 : Int32) (T : tS) (Q : Option Value → tS → Prop) (H : ∀ c : tC, c.2.2.2.2.2.2 = Q → h_marked_0 c x1 T) : tM mX6_marked 2 (fun b => [.int x1]) T Q :=
  tM_mk (by decide) rfl (fun b => Nat.le_of_ble_eq_true rfl) (fun c hc ok => E.less2 (H c hc ok) (eS_s (eS_s eS_0)))
/-! character (I)J level 2 -/
def h_character_0 (c : tC) (x1 : Int32) (T : tS) : Prop := tX mX6_character 2 c 0 [some (.ref c.2.2.2.1), some (.int x1)] T
set_option maxHeartbeats 2000000 in
theorem s_character_0 (c : tC) (x1 : Int32) (T : tS) (H : ((zI (0 ≤ x1.toInt64 ∧ x1.toInt64 ≤ (T.1 20 - 1).toInt64)) = 0 → c.2.2.2.2.2.2 (some (.long (-9223372036854775808 : Int64))) T) ∧ (¬ (zI (0 ≤ x1.toInt64 ∧ x1.toInt64 ≤ (T.1 20 - 1).toInt64)) = 0 → ∃ Q6 : Int32 → tS → Prop, tMi mX6_closed 1 (fun b => [.int ((1 : Int32) <<< (x1 &&& 31))]) T Q6 ∧ ∀ (r11 : Int32) (T9 : tS), Q6 r11 T9 → ∃ Q12 : Int32 → tS → Prop, tMi mX6_sortOfSet 1 (fun b => [.int r11]) T9 Q12 ∧ ∀ (r17 : Int32) (T15 : tS), Q12 r17 T15 → ∃ Q18 : Int64 → tS → Prop, tMl mX6_markAt 0 (fun b => [.ref (tAd b 36), .int (0 : Int32), .int r17]) T15 Q18 ∧ ∀ (r23 : Int64) (T21 : tS), Q18 r23 T21 → c.2.2.2.2.2.2 (some (.long r23)) T21)) : h_character_0 c x1 T := by
  intro ok
  refine e_aload_n dX6_character_0 rfl ?_
  refine e_iload_n dX6_character_1 rfl ?_
  refine t_callV (As := [.int x1]) ok (ct_isMember T x1) dX6_character_2 wX6_isMember q2889 q2891 qs109 rfl rfl (by decide) rfl (Nat.le_of_ble_eq_true rfl) (fun v1 T2 e4 => ?_)
  obtain ⟨r3, rfl, rfl, hT⟩ := e4
  rw [hT]
  refine e_if_eq 31 dX6_character_5 (by decide) (fun g5 => ?_) (fun g5 => ?_)
  · replace H := H.1 g5
    refine e_ldc2 dX6_character_31 q3074 ?_
    exact e_lreturn dX6_character_34 rfl ⟨_, _, rfl, rfl, H⟩
  · replace H := H.2 g5
    refine e_aload_n dX6_character_8 rfl ?_
    refine e_aload_n dX6_character_9 rfl ?_
    refine t_getA dX6_character_10 fX6_36 q2532 (by decide) rfl ?_
    refine e_iconst (0) dX6_character_13 (by decide) ?_
    refine e_aload_n dX6_character_14 rfl ?_
    refine e_aload_n dX6_character_15 rfl ?_
    refine e_iconst (1) dX6_character_16 (by decide) ?_
    refine e_iload_n dX6_character_17 rfl ?_
    refine e_ishl dX6_character_18 ?_
    obtain ⟨Q6, hC7, H⟩ := H
    refine t_callV (As := [.int ((1 : Int32) <<< (x1 &&& 31))]) ok hC7 dX6_character_19 wX6_closed q2450 q2452 qs61 rfl rfl (by decide) rfl (Nat.le_of_ble_eq_true rfl) (fun v8 T9 e10 => ?_)
    obtain ⟨r11, rfl, e10⟩ := e10
    replace H := H r11 T9 e10
    obtain ⟨Q12, hC13, H⟩ := H
    refine t_callV (As := [.int r11]) ok hC13 dX6_character_22 wX6_sortOfSet q2926 q2928 qs112 rfl rfl (by decide) rfl (Nat.le_of_ble_eq_true rfl) (fun v14 T15 e16 => ?_)
    obtain ⟨r17, rfl, e16⟩ := e16
    replace H := H r17 T15 e16
    obtain ⟨Q18, hC19, H⟩ := H
    refine t_callV (As := [.ref (tAd c.2.2.2.1 36), .int (0 : Int32), .int r17]) ok hC19 dX6_character_25 wX6_markAt q2813 q2815 qs93 rfl rfl (by decide) rfl (Nat.le_of_ble_eq_true rfl) (fun v20 T21 e22 => ?_)
    obtain ⟨r23, rfl, e22⟩ := e22
    replace H := H r23 T21 e22
    refine e_goto 34 dX6_character_28 (by decide) ?_
    exact e_lreturn dX6_character_34 rfl ⟨_, _, rfl, rfl, H⟩

theorem en_character (x1 : Int32) (T : tS) (Q : Option Value → tS → Prop) (H : ∀ c : tC, c.2.2.2.2.2.2 = Q → h_character_0 c x1 T) : tM mX6_character 2 (fun b => [.int x1]) T Q :=
  tM_mk (by decide) rfl (fun b => Nat.le_of_ble_eq_true rfl) (fun c hc ok => E.less2 (H c hc ok) (eS_s (eS_s eS_0)))
/-! parts ()I level 1 -/
def h_parts_0 (c : tC) (T : tS) : Prop := tX mX6_parts 1 c 0 [some (.ref c.2.2.2.1), none, none] T
def h_parts_4 (c : tC) (x1 : Int32) (x2 : Int32) (T : tS) : Prop := tX mX6_parts 1 c 4 [some (.ref c.2.2.2.1), some (.int x1), some (.int x2)] T
set_option maxHeartbeats 2000000 in
theorem s_parts_0 (c : tC) (T : tS) (H : h_parts_4 c (0 : Int32) (0 : Int32) T) : h_parts_0 c T := by
  intro ok
  refine e_iconst (0) dX6_parts_0 (by decide) ?_
  refine e_istore_n _ dX6_parts_1 (by decide) rfl rfl ?_
  refine e_iconst (0) dX6_parts_2 (by decide) ?_
  refine e_istore_n _ dX6_parts_3 (by decide) rfl rfl ?_
  exact H ok

set_option maxHeartbeats 2000000 in
theorem s_parts_4 (c : tC) (x1 : Int32) (x2 : Int32) (T : tS) (H : ((T.1 26) ≤ x2 → c.2.2.2.2.2.2 (some (.int x1)) T) ∧ (¬ (T.1 26) ≤ x2 → vp_in x2 64 ∧ (((lg_cmp (T.2.2.2 36 x2.toNatClampNeg) (0 : Int64)) = 0 → h_parts_4 c (x1 + (zI (¬ (0 : Int32) = 0))) (x2 + 1) T) ∧ (¬ (lg_cmp (T.2.2.2 36 x2.toNatClampNeg) (0 : Int64)) = 0 → h_parts_4 c (x1 + (zI (¬ (1 : Int32) = 0))) (x2 + 1) T)))) : h_parts_4 c x1 x2 T := by
  intro ok
  refine e_iload_n dX6_parts_4 rfl ?_
  refine e_aload_n dX6_parts_5 rfl ?_
  refine t_getI dX6_parts_6 fX6_26 q2522 (by decide) rfl ?_
  refine e_icmp_ge 40 dX6_parts_9 (by decide) (fun g1 => ?_) (fun g1 => ?_)
  · replace H := H.1 g1
    refine e_iload_n dX6_parts_40 rfl ?_
    exact e_ireturn .int dX6_parts_41 rfl rfl ⟨_, _, rfl, rfl, H⟩
  · replace H := H.2 g1
    refine e_iload_n dX6_parts_12 rfl ?_
    refine e_aload_n dX6_parts_13 rfl ?_
    refine t_getA dX6_parts_14 fX6_36 q2532 (by decide) rfl ?_
    refine e_iload_n dX6_parts_17 rfl ?_
    obtain ⟨g2, H⟩ := H
    refine t_lald dX6_parts_18 (by decide) rfl g2 ?_
    refine e_lconst 0 dX6_parts_19 (by decide) ?_
    refine e_lcmp dX6_parts_20 ?_
    refine e_if_eq 28 dX6_parts_21 (by decide) (fun g3 => ?_) (fun g3 => ?_)
    · replace H := H.1 g3
      refine e_iconst (0) dX6_parts_28 (by decide) ?_
      refine t_callS (As := [.int (0 : Int32)]) ok (ct_truth (0 : Int32)) dX6_parts_29 wX6_truth q2489 q2490 rfl (by decide) rfl (Nat.le_of_ble_eq_true rfl) ?_
      refine e_iadd dX6_parts_32 ?_
      refine e_istore_n _ dX6_parts_33 (by decide) rfl rfl ?_
      refine e_iinc (x2 + 1) _ dX6_parts_34 rfl rfl (by decide) rfl rfl ?_
      refine e_goto 4 dX6_parts_37 (by decide) ?_
      exact H ok
    · replace H := H.2 g3
      refine e_iconst (1) dX6_parts_24 (by decide) ?_
      refine e_goto 29 dX6_parts_25 (by decide) ?_
      refine t_callS (As := [.int (1 : Int32)]) ok (ct_truth (1 : Int32)) dX6_parts_29 wX6_truth q2489 q2490 rfl (by decide) rfl (Nat.le_of_ble_eq_true rfl) ?_
      refine e_iadd dX6_parts_32 ?_
      refine e_istore_n _ dX6_parts_33 (by decide) rfl rfl ?_
      refine e_iinc (x2 + 1) _ dX6_parts_34 rfl rfl (by decide) rfl rfl ?_
      refine e_goto 4 dX6_parts_37 (by decide) ?_
      exact H ok

theorem en_parts (T : tS) (Q : Option Value → tS → Prop) (H : ∀ c : tC, c.2.2.2.2.2.2 = Q → h_parts_0 c T) : tM mX6_parts 1 (fun b => []) T Q :=
  tM_mk (by decide) rfl (fun b => Nat.le_of_ble_eq_true rfl) (fun c hc ok => E.less2 (H c hc ok) (eS_s (eS_n (eS_n eS_0))))
/-! congruence (I)J level 5 -/
def h_congruence_0 (c : tC) (x1 : Int32) (T : tS) : Prop := tX mX6_congruence 5 c 0 [some (.ref c.2.2.2.1), some (.int x1)] T
set_option maxHeartbeats 2000000 in
theorem s_congruence_0 (c : tC) (x1 : Int32) (T : tS) (H : (¬ (zI (0 ≤ x1.toInt64 ∧ x1.toInt64 ≤ (T.1 26 - 1).toInt64)) = 0 → ∃ Q6 : tS → Prop, tMv mX6_laysMarks 1 (fun b => []) T Q6 ∧ ∀ T9 : tS, Q6 T9 → ∃ Q12 : Int64 → tS → Prop, tMl mX6_congruenceOf 4 (fun b => [.ref (tAd b 37), .int x1]) T9 Q12 ∧ ∀ (r17 : Int64) (T15 : tS), Q12 r17 T15 → ¬ ((T15.1 55).toInt64) = 0 ∧ (c.2.2.2.2.2.2 (some (.long (r17 / ((T15.1 55).toInt64)))) T15)) ∧ ((zI (0 ≤ x1.toInt64 ∧ x1.toInt64 ≤ (T.1 26 - 1).toInt64)) = 0 → c.2.2.2.2.2.2 (some (.long (-9223372036854775808 : Int64))) T)) : h_congruence_0 c x1 T := by
  intro ok
  refine e_aload_n dX6_congruence_0 rfl ?_
  refine e_iload_n dX6_congruence_1 rfl ?_
  refine t_callV (As := [.int x1]) ok (ct_isSort T x1) dX6_congruence_2 wX6_isSort q2934 q2936 qs113 rfl rfl (by decide) rfl (Nat.le_of_ble_eq_true rfl) (fun v1 T2 e4 => ?_)
  obtain ⟨r3, rfl, rfl, hT⟩ := e4
  rw [hT]
  refine e_if_ne 12 dX6_congruence_5 (by decide) (fun g5 => ?_) (fun g5 => ?_)
  · replace H := H.1 g5
    refine e_aload_n dX6_congruence_12 rfl ?_
    obtain ⟨Q6, hC7, H⟩ := H
    refine t_callV (As := []) ok hC7 dX6_congruence_13 wX6_laysMarks q3095 q3097 qs124 rfl rfl (by decide) rfl (Nat.le_of_ble_eq_true rfl) (fun v8 T9 e10 => ?_)
    obtain ⟨rfl, e10⟩ := e10
    replace H := H T9 e10
    refine e_aload_n dX6_congruence_16 rfl ?_
    refine e_aload_n dX6_congruence_17 rfl ?_
    refine t_getA dX6_congruence_18 fX6_37 q2533 (by decide) rfl ?_
    refine e_iload_n dX6_congruence_21 rfl ?_
    obtain ⟨Q12, hC13, H⟩ := H
    refine t_callV (As := [.ref (tAd c.2.2.2.1 37), .int x1]) ok hC13 dX6_congruence_22 wX6_congruenceOf q3099 q3101 qs125 rfl rfl (by decide) rfl (Nat.le_of_ble_eq_true rfl) (fun v14 T15 e16 => ?_)
    obtain ⟨r17, rfl, e16⟩ := e16
    replace H := H r17 T15 e16
    refine e_aload_n dX6_congruence_25 rfl ?_
    refine t_getI dX6_congruence_26 fX6_55 q2551 (by decide) rfl ?_
    refine e_i2l dX6_congruence_29 ?_
    obtain ⟨g18, H⟩ := H
    refine e_ldiv dX6_congruence_30 g18 ?_
    exact e_lreturn dX6_congruence_31 rfl ⟨_, _, rfl, rfl, H⟩
  · replace H := H.2 g5
    refine e_ldc2 dX6_congruence_8 q3074 ?_
    exact e_lreturn dX6_congruence_11 rfl ⟨_, _, rfl, rfl, H⟩

theorem en_congruence (x1 : Int32) (T : tS) (Q : Option Value → tS → Prop) (H : ∀ c : tC, c.2.2.2.2.2.2 = Q → h_congruence_0 c x1 T) : tM mX6_congruence 5 (fun b => [.int x1]) T Q :=
  tM_mk (by decide) rfl (fun b => Nat.le_of_ble_eq_true rfl) (fun c hc ok => E.less2 (H c hc ok) (eS_s (eS_s eS_0)))
/-! is (I)I level 2 -/
def h_is_0 (c : tC) (x1 : Int32) (T : tS) : Prop := tX mX6_is 2 c 0 [some (.ref c.2.2.2.1), some (.int x1), none, none, none, none, none, none] T
def h_is_25 (c : tC) (x1 : Int32) (x2 : Int32) (x3 : Int32) (x4 : Int32) (T : tS) : Prop := tX mX6_is 2 c 25 [some (.ref c.2.2.2.1), some (.int x1), some (.int x2), some (.int x3), some (.int x4), none, none, none] T
def h_is_86 (c : tC) (x1 : Int32) (x2 : Int32) (x3 : Int32) (x4 : Int32) (T : tS) : Prop := tX mX6_is 2 c 86 [some (.ref c.2.2.2.1), some (.int x1), some (.int x2), some (.int x3), some (.int x4), none, none, none] T
def h_is_115 (c : tC) (x1 : Int32) (x2 : Int32) (x3 : Int32) (x4 : Int32) (T : tS) : Prop := tX mX6_is 2 c 115 [some (.ref c.2.2.2.1), some (.int x1), some (.int x2), some (.int x3), some (.int x4), none, none, none] T
def h_is_150 (c : tC) (x1 : Int32) (x3 : Int32) (x4 : Int32) (x7 : Int32) (T : tS) : Prop := tX mX6_is 2 c 150 [some (.ref c.2.2.2.1), some (.int x1), none, some (.int x3), some (.int x4), none, none, some (.int x7)] T
def h_is_161 (c : tC) (x1 : Int32) (x2 : Int32) (x4 : Int32) (T : tS) : Prop := tX mX6_is 2 c 161 [some (.ref c.2.2.2.1), some (.int x1), some (.int x2), none, some (.int x4), none, none, none] T
set_option maxHeartbeats 2000000 in
theorem s_is_0 (c : tC) (x1 : Int32) (T : tS) (H : (¬ (zI ((0 : Int64) ≤ x1.toInt64 ∧ x1.toInt64 ≤ (3 : Int64))) = 0 → ∃ Q2 : tS → Prop, tMv mX6_laysMarks 1 (fun b => []) T Q2 ∧ ∀ T5 : tS, Q2 T5 → h_is_25 c x1 (1 : Int32) (0 : Int32) (0 : Int32) T5) ∧ ((zI ((0 : Int64) ≤ x1.toInt64 ∧ x1.toInt64 ≤ (3 : Int64))) = 0 → c.2.2.2.2.2.2 (some (.int (-1 : Int32))) T)) : h_is_0 c x1 T := by
  intro ok
  refine e_iload_n dX6_is_0 rfl ?_
  refine e_i2l dX6_is_1 ?_
  refine e_lconst 0 dX6_is_2 (by decide) ?_
  refine e_ldc2 dX6_is_3 q3107 ?_
  refine t_callS (As := [.long x1.toInt64, .long (0 : Int64), .long (3 : Int64)]) ok (ct_isIn x1.toInt64 (0 : Int64) (3 : Int64)) dX6_is_6 wX6_isIn q2707 q2708 rfl (by decide) rfl (Nat.le_of_ble_eq_true rfl) ?_
  refine e_if_ne 14 dX6_is_9 (by decide) (fun g1 => ?_) (fun g1 => ?_)
  · replace H := H.1 g1
    refine e_aload_n dX6_is_14 rfl ?_
    obtain ⟨Q2, hC3, H⟩ := H
    refine t_callV (As := []) ok hC3 dX6_is_15 wX6_laysMarks q3095 q3097 qs124 rfl rfl (by decide) rfl (Nat.le_of_ble_eq_true rfl) (fun v4 T5 e6 => ?_)
    obtain ⟨rfl, e6⟩ := e6
    replace H := H T5 e6
    refine e_iconst (1) dX6_is_18 (by decide) ?_
    refine e_istore_n _ dX6_is_19 (by decide) rfl rfl ?_
    refine e_iconst (0) dX6_is_20 (by decide) ?_
    refine e_istore_n _ dX6_is_21 (by decide) rfl rfl ?_
    refine e_iconst (0) dX6_is_22 (by decide) ?_
    refine e_istore _ dX6_is_23 (by decide) rfl rfl ?_
    exact H ok
  · replace H := H.2 g1
    refine e_iconst (-1) dX6_is_12 (by decide) ?_
    exact e_ireturn .int dX6_is_13 rfl rfl ⟨_, _, rfl, rfl, H⟩

set_option maxHeartbeats 2000000 in
theorem s_is_25 (c : tC) (x1 : Int32) (x2 : Int32) (x3 : Int32) (x4 : Int32) (T : tS) (H : ((T.1 26) ≤ x4 → (¬ x1 = (3 : Int32) → c.2.2.2.2.2.2 (some (.int (zI (¬ x2 = 0)))) T) ∧ (x1 = (3 : Int32) → c.2.2.2.2.2.2 (some (.int (zI (¬ x3 = 0)))) T)) ∧ (¬ (T.1 26) ≤ x4 → vp_in x4 64 ∧ ((¬ x1 = 0 → (¬ x1 = (1 : Int32) → (¬ x1 = (2 : Int32) → (¬ (lg_cmp (T.2.2.2 37 x4.toNatClampNeg) (0 : Int64)) = 0 → (x2 = 0 → h_is_150 c x1 x3 x4 (0 : Int32) T) ∧ (¬ x2 = 0 → ((0 : Int32) = 0 → h_is_150 c x1 x3 x4 (0 : Int32) T) ∧ (¬ (0 : Int32) = 0 → (¬ x3 = 0 → h_is_161 c x1 (1 : Int32) x4 T) ∧ (x3 = 0 → ((0 : Int32) = 0 → h_is_25 c x1 (1 : Int32) (0 : Int32) (x4 + 1) T) ∧ (¬ (0 : Int32) = 0 → h_is_161 c x1 (1 : Int32) x4 T))))) ∧ ((lg_cmp (T.2.2.2 37 x4.toNatClampNeg) (0 : Int64)) = 0 → (x2 = 0 → h_is_150 c x1 x3 x4 (1 : Int32) T) ∧ (¬ x2 = 0 → ((1 : Int32) = 0 → h_is_150 c x1 x3 x4 (1 : Int32) T) ∧ (¬ (1 : Int32) = 0 → (¬ x3 = 0 → h_is_161 c x1 (1 : Int32) x4 T) ∧ (x3 = 0 → ((1 : Int32) = 0 → h_is_25 c x1 (1 : Int32) (0 : Int32) (x4 + 1) T) ∧ (¬ (1 : Int32) = 0 → h_is_161 c x1 (1 : Int32) x4 T)))))) ∧ (x1 = (2 : Int32) → ((lg_cmp (T.2.2.2 37 x4.toNatClampNeg) (1 : Int64)) = 0 → h_is_115 c x1 x2 x3 x4 T) ∧ (¬ (lg_cmp (T.2.2.2 37 x4.toNatClampNeg) (1 : Int64)) = 0 → (¬ (lg_cmp (T.2.2.2 37 x4.toNatClampNeg) (-1 : Int64)) = 0 → (x2 = 0 → h_is_150 c x1 x3 x4 (0 : Int32) T) ∧ (¬ x2 = 0 → ((0 : Int32) = 0 → h_is_150 c x1 x3 x4 (0 : Int32) T) ∧ (¬ (0 : Int32) = 0 → (¬ x3 = 0 → h_is_161 c x1 (1 : Int32) x4 T) ∧ (x3 = 0 → ((0 : Int32) = 0 → h_is_25 c x1 (1 : Int32) (0 : Int32) (x4 + 1) T) ∧ (¬ (0 : Int32) = 0 → h_is_161 c x1 (1 : Int32) x4 T))))) ∧ ((lg_cmp (T.2.2.2 37 x4.toNatClampNeg) (-1 : Int64)) = 0 → h_is_115 c x1 x2 x3 x4 T)))) ∧ (x1 = (1 : Int32) → ((lg_cmp (T.2.2.2 37 x4.toNatClampNeg) (0 : Int64)) = 0 → h_is_86 c x1 x2 x3 x4 T) ∧ (¬ (lg_cmp (T.2.2.2 37 x4.toNatClampNeg) (0 : Int64)) = 0 → (¬ (lg_cmp (T.2.2.2 37 x4.toNatClampNeg) (1 : Int64)) = 0 → (x2 = 0 → h_is_150 c x1 x3 x4 (0 : Int32) T) ∧ (¬ x2 = 0 → ((0 : Int32) = 0 → h_is_150 c x1 x3 x4 (0 : Int32) T) ∧ (¬ (0 : Int32) = 0 → (¬ x3 = 0 → h_is_161 c x1 (1 : Int32) x4 T) ∧ (x3 = 0 → ((0 : Int32) = 0 → h_is_25 c x1 (1 : Int32) (0 : Int32) (x4 + 1) T) ∧ (¬ (0 : Int32) = 0 → h_is_161 c x1 (1 : Int32) x4 T))))) ∧ ((lg_cmp (T.2.2.2 37 x4.toNatClampNeg) (1 : Int64)) = 0 → h_is_86 c x1 x2 x3 x4 T)))) ∧ (x1 = 0 → vp_in x4 64 ∧ (((lg_cmp (T.2.2.2 36 x4.toNatClampNeg) (0 : Int64)) < 0 → (x2 = 0 → h_is_150 c x1 x3 x4 (0 : Int32) T) ∧ (¬ x2 = 0 → ((0 : Int32) = 0 → h_is_150 c x1 x3 x4 (0 : Int32) T) ∧ (¬ (0 : Int32) = 0 → (¬ x3 = 0 → h_is_161 c x1 (1 : Int32) x4 T) ∧ (x3 = 0 → ((0 : Int32) = 0 → h_is_25 c x1 (1 : Int32) (0 : Int32) (x4 + 1) T) ∧ (¬ (0 : Int32) = 0 → h_is_161 c x1 (1 : Int32) x4 T))))) ∧ (¬ (lg_cmp (T.2.2.2 36 x4.toNatClampNeg) (0 : Int64)) < 0 → (x2 = 0 → h_is_150 c x1 x3 x4 (1 : Int32) T) ∧ (¬ x2 = 0 → ((1 : Int32) = 0 → h_is_150 c x1 x3 x4 (1 : Int32) T) ∧ (¬ (1 : Int32) = 0 → (¬ x3 = 0 → h_is_161 c x1 (1 : Int32) x4 T) ∧ (x3 = 0 → ((1 : Int32) = 0 → h_is_25 c x1 (1 : Int32) (0 : Int32) (x4 + 1) T) ∧ (¬ (1 : Int32) = 0 → h_is_161 c x1 (1 : Int32) x4 T)))))))))) : h_is_25 c x1 x2 x3 x4 T := by
  intro ok
  refine e_iload dX6_is_25 rfl ?_
  refine e_aload_n dX6_is_27 rfl ?_
  refine t_getI dX6_is_28 fX6_26 q2522 (by decide) rfl ?_
  refine e_icmp_ge 173 dX6_is_31 (by decide) (fun g1 => ?_) (fun g1 => ?_)
  · replace H := H.1 g1
    refine e_iload_n dX6_is_173 rfl ?_
    refine e_iconst (3) dX6_is_174 (by decide) ?_
    refine e_icmp_ne 182 dX6_is_175 (by decide) (fun g2 => ?_) (fun g2 => ?_)
    · replace H := H.1 g2
      refine e_iload_n dX6_is_182 rfl ?_
      refine t_callS (As := [.int x2]) ok (ct_truth x2) dX6_is_183 wX6_truth q2489 q2490 rfl (by decide) rfl (Nat.le_of_ble_eq_true rfl) ?_
      exact e_ireturn .int dX6_is_186 rfl rfl ⟨_, _, rfl, rfl, H⟩
    · replace H := H.2 g2
      refine e_iload_n dX6_is_178 rfl ?_
      refine e_goto 183 dX6_is_179 (by decide) ?_
      refine t_callS (As := [.int x3]) ok (ct_truth x3) dX6_is_183 wX6_truth q2489 q2490 rfl (by decide) rfl (Nat.le_of_ble_eq_true rfl) ?_
      exact e_ireturn .int dX6_is_186 rfl rfl ⟨_, _, rfl, rfl, H⟩
  · replace H := H.2 g1
    refine e_aload_n dX6_is_34 rfl ?_
    refine t_getA dX6_is_35 fX6_37 q2533 (by decide) rfl ?_
    refine e_iload dX6_is_38 rfl ?_
    obtain ⟨g3, H⟩ := H
    refine t_lald dX6_is_40 (by decide) rfl g3 ?_
    refine e_lstore _ dX6_is_41 (by decide) rfl rfl ?_
    refine e_iload_n dX6_is_43 rfl ?_
    refine e_if_ne 67 dX6_is_44 (by decide) (fun g4 => ?_) (fun g4 => ?_)
    · replace H := H.1 g4
      refine e_iload_n dX6_is_67 rfl ?_
      refine e_iconst (1) dX6_is_68 (by decide) ?_
      refine e_icmp_ne 94 dX6_is_69 (by decide) (fun g5 => ?_) (fun g5 => ?_)
      · replace H := H.1 g5
        refine e_iload_n dX6_is_94 rfl ?_
        refine e_iconst (2) dX6_is_95 (by decide) ?_
        refine e_icmp_ne 123 dX6_is_96 (by decide) (fun g6 => ?_) (fun g6 => ?_)
        · replace H := H.1 g6
          refine e_lload dX6_is_123 rfl ?_
          refine e_lconst 0 dX6_is_125 (by decide) ?_
          refine e_lcmp dX6_is_126 ?_
          refine e_if_ne 134 dX6_is_127 (by decide) (fun g7 => ?_) (fun g7 => ?_)
          · replace H := H.1 g7
            refine e_iconst (0) dX6_is_134 (by decide) ?_
            refine e_istore _ dX6_is_135 (by decide) trivial rfl ?_
            refine e_iload_n dX6_is_137 rfl ?_
            refine e_if_eq 150 dX6_is_138 (by decide) (fun g8 => ?_) (fun g8 => ?_)
            · replace H := H.1 g8
              exact E.less2 (H ok) (eS_s (eS_s (eS_n (eS_s (eS_s (eS_n (eS_n (eS_s eS_0))))))))
            · replace H := H.2 g8
              refine e_iload dX6_is_141 rfl ?_
              refine e_if_eq 150 dX6_is_143 (by decide) (fun g9 => ?_) (fun g9 => ?_)
              · replace H := H.1 g9
                exact E.less2 (H ok) (eS_s (eS_s (eS_n (eS_s (eS_s (eS_n (eS_n (eS_s eS_0))))))))
              · replace H := H.2 g9
                refine e_iconst (1) dX6_is_146 (by decide) ?_
                refine e_goto 151 dX6_is_147 (by decide) ?_
                refine e_istore_n _ dX6_is_151 (by decide) rfl rfl ?_
                refine e_iload_n dX6_is_152 rfl ?_
                refine e_if_ne 161 dX6_is_153 (by decide) (fun g10 => ?_) (fun g10 => ?_)
                · replace H := H.1 g10
                  exact E.less2 (H ok) (eS_s (eS_s (eS_s (eS_n (eS_s (eS_n (eS_n (eS_n eS_0))))))))
                · replace H := H.2 g10
                  refine e_iload dX6_is_156 rfl ?_
                  refine e_if_eq 165 dX6_is_158 (by decide) (fun g11 => ?_) (fun g11 => ?_)
                  · replace H := H.1 g11
                    refine e_iconst (0) dX6_is_165 (by decide) ?_
                    refine e_istore_n _ dX6_is_166 (by decide) rfl rfl ?_
                    refine e_iinc (x4 + 1) _ dX6_is_167 rfl rfl (by decide) rfl rfl ?_
                    refine e_goto 25 dX6_is_170 (by decide) ?_
                    exact E.less2 (H ok) (eS_s (eS_s (eS_s (eS_s (eS_s (eS_n (eS_n (eS_n eS_0))))))))
                  · replace H := H.2 g11
                    exact E.less2 (H ok) (eS_s (eS_s (eS_s (eS_n (eS_s (eS_n (eS_n (eS_n eS_0))))))))
          · replace H := H.2 g7
            refine e_iconst (1) dX6_is_130 (by decide) ?_
            refine e_goto 135 dX6_is_131 (by decide) ?_
            refine e_istore _ dX6_is_135 (by decide) trivial rfl ?_
            refine e_iload_n dX6_is_137 rfl ?_
            refine e_if_eq 150 dX6_is_138 (by decide) (fun g12 => ?_) (fun g12 => ?_)
            · replace H := H.1 g12
              exact E.less2 (H ok) (eS_s (eS_s (eS_n (eS_s (eS_s (eS_n (eS_n (eS_s eS_0))))))))
            · replace H := H.2 g12
              refine e_iload dX6_is_141 rfl ?_
              refine e_if_eq 150 dX6_is_143 (by decide) (fun g13 => ?_) (fun g13 => ?_)
              · replace H := H.1 g13
                exact E.less2 (H ok) (eS_s (eS_s (eS_n (eS_s (eS_s (eS_n (eS_n (eS_s eS_0))))))))
              · replace H := H.2 g13
                refine e_iconst (1) dX6_is_146 (by decide) ?_
                refine e_goto 151 dX6_is_147 (by decide) ?_
                refine e_istore_n _ dX6_is_151 (by decide) rfl rfl ?_
                refine e_iload_n dX6_is_152 rfl ?_
                refine e_if_ne 161 dX6_is_153 (by decide) (fun g14 => ?_) (fun g14 => ?_)
                · replace H := H.1 g14
                  exact E.less2 (H ok) (eS_s (eS_s (eS_s (eS_n (eS_s (eS_n (eS_n (eS_n eS_0))))))))
                · replace H := H.2 g14
                  refine e_iload dX6_is_156 rfl ?_
                  refine e_if_eq 165 dX6_is_158 (by decide) (fun g15 => ?_) (fun g15 => ?_)
                  · replace H := H.1 g15
                    refine e_iconst (0) dX6_is_165 (by decide) ?_
                    refine e_istore_n _ dX6_is_166 (by decide) rfl rfl ?_
                    refine e_iinc (x4 + 1) _ dX6_is_167 rfl rfl (by decide) rfl rfl ?_
                    refine e_goto 25 dX6_is_170 (by decide) ?_
                    exact E.less2 (H ok) (eS_s (eS_s (eS_s (eS_s (eS_s (eS_n (eS_n (eS_n eS_0))))))))
                  · replace H := H.2 g15
                    exact E.less2 (H ok) (eS_s (eS_s (eS_s (eS_n (eS_s (eS_n (eS_n (eS_n eS_0))))))))
        · replace H := H.2 g6
          refine e_lload dX6_is_99 rfl ?_
          refine e_lconst 1 dX6_is_101 (by decide) ?_
          refine e_lcmp dX6_is_102 ?_
          refine e_if_eq 115 dX6_is_103 (by decide) (fun g16 => ?_) (fun g16 => ?_)
          · replace H := H.1 g16
            exact E.less2 (H ok) (eS_s (eS_s (eS_s (eS_s (eS_s (eS_n (eS_n (eS_n eS_0))))))))
          · replace H := H.2 g16
            refine e_lload dX6_is_106 rfl ?_
            refine e_ldc2 dX6_is_108 q3065 ?_
            refine e_lcmp dX6_is_111 ?_
            refine e_if_ne 119 dX6_is_112 (by decide) (fun g17 => ?_) (fun g17 => ?_)
            · replace H := H.1 g17
              refine e_iconst (0) dX6_is_119 (by decide) ?_
              refine e_goto 135 dX6_is_120 (by decide) ?_
              refine e_istore _ dX6_is_135 (by decide) trivial rfl ?_
              refine e_iload_n dX6_is_137 rfl ?_
              refine e_if_eq 150 dX6_is_138 (by decide) (fun g18 => ?_) (fun g18 => ?_)
              · replace H := H.1 g18
                exact E.less2 (H ok) (eS_s (eS_s (eS_n (eS_s (eS_s (eS_n (eS_n (eS_s eS_0))))))))
              · replace H := H.2 g18
                refine e_iload dX6_is_141 rfl ?_
                refine e_if_eq 150 dX6_is_143 (by decide) (fun g19 => ?_) (fun g19 => ?_)
                · replace H := H.1 g19
                  exact E.less2 (H ok) (eS_s (eS_s (eS_n (eS_s (eS_s (eS_n (eS_n (eS_s eS_0))))))))
                · replace H := H.2 g19
                  refine e_iconst (1) dX6_is_146 (by decide) ?_
                  refine e_goto 151 dX6_is_147 (by decide) ?_
                  refine e_istore_n _ dX6_is_151 (by decide) rfl rfl ?_
                  refine e_iload_n dX6_is_152 rfl ?_
                  refine e_if_ne 161 dX6_is_153 (by decide) (fun g20 => ?_) (fun g20 => ?_)
                  · replace H := H.1 g20
                    exact E.less2 (H ok) (eS_s (eS_s (eS_s (eS_n (eS_s (eS_n (eS_n (eS_n eS_0))))))))
                  · replace H := H.2 g20
                    refine e_iload dX6_is_156 rfl ?_
                    refine e_if_eq 165 dX6_is_158 (by decide) (fun g21 => ?_) (fun g21 => ?_)
                    · replace H := H.1 g21
                      refine e_iconst (0) dX6_is_165 (by decide) ?_
                      refine e_istore_n _ dX6_is_166 (by decide) rfl rfl ?_
                      refine e_iinc (x4 + 1) _ dX6_is_167 rfl rfl (by decide) rfl rfl ?_
                      refine e_goto 25 dX6_is_170 (by decide) ?_
                      exact E.less2 (H ok) (eS_s (eS_s (eS_s (eS_s (eS_s (eS_n (eS_n (eS_n eS_0))))))))
                    · replace H := H.2 g21
                      exact E.less2 (H ok) (eS_s (eS_s (eS_s (eS_n (eS_s (eS_n (eS_n (eS_n eS_0))))))))
            · replace H := H.2 g17
              exact E.less2 (H ok) (eS_s (eS_s (eS_s (eS_s (eS_s (eS_n (eS_n (eS_n eS_0))))))))
      · replace H := H.2 g5
        refine e_lload dX6_is_72 rfl ?_
        refine e_lconst 0 dX6_is_74 (by decide) ?_
        refine e_lcmp dX6_is_75 ?_
        refine e_if_eq 86 dX6_is_76 (by decide) (fun g22 => ?_) (fun g22 => ?_)
        · replace H := H.1 g22
          exact E.less2 (H ok) (eS_s (eS_s (eS_s (eS_s (eS_s (eS_n (eS_n (eS_n eS_0))))))))
        · replace H := H.2 g22
          refine e_lload dX6_is_79 rfl ?_
          refine e_lconst 1 dX6_is_81 (by decide) ?_
          refine e_lcmp dX6_is_82 ?_
          refine e_if_ne 90 dX6_is_83 (by decide) (fun g23 => ?_) (fun g23 => ?_)
          · replace H := H.1 g23
            refine e_iconst (0) dX6_is_90 (by decide) ?_
            refine e_goto 135 dX6_is_91 (by decide) ?_
            refine e_istore _ dX6_is_135 (by decide) trivial rfl ?_
            refine e_iload_n dX6_is_137 rfl ?_
            refine e_if_eq 150 dX6_is_138 (by decide) (fun g24 => ?_) (fun g24 => ?_)
            · replace H := H.1 g24
              exact E.less2 (H ok) (eS_s (eS_s (eS_n (eS_s (eS_s (eS_n (eS_n (eS_s eS_0))))))))
            · replace H := H.2 g24
              refine e_iload dX6_is_141 rfl ?_
              refine e_if_eq 150 dX6_is_143 (by decide) (fun g25 => ?_) (fun g25 => ?_)
              · replace H := H.1 g25
                exact E.less2 (H ok) (eS_s (eS_s (eS_n (eS_s (eS_s (eS_n (eS_n (eS_s eS_0))))))))
              · replace H := H.2 g25
                refine e_iconst (1) dX6_is_146 (by decide) ?_
                refine e_goto 151 dX6_is_147 (by decide) ?_
                refine e_istore_n _ dX6_is_151 (by decide) rfl rfl ?_
                refine e_iload_n dX6_is_152 rfl ?_
                refine e_if_ne 161 dX6_is_153 (by decide) (fun g26 => ?_) (fun g26 => ?_)
                · replace H := H.1 g26
                  exact E.less2 (H ok) (eS_s (eS_s (eS_s (eS_n (eS_s (eS_n (eS_n (eS_n eS_0))))))))
                · replace H := H.2 g26
                  refine e_iload dX6_is_156 rfl ?_
                  refine e_if_eq 165 dX6_is_158 (by decide) (fun g27 => ?_) (fun g27 => ?_)
                  · replace H := H.1 g27
                    refine e_iconst (0) dX6_is_165 (by decide) ?_
                    refine e_istore_n _ dX6_is_166 (by decide) rfl rfl ?_
                    refine e_iinc (x4 + 1) _ dX6_is_167 rfl rfl (by decide) rfl rfl ?_
                    refine e_goto 25 dX6_is_170 (by decide) ?_
                    exact E.less2 (H ok) (eS_s (eS_s (eS_s (eS_s (eS_s (eS_n (eS_n (eS_n eS_0))))))))
                  · replace H := H.2 g27
                    exact E.less2 (H ok) (eS_s (eS_s (eS_s (eS_n (eS_s (eS_n (eS_n (eS_n eS_0))))))))
          · replace H := H.2 g23
            exact E.less2 (H ok) (eS_s (eS_s (eS_s (eS_s (eS_s (eS_n (eS_n (eS_n eS_0))))))))
    · replace H := H.2 g4
      refine e_aload_n dX6_is_47 rfl ?_
      refine t_getA dX6_is_48 fX6_36 q2532 (by decide) rfl ?_
      refine e_iload dX6_is_51 rfl ?_
      obtain ⟨g28, H⟩ := H
      refine t_lald dX6_is_53 (by decide) rfl g28 ?_
      refine e_lconst 0 dX6_is_54 (by decide) ?_
      refine e_lcmp dX6_is_55 ?_
      refine e_if_lt 63 dX6_is_56 (by decide) (fun g29 => ?_) (fun g29 => ?_)
      · replace H := H.1 g29
        refine e_iconst (0) dX6_is_63 (by decide) ?_
        refine e_goto 135 dX6_is_64 (by decide) ?_
        refine e_istore _ dX6_is_135 (by decide) trivial rfl ?_
        refine e_iload_n dX6_is_137 rfl ?_
        refine e_if_eq 150 dX6_is_138 (by decide) (fun g30 => ?_) (fun g30 => ?_)
        · replace H := H.1 g30
          exact E.less2 (H ok) (eS_s (eS_s (eS_n (eS_s (eS_s (eS_n (eS_n (eS_s eS_0))))))))
        · replace H := H.2 g30
          refine e_iload dX6_is_141 rfl ?_
          refine e_if_eq 150 dX6_is_143 (by decide) (fun g31 => ?_) (fun g31 => ?_)
          · replace H := H.1 g31
            exact E.less2 (H ok) (eS_s (eS_s (eS_n (eS_s (eS_s (eS_n (eS_n (eS_s eS_0))))))))
          · replace H := H.2 g31
            refine e_iconst (1) dX6_is_146 (by decide) ?_
            refine e_goto 151 dX6_is_147 (by decide) ?_
            refine e_istore_n _ dX6_is_151 (by decide) rfl rfl ?_
            refine e_iload_n dX6_is_152 rfl ?_
            refine e_if_ne 161 dX6_is_153 (by decide) (fun g32 => ?_) (fun g32 => ?_)
            · replace H := H.1 g32
              exact E.less2 (H ok) (eS_s (eS_s (eS_s (eS_n (eS_s (eS_n (eS_n (eS_n eS_0))))))))
            · replace H := H.2 g32
              refine e_iload dX6_is_156 rfl ?_
              refine e_if_eq 165 dX6_is_158 (by decide) (fun g33 => ?_) (fun g33 => ?_)
              · replace H := H.1 g33
                refine e_iconst (0) dX6_is_165 (by decide) ?_
                refine e_istore_n _ dX6_is_166 (by decide) rfl rfl ?_
                refine e_iinc (x4 + 1) _ dX6_is_167 rfl rfl (by decide) rfl rfl ?_
                refine e_goto 25 dX6_is_170 (by decide) ?_
                exact E.less2 (H ok) (eS_s (eS_s (eS_s (eS_s (eS_s (eS_n (eS_n (eS_n eS_0))))))))
              · replace H := H.2 g33
                exact E.less2 (H ok) (eS_s (eS_s (eS_s (eS_n (eS_s (eS_n (eS_n (eS_n eS_0))))))))
      · replace H := H.2 g29
        refine e_iconst (1) dX6_is_59 (by decide) ?_
        refine e_goto 135 dX6_is_60 (by decide) ?_
        refine e_istore _ dX6_is_135 (by decide) trivial rfl ?_
        refine e_iload_n dX6_is_137 rfl ?_
        refine e_if_eq 150 dX6_is_138 (by decide) (fun g34 => ?_) (fun g34 => ?_)
        · replace H := H.1 g34
          exact E.less2 (H ok) (eS_s (eS_s (eS_n (eS_s (eS_s (eS_n (eS_n (eS_s eS_0))))))))
        · replace H := H.2 g34
          refine e_iload dX6_is_141 rfl ?_
          refine e_if_eq 150 dX6_is_143 (by decide) (fun g35 => ?_) (fun g35 => ?_)
          · replace H := H.1 g35
            exact E.less2 (H ok) (eS_s (eS_s (eS_n (eS_s (eS_s (eS_n (eS_n (eS_s eS_0))))))))
          · replace H := H.2 g35
            refine e_iconst (1) dX6_is_146 (by decide) ?_
            refine e_goto 151 dX6_is_147 (by decide) ?_
            refine e_istore_n _ dX6_is_151 (by decide) rfl rfl ?_
            refine e_iload_n dX6_is_152 rfl ?_
            refine e_if_ne 161 dX6_is_153 (by decide) (fun g36 => ?_) (fun g36 => ?_)
            · replace H := H.1 g36
              exact E.less2 (H ok) (eS_s (eS_s (eS_s (eS_n (eS_s (eS_n (eS_n (eS_n eS_0))))))))
            · replace H := H.2 g36
              refine e_iload dX6_is_156 rfl ?_
              refine e_if_eq 165 dX6_is_158 (by decide) (fun g37 => ?_) (fun g37 => ?_)
              · replace H := H.1 g37
                refine e_iconst (0) dX6_is_165 (by decide) ?_
                refine e_istore_n _ dX6_is_166 (by decide) rfl rfl ?_
                refine e_iinc (x4 + 1) _ dX6_is_167 rfl rfl (by decide) rfl rfl ?_
                refine e_goto 25 dX6_is_170 (by decide) ?_
                exact E.less2 (H ok) (eS_s (eS_s (eS_s (eS_s (eS_s (eS_n (eS_n (eS_n eS_0))))))))
              · replace H := H.2 g37
                exact E.less2 (H ok) (eS_s (eS_s (eS_s (eS_n (eS_s (eS_n (eS_n (eS_n eS_0))))))))

set_option maxHeartbeats 2000000 in
theorem s_is_86 (c : tC) (x1 : Int32) (x2 : Int32) (x3 : Int32) (x4 : Int32) (T : tS) (H : (x2 = 0 → h_is_150 c x1 x3 x4 (1 : Int32) T) ∧ (¬ x2 = 0 → ((1 : Int32) = 0 → h_is_150 c x1 x3 x4 (1 : Int32) T) ∧ (¬ (1 : Int32) = 0 → (¬ x3 = 0 → h_is_161 c x1 (1 : Int32) x4 T) ∧ (x3 = 0 → ((1 : Int32) = 0 → h_is_25 c x1 (1 : Int32) (0 : Int32) (x4 + 1) T) ∧ (¬ (1 : Int32) = 0 → h_is_161 c x1 (1 : Int32) x4 T))))) : h_is_86 c x1 x2 x3 x4 T := by
  intro ok
  refine e_iconst (1) dX6_is_86 (by decide) ?_
  refine e_goto 135 dX6_is_87 (by decide) ?_
  refine e_istore _ dX6_is_135 (by decide) trivial rfl ?_
  refine e_iload_n dX6_is_137 rfl ?_
  refine e_if_eq 150 dX6_is_138 (by decide) (fun g1 => ?_) (fun g1 => ?_)
  · replace H := H.1 g1
    exact E.less2 (H ok) (eS_s (eS_s (eS_n (eS_s (eS_s (eS_n (eS_n (eS_s eS_0))))))))
  · replace H := H.2 g1
    refine e_iload dX6_is_141 rfl ?_
    refine e_if_eq 150 dX6_is_143 (by decide) (fun g2 => ?_) (fun g2 => ?_)
    · replace H := H.1 g2
      exact E.less2 (H ok) (eS_s (eS_s (eS_n (eS_s (eS_s (eS_n (eS_n (eS_s eS_0))))))))
    · replace H := H.2 g2
      refine e_iconst (1) dX6_is_146 (by decide) ?_
      refine e_goto 151 dX6_is_147 (by decide) ?_
      refine e_istore_n _ dX6_is_151 (by decide) rfl rfl ?_
      refine e_iload_n dX6_is_152 rfl ?_
      refine e_if_ne 161 dX6_is_153 (by decide) (fun g3 => ?_) (fun g3 => ?_)
      · replace H := H.1 g3
        exact E.less2 (H ok) (eS_s (eS_s (eS_s (eS_n (eS_s (eS_n (eS_n (eS_n eS_0))))))))
      · replace H := H.2 g3
        refine e_iload dX6_is_156 rfl ?_
        refine e_if_eq 165 dX6_is_158 (by decide) (fun g4 => ?_) (fun g4 => ?_)
        · replace H := H.1 g4
          refine e_iconst (0) dX6_is_165 (by decide) ?_
          refine e_istore_n _ dX6_is_166 (by decide) rfl rfl ?_
          refine e_iinc (x4 + 1) _ dX6_is_167 rfl rfl (by decide) rfl rfl ?_
          refine e_goto 25 dX6_is_170 (by decide) ?_
          exact E.less2 (H ok) (eS_s (eS_s (eS_s (eS_s (eS_s (eS_n (eS_n (eS_n eS_0))))))))
        · replace H := H.2 g4
          exact E.less2 (H ok) (eS_s (eS_s (eS_s (eS_n (eS_s (eS_n (eS_n (eS_n eS_0))))))))

set_option maxHeartbeats 2000000 in
theorem s_is_115 (c : tC) (x1 : Int32) (x2 : Int32) (x3 : Int32) (x4 : Int32) (T : tS) (H : (x2 = 0 → h_is_150 c x1 x3 x4 (1 : Int32) T) ∧ (¬ x2 = 0 → ((1 : Int32) = 0 → h_is_150 c x1 x3 x4 (1 : Int32) T) ∧ (¬ (1 : Int32) = 0 → (¬ x3 = 0 → h_is_161 c x1 (1 : Int32) x4 T) ∧ (x3 = 0 → ((1 : Int32) = 0 → h_is_25 c x1 (1 : Int32) (0 : Int32) (x4 + 1) T) ∧ (¬ (1 : Int32) = 0 → h_is_161 c x1 (1 : Int32) x4 T))))) : h_is_115 c x1 x2 x3 x4 T := by
  intro ok
  refine e_iconst (1) dX6_is_115 (by decide) ?_
  refine e_goto 135 dX6_is_116 (by decide) ?_
  refine e_istore _ dX6_is_135 (by decide) trivial rfl ?_
  refine e_iload_n dX6_is_137 rfl ?_
  refine e_if_eq 150 dX6_is_138 (by decide) (fun g1 => ?_) (fun g1 => ?_)
  · replace H := H.1 g1
    exact E.less2 (H ok) (eS_s (eS_s (eS_n (eS_s (eS_s (eS_n (eS_n (eS_s eS_0))))))))
  · replace H := H.2 g1
    refine e_iload dX6_is_141 rfl ?_
    refine e_if_eq 150 dX6_is_143 (by decide) (fun g2 => ?_) (fun g2 => ?_)
    · replace H := H.1 g2
      exact E.less2 (H ok) (eS_s (eS_s (eS_n (eS_s (eS_s (eS_n (eS_n (eS_s eS_0))))))))
    · replace H := H.2 g2
      refine e_iconst (1) dX6_is_146 (by decide) ?_
      refine e_goto 151 dX6_is_147 (by decide) ?_
      refine e_istore_n _ dX6_is_151 (by decide) rfl rfl ?_
      refine e_iload_n dX6_is_152 rfl ?_
      refine e_if_ne 161 dX6_is_153 (by decide) (fun g3 => ?_) (fun g3 => ?_)
      · replace H := H.1 g3
        exact E.less2 (H ok) (eS_s (eS_s (eS_s (eS_n (eS_s (eS_n (eS_n (eS_n eS_0))))))))
      · replace H := H.2 g3
        refine e_iload dX6_is_156 rfl ?_
        refine e_if_eq 165 dX6_is_158 (by decide) (fun g4 => ?_) (fun g4 => ?_)
        · replace H := H.1 g4
          refine e_iconst (0) dX6_is_165 (by decide) ?_
          refine e_istore_n _ dX6_is_166 (by decide) rfl rfl ?_
          refine e_iinc (x4 + 1) _ dX6_is_167 rfl rfl (by decide) rfl rfl ?_
          refine e_goto 25 dX6_is_170 (by decide) ?_
          exact E.less2 (H ok) (eS_s (eS_s (eS_s (eS_s (eS_s (eS_n (eS_n (eS_n eS_0))))))))
        · replace H := H.2 g4
          exact E.less2 (H ok) (eS_s (eS_s (eS_s (eS_n (eS_s (eS_n (eS_n (eS_n eS_0))))))))

set_option maxHeartbeats 2000000 in
theorem s_is_150 (c : tC) (x1 : Int32) (x3 : Int32) (x4 : Int32) (x7 : Int32) (T : tS) (H : (¬ x3 = 0 → h_is_161 c x1 (0 : Int32) x4 T) ∧ (x3 = 0 → (x7 = 0 → h_is_25 c x1 (0 : Int32) (0 : Int32) (x4 + 1) T) ∧ (¬ x7 = 0 → h_is_161 c x1 (0 : Int32) x4 T))) : h_is_150 c x1 x3 x4 x7 T := by
  intro ok
  refine e_iconst (0) dX6_is_150 (by decide) ?_
  refine e_istore_n _ dX6_is_151 (by decide) rfl rfl ?_
  refine e_iload_n dX6_is_152 rfl ?_
  refine e_if_ne 161 dX6_is_153 (by decide) (fun g1 => ?_) (fun g1 => ?_)
  · replace H := H.1 g1
    exact E.less2 (H ok) (eS_s (eS_s (eS_s (eS_n (eS_s (eS_n (eS_n (eS_n eS_0))))))))
  · replace H := H.2 g1
    refine e_iload dX6_is_156 rfl ?_
    refine e_if_eq 165 dX6_is_158 (by decide) (fun g2 => ?_) (fun g2 => ?_)
    · replace H := H.1 g2
      refine e_iconst (0) dX6_is_165 (by decide) ?_
      refine e_istore_n _ dX6_is_166 (by decide) rfl rfl ?_
      refine e_iinc (x4 + 1) _ dX6_is_167 rfl rfl (by decide) rfl rfl ?_
      refine e_goto 25 dX6_is_170 (by decide) ?_
      exact E.less2 (H ok) (eS_s (eS_s (eS_s (eS_s (eS_s (eS_n (eS_n (eS_n eS_0))))))))
    · replace H := H.2 g2
      exact E.less2 (H ok) (eS_s (eS_s (eS_s (eS_n (eS_s (eS_n (eS_n (eS_n eS_0))))))))

set_option maxHeartbeats 2000000 in
theorem s_is_161 (c : tC) (x1 : Int32) (x2 : Int32) (x4 : Int32) (T : tS) (H : h_is_25 c x1 x2 (1 : Int32) (x4 + 1) T) : h_is_161 c x1 x2 x4 T := by
  intro ok
  refine e_iconst (1) dX6_is_161 (by decide) ?_
  refine e_goto 166 dX6_is_162 (by decide) ?_
  refine e_istore_n _ dX6_is_166 (by decide) rfl rfl ?_
  refine e_iinc (x4 + 1) _ dX6_is_167 rfl rfl (by decide) rfl rfl ?_
  refine e_goto 25 dX6_is_170 (by decide) ?_
  exact H ok

theorem en_is (x1 : Int32) (T : tS) (Q : Option Value → tS → Prop) (H : ∀ c : tC, c.2.2.2.2.2.2 = Q → h_is_0 c x1 T) : tM mX6_is 2 (fun b => [.int x1]) T Q :=
  tM_mk (by decide) rfl (fun b => Nat.le_of_ble_eq_true rfl) (fun c hc ok => E.less2 (H c hc ok) (eS_s (eS_s (eS_n (eS_n (eS_n (eS_n (eS_n (eS_n eS_0)))))))))
/-! laysParts (I)V level 1 -/
def h_laysParts_0 (c : tC) (x1 : Int32) (T : tS) : Prop := tX mX6_laysParts 1 c 0 [some (.ref c.2.2.2.1), some (.int x1), none, none, none, none] T
def h_laysParts_9 (c : tC) (x1 : Int32) (x2 : Int32) (x3 : Int32) (T : tS) : Prop := tX mX6_laysParts 1 c 9 [some (.ref c.2.2.2.1), some (.int x1), some (.int x2), some (.int x3), none, none] T
def h_laysParts_34 (c : tC) (x1 : Int32) (x2 : Int32) (x3 : Int32) (x4 : Int32) (x5 : Int32) (T : tS) : Prop := tX mX6_laysParts 1 c 34 [some (.ref c.2.2.2.1), some (.int x1), some (.int x2), some (.int x3), some (.int x4), some (.int x5)] T
def h_laysParts_71 (c : tC) (x1 : Int32) (x2 : Int32) (x3 : Int32) (x4 : Int32) (x5 : Int32) (T : tS) : Prop := tX mX6_laysParts 1 c 71 [some (.ref c.2.2.2.1), some (.int x1), some (.int x2), some (.int x3), some (.int x4), some (.int x5)] T
def h_laysParts_106 (c : tC) (x1 : Int32) (x2 : Int32) (x3 : Int32) (T : tS) : Prop := tX mX6_laysParts 1 c 106 [some (.ref c.2.2.2.1), some (.int x1), some (.int x2), some (.int x3), none, none] T
set_option maxHeartbeats 2000000 in
theorem s_laysParts_0 (c : tC) (x1 : Int32) (T : tS) (H : h_laysParts_9 c x1 (0 : Int32) (0 : Int32) (tI T 63 (0 : Int32))) : h_laysParts_0 c x1 T := by
  intro ok
  refine e_aload_n dX6_laysParts_0 rfl ?_
  refine e_iconst (0) dX6_laysParts_1 (by decide) ?_
  refine t_putI dX6_laysParts_2 fX6_63 q2559 (eFit_i _) (by decide) rfl ok.1 ?_
  refine e_iconst (0) dX6_laysParts_5 (by decide) ?_
  refine e_istore_n _ dX6_laysParts_6 (by decide) rfl rfl ?_
  refine e_iconst (0) dX6_laysParts_7 (by decide) ?_
  refine e_istore_n _ dX6_laysParts_8 (by decide) rfl rfl ?_
  exact H ok

set_option maxHeartbeats 2000000 in
theorem s_laysParts_9 (c : tC) (x1 : Int32) (x2 : Int32) (x3 : Int32) (T : tS) (H : ((T.1 16) ≤ x3 → c.2.2.2.2.2.2 none T) ∧ (¬ (T.1 16) ≤ x3 → ((zI (tBit x2 x3)) = 0 → h_laysParts_34 c x1 x2 x3 (0 : Int32) (0 : Int32) T) ∧ (¬ (zI (tBit x2 x3)) = 0 → h_laysParts_106 c x1 x2 x3 T))) : h_laysParts_9 c x1 x2 x3 T := by
  intro ok
  refine e_iload_n dX6_laysParts_9 rfl ?_
  refine e_aload_n dX6_laysParts_10 rfl ?_
  refine t_getI dX6_laysParts_11 fX6_16 q2512 (by decide) rfl ?_
  refine e_icmp_ge 112 dX6_laysParts_14 (by decide) (fun g1 => ?_) (fun g1 => ?_)
  · replace H := H.1 g1
    exact e_return dX6_laysParts_112 rfl ⟨_, _, rfl, rfl, H⟩
  · replace H := H.2 g1
    refine e_iload_n dX6_laysParts_17 rfl ?_
    refine e_iload_n dX6_laysParts_18 rfl ?_
    refine t_callS (As := [.int x2, .int x3]) ok (ct_holds x2 x3) dX6_laysParts_19 wX6_holds q2447 q2448 rfl (by decide) rfl (Nat.le_of_ble_eq_true rfl) ?_
    refine e_if_eq 28 dX6_laysParts_22 (by decide) (fun g2 => ?_) (fun g2 => ?_)
    · replace H := H.1 g2
      refine e_iconst (0) dX6_laysParts_28 (by decide) ?_
      refine e_istore _ dX6_laysParts_29 (by decide) rfl rfl ?_
      refine e_iconst (0) dX6_laysParts_31 (by decide) ?_
      refine e_istore _ dX6_laysParts_32 (by decide) rfl rfl ?_
      exact H ok
    · replace H := H.2 g2
      refine e_goto 106 dX6_laysParts_25 (by decide) ?_
      exact H ok

set_option maxHeartbeats 2000000 in
theorem s_laysParts_34 (c : tC) (x1 : Int32) (x2 : Int32) (x3 : Int32) (x4 : Int32) (x5 : Int32) (T : tS) (H : ((T.1 20) ≤ x5 → vp_in (T.1 63) 6 ∧ (h_laysParts_106 c x1 (x2 ||| x4) x3 (tI (tA T 61 (va_up (T.2.2.1 61) (T.1 63).toNatClampNeg (tOnes x4))) 63 ((T.1 63) + (1 : Int32))))) ∧ (¬ (T.1 20) ≤ x5 → ((zI (tBit x1 x5)) = 0 → h_laysParts_71 c x1 x2 x3 x4 x5 T) ∧ (¬ (zI (tBit x1 x5)) = 0 → vp_in (((6 : Int32) * x5) + x3) 144 ∧ (h_laysParts_71 c x1 x2 x3 (x4 ||| ((1 : Int32) <<< ((T.2.2.1 21 (((6 : Int32) * x5) + x3).toNatClampNeg) &&& 31))) x5 T)))) : h_laysParts_34 c x1 x2 x3 x4 x5 T := by
  intro ok
  refine e_iload dX6_laysParts_34 rfl ?_
  refine e_aload_n dX6_laysParts_36 rfl ?_
  refine t_getI dX6_laysParts_37 fX6_20 q2516 (by decide) rfl ?_
  refine e_icmp_ge 77 dX6_laysParts_40 (by decide) (fun g1 => ?_) (fun g1 => ?_)
  · replace H := H.1 g1
    refine e_aload_n dX6_laysParts_77 rfl ?_
    refine t_getA dX6_laysParts_78 fX6_61 q2557 (by decide) rfl ?_
    refine e_aload_n dX6_laysParts_81 rfl ?_
    refine t_getI dX6_laysParts_82 fX6_63 q2559 (by decide) rfl ?_
    refine e_iload dX6_laysParts_85 rfl ?_
    refine t_callS (As := [.int x4]) ok (ct_ones x4) dX6_laysParts_87 wX6_ones q2474 q2475 rfl (by decide) rfl (Nat.le_of_ble_eq_true rfl) ?_
    obtain ⟨g2, H⟩ := H
    refine t_iast dX6_laysParts_90 (by decide) rfl ok.1 g2 ?_
    refine e_aload_n dX6_laysParts_91 rfl ?_
    refine e_dup dX6_laysParts_92 rfl ?_
    refine t_getI dX6_laysParts_93 fX6_63 q2559 (by decide) rfl ?_
    refine e_iconst (1) dX6_laysParts_96 (by decide) ?_
    refine e_iadd dX6_laysParts_97 ?_
    refine t_putI dX6_laysParts_98 fX6_63 q2559 (eFit_i _) (by decide) rfl ok.1 ?_
    refine e_iload_n dX6_laysParts_101 rfl ?_
    refine e_iload dX6_laysParts_102 rfl ?_
    refine e_ior dX6_laysParts_104 ?_
    refine e_istore_n _ dX6_laysParts_105 (by decide) rfl rfl ?_
    exact E.less2 (H ok) (eS_s (eS_s (eS_s (eS_s (eS_n (eS_n eS_0))))))
  · replace H := H.2 g1
    refine e_iload_n dX6_laysParts_43 rfl ?_
    refine e_iload dX6_laysParts_44 rfl ?_
    refine t_callS (As := [.int x1, .int x5]) ok (ct_holds x1 x5) dX6_laysParts_46 wX6_holds q2447 q2448 rfl (by decide) rfl (Nat.le_of_ble_eq_true rfl) ?_
    refine e_if_eq 71 dX6_laysParts_49 (by decide) (fun g3 => ?_) (fun g3 => ?_)
    · replace H := H.1 g3
      exact H ok
    · replace H := H.2 g3
      refine e_iload dX6_laysParts_52 rfl ?_
      refine e_iconst (1) dX6_laysParts_54 (by decide) ?_
      refine e_aload_n dX6_laysParts_55 rfl ?_
      refine t_getA dX6_laysParts_56 fX6_21 q2517 (by decide) rfl ?_
      refine e_bipush (6) dX6_laysParts_59 (by decide) ?_
      refine e_iload dX6_laysParts_61 rfl ?_
      refine e_imul dX6_laysParts_63 ?_
      refine e_iload_n dX6_laysParts_64 rfl ?_
      refine e_iadd dX6_laysParts_65 ?_
      obtain ⟨g4, H⟩ := H
      refine t_iald dX6_laysParts_66 (by decide) rfl g4 ?_
      refine e_ishl dX6_laysParts_67 ?_
      refine e_ior dX6_laysParts_68 ?_
      refine e_istore _ dX6_laysParts_69 (by decide) rfl rfl ?_
      exact H ok

set_option maxHeartbeats 2000000 in
theorem s_laysParts_71 (c : tC) (x1 : Int32) (x2 : Int32) (x3 : Int32) (x4 : Int32) (x5 : Int32) (T : tS) (H : h_laysParts_34 c x1 x2 x3 x4 (x5 + 1) T) : h_laysParts_71 c x1 x2 x3 x4 x5 T := by
  intro ok
  refine e_iinc (x5 + 1) _ dX6_laysParts_71 rfl rfl (by decide) rfl rfl ?_
  refine e_goto 34 dX6_laysParts_74 (by decide) ?_
  exact H ok

set_option maxHeartbeats 2000000 in
theorem s_laysParts_106 (c : tC) (x1 : Int32) (x2 : Int32) (x3 : Int32) (T : tS) (H : h_laysParts_9 c x1 x2 (x3 + 1) T) : h_laysParts_106 c x1 x2 x3 T := by
  intro ok
  refine e_iinc (x3 + 1) _ dX6_laysParts_106 rfl rfl (by decide) rfl rfl ?_
  refine e_goto 9 dX6_laysParts_109 (by decide) ?_
  exact H ok

theorem en_laysParts (x1 : Int32) (T : tS) (Q : Option Value → tS → Prop) (H : ∀ c : tC, c.2.2.2.2.2.2 = Q → h_laysParts_0 c x1 T) : tM mX6_laysParts 1 (fun b => [.int x1]) T Q :=
  tM_mk (by decide) rfl (fun b => Nat.le_of_ble_eq_true rfl) (fun c hc ok => E.less2 (H c hc ok) (eS_s (eS_s (eS_n (eS_n (eS_n (eS_n eS_0)))))))
/-! setsOf (I)I level 1 -/
def h_setsOf_0 (c : tC) (x1 : Int32) (T : tS) : Prop := tX mX6_setsOf 1 c 0 [some (.ref c.2.2.2.1), some (.int x1), none, none] T
def h_setsOf_2 (c : tC) (x1 : Int32) (x2 : Int32) (T : tS) : Prop := tX mX6_setsOf 1 c 2 [some (.ref c.2.2.2.1), some (.int x1), some (.int x2), none] T
def h_setsOf_34 (c : tC) (x1 : Int32) (x2 : Int32) (T : tS) : Prop := tX mX6_setsOf 1 c 34 [some (.ref c.2.2.2.1), some (.int x1), some (.int x2), none] T
def h_setsOf_45 (c : tC) (x1 : Int32) (x2 : Int32) (x3 : Int32) (T : tS) : Prop := tX mX6_setsOf 1 c 45 [some (.ref c.2.2.2.1), some (.int x1), some (.int x2), some (.int x3)] T
set_option maxHeartbeats 2000000 in
theorem s_setsOf_0 (c : tC) (x1 : Int32) (T : tS) (H : h_setsOf_2 c x1 (0 : Int32) T) : h_setsOf_0 c x1 T := by
  intro ok
  refine e_iconst (0) dX6_setsOf_0 (by decide) ?_
  refine e_istore_n _ dX6_setsOf_1 (by decide) rfl rfl ?_
  exact H ok

set_option maxHeartbeats 2000000 in
theorem s_setsOf_2 (c : tC) (x1 : Int32) (x2 : Int32) (T : tS) (H : ((7 : Int32) ≤ x2 → h_setsOf_34 c x1 (0 : Int32) T) ∧ (¬ (7 : Int32) ≤ x2 → (¬ x2 = 0 → vp_in x2 7 ∧ (h_setsOf_2 c x1 (x2 + 1) (tA T 62 (va_up (T.2.2.1 62) x2.toNatClampNeg (zI (¬ (0 : Int32) = 0)))))) ∧ (x2 = 0 → vp_in x2 7 ∧ (h_setsOf_2 c x1 (x2 + 1) (tA T 62 (va_up (T.2.2.1 62) x2.toNatClampNeg (zI (¬ (1 : Int32) = 0)))))))) : h_setsOf_2 c x1 x2 T := by
  intro ok
  refine e_iload_n dX6_setsOf_2 rfl ?_
  refine e_bipush (7) dX6_setsOf_3 (by decide) ?_
  refine e_icmp_ge 32 dX6_setsOf_5 (by decide) (fun g1 => ?_) (fun g1 => ?_)
  · replace H := H.1 g1
    refine e_iconst (0) dX6_setsOf_32 (by decide) ?_
    refine e_istore_n _ dX6_setsOf_33 (by decide) rfl rfl ?_
    exact H ok
  · replace H := H.2 g1
    refine e_aload_n dX6_setsOf_8 rfl ?_
    refine t_getA dX6_setsOf_9 fX6_62 q2558 (by decide) rfl ?_
    refine e_iload_n dX6_setsOf_12 rfl ?_
    refine e_iload_n dX6_setsOf_13 rfl ?_
    refine e_if_ne 21 dX6_setsOf_14 (by decide) (fun g2 => ?_) (fun g2 => ?_)
    · replace H := H.1 g2
      refine e_iconst (0) dX6_setsOf_21 (by decide) ?_
      refine t_callS (As := [.int (0 : Int32)]) ok (ct_truth (0 : Int32)) dX6_setsOf_22 wX6_truth q2489 q2490 rfl (by decide) rfl (Nat.le_of_ble_eq_true rfl) ?_
      obtain ⟨g3, H⟩ := H
      refine t_iast dX6_setsOf_25 (by decide) rfl ok.1 g3 ?_
      refine e_iinc (x2 + 1) _ dX6_setsOf_26 rfl rfl (by decide) rfl rfl ?_
      refine e_goto 2 dX6_setsOf_29 (by decide) ?_
      exact H ok
    · replace H := H.2 g2
      refine e_iconst (1) dX6_setsOf_17 (by decide) ?_
      refine e_goto 22 dX6_setsOf_18 (by decide) ?_
      refine t_callS (As := [.int (1 : Int32)]) ok (ct_truth (1 : Int32)) dX6_setsOf_22 wX6_truth q2489 q2490 rfl (by decide) rfl (Nat.le_of_ble_eq_true rfl) ?_
      obtain ⟨g4, H⟩ := H
      refine t_iast dX6_setsOf_25 (by decide) rfl ok.1 g4 ?_
      refine e_iinc (x2 + 1) _ dX6_setsOf_26 rfl rfl (by decide) rfl rfl ?_
      refine e_goto 2 dX6_setsOf_29 (by decide) ?_
      exact H ok

set_option maxHeartbeats 2000000 in
theorem s_setsOf_34 (c : tC) (x1 : Int32) (x2 : Int32) (T : tS) (H : ((T.1 63) ≤ x2 → vp_in x1 7 ∧ (c.2.2.2.2.2.2 (some (.int (T.2.2.1 62 x1.toNatClampNeg))) T)) ∧ (¬ (T.1 63) ≤ x2 → h_setsOf_45 c x1 x2 (6 : Int32) T)) : h_setsOf_34 c x1 x2 T := by
  intro ok
  refine e_iload_n dX6_setsOf_34 rfl ?_
  refine e_aload_n dX6_setsOf_35 rfl ?_
  refine t_getI dX6_setsOf_36 fX6_63 q2559 (by decide) rfl ?_
  refine e_icmp_ge 89 dX6_setsOf_39 (by decide) (fun g1 => ?_) (fun g1 => ?_)
  · replace H := H.1 g1
    refine e_aload_n dX6_setsOf_89 rfl ?_
    refine t_getA dX6_setsOf_90 fX6_62 q2558 (by decide) rfl ?_
    refine e_iload_n dX6_setsOf_93 rfl ?_
    obtain ⟨g2, H⟩ := H
    refine t_iald dX6_setsOf_94 (by decide) rfl g2 ?_
    exact e_ireturn .int dX6_setsOf_95 rfl rfl ⟨_, _, rfl, rfl, H⟩
  · replace H := H.2 g1
    refine e_bipush (6) dX6_setsOf_42 (by decide) ?_
    refine e_istore_n _ dX6_setsOf_44 (by decide) rfl rfl ?_
    exact H ok

set_option maxHeartbeats 2000000 in
theorem s_setsOf_45 (c : tC) (x1 : Int32) (x2 : Int32) (x3 : Int32) (T : tS) (H : vp_in x2 6 ∧ ((x3 < (T.2.2.1 61 x2.toNatClampNeg) → h_setsOf_34 c x1 (x2 + 1) T) ∧ (¬ x3 < (T.2.2.1 61 x2.toNatClampNeg) → vp_in x3 7 ∧ (vp_in x2 6 ∧ (vp_in (x3 - (T.2.2.1 61 x2.toNatClampNeg)) 7 ∧ (vp_in x3 7 ∧ (h_setsOf_45 c x1 x2 (x3 + (-1)) (tA T 62 (va_up (T.2.2.1 62) x3.toNatClampNeg ((T.2.2.1 62 x3.toNatClampNeg) + (T.2.2.1 62 (x3 - (T.2.2.1 61 x2.toNatClampNeg)).toNatClampNeg))))))))))) : h_setsOf_45 c x1 x2 x3 T := by
  intro ok
  refine e_iload_n dX6_setsOf_45 rfl ?_
  refine e_aload_n dX6_setsOf_46 rfl ?_
  refine t_getA dX6_setsOf_47 fX6_61 q2557 (by decide) rfl ?_
  refine e_iload_n dX6_setsOf_50 rfl ?_
  obtain ⟨g1, H⟩ := H
  refine t_iald dX6_setsOf_51 (by decide) rfl g1 ?_
  refine e_icmp_lt 83 dX6_setsOf_52 (by decide) (fun g2 => ?_) (fun g2 => ?_)
  · replace H := H.1 g2
    refine e_iinc (x2 + 1) _ dX6_setsOf_83 rfl rfl (by decide) rfl rfl ?_
    refine e_goto 34 dX6_setsOf_86 (by decide) ?_
    exact E.less2 (H ok) (eS_s (eS_s (eS_s (eS_n eS_0))))
  · replace H := H.2 g2
    refine e_aload_n dX6_setsOf_55 rfl ?_
    refine t_getA dX6_setsOf_56 fX6_62 q2558 (by decide) rfl ?_
    refine e_iload_n dX6_setsOf_59 rfl ?_
    refine e_dup2 dX6_setsOf_60 rfl rfl ?_
    obtain ⟨g3, H⟩ := H
    refine t_iald dX6_setsOf_61 (by decide) rfl g3 ?_
    refine e_aload_n dX6_setsOf_62 rfl ?_
    refine t_getA dX6_setsOf_63 fX6_62 q2558 (by decide) rfl ?_
    refine e_iload_n dX6_setsOf_66 rfl ?_
    refine e_aload_n dX6_setsOf_67 rfl ?_
    refine t_getA dX6_setsOf_68 fX6_61 q2557 (by decide) rfl ?_
    refine e_iload_n dX6_setsOf_71 rfl ?_
    obtain ⟨g4, H⟩ := H
    refine t_iald dX6_setsOf_72 (by decide) rfl g4 ?_
    refine e_isub dX6_setsOf_73 ?_
    obtain ⟨g5, H⟩ := H
    refine t_iald dX6_setsOf_74 (by decide) rfl g5 ?_
    refine e_iadd dX6_setsOf_75 ?_
    obtain ⟨g6, H⟩ := H
    refine t_iast dX6_setsOf_76 (by decide) rfl ok.1 g6 ?_
    refine e_iinc (x3 + (-1)) _ dX6_setsOf_77 rfl rfl (by decide) rfl rfl ?_
    refine e_goto 45 dX6_setsOf_80 (by decide) ?_
    exact H ok

theorem en_setsOf (x1 : Int32) (T : tS) (Q : Option Value → tS → Prop) (H : ∀ c : tC, c.2.2.2.2.2.2 = Q → h_setsOf_0 c x1 T) : tM mX6_setsOf 1 (fun b => [.int x1]) T Q :=
  tM_mk (by decide) rfl (fun b => Nat.le_of_ble_eq_true rfl) (fun c hc ok => E.less2 (H c hc ok) (eS_s (eS_s (eS_n (eS_n eS_0)))))
/-! fixedBy (II)J level 2 -/
def h_fixedBy_0 (c : tC) (x1 : Int32) (x2 : Int32) (T : tS) : Prop := tX mX6_fixedBy 2 c 0 [some (.ref c.2.2.2.1), some (.int x1), some (.int x2), none, none, none] T
def h_fixedBy_14 (c : tC) (x1 : Int32) (x2 : Int32) (x3 : Int64) (x5 : Int32) (T : tS) : Prop := tX mX6_fixedBy 2 c 14 [some (.ref c.2.2.2.1), some (.int x1), some (.int x2), some (.long x3), none, some (.int x5)] T
def h_fixedBy_50 (c : tC) (x1 : Int32) (x2 : Int32) (x3 : Int64) (x5 : Int32) (T : tS) : Prop := tX mX6_fixedBy 2 c 50 [some (.ref c.2.2.2.1), some (.int x1), some (.int x2), some (.long x3), none, some (.int x5)] T
def h_fixedBy_60 (c : tC) (x1 : Int32) (x2 : Int32) (x3 : Int64) (x5 : Int32) (T : tS) : Prop := tX mX6_fixedBy 2 c 60 [some (.ref c.2.2.2.1), some (.int x1), some (.int x2), some (.long x3), none, some (.int x5)] T
set_option maxHeartbeats 2000000 in
theorem s_fixedBy_0 (c : tC) (x1 : Int32) (x2 : Int32) (T : tS) (H : (¬ x1 = (2 : Int32) → h_fixedBy_14 c x1 x2 (0 : Int64) (0 : Int32) T) ∧ (x1 = (2 : Int32) → h_fixedBy_14 c x1 x2 (1 : Int64) (0 : Int32) T)) : h_fixedBy_0 c x1 x2 T := by
  intro ok
  refine e_iload_n dX6_fixedBy_0 rfl ?_
  refine e_iconst (2) dX6_fixedBy_1 (by decide) ?_
  refine e_icmp_ne 9 dX6_fixedBy_2 (by decide) (fun g1 => ?_) (fun g1 => ?_)
  · replace H := H.1 g1
    refine e_lconst 0 dX6_fixedBy_9 (by decide) ?_
    refine e_lstore_n _ dX6_fixedBy_10 (by decide) rfl rfl ?_
    refine e_iconst (0) dX6_fixedBy_11 (by decide) ?_
    refine e_istore _ dX6_fixedBy_12 (by decide) trivial rfl ?_
    exact H ok
  · replace H := H.2 g1
    refine e_lconst 1 dX6_fixedBy_5 (by decide) ?_
    refine e_goto 10 dX6_fixedBy_6 (by decide) ?_
    refine e_lstore_n _ dX6_fixedBy_10 (by decide) rfl rfl ?_
    refine e_iconst (0) dX6_fixedBy_11 (by decide) ?_
    refine e_istore _ dX6_fixedBy_12 (by decide) trivial rfl ?_
    exact H ok

set_option maxHeartbeats 2000000 in
theorem s_fixedBy_14 (c : tC) (x1 : Int32) (x2 : Int32) (x3 : Int64) (x5 : Int32) (T : tS) (H : ((T.1 63) ≤ x5 → (¬ x1 = (1 : Int32) → c.2.2.2.2.2.2 (some (.long x3)) T) ∧ (x1 = (1 : Int32) → ∃ Q3 : Int32 → tS → Prop, tMi mX6_setsOf 1 (fun b => [.int x2]) T Q3 ∧ ∀ (r8 : Int32) (T6 : tS), Q3 r8 T6 → c.2.2.2.2.2.2 (some (.long r8.toInt64)) T6)) ∧ (¬ (T.1 63) ≤ x5 → (¬ x1 = 0 → h_fixedBy_50 c x1 x2 x3 x5 T) ∧ (x1 = 0 → vp_in x5 6 ∧ ((¬ (T.2.2.1 61 x5.toNatClampNeg) = (1 : Int32) → h_fixedBy_50 c x1 x2 (x3 + ((zI (¬ (0 : Int32) = 0)).toInt64)) x5 T) ∧ ((T.2.2.1 61 x5.toNatClampNeg) = (1 : Int32) → h_fixedBy_50 c x1 x2 (x3 + ((zI (¬ (1 : Int32) = 0)).toInt64)) x5 T))))) : h_fixedBy_14 c x1 x2 x3 x5 T := by
  intro ok
  refine e_iload dX6_fixedBy_14 rfl ?_
  refine e_aload_n dX6_fixedBy_16 rfl ?_
  refine t_getI dX6_fixedBy_17 fX6_63 q2559 (by decide) rfl ?_
  refine e_icmp_ge 66 dX6_fixedBy_20 (by decide) (fun g1 => ?_) (fun g1 => ?_)
  · replace H := H.1 g1
    refine e_iload_n dX6_fixedBy_66 rfl ?_
    refine e_iconst (1) dX6_fixedBy_67 (by decide) ?_
    refine e_icmp_ne 80 dX6_fixedBy_68 (by decide) (fun g2 => ?_) (fun g2 => ?_)
    · replace H := H.1 g2
      refine e_lload_n dX6_fixedBy_80 rfl ?_
      exact e_lreturn dX6_fixedBy_81 rfl ⟨_, _, rfl, rfl, H⟩
    · replace H := H.2 g2
      refine e_aload_n dX6_fixedBy_71 rfl ?_
      refine e_iload_n dX6_fixedBy_72 rfl ?_
      obtain ⟨Q3, hC4, H⟩ := H
      refine t_callV (As := [.int x2]) ok hC4 dX6_fixedBy_73 wX6_setsOf q3131 q3133 qs129 rfl rfl (by decide) rfl (Nat.le_of_ble_eq_true rfl) (fun v5 T6 e7 => ?_)
      obtain ⟨r8, rfl, e7⟩ := e7
      replace H := H r8 T6 e7
      refine e_i2l dX6_fixedBy_76 ?_
      refine e_goto 81 dX6_fixedBy_77 (by decide) ?_
      exact e_lreturn dX6_fixedBy_81 rfl ⟨_, _, rfl, rfl, H⟩
  · replace H := H.2 g1
    refine e_iload_n dX6_fixedBy_23 rfl ?_
    refine e_if_ne 50 dX6_fixedBy_24 (by decide) (fun g9 => ?_) (fun g9 => ?_)
    · replace H := H.1 g9
      exact H ok
    · replace H := H.2 g9
      refine e_lload_n dX6_fixedBy_27 rfl ?_
      refine e_aload_n dX6_fixedBy_28 rfl ?_
      refine t_getA dX6_fixedBy_29 fX6_61 q2557 (by decide) rfl ?_
      refine e_iload dX6_fixedBy_32 rfl ?_
      obtain ⟨g10, H⟩ := H
      refine t_iald dX6_fixedBy_34 (by decide) rfl g10 ?_
      refine e_iconst (1) dX6_fixedBy_35 (by decide) ?_
      refine e_icmp_ne 43 dX6_fixedBy_36 (by decide) (fun g11 => ?_) (fun g11 => ?_)
      · replace H := H.1 g11
        refine e_iconst (0) dX6_fixedBy_43 (by decide) ?_
        refine t_callS (As := [.int (0 : Int32)]) ok (ct_truth (0 : Int32)) dX6_fixedBy_44 wX6_truth q2489 q2490 rfl (by decide) rfl (Nat.le_of_ble_eq_true rfl) ?_
        refine e_i2l dX6_fixedBy_47 ?_
        refine e_ladd dX6_fixedBy_48 ?_
        refine e_lstore_n _ dX6_fixedBy_49 (by decide) rfl rfl ?_
        exact H ok
      · replace H := H.2 g11
        refine e_iconst (1) dX6_fixedBy_39 (by decide) ?_
        refine e_goto 44 dX6_fixedBy_40 (by decide) ?_
        refine t_callS (As := [.int (1 : Int32)]) ok (ct_truth (1 : Int32)) dX6_fixedBy_44 wX6_truth q2489 q2490 rfl (by decide) rfl (Nat.le_of_ble_eq_true rfl) ?_
        refine e_i2l dX6_fixedBy_47 ?_
        refine e_ladd dX6_fixedBy_48 ?_
        refine e_lstore_n _ dX6_fixedBy_49 (by decide) rfl rfl ?_
        exact H ok

set_option maxHeartbeats 2000000 in
theorem s_fixedBy_50 (c : tC) (x1 : Int32) (x2 : Int32) (x3 : Int64) (x5 : Int32) (T : tS) (H : (¬ x1 = (2 : Int32) → h_fixedBy_60 c x1 x2 x3 x5 T) ∧ (x1 = (2 : Int32) → h_fixedBy_60 c x1 x2 (x3 * x2.toInt64) x5 T)) : h_fixedBy_50 c x1 x2 x3 x5 T := by
  intro ok
  refine e_iload_n dX6_fixedBy_50 rfl ?_
  refine e_iconst (2) dX6_fixedBy_51 (by decide) ?_
  refine e_icmp_ne 60 dX6_fixedBy_52 (by decide) (fun g1 => ?_) (fun g1 => ?_)
  · replace H := H.1 g1
    exact H ok
  · replace H := H.2 g1
    refine e_lload_n dX6_fixedBy_55 rfl ?_
    refine e_iload_n dX6_fixedBy_56 rfl ?_
    refine e_i2l dX6_fixedBy_57 ?_
    refine e_lmul dX6_fixedBy_58 ?_
    refine e_lstore_n _ dX6_fixedBy_59 (by decide) rfl rfl ?_
    exact H ok

set_option maxHeartbeats 2000000 in
theorem s_fixedBy_60 (c : tC) (x1 : Int32) (x2 : Int32) (x3 : Int64) (x5 : Int32) (T : tS) (H : h_fixedBy_14 c x1 x2 x3 (x5 + 1) T) : h_fixedBy_60 c x1 x2 x3 x5 T := by
  intro ok
  refine e_iinc (x5 + 1) _ dX6_fixedBy_60 rfl rfl (by decide) trivial rfl ?_
  refine e_goto 14 dX6_fixedBy_63 (by decide) ?_
  exact H ok

theorem en_fixedBy (x1 : Int32) (x2 : Int32) (T : tS) (Q : Option Value → tS → Prop) (H : ∀ c : tC, c.2.2.2.2.2.2 = Q → h_fixedBy_0 c x1 x2 T) : tM mX6_fixedBy 2 (fun b => [.int x1, .int x2]) T Q :=
  tM_mk (by decide) rfl (fun b => Nat.le_of_ble_eq_true rfl) (fun c hc ok => E.less2 (H c hc ok) (eS_s (eS_s (eS_s (eS_n (eS_n (eS_n eS_0)))))))
/-! take (II)I level 3 -/
def h_take_0 (c : tC) (x1 : Int32) (x2 : Int32) (T : tS) : Prop := tX mX6_take 3 c 0 [some (.ref c.2.2.2.1), some (.int x1), some (.int x2), none] T
def h_take_30 (c : tC) (x1 : Int32) (x2 : Int32) (T : tS) : Prop := tX mX6_take 3 c 30 [some (.ref c.2.2.2.1), some (.int x1), some (.int x2), none] T
def h_take_32 (c : tC) (x1 : Int32) (x2 : Int32) (x3 : Int32) (T : tS) : Prop := tX mX6_take 3 c 32 [some (.ref c.2.2.2.1), some (.int x1), some (.int x2), some (.int x3)] T
set_option maxHeartbeats 2000000 in
theorem s_take_0 (c : tC) (x1 : Int32) (x2 : Int32) (T : tS) (H : ((zI ((0 : Int64) ≤ x1.toInt64 ∧ x1.toInt64 ≤ (2 : Int64))) = 0 → c.2.2.2.2.2.2 (some (.int (-1 : Int32))) T) ∧ (¬ (zI ((0 : Int64) ≤ x1.toInt64 ∧ x1.toInt64 ≤ (2 : Int64))) = 0 → (x1 ≤ 0 → h_take_30 c x1 x2 T) ∧ (¬ x1 ≤ 0 → (¬ (zI ((0 : Int64) ≤ x2.toInt64 ∧ x2.toInt64 ≤ (6 : Int64))) = 0 → h_take_30 c x1 x2 T) ∧ ((zI ((0 : Int64) ≤ x2.toInt64 ∧ x2.toInt64 ≤ (6 : Int64))) = 0 → c.2.2.2.2.2.2 (some (.int (-1 : Int32))) T)))) : h_take_0 c x1 x2 T := by
  intro ok
  refine e_iload_n dX6_take_0 rfl ?_
  refine e_i2l dX6_take_1 ?_
  refine e_lconst 0 dX6_take_2 (by decide) ?_
  refine e_ldc2 dX6_take_3 q3121 ?_
  refine t_callS (As := [.long x1.toInt64, .long (0 : Int64), .long (2 : Int64)]) ok (ct_isIn x1.toInt64 (0 : Int64) (2 : Int64)) dX6_take_6 wX6_isIn q2707 q2708 rfl (by decide) rfl (Nat.le_of_ble_eq_true rfl) ?_
  refine e_if_eq 28 dX6_take_9 (by decide) (fun g1 => ?_) (fun g1 => ?_)
  · replace H := H.1 g1
    refine e_iconst (-1) dX6_take_28 (by decide) ?_
    exact e_ireturn .int dX6_take_29 rfl rfl ⟨_, _, rfl, rfl, H⟩
  · replace H := H.2 g1
    refine e_iload_n dX6_take_12 rfl ?_
    refine e_if_le 30 dX6_take_13 (by decide) (fun g2 => ?_) (fun g2 => ?_)
    · replace H := H.1 g2
      exact H ok
    · replace H := H.2 g2
      refine e_iload_n dX6_take_16 rfl ?_
      refine e_i2l dX6_take_17 ?_
      refine e_lconst 0 dX6_take_18 (by decide) ?_
      refine e_ldc2 dX6_take_19 q3122 ?_
      refine t_callS (As := [.long x2.toInt64, .long (0 : Int64), .long (6 : Int64)]) ok (ct_isIn x2.toInt64 (0 : Int64) (6 : Int64)) dX6_take_22 wX6_isIn q2707 q2708 rfl (by decide) rfl (Nat.le_of_ble_eq_true rfl) ?_
      refine e_if_ne 30 dX6_take_25 (by decide) (fun g3 => ?_) (fun g3 => ?_)
      · replace H := H.1 g3
        exact H ok
      · replace H := H.2 g3
        refine e_iconst (-1) dX6_take_28 (by decide) ?_
        exact e_ireturn .int dX6_take_29 rfl rfl ⟨_, _, rfl, rfl, H⟩

set_option maxHeartbeats 2000000 in
theorem s_take_30 (c : tC) (x1 : Int32) (x2 : Int32) (T : tS) (H : h_take_32 c x1 x2 (0 : Int32) T) : h_take_30 c x1 x2 T := by
  intro ok
  refine e_iconst (0) dX6_take_30 (by decide) ?_
  refine e_istore_n _ dX6_take_31 (by decide) rfl rfl ?_
  exact H ok

set_option maxHeartbeats 2000000 in
theorem s_take_32 (c : tC) (x1 : Int32) (x2 : Int32) (x3 : Int32) (T : tS) (H : ((T.1 26) ≤ x3 → ∃ Q2 : tS → Prop, tMv mX6_act 0 (fun b => []) T Q2 ∧ ∀ T5 : tS, Q2 T5 → ∃ Q8 : tS → Prop, tMv mX6_numbers 0 (fun b => [.ref (tAd b 34), .ref (tAd b 36), .int (0 : Int32)]) T5 Q8 ∧ ∀ T11 : tS, Q8 T11 → vp_in (0 : Int32) 64 ∧ (c.2.2.2.2.2.2 (some (.int ((T11.2.2.2 34 (0 : Int32).toNatClampNeg).toInt32))) T11)) ∧ (¬ (T.1 26) ≤ x3 → vp_in x3 64 ∧ (∃ Q16 : tS → Prop, tMv mX6_laysParts 1 (fun b => [.int (T.2.2.1 29 x3.toNatClampNeg)]) T Q16 ∧ ∀ T19 : tS, Q16 T19 → ∃ Q22 : Int64 → tS → Prop, tMl mX6_fixedBy 2 (fun b => [.int x1, .int x2]) T19 Q22 ∧ ∀ (r27 : Int64) (T25 : tS), Q22 r27 T25 → vp_in x3 64 ∧ (h_take_32 c x1 x2 (x3 + 1) (tB T25 34 (va_up (T25.2.2.2 34) x3.toNatClampNeg r27)))))) : h_take_32 c x1 x2 x3 T := by
  intro ok
  refine e_iload_n dX6_take_32 rfl ?_
  refine e_aload_n dX6_take_33 rfl ?_
  refine t_getI dX6_take_34 fX6_26 q2522 (by decide) rfl ?_
  refine e_icmp_ge 68 dX6_take_37 (by decide) (fun g1 => ?_) (fun g1 => ?_)
  · replace H := H.1 g1
    refine e_aload_n dX6_take_68 rfl ?_
    obtain ⟨Q2, hC3, H⟩ := H
    refine t_callV (As := []) ok hC3 dX6_take_69 wX6_act q3112 q3114 qs126 rfl rfl (by decide) rfl (Nat.le_of_ble_eq_true rfl) (fun v4 T5 e6 => ?_)
    obtain ⟨rfl, e6⟩ := e6
    replace H := H T5 e6
    refine e_aload_n dX6_take_72 rfl ?_
    refine e_aload_n dX6_take_73 rfl ?_
    refine t_getA dX6_take_74 fX6_34 q2530 (by decide) rfl ?_
    refine e_aload_n dX6_take_77 rfl ?_
    refine t_getA dX6_take_78 fX6_36 q2532 (by decide) rfl ?_
    refine e_iconst (0) dX6_take_81 (by decide) ?_
    obtain ⟨Q8, hC9, H⟩ := H
    refine t_callV (As := [.ref (tAd c.2.2.2.1 34), .ref (tAd c.2.2.2.1 36), .int (0 : Int32)]) ok hC9 dX6_take_82 wX6_numbers q2833 q2835 qs98 rfl rfl (by decide) rfl (Nat.le_of_ble_eq_true rfl) (fun v10 T11 e12 => ?_)
    obtain ⟨rfl, e12⟩ := e12
    replace H := H T11 e12
    refine e_aload_n dX6_take_85 rfl ?_
    refine t_getA dX6_take_86 fX6_34 q2530 (by decide) rfl ?_
    refine e_iconst (0) dX6_take_89 (by decide) ?_
    obtain ⟨g14, H⟩ := H
    refine t_lald dX6_take_90 (by decide) rfl g14 ?_
    refine e_l2i dX6_take_91 ?_
    exact e_ireturn .int dX6_take_92 rfl rfl ⟨_, _, rfl, rfl, H⟩
  · replace H := H.2 g1
    refine e_aload_n dX6_take_40 rfl ?_
    refine e_aload_n dX6_take_41 rfl ?_
    refine t_getA dX6_take_42 fX6_29 q2525 (by decide) rfl ?_
    refine e_iload_n dX6_take_45 rfl ?_
    obtain ⟨g15, H⟩ := H
    refine t_iald dX6_take_46 (by decide) rfl g15 ?_
    obtain ⟨Q16, hC17, H⟩ := H
    refine t_callV (As := [.int (T.2.2.1 29 x3.toNatClampNeg)]) ok hC17 dX6_take_47 wX6_laysParts q3123 q3125 qs127 rfl rfl (by decide) rfl (Nat.le_of_ble_eq_true rfl) (fun v18 T19 e20 => ?_)
    obtain ⟨rfl, e20⟩ := e20
    replace H := H T19 e20
    refine e_aload_n dX6_take_50 rfl ?_
    refine t_getA dX6_take_51 fX6_34 q2530 (by decide) rfl ?_
    refine e_iload_n dX6_take_54 rfl ?_
    refine e_aload_n dX6_take_55 rfl ?_
    refine e_iload_n dX6_take_56 rfl ?_
    refine e_iload_n dX6_take_57 rfl ?_
    obtain ⟨Q22, hC23, H⟩ := H
    refine t_callV (As := [.int x1, .int x2]) ok hC23 dX6_take_58 wX6_fixedBy q3127 q3129 qs128 rfl rfl (by decide) rfl (Nat.le_of_ble_eq_true rfl) (fun v24 T25 e26 => ?_)
    obtain ⟨r27, rfl, e26⟩ := e26
    replace H := H r27 T25 e26
    obtain ⟨g28, H⟩ := H
    refine t_last dX6_take_61 (by decide) rfl ok.1 g28 ?_
    refine e_iinc (x3 + 1) _ dX6_take_62 rfl rfl (by decide) rfl rfl ?_
    refine e_goto 32 dX6_take_65 (by decide) ?_
    exact H ok

theorem en_take (x1 : Int32) (x2 : Int32) (T : tS) (Q : Option Value → tS → Prop) (H : ∀ c : tC, c.2.2.2.2.2.2 = Q → h_take_0 c x1 x2 T) : tM mX6_take 3 (fun b => [.int x1, .int x2]) T Q :=
  tM_mk (by decide) rfl (fun b => Nat.le_of_ble_eq_true rfl) (fun c hc ok => E.less2 (H c hc ok) (eS_s (eS_s (eS_s (eS_n eS_0)))))
/-! readsNumber (I)Z level 1 -/
def h_readsNumber_0 (c : tC) (x1 : Int32) (T : tS) : Prop := tX mX6_readsNumber 1 c 0 [some (.ref c.2.2.2.1), some (.int x1), none, none, none, none] T
def h_readsNumber_26 (c : tC) (x1 : Int32) (T : tS) : Prop := tX mX6_readsNumber 1 c 26 [some (.ref c.2.2.2.1), some (.int x1), none, none, none, none] T
def h_readsNumber_42 (c : tC) (x1 : Int32) (x2 : Int32) (T : tS) : Prop := tX mX6_readsNumber 1 c 42 [some (.ref c.2.2.2.1), some (.int x1), some (.int x2), none, none, none] T
def h_readsNumber_47 (c : tC) (x1 : Int32) (x2 : Int32) (x3 : Int64) (x5 : Int32) (T : tS) : Prop := tX mX6_readsNumber 1 c 47 [some (.ref c.2.2.2.1), some (.int x1), some (.int x2), some (.long x3), none, some (.int x5)] T
def h_readsNumber_114 (c : tC) (x2 : Int32) (x3 : Int64) (x5 : Int32) (T : tS) : Prop := tX mX6_readsNumber 1 c 114 [some (.ref c.2.2.2.1), none, some (.int x2), some (.long x3), none, some (.int x5)] T
set_option maxHeartbeats 2000000 in
theorem s_readsNumber_0 (c : tC) (x1 : Int32) (T : tS) (H : (x1 ≤ (T.1 64) → h_readsNumber_26 c x1 T) ∧ (¬ x1 ≤ (T.1 64) → vp_in (T.1 64) 700 ∧ ((¬ (T.2.2.1 0 (T.1 64).toNatClampNeg) = (45 : Int32) → h_readsNumber_26 c x1 T) ∧ ((T.2.2.1 0 (T.1 64).toNatClampNeg) = (45 : Int32) → ((1 : Int32) = 0 → h_readsNumber_42 c x1 (1 : Int32) T) ∧ (¬ (1 : Int32) = 0 → h_readsNumber_42 c x1 (1 : Int32) (tI T 64 ((T.1 64) + (1 : Int32)))))))) : h_readsNumber_0 c x1 T := by
  intro ok
  refine e_aload_n dX6_readsNumber_0 rfl ?_
  refine t_getI dX6_readsNumber_1 fX6_64 q2560 (by decide) rfl ?_
  refine e_iload_n dX6_readsNumber_4 rfl ?_
  refine e_icmp_ge 26 dX6_readsNumber_5 (by decide) (fun g1 => ?_) (fun g1 => ?_)
  · replace H := H.1 g1
    exact H ok
  · replace H := H.2 g1
    refine e_aload_n dX6_readsNumber_8 rfl ?_
    refine t_getA dX6_readsNumber_9 fX6_0 q2496 (by decide) rfl ?_
    refine e_aload_n dX6_readsNumber_12 rfl ?_
    refine t_getI dX6_readsNumber_13 fX6_64 q2560 (by decide) rfl ?_
    obtain ⟨g2, H⟩ := H
    refine t_iald dX6_readsNumber_16 (by decide) rfl g2 ?_
    refine e_bipush (45) dX6_readsNumber_17 (by decide) ?_
    refine e_icmp_ne 26 dX6_readsNumber_19 (by decide) (fun g3 => ?_) (fun g3 => ?_)
    · replace H := H.1 g3
      exact H ok
    · replace H := H.2 g3
      refine e_iconst (1) dX6_readsNumber_22 (by decide) ?_
      refine e_goto 27 dX6_readsNumber_23 (by decide) ?_
      refine e_istore_n _ dX6_readsNumber_27 (by decide) rfl rfl ?_
      refine e_iload_n dX6_readsNumber_28 rfl ?_
      refine e_if_eq 42 dX6_readsNumber_29 (by decide) (fun g4 => ?_) (fun g4 => ?_)
      · replace H := H.1 g4
        exact H ok
      · replace H := H.2 g4
        refine e_aload_n dX6_readsNumber_32 rfl ?_
        refine e_dup dX6_readsNumber_33 rfl ?_
        refine t_getI dX6_readsNumber_34 fX6_64 q2560 (by decide) rfl ?_
        refine e_iconst (1) dX6_readsNumber_37 (by decide) ?_
        refine e_iadd dX6_readsNumber_38 ?_
        refine t_putI dX6_readsNumber_39 fX6_64 q2560 (eFit_i _) (by decide) rfl ok.1 ?_
        exact H ok

set_option maxHeartbeats 2000000 in
theorem s_readsNumber_26 (c : tC) (x1 : Int32) (T : tS) (H : ((0 : Int32) = 0 → h_readsNumber_42 c x1 (0 : Int32) T) ∧ (¬ (0 : Int32) = 0 → h_readsNumber_42 c x1 (0 : Int32) (tI T 64 ((T.1 64) + (1 : Int32))))) : h_readsNumber_26 c x1 T := by
  intro ok
  refine e_iconst (0) dX6_readsNumber_26 (by decide) ?_
  refine e_istore_n _ dX6_readsNumber_27 (by decide) rfl rfl ?_
  refine e_iload_n dX6_readsNumber_28 rfl ?_
  refine e_if_eq 42 dX6_readsNumber_29 (by decide) (fun g1 => ?_) (fun g1 => ?_)
  · replace H := H.1 g1
    exact H ok
  · replace H := H.2 g1
    refine e_aload_n dX6_readsNumber_32 rfl ?_
    refine e_dup dX6_readsNumber_33 rfl ?_
    refine t_getI dX6_readsNumber_34 fX6_64 q2560 (by decide) rfl ?_
    refine e_iconst (1) dX6_readsNumber_37 (by decide) ?_
    refine e_iadd dX6_readsNumber_38 ?_
    refine t_putI dX6_readsNumber_39 fX6_64 q2560 (eFit_i _) (by decide) rfl ok.1 ?_
    exact H ok

set_option maxHeartbeats 2000000 in
theorem s_readsNumber_42 (c : tC) (x1 : Int32) (x2 : Int32) (T : tS) (H : h_readsNumber_47 c x1 x2 (0 : Int64) (0 : Int32) T) : h_readsNumber_42 c x1 x2 T := by
  intro ok
  refine e_lconst 0 dX6_readsNumber_42 (by decide) ?_
  refine e_lstore_n _ dX6_readsNumber_43 (by decide) rfl rfl ?_
  refine e_iconst (0) dX6_readsNumber_44 (by decide) ?_
  refine e_istore _ dX6_readsNumber_45 (by decide) trivial rfl ?_
  exact H ok

set_option maxHeartbeats 2000000 in
theorem s_readsNumber_47 (c : tC) (x1 : Int32) (x2 : Int32) (x3 : Int64) (x5 : Int32) (T : tS) (H : (x1 ≤ (T.1 64) → h_readsNumber_114 c x2 x3 x5 T) ∧ (¬ x1 ≤ (T.1 64) → vp_in (T.1 64) 700 ∧ (((zI (tDig (T.2.2.1 0 (T.1 64).toNatClampNeg))) = 0 → h_readsNumber_114 c x2 x3 x5 T) ∧ (¬ (zI (tDig (T.2.2.1 0 (T.1 64).toNatClampNeg))) = 0 → ((6 : Int32) < x5 → h_readsNumber_114 c x2 x3 x5 T) ∧ (¬ (6 : Int32) < x5 → vp_in (T.1 64) 700 ∧ (h_readsNumber_47 c x1 x2 ((((10 : Int64) * x3) + ((T.2.2.1 0 (T.1 64).toNatClampNeg).toInt64)) - (48 : Int64)) (x5 + 1) (tI T 64 ((T.1 64) + (1 : Int32))))))))) : h_readsNumber_47 c x1 x2 x3 x5 T := by
  intro ok
  refine e_aload_n dX6_readsNumber_47 rfl ?_
  refine t_getI dX6_readsNumber_48 fX6_64 q2560 (by decide) rfl ?_
  refine e_iload_n dX6_readsNumber_51 rfl ?_
  refine e_icmp_ge 114 dX6_readsNumber_52 (by decide) (fun g1 => ?_) (fun g1 => ?_)
  · replace H := H.1 g1
    exact E.less2 (H ok) (eS_s (eS_n (eS_s (eS_s (eS_n (eS_s eS_0))))))
  · replace H := H.2 g1
    refine e_aload_n dX6_readsNumber_55 rfl ?_
    refine t_getA dX6_readsNumber_56 fX6_0 q2496 (by decide) rfl ?_
    refine e_aload_n dX6_readsNumber_59 rfl ?_
    refine t_getI dX6_readsNumber_60 fX6_64 q2560 (by decide) rfl ?_
    obtain ⟨g2, H⟩ := H
    refine t_iald dX6_readsNumber_63 (by decide) rfl g2 ?_
    refine t_callS (As := [.int (T.2.2.1 0 (T.1 64).toNatClampNeg)]) ok (ct_isDigit (T.2.2.1 0 (T.1 64).toNatClampNeg)) dX6_readsNumber_64 wX6_isDigit q2729 q2730 rfl (by decide) rfl (Nat.le_of_ble_eq_true rfl) ?_
    refine e_if_eq 114 dX6_readsNumber_67 (by decide) (fun g3 => ?_) (fun g3 => ?_)
    · replace H := H.1 g3
      exact E.less2 (H ok) (eS_s (eS_n (eS_s (eS_s (eS_n (eS_s eS_0))))))
    · replace H := H.2 g3
      refine e_iload dX6_readsNumber_70 rfl ?_
      refine e_bipush (6) dX6_readsNumber_72 (by decide) ?_
      refine e_icmp_gt 114 dX6_readsNumber_74 (by decide) (fun g4 => ?_) (fun g4 => ?_)
      · replace H := H.1 g4
        exact E.less2 (H ok) (eS_s (eS_n (eS_s (eS_s (eS_n (eS_s eS_0))))))
      · replace H := H.2 g4
        refine e_ldc2 dX6_readsNumber_77 q3151 ?_
        refine e_lload_n dX6_readsNumber_80 rfl ?_
        refine e_lmul dX6_readsNumber_81 ?_
        refine e_aload_n dX6_readsNumber_82 rfl ?_
        refine t_getA dX6_readsNumber_83 fX6_0 q2496 (by decide) rfl ?_
        refine e_aload_n dX6_readsNumber_86 rfl ?_
        refine t_getI dX6_readsNumber_87 fX6_64 q2560 (by decide) rfl ?_
        obtain ⟨g5, H⟩ := H
        refine t_iald dX6_readsNumber_90 (by decide) rfl g5 ?_
        refine e_i2l dX6_readsNumber_91 ?_
        refine e_ladd dX6_readsNumber_92 ?_
        refine e_ldc2 dX6_readsNumber_93 q3152 ?_
        refine e_lsub dX6_readsNumber_96 ?_
        refine e_lstore_n _ dX6_readsNumber_97 (by decide) rfl rfl ?_
        refine e_iinc (x5 + 1) _ dX6_readsNumber_98 rfl rfl (by decide) trivial rfl ?_
        refine e_aload_n dX6_readsNumber_101 rfl ?_
        refine e_dup dX6_readsNumber_102 rfl ?_
        refine t_getI dX6_readsNumber_103 fX6_64 q2560 (by decide) rfl ?_
        refine e_iconst (1) dX6_readsNumber_106 (by decide) ?_
        refine e_iadd dX6_readsNumber_107 ?_
        refine t_putI dX6_readsNumber_108 fX6_64 q2560 (eFit_i _) (by decide) rfl ok.1 ?_
        refine e_goto 47 dX6_readsNumber_111 (by decide) ?_
        exact H ok

set_option maxHeartbeats 2000000 in
theorem s_readsNumber_114 (c : tC) (x2 : Int32) (x3 : Int64) (x5 : Int32) (T : tS) (H : (x5 = 0 → c.2.2.2.2.2.2 (some (.int (0 : Int32))) T) ∧ (¬ x5 = 0 → ((6 : Int32) < x5 → c.2.2.2.2.2.2 (some (.int (0 : Int32))) T) ∧ (¬ (6 : Int32) < x5 → (¬ (T.1 65) = (T.1 26) → (x2 = 0 → vp_in (T.1 65) 64 ∧ (c.2.2.2.2.2.2 (some (.int (1 : Int32))) (tI (tB T 37 (va_up (T.2.2.2 37) (T.1 65).toNatClampNeg x3)) 65 ((T.1 65) + (1 : Int32))))) ∧ (¬ x2 = 0 → vp_in (T.1 65) 64 ∧ (c.2.2.2.2.2.2 (some (.int (1 : Int32))) (tI (tB T 37 (va_up (T.2.2.2 37) (T.1 65).toNatClampNeg (-x3))) 65 ((T.1 65) + (1 : Int32)))))) ∧ ((T.1 65) = (T.1 26) → c.2.2.2.2.2.2 (some (.int (0 : Int32))) T)))) : h_readsNumber_114 c x2 x3 x5 T := by
  intro ok
  refine e_iload dX6_readsNumber_114 rfl ?_
  refine e_if_eq 137 dX6_readsNumber_116 (by decide) (fun g1 => ?_) (fun g1 => ?_)
  · replace H := H.1 g1
    refine e_iconst (0) dX6_readsNumber_137 (by decide) ?_
    exact e_ireturn .boolean dX6_readsNumber_138 rfl (by decide) ⟨_, _, rfl, rfl, H⟩
  · replace H := H.2 g1
    refine e_iload dX6_readsNumber_119 rfl ?_
    refine e_bipush (6) dX6_readsNumber_121 (by decide) ?_
    refine e_icmp_gt 137 dX6_readsNumber_123 (by decide) (fun g2 => ?_) (fun g2 => ?_)
    · replace H := H.1 g2
      refine e_iconst (0) dX6_readsNumber_137 (by decide) ?_
      exact e_ireturn .boolean dX6_readsNumber_138 rfl (by decide) ⟨_, _, rfl, rfl, H⟩
    · replace H := H.2 g2
      refine e_aload_n dX6_readsNumber_126 rfl ?_
      refine t_getI dX6_readsNumber_127 fX6_65 q2561 (by decide) rfl ?_
      refine e_aload_n dX6_readsNumber_130 rfl ?_
      refine t_getI dX6_readsNumber_131 fX6_26 q2522 (by decide) rfl ?_
      refine e_icmp_ne 139 dX6_readsNumber_134 (by decide) (fun g3 => ?_) (fun g3 => ?_)
      · replace H := H.1 g3
        refine e_aload_n dX6_readsNumber_139 rfl ?_
        refine t_getA dX6_readsNumber_140 fX6_37 q2533 (by decide) rfl ?_
        refine e_aload_n dX6_readsNumber_143 rfl ?_
        refine t_getI dX6_readsNumber_144 fX6_65 q2561 (by decide) rfl ?_
        refine e_iload_n dX6_readsNumber_147 rfl ?_
        refine e_if_eq 156 dX6_readsNumber_148 (by decide) (fun g4 => ?_) (fun g4 => ?_)
        · replace H := H.1 g4
          refine e_lload_n dX6_readsNumber_156 rfl ?_
          obtain ⟨g5, H⟩ := H
          refine t_last dX6_readsNumber_157 (by decide) rfl ok.1 g5 ?_
          refine e_aload_n dX6_readsNumber_158 rfl ?_
          refine e_dup dX6_readsNumber_159 rfl ?_
          refine t_getI dX6_readsNumber_160 fX6_65 q2561 (by decide) rfl ?_
          refine e_iconst (1) dX6_readsNumber_163 (by decide) ?_
          refine e_iadd dX6_readsNumber_164 ?_
          refine t_putI dX6_readsNumber_165 fX6_65 q2561 (eFit_i _) (by decide) rfl ok.1 ?_
          refine e_iconst (1) dX6_readsNumber_168 (by decide) ?_
          exact e_ireturn .boolean dX6_readsNumber_169 rfl (by decide) ⟨_, _, rfl, rfl, H⟩
        · replace H := H.2 g4
          refine e_lload_n dX6_readsNumber_151 rfl ?_
          refine e_lneg dX6_readsNumber_152 ?_
          refine e_goto 157 dX6_readsNumber_153 (by decide) ?_
          obtain ⟨g6, H⟩ := H
          refine t_last dX6_readsNumber_157 (by decide) rfl ok.1 g6 ?_
          refine e_aload_n dX6_readsNumber_158 rfl ?_
          refine e_dup dX6_readsNumber_159 rfl ?_
          refine t_getI dX6_readsNumber_160 fX6_65 q2561 (by decide) rfl ?_
          refine e_iconst (1) dX6_readsNumber_163 (by decide) ?_
          refine e_iadd dX6_readsNumber_164 ?_
          refine t_putI dX6_readsNumber_165 fX6_65 q2561 (eFit_i _) (by decide) rfl ok.1 ?_
          refine e_iconst (1) dX6_readsNumber_168 (by decide) ?_
          exact e_ireturn .boolean dX6_readsNumber_169 rfl (by decide) ⟨_, _, rfl, rfl, H⟩
      · replace H := H.2 g3
        refine e_iconst (0) dX6_readsNumber_137 (by decide) ?_
        exact e_ireturn .boolean dX6_readsNumber_138 rfl (by decide) ⟨_, _, rfl, rfl, H⟩

theorem en_readsNumber (x1 : Int32) (T : tS) (Q : Option Value → tS → Prop) (H : ∀ c : tC, c.2.2.2.2.2.2 = Q → h_readsNumber_0 c x1 T) : tM mX6_readsNumber 1 (fun b => [.int x1]) T Q :=
  tM_mk (by decide) rfl (fun b => Nat.le_of_ble_eq_true rfl) (fun c hc ok => E.less2 (H c hc ok) (eS_s (eS_s (eS_n (eS_n (eS_n (eS_n eS_0)))))))
/-! readsMarks (I)Z level 2 -/
def h_readsMarks_0 (c : tC) (x1 : Int32) (T : tS) : Prop := tX mX6_readsMarks 2 c 0 [some (.ref c.2.2.2.1), some (.int x1)] T
def h_readsMarks_10 (c : tC) (x1 : Int32) (T : tS) : Prop := tX mX6_readsMarks 2 c 10 [some (.ref c.2.2.2.1), some (.int x1)] T
def h_readsMarks_31 (c : tC) (x1 : Int32) (T : tS) : Prop := tX mX6_readsMarks 2 c 31 [some (.ref c.2.2.2.1), some (.int x1)] T
def h_readsMarks_67 (c : tC) (x1 : Int32) (T : tS) : Prop := tX mX6_readsMarks 2 c 67 [some (.ref c.2.2.2.1), some (.int x1)] T
set_option maxHeartbeats 2000000 in
theorem s_readsMarks_0 (c : tC) (x1 : Int32) (T : tS) (H : h_readsMarks_10 c x1 (tI (tI T 64 (0 : Int32)) 65 (0 : Int32))) : h_readsMarks_0 c x1 T := by
  intro ok
  refine e_aload_n dX6_readsMarks_0 rfl ?_
  refine e_iconst (0) dX6_readsMarks_1 (by decide) ?_
  refine t_putI dX6_readsMarks_2 fX6_64 q2560 (eFit_i _) (by decide) rfl ok.1 ?_
  refine e_aload_n dX6_readsMarks_5 rfl ?_
  refine e_iconst (0) dX6_readsMarks_6 (by decide) ?_
  refine t_putI dX6_readsMarks_7 fX6_65 q2561 (eFit_i _) (by decide) rfl ok.1 ?_
  exact H ok

set_option maxHeartbeats 2000000 in
theorem s_readsMarks_10 (c : tC) (x1 : Int32) (T : tS) (H : ∃ Q1 : Int32 → tS → Prop, tMi mX6_isBlank 0 (fun b => [.int x1]) T Q1 ∧ ∀ (r6 : Int32) (T4 : tS), Q1 r6 T4 → (r6 = 0 → h_readsMarks_31 c x1 T4) ∧ (¬ r6 = 0 → h_readsMarks_10 c x1 (tI T4 64 ((T4.1 64) + (1 : Int32))))) : h_readsMarks_10 c x1 T := by
  intro ok
  refine e_aload_n dX6_readsMarks_10 rfl ?_
  refine e_iload_n dX6_readsMarks_11 rfl ?_
  obtain ⟨Q1, hC2, H⟩ := H
  refine t_callV (As := [.int x1]) ok hC2 dX6_readsMarks_12 wX6_isBlank q3143 q3145 qs131 rfl rfl (by decide) rfl (Nat.le_of_ble_eq_true rfl) (fun v3 T4 e5 => ?_)
  obtain ⟨r6, rfl, e5⟩ := e5
  replace H := H r6 T4 e5
  refine e_if_eq 31 dX6_readsMarks_15 (by decide) (fun g7 => ?_) (fun g7 => ?_)
  · replace H := H.1 g7
    exact H ok
  · replace H := H.2 g7
    refine e_aload_n dX6_readsMarks_18 rfl ?_
    refine e_dup dX6_readsMarks_19 rfl ?_
    refine t_getI dX6_readsMarks_20 fX6_64 q2560 (by decide) rfl ?_
    refine e_iconst (1) dX6_readsMarks_23 (by decide) ?_
    refine e_iadd dX6_readsMarks_24 ?_
    refine t_putI dX6_readsMarks_25 fX6_64 q2560 (eFit_i _) (by decide) rfl ok.1 ?_
    refine e_goto 10 dX6_readsMarks_28 (by decide) ?_
    exact H ok

set_option maxHeartbeats 2000000 in
theorem s_readsMarks_31 (c : tC) (x1 : Int32) (T : tS) (H : (x1 ≤ (T.1 64) → (¬ (T.1 65) = (T.1 26) → c.2.2.2.2.2.2 (some (.int (0 : Int32))) T) ∧ ((T.1 65) = (T.1 26) → c.2.2.2.2.2.2 (some (.int (1 : Int32))) T)) ∧ (¬ x1 ≤ (T.1 64) → ∃ Q3 : Int32 → tS → Prop, tMi mX6_readsNumber 1 (fun b => [.int x1]) T Q3 ∧ ∀ (r8 : Int32) (T6 : tS), Q3 r8 T6 → (¬ r8 = 0 → (x1 ≤ (T6.1 64) → h_readsMarks_67 c x1 T6) ∧ (¬ x1 ≤ (T6.1 64) → ∃ Q11 : Int32 → tS → Prop, tMi mX6_isBlank 0 (fun b => [.int x1]) T6 Q11 ∧ ∀ (r16 : Int32) (T14 : tS), Q11 r16 T14 → (¬ r16 = 0 → h_readsMarks_67 c x1 T14) ∧ (r16 = 0 → c.2.2.2.2.2.2 (some (.int (0 : Int32))) T14))) ∧ (r8 = 0 → c.2.2.2.2.2.2 (some (.int (0 : Int32))) T6))) : h_readsMarks_31 c x1 T := by
  intro ok
  refine e_aload_n dX6_readsMarks_31 rfl ?_
  refine t_getI dX6_readsMarks_32 fX6_64 q2560 (by decide) rfl ?_
  refine e_iload_n dX6_readsMarks_35 rfl ?_
  refine e_icmp_ge 88 dX6_readsMarks_36 (by decide) (fun g1 => ?_) (fun g1 => ?_)
  · replace H := H.1 g1
    refine e_aload_n dX6_readsMarks_88 rfl ?_
    refine t_getI dX6_readsMarks_89 fX6_65 q2561 (by decide) rfl ?_
    refine e_aload_n dX6_readsMarks_92 rfl ?_
    refine t_getI dX6_readsMarks_93 fX6_26 q2522 (by decide) rfl ?_
    refine e_icmp_ne 103 dX6_readsMarks_96 (by decide) (fun g2 => ?_) (fun g2 => ?_)
    · replace H := H.1 g2
      refine e_iconst (0) dX6_readsMarks_103 (by decide) ?_
      exact e_ireturn .boolean dX6_readsMarks_104 rfl (by decide) ⟨_, _, rfl, rfl, H⟩
    · replace H := H.2 g2
      refine e_iconst (1) dX6_readsMarks_99 (by decide) ?_
      refine e_goto 104 dX6_readsMarks_100 (by decide) ?_
      exact e_ireturn .boolean dX6_readsMarks_104 rfl (by decide) ⟨_, _, rfl, rfl, H⟩
  · replace H := H.2 g1
    refine e_aload_n dX6_readsMarks_39 rfl ?_
    refine e_iload_n dX6_readsMarks_40 rfl ?_
    obtain ⟨Q3, hC4, H⟩ := H
    refine t_callV (As := [.int x1]) ok hC4 dX6_readsMarks_41 wX6_readsNumber q3147 q3149 qs132 rfl rfl (by decide) rfl (Nat.le_of_ble_eq_true rfl) (fun v5 T6 e7 => ?_)
    obtain ⟨r8, rfl, e7⟩ := e7
    replace H := H r8 T6 e7
    refine e_if_ne 49 dX6_readsMarks_44 (by decide) (fun g9 => ?_) (fun g9 => ?_)
    · replace H := H.1 g9
      refine e_aload_n dX6_readsMarks_49 rfl ?_
      refine t_getI dX6_readsMarks_50 fX6_64 q2560 (by decide) rfl ?_
      refine e_iload_n dX6_readsMarks_53 rfl ?_
      refine e_icmp_ge 67 dX6_readsMarks_54 (by decide) (fun g10 => ?_) (fun g10 => ?_)
      · replace H := H.1 g10
        exact H ok
      · replace H := H.2 g10
        refine e_aload_n dX6_readsMarks_57 rfl ?_
        refine e_iload_n dX6_readsMarks_58 rfl ?_
        obtain ⟨Q11, hC12, H⟩ := H
        refine t_callV (As := [.int x1]) ok hC12 dX6_readsMarks_59 wX6_isBlank q3143 q3145 qs131 rfl rfl (by decide) rfl (Nat.le_of_ble_eq_true rfl) (fun v13 T14 e15 => ?_)
        obtain ⟨r16, rfl, e15⟩ := e15
        replace H := H r16 T14 e15
        refine e_if_ne 67 dX6_readsMarks_62 (by decide) (fun g17 => ?_) (fun g17 => ?_)
        · replace H := H.1 g17
          exact H ok
        · replace H := H.2 g17
          refine e_iconst (0) dX6_readsMarks_65 (by decide) ?_
          exact e_ireturn .boolean dX6_readsMarks_66 rfl (by decide) ⟨_, _, rfl, rfl, H⟩
    · replace H := H.2 g9
      refine e_iconst (0) dX6_readsMarks_47 (by decide) ?_
      exact e_ireturn .boolean dX6_readsMarks_48 rfl (by decide) ⟨_, _, rfl, rfl, H⟩

set_option maxHeartbeats 2000000 in
theorem s_readsMarks_67 (c : tC) (x1 : Int32) (T : tS) (H : ∃ Q1 : Int32 → tS → Prop, tMi mX6_isBlank 0 (fun b => [.int x1]) T Q1 ∧ ∀ (r6 : Int32) (T4 : tS), Q1 r6 T4 → (r6 = 0 → h_readsMarks_31 c x1 T4) ∧ (¬ r6 = 0 → h_readsMarks_67 c x1 (tI T4 64 ((T4.1 64) + (1 : Int32))))) : h_readsMarks_67 c x1 T := by
  intro ok
  refine e_aload_n dX6_readsMarks_67 rfl ?_
  refine e_iload_n dX6_readsMarks_68 rfl ?_
  obtain ⟨Q1, hC2, H⟩ := H
  refine t_callV (As := [.int x1]) ok hC2 dX6_readsMarks_69 wX6_isBlank q3143 q3145 qs131 rfl rfl (by decide) rfl (Nat.le_of_ble_eq_true rfl) (fun v3 T4 e5 => ?_)
  obtain ⟨r6, rfl, e5⟩ := e5
  replace H := H r6 T4 e5
  refine e_if_eq 31 dX6_readsMarks_72 (by decide) (fun g7 => ?_) (fun g7 => ?_)
  · replace H := H.1 g7
    exact H ok
  · replace H := H.2 g7
    refine e_aload_n dX6_readsMarks_75 rfl ?_
    refine e_dup dX6_readsMarks_76 rfl ?_
    refine t_getI dX6_readsMarks_77 fX6_64 q2560 (by decide) rfl ?_
    refine e_iconst (1) dX6_readsMarks_80 (by decide) ?_
    refine e_iadd dX6_readsMarks_81 ?_
    refine t_putI dX6_readsMarks_82 fX6_64 q2560 (eFit_i _) (by decide) rfl ok.1 ?_
    refine e_goto 67 dX6_readsMarks_85 (by decide) ?_
    exact H ok

theorem en_readsMarks (x1 : Int32) (T : tS) (Q : Option Value → tS → Prop) (H : ∀ c : tC, c.2.2.2.2.2.2 = Q → h_readsMarks_0 c x1 T) : tM mX6_readsMarks 2 (fun b => [.int x1]) T Q :=
  tM_mk (by decide) rfl (fun b => Nat.le_of_ble_eq_true rfl) (fun c hc ok => E.less2 (H c hc ok) (eS_s (eS_s eS_0)))
/-! marks ()I level 5 -/
def h_marks_0 (c : tC) (T : tS) : Prop := tX mX6_marks 5 c 0 [some (.ref c.2.2.2.1), none, none, none, none] T
def h_marks_23 (c : tC) (x2 : Int32) (T : tS) : Prop := tX mX6_marks 5 c 23 [some (.ref c.2.2.2.1), none, some (.int x2), none, none] T
set_option maxHeartbeats 2000000 in
theorem s_marks_0 (c : tC) (T : tS) (H : ∃ Q1 : Int32 → tS → Prop, tMi mX6_readsMarks 2 (fun b => [.int (T.1 1)]) (tI T 1 (0 : Int32)) Q1 ∧ ∀ (r6 : Int32) (T4 : tS), Q1 r6 T4 → (¬ r6 = 0 → h_marks_23 c (0 : Int32) T4) ∧ (r6 = 0 → c.2.2.2.2.2.2 (some (.int (-2 : Int32))) T4)) : h_marks_0 c T := by
  intro ok
  refine e_aload_n dX6_marks_0 rfl ?_
  refine t_getI dX6_marks_1 fX6_1 q2497 (by decide) rfl ?_
  refine e_istore_n _ dX6_marks_4 (by decide) rfl rfl ?_
  refine e_aload_n dX6_marks_5 rfl ?_
  refine e_iconst (0) dX6_marks_6 (by decide) ?_
  refine t_putI dX6_marks_7 fX6_1 q2497 (eFit_i _) (by decide) rfl ok.1 ?_
  refine e_aload_n dX6_marks_10 rfl ?_
  refine e_iload_n dX6_marks_11 rfl ?_
  obtain ⟨Q1, hC2, H⟩ := H
  refine t_callV (As := [.int (T.1 1)]) ok hC2 dX6_marks_12 wX6_readsMarks q3139 q3141 qs130 rfl rfl (by decide) rfl (Nat.le_of_ble_eq_true rfl) (fun v3 T4 e5 => ?_)
  obtain ⟨r6, rfl, e5⟩ := e5
  replace H := H r6 T4 e5
  refine e_if_ne 21 dX6_marks_15 (by decide) (fun g7 => ?_) (fun g7 => ?_)
  · replace H := H.1 g7
    refine e_iconst (0) dX6_marks_21 (by decide) ?_
    refine e_istore_n _ dX6_marks_22 (by decide) rfl rfl ?_
    exact E.less2 (H ok) (eS_s (eS_n (eS_s (eS_n (eS_n eS_0)))))
  · replace H := H.2 g7
    refine e_bipush (-2) dX6_marks_18 (by decide) ?_
    exact e_ireturn .int dX6_marks_20 rfl rfl ⟨_, _, rfl, rfl, H⟩

set_option maxHeartbeats 2000000 in
theorem s_marks_23 (c : tC) (x2 : Int32) (T : tS) (H : ((T.1 26) ≤ x2 → ∃ Q2 : tS → Prop, tMv mX6_act 0 (fun b => []) T Q2 ∧ ∀ T5 : tS, Q2 T5 → ∃ Q8 : tS → Prop, tMv mX6_numbers 0 (fun b => [.ref (tAd b 37), .ref (tAd b 36), .int (0 : Int32)]) T5 Q8 ∧ ∀ T11 : tS, Q8 T11 → c.2.2.2.2.2.2 (some (.int (0 : Int32))) T11) ∧ (¬ (T.1 26) ≤ x2 → ∃ Q14 : Int64 → tS → Prop, tMl mX6_congruenceOf 4 (fun b => [.ref (tAd b 37), .int x2]) T Q14 ∧ ∀ (r19 : Int64) (T17 : tS), Q14 r19 T17 → ¬ ((T17.1 55).toInt64) = 0 ∧ (((lg_cmp (r19 - r19 / ((T17.1 55).toInt64) * ((T17.1 55).toInt64)) (0 : Int64)) = 0 → h_marks_23 c (x2 + 1) T17) ∧ (¬ (lg_cmp (r19 - r19 / ((T17.1 55).toInt64) * ((T17.1 55).toInt64)) (0 : Int64)) = 0 → c.2.2.2.2.2.2 (some (.int (x2 + (1 : Int32)))) T17)))) : h_marks_23 c x2 T := by
  intro ok
  refine e_iload_n dX6_marks_23 rfl ?_
  refine e_aload_n dX6_marks_24 rfl ?_
  refine t_getI dX6_marks_25 fX6_26 q2522 (by decide) rfl ?_
  refine e_icmp_ge 63 dX6_marks_28 (by decide) (fun g1 => ?_) (fun g1 => ?_)
  · replace H := H.1 g1
    refine e_aload_n dX6_marks_63 rfl ?_
    obtain ⟨Q2, hC3, H⟩ := H
    refine t_callV (As := []) ok hC3 dX6_marks_64 wX6_act q3112 q3114 qs126 rfl rfl (by decide) rfl (Nat.le_of_ble_eq_true rfl) (fun v4 T5 e6 => ?_)
    obtain ⟨rfl, e6⟩ := e6
    replace H := H T5 e6
    refine e_aload_n dX6_marks_67 rfl ?_
    refine e_aload_n dX6_marks_68 rfl ?_
    refine t_getA dX6_marks_69 fX6_37 q2533 (by decide) rfl ?_
    refine e_aload_n dX6_marks_72 rfl ?_
    refine t_getA dX6_marks_73 fX6_36 q2532 (by decide) rfl ?_
    refine e_iconst (0) dX6_marks_76 (by decide) ?_
    obtain ⟨Q8, hC9, H⟩ := H
    refine t_callV (As := [.ref (tAd c.2.2.2.1 37), .ref (tAd c.2.2.2.1 36), .int (0 : Int32)]) ok hC9 dX6_marks_77 wX6_numbers q2833 q2835 qs98 rfl rfl (by decide) rfl (Nat.le_of_ble_eq_true rfl) (fun v10 T11 e12 => ?_)
    obtain ⟨rfl, e12⟩ := e12
    replace H := H T11 e12
    refine e_iconst (0) dX6_marks_80 (by decide) ?_
    exact e_ireturn .int dX6_marks_81 rfl rfl ⟨_, _, rfl, rfl, H⟩
  · replace H := H.2 g1
    refine e_aload_n dX6_marks_31 rfl ?_
    refine e_aload_n dX6_marks_32 rfl ?_
    refine t_getA dX6_marks_33 fX6_37 q2533 (by decide) rfl ?_
    refine e_iload_n dX6_marks_36 rfl ?_
    obtain ⟨Q14, hC15, H⟩ := H
    refine t_callV (As := [.ref (tAd c.2.2.2.1 37), .int x2]) ok hC15 dX6_marks_37 wX6_congruenceOf q3099 q3101 qs125 rfl rfl (by decide) rfl (Nat.le_of_ble_eq_true rfl) (fun v16 T17 e18 => ?_)
    obtain ⟨r19, rfl, e18⟩ := e18
    replace H := H r19 T17 e18
    refine e_lstore_n _ dX6_marks_40 (by decide) rfl rfl ?_
    refine e_lload_n dX6_marks_41 rfl ?_
    refine e_aload_n dX6_marks_42 rfl ?_
    refine t_getI dX6_marks_43 fX6_55 q2551 (by decide) rfl ?_
    refine e_i2l dX6_marks_46 ?_
    obtain ⟨g20, H⟩ := H
    refine e_lrem dX6_marks_47 g20 ?_
    refine e_lconst 0 dX6_marks_48 (by decide) ?_
    refine e_lcmp dX6_marks_49 ?_
    refine e_if_eq 57 dX6_marks_50 (by decide) (fun g21 => ?_) (fun g21 => ?_)
    · replace H := H.1 g21
      refine e_iinc (x2 + 1) _ dX6_marks_57 rfl rfl (by decide) trivial rfl ?_
      refine e_goto 23 dX6_marks_60 (by decide) ?_
      exact E.less2 (H ok) (eS_s (eS_n (eS_s (eS_n (eS_n eS_0)))))
    · replace H := H.2 g21
      refine e_iload_n dX6_marks_53 rfl ?_
      refine e_iconst (1) dX6_marks_54 (by decide) ?_
      refine e_iadd dX6_marks_55 ?_
      exact e_ireturn .int dX6_marks_56 rfl rfl ⟨_, _, rfl, rfl, H⟩

theorem en_marks (T : tS) (Q : Option Value → tS → Prop) (H : ∀ c : tC, c.2.2.2.2.2.2 = Q → h_marks_0 c T) : tM mX6_marks 5 (fun b => []) T Q :=
  tM_mk (by decide) rfl (fun b => Nat.le_of_ble_eq_true rfl) (fun c hc ok => E.less2 (H c hc ok) (eS_s (eS_n (eS_n (eS_n (eS_n eS_0))))))
/-! uses (I)I level 2 -/
def h_uses_0 (c : tC) (x1 : Int32) (T : tS) : Prop := tX mX6_uses 2 c 0 [some (.ref c.2.2.2.1), some (.int x1), none] T
def h_uses_24 (c : tC) (x1 : Int32) (x2 : Int32) (T : tS) : Prop := tX mX6_uses 2 c 24 [some (.ref c.2.2.2.1), some (.int x1), some (.int x2)] T
set_option maxHeartbeats 2000000 in
theorem s_uses_0 (c : tC) (x1 : Int32) (T : tS) (H : (¬ (zI ((0 : Int64) ≤ x1.toInt64 ∧ x1.toInt64 ≤ (((T.1 18) - (1 : Int32)).toInt64))) = 0 → ∃ Q2 : tS → Prop, tMv mX6_act 0 (fun b => []) T Q2 ∧ ∀ T5 : tS, Q2 T5 → h_uses_24 c x1 (0 : Int32) T5) ∧ ((zI ((0 : Int64) ≤ x1.toInt64 ∧ x1.toInt64 ≤ (((T.1 18) - (1 : Int32)).toInt64))) = 0 → c.2.2.2.2.2.2 (some (.int (-1 : Int32))) T)) : h_uses_0 c x1 T := by
  intro ok
  refine e_iload_n dX6_uses_0 rfl ?_
  refine e_i2l dX6_uses_1 ?_
  refine e_lconst 0 dX6_uses_2 (by decide) ?_
  refine e_aload_n dX6_uses_3 rfl ?_
  refine t_getI dX6_uses_4 fX6_18 q2514 (by decide) rfl ?_
  refine e_iconst (1) dX6_uses_7 (by decide) ?_
  refine e_isub dX6_uses_8 ?_
  refine e_i2l dX6_uses_9 ?_
  refine t_callS (As := [.long x1.toInt64, .long (0 : Int64), .long (((T.1 18) - (1 : Int32)).toInt64)]) ok (ct_isIn x1.toInt64 (0 : Int64) (((T.1 18) - (1 : Int32)).toInt64)) dX6_uses_10 wX6_isIn q2707 q2708 rfl (by decide) rfl (Nat.le_of_ble_eq_true rfl) ?_
  refine e_if_ne 18 dX6_uses_13 (by decide) (fun g1 => ?_) (fun g1 => ?_)
  · replace H := H.1 g1
    refine e_aload_n dX6_uses_18 rfl ?_
    obtain ⟨Q2, hC3, H⟩ := H
    refine t_callV (As := []) ok hC3 dX6_uses_19 wX6_act q3112 q3114 qs126 rfl rfl (by decide) rfl (Nat.le_of_ble_eq_true rfl) (fun v4 T5 e6 => ?_)
    obtain ⟨rfl, e6⟩ := e6
    replace H := H T5 e6
    refine e_iconst (0) dX6_uses_22 (by decide) ?_
    refine e_istore_n _ dX6_uses_23 (by decide) rfl rfl ?_
    exact H ok
  · replace H := H.2 g1
    refine e_iconst (-1) dX6_uses_16 (by decide) ?_
    exact e_ireturn .int dX6_uses_17 rfl rfl ⟨_, _, rfl, rfl, H⟩

set_option maxHeartbeats 2000000 in
theorem s_uses_24 (c : tC) (x1 : Int32) (x2 : Int32) (T : tS) (H : ((T.1 26) ≤ x2 → ∃ Q2 : Int32 → tS → Prop, tMi mX6_parts 1 (fun b => []) T Q2 ∧ ∀ (r7 : Int32) (T5 : tS), Q2 r7 T5 → c.2.2.2.2.2.2 (some (.int r7)) T5) ∧ (¬ (T.1 26) ≤ x2 → vp_in (((64 : Int32) * x1) + x2) 512 ∧ (vp_in x2 64 ∧ (h_uses_24 c x1 (x2 + 1) (tB T 36 (va_up (T.2.2.2 36) x2.toNatClampNeg (T.2.2.2 47 (((64 : Int32) * x1) + x2).toNatClampNeg))))))) : h_uses_24 c x1 x2 T := by
  intro ok
  refine e_iload_n dX6_uses_24 rfl ?_
  refine e_aload_n dX6_uses_25 rfl ?_
  refine t_getI dX6_uses_26 fX6_26 q2522 (by decide) rfl ?_
  refine e_icmp_ge 55 dX6_uses_29 (by decide) (fun g1 => ?_) (fun g1 => ?_)
  · replace H := H.1 g1
    refine e_aload_n dX6_uses_55 rfl ?_
    obtain ⟨Q2, hC3, H⟩ := H
    refine t_callV (As := []) ok hC3 dX6_uses_56 wX6_parts q3116 q3088 q3089 rfl rfl (by decide) rfl (Nat.le_of_ble_eq_true rfl) (fun v4 T5 e6 => ?_)
    obtain ⟨r7, rfl, e6⟩ := e6
    replace H := H r7 T5 e6
    exact e_ireturn .int dX6_uses_59 rfl rfl ⟨_, _, rfl, rfl, H⟩
  · replace H := H.2 g1
    refine e_aload_n dX6_uses_32 rfl ?_
    refine t_getA dX6_uses_33 fX6_36 q2532 (by decide) rfl ?_
    refine e_iload_n dX6_uses_36 rfl ?_
    refine e_aload_n dX6_uses_37 rfl ?_
    refine t_getA dX6_uses_38 fX6_47 q2543 (by decide) rfl ?_
    refine e_bipush (64) dX6_uses_41 (by decide) ?_
    refine e_iload_n dX6_uses_43 rfl ?_
    refine e_imul dX6_uses_44 ?_
    refine e_iload_n dX6_uses_45 rfl ?_
    refine e_iadd dX6_uses_46 ?_
    obtain ⟨g8, H⟩ := H
    refine t_lald dX6_uses_47 (by decide) rfl g8 ?_
    obtain ⟨g9, H⟩ := H
    refine t_last dX6_uses_48 (by decide) rfl ok.1 g9 ?_
    refine e_iinc (x2 + 1) _ dX6_uses_49 rfl rfl (by decide) rfl rfl ?_
    refine e_goto 24 dX6_uses_52 (by decide) ?_
    exact H ok

theorem en_uses (x1 : Int32) (T : tS) (Q : Option Value → tS → Prop) (H : ∀ c : tC, c.2.2.2.2.2.2 = Q → h_uses_0 c x1 T) : tM mX6_uses 2 (fun b => [.int x1]) T Q :=
  tM_mk (by decide) rfl (fun b => Nat.le_of_ble_eq_true rfl) (fun c hc ok => E.less2 (H c hc ok) (eS_s (eS_s (eS_n eS_0))))
/-! grows (III)J level 2 -/
def h_grows_0 (c : tC) (x1 : Int32) (x2 : Int32) (x3 : Int32) (T : tS) : Prop := tX mX6_grows 2 c 0 [some (.ref c.2.2.2.1), some (.int x1), some (.int x2), some (.int x3), none] T
def h_grows_43 (c : tC) (x1 : Int32) (x2 : Int32) (x3 : Int32) (x4 : Int32) (T : tS) : Prop := tX mX6_grows 2 c 43 [some (.ref c.2.2.2.1), some (.int x1), some (.int x2), some (.int x3), some (.int x4)] T
def h_grows_111 (c : tC) (x3 : Int32) (x4 : Int32) (T : tS) : Prop := tX mX6_grows 2 c 111 [some (.ref c.2.2.2.1), none, none, some (.int x3), some (.int x4)] T
set_option maxHeartbeats 2000000 in
theorem s_grows_0 (c : tC) (x1 : Int32) (x2 : Int32) (x3 : Int32) (T : tS) (H : ((zI (0 ≤ x3.toInt64 ∧ x3.toInt64 ≤ (T.1 26 - 1).toInt64)) = 0 → c.2.2.2.2.2.2 (some (.long (-9223372036854775808 : Int64))) T) ∧ (¬ (zI (0 ≤ x3.toInt64 ∧ x3.toInt64 ≤ (T.1 26 - 1).toInt64)) = 0 → ((zI ((-9 : Int64) ≤ x1.toInt64 ∧ x1.toInt64 ≤ (9 : Int64))) = 0 → c.2.2.2.2.2.2 (some (.long (-9223372036854775808 : Int64))) T) ∧ (¬ (zI ((-9 : Int64) ≤ x1.toInt64 ∧ x1.toInt64 ≤ (9 : Int64))) = 0 → (¬ (zI ((-999 : Int64) ≤ x2.toInt64 ∧ x2.toInt64 ≤ (999 : Int64))) = 0 → h_grows_43 c x1 x2 x3 (0 : Int32) T) ∧ ((zI ((-999 : Int64) ≤ x2.toInt64 ∧ x2.toInt64 ≤ (999 : Int64))) = 0 → c.2.2.2.2.2.2 (some (.long (-9223372036854775808 : Int64))) T)))) : h_grows_0 c x1 x2 x3 T := by
  intro ok
  refine e_aload_n dX6_grows_0 rfl ?_
  refine e_iload_n dX6_grows_1 rfl ?_
  refine t_callV (As := [.int x3]) ok (ct_isSort T x3) dX6_grows_2 wX6_isSort q2934 q2936 qs113 rfl rfl (by decide) rfl (Nat.le_of_ble_eq_true rfl) (fun v1 T2 e4 => ?_)
  obtain ⟨r3, rfl, rfl, hT⟩ := e4
  rw [hT]
  refine e_if_eq 36 dX6_grows_5 (by decide) (fun g5 => ?_) (fun g5 => ?_)
  · replace H := H.1 g5
    refine e_ldc2 dX6_grows_36 q3074 ?_
    exact e_lreturn dX6_grows_39 rfl ⟨_, _, rfl, rfl, H⟩
  · replace H := H.2 g5
    refine e_iload_n dX6_grows_8 rfl ?_
    refine e_i2l dX6_grows_9 ?_
    refine e_ldc2 dX6_grows_10 q3161 ?_
    refine e_ldc2 dX6_grows_13 q3162 ?_
    refine t_callS (As := [.long x1.toInt64, .long (-9 : Int64), .long (9 : Int64)]) ok (ct_isIn x1.toInt64 (-9 : Int64) (9 : Int64)) dX6_grows_16 wX6_isIn q2707 q2708 rfl (by decide) rfl (Nat.le_of_ble_eq_true rfl) ?_
    refine e_if_eq 36 dX6_grows_19 (by decide) (fun g6 => ?_) (fun g6 => ?_)
    · replace H := H.1 g6
      refine e_ldc2 dX6_grows_36 q3074 ?_
      exact e_lreturn dX6_grows_39 rfl ⟨_, _, rfl, rfl, H⟩
    · replace H := H.2 g6
      refine e_iload_n dX6_grows_22 rfl ?_
      refine e_i2l dX6_grows_23 ?_
      refine e_ldc2 dX6_grows_24 q3163 ?_
      refine e_ldc2 dX6_grows_27 q3164 ?_
      refine t_callS (As := [.long x2.toInt64, .long (-999 : Int64), .long (999 : Int64)]) ok (ct_isIn x2.toInt64 (-999 : Int64) (999 : Int64)) dX6_grows_30 wX6_isIn q2707 q2708 rfl (by decide) rfl (Nat.le_of_ble_eq_true rfl) ?_
      refine e_if_ne 40 dX6_grows_33 (by decide) (fun g7 => ?_) (fun g7 => ?_)
      · replace H := H.1 g7
        refine e_iconst (0) dX6_grows_40 (by decide) ?_
        refine e_istore _ dX6_grows_41 (by decide) rfl rfl ?_
        exact H ok
      · replace H := H.2 g7
        refine e_ldc2 dX6_grows_36 q3074 ?_
        exact e_lreturn dX6_grows_39 rfl ⟨_, _, rfl, rfl, H⟩

set_option maxHeartbeats 2000000 in
theorem s_grows_43 (c : tC) (x1 : Int32) (x2 : Int32) (x3 : Int32) (x4 : Int32) (T : tS) (H : ((T.1 26) ≤ x4 → ∃ Q2 : Int32 → tS → Prop, tMi mX6_isFit 1 (fun b => [.ref (tAd b 48), .int (0 : Int32)]) T Q2 ∧ ∀ (r7 : Int32) (T5 : tS), Q2 r7 T5 → (¬ r7 = 0 → ∃ Q9 : tS → Prop, tMv mX6_act 0 (fun b => []) T5 Q9 ∧ ∀ T12 : tS, Q9 T12 → h_grows_111 c x3 (0 : Int32) T12) ∧ (r7 = 0 → c.2.2.2.2.2.2 (some (.long (-9223372036854775808 : Int64))) T5)) ∧ (¬ (T.1 26) ≤ x4 → vp_in x4 64 ∧ ((¬ x4 = x3 → vp_in x4 64 ∧ (h_grows_43 c x1 x2 x3 (x4 + 1) (tB T 48 (va_up (T.2.2.2 48) x4.toNatClampNeg ((x1.toInt64 * (T.2.2.2 36 x4.toNatClampNeg)) + ((0 : Int32).toInt64)))))) ∧ (x4 = x3 → vp_in x4 64 ∧ (h_grows_43 c x1 x2 x3 (x4 + 1) (tB T 48 (va_up (T.2.2.2 48) x4.toNatClampNeg ((x1.toInt64 * (T.2.2.2 36 x4.toNatClampNeg)) + x2.toInt64)))))))) : h_grows_43 c x1 x2 x3 x4 T := by
  intro ok
  refine e_iload dX6_grows_43 rfl ?_
  refine e_aload_n dX6_grows_45 rfl ?_
  refine t_getI dX6_grows_46 fX6_26 q2522 (by decide) rfl ?_
  refine e_icmp_ge 88 dX6_grows_49 (by decide) (fun g1 => ?_) (fun g1 => ?_)
  · replace H := H.1 g1
    refine e_aload_n dX6_grows_88 rfl ?_
    refine e_aload_n dX6_grows_89 rfl ?_
    refine t_getA dX6_grows_90 fX6_48 q2544 (by decide) rfl ?_
    refine e_iconst (0) dX6_grows_93 (by decide) ?_
    obtain ⟨Q2, hC3, H⟩ := H
    refine t_callV (As := [.ref (tAd c.2.2.2.1 48), .int (0 : Int32)]) ok hC3 dX6_grows_94 wX6_isFit q2807 q2809 qs92 rfl rfl (by decide) rfl (Nat.le_of_ble_eq_true rfl) (fun v4 T5 e6 => ?_)
    obtain ⟨r7, rfl, e6⟩ := e6
    replace H := H r7 T5 e6
    refine e_if_ne 104 dX6_grows_97 (by decide) (fun g8 => ?_) (fun g8 => ?_)
    · replace H := H.1 g8
      refine e_aload_n dX6_grows_104 rfl ?_
      obtain ⟨Q9, hC10, H⟩ := H
      refine t_callV (As := []) ok hC10 dX6_grows_105 wX6_act q3112 q3114 qs126 rfl rfl (by decide) rfl (Nat.le_of_ble_eq_true rfl) (fun v11 T12 e13 => ?_)
      obtain ⟨rfl, e13⟩ := e13
      replace H := H T12 e13
      refine e_iconst (0) dX6_grows_108 (by decide) ?_
      refine e_istore _ dX6_grows_109 (by decide) rfl rfl ?_
      exact E.less2 (H ok) (eS_s (eS_n (eS_n (eS_s (eS_s eS_0)))))
    · replace H := H.2 g8
      refine e_ldc2 dX6_grows_100 q3074 ?_
      exact e_lreturn dX6_grows_103 rfl ⟨_, _, rfl, rfl, H⟩
  · replace H := H.2 g1
    refine e_aload_n dX6_grows_52 rfl ?_
    refine t_getA dX6_grows_53 fX6_48 q2544 (by decide) rfl ?_
    refine e_iload dX6_grows_56 rfl ?_
    refine e_iload_n dX6_grows_58 rfl ?_
    refine e_i2l dX6_grows_59 ?_
    refine e_aload_n dX6_grows_60 rfl ?_
    refine t_getA dX6_grows_61 fX6_36 q2532 (by decide) rfl ?_
    refine e_iload dX6_grows_64 rfl ?_
    obtain ⟨g15, H⟩ := H
    refine t_lald dX6_grows_66 (by decide) rfl g15 ?_
    refine e_lmul dX6_grows_67 ?_
    refine e_iload dX6_grows_68 rfl ?_
    refine e_iload_n dX6_grows_70 rfl ?_
    refine e_icmp_ne 78 dX6_grows_71 (by decide) (fun g16 => ?_) (fun g16 => ?_)
    · replace H := H.1 g16
      refine e_iconst (0) dX6_grows_78 (by decide) ?_
      refine e_i2l dX6_grows_79 ?_
      refine e_ladd dX6_grows_80 ?_
      obtain ⟨g17, H⟩ := H
      refine t_last dX6_grows_81 (by decide) rfl ok.1 g17 ?_
      refine e_iinc (x4 + 1) _ dX6_grows_82 rfl rfl (by decide) rfl rfl ?_
      refine e_goto 43 dX6_grows_85 (by decide) ?_
      exact H ok
    · replace H := H.2 g16
      refine e_iload_n dX6_grows_74 rfl ?_
      refine e_goto 79 dX6_grows_75 (by decide) ?_
      refine e_i2l dX6_grows_79 ?_
      refine e_ladd dX6_grows_80 ?_
      obtain ⟨g18, H⟩ := H
      refine t_last dX6_grows_81 (by decide) rfl ok.1 g18 ?_
      refine e_iinc (x4 + 1) _ dX6_grows_82 rfl rfl (by decide) rfl rfl ?_
      refine e_goto 43 dX6_grows_85 (by decide) ?_
      exact H ok

set_option maxHeartbeats 2000000 in
theorem s_grows_111 (c : tC) (x3 : Int32) (x4 : Int32) (T : tS) (H : ((T.1 26) ≤ x4 → vp_in x3 64 ∧ (c.2.2.2.2.2.2 (some (.long (T.2.2.2 36 x3.toNatClampNeg))) T)) ∧ (¬ (T.1 26) ≤ x4 → vp_in x4 64 ∧ (vp_in x4 64 ∧ (h_grows_111 c x3 (x4 + 1) (tB T 36 (va_up (T.2.2.2 36) x4.toNatClampNeg (T.2.2.2 48 x4.toNatClampNeg))))))) : h_grows_111 c x3 x4 T := by
  intro ok
  refine e_iload dX6_grows_111 rfl ?_
  refine e_aload_n dX6_grows_113 rfl ?_
  refine t_getI dX6_grows_114 fX6_26 q2522 (by decide) rfl ?_
  refine e_icmp_ge 140 dX6_grows_117 (by decide) (fun g1 => ?_) (fun g1 => ?_)
  · replace H := H.1 g1
    refine e_aload_n dX6_grows_140 rfl ?_
    refine t_getA dX6_grows_141 fX6_36 q2532 (by decide) rfl ?_
    refine e_iload_n dX6_grows_144 rfl ?_
    obtain ⟨g2, H⟩ := H
    refine t_lald dX6_grows_145 (by decide) rfl g2 ?_
    exact e_lreturn dX6_grows_146 rfl ⟨_, _, rfl, rfl, H⟩
  · replace H := H.2 g1
    refine e_aload_n dX6_grows_120 rfl ?_
    refine t_getA dX6_grows_121 fX6_36 q2532 (by decide) rfl ?_
    refine e_iload dX6_grows_124 rfl ?_
    refine e_aload_n dX6_grows_126 rfl ?_
    refine t_getA dX6_grows_127 fX6_48 q2544 (by decide) rfl ?_
    refine e_iload dX6_grows_130 rfl ?_
    obtain ⟨g3, H⟩ := H
    refine t_lald dX6_grows_132 (by decide) rfl g3 ?_
    obtain ⟨g4, H⟩ := H
    refine t_last dX6_grows_133 (by decide) rfl ok.1 g4 ?_
    refine e_iinc (x4 + 1) _ dX6_grows_134 rfl rfl (by decide) rfl rfl ?_
    refine e_goto 111 dX6_grows_137 (by decide) ?_
    exact H ok

theorem en_grows (x1 : Int32) (x2 : Int32) (x3 : Int32) (T : tS) (Q : Option Value → tS → Prop) (H : ∀ c : tC, c.2.2.2.2.2.2 = Q → h_grows_0 c x1 x2 x3 T) : tM mX6_grows 2 (fun b => [.int x1, .int x2, .int x3]) T Q :=
  tM_mk (by decide) rfl (fun b => Nat.le_of_ble_eq_true rfl) (fun c hc ok => E.less2 (H c hc ok) (eS_s (eS_s (eS_s (eS_s (eS_n eS_0))))))
