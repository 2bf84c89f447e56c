/-! buildsMembers ()Z level 1 -/
def h_buildsMembers_0 (c : tC) (T : tS) : Prop := tX mX6_buildsMembers 1 c 0 [some (.ref c.2.2.2.1), none, none, none] T
def h_buildsMembers_7 (c : tC) (x1 : Int32) (T : tS) : Prop := tX mX6_buildsMembers 1 c 7 [some (.ref c.2.2.2.1), some (.int x1), none, none] T
def h_buildsMembers_28 (c : tC) (x1 : Int32) (T : tS) : Prop := tX mX6_buildsMembers 1 c 28 [some (.ref c.2.2.2.1), some (.int x1), none, none] T
def h_buildsMembers_38 (c : tC) (x1 : Int32) (x2 : Int32) (T : tS) : Prop := tX mX6_buildsMembers 1 c 38 [some (.ref c.2.2.2.1), some (.int x1), some (.int x2), none] T
def h_buildsMembers_48 (c : tC) (x1 : Int32) (x2 : Int32) (x3 : Int32) (T : tS) : Prop := tX mX6_buildsMembers 1 c 48 [some (.ref c.2.2.2.1), some (.int x1), some (.int x2), some (.int x3)] T
def h_buildsMembers_113 (c : tC) (x1 : Int32) (x2 : Int32) (x3 : Int32) (T : tS) : Prop := tX mX6_buildsMembers 1 c 113 [some (.ref c.2.2.2.1), some (.int x1), some (.int x2), some (.int x3)] T
def h_buildsMembers_157 (c : tC) (x1 : Int32) (x2 : Int32) (T : tS) : Prop := tX mX6_buildsMembers 1 c 157 [some (.ref c.2.2.2.1), some (.int x1), some (.int x2), none] T
def h_buildsMembers_171 (c : tC) (x1 : Int32) (T : tS) : Prop := tX mX6_buildsMembers 1 c 171 [some (.ref c.2.2.2.1), some (.int x1), none, none] T
def h_buildsMembers_183 (c : tC) (x1 : Int32) (x2 : Int32) (T : tS) : Prop := tX mX6_buildsMembers 1 c 183 [some (.ref c.2.2.2.1), some (.int x1), some (.int x2), none] T
def h_buildsMembers_206 (c : tC) (x1 : Int32) (x2 : Int32) (T : tS) : Prop := tX mX6_buildsMembers 1 c 206 [some (.ref c.2.2.2.1), some (.int x1), some (.int x2), none] T
def h_buildsMembers_220 (c : tC) (x1 : Int32) (T : tS) : Prop := tX mX6_buildsMembers 1 c 220 [some (.ref c.2.2.2.1), some (.int x1), none, none] T
def h_buildsMembers_230 (c : tC) (x1 : Int32) (x2 : Int32) (T : tS) : Prop := tX mX6_buildsMembers 1 c 230 [some (.ref c.2.2.2.1), some (.int x1), some (.int x2), none] T
def h_buildsMembers_240 (c : tC) (x1 : Int32) (x2 : Int32) (x3 : Int32) (T : tS) : Prop := tX mX6_buildsMembers 1 c 240 [some (.ref c.2.2.2.1), some (.int x1), some (.int x2), some (.int x3)] T
def h_buildsMembers_317 (c : tC) (x1 : Int32) (x2 : Int32) (T : tS) : Prop := tX mX6_buildsMembers 1 c 317 [some (.ref c.2.2.2.1), some (.int x1), some (.int x2), none] T
set_option maxHeartbeats 2000000 in
theorem s_buildsMembers_0 (c : tC) (T : tS) (H : h_buildsMembers_7 c (0 : Int32) (tI T 20 (1 : Int32))) : h_buildsMembers_0 c T := by
  intro ok
  refine e_aload_n dX6_buildsMembers_0 rfl ?_
  refine e_iconst (1) dX6_buildsMembers_1 (by decide) ?_
  refine t_putI dX6_buildsMembers_2 fX6_20 q2516 (eFit_i _) (by decide) rfl ok.1 ?_
  refine e_iconst (0) dX6_buildsMembers_5 (by decide) ?_
  refine e_istore_n _ dX6_buildsMembers_6 (by decide) rfl rfl ?_
  exact H ok

set_option maxHeartbeats 2000000 in
theorem s_buildsMembers_7 (c : tC) (x1 : Int32) (T : tS) (H : ((6 : Int32) ≤ x1 → h_buildsMembers_28 c (0 : Int32) T) ∧ (¬ (6 : Int32) ≤ x1 → vp_in x1 144 ∧ (h_buildsMembers_7 c (x1 + 1) (tA T 21 (va_up (T.2.2.1 21) x1.toNatClampNeg x1))))) : h_buildsMembers_7 c x1 T := by
  intro ok
  refine e_iload_n dX6_buildsMembers_7 rfl ?_
  refine e_bipush (6) dX6_buildsMembers_8 (by decide) ?_
  refine e_icmp_ge 26 dX6_buildsMembers_10 (by decide) (fun g1 => ?_) (fun g1 => ?_)
  · replace H := H.1 g1
    refine e_iconst (0) dX6_buildsMembers_26 (by decide) ?_
    refine e_istore_n _ dX6_buildsMembers_27 (by decide) rfl rfl ?_
    exact H ok
  · replace H := H.2 g1
    refine e_aload_n dX6_buildsMembers_13 rfl ?_
    refine t_getA dX6_buildsMembers_14 fX6_21 q2517 (by decide) rfl ?_
    refine e_iload_n dX6_buildsMembers_17 rfl ?_
    refine e_iload_n dX6_buildsMembers_18 rfl ?_
    obtain ⟨g2, H⟩ := H
    refine t_iast dX6_buildsMembers_19 (by decide) rfl ok.1 g2 ?_
    refine e_iinc (x1 + 1) _ dX6_buildsMembers_20 rfl rfl (by decide) rfl rfl ?_
    refine e_goto 7 dX6_buildsMembers_23 (by decide) ?_
    exact H ok

set_option maxHeartbeats 2000000 in
theorem s_buildsMembers_28 (c : tC) (x1 : Int32) (T : tS) (H : ((T.1 20) ≤ x1 → h_buildsMembers_171 c (0 : Int32) T) ∧ (¬ (T.1 20) ≤ x1 → h_buildsMembers_38 c x1 (0 : Int32) T)) : h_buildsMembers_28 c x1 T := by
  intro ok
  refine e_iload_n dX6_buildsMembers_28 rfl ?_
  refine e_aload_n dX6_buildsMembers_29 rfl ?_
  refine t_getI dX6_buildsMembers_30 fX6_20 q2516 (by decide) rfl ?_
  refine e_icmp_ge 169 dX6_buildsMembers_33 (by decide) (fun g1 => ?_) (fun g1 => ?_)
  · replace H := H.1 g1
    refine e_iconst (0) dX6_buildsMembers_169 (by decide) ?_
    refine e_istore_n _ dX6_buildsMembers_170 (by decide) rfl rfl ?_
    exact H ok
  · replace H := H.2 g1
    refine e_iconst (0) dX6_buildsMembers_36 (by decide) ?_
    refine e_istore_n _ dX6_buildsMembers_37 (by decide) rfl rfl ?_
    exact H ok

set_option maxHeartbeats 2000000 in
theorem s_buildsMembers_38 (c : tC) (x1 : Int32) (x2 : Int32) (T : tS) (H : ((T.1 13) ≤ x2 → h_buildsMembers_28 c (x1 + 1) T) ∧ (¬ (T.1 13) ≤ x2 → h_buildsMembers_48 c x1 x2 (0 : Int32) T)) : h_buildsMembers_38 c x1 x2 T := by
  intro ok
  refine e_iload_n dX6_buildsMembers_38 rfl ?_
  refine e_aload_n dX6_buildsMembers_39 rfl ?_
  refine t_getI dX6_buildsMembers_40 fX6_13 q2509 (by decide) rfl ?_
  refine e_icmp_ge 163 dX6_buildsMembers_43 (by decide) (fun g1 => ?_) (fun g1 => ?_)
  · replace H := H.1 g1
    refine e_iinc (x1 + 1) _ dX6_buildsMembers_163 rfl rfl (by decide) rfl rfl ?_
    refine e_goto 28 dX6_buildsMembers_166 (by decide) ?_
    exact E.less2 (H ok) (eS_s (eS_s (eS_n (eS_n eS_0))))
  · replace H := H.2 g1
    refine e_iconst (0) dX6_buildsMembers_46 (by decide) ?_
    refine e_istore_n _ dX6_buildsMembers_47 (by decide) rfl rfl ?_
    exact H ok

set_option maxHeartbeats 2000000 in
theorem s_buildsMembers_48 (c : tC) (x1 : Int32) (x2 : Int32) (x3 : Int32) (T : tS) (H : ((T.1 12) ≤ x3 → ∃ Q2 : Int32 → tS → Prop, tMi mX6_indexOf 0 (fun b => []) T Q2 ∧ ∀ (r7 : Int32) (T5 : tS), Q2 r7 T5 → (r7 = (-1 : Int32) → (¬ (T5.1 20) = (24 : Int32) → h_buildsMembers_113 c x1 x2 (0 : Int32) T5) ∧ ((T5.1 20) = (24 : Int32) → c.2.2.2.2.2.2 (some (.int (0 : Int32))) T5)) ∧ (¬ r7 = (-1 : Int32) → h_buildsMembers_157 c x1 x2 T5)) ∧ (¬ (T.1 12) ≤ x3 → vp_in (((6 : Int32) * x1) + x3) 144 ∧ (vp_in (((6 : Int32) * x2) + (T.2.2.1 21 (((6 : Int32) * x1) + x3).toNatClampNeg)) 24 ∧ (vp_in x3 6 ∧ (h_buildsMembers_48 c x1 x2 (x3 + 1) (tA T 22 (va_up (T.2.2.1 22) x3.toNatClampNeg (T.2.2.1 15 (((6 : Int32) * x2) + (T.2.2.1 21 (((6 : Int32) * x1) + x3).toNatClampNeg)).toNatClampNeg)))))))) : h_buildsMembers_48 c x1 x2 x3 T := by
  intro ok
  refine e_iload_n dX6_buildsMembers_48 rfl ?_
  refine e_aload_n dX6_buildsMembers_49 rfl ?_
  refine t_getI dX6_buildsMembers_50 fX6_12 q2508 (by decide) rfl ?_
  refine e_icmp_ge 89 dX6_buildsMembers_53 (by decide) (fun g1 => ?_) (fun g1 => ?_)
  · replace H := H.1 g1
    refine e_aload_n dX6_buildsMembers_89 rfl ?_
    obtain ⟨Q2, hC3, H⟩ := H
    refine t_callV (As := []) ok hC3 dX6_buildsMembers_90 wX6_indexOf q2435 q2437 qs58 rfl rfl (by decide) rfl (Nat.le_of_ble_eq_true rfl) (fun v4 T5 e6 => ?_)
    obtain ⟨r7, rfl, e6⟩ := e6
    replace H := H r7 T5 e6
    refine e_iconst (-1) dX6_buildsMembers_93 (by decide) ?_
    refine e_icmp_eq 100 dX6_buildsMembers_94 (by decide) (fun g8 => ?_) (fun g8 => ?_)
    · replace H := H.1 g8
      refine e_aload_n dX6_buildsMembers_100 rfl ?_
      refine t_getI dX6_buildsMembers_101 fX6_20 q2516 (by decide) rfl ?_
      refine e_bipush (24) dX6_buildsMembers_104 (by decide) ?_
      refine e_icmp_ne 111 dX6_buildsMembers_106 (by decide) (fun g9 => ?_) (fun g9 => ?_)
      · replace H := H.1 g9
        refine e_iconst (0) dX6_buildsMembers_111 (by decide) ?_
        refine e_istore_n _ dX6_buildsMembers_112 (by decide) rfl rfl ?_
        exact H ok
      · replace H := H.2 g9
        refine e_iconst (0) dX6_buildsMembers_109 (by decide) ?_
        exact e_ireturn .boolean dX6_buildsMembers_110 rfl (by decide) ⟨_, _, rfl, rfl, H⟩
    · replace H := H.2 g8
      refine e_goto 157 dX6_buildsMembers_97 (by decide) ?_
      exact E.less2 (H ok) (eS_s (eS_s (eS_s (eS_n eS_0))))
  · replace H := H.2 g1
    refine e_aload_n dX6_buildsMembers_56 rfl ?_
    refine t_getA dX6_buildsMembers_57 fX6_22 q2518 (by decide) rfl ?_
    refine e_iload_n dX6_buildsMembers_60 rfl ?_
    refine e_aload_n dX6_buildsMembers_61 rfl ?_
    refine t_getA dX6_buildsMembers_62 fX6_15 q2511 (by decide) rfl ?_
    refine e_bipush (6) dX6_buildsMembers_65 (by decide) ?_
    refine e_iload_n dX6_buildsMembers_67 rfl ?_
    refine e_imul dX6_buildsMembers_68 ?_
    refine e_aload_n dX6_buildsMembers_69 rfl ?_
    refine t_getA dX6_buildsMembers_70 fX6_21 q2517 (by decide) rfl ?_
    refine e_bipush (6) dX6_buildsMembers_73 (by decide) ?_
    refine e_iload_n dX6_buildsMembers_75 rfl ?_
    refine e_imul dX6_buildsMembers_76 ?_
    refine e_iload_n dX6_buildsMembers_77 rfl ?_
    refine e_iadd dX6_buildsMembers_78 ?_
    obtain ⟨g10, H⟩ := H
    refine t_iald dX6_buildsMembers_79 (by decide) rfl g10 ?_
    refine e_iadd dX6_buildsMembers_80 ?_
    obtain ⟨g11, H⟩ := H
    refine t_iald dX6_buildsMembers_81 (by decide) rfl g11 ?_
    obtain ⟨g12, H⟩ := H
    refine t_iast dX6_buildsMembers_82 (by decide) rfl ok.1 g12 ?_
    refine e_iinc (x3 + 1) _ dX6_buildsMembers_83 rfl rfl (by decide) rfl rfl ?_
    refine e_goto 48 dX6_buildsMembers_86 (by decide) ?_
    exact H ok

set_option maxHeartbeats 2000000 in
theorem s_buildsMembers_113 (c : tC) (x1 : Int32) (x2 : Int32) (x3 : Int32) (T : tS) (H : ((T.1 12) ≤ x3 → h_buildsMembers_157 c x1 x2 (tI T 20 ((T.1 20) + (1 : Int32)))) ∧ (¬ (T.1 12) ≤ x3 → vp_in x3 6 ∧ (vp_in (((6 : Int32) * (T.1 20)) + x3) 144 ∧ (h_buildsMembers_113 c x1 x2 (x3 + 1) (tA T 21 (va_up (T.2.2.1 21) (((6 : Int32) * (T.1 20)) + x3).toNatClampNeg (T.2.2.1 22 x3.toNatClampNeg))))))) : h_buildsMembers_113 c x1 x2 x3 T := by
  intro ok
  refine e_iload_n dX6_buildsMembers_113 rfl ?_
  refine e_aload_n dX6_buildsMembers_114 rfl ?_
  refine t_getI dX6_buildsMembers_115 fX6_12 q2508 (by decide) rfl ?_
  refine e_icmp_ge 147 dX6_buildsMembers_118 (by decide) (fun g1 => ?_) (fun g1 => ?_)
  · replace H := H.1 g1
    refine e_aload_n dX6_buildsMembers_147 rfl ?_
    refine e_dup dX6_buildsMembers_148 rfl ?_
    refine t_getI dX6_buildsMembers_149 fX6_20 q2516 (by decide) rfl ?_
    refine e_iconst (1) dX6_buildsMembers_152 (by decide) ?_
    refine e_iadd dX6_buildsMembers_153 ?_
    refine t_putI dX6_buildsMembers_154 fX6_20 q2516 (eFit_i _) (by decide) rfl ok.1 ?_
    exact E.less2 (H ok) (eS_s (eS_s (eS_s (eS_n eS_0))))
  · replace H := H.2 g1
    refine e_aload_n dX6_buildsMembers_121 rfl ?_
    refine t_getA dX6_buildsMembers_122 fX6_21 q2517 (by decide) rfl ?_
    refine e_bipush (6) dX6_buildsMembers_125 (by decide) ?_
    refine e_aload_n dX6_buildsMembers_127 rfl ?_
    refine t_getI dX6_buildsMembers_128 fX6_20 q2516 (by decide) rfl ?_
    refine e_imul dX6_buildsMembers_131 ?_
    refine e_iload_n dX6_buildsMembers_132 rfl ?_
    refine e_iadd dX6_buildsMembers_133 ?_
    refine e_aload_n dX6_buildsMembers_134 rfl ?_
    refine t_getA dX6_buildsMembers_135 fX6_22 q2518 (by decide) rfl ?_
    refine e_iload_n dX6_buildsMembers_138 rfl ?_
    obtain ⟨g2, H⟩ := H
    refine t_iald dX6_buildsMembers_139 (by decide) rfl g2 ?_
    obtain ⟨g3, H⟩ := H
    refine t_iast dX6_buildsMembers_140 (by decide) rfl ok.1 g3 ?_
    refine e_iinc (x3 + 1) _ dX6_buildsMembers_141 rfl rfl (by decide) rfl rfl ?_
    refine e_goto 113 dX6_buildsMembers_144 (by decide) ?_
    exact H ok

set_option maxHeartbeats 2000000 in
theorem s_buildsMembers_157 (c : tC) (x1 : Int32) (x2 : Int32) (T : tS) (H : h_buildsMembers_38 c x1 (x2 + 1) T) : h_buildsMembers_157 c x1 x2 T := by
  intro ok
  refine e_iinc (x2 + 1) _ dX6_buildsMembers_157 rfl rfl (by decide) rfl rfl ?_
  refine e_goto 38 dX6_buildsMembers_160 (by decide) ?_
  exact H ok

set_option maxHeartbeats 2000000 in
theorem s_buildsMembers_171 (c : tC) (x1 : Int32) (T : tS) (H : ((T.1 20) ≤ x1 → h_buildsMembers_220 c (0 : Int32) T) ∧ (¬ (T.1 20) ≤ x1 → h_buildsMembers_183 c x1 (x1 + (1 : Int32)) T)) : h_buildsMembers_171 c x1 T := by
  intro ok
  refine e_iload_n dX6_buildsMembers_171 rfl ?_
  refine e_aload_n dX6_buildsMembers_172 rfl ?_
  refine t_getI dX6_buildsMembers_173 fX6_20 q2516 (by decide) rfl ?_
  refine e_icmp_ge 218 dX6_buildsMembers_176 (by decide) (fun g1 => ?_) (fun g1 => ?_)
  · replace H := H.1 g1
    refine e_iconst (0) dX6_buildsMembers_218 (by decide) ?_
    refine e_istore_n _ dX6_buildsMembers_219 (by decide) rfl rfl ?_
    exact H ok
  · replace H := H.2 g1
    refine e_iload_n dX6_buildsMembers_179 rfl ?_
    refine e_iconst (1) dX6_buildsMembers_180 (by decide) ?_
    refine e_iadd dX6_buildsMembers_181 ?_
    refine e_istore_n _ dX6_buildsMembers_182 (by decide) rfl rfl ?_
    exact H ok

set_option maxHeartbeats 2000000 in
theorem s_buildsMembers_183 (c : tC) (x1 : Int32) (x2 : Int32) (T : tS) (H : ((T.1 20) ≤ x2 → h_buildsMembers_171 c (x1 + 1) T) ∧ (¬ (T.1 20) ≤ x2 → ∃ Q2 : Int32 → tS → Prop, tMi mX6_isBehind 0 (fun b => [.int x1, .int x2]) T Q2 ∧ ∀ (r7 : Int32) (T5 : tS), Q2 r7 T5 → (r7 = 0 → h_buildsMembers_206 c x1 x2 T5) ∧ (¬ r7 = 0 → ∃ Q9 : tS → Prop, tMv mX6_exchanges 0 (fun b => [.int x1, .int x2]) T5 Q9 ∧ ∀ T12 : tS, Q9 T12 → h_buildsMembers_206 c x1 x2 T12))) : h_buildsMembers_183 c x1 x2 T := by
  intro ok
  refine e_iload_n dX6_buildsMembers_183 rfl ?_
  refine e_aload_n dX6_buildsMembers_184 rfl ?_
  refine t_getI dX6_buildsMembers_185 fX6_20 q2516 (by decide) rfl ?_
  refine e_icmp_ge 212 dX6_buildsMembers_188 (by decide) (fun g1 => ?_) (fun g1 => ?_)
  · replace H := H.1 g1
    refine e_iinc (x1 + 1) _ dX6_buildsMembers_212 rfl rfl (by decide) rfl rfl ?_
    refine e_goto 171 dX6_buildsMembers_215 (by decide) ?_
    exact E.less2 (H ok) (eS_s (eS_s (eS_n (eS_n eS_0))))
  · replace H := H.2 g1
    refine e_aload_n dX6_buildsMembers_191 rfl ?_
    refine e_iload_n dX6_buildsMembers_192 rfl ?_
    refine e_iload_n dX6_buildsMembers_193 rfl ?_
    obtain ⟨Q2, hC3, H⟩ := H
    refine t_callV (As := [.int x1, .int x2]) ok hC3 dX6_buildsMembers_194 wX6_isBehind q2439 q2441 qs59 rfl rfl (by decide) rfl (Nat.le_of_ble_eq_true rfl) (fun v4 T5 e6 => ?_)
    obtain ⟨r7, rfl, e6⟩ := e6
    replace H := H r7 T5 e6
    refine e_if_eq 206 dX6_buildsMembers_197 (by decide) (fun g8 => ?_) (fun g8 => ?_)
    · replace H := H.1 g8
      exact H ok
    · replace H := H.2 g8
      refine e_aload_n dX6_buildsMembers_200 rfl ?_
      refine e_iload_n dX6_buildsMembers_201 rfl ?_
      refine e_iload_n dX6_buildsMembers_202 rfl ?_
      obtain ⟨Q9, hC10, H⟩ := H
      refine t_callV (As := [.int x1, .int x2]) ok hC10 dX6_buildsMembers_203 wX6_exchanges q2443 q2445 qs60 rfl rfl (by decide) rfl (Nat.le_of_ble_eq_true rfl) (fun v11 T12 e13 => ?_)
      obtain ⟨rfl, e13⟩ := e13
      replace H := H T12 e13
      exact H ok

set_option maxHeartbeats 2000000 in
theorem s_buildsMembers_206 (c : tC) (x1 : Int32) (x2 : Int32) (T : tS) (H : h_buildsMembers_183 c x1 (x2 + 1) T) : h_buildsMembers_206 c x1 x2 T := by
  intro ok
  refine e_iinc (x2 + 1) _ dX6_buildsMembers_206 rfl rfl (by decide) rfl rfl ?_
  refine e_goto 183 dX6_buildsMembers_209 (by decide) ?_
  exact H ok

set_option maxHeartbeats 2000000 in
theorem s_buildsMembers_220 (c : tC) (x1 : Int32) (T : tS) (H : ((T.1 20) ≤ x1 → c.2.2.2.2.2.2 (some (.int (1 : Int32))) T) ∧ (¬ (T.1 20) ≤ x1 → h_buildsMembers_230 c x1 (0 : Int32) T)) : h_buildsMembers_220 c x1 T := by
  intro ok
  refine e_iload_n dX6_buildsMembers_220 rfl ?_
  refine e_aload_n dX6_buildsMembers_221 rfl ?_
  refine t_getI dX6_buildsMembers_222 fX6_20 q2516 (by decide) rfl ?_
  refine e_icmp_ge 329 dX6_buildsMembers_225 (by decide) (fun g1 => ?_) (fun g1 => ?_)
  · replace H := H.1 g1
    refine e_iconst (1) dX6_buildsMembers_329 (by decide) ?_
    exact e_ireturn .boolean dX6_buildsMembers_330 rfl (by decide) ⟨_, _, rfl, rfl, H⟩
  · replace H := H.2 g1
    refine e_iconst (0) dX6_buildsMembers_228 (by decide) ?_
    refine e_istore_n _ dX6_buildsMembers_229 (by decide) rfl rfl ?_
    exact H ok

set_option maxHeartbeats 2000000 in
theorem s_buildsMembers_230 (c : tC) (x1 : Int32) (x2 : Int32) (T : tS) (H : ((T.1 20) ≤ x2 → h_buildsMembers_220 c (x1 + 1) T) ∧ (¬ (T.1 20) ≤ x2 → h_buildsMembers_240 c x1 x2 (0 : Int32) T)) : h_buildsMembers_230 c x1 x2 T := by
  intro ok
  refine e_iload_n dX6_buildsMembers_230 rfl ?_
  refine e_aload_n dX6_buildsMembers_231 rfl ?_
  refine t_getI dX6_buildsMembers_232 fX6_20 q2516 (by decide) rfl ?_
  refine e_icmp_ge 323 dX6_buildsMembers_235 (by decide) (fun g1 => ?_) (fun g1 => ?_)
  · replace H := H.1 g1
    refine e_iinc (x1 + 1) _ dX6_buildsMembers_323 rfl rfl (by decide) rfl rfl ?_
    refine e_goto 220 dX6_buildsMembers_326 (by decide) ?_
    exact E.less2 (H ok) (eS_s (eS_s (eS_n (eS_n eS_0))))
  · replace H := H.2 g1
    refine e_iconst (0) dX6_buildsMembers_238 (by decide) ?_
    refine e_istore_n _ dX6_buildsMembers_239 (by decide) rfl rfl ?_
    exact H ok

set_option maxHeartbeats 2000000 in
theorem s_buildsMembers_240 (c : tC) (x1 : Int32) (x2 : Int32) (x3 : Int32) (T : tS) (H : ((T.1 12) ≤ x3 → ∃ Q2 : Int32 → tS → Prop, tMi mX6_indexOf 0 (fun b => []) T Q2 ∧ ∀ (r7 : Int32) (T5 : tS), Q2 r7 T5 → vp_in (((24 : Int32) * x1) + x2) 576 ∧ (vp_in (((24 : Int32) * x1) + x2) 576 ∧ ((¬ ((va_up (T5.2.2.1 23) (((24 : Int32) * x1) + x2).toNatClampNeg r7) (((24 : Int32) * x1) + x2).toNatClampNeg) = 0 → h_buildsMembers_317 c x1 x2 (tA T5 23 (va_up (T5.2.2.1 23) (((24 : Int32) * x1) + x2).toNatClampNeg r7))) ∧ (((va_up (T5.2.2.1 23) (((24 : Int32) * x1) + x2).toNatClampNeg r7) (((24 : Int32) * x1) + x2).toNatClampNeg) = 0 → vp_in x1 24 ∧ (h_buildsMembers_317 c x1 x2 (tA (tA T5 23 (va_up (T5.2.2.1 23) (((24 : Int32) * x1) + x2).toNatClampNeg r7)) 24 (va_up (T5.2.2.1 24) x1.toNatClampNeg x2))))))) ∧ (¬ (T.1 12) ≤ x3 → vp_in (((6 : Int32) * x1) + x3) 144 ∧ (vp_in (((6 : Int32) * x2) + (T.2.2.1 21 (((6 : Int32) * x1) + x3).toNatClampNeg)) 144 ∧ (vp_in x3 6 ∧ (h_buildsMembers_240 c x1 x2 (x3 + 1) (tA T 22 (va_up (T.2.2.1 22) x3.toNatClampNeg (T.2.2.1 21 (((6 : Int32) * x2) + (T.2.2.1 21 (((6 : Int32) * x1) + x3).toNatClampNeg)).toNatClampNeg)))))))) : h_buildsMembers_240 c x1 x2 x3 T := by
  intro ok
  refine e_iload_n dX6_buildsMembers_240 rfl ?_
  refine e_aload_n dX6_buildsMembers_241 rfl ?_
  refine t_getI dX6_buildsMembers_242 fX6_12 q2508 (by decide) rfl ?_
  refine e_icmp_ge 281 dX6_buildsMembers_245 (by decide) (fun g1 => ?_) (fun g1 => ?_)
  · replace H := H.1 g1
    refine e_aload_n dX6_buildsMembers_281 rfl ?_
    refine t_getA dX6_buildsMembers_282 fX6_23 q2519 (by decide) rfl ?_
    refine e_bipush (24) dX6_buildsMembers_285 (by decide) ?_
    refine e_iload_n dX6_buildsMembers_287 rfl ?_
    refine e_imul dX6_buildsMembers_288 ?_
    refine e_iload_n dX6_buildsMembers_289 rfl ?_
    refine e_iadd dX6_buildsMembers_290 ?_
    refine e_aload_n dX6_buildsMembers_291 rfl ?_
    obtain ⟨Q2, hC3, H⟩ := H
    refine t_callV (As := []) ok hC3 dX6_buildsMembers_292 wX6_indexOf q2435 q2437 qs58 rfl rfl (by decide) rfl (Nat.le_of_ble_eq_true rfl) (fun v4 T5 e6 => ?_)
    obtain ⟨r7, rfl, e6⟩ := e6
    replace H := H r7 T5 e6
    obtain ⟨g8, H⟩ := H
    refine t_iast dX6_buildsMembers_295 (by decide) rfl ok.1 g8 ?_
    refine e_aload_n dX6_buildsMembers_296 rfl ?_
    refine t_getA dX6_buildsMembers_297 fX6_23 q2519 (by decide) rfl ?_
    refine e_bipush (24) dX6_buildsMembers_300 (by decide) ?_
    refine e_iload_n dX6_buildsMembers_302 rfl ?_
    refine e_imul dX6_buildsMembers_303 ?_
    refine e_iload_n dX6_buildsMembers_304 rfl ?_
    refine e_iadd dX6_buildsMembers_305 ?_
    obtain ⟨g9, H⟩ := H
    refine t_iald dX6_buildsMembers_306 (by decide) rfl g9 ?_
    refine e_if_ne 317 dX6_buildsMembers_307 (by decide) (fun g10 => ?_) (fun g10 => ?_)
    · replace H := H.1 g10
      exact E.less2 (H ok) (eS_s (eS_s (eS_s (eS_n eS_0))))
    · replace H := H.2 g10
      refine e_aload_n dX6_buildsMembers_310 rfl ?_
      refine t_getA dX6_buildsMembers_311 fX6_24 q2520 (by decide) rfl ?_
      refine e_iload_n dX6_buildsMembers_314 rfl ?_
      refine e_iload_n dX6_buildsMembers_315 rfl ?_
      obtain ⟨g11, H⟩ := H
      refine t_iast dX6_buildsMembers_316 (by decide) rfl ok.1 g11 ?_
      exact E.less2 (H ok) (eS_s (eS_s (eS_s (eS_n eS_0))))
  · replace H := H.2 g1
    refine e_aload_n dX6_buildsMembers_248 rfl ?_
    refine t_getA dX6_buildsMembers_249 fX6_22 q2518 (by decide) rfl ?_
    refine e_iload_n dX6_buildsMembers_252 rfl ?_
    refine e_aload_n dX6_buildsMembers_253 rfl ?_
    refine t_getA dX6_buildsMembers_254 fX6_21 q2517 (by decide) rfl ?_
    refine e_bipush (6) dX6_buildsMembers_257 (by decide) ?_
    refine e_iload_n dX6_buildsMembers_259 rfl ?_
    refine e_imul dX6_buildsMembers_260 ?_
    refine e_aload_n dX6_buildsMembers_261 rfl ?_
    refine t_getA dX6_buildsMembers_262 fX6_21 q2517 (by decide) rfl ?_
    refine e_bipush (6) dX6_buildsMembers_265 (by decide) ?_
    refine e_iload_n dX6_buildsMembers_267 rfl ?_
    refine e_imul dX6_buildsMembers_268 ?_
    refine e_iload_n dX6_buildsMembers_269 rfl ?_
    refine e_iadd dX6_buildsMembers_270 ?_
    obtain ⟨g12, H⟩ := H
    refine t_iald dX6_buildsMembers_271 (by decide) rfl g12 ?_
    refine e_iadd dX6_buildsMembers_272 ?_
    obtain ⟨g13, H⟩ := H
    refine t_iald dX6_buildsMembers_273 (by decide) rfl g13 ?_
    obtain ⟨g14, H⟩ := H
    refine t_iast dX6_buildsMembers_274 (by decide) rfl ok.1 g14 ?_
    refine e_iinc (x3 + 1) _ dX6_buildsMembers_275 rfl rfl (by decide) rfl rfl ?_
    refine e_goto 240 dX6_buildsMembers_278 (by decide) ?_
    exact H ok

set_option maxHeartbeats 2000000 in
theorem s_buildsMembers_317 (c : tC) (x1 : Int32) (x2 : Int32) (T : tS) (H : h_buildsMembers_230 c x1 (x2 + 1) T) : h_buildsMembers_317 c x1 x2 T := by
  intro ok
  refine e_iinc (x2 + 1) _ dX6_buildsMembers_317 rfl rfl (by decide) rfl rfl ?_
  refine e_goto 230 dX6_buildsMembers_320 (by decide) ?_
  exact H ok

theorem en_buildsMembers (T : tS) (Q : Option Value → tS → Prop) (H : ∀ c : tC, c.2.2.2.2.2.2 = Q → h_buildsMembers_0 c T) : tM mX6_buildsMembers 1 (fun b => []) T Q :=
  tM_mk (by decide) rfl (fun b => Nat.le_of_ble_eq_true rfl) (fun c hc ok => E.less2 (H c hc ok) (eS_s (eS_n (eS_n (eS_n eS_0)))))
/-! closed (I)I level 1 -/
def h_closed_0 (c : tC) (x1 : Int32) (T : tS) : Prop := tX mX6_closed 1 c 0 [some (.ref c.2.2.2.1), some (.int x1), none, none, none, none] T
def h_closed_6 (c : tC) (x2 : Int32) (x3 : Int32) (T : tS) : Prop := tX mX6_closed 1 c 6 [some (.ref c.2.2.2.1), none, some (.int x2), some (.int x3), none, none] T
def h_closed_16 (c : tC) (x2 : Int32) (x3 : Int32) (x4 : Int32) (T : tS) : Prop := tX mX6_closed 1 c 16 [some (.ref c.2.2.2.1), none, some (.int x2), some (.int x3), some (.int x4), none] T
def h_closed_28 (c : tC) (x2 : Int32) (x3 : Int32) (x4 : Int32) (x5 : Int32) (T : tS) : Prop := tX mX6_closed 1 c 28 [some (.ref c.2.2.2.1), none, some (.int x2), some (.int x3), some (.int x4), some (.int x5)] T
def h_closed_68 (c : tC) (x2 : Int32) (x3 : Int32) (x4 : Int32) (x5 : Int32) (T : tS) : Prop := tX mX6_closed 1 c 68 [some (.ref c.2.2.2.1), none, some (.int x2), some (.int x3), some (.int x4), some (.int x5)] T
def h_closed_74 (c : tC) (x2 : Int32) (x3 : Int32) (x4 : Int32) (T : tS) : Prop := tX mX6_closed 1 c 74 [some (.ref c.2.2.2.1), none, some (.int x2), some (.int x3), some (.int x4), none] T
set_option maxHeartbeats 2000000 in
theorem s_closed_0 (c : tC) (x1 : Int32) (T : tS) (H : h_closed_6 c (x1 ||| (1 : Int32)) (0 : Int32) T) : h_closed_0 c x1 T := by
  intro ok
  refine e_iload_n dX6_closed_0 rfl ?_
  refine e_iconst (1) dX6_closed_1 (by decide) ?_
  refine e_ior dX6_closed_2 ?_
  refine e_istore_n _ dX6_closed_3 (by decide) rfl rfl ?_
  refine e_iconst (0) dX6_closed_4 (by decide) ?_
  refine e_istore_n _ dX6_closed_5 (by decide) rfl rfl ?_
  exact E.less2 (H ok) (eS_s (eS_n (eS_s (eS_s (eS_n (eS_n eS_0))))))

set_option maxHeartbeats 2000000 in
theorem s_closed_6 (c : tC) (x2 : Int32) (x3 : Int32) (T : tS) (H : (x2 = x3 → c.2.2.2.2.2.2 (some (.int x2)) T) ∧ (¬ x2 = x3 → h_closed_16 c x2 x2 (0 : Int32) T)) : h_closed_6 c x2 x3 T := by
  intro ok
  refine e_iload_n dX6_closed_6 rfl ?_
  refine e_iload_n dX6_closed_7 rfl ?_
  refine e_icmp_eq 83 dX6_closed_8 (by decide) (fun g1 => ?_) (fun g1 => ?_)
  · replace H := H.1 g1
    refine e_iload_n dX6_closed_83 rfl ?_
    exact e_ireturn .int dX6_closed_84 rfl rfl ⟨_, _, rfl, rfl, H⟩
  · replace H := H.2 g1
    refine e_iload_n dX6_closed_11 rfl ?_
    refine e_istore_n _ dX6_closed_12 (by decide) rfl rfl ?_
    refine e_iconst (0) dX6_closed_13 (by decide) ?_
    refine e_istore _ dX6_closed_14 (by decide) rfl rfl ?_
    exact H ok

set_option maxHeartbeats 2000000 in
theorem s_closed_16 (c : tC) (x2 : Int32) (x3 : Int32) (x4 : Int32) (T : tS) (H : ((T.1 20) ≤ x4 → h_closed_6 c x2 x3 T) ∧ (¬ (T.1 20) ≤ x4 → h_closed_28 c x2 x3 x4 (0 : Int32) T)) : h_closed_16 c x2 x3 x4 T := by
  intro ok
  refine e_iload dX6_closed_16 rfl ?_
  refine e_aload_n dX6_closed_18 rfl ?_
  refine t_getI dX6_closed_19 fX6_20 q2516 (by decide) rfl ?_
  refine e_icmp_ge 80 dX6_closed_22 (by decide) (fun g1 => ?_) (fun g1 => ?_)
  · replace H := H.1 g1
    refine e_goto 6 dX6_closed_80 (by decide) ?_
    exact E.less2 (H ok) (eS_s (eS_n (eS_s (eS_s (eS_n (eS_n eS_0))))))
  · replace H := H.2 g1
    refine e_iconst (0) dX6_closed_25 (by decide) ?_
    refine e_istore _ dX6_closed_26 (by decide) rfl rfl ?_
    exact H ok

set_option maxHeartbeats 2000000 in
theorem s_closed_28 (c : tC) (x2 : Int32) (x3 : Int32) (x4 : Int32) (x5 : Int32) (T : tS) (H : ((T.1 20) ≤ x5 → h_closed_74 c x2 x3 x4 T) ∧ (¬ (T.1 20) ≤ x5 → ((zI (tBit x2 x4)) = 0 → h_closed_74 c x2 x3 x4 T) ∧ (¬ (zI (tBit x2 x4)) = 0 → ((zI (tBit x2 x5)) = 0 → h_closed_68 c x2 x3 x4 x5 T) ∧ (¬ (zI (tBit x2 x5)) = 0 → vp_in (24 * x4 + x5) 576 ∧ (h_closed_68 c (x2 ||| ((1 : Int32) <<< ((tBy T x4 x5) &&& 31))) x3 x4 x5 T))))) : h_closed_28 c x2 x3 x4 x5 T := by
  intro ok
  refine e_iload dX6_closed_28 rfl ?_
  refine e_aload_n dX6_closed_30 rfl ?_
  refine t_getI dX6_closed_31 fX6_20 q2516 (by decide) rfl ?_
  refine e_icmp_ge 74 dX6_closed_34 (by decide) (fun g1 => ?_) (fun g1 => ?_)
  · replace H := H.1 g1
    exact E.less2 (H ok) (eS_s (eS_n (eS_s (eS_s (eS_s (eS_n eS_0))))))
  · replace H := H.2 g1
    refine e_iload_n dX6_closed_37 rfl ?_
    refine e_iload dX6_closed_38 rfl ?_
    refine t_callS (As := [.int x2, .int x4]) ok (ct_holds x2 x4) dX6_closed_40 wX6_holds q2447 q2448 rfl (by decide) rfl (Nat.le_of_ble_eq_true rfl) ?_
    refine e_if_eq 74 dX6_closed_43 (by decide) (fun g2 => ?_) (fun g2 => ?_)
    · replace H := H.1 g2
      exact E.less2 (H ok) (eS_s (eS_n (eS_s (eS_s (eS_s (eS_n eS_0))))))
    · replace H := H.2 g2
      refine e_iload_n dX6_closed_46 rfl ?_
      refine e_iload dX6_closed_47 rfl ?_
      refine t_callS (As := [.int x2, .int x5]) ok (ct_holds x2 x5) dX6_closed_49 wX6_holds q2447 q2448 rfl (by decide) rfl (Nat.le_of_ble_eq_true rfl) ?_
      refine e_if_eq 68 dX6_closed_52 (by decide) (fun g3 => ?_) (fun g3 => ?_)
      · replace H := H.1 g3
        exact H ok
      · replace H := H.2 g3
        refine e_iload_n dX6_closed_55 rfl ?_
        refine e_iconst (1) dX6_closed_56 (by decide) ?_
        refine e_aload_n dX6_closed_57 rfl ?_
        refine e_iload dX6_closed_58 rfl ?_
        refine e_iload dX6_closed_60 rfl ?_
        obtain ⟨g8, H⟩ := H
        refine t_callV (As := [.int x4, .int x5]) ok (ct_by T x4 x5 g8) dX6_closed_62 wX6_by q2454 q2456 qs62 rfl rfl (by decide) rfl (Nat.le_of_ble_eq_true rfl) (fun v4 T5 e7 => ?_)
        obtain ⟨r6, rfl, rfl, hT⟩ := e7
        rw [hT]
        refine e_ishl dX6_closed_65 ?_
        refine e_ior dX6_closed_66 ?_
        refine e_istore_n _ dX6_closed_67 (by decide) trivial rfl ?_
        exact H ok

set_option maxHeartbeats 2000000 in
theorem s_closed_68 (c : tC) (x2 : Int32) (x3 : Int32) (x4 : Int32) (x5 : Int32) (T : tS) (H : h_closed_28 c x2 x3 x4 (x5 + 1) T) : h_closed_68 c x2 x3 x4 x5 T := by
  intro ok
  refine e_iinc (x5 + 1) _ dX6_closed_68 rfl rfl (by decide) rfl rfl ?_
  refine e_goto 28 dX6_closed_71 (by decide) ?_
  exact H ok

set_option maxHeartbeats 2000000 in
theorem s_closed_74 (c : tC) (x2 : Int32) (x3 : Int32) (x4 : Int32) (T : tS) (H : h_closed_16 c x2 x3 (x4 + 1) T) : h_closed_74 c x2 x3 x4 T := by
  intro ok
  refine e_iinc (x4 + 1) _ dX6_closed_74 rfl rfl (by decide) rfl rfl ?_
  refine e_goto 16 dX6_closed_77 (by decide) ?_
  exact H ok

theorem en_closed (x1 : Int32) (T : tS) (Q : Option Value → tS → Prop) (H : ∀ c : tC, c.2.2.2.2.2.2 = Q → h_closed_0 c x1 T) : tM mX6_closed 1 (fun b => [.int x1]) T Q :=
  tM_mk (by decide) rfl (fun b => Nat.le_of_ble_eq_true rfl) (fun c hc ok => E.less2 (H c hc ok) (eS_s (eS_s (eS_n (eS_n (eS_n (eS_n eS_0)))))))
/-! comesSort (I)V level 1 -/
def h_comesSort_0 (c : tC) (x1 : Int32) (T : tS) : Prop := tX mX6_comesSort 1 c 0 [some (.ref c.2.2.2.1), some (.int x1), none] T
def h_comesSort_5 (c : tC) (x1 : Int32) (x2 : Int32) (T : tS) : Prop := tX mX6_comesSort 1 c 5 [some (.ref c.2.2.2.1), some (.int x1), some (.int x2)] T
def h_comesSort_57 (c : tC) (x1 : Int32) (x2 : Int32) (T : tS) : Prop := tX mX6_comesSort 1 c 57 [some (.ref c.2.2.2.1), some (.int x1), some (.int x2)] T
def h_comesSort_77 (c : tC) (x1 : Int32) (x2 : Int32) (T : tS) : Prop := tX mX6_comesSort 1 c 77 [some (.ref c.2.2.2.1), some (.int x1), some (.int x2)] T
set_option maxHeartbeats 2000000 in
theorem s_comesSort_0 (c : tC) (x1 : Int32) (T : tS) (H : h_comesSort_5 c x1 (T.1 26) T) : h_comesSort_0 c x1 T := by
  intro ok
  refine e_aload_n dX6_comesSort_0 rfl ?_
  refine t_getI dX6_comesSort_1 fX6_26 q2522 (by decide) rfl ?_
  refine e_istore_n _ dX6_comesSort_4 (by decide) rfl rfl ?_
  exact H ok

set_option maxHeartbeats 2000000 in
theorem s_comesSort_5 (c : tC) (x1 : Int32) (x2 : Int32) (T : tS) (H : (x2 ≤ 0 → h_comesSort_77 c x1 x2 T) ∧ (¬ x2 ≤ 0 → vp_in (x2 - (1 : Int32)) 64 ∧ (((tOnes x1) < (tOnes (T.2.2.1 29 (x2 - (1 : Int32)).toNatClampNeg)) → h_comesSort_57 c x1 x2 T) ∧ (¬ (tOnes x1) < (tOnes (T.2.2.1 29 (x2 - (1 : Int32)).toNatClampNeg)) → vp_in (x2 - (1 : Int32)) 64 ∧ ((¬ (tOnes (T.2.2.1 29 (x2 - (1 : Int32)).toNatClampNeg)) = (tOnes x1) → h_comesSort_77 c x1 x2 T) ∧ ((tOnes (T.2.2.1 29 (x2 - (1 : Int32)).toNatClampNeg)) = (tOnes x1) → vp_in (x2 - (1 : Int32)) 64 ∧ (((T.2.2.1 29 (x2 - (1 : Int32)).toNatClampNeg) ≤ x1 → h_comesSort_77 c x1 x2 T) ∧ (¬ (T.2.2.1 29 (x2 - (1 : Int32)).toNatClampNeg) ≤ x1 → h_comesSort_57 c x1 x2 T)))))))) : h_comesSort_5 c x1 x2 T := by
  intro ok
  refine e_iload_n dX6_comesSort_5 rfl ?_
  refine e_if_le 77 dX6_comesSort_6 (by decide) (fun g1 => ?_) (fun g1 => ?_)
  · replace H := H.1 g1
    exact H ok
  · replace H := H.2 g1
    refine e_aload_n dX6_comesSort_9 rfl ?_
    refine t_getA dX6_comesSort_10 fX6_29 q2525 (by decide) rfl ?_
    refine e_iload_n dX6_comesSort_13 rfl ?_
    refine e_iconst (1) dX6_comesSort_14 (by decide) ?_
    refine e_isub dX6_comesSort_15 ?_
    obtain ⟨g2, H⟩ := H
    refine t_iald dX6_comesSort_16 (by decide) rfl g2 ?_
    refine t_callS (As := [.int (T.2.2.1 29 (x2 - (1 : Int32)).toNatClampNeg)]) ok (ct_ones (T.2.2.1 29 (x2 - (1 : Int32)).toNatClampNeg)) dX6_comesSort_17 wX6_ones q2474 q2475 rfl (by decide) rfl (Nat.le_of_ble_eq_true rfl) ?_
    refine e_iload_n dX6_comesSort_20 rfl ?_
    refine t_callS (As := [.int x1]) ok (ct_ones x1) dX6_comesSort_21 wX6_ones q2474 q2475 rfl (by decide) rfl (Nat.le_of_ble_eq_true rfl) ?_
    refine e_icmp_gt 57 dX6_comesSort_24 (by decide) (fun g3 => ?_) (fun g3 => ?_)
    · replace H := H.1 g3
      exact H ok
    · replace H := H.2 g3
      refine e_aload_n dX6_comesSort_27 rfl ?_
      refine t_getA dX6_comesSort_28 fX6_29 q2525 (by decide) rfl ?_
      refine e_iload_n dX6_comesSort_31 rfl ?_
      refine e_iconst (1) dX6_comesSort_32 (by decide) ?_
      refine e_isub dX6_comesSort_33 ?_
      obtain ⟨g4, H⟩ := H
      refine t_iald dX6_comesSort_34 (by decide) rfl g4 ?_
      refine t_callS (As := [.int (T.2.2.1 29 (x2 - (1 : Int32)).toNatClampNeg)]) ok (ct_ones (T.2.2.1 29 (x2 - (1 : Int32)).toNatClampNeg)) dX6_comesSort_35 wX6_ones q2474 q2475 rfl (by decide) rfl (Nat.le_of_ble_eq_true rfl) ?_
      refine e_iload_n dX6_comesSort_38 rfl ?_
      refine t_callS (As := [.int x1]) ok (ct_ones x1) dX6_comesSort_39 wX6_ones q2474 q2475 rfl (by decide) rfl (Nat.le_of_ble_eq_true rfl) ?_
      refine e_icmp_ne 77 dX6_comesSort_42 (by decide) (fun g5 => ?_) (fun g5 => ?_)
      · replace H := H.1 g5
        exact H ok
      · replace H := H.2 g5
        refine e_aload_n dX6_comesSort_45 rfl ?_
        refine t_getA dX6_comesSort_46 fX6_29 q2525 (by decide) rfl ?_
        refine e_iload_n dX6_comesSort_49 rfl ?_
        refine e_iconst (1) dX6_comesSort_50 (by decide) ?_
        refine e_isub dX6_comesSort_51 ?_
        obtain ⟨g6, H⟩ := H
        refine t_iald dX6_comesSort_52 (by decide) rfl g6 ?_
        refine e_iload_n dX6_comesSort_53 rfl ?_
        refine e_icmp_le 77 dX6_comesSort_54 (by decide) (fun g7 => ?_) (fun g7 => ?_)
        · replace H := H.1 g7
          exact H ok
        · replace H := H.2 g7
          exact H ok

set_option maxHeartbeats 2000000 in
theorem s_comesSort_57 (c : tC) (x1 : Int32) (x2 : Int32) (T : tS) (H : vp_in (x2 - (1 : Int32)) 64 ∧ (vp_in x2 64 ∧ (h_comesSort_5 c x1 (x2 + (-1)) (tA T 29 (va_up (T.2.2.1 29) x2.toNatClampNeg (T.2.2.1 29 (x2 - (1 : Int32)).toNatClampNeg)))))) : h_comesSort_57 c x1 x2 T := by
  intro ok
  refine e_aload_n dX6_comesSort_57 rfl ?_
  refine t_getA dX6_comesSort_58 fX6_29 q2525 (by decide) rfl ?_
  refine e_iload_n dX6_comesSort_61 rfl ?_
  refine e_aload_n dX6_comesSort_62 rfl ?_
  refine t_getA dX6_comesSort_63 fX6_29 q2525 (by decide) rfl ?_
  refine e_iload_n dX6_comesSort_66 rfl ?_
  refine e_iconst (1) dX6_comesSort_67 (by decide) ?_
  refine e_isub dX6_comesSort_68 ?_
  obtain ⟨g1, H⟩ := H
  refine t_iald dX6_comesSort_69 (by decide) rfl g1 ?_
  obtain ⟨g2, H⟩ := H
  refine t_iast dX6_comesSort_70 (by decide) rfl ok.1 g2 ?_
  refine e_iinc (x2 + (-1)) _ dX6_comesSort_71 rfl rfl (by decide) rfl rfl ?_
  refine e_goto 5 dX6_comesSort_74 (by decide) ?_
  exact H ok

set_option maxHeartbeats 2000000 in
theorem s_comesSort_77 (c : tC) (x1 : Int32) (x2 : Int32) (T : tS) (H : vp_in x2 64 ∧ (c.2.2.2.2.2.2 none (tI (tA T 29 (va_up (T.2.2.1 29) x2.toNatClampNeg x1)) 26 ((T.1 26) + (1 : Int32))))) : h_comesSort_77 c x1 x2 T := by
  intro ok
  refine e_aload_n dX6_comesSort_77 rfl ?_
  refine t_getA dX6_comesSort_78 fX6_29 q2525 (by decide) rfl ?_
  refine e_iload_n dX6_comesSort_81 rfl ?_
  refine e_iload_n dX6_comesSort_82 rfl ?_
  obtain ⟨g1, H⟩ := H
  refine t_iast dX6_comesSort_83 (by decide) rfl ok.1 g1 ?_
  refine e_aload_n dX6_comesSort_84 rfl ?_
  refine e_dup dX6_comesSort_85 rfl ?_
  refine t_getI dX6_comesSort_86 fX6_26 q2522 (by decide) rfl ?_
  refine e_iconst (1) dX6_comesSort_89 (by decide) ?_
  refine e_iadd dX6_comesSort_90 ?_
  refine t_putI dX6_comesSort_91 fX6_26 q2522 (eFit_i _) (by decide) rfl ok.1 ?_
  exact e_return dX6_comesSort_94 rfl ⟨_, _, rfl, rfl, H⟩

theorem en_comesSort (x1 : Int32) (T : tS) (Q : Option Value → tS → Prop) (H : ∀ c : tC, c.2.2.2.2.2.2 = Q → h_comesSort_0 c x1 T) : tM mX6_comesSort 1 (fun b => [.int x1]) T Q :=
  tM_mk (by decide) rfl (fun b => Nat.le_of_ble_eq_true rfl) (fun c hc ok => E.less2 (H c hc ok) (eS_s (eS_s (eS_n eS_0))))
/-! turned (II)I level 1 -/
def h_turned_0 (c : tC) (x1 : Int32) (x2 : Int32) (T : tS) : Prop := tX mX6_turned 1 c 0 [some (.ref c.2.2.2.1), some (.int x1), some (.int x2), none, none] T
def h_turned_5 (c : tC) (x1 : Int32) (x2 : Int32) (x3 : Int32) (x4 : Int32) (T : tS) : Prop := tX mX6_turned 1 c 5 [some (.ref c.2.2.2.1), some (.int x1), some (.int x2), some (.int x3), some (.int x4)] T
def h_turned_45 (c : tC) (x1 : Int32) (x2 : Int32) (x3 : Int32) (x4 : Int32) (T : tS) : Prop := tX mX6_turned 1 c 45 [some (.ref c.2.2.2.1), some (.int x1), some (.int x2), some (.int x3), some (.int x4)] T
set_option maxHeartbeats 2000000 in
theorem s_turned_0 (c : tC) (x1 : Int32) (x2 : Int32) (T : tS) (H : h_turned_5 c x1 x2 (0 : Int32) (0 : Int32) T) : h_turned_0 c x1 x2 T := by
  intro ok
  refine e_iconst (0) dX6_turned_0 (by decide) ?_
  refine e_istore_n _ dX6_turned_1 (by decide) rfl rfl ?_
  refine e_iconst (0) dX6_turned_2 (by decide) ?_
  refine e_istore _ dX6_turned_3 (by decide) rfl rfl ?_
  exact H ok

set_option maxHeartbeats 2000000 in
theorem s_turned_5 (c : tC) (x1 : Int32) (x2 : Int32) (x3 : Int32) (x4 : Int32) (T : tS) (H : ((T.1 20) ≤ x4 → c.2.2.2.2.2.2 (some (.int x3)) T) ∧ (¬ (T.1 20) ≤ x4 → ((zI (tBit x1 x4)) = 0 → h_turned_45 c x1 x2 x3 x4 T) ∧ (¬ (zI (tBit x1 x4)) = 0 → vp_in x2 24 ∧ (vp_in (24 * (T.2.2.1 24 x2.toNatClampNeg) + x4) 576 ∧ (vp_in (24 * (tBy T (T.2.2.1 24 x2.toNatClampNeg) x4) + x2) 576 ∧ (h_turned_45 c x1 x2 (x3 ||| ((1 : Int32) <<< ((tBy T (tBy T (T.2.2.1 24 x2.toNatClampNeg) x4) x2) &&& 31))) x4 T)))))) : h_turned_5 c x1 x2 x3 x4 T := by
  intro ok
  refine e_iload dX6_turned_5 rfl ?_
  refine e_aload_n dX6_turned_7 rfl ?_
  refine t_getI dX6_turned_8 fX6_20 q2516 (by decide) rfl ?_
  refine e_icmp_ge 51 dX6_turned_11 (by decide) (fun g1 => ?_) (fun g1 => ?_)
  · replace H := H.1 g1
    refine e_iload_n dX6_turned_51 rfl ?_
    exact e_ireturn .int dX6_turned_52 rfl rfl ⟨_, _, rfl, rfl, H⟩
  · replace H := H.2 g1
    refine e_iload_n dX6_turned_14 rfl ?_
    refine e_iload dX6_turned_15 rfl ?_
    refine t_callS (As := [.int x1, .int x4]) ok (ct_holds x1 x4) dX6_turned_17 wX6_holds q2447 q2448 rfl (by decide) rfl (Nat.le_of_ble_eq_true rfl) ?_
    refine e_if_eq 45 dX6_turned_20 (by decide) (fun g2 => ?_) (fun g2 => ?_)
    · replace H := H.1 g2
      exact H ok
    · replace H := H.2 g2
      refine e_iload_n dX6_turned_23 rfl ?_
      refine e_iconst (1) dX6_turned_24 (by decide) ?_
      refine e_aload_n dX6_turned_25 rfl ?_
      refine e_aload_n dX6_turned_26 rfl ?_
      refine e_aload_n dX6_turned_27 rfl ?_
      refine t_getA dX6_turned_28 fX6_24 q2520 (by decide) rfl ?_
      refine e_iload_n dX6_turned_31 rfl ?_
      obtain ⟨g3, H⟩ := H
      refine t_iald dX6_turned_32 (by decide) rfl g3 ?_
      refine e_iload dX6_turned_33 rfl ?_
      obtain ⟨g8, H⟩ := H
      refine t_callV (As := [.int (T.2.2.1 24 x2.toNatClampNeg), .int x4]) ok (ct_by T (T.2.2.1 24 x2.toNatClampNeg) x4 g8) dX6_turned_35 wX6_by q2454 q2456 qs62 rfl rfl (by decide) rfl (Nat.le_of_ble_eq_true rfl) (fun v4 T5 e7 => ?_)
      obtain ⟨r6, rfl, rfl, hT⟩ := e7
      rw [hT]
      refine e_iload_n dX6_turned_38 rfl ?_
      obtain ⟨g13, H⟩ := H
      refine t_callV (As := [.int (tBy T (T.2.2.1 24 x2.toNatClampNeg) x4), .int x2]) ok (ct_by T (tBy T (T.2.2.1 24 x2.toNatClampNeg) x4) x2 g13) dX6_turned_39 wX6_by q2454 q2456 qs62 rfl rfl (by decide) rfl (Nat.le_of_ble_eq_true rfl) (fun v9 T10 e12 => ?_)
      obtain ⟨r11, rfl, rfl, hT⟩ := e12
      rw [hT]
      refine e_ishl dX6_turned_42 ?_
      refine e_ior dX6_turned_43 ?_
      refine e_istore_n _ dX6_turned_44 (by decide) rfl rfl ?_
      exact H ok

set_option maxHeartbeats 2000000 in
theorem s_turned_45 (c : tC) (x1 : Int32) (x2 : Int32) (x3 : Int32) (x4 : Int32) (T : tS) (H : h_turned_5 c x1 x2 x3 (x4 + 1) T) : h_turned_45 c x1 x2 x3 x4 T := by
  intro ok
  refine e_iinc (x4 + 1) _ dX6_turned_45 rfl rfl (by decide) rfl rfl ?_
  refine e_goto 5 dX6_turned_48 (by decide) ?_
  exact H ok

theorem en_turned (x1 : Int32) (x2 : Int32) (T : tS) (Q : Option Value → tS → Prop) (H : ∀ c : tC, c.2.2.2.2.2.2 = Q → h_turned_0 c x1 x2 T) : tM mX6_turned 1 (fun b => [.int x1, .int x2]) T Q :=
  tM_mk (by decide) rfl (fun b => Nat.le_of_ble_eq_true rfl) (fun c hc ok => E.less2 (H c hc ok) (eS_s (eS_s (eS_s (eS_n (eS_n eS_0))))))
/-! leastOf (II)I level 1 -/
def h_leastOf_0 (c : tC) (x1 : Int32) (x2 : Int32) (T : tS) : Prop := tX mX6_leastOf 1 c 0 [some (.ref c.2.2.2.1), some (.int x1), some (.int x2), none, none] T
def h_leastOf_5 (c : tC) (x1 : Int32) (x2 : Int32) (x3 : Int32) (x4 : Int32) (T : tS) : Prop := tX mX6_leastOf 1 c 5 [some (.ref c.2.2.2.1), some (.int x1), some (.int x2), some (.int x3), some (.int x4)] T
def h_leastOf_42 (c : tC) (x1 : Int32) (x2 : Int32) (x3 : Int32) (x4 : Int32) (T : tS) : Prop := tX mX6_leastOf 1 c 42 [some (.ref c.2.2.2.1), some (.int x1), some (.int x2), some (.int x3), some (.int x4)] T
set_option maxHeartbeats 2000000 in
theorem s_leastOf_0 (c : tC) (x1 : Int32) (x2 : Int32) (T : tS) (H : h_leastOf_5 c x1 x2 x2 (0 : Int32) T) : h_leastOf_0 c x1 x2 T := by
  intro ok
  refine e_iload_n dX6_leastOf_0 rfl ?_
  refine e_istore_n _ dX6_leastOf_1 (by decide) rfl rfl ?_
  refine e_iconst (0) dX6_leastOf_2 (by decide) ?_
  refine e_istore _ dX6_leastOf_3 (by decide) rfl rfl ?_
  exact H ok

set_option maxHeartbeats 2000000 in
theorem s_leastOf_5 (c : tC) (x1 : Int32) (x2 : Int32) (x3 : Int32) (x4 : Int32) (T : tS) (H : ((T.1 20) ≤ x4 → c.2.2.2.2.2.2 (some (.int x3)) T) ∧ (¬ (T.1 20) ≤ x4 → ((zI (tBit x1 x4)) = 0 → h_leastOf_42 c x1 x2 x3 x4 T) ∧ (¬ (zI (tBit x1 x4)) = 0 → vp_in (24 * x4 + x2) 576 ∧ ((x3 ≤ (tBy T x4 x2) → h_leastOf_42 c x1 x2 x3 x4 T) ∧ (¬ x3 ≤ (tBy T x4 x2) → vp_in (24 * x4 + x2) 576 ∧ (h_leastOf_42 c x1 x2 (tBy T x4 x2) x4 T)))))) : h_leastOf_5 c x1 x2 x3 x4 T := by
  intro ok
  refine e_iload dX6_leastOf_5 rfl ?_
  refine e_aload_n dX6_leastOf_7 rfl ?_
  refine t_getI dX6_leastOf_8 fX6_20 q2516 (by decide) rfl ?_
  refine e_icmp_ge 48 dX6_leastOf_11 (by decide) (fun g1 => ?_) (fun g1 => ?_)
  · replace H := H.1 g1
    refine e_iload_n dX6_leastOf_48 rfl ?_
    exact e_ireturn .int dX6_leastOf_49 rfl rfl ⟨_, _, rfl, rfl, H⟩
  · replace H := H.2 g1
    refine e_iload_n dX6_leastOf_14 rfl ?_
    refine e_iload dX6_leastOf_15 rfl ?_
    refine t_callS (As := [.int x1, .int x4]) ok (ct_holds x1 x4) dX6_leastOf_17 wX6_holds q2447 q2448 rfl (by decide) rfl (Nat.le_of_ble_eq_true rfl) ?_
    refine e_if_eq 42 dX6_leastOf_20 (by decide) (fun g2 => ?_) (fun g2 => ?_)
    · replace H := H.1 g2
      exact H ok
    · replace H := H.2 g2
      refine e_aload_n dX6_leastOf_23 rfl ?_
      refine e_iload dX6_leastOf_24 rfl ?_
      refine e_iload_n dX6_leastOf_26 rfl ?_
      obtain ⟨g7, H⟩ := H
      refine t_callV (As := [.int x4, .int x2]) ok (ct_by T x4 x2 g7) dX6_leastOf_27 wX6_by q2454 q2456 qs62 rfl rfl (by decide) rfl (Nat.le_of_ble_eq_true rfl) (fun v3 T4 e6 => ?_)
      obtain ⟨r5, rfl, rfl, hT⟩ := e6
      rw [hT]
      refine e_iload_n dX6_leastOf_30 rfl ?_
      refine e_icmp_ge 42 dX6_leastOf_31 (by decide) (fun g8 => ?_) (fun g8 => ?_)
      · replace H := H.1 g8
        exact H ok
      · replace H := H.2 g8
        refine e_aload_n dX6_leastOf_34 rfl ?_
        refine e_iload dX6_leastOf_35 rfl ?_
        refine e_iload_n dX6_leastOf_37 rfl ?_
        obtain ⟨g13, H⟩ := H
        refine t_callV (As := [.int x4, .int x2]) ok (ct_by T x4 x2 g13) dX6_leastOf_38 wX6_by q2454 q2456 qs62 rfl rfl (by decide) rfl (Nat.le_of_ble_eq_true rfl) (fun v9 T10 e12 => ?_)
        obtain ⟨r11, rfl, rfl, hT⟩ := e12
        rw [hT]
        refine e_istore_n _ dX6_leastOf_41 (by decide) rfl rfl ?_
        exact H ok

set_option maxHeartbeats 2000000 in
theorem s_leastOf_42 (c : tC) (x1 : Int32) (x2 : Int32) (x3 : Int32) (x4 : Int32) (T : tS) (H : h_leastOf_5 c x1 x2 x3 (x4 + 1) T) : h_leastOf_42 c x1 x2 x3 x4 T := by
  intro ok
  refine e_iinc (x4 + 1) _ dX6_leastOf_42 rfl rfl (by decide) rfl rfl ?_
  refine e_goto 5 dX6_leastOf_45 (by decide) ?_
  exact H ok

theorem en_leastOf (x1 : Int32) (x2 : Int32) (T : tS) (Q : Option Value → tS → Prop) (H : ∀ c : tC, c.2.2.2.2.2.2 = Q → h_leastOf_0 c x1 x2 T) : tM mX6_leastOf 1 (fun b => [.int x1, .int x2]) T Q :=
  tM_mk (by decide) rfl (fun b => Nat.le_of_ble_eq_true rfl) (fun c hc ok => E.less2 (H c hc ok) (eS_s (eS_s (eS_s (eS_n (eS_n eS_0))))))
/-! fixedOf (II)I level 1 -/
def h_fixedOf_0 (c : tC) (x1 : Int32) (x2 : Int32) (T : tS) : Prop := tX mX6_fixedOf 1 c 0 [some (.ref c.2.2.2.1), some (.int x1), some (.int x2), none, none, none, none] T
def h_fixedOf_5 (c : tC) (x1 : Int32) (x2 : Int32) (x3 : Int32) (x4 : Int32) (T : tS) : Prop := tX mX6_fixedOf 1 c 5 [some (.ref c.2.2.2.1), some (.int x1), some (.int x2), some (.int x3), some (.int x4), none, none] T
def h_fixedOf_41 (c : tC) (x1 : Int32) (x2 : Int32) (x3 : Int32) (x4 : Int32) (x5 : Int32) (x6 : Int32) (T : tS) : Prop := tX mX6_fixedOf 1 c 41 [some (.ref c.2.2.2.1), some (.int x1), some (.int x2), some (.int x3), some (.int x4), some (.int x5), some (.int x6)] T
def h_fixedOf_87 (c : tC) (x1 : Int32) (x2 : Int32) (x3 : Int32) (x4 : Int32) (x6 : Int32) (T : tS) : Prop := tX mX6_fixedOf 1 c 87 [some (.ref c.2.2.2.1), some (.int x1), some (.int x2), some (.int x3), some (.int x4), none, some (.int x6)] T
def h_fixedOf_100 (c : tC) (x1 : Int32) (x2 : Int32) (x3 : Int32) (x4 : Int32) (x5 : Int32) (T : tS) : Prop := tX mX6_fixedOf 1 c 100 [some (.ref c.2.2.2.1), some (.int x1), some (.int x2), some (.int x3), some (.int x4), some (.int x5), none] T
set_option maxHeartbeats 2000000 in
theorem s_fixedOf_0 (c : tC) (x1 : Int32) (x2 : Int32) (T : tS) (H : h_fixedOf_5 c x1 x2 (0 : Int32) (0 : Int32) T) : h_fixedOf_0 c x1 x2 T := by
  intro ok
  refine e_iconst (0) dX6_fixedOf_0 (by decide) ?_
  refine e_istore_n _ dX6_fixedOf_1 (by decide) rfl rfl ?_
  refine e_iconst (0) dX6_fixedOf_2 (by decide) ?_
  refine e_istore _ dX6_fixedOf_3 (by decide) rfl rfl ?_
  exact H ok

set_option maxHeartbeats 2000000 in
theorem s_fixedOf_5 (c : tC) (x1 : Int32) (x2 : Int32) (x3 : Int32) (x4 : Int32) (T : tS) (H : ((T.1 20) ≤ x4 → c.2.2.2.2.2.2 (some (.int x3)) T) ∧ (¬ (T.1 20) ≤ x4 → vp_in (((24 : Int32) * x1) + x4) 1536 ∧ ((¬ (T.2.2.1 32 (((24 : Int32) * x1) + x4).toNatClampNeg) = x4 → h_fixedOf_41 c x1 x2 x3 x4 (0 : Int32) (0 : Int32) T) ∧ ((T.2.2.1 32 (((24 : Int32) * x1) + x4).toNatClampNeg) = x4 → h_fixedOf_41 c x1 x2 x3 x4 (1 : Int32) (0 : Int32) T)))) : h_fixedOf_5 c x1 x2 x3 x4 T := by
  intro ok
  refine e_iload dX6_fixedOf_5 rfl ?_
  refine e_aload_n dX6_fixedOf_7 rfl ?_
  refine t_getI dX6_fixedOf_8 fX6_20 q2516 (by decide) rfl ?_
  refine e_icmp_ge 114 dX6_fixedOf_11 (by decide) (fun g1 => ?_) (fun g1 => ?_)
  · replace H := H.1 g1
    refine e_iload_n dX6_fixedOf_114 rfl ?_
    exact e_ireturn .int dX6_fixedOf_115 rfl rfl ⟨_, _, rfl, rfl, H⟩
  · replace H := H.2 g1
    refine e_aload_n dX6_fixedOf_14 rfl ?_
    refine t_getA dX6_fixedOf_15 fX6_32 q2528 (by decide) rfl ?_
    refine e_bipush (24) dX6_fixedOf_18 (by decide) ?_
    refine e_iload_n dX6_fixedOf_20 rfl ?_
    refine e_imul dX6_fixedOf_21 ?_
    refine e_iload dX6_fixedOf_22 rfl ?_
    refine e_iadd dX6_fixedOf_24 ?_
    obtain ⟨g2, H⟩ := H
    refine t_iald dX6_fixedOf_25 (by decide) rfl g2 ?_
    refine e_iload dX6_fixedOf_26 rfl ?_
    refine e_icmp_ne 35 dX6_fixedOf_28 (by decide) (fun g3 => ?_) (fun g3 => ?_)
    · replace H := H.1 g3
      refine e_iconst (0) dX6_fixedOf_35 (by decide) ?_
      refine e_istore _ dX6_fixedOf_36 (by decide) rfl rfl ?_
      refine e_iconst (0) dX6_fixedOf_38 (by decide) ?_
      refine e_istore _ dX6_fixedOf_39 (by decide) rfl rfl ?_
      exact H ok
    · replace H := H.2 g3
      refine e_iconst (1) dX6_fixedOf_31 (by decide) ?_
      refine e_goto 36 dX6_fixedOf_32 (by decide) ?_
      refine e_istore _ dX6_fixedOf_36 (by decide) rfl rfl ?_
      refine e_iconst (0) dX6_fixedOf_38 (by decide) ?_
      refine e_istore _ dX6_fixedOf_39 (by decide) rfl rfl ?_
      exact H ok

set_option maxHeartbeats 2000000 in
theorem s_fixedOf_41 (c : tC) (x1 : Int32) (x2 : Int32) (x3 : Int32) (x4 : Int32) (x5 : Int32) (x6 : Int32) (T : tS) (H : ((T.1 20) ≤ x6 → h_fixedOf_100 c x1 x2 x3 x4 x5 T) ∧ (¬ (T.1 20) ≤ x6 → (x5 = 0 → h_fixedOf_100 c x1 x2 x3 x4 x5 T) ∧ (¬ x5 = 0 → ((zI (tBit x2 x6)) = 0 → h_fixedOf_87 c x1 x2 x3 x4 x6 T) ∧ (¬ (zI (tBit x2 x6)) = 0 → vp_in (24 * x4 + x6) 576 ∧ (vp_in (((24 : Int32) * x1) + (tBy T x4 x6)) 1536 ∧ ((¬ (T.2.2.1 32 (((24 : Int32) * x1) + (tBy T x4 x6)).toNatClampNeg) = x4 → h_fixedOf_41 c x1 x2 x3 x4 (0 : Int32) (x6 + 1) T) ∧ ((T.2.2.1 32 (((24 : Int32) * x1) + (tBy T x4 x6)).toNatClampNeg) = x4 → h_fixedOf_87 c x1 x2 x3 x4 x6 T))))))) : h_fixedOf_41 c x1 x2 x3 x4 x5 x6 T := by
  intro ok
  refine e_iload dX6_fixedOf_41 rfl ?_
  refine e_aload_n dX6_fixedOf_43 rfl ?_
  refine t_getI dX6_fixedOf_44 fX6_20 q2516 (by decide) rfl ?_
  refine e_icmp_ge 100 dX6_fixedOf_47 (by decide) (fun g1 => ?_) (fun g1 => ?_)
  · replace H := H.1 g1
    exact E.less2 (H ok) (eS_s (eS_s (eS_s (eS_s (eS_s (eS_s (eS_n eS_0)))))))
  · replace H := H.2 g1
    refine e_iload dX6_fixedOf_50 rfl ?_
    refine e_if_eq 100 dX6_fixedOf_52 (by decide) (fun g2 => ?_) (fun g2 => ?_)
    · replace H := H.1 g2
      exact E.less2 (H ok) (eS_s (eS_s (eS_s (eS_s (eS_s (eS_s (eS_n eS_0)))))))
    · replace H := H.2 g2
      refine e_iload_n dX6_fixedOf_55 rfl ?_
      refine e_iload dX6_fixedOf_56 rfl ?_
      refine t_callS (As := [.int x2, .int x6]) ok (ct_holds x2 x6) dX6_fixedOf_58 wX6_holds q2447 q2448 rfl (by decide) rfl (Nat.le_of_ble_eq_true rfl) ?_
      refine e_if_eq 87 dX6_fixedOf_61 (by decide) (fun g3 => ?_) (fun g3 => ?_)
      · replace H := H.1 g3
        exact E.less2 (H ok) (eS_s (eS_s (eS_s (eS_s (eS_s (eS_n (eS_s eS_0)))))))
      · replace H := H.2 g3
        refine e_aload_n dX6_fixedOf_64 rfl ?_
        refine t_getA dX6_fixedOf_65 fX6_32 q2528 (by decide) rfl ?_
        refine e_bipush (24) dX6_fixedOf_68 (by decide) ?_
        refine e_iload_n dX6_fixedOf_70 rfl ?_
        refine e_imul dX6_fixedOf_71 ?_
        refine e_aload_n dX6_fixedOf_72 rfl ?_
        refine e_iload dX6_fixedOf_73 rfl ?_
        refine e_iload dX6_fixedOf_75 rfl ?_
        obtain ⟨g8, H⟩ := H
        refine t_callV (As := [.int x4, .int x6]) ok (ct_by T x4 x6 g8) dX6_fixedOf_77 wX6_by q2454 q2456 qs62 rfl rfl (by decide) rfl (Nat.le_of_ble_eq_true rfl) (fun v4 T5 e7 => ?_)
        obtain ⟨r6, rfl, rfl, hT⟩ := e7
        rw [hT]
        refine e_iadd dX6_fixedOf_80 ?_
        obtain ⟨g9, H⟩ := H
        refine t_iald dX6_fixedOf_81 (by decide) rfl g9 ?_
        refine e_iload dX6_fixedOf_82 rfl ?_
        refine e_icmp_ne 91 dX6_fixedOf_84 (by decide) (fun g10 => ?_) (fun g10 => ?_)
        · replace H := H.1 g10
          refine e_iconst (0) dX6_fixedOf_91 (by decide) ?_
          refine e_istore _ dX6_fixedOf_92 (by decide) rfl rfl ?_
          refine e_iinc (x6 + 1) _ dX6_fixedOf_94 rfl rfl (by decide) rfl rfl ?_
          refine e_goto 41 dX6_fixedOf_97 (by decide) ?_
          exact H ok
        · replace H := H.2 g10
          exact E.less2 (H ok) (eS_s (eS_s (eS_s (eS_s (eS_s (eS_n (eS_s eS_0)))))))

set_option maxHeartbeats 2000000 in
theorem s_fixedOf_87 (c : tC) (x1 : Int32) (x2 : Int32) (x3 : Int32) (x4 : Int32) (x6 : Int32) (T : tS) (H : h_fixedOf_41 c x1 x2 x3 x4 (1 : Int32) (x6 + 1) T) : h_fixedOf_87 c x1 x2 x3 x4 x6 T := by
  intro ok
  refine e_iconst (1) dX6_fixedOf_87 (by decide) ?_
  refine e_goto 92 dX6_fixedOf_88 (by decide) ?_
  refine e_istore _ dX6_fixedOf_92 (by decide) rfl rfl ?_
  refine e_iinc (x6 + 1) _ dX6_fixedOf_94 rfl rfl (by decide) rfl rfl ?_
  refine e_goto 41 dX6_fixedOf_97 (by decide) ?_
  exact H ok

set_option maxHeartbeats 2000000 in
theorem s_fixedOf_100 (c : tC) (x1 : Int32) (x2 : Int32) (x3 : Int32) (x4 : Int32) (x5 : Int32) (T : tS) (H : h_fixedOf_5 c x1 x2 (x3 + (zI (¬ x5 = 0))) (x4 + 1) T) : h_fixedOf_100 c x1 x2 x3 x4 x5 T := by
  intro ok
  refine e_iload_n dX6_fixedOf_100 rfl ?_
  refine e_iload dX6_fixedOf_101 rfl ?_
  refine t_callS (As := [.int x5]) ok (ct_truth x5) dX6_fixedOf_103 wX6_truth q2489 q2490 rfl (by decide) rfl (Nat.le_of_ble_eq_true rfl) ?_
  refine e_iadd dX6_fixedOf_106 ?_
  refine e_istore_n _ dX6_fixedOf_107 (by decide) rfl rfl ?_
  refine e_iinc (x4 + 1) _ dX6_fixedOf_108 rfl rfl (by decide) rfl rfl ?_
  refine e_goto 5 dX6_fixedOf_111 (by decide) ?_
  exact E.less2 (H ok) (eS_s (eS_s (eS_s (eS_s (eS_s (eS_n (eS_n eS_0)))))))

theorem en_fixedOf (x1 : Int32) (x2 : Int32) (T : tS) (Q : Option Value → tS → Prop) (H : ∀ c : tC, c.2.2.2.2.2.2 = Q → h_fixedOf_0 c x1 x2 T) : tM mX6_fixedOf 1 (fun b => [.int x1, .int x2]) T Q :=
  tM_mk (by decide) rfl (fun b => Nat.le_of_ble_eq_true rfl) (fun c hc ok => E.less2 (H c hc ok) (eS_s (eS_s (eS_s (eS_n (eS_n (eS_n (eS_n eS_0))))))))
/-! leastTurned (I)I level 2 -/
def h_leastTurned_0 (c : tC) (x1 : Int32) (T : tS) : Prop := tX mX6_leastTurned 2 c 0 [some (.ref c.2.2.2.1), some (.int x1), none, none, none] T
def h_leastTurned_4 (c : tC) (x1 : Int32) (x2 : Int32) (x3 : Int32) (T : tS) : Prop := tX mX6_leastTurned 2 c 4 [some (.ref c.2.2.2.1), some (.int x1), some (.int x2), some (.int x3), none] T
set_option maxHeartbeats 2000000 in
theorem s_leastTurned_0 (c : tC) (x1 : Int32) (T : tS) (H : h_leastTurned_4 c x1 x1 (0 : Int32) T) : h_leastTurned_0 c x1 T := by
  intro ok
  refine e_iload_n dX6_leastTurned_0 rfl ?_
  refine e_istore_n _ dX6_leastTurned_1 (by decide) rfl rfl ?_
  refine e_iconst (0) dX6_leastTurned_2 (by decide) ?_
  refine e_istore_n _ dX6_leastTurned_3 (by decide) rfl rfl ?_
  exact H ok

set_option maxHeartbeats 2000000 in
theorem s_leastTurned_4 (c : tC) (x1 : Int32) (x2 : Int32) (x3 : Int32) (T : tS) (H : ((T.1 20) ≤ x3 → c.2.2.2.2.2.2 (some (.int x2)) T) ∧ (¬ (T.1 20) ≤ x3 → ∃ Q2 : Int32 → tS → Prop, tMi mX6_turned 1 (fun b => [.int x1, .int x3]) T Q2 ∧ ∀ (r7 : Int32) (T5 : tS), Q2 r7 T5 → (x2 ≤ r7 → h_leastTurned_4 c x1 x2 (x3 + 1) T5) ∧ (¬ x2 ≤ r7 → h_leastTurned_4 c x1 r7 (x3 + 1) T5))) : h_leastTurned_4 c x1 x2 x3 T := by
  intro ok
  refine e_iload_n dX6_leastTurned_4 rfl ?_
  refine e_aload_n dX6_leastTurned_5 rfl ?_
  refine t_getI dX6_leastTurned_6 fX6_20 q2516 (by decide) rfl ?_
  refine e_icmp_ge 39 dX6_leastTurned_9 (by decide) (fun g1 => ?_) (fun g1 => ?_)
  · replace H := H.1 g1
    refine e_iload_n dX6_leastTurned_39 rfl ?_
    exact e_ireturn .int dX6_leastTurned_40 rfl rfl ⟨_, _, rfl, rfl, H⟩
  · replace H := H.2 g1
    refine e_aload_n dX6_leastTurned_12 rfl ?_
    refine e_iload_n dX6_leastTurned_13 rfl ?_
    refine e_iload_n dX6_leastTurned_14 rfl ?_
    obtain ⟨Q2, hC3, H⟩ := H
    refine t_callV (As := [.int x1, .int x3]) ok hC3 dX6_leastTurned_15 wX6_turned q2466 q2468 qs65 rfl rfl (by decide) rfl (Nat.le_of_ble_eq_true rfl) (fun v4 T5 e6 => ?_)
    obtain ⟨r7, rfl, e6⟩ := e6
    replace H := H r7 T5 e6
    refine e_istore _ dX6_leastTurned_18 (by decide) rfl rfl ?_
    refine e_iload dX6_leastTurned_20 rfl ?_
    refine e_iload_n dX6_leastTurned_22 rfl ?_
    refine e_icmp_ge 31 dX6_leastTurned_23 (by decide) (fun g8 => ?_) (fun g8 => ?_)
    · replace H := H.1 g8
      refine e_iload_n dX6_leastTurned_31 rfl ?_
      refine e_istore_n _ dX6_leastTurned_32 (by decide) rfl rfl ?_
      refine e_iinc (x3 + 1) _ dX6_leastTurned_33 rfl rfl (by decide) rfl rfl ?_
      refine e_goto 4 dX6_leastTurned_36 (by decide) ?_
      exact E.less2 (H ok) (eS_s (eS_s (eS_s (eS_s (eS_n eS_0)))))
    · replace H := H.2 g8
      refine e_iload dX6_leastTurned_26 rfl ?_
      refine e_goto 32 dX6_leastTurned_28 (by decide) ?_
      refine e_istore_n _ dX6_leastTurned_32 (by decide) rfl rfl ?_
      refine e_iinc (x3 + 1) _ dX6_leastTurned_33 rfl rfl (by decide) rfl rfl ?_
      refine e_goto 4 dX6_leastTurned_36 (by decide) ?_
      exact E.less2 (H ok) (eS_s (eS_s (eS_s (eS_s (eS_n eS_0)))))

theorem en_leastTurned (x1 : Int32) (T : tS) (Q : Option Value → tS → Prop) (H : ∀ c : tC, c.2.2.2.2.2.2 = Q → h_leastTurned_0 c x1 T) : tM mX6_leastTurned 2 (fun b => [.int x1]) T Q :=
  tM_mk (by decide) rfl (fun b => Nat.le_of_ble_eq_true rfl) (fun c hc ok => E.less2 (H c hc ok) (eS_s (eS_s (eS_n (eS_n (eS_n eS_0))))))
/-! sortOfSet (I)I level 1 -/
def h_sortOfSet_0 (c : tC) (x1 : Int32) (T : tS) : Prop := tX mX6_sortOfSet 1 c 0 [some (.ref c.2.2.2.1), some (.int x1)] T
set_option maxHeartbeats 2000000 in
theorem s_sortOfSet_0 (c : tC) (x1 : Int32) (T : tS) (H : ∃ Q1 : Int32 → tS → Prop, tMi mX6_subIndex 0 (fun b => [.int x1]) T Q1 ∧ ∀ (r6 : Int32) (T4 : tS), Q1 r6 T4 → vp_in r6 128 ∧ (c.2.2.2.2.2.2 (some (.int (T4.2.2.1 28 r6.toNatClampNeg))) T4)) : h_sortOfSet_0 c x1 T := by
  intro ok
  refine e_aload_n dX6_sortOfSet_0 rfl ?_
  refine t_getA dX6_sortOfSet_1 fX6_28 q2524 (by decide) rfl ?_
  refine e_aload_n dX6_sortOfSet_4 rfl ?_
  refine e_iload_n dX6_sortOfSet_5 rfl ?_
  obtain ⟨Q1, hC2, H⟩ := H
  refine t_callV (As := [.int x1]) ok hC2 dX6_sortOfSet_6 wX6_subIndex q2458 q2460 qs63 rfl rfl (by decide) rfl (Nat.le_of_ble_eq_true rfl) (fun v3 T4 e5 => ?_)
  obtain ⟨r6, rfl, e5⟩ := e5
  replace H := H r6 T4 e5
  obtain ⟨g7, H⟩ := H
  refine t_iald dX6_sortOfSet_9 (by decide) rfl g7 ?_
  exact e_ireturn .int dX6_sortOfSet_10 rfl rfl ⟨_, _, rfl, rfl, H⟩

theorem en_sortOfSet (x1 : Int32) (T : tS) (Q : Option Value → tS → Prop) (H : ∀ c : tC, c.2.2.2.2.2.2 = Q → h_sortOfSet_0 c x1 T) : tM mX6_sortOfSet 1 (fun b => [.int x1]) T Q :=
  tM_mk (by decide) rfl (fun b => Nat.le_of_ble_eq_true rfl) (fun c hc ok => E.less2 (H c hc ok) (eS_s (eS_s eS_0)))
/-! builds ()V level 3 -/
def h_builds_0 (c : tC) (T : tS) : Prop := tX mX6_builds 3 c 0 [some (.ref c.2.2.2.1), none, none, none] T
def h_builds_19 (c : tC) (x1 : Int32) (T : tS) : Prop := tX mX6_builds 3 c 19 [some (.ref c.2.2.2.1), some (.int x1), none, none] T
def h_builds_29 (c : tC) (x1 : Int32) (x2 : Int32) (T : tS) : Prop := tX mX6_builds 3 c 29 [some (.ref c.2.2.2.1), some (.int x1), some (.int x2), none] T
def h_builds_100 (c : tC) (x1 : Int32) (x2 : Int32) (T : tS) : Prop := tX mX6_builds 3 c 100 [some (.ref c.2.2.2.1), some (.int x1), some (.int x2), none] T
def h_builds_119 (c : tC) (x1 : Int32) (T : tS) : Prop := tX mX6_builds 3 c 119 [some (.ref c.2.2.2.1), some (.int x1), none, none] T
def h_builds_156 (c : tC) (x1 : Int32) (T : tS) : Prop := tX mX6_builds 3 c 156 [some (.ref c.2.2.2.1), some (.int x1), none, none] T
def h_builds_164 (c : tC) (x1 : Int32) (T : tS) : Prop := tX mX6_builds 3 c 164 [some (.ref c.2.2.2.1), some (.int x1), none, none] T
def h_builds_187 (c : tC) (x1 : Int32) (T : tS) : Prop := tX mX6_builds 3 c 187 [some (.ref c.2.2.2.1), some (.int x1), none, none] T
def h_builds_238 (c : tC) (x1 : Int32) (T : tS) : Prop := tX mX6_builds 3 c 238 [some (.ref c.2.2.2.1), some (.int x1), none, none] T
def h_builds_248 (c : tC) (x1 : Int32) (x2 : Int32) (T : tS) : Prop := tX mX6_builds 3 c 248 [some (.ref c.2.2.2.1), some (.int x1), some (.int x2), none] T
def h_builds_292 (c : tC) (x1 : Int32) (T : tS) : Prop := tX mX6_builds 3 c 292 [some (.ref c.2.2.2.1), some (.int x1), none, none] T
def h_builds_302 (c : tC) (x1 : Int32) (x2 : Int32) (T : tS) : Prop := tX mX6_builds 3 c 302 [some (.ref c.2.2.2.1), some (.int x1), some (.int x2), none] T
set_option maxHeartbeats 2000000 in
theorem s_builds_0 (c : tC) (T : tS) (H : ∃ Q1 : Int32 → tS → Prop, tMi mX6_buildsMembers 1 (fun b => []) T Q1 ∧ ∀ (r6 : Int32) (T4 : tS), Q1 r6 T4 → vp_in (0 : Int32) 128 ∧ (h_builds_19 c (0 : Int32) (tA (tI T4 25 (1 : Int32)) 27 (va_up (T4.2.2.1 27) (0 : Int32).toNatClampNeg (1 : Int32))))) : h_builds_0 c T := by
  intro ok
  refine e_aload_n dX6_builds_0 rfl ?_
  obtain ⟨Q1, hC2, H⟩ := H
  refine t_callV (As := []) ok hC2 dX6_builds_1 wX6_buildsMembers q2431 q2433 qs57 rfl rfl (by decide) rfl (Nat.le_of_ble_eq_true rfl) (fun v3 T4 e5 => ?_)
  obtain ⟨r6, rfl, e5⟩ := e5
  replace H := H r6 T4 e5
  refine e_pop dX6_builds_4 rfl ?_
  refine e_aload_n dX6_builds_5 rfl ?_
  refine e_iconst (1) dX6_builds_6 (by decide) ?_
  refine t_putI dX6_builds_7 fX6_25 q2521 (eFit_i _) (by decide) rfl ok.1 ?_
  refine e_aload_n dX6_builds_10 rfl ?_
  refine t_getA dX6_builds_11 fX6_27 q2523 (by decide) rfl ?_
  refine e_iconst (0) dX6_builds_14 (by decide) ?_
  refine e_iconst (1) dX6_builds_15 (by decide) ?_
  obtain ⟨g7, H⟩ := H
  refine t_iast dX6_builds_16 (by decide) rfl ok.1 g7 ?_
  refine e_iconst (0) dX6_builds_17 (by decide) ?_
  refine e_istore_n _ dX6_builds_18 (by decide) rfl rfl ?_
  exact H ok

set_option maxHeartbeats 2000000 in
theorem s_builds_19 (c : tC) (x1 : Int32) (T : tS) (H : ((T.1 25) ≤ x1 → h_builds_119 c (0 : Int32) (tI T 26 (0 : Int32))) ∧ (¬ (T.1 25) ≤ x1 → h_builds_29 c x1 (1 : Int32) T)) : h_builds_19 c x1 T := by
  intro ok
  refine e_iload_n dX6_builds_19 rfl ?_
  refine e_aload_n dX6_builds_20 rfl ?_
  refine t_getI dX6_builds_21 fX6_25 q2521 (by decide) rfl ?_
  refine e_icmp_ge 112 dX6_builds_24 (by decide) (fun g1 => ?_) (fun g1 => ?_)
  · replace H := H.1 g1
    refine e_aload_n dX6_builds_112 rfl ?_
    refine e_iconst (0) dX6_builds_113 (by decide) ?_
    refine t_putI dX6_builds_114 fX6_26 q2522 (eFit_i _) (by decide) rfl ok.1 ?_
    refine e_iconst (0) dX6_builds_117 (by decide) ?_
    refine e_istore_n _ dX6_builds_118 (by decide) rfl rfl ?_
    exact H ok
  · replace H := H.2 g1
    refine e_iconst (1) dX6_builds_27 (by decide) ?_
    refine e_istore_n _ dX6_builds_28 (by decide) rfl rfl ?_
    exact H ok

set_option maxHeartbeats 2000000 in
theorem s_builds_29 (c : tC) (x1 : Int32) (x2 : Int32) (T : tS) (H : ((T.1 20) ≤ x2 → h_builds_19 c (x1 + 1) T) ∧ (¬ (T.1 20) ≤ x2 → vp_in x1 128 ∧ (((zI (tBit (T.2.2.1 27 x1.toNatClampNeg) x2)) = 0 → vp_in x1 128 ∧ (∃ Q5 : Int32 → tS → Prop, tMi mX6_closed 1 (fun b => [.int ((T.2.2.1 27 x1.toNatClampNeg) ||| ((1 : Int32) <<< (x2 &&& 31)))]) T Q5 ∧ ∀ (r10 : Int32) (T8 : tS), Q5 r10 T8 → ∃ Q11 : Int32 → tS → Prop, tMi mX6_subIndex 0 (fun b => [.int r10]) T8 Q11 ∧ ∀ (r16 : Int32) (T14 : tS), Q11 r16 T14 → (r16 = (-1 : Int32) → vp_in (T14.1 25) 128 ∧ (h_builds_100 c x1 x2 (tI (tA T14 27 (va_up (T14.2.2.1 27) (T14.1 25).toNatClampNeg r10)) 25 ((T14.1 25) + (1 : Int32))))) ∧ (¬ r16 = (-1 : Int32) → h_builds_100 c x1 x2 T14))) ∧ (¬ (zI (tBit (T.2.2.1 27 x1.toNatClampNeg) x2)) = 0 → h_builds_100 c x1 x2 T)))) : h_builds_29 c x1 x2 T := by
  intro ok
  refine e_iload_n dX6_builds_29 rfl ?_
  refine e_aload_n dX6_builds_30 rfl ?_
  refine t_getI dX6_builds_31 fX6_20 q2516 (by decide) rfl ?_
  refine e_icmp_ge 106 dX6_builds_34 (by decide) (fun g1 => ?_) (fun g1 => ?_)
  · replace H := H.1 g1
    refine e_iinc (x1 + 1) _ dX6_builds_106 rfl rfl (by decide) rfl rfl ?_
    refine e_goto 19 dX6_builds_109 (by decide) ?_
    exact E.less2 (H ok) (eS_s (eS_s (eS_n (eS_n eS_0))))
  · replace H := H.2 g1
    refine e_aload_n dX6_builds_37 rfl ?_
    refine t_getA dX6_builds_38 fX6_27 q2523 (by decide) rfl ?_
    refine e_iload_n dX6_builds_41 rfl ?_
    obtain ⟨g2, H⟩ := H
    refine t_iald dX6_builds_42 (by decide) rfl g2 ?_
    refine e_iload_n dX6_builds_43 rfl ?_
    refine t_callS (As := [.int (T.2.2.1 27 x1.toNatClampNeg), .int x2]) ok (ct_holds (T.2.2.1 27 x1.toNatClampNeg) x2) dX6_builds_44 wX6_holds q2447 q2448 rfl (by decide) rfl (Nat.le_of_ble_eq_true rfl) ?_
    refine e_if_eq 53 dX6_builds_47 (by decide) (fun g3 => ?_) (fun g3 => ?_)
    · replace H := H.1 g3
      refine e_aload_n dX6_builds_53 rfl ?_
      refine e_aload_n dX6_builds_54 rfl ?_
      refine t_getA dX6_builds_55 fX6_27 q2523 (by decide) rfl ?_
      refine e_iload_n dX6_builds_58 rfl ?_
      obtain ⟨g4, H⟩ := H
      refine t_iald dX6_builds_59 (by decide) rfl g4 ?_
      refine e_iconst (1) dX6_builds_60 (by decide) ?_
      refine e_iload_n dX6_builds_61 rfl ?_
      refine e_ishl dX6_builds_62 ?_
      refine e_ior dX6_builds_63 ?_
      obtain ⟨Q5, hC6, H⟩ := H
      refine t_callV (As := [.int ((T.2.2.1 27 x1.toNatClampNeg) ||| ((1 : Int32) <<< (x2 &&& 31)))]) ok hC6 dX6_builds_64 wX6_closed q2450 q2452 qs61 rfl rfl (by decide) rfl (Nat.le_of_ble_eq_true rfl) (fun v7 T8 e9 => ?_)
      obtain ⟨r10, rfl, e9⟩ := e9
      replace H := H r10 T8 e9
      refine e_istore_n _ dX6_builds_67 (by decide) rfl rfl ?_
      refine e_aload_n dX6_builds_68 rfl ?_
      refine e_iload_n dX6_builds_69 rfl ?_
      obtain ⟨Q11, hC12, H⟩ := H
      refine t_callV (As := [.int r10]) ok hC12 dX6_builds_70 wX6_subIndex q2458 q2460 qs63 rfl rfl (by decide) rfl (Nat.le_of_ble_eq_true rfl) (fun v13 T14 e15 => ?_)
      obtain ⟨r16, rfl, e15⟩ := e15
      replace H := H r16 T14 e15
      refine e_iconst (-1) dX6_builds_73 (by decide) ?_
      refine e_icmp_eq 80 dX6_builds_74 (by decide) (fun g17 => ?_) (fun g17 => ?_)
      · replace H := H.1 g17
        refine e_aload_n dX6_builds_80 rfl ?_
        refine t_getA dX6_builds_81 fX6_27 q2523 (by decide) rfl ?_
        refine e_aload_n dX6_builds_84 rfl ?_
        refine t_getI dX6_builds_85 fX6_25 q2521 (by decide) rfl ?_
        refine e_iload_n dX6_builds_88 rfl ?_
        obtain ⟨g18, H⟩ := H
        refine t_iast dX6_builds_89 (by decide) rfl ok.1 g18 ?_
        refine e_aload_n dX6_builds_90 rfl ?_
        refine e_dup dX6_builds_91 rfl ?_
        refine t_getI dX6_builds_92 fX6_25 q2521 (by decide) rfl ?_
        refine e_iconst (1) dX6_builds_95 (by decide) ?_
        refine e_iadd dX6_builds_96 ?_
        refine t_putI dX6_builds_97 fX6_25 q2521 (eFit_i _) (by decide) rfl ok.1 ?_
        exact E.less2 (H ok) (eS_s (eS_s (eS_s (eS_n eS_0))))
      · replace H := H.2 g17
        refine e_goto 100 dX6_builds_77 (by decide) ?_
        exact E.less2 (H ok) (eS_s (eS_s (eS_s (eS_n eS_0))))
    · replace H := H.2 g3
      refine e_goto 100 dX6_builds_50 (by decide) ?_
      exact H ok

set_option maxHeartbeats 2000000 in
theorem s_builds_100 (c : tC) (x1 : Int32) (x2 : Int32) (T : tS) (H : h_builds_29 c x1 (x2 + 1) T) : h_builds_100 c x1 x2 T := by
  intro ok
  refine e_iinc (x2 + 1) _ dX6_builds_100 rfl rfl (by decide) rfl rfl ?_
  refine e_goto 29 dX6_builds_103 (by decide) ?_
  exact H ok

set_option maxHeartbeats 2000000 in
theorem s_builds_119 (c : tC) (x1 : Int32) (T : tS) (H : ((T.1 25) ≤ x1 → h_builds_164 c (0 : Int32) T) ∧ (¬ (T.1 25) ≤ x1 → vp_in x1 128 ∧ (∃ Q3 : Int32 → tS → Prop, tMi mX6_leastTurned 2 (fun b => [.int (T.2.2.1 27 x1.toNatClampNeg)]) T Q3 ∧ ∀ (r8 : Int32) (T6 : tS), Q3 r8 T6 → vp_in x1 128 ∧ ((¬ r8 = (T6.2.2.1 27 x1.toNatClampNeg) → h_builds_156 c x1 T6) ∧ (r8 = (T6.2.2.1 27 x1.toNatClampNeg) → vp_in x1 128 ∧ (∃ Q12 : tS → Prop, tMv mX6_comesSort 1 (fun b => [.int (T6.2.2.1 27 x1.toNatClampNeg)]) T6 Q12 ∧ ∀ T15 : tS, Q12 T15 → h_builds_156 c x1 T15)))))) : h_builds_119 c x1 T := by
  intro ok
  refine e_iload_n dX6_builds_119 rfl ?_
  refine e_aload_n dX6_builds_120 rfl ?_
  refine t_getI dX6_builds_121 fX6_25 q2521 (by decide) rfl ?_
  refine e_icmp_ge 162 dX6_builds_124 (by decide) (fun g1 => ?_) (fun g1 => ?_)
  · replace H := H.1 g1
    refine e_iconst (0) dX6_builds_162 (by decide) ?_
    refine e_istore_n _ dX6_builds_163 (by decide) rfl rfl ?_
    exact H ok
  · replace H := H.2 g1
    refine e_aload_n dX6_builds_127 rfl ?_
    refine e_aload_n dX6_builds_128 rfl ?_
    refine t_getA dX6_builds_129 fX6_27 q2523 (by decide) rfl ?_
    refine e_iload_n dX6_builds_132 rfl ?_
    obtain ⟨g2, H⟩ := H
    refine t_iald dX6_builds_133 (by decide) rfl g2 ?_
    obtain ⟨Q3, hC4, H⟩ := H
    refine t_callV (As := [.int (T.2.2.1 27 x1.toNatClampNeg)]) ok hC4 dX6_builds_134 wX6_leastTurned q2462 q2464 qs64 rfl rfl (by decide) rfl (Nat.le_of_ble_eq_true rfl) (fun v5 T6 e7 => ?_)
    obtain ⟨r8, rfl, e7⟩ := e7
    replace H := H r8 T6 e7
    refine e_aload_n dX6_builds_137 rfl ?_
    refine t_getA dX6_builds_138 fX6_27 q2523 (by decide) rfl ?_
    refine e_iload_n dX6_builds_141 rfl ?_
    obtain ⟨g9, H⟩ := H
    refine t_iald dX6_builds_142 (by decide) rfl g9 ?_
    refine e_icmp_ne 156 dX6_builds_143 (by decide) (fun g10 => ?_) (fun g10 => ?_)
    · replace H := H.1 g10
      exact H ok
    · replace H := H.2 g10
      refine e_aload_n dX6_builds_146 rfl ?_
      refine e_aload_n dX6_builds_147 rfl ?_
      refine t_getA dX6_builds_148 fX6_27 q2523 (by decide) rfl ?_
      refine e_iload_n dX6_builds_151 rfl ?_
      obtain ⟨g11, H⟩ := H
      refine t_iald dX6_builds_152 (by decide) rfl g11 ?_
      obtain ⟨Q12, hC13, H⟩ := H
      refine t_callV (As := [.int (T6.2.2.1 27 x1.toNatClampNeg)]) ok hC13 dX6_builds_153 wX6_comesSort q2470 q2472 qs66 rfl rfl (by decide) rfl (Nat.le_of_ble_eq_true rfl) (fun v14 T15 e16 => ?_)
      obtain ⟨rfl, e16⟩ := e16
      replace H := H T15 e16
      exact H ok

set_option maxHeartbeats 2000000 in
theorem s_builds_156 (c : tC) (x1 : Int32) (T : tS) (H : h_builds_119 c (x1 + 1) T) : h_builds_156 c x1 T := by
  intro ok
  refine e_iinc (x1 + 1) _ dX6_builds_156 rfl rfl (by decide) rfl rfl ?_
  refine e_goto 119 dX6_builds_159 (by decide) ?_
  exact H ok

set_option maxHeartbeats 2000000 in
theorem s_builds_164 (c : tC) (x1 : Int32) (T : tS) (H : ((T.1 26) ≤ x1 → h_builds_187 c (0 : Int32) T) ∧ (¬ (T.1 26) ≤ x1 → vp_in x1 64 ∧ (h_builds_164 c (x1 + 1) (tA T 30 (va_up (T.2.2.1 30) x1.toNatClampNeg (0 : Int32)))))) : h_builds_164 c x1 T := by
  intro ok
  refine e_iload_n dX6_builds_164 rfl ?_
  refine e_aload_n dX6_builds_165 rfl ?_
  refine t_getI dX6_builds_166 fX6_26 q2522 (by decide) rfl ?_
  refine e_icmp_ge 185 dX6_builds_169 (by decide) (fun g1 => ?_) (fun g1 => ?_)
  · replace H := H.1 g1
    refine e_iconst (0) dX6_builds_185 (by decide) ?_
    refine e_istore_n _ dX6_builds_186 (by decide) rfl rfl ?_
    exact H ok
  · replace H := H.2 g1
    refine e_aload_n dX6_builds_172 rfl ?_
    refine t_getA dX6_builds_173 fX6_30 q2526 (by decide) rfl ?_
    refine e_iload_n dX6_builds_176 rfl ?_
    refine e_iconst (0) dX6_builds_177 (by decide) ?_
    obtain ⟨g2, H⟩ := H
    refine t_iast dX6_builds_178 (by decide) rfl ok.1 g2 ?_
    refine e_iinc (x1 + 1) _ dX6_builds_179 rfl rfl (by decide) rfl rfl ?_
    refine e_goto 164 dX6_builds_182 (by decide) ?_
    exact H ok

set_option maxHeartbeats 2000000 in
theorem s_builds_187 (c : tC) (x1 : Int32) (T : tS) (H : ((T.1 25) ≤ x1 → h_builds_238 c (0 : Int32) T) ∧ (¬ (T.1 25) ≤ x1 → vp_in x1 128 ∧ (∃ Q3 : Int32 → tS → Prop, tMi mX6_leastTurned 2 (fun b => [.int (T.2.2.1 27 x1.toNatClampNeg)]) T Q3 ∧ ∀ (r8 : Int32) (T6 : tS), Q3 r8 T6 → ∃ Q9 : Int32 → tS → Prop, tMi mX6_sortOfFirst 0 (fun b => [.int r8]) T6 Q9 ∧ ∀ (r14 : Int32) (T12 : tS), Q9 r14 T12 → vp_in x1 128 ∧ (vp_in x1 128 ∧ (vp_in ((va_up (T12.2.2.1 28) x1.toNatClampNeg r14) x1.toNatClampNeg) 64 ∧ (vp_in ((va_up (T12.2.2.1 28) x1.toNatClampNeg r14) x1.toNatClampNeg) 64 ∧ (h_builds_187 c (x1 + 1) (tA (tA T12 28 (va_up (T12.2.2.1 28) x1.toNatClampNeg r14)) 30 (va_up (T12.2.2.1 30) ((va_up (T12.2.2.1 28) x1.toNatClampNeg r14) x1.toNatClampNeg).toNatClampNeg ((T12.2.2.1 30 ((va_up (T12.2.2.1 28) x1.toNatClampNeg r14) x1.toNatClampNeg).toNatClampNeg) + (1 : Int32))))))))))) : h_builds_187 c x1 T := by
  intro ok
  refine e_iload_n dX6_builds_187 rfl ?_
  refine e_aload_n dX6_builds_188 rfl ?_
  refine t_getI dX6_builds_189 fX6_25 q2521 (by decide) rfl ?_
  refine e_icmp_ge 236 dX6_builds_192 (by decide) (fun g1 => ?_) (fun g1 => ?_)
  · replace H := H.1 g1
    refine e_iconst (0) dX6_builds_236 (by decide) ?_
    refine e_istore_n _ dX6_builds_237 (by decide) rfl rfl ?_
    exact H ok
  · replace H := H.2 g1
    refine e_aload_n dX6_builds_195 rfl ?_
    refine t_getA dX6_builds_196 fX6_28 q2524 (by decide) rfl ?_
    refine e_iload_n dX6_builds_199 rfl ?_
    refine e_aload_n dX6_builds_200 rfl ?_
    refine e_aload_n dX6_builds_201 rfl ?_
    refine e_aload_n dX6_builds_202 rfl ?_
    refine t_getA dX6_builds_203 fX6_27 q2523 (by decide) rfl ?_
    refine e_iload_n dX6_builds_206 rfl ?_
    obtain ⟨g2, H⟩ := H
    refine t_iald dX6_builds_207 (by decide) rfl g2 ?_
    obtain ⟨Q3, hC4, H⟩ := H
    refine t_callV (As := [.int (T.2.2.1 27 x1.toNatClampNeg)]) ok hC4 dX6_builds_208 wX6_leastTurned q2462 q2464 qs64 rfl rfl (by decide) rfl (Nat.le_of_ble_eq_true rfl) (fun v5 T6 e7 => ?_)
    obtain ⟨r8, rfl, e7⟩ := e7
    replace H := H r8 T6 e7
    obtain ⟨Q9, hC10, H⟩ := H
    refine t_callV (As := [.int r8]) ok hC10 dX6_builds_211 wX6_sortOfFirst q2477 q2479 qs67 rfl rfl (by decide) rfl (Nat.le_of_ble_eq_true rfl) (fun v11 T12 e13 => ?_)
    obtain ⟨r14, rfl, e13⟩ := e13
    replace H := H r14 T12 e13
    obtain ⟨g15, H⟩ := H
    refine t_iast dX6_builds_214 (by decide) rfl ok.1 g15 ?_
    refine e_aload_n dX6_builds_215 rfl ?_
    refine t_getA dX6_builds_216 fX6_30 q2526 (by decide) rfl ?_
    refine e_aload_n dX6_builds_219 rfl ?_
    refine t_getA dX6_builds_220 fX6_28 q2524 (by decide) rfl ?_
    refine e_iload_n dX6_builds_223 rfl ?_
    obtain ⟨g16, H⟩ := H
    refine t_iald dX6_builds_224 (by decide) rfl g16 ?_
    refine e_dup2 dX6_builds_225 rfl rfl ?_
    obtain ⟨g17, H⟩ := H
    refine t_iald dX6_builds_226 (by decide) rfl g17 ?_
    refine e_iconst (1) dX6_builds_227 (by decide) ?_
    refine e_iadd dX6_builds_228 ?_
    obtain ⟨g18, H⟩ := H
    refine t_iast dX6_builds_229 (by decide) rfl ok.1 g18 ?_
    refine e_iinc (x1 + 1) _ dX6_builds_230 rfl rfl (by decide) rfl rfl ?_
    refine e_goto 187 dX6_builds_233 (by decide) ?_
    exact H ok

set_option maxHeartbeats 2000000 in
theorem s_builds_238 (c : tC) (x1 : Int32) (T : tS) (H : ((T.1 26) ≤ x1 → h_builds_292 c (0 : Int32) T) ∧ (¬ (T.1 26) ≤ x1 → h_builds_248 c x1 (0 : Int32) T)) : h_builds_238 c x1 T := by
  intro ok
  refine e_iload_n dX6_builds_238 rfl ?_
  refine e_aload_n dX6_builds_239 rfl ?_
  refine t_getI dX6_builds_240 fX6_26 q2522 (by decide) rfl ?_
  refine e_icmp_ge 290 dX6_builds_243 (by decide) (fun g1 => ?_) (fun g1 => ?_)
  · replace H := H.1 g1
    refine e_iconst (0) dX6_builds_290 (by decide) ?_
    refine e_istore_n _ dX6_builds_291 (by decide) rfl rfl ?_
    exact H ok
  · replace H := H.2 g1
    refine e_iconst (0) dX6_builds_246 (by decide) ?_
    refine e_istore_n _ dX6_builds_247 (by decide) rfl rfl ?_
    exact H ok

set_option maxHeartbeats 2000000 in
theorem s_builds_248 (c : tC) (x1 : Int32) (x2 : Int32) (T : tS) (H : ((T.1 20) ≤ x2 → h_builds_238 c (x1 + 1) T) ∧ (¬ (T.1 20) ≤ x2 → vp_in x1 64 ∧ (∃ Q3 : Int32 → tS → Prop, tMi mX6_leastOf 1 (fun b => [.int (T.2.2.1 29 x1.toNatClampNeg), .int x2]) T Q3 ∧ ∀ (r8 : Int32) (T6 : tS), Q3 r8 T6 → vp_in (((24 : Int32) * x1) + x2) 1536 ∧ (h_builds_248 c x1 (x2 + 1) (tA T6 32 (va_up (T6.2.2.1 32) (((24 : Int32) * x1) + x2).toNatClampNeg r8)))))) : h_builds_248 c x1 x2 T := by
  intro ok
  refine e_iload_n dX6_builds_248 rfl ?_
  refine e_aload_n dX6_builds_249 rfl ?_
  refine t_getI dX6_builds_250 fX6_20 q2516 (by decide) rfl ?_
  refine e_icmp_ge 284 dX6_builds_253 (by decide) (fun g1 => ?_) (fun g1 => ?_)
  · replace H := H.1 g1
    refine e_iinc (x1 + 1) _ dX6_builds_284 rfl rfl (by decide) rfl rfl ?_
    refine e_goto 238 dX6_builds_287 (by decide) ?_
    exact E.less2 (H ok) (eS_s (eS_s (eS_n (eS_n eS_0))))
  · replace H := H.2 g1
    refine e_aload_n dX6_builds_256 rfl ?_
    refine t_getA dX6_builds_257 fX6_32 q2528 (by decide) rfl ?_
    refine e_bipush (24) dX6_builds_260 (by decide) ?_
    refine e_iload_n dX6_builds_262 rfl ?_
    refine e_imul dX6_builds_263 ?_
    refine e_iload_n dX6_builds_264 rfl ?_
    refine e_iadd dX6_builds_265 ?_
    refine e_aload_n dX6_builds_266 rfl ?_
    refine e_aload_n dX6_builds_267 rfl ?_
    refine t_getA dX6_builds_268 fX6_29 q2525 (by decide) rfl ?_
    refine e_iload_n dX6_builds_271 rfl ?_
    obtain ⟨g2, H⟩ := H
    refine t_iald dX6_builds_272 (by decide) rfl g2 ?_
    refine e_iload_n dX6_builds_273 rfl ?_
    obtain ⟨Q3, hC4, H⟩ := H
    refine t_callV (As := [.int (T.2.2.1 29 x1.toNatClampNeg), .int x2]) ok hC4 dX6_builds_274 wX6_leastOf q2481 q2483 qs68 rfl rfl (by decide) rfl (Nat.le_of_ble_eq_true rfl) (fun v5 T6 e7 => ?_)
    obtain ⟨r8, rfl, e7⟩ := e7
    replace H := H r8 T6 e7
    obtain ⟨g9, H⟩ := H
    refine t_iast dX6_builds_277 (by decide) rfl ok.1 g9 ?_
    refine e_iinc (x2 + 1) _ dX6_builds_278 rfl rfl (by decide) rfl rfl ?_
    refine e_goto 248 dX6_builds_281 (by decide) ?_
    exact H ok

set_option maxHeartbeats 2000000 in
theorem s_builds_292 (c : tC) (x1 : Int32) (T : tS) (H : ((T.1 26) ≤ x1 → c.2.2.2.2.2.2 none T) ∧ (¬ (T.1 26) ≤ x1 → h_builds_302 c x1 (0 : Int32) T)) : h_builds_292 c x1 T := by
  intro ok
  refine e_iload_n dX6_builds_292 rfl ?_
  refine e_aload_n dX6_builds_293 rfl ?_
  refine t_getI dX6_builds_294 fX6_26 q2522 (by decide) rfl ?_
  refine e_icmp_ge 344 dX6_builds_297 (by decide) (fun g1 => ?_) (fun g1 => ?_)
  · replace H := H.1 g1
    exact e_return dX6_builds_344 rfl ⟨_, _, rfl, rfl, H⟩
  · replace H := H.2 g1
    refine e_iconst (0) dX6_builds_300 (by decide) ?_
    refine e_istore_n _ dX6_builds_301 (by decide) rfl rfl ?_
    exact H ok

set_option maxHeartbeats 2000000 in
theorem s_builds_302 (c : tC) (x1 : Int32) (x2 : Int32) (T : tS) (H : ((T.1 26) ≤ x2 → h_builds_292 c (x1 + 1) T) ∧ (¬ (T.1 26) ≤ x2 → vp_in x2 64 ∧ (∃ Q3 : Int32 → tS → Prop, tMi mX6_fixedOf 1 (fun b => [.int x1, .int (T.2.2.1 29 x2.toNatClampNeg)]) T Q3 ∧ ∀ (r8 : Int32) (T6 : tS), Q3 r8 T6 → vp_in (((64 : Int32) * x1) + x2) 4096 ∧ (h_builds_302 c x1 (x2 + 1) (tA T6 31 (va_up (T6.2.2.1 31) (((64 : Int32) * x1) + x2).toNatClampNeg r8)))))) : h_builds_302 c x1 x2 T := by
  intro ok
  refine e_iload_n dX6_builds_302 rfl ?_
  refine e_aload_n dX6_builds_303 rfl ?_
  refine t_getI dX6_builds_304 fX6_26 q2522 (by decide) rfl ?_
  refine e_icmp_ge 338 dX6_builds_307 (by decide) (fun g1 => ?_) (fun g1 => ?_)
  · replace H := H.1 g1
    refine e_iinc (x1 + 1) _ dX6_builds_338 rfl rfl (by decide) rfl rfl ?_
    refine e_goto 292 dX6_builds_341 (by decide) ?_
    exact E.less2 (H ok) (eS_s (eS_s (eS_n (eS_n eS_0))))
  · replace H := H.2 g1
    refine e_aload_n dX6_builds_310 rfl ?_
    refine t_getA dX6_builds_311 fX6_31 q2527 (by decide) rfl ?_
    refine e_bipush (64) dX6_builds_314 (by decide) ?_
    refine e_iload_n dX6_builds_316 rfl ?_
    refine e_imul dX6_builds_317 ?_
    refine e_iload_n dX6_builds_318 rfl ?_
    refine e_iadd dX6_builds_319 ?_
    refine e_aload_n dX6_builds_320 rfl ?_
    refine e_iload_n dX6_builds_321 rfl ?_
    refine e_aload_n dX6_builds_322 rfl ?_
    refine t_getA dX6_builds_323 fX6_29 q2525 (by decide) rfl ?_
    refine e_iload_n dX6_builds_326 rfl ?_
    obtain ⟨g2, H⟩ := H
    refine t_iald dX6_builds_327 (by decide) rfl g2 ?_
    obtain ⟨Q3, hC4, H⟩ := H
    refine t_callV (As := [.int x1, .int (T.2.2.1 29 x2.toNatClampNeg)]) ok hC4 dX6_builds_328 wX6_fixedOf q2485 q2487 qs69 rfl rfl (by decide) rfl (Nat.le_of_ble_eq_true rfl) (fun v5 T6 e7 => ?_)
    obtain ⟨r8, rfl, e7⟩ := e7
    replace H := H r8 T6 e7
    obtain ⟨g9, H⟩ := H
    refine t_iast dX6_builds_331 (by decide) rfl ok.1 g9 ?_
    refine e_iinc (x2 + 1) _ dX6_builds_332 rfl rfl (by decide) rfl rfl ?_
    refine e_goto 302 dX6_builds_335 (by decide) ?_
    exact H ok

theorem en_builds (T : tS) (Q : Option Value → tS → Prop) (H : ∀ c : tC, c.2.2.2.2.2.2 = Q → h_builds_0 c T) : tM mX6_builds 3 (fun b => []) T Q :=
  tM_mk (by decide) rfl (fun b => Nat.le_of_ble_eq_true rfl) (fun c hc ok => E.less2 (H c hc ok) (eS_s (eS_n (eS_n (eS_n eS_0)))))
/-! goesBack ()V level 4 -/
def h_goesBack_0 (c : tC) (T : tS) : Prop := tX mX6_goesBack 4 c 0 [some (.ref c.2.2.2.1), none] T
def h_goesBack_26 (c : tC) (x1 : Int32) (T : tS) : Prop := tX mX6_goesBack 4 c 26 [some (.ref c.2.2.2.1), some (.int x1)] T
def h_goesBack_52 (c : tC) (x1 : Int32) (T : tS) : Prop := tX mX6_goesBack 4 c 52 [some (.ref c.2.2.2.1), some (.int x1)] T
def h_goesBack_78 (c : tC) (x1 : Int32) (T : tS) : Prop := tX mX6_goesBack 4 c 78 [some (.ref c.2.2.2.1), some (.int x1)] T
set_option maxHeartbeats 2000000 in
theorem s_goesBack_0 (c : tC) (T : tS) (H : h_goesBack_26 c (0 : Int32) (tI (tI (tI T 12 (T.1 16)) 13 (T.1 17)) 14 (T.1 18))) : h_goesBack_0 c T := by
  intro ok
  refine e_aload_n dX6_goesBack_0 rfl ?_
  refine e_aload_n dX6_goesBack_1 rfl ?_
  refine t_getI dX6_goesBack_2 fX6_16 q2512 (by decide) rfl ?_
  refine t_putI dX6_goesBack_5 fX6_12 q2508 (eFit_i _) (by decide) rfl ok.1 ?_
  refine e_aload_n dX6_goesBack_8 rfl ?_
  refine e_aload_n dX6_goesBack_9 rfl ?_
  refine t_getI dX6_goesBack_10 fX6_17 q2513 (by decide) rfl ?_
  refine t_putI dX6_goesBack_13 fX6_13 q2509 (eFit_i _) (by decide) rfl ok.1 ?_
  refine e_aload_n dX6_goesBack_16 rfl ?_
  refine e_aload_n dX6_goesBack_17 rfl ?_
  refine t_getI dX6_goesBack_18 fX6_18 q2514 (by decide) rfl ?_
  refine t_putI dX6_goesBack_21 fX6_14 q2510 (eFit_i _) (by decide) rfl ok.1 ?_
  refine e_iconst (0) dX6_goesBack_24 (by decide) ?_
  refine e_istore_n _ dX6_goesBack_25 (by decide) rfl rfl ?_
  exact H ok

set_option maxHeartbeats 2000000 in
theorem s_goesBack_26 (c : tC) (x1 : Int32) (T : tS) (H : ((24 : Int32) ≤ x1 → h_goesBack_52 c (0 : Int32) T) ∧ (¬ (24 : Int32) ≤ x1 → vp_in x1 24 ∧ (vp_in x1 24 ∧ (h_goesBack_26 c (x1 + 1) (tA T 15 (va_up (T.2.2.1 15) x1.toNatClampNeg (T.2.2.1 19 x1.toNatClampNeg))))))) : h_goesBack_26 c x1 T := by
  intro ok
  refine e_iload_n dX6_goesBack_26 rfl ?_
  refine e_bipush (24) dX6_goesBack_27 (by decide) ?_
  refine e_icmp_ge 50 dX6_goesBack_29 (by decide) (fun g1 => ?_) (fun g1 => ?_)
  · replace H := H.1 g1
    refine e_iconst (0) dX6_goesBack_50 (by decide) ?_
    refine e_istore_n _ dX6_goesBack_51 (by decide) rfl rfl ?_
    exact H ok
  · replace H := H.2 g1
    refine e_aload_n dX6_goesBack_32 rfl ?_
    refine t_getA dX6_goesBack_33 fX6_15 q2511 (by decide) rfl ?_
    refine e_iload_n dX6_goesBack_36 rfl ?_
    refine e_aload_n dX6_goesBack_37 rfl ?_
    refine t_getA dX6_goesBack_38 fX6_19 q2515 (by decide) rfl ?_
    refine e_iload_n dX6_goesBack_41 rfl ?_
    obtain ⟨g2, H⟩ := H
    refine t_iald dX6_goesBack_42 (by decide) rfl g2 ?_
    obtain ⟨g3, H⟩ := H
    refine t_iast dX6_goesBack_43 (by decide) rfl ok.1 g3 ?_
    refine e_iinc (x1 + 1) _ dX6_goesBack_44 rfl rfl (by decide) rfl rfl ?_
    refine e_goto 26 dX6_goesBack_47 (by decide) ?_
    exact H ok

set_option maxHeartbeats 2000000 in
theorem s_goesBack_52 (c : tC) (x1 : Int32) (T : tS) (H : ((8 : Int32) ≤ x1 → h_goesBack_78 c (0 : Int32) T) ∧ (¬ (8 : Int32) ≤ x1 → vp_in x1 8 ∧ (vp_in x1 8 ∧ (h_goesBack_52 c (x1 + 1) (tB T 44 (va_up (T.2.2.2 44) x1.toNatClampNeg (T.2.2.2 46 x1.toNatClampNeg))))))) : h_goesBack_52 c x1 T := by
  intro ok
  refine e_iload_n dX6_goesBack_52 rfl ?_
  refine e_bipush (8) dX6_goesBack_53 (by decide) ?_
  refine e_icmp_ge 76 dX6_goesBack_55 (by decide) (fun g1 => ?_) (fun g1 => ?_)
  · replace H := H.1 g1
    refine e_iconst (0) dX6_goesBack_76 (by decide) ?_
    refine e_istore_n _ dX6_goesBack_77 (by decide) rfl rfl ?_
    exact H ok
  · replace H := H.2 g1
    refine e_aload_n dX6_goesBack_58 rfl ?_
    refine t_getA dX6_goesBack_59 fX6_44 q2540 (by decide) rfl ?_
    refine e_iload_n dX6_goesBack_62 rfl ?_
    refine e_aload_n dX6_goesBack_63 rfl ?_
    refine t_getA dX6_goesBack_64 fX6_46 q2542 (by decide) rfl ?_
    refine e_iload_n dX6_goesBack_67 rfl ?_
    obtain ⟨g2, H⟩ := H
    refine t_lald dX6_goesBack_68 (by decide) rfl g2 ?_
    obtain ⟨g3, H⟩ := H
    refine t_last dX6_goesBack_69 (by decide) rfl ok.1 g3 ?_
    refine e_iinc (x1 + 1) _ dX6_goesBack_70 rfl rfl (by decide) rfl rfl ?_
    refine e_goto 52 dX6_goesBack_73 (by decide) ?_
    exact H ok

set_option maxHeartbeats 2000000 in
theorem s_goesBack_78 (c : tC) (x1 : Int32) (T : tS) (H : ((512 : Int32) ≤ x1 → ∃ Q2 : tS → Prop, tMv mX6_builds 3 (fun b => []) T Q2 ∧ ∀ T5 : tS, Q2 T5 → c.2.2.2.2.2.2 none (tI T5 58 (0 : Int32))) ∧ (¬ (512 : Int32) ≤ x1 → vp_in x1 512 ∧ (vp_in x1 512 ∧ (h_goesBack_78 c (x1 + 1) (tB T 45 (va_up (T.2.2.2 45) x1.toNatClampNeg (T.2.2.2 47 x1.toNatClampNeg))))))) : h_goesBack_78 c x1 T := by
  intro ok
  refine e_iload_n dX6_goesBack_78 rfl ?_
  refine e_sipush (512) dX6_goesBack_79 (by decide) ?_
  refine e_icmp_ge 103 dX6_goesBack_82 (by decide) (fun g1 => ?_) (fun g1 => ?_)
  · replace H := H.1 g1
    refine e_aload_n dX6_goesBack_103 rfl ?_
    obtain ⟨Q2, hC3, H⟩ := H
    refine t_callV (As := []) ok hC3 dX6_goesBack_104 wX6_builds q2427 q2429 qs56 rfl rfl (by decide) rfl (Nat.le_of_ble_eq_true rfl) (fun v4 T5 e6 => ?_)
    obtain ⟨rfl, e6⟩ := e6
    replace H := H T5 e6
    refine e_aload_n dX6_goesBack_107 rfl ?_
    refine e_iconst (0) dX6_goesBack_108 (by decide) ?_
    refine t_putI dX6_goesBack_109 fX6_58 q2554 eFit_z0 (by decide) rfl ok.1 ?_
    exact e_return dX6_goesBack_112 rfl ⟨_, _, rfl, rfl, H⟩
  · replace H := H.2 g1
    refine e_aload_n dX6_goesBack_85 rfl ?_
    refine t_getA dX6_goesBack_86 fX6_45 q2541 (by decide) rfl ?_
    refine e_iload_n dX6_goesBack_89 rfl ?_
    refine e_aload_n dX6_goesBack_90 rfl ?_
    refine t_getA dX6_goesBack_91 fX6_47 q2543 (by decide) rfl ?_
    refine e_iload_n dX6_goesBack_94 rfl ?_
    obtain ⟨g8, H⟩ := H
    refine t_lald dX6_goesBack_95 (by decide) rfl g8 ?_
    obtain ⟨g9, H⟩ := H
    refine t_last dX6_goesBack_96 (by decide) rfl ok.1 g9 ?_
    refine e_iinc (x1 + 1) _ dX6_goesBack_97 rfl rfl (by decide) rfl rfl ?_
    refine e_goto 78 dX6_goesBack_100 (by decide) ?_
    exact H ok

theorem en_goesBack (T : tS) (Q : Option Value → tS → Prop) (H : ∀ c : tC, c.2.2.2.2.2.2 = Q → h_goesBack_0 c T) : tM mX6_goesBack 4 (fun b => []) T Q :=
  tM_mk (by decide) rfl (fun b => Nat.le_of_ble_eq_true rfl) (fun c hc ok => E.less2 (H c hc ok) (eS_s (eS_n eS_0)))
