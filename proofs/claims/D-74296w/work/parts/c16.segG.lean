/-! segments: X9_of, X9_init, X9_bound, X9_marks, X9_plus, X9_power, X9_times, X13_init, X13_all, X13_goes -/
/-! X9_of TroupeSums$Sum.of(LTroupeSums$Group;IJ)LTroupeSums$Sum; -/
def h_X9_of_0 (c : cC) (a0 : Nat) (a1 : Int32) (a2 : Int64) (h : eH) (k n : Nat) : Prop := E c.1 c.2.1 c.2.2.1 c.2.2.2.1 mX9_of c.2.2.2.2 0 [some (.ref a0), some (.int a1), some (.long a2), none, none] [] h k n
set_option maxHeartbeats 4000000 in
theorem s_X9_of_0 (c : cC) (a0 : Nat) (a1 : Int32) (a2 : Int64) (h : eH) (k n : Nat) (H : ∃ x1 : Nat, fV h a0 3 5 (.ref x1) ∧ (∃ fs8 : List Value, h.1 x1 = some (.inr (15, fs8)) ∧ ∃ (d6 k7 n8 : Nat) (Q9 : Int32 → eH → Prop), cI c.1 c.2.1 c.2.2.1 d6 mJ2_size [.ref x1] h k7 n8 Q9 cX0 ∧ d6 + 1 ≤ c.2.2.2.1 ∧ k7 ≤ k ∧ n8 ≤ n ∧ (∀ (r3 : Int32) (h4 : eH), Q9 r3 h4 → (∃ N12 : Nat, r3 = nI N12 ∧ N12 ≤ 10000000 ∧ 1 ≤ k - k7 ∧ N12 ≤ n - n8 ∧ ∀ h10 : eH, h10 = eNw h4 (.inl (c.2.2.1.2.1 1, N12, .inr (.inl (fun _ => 0)))) → (∃ (N13 : Nat) (f14 : Nat → Int64), h10.1 h4.2 = some (.inl (c.2.2.1.2.1 1, N13, .inr (.inl f14))) ∧ c.2.1 ≤ h4.2 ∧ vp_in a1 N13 ∧ ∀ h16 : eH, h16 = eUp h10 h4.2 (.inl (c.2.2.1.2.1 1, N13, .inr (.inl (va_up f14 a1.toNatClampNeg a2)))) → (1 ≤ k - k7 - 1 ∧ 2 ≤ n - n8 - N12 ∧ ∀ h17 : eH, h17 = eNw h16 (.inr (9, [.null, .null])) → (∃ (d22 k23 n24 : Nat) (Q25 : eH → Prop) (X26 : Nat → Nat → eH → Prop), cV c.1 c.2.1 c.2.2.1 d22 mX9_init [.ref h16.2, .ref a0, .ref h4.2] h17 k23 n24 Q25 X26 ∧ d22 + 1 ≤ c.2.2.2.1 ∧ k23 ≤ k - k7 - 1 - 1 ∧ n24 ≤ n - n8 - N12 - 2 ∧ (∀ h20 : eH, Q25 h20 → (c.2.2.2.2 (.inl (some (.ref h16.2))) h20)) ∧ (∀ (ci q : Nat) (h9 : eH), X26 ci q h9 → ci = 10) ∧ (∀ (q27 : Nat) (h28 : eH) (fs9 : List Value), X26 10 q27 h28 → h28.1 q27 = some (.inr (10, fs9)) → c.2.1 ≤ q27 → c.2.2.2.2 (.inr q27) h28)))))))) : h_X9_of_0 c a0 a1 a2 h k n := by
  refine e_aload_n dX9_of_0 rfl ?_
  obtain ⟨x1, ⟨fsx1, g2, g2v⟩, H⟩ := H
  refine e_getN dX9_of_1 fX3_5 q1193 g2 g2v ?_
  obtain ⟨fsg5, g5o, H⟩ := H
  obtain ⟨d6, k7, n8, Q9, g5, g5d, g5k, g5n, H⟩ := H
  refine e_callF (i := 3) (r := (RJ2, TJ2, 3)) (As := []) g5 dX9_of_4 wJ2_size rfl rfl q1778 q876 q874 g5o rfl rfl g5d rfl (Nat.le_of_ble_eq_true rfl) (k1 := k - k7) (n1 := n - n8) (by omega) (by omega) ?_ ?_
  · rintro v h4 (⟨v9, e9, r3, e8, hq⟩ | ⟨ci9, q9, e9, -⟩)
    · cases e9
      subst e8
      replace H := H r3 h4 hq
      obtain ⟨N12, g11i, g11b, g11, g11n, H⟩ := H
      refine c_newarrayJ dX9_of_9 q1234 g11i g11b g11 g11n ?_
      replace H := H _ rfl
      generalize eNw h4 _ = h10 at H ⊢
      refine e_astore _ dX9_of_11 (by decide) trivial rfl ?_
      refine e_aload dX9_of_13 rfl ?_
      refine e_iload_n dX9_of_15 rfl ?_
      refine e_lload_n dX9_of_16 rfl ?_
      obtain ⟨N13, f14, g15, g15l, g15i, H⟩ := H
      refine e_lastore dX9_of_17 g15 g15l g15i ?_
      replace H := H _ rfl
      generalize eUp h10 h4.2 _ = h16 at H ⊢
      obtain ⟨g18, g18n, H⟩ := H
      refine e_new (ci := 9) (N := 2) (C := RX9) (T := TX9) tyX9 (fs := [.null, .null]) dX9_of_18 rfl in_X9 tyX9_ok q1779 q1780 q177 (by decide) (k1 := k - k7 - 1 - 1) (n1 := n - n8 - N12 - 2) (by omega) (by omega) ?_
      replace H := H _ rfl
      generalize eNw h16 _ = h17 at H ⊢
      refine e_dup dX9_of_21 rfl ?_
      refine e_aload_n dX9_of_22 rfl ?_
      refine e_aload dX9_of_23 rfl ?_
      obtain ⟨d22, k23, n24, Q25, X26, g21, g21d, g21k, g21n, H, Hx, Hx10⟩ := H
      refine e_callI (As := [.ref a0, .ref h4.2]) g21 dX9_of_25 wX9_init rfl rfl rfl q1781 q1782 rfl g21d rfl (Nat.le_of_ble_eq_true rfl) (k1 := k - k7 - 1 - 1 - k23) (n1 := n - n8 - N12 - 2 - n24) (by omega) (by omega) ?_ ?_
      · rintro v h20 (⟨v9, e9, e8, hq⟩ | ⟨ci9, q9, e9, -⟩)
        · cases e9
          subst e8
          replace H := H h20 hq
          exact e_areturn (r := some h16.2) _ dX9_of_28 rfl (Or.inl ⟨_, rfl⟩) H
        · cases e9
      · rintro q9 h9 (⟨v9, e9, -⟩ | ⟨ci9, q8, e9, gl, ⟨fs9, gq⟩, hx⟩)
        · cases e9
        · cases e9
          rcases Hx ci9 q9 h9 hx with rfl
          · have H := Hx10 q9 h9 fs9 hx gq gl
            exact ex_out (r := (RX10, TX10, 6)) (fun z hz => absurd hz List.not_mem_nil) gq rfl gl H
    · cases e9
  · rintro q9 h9 (⟨v9, e9, -⟩ | ⟨ci9, q8, e9, -, -, hx⟩)
    · cases e9
    · exact hx.elim
theorem en_X9_of {l : Launch} {lo : Nat} {G : eG} {d : Nat} {P : eO → eH → Prop} (a0 : Nat) (a1 : Int32) (a2 : Int64) {h : eH} {k n : Nat} (H : h_X9_of_0 (l, lo, G, d, P) a0 a1 a2 h k n) : Ct l lo G d mX9_of [.ref a0, .int a1, .long a2] h k n P := 
  Ct_of (eArL mX9_of.2.2.2.1 [.ref a0, .int a1, .long a2]) (by decide) rfl (Nat.le_of_ble_eq_true rfl) (fun j w q => eArL_mem j w q) (E.less2 H (eS_s (eS_s (eS_s (eS_n (eS_n eS_0))))))
/-! X9_init TroupeSums$Sum.<init>(LTroupeSums$Group;[J)V -/
def h_X9_init_0 (c : cC) (a0 : Nat) (a1 : Nat) (a2 : Nat) (h : eH) (k n : Nat) : Prop := E c.1 c.2.1 c.2.2.1 c.2.2.2.1 mX9_init c.2.2.2.2 0 [some (.ref a0), some (.ref a1), some (.ref a2), none, none, none, none, none] [] h k n
def h_X9_init_23 (c : cC) (a0 : Nat) (a3 : Nat) (a4 : Int32) (a5 : Int32) (h : eH) (k n : Nat) : Prop := E c.1 c.2.1 c.2.2.1 c.2.2.2.1 mX9_init c.2.2.2.2 23 [some (.ref a0), none, none, some (.ref a3), some (.int a4), some (.int a5), none, none] [] h k n
def h_X9_init_59 (c : cC) (a3 : Nat) (a4 : Int32) (a5 : Int32) (h : eH) (k n : Nat) : Prop := E c.1 c.2.1 c.2.2.1 c.2.2.2.1 mX9_init c.2.2.2.2 59 [none, none, none, some (.ref a3), some (.int a4), some (.int a5), none, none] [] h k n
set_option maxHeartbeats 4000000 in
theorem s_X9_init_0 (c : cC) (a0 : Nat) (a1 : Nat) (a2 : Nat) (h : eH) (k n : Nat) (H : 1 ≤ c.2.2.2.1 ∧ (∃ fs2 : List Value, h.1 a0 = some (.inr (9, fs2)) ∧ c.2.1 ≤ a0 ∧ 0 < fs2.length ∧ ∀ h4 : eH, h4 = eUp h a0 (.inr (9, fs2.set 0 (.ref a1))) → (∃ fs5 : List Value, h4.1 a0 = some (.inr (9, fs5)) ∧ c.2.1 ≤ a0 ∧ 1 < fs5.length ∧ ∀ h7 : eH, h7 = eUp h4 a0 (.inr (9, fs5.set 1 (.ref a2))) → (∃ v8 : vp_A, h7.1 a2 = some (.inl (c.2.2.1.2.1 1, v8)) ∧ (h_X9_init_23 c a0 a2 (nI v8.1) (0 : Int32) h7 k n))))) : h_X9_init_0 c a0 a1 a2 h k n := by
  refine e_aload_n dX9_init_0 rfl ?_
  obtain ⟨g1, H⟩ := H
  refine e_objInit dX9_init_1 q1784 q192 q193 g1 (Nat.le_of_ble_eq_true rfl) ?_
  refine e_aload_n dX9_init_4 rfl ?_
  refine e_aload_n dX9_init_5 rfl ?_
  obtain ⟨fs2, g3, g3l, g3j, H⟩ := H
  refine e_putF dX9_init_6 fX9_0 q1816 rfl rfl (eFit_or _ _) g3 g3l g3j ?_
  replace H := H _ rfl
  generalize eUp h a0 _ = h4 at H ⊢
  refine e_aload_n dX9_init_9 rfl ?_
  refine e_aload_n dX9_init_10 rfl ?_
  obtain ⟨fs5, g6, g6l, g6j, H⟩ := H
  refine e_putF dX9_init_11 fX9_1 q1817 rfl rfl (eFit_ar _ _) g6 g6l g6j ?_
  replace H := H _ rfl
  generalize eUp h4 a0 _ = h7 at H ⊢
  refine e_aload_n dX9_init_14 rfl ?_
  refine e_astore_n _ dX9_init_15 (by decide) rfl rfl ?_
  refine e_aload_n dX9_init_16 rfl ?_
  obtain ⟨v8, g9, H⟩ := H
  refine e_alen (t := 1) dX9_init_17 (fun _ => rfl) g9 ?_
  refine e_istore _ dX9_init_18 (by decide) rfl rfl ?_
  refine e_iconst (0) dX9_init_20 (by decide) ?_
  refine e_istore _ dX9_init_21 (by decide) rfl rfl ?_
  exact E.less2 H (eS_s (eS_n (eS_n (eS_s (eS_s (eS_s (eS_n (eS_n eS_0))))))))
set_option maxHeartbeats 4000000 in
theorem s_X9_init_23 (c : cC) (a0 : Nat) (a3 : Nat) (a4 : Int32) (a5 : Int32) (h : eH) (k n : Nat) (H : (a4 ≤ a5 → ∃ fs8 : List Value, h.1 a0 = some (.inr (9, fs8)) ∧ ∃ (d5 k6 n7 : Nat) (Q8 : Nat → eH → Prop), cR c.1 c.2.1 c.2.2.1 d5 mX9_marks [.ref a0] h k6 n7 Q8 cX0 ∧ d5 + 1 ≤ c.2.2.2.1 ∧ k6 ≤ k ∧ n7 ≤ n ∧ (∀ (r2 : Nat) (h3 : eH), Q8 r2 h3 → (∃ v9 : vp_A, h3.1 r2 = some (.inl (c.2.2.1.2.1 1, v9)) ∧ (h_X9_init_59 c r2 (nI v9.1) (0 : Int32) h3 (k - k6) (n - n7))))) ∧ (¬ a4 ≤ a5 → ∃ (N11 : Nat) (f12 : Nat → Int64), h.1 a3 = some (.inl (c.2.2.1.2.1 1, N11, .inr (.inl f12))) ∧ vp_in a5 N11 ∧ (∃ (d17 k18 n19 : Nat) (Q20 : eH → Prop) (X21 : Nat → Nat → eH → Prop), cV c.1 c.2.1 c.2.2.1 d17 mX9_bound [.long (f12 a5.toNatClampNeg)] h k18 n19 Q20 X21 ∧ d17 + 1 ≤ c.2.2.2.1 ∧ k18 ≤ k ∧ n19 ≤ n ∧ (∀ h15 : eH, Q20 h15 → (h_X9_init_23 c a0 a3 a4 (a5 + 1) h15 (k - k18) (n - n19))) ∧ (∀ (ci q : Nat) (h9 : eH), X21 ci q h9 → ci = 10) ∧ (∀ (q22 : Nat) (h23 : eH) (fs9 : List Value), X21 10 q22 h23 → h23.1 q22 = some (.inr (10, fs9)) → c.2.1 ≤ q22 → c.2.2.2.2 (.inr q22) h23)))) : h_X9_init_23 c a0 a3 a4 a5 h k n := by
  refine e_iload dX9_init_23 rfl ?_
  refine e_iload dX9_init_25 rfl ?_
  refine e_icmp_ge 47 dX9_init_27 (by decide) (fun g1 => ?_) (fun g1 => ?_)
  · replace H := H.1 g1
    refine e_aload_n dX9_init_47 rfl ?_
    obtain ⟨fsg4, g4o, H⟩ := H
    obtain ⟨d5, k6, n7, Q8, g4, g4d, g4k, g4n, H⟩ := H
    refine e_callV (r := (RX9, TX9, 2)) (As := []) g4 dX9_init_48 wX9_marks q1808 q1809 q1810 g4o rfl rfl g4d rfl (Nat.le_of_ble_eq_true rfl) (k1 := k - k6) (n1 := n - n7) (by omega) (by omega) ?_ ?_
    · rintro v h3 (⟨v9, e9, r2, e8, hq⟩ | ⟨ci9, q9, e9, -⟩)
      · cases e9
        subst e8
        replace H := H r2 h3 hq
        refine e_astore_n _ dX9_init_51 (by decide) trivial rfl ?_
        refine e_aload_n dX9_init_52 rfl ?_
        obtain ⟨v9, g10, H⟩ := H
        refine e_alen (t := 1) dX9_init_53 (fun _ => rfl) g10 ?_
        refine e_istore _ dX9_init_54 (by decide) rfl rfl ?_
        refine e_iconst (0) dX9_init_56 (by decide) ?_
        refine e_istore _ dX9_init_57 (by decide) rfl rfl ?_
        exact E.less2 H (eS_n (eS_n (eS_n (eS_s (eS_s (eS_s (eS_n (eS_n eS_0))))))))
      · cases e9
    · rintro q9 h9 (⟨v9, e9, -⟩ | ⟨ci9, q8, e9, -, -, hx⟩)
      · cases e9
      · exact hx.elim
  · replace H := H.2 g1
    refine e_aload_n dX9_init_30 rfl ?_
    refine e_iload dX9_init_31 rfl ?_
    obtain ⟨N11, f12, g13, g13i, H⟩ := H
    refine e_laload dX9_init_33 g13 g13i ?_
    refine e_lstore _ dX9_init_34 (by decide) rfl rfl ?_
    refine e_lload dX9_init_36 rfl ?_
    obtain ⟨d17, k18, n19, Q20, X21, g16, g16d, g16k, g16n, H, Hx, Hx10⟩ := H
    refine e_callS (As := [.long (f12 a5.toNatClampNeg)]) g16 dX9_init_38 wX9_bound q1785 q1786 rfl g16d rfl (Nat.le_of_ble_eq_true rfl) (k1 := k - k18) (n1 := n - n19) (by omega) (by omega) ?_ ?_
    · rintro v h15 (⟨v9, e9, e8, hq⟩ | ⟨ci9, q9, e9, -⟩)
      · cases e9
        subst e8
        replace H := H h15 hq
        refine e_iinc (a5 + 1) _ dX9_init_41 rfl rfl (by decide) rfl rfl ?_
        refine e_goto 23 dX9_init_44 (by decide) ?_
        exact E.less2 H (eS_s (eS_n (eS_n (eS_s (eS_s (eS_s (eS_n (eS_n eS_0))))))))
      · cases e9
    · rintro q9 h9 (⟨v9, e9, -⟩ | ⟨ci9, q8, e9, gl, ⟨fs9, gq⟩, hx⟩)
      · cases e9
      · cases e9
        rcases Hx ci9 q9 h9 hx with rfl
        · have H := Hx10 q9 h9 fs9 hx gq gl
          exact ex_out (r := (RX10, TX10, 6)) (fun z hz => absurd hz List.not_mem_nil) gq rfl gl H
set_option maxHeartbeats 4000000 in
theorem s_X9_init_59 (c : cC) (a3 : Nat) (a4 : Int32) (a5 : Int32) (h : eH) (k n : Nat) (H : (a4 ≤ a5 → c.2.2.2.2 (.inl none) h) ∧ (¬ a4 ≤ a5 → ∃ (N2 : Nat) (f3 : Nat → Int64), h.1 a3 = some (.inl (c.2.2.1.2.1 1, N2, .inr (.inl f3))) ∧ vp_in a5 N2 ∧ (∃ (d8 k9 n10 : Nat) (Q11 : eH → Prop) (X12 : Nat → Nat → eH → Prop), cV c.1 c.2.1 c.2.2.1 d8 mX9_bound [.long (f3 a5.toNatClampNeg)] h k9 n10 Q11 X12 ∧ d8 + 1 ≤ c.2.2.2.1 ∧ k9 ≤ k ∧ n10 ≤ n ∧ (∀ h6 : eH, Q11 h6 → (h_X9_init_59 c a3 a4 (a5 + 1) h6 (k - k9) (n - n10))) ∧ (∀ (ci q : Nat) (h9 : eH), X12 ci q h9 → ci = 10) ∧ (∀ (q13 : Nat) (h14 : eH) (fs9 : List Value), X12 10 q13 h14 → h14.1 q13 = some (.inr (10, fs9)) → c.2.1 ≤ q13 → c.2.2.2.2 (.inr q13) h14)))) : h_X9_init_59 c a3 a4 a5 h k n := by
  refine e_iload dX9_init_59 rfl ?_
  refine e_iload dX9_init_61 rfl ?_
  refine e_icmp_ge 83 dX9_init_63 (by decide) (fun g1 => ?_) (fun g1 => ?_)
  · replace H := H.1 g1
    exact e_return dX9_init_83 rfl H
  · replace H := H.2 g1
    refine e_aload_n dX9_init_66 rfl ?_
    refine e_iload dX9_init_67 rfl ?_
    obtain ⟨N2, f3, g4, g4i, H⟩ := H
    refine e_laload dX9_init_69 g4 g4i ?_
    refine e_lstore _ dX9_init_70 (by decide) rfl rfl ?_
    refine e_lload dX9_init_72 rfl ?_
    obtain ⟨d8, k9, n10, Q11, X12, g7, g7d, g7k, g7n, H, Hx, Hx10⟩ := H
    refine e_callS (As := [.long (f3 a5.toNatClampNeg)]) g7 dX9_init_74 wX9_bound q1785 q1786 rfl g7d rfl (Nat.le_of_ble_eq_true rfl) (k1 := k - k9) (n1 := n - n10) (by omega) (by omega) ?_ ?_
    · rintro v h6 (⟨v9, e9, e8, hq⟩ | ⟨ci9, q9, e9, -⟩)
      · cases e9
        subst e8
        replace H := H h6 hq
        refine e_iinc (a5 + 1) _ dX9_init_77 rfl rfl (by decide) rfl rfl ?_
        refine e_goto 59 dX9_init_80 (by decide) ?_
        exact E.less2 H (eS_n (eS_n (eS_n (eS_s (eS_s (eS_s (eS_n (eS_n eS_0))))))))
      · cases e9
    · rintro q9 h9 (⟨v9, e9, -⟩ | ⟨ci9, q8, e9, gl, ⟨fs9, gq⟩, hx⟩)
      · cases e9
      · cases e9
        rcases Hx ci9 q9 h9 hx with rfl
        · have H := Hx10 q9 h9 fs9 hx gq gl
          exact ex_out (r := (RX10, TX10, 6)) (fun z hz => absurd hz List.not_mem_nil) gq rfl gl H
theorem en_X9_init {l : Launch} {lo : Nat} {G : eG} {d : Nat} {P : eO → eH → Prop} (a0 : Nat) (a1 : Nat) (a2 : Nat) {h : eH} {k n : Nat} (H : h_X9_init_0 (l, lo, G, d, P) a0 a1 a2 h k n) : Ct l lo G d mX9_init [.ref a0, .ref a1, .ref a2] h k n P := 
  Ct_of (eArL mX9_init.2.2.2.1 [.ref a0, .ref a1, .ref a2]) (by decide) rfl (Nat.le_of_ble_eq_true rfl) (fun j w q => eArL_mem j w q) (E.less2 H (eS_s (eS_s (eS_s (eS_n (eS_n (eS_n (eS_n (eS_n eS_0)))))))))
/-! X9_bound TroupeSums$Sum.bound(J)V -/
def h_X9_bound_0 (c : cC) (a0 : Int64) (h : eH) (k n : Nat) : Prop := E c.1 c.2.1 c.2.2.1 c.2.2.2.1 mX9_bound c.2.2.2.2 0 [some (.long a0), none] [] h k n
set_option maxHeartbeats 4000000 in
theorem s_X9_bound_0 (c : cC) (a0 : Int64) (h : eH) (k n : Nat) (H : ∃ (d4 k5 n6 : Nat) (Q7 : Int32 → eH → Prop), cI c.1 c.2.1 c.2.2.1 d4 mX0_isIn [.long a0, .long (-1000000000000 : Int64), .long (1000000000000 : Int64)] h k5 n6 Q7 cX0 ∧ d4 + 1 ≤ c.2.2.2.1 ∧ k5 ≤ k ∧ n6 ≤ n ∧ (∀ (r1 : Int32) (h2 : eH), Q7 r1 h2 → ((¬ r1 = 0 → c.2.2.2.2 (.inl none) h2) ∧ (r1 = 0 → 1 ≤ k - k5 ∧ 6 ≤ n - n6 ∧ ∀ h9 : eH, h9 = eNw h2 (.inr (10, [.null, .null, .null, .null, .null, .int 0])) → (∃ (d14 k15 n16 : Nat) (Q17 : eH → Prop), cV c.1 c.2.1 c.2.2.1 d14 mX10_init [.ref h2.2] h9 k15 n16 Q17 cX0 ∧ d14 + 1 ≤ c.2.2.2.1 ∧ k15 ≤ k - k5 - 1 ∧ n16 ≤ n - n6 - 6 ∧ (∀ h12 : eH, Q17 h12 → (∃ fs9 : List Value, h12.1 h2.2 = some (.inr (10, fs9)) ∧ c.2.1 ≤ h2.2 ∧ (c.2.2.2.2 (.inr h2.2) h12)))))))) : h_X9_bound_0 c a0 h k n := by
  refine e_lload_n dX9_bound_0 rfl ?_
  refine e_ldc2 dX9_bound_1 q1788 ?_
  refine e_ldc2 dX9_bound_4 q1789 ?_
  obtain ⟨d4, k5, n6, Q7, g3, g3d, g3k, g3n, H⟩ := H
  refine e_callSN (As := [.long a0, .long (-1000000000000 : Int64), .long (1000000000000 : Int64)]) g3 dX9_bound_7 wX0_isIn rfl q1790 q1791 rfl g3d rfl (Nat.le_of_ble_eq_true rfl) (k1 := k - k5) (n1 := n - n6) (by omega) (by omega) ?_ ?_
  · rintro v h2 (⟨v9, e9, r1, e8, hq⟩ | ⟨ci9, q9, e9, -⟩)
    · cases e9
      subst e8
      replace H := H r1 h2 hq
      refine e_if_ne 21 dX9_bound_10 (by decide) (fun g8 => ?_) (fun g8 => ?_)
      · replace H := H.1 g8
        exact e_return dX9_bound_21 rfl H
      · replace H := H.2 g8
        obtain ⟨g10, g10n, H⟩ := H
        refine e_new (ci := 10) (N := 6) (C := RX10) (T := TX10) tyX10 (fs := [.null, .null, .null, .null, .null, .int 0]) dX9_bound_13 rfl in_X10 tyX10_ok q1793 q1794 q178 (by decide) (k1 := k - k5 - 1) (n1 := n - n6 - 6) (by omega) (by omega) ?_
        replace H := H _ rfl
        generalize eNw h2 _ = h9 at H ⊢
        refine e_dup dX9_bound_16 rfl ?_
        obtain ⟨d14, k15, n16, Q17, g13, g13d, g13k, g13n, H⟩ := H
        refine e_callI (As := []) g13 dX9_bound_17 wX10_init rfl rfl rfl q1802 q1803 rfl g13d rfl (Nat.le_of_ble_eq_true rfl) (k1 := k - k5 - 1 - k15) (n1 := n - n6 - 6 - n16) (by omega) (by omega) ?_ ?_
        · rintro v h12 (⟨v9, e9, e8, hq⟩ | ⟨ci9, q9, e9, -⟩)
          · cases e9
            subst e8
            replace H := H h12 hq
            obtain ⟨fs9, gq, gl, H⟩ := H
            refine e_athrow dX9_bound_20 ?_
            exact ex_out (r := (RX10, TX10, 6)) (fun z hz => absurd hz List.not_mem_nil) gq rfl gl H
          · cases e9
        · rintro q9 h9 (⟨v9, e9, -⟩ | ⟨ci9, q8, e9, -, -, hx⟩)
          · cases e9
          · exact hx.elim
    · cases e9
  · rintro q9 h9 (⟨v9, e9, -⟩ | ⟨ci9, q8, e9, -, -, hx⟩)
    · cases e9
    · exact hx.elim
theorem en_X9_bound {l : Launch} {lo : Nat} {G : eG} {d : Nat} {P : eO → eH → Prop} (a0 : Int64) {h : eH} {k n : Nat} (H : h_X9_bound_0 (l, lo, G, d, P) a0 h k n) : Ct l lo G d mX9_bound [.long a0] h k n P := 
  Ct_of (eArL mX9_bound.2.2.2.1 [.long a0]) (by decide) rfl (Nat.le_of_ble_eq_true rfl) (fun j w q => eArL_mem j w q) (E.less2 H (eS_s (eS_n eS_0)))
/-! X9_marks TroupeSums$Sum.marks()[J -/
def h_X9_marks_0 (c : cC) (a0 : Nat) (h : eH) (k n : Nat) : Prop := E c.1 c.2.1 c.2.2.1 c.2.2.2.1 mX9_marks c.2.2.2.2 0 [some (.ref a0)] [] h k n
set_option maxHeartbeats 4000000 in
theorem s_X9_marks_0 (c : cC) (a0 : Nat) (h : eH) (k n : Nat) (H : ∃ x1 : Nat, fV h a0 9 0 (.ref x1) ∧ (∃ x3 : Nat, fV h a0 9 1 (.ref x3) ∧ (∃ fs8 : List Value, h.1 x1 = some (.inr (3, fs8)) ∧ ∃ (d8 k9 n10 : Nat) (Q11 : Nat → eH → Prop), cR c.1 c.2.1 c.2.2.1 d8 mX3_marksOf [.ref x1, .ref x3] h k9 n10 Q11 cX0 ∧ d8 + 1 ≤ c.2.2.2.1 ∧ k9 ≤ k ∧ n10 ≤ n ∧ (∀ (r5 : Nat) (h6 : eH), Q11 r5 h6 → (c.2.2.2.2 (.inl (some (.ref r5))) h6))))) : h_X9_marks_0 c a0 h k n := by
  refine e_aload_n dX9_marks_0 rfl ?_
  obtain ⟨x1, ⟨fsx1, g2, g2v⟩, H⟩ := H
  refine e_get dX9_marks_1 fX9_0 q1816 g2 g2v ?_
  refine e_aload_n dX9_marks_4 rfl ?_
  obtain ⟨x3, ⟨fsx3, g4, g4v⟩, H⟩ := H
  refine e_get dX9_marks_5 fX9_1 q1817 g4 g4v ?_
  obtain ⟨fsg7, g7o, H⟩ := H
  obtain ⟨d8, k9, n10, Q11, g7, g7d, g7k, g7n, H⟩ := H
  refine e_callV (r := (RX3, TX3, 8)) (As := [.ref x3]) g7 dX9_marks_8 wX3_marksOf q1812 q1813 q1814 g7o rfl rfl g7d rfl (Nat.le_of_ble_eq_true rfl) (k1 := k - k9) (n1 := n - n10) (by omega) (by omega) ?_ ?_
  · rintro v h6 (⟨v9, e9, r5, e8, hq⟩ | ⟨ci9, q9, e9, -⟩)
    · cases e9
      subst e8
      replace H := H r5 h6 hq
      exact e_areturn (r := some r5) _ dX9_marks_11 rfl (Or.inr ⟨_, rfl⟩) H
    · cases e9
  · rintro q9 h9 (⟨v9, e9, -⟩ | ⟨ci9, q8, e9, -, -, hx⟩)
    · cases e9
    · exact hx.elim
theorem en_X9_marks {l : Launch} {lo : Nat} {G : eG} {d : Nat} {P : eO → eH → Prop} (a0 : Nat) {h : eH} {k n : Nat} (H : h_X9_marks_0 (l, lo, G, d, P) a0 h k n) : Ct l lo G d mX9_marks [.ref a0] h k n P := 
  Ct_of (eArL mX9_marks.2.2.2.1 [.ref a0]) (by decide) rfl (Nat.le_of_ble_eq_true rfl) (fun j w q => eArL_mem j w q) (E.less2 H (eS_s eS_0))
/-! X9_plus TroupeSums$Sum.plus(LTroupeSums$Sum;I)LTroupeSums$Sum; -/
def h_X9_plus_0 (c : cC) (a0 : Nat) (a1 : Nat) (a2 : Int32) (h : eH) (k n : Nat) : Prop := E c.1 c.2.1 c.2.2.1 c.2.2.2.1 mX9_plus c.2.2.2.2 0 [some (.ref a0), some (.ref a1), some (.int a2), none, none] [] h k n
def h_X9_plus_14 (c : cC) (a0 : Nat) (a1 : Nat) (a2 : Int32) (a3 : Nat) (a4 : Int32) (h : eH) (k n : Nat) : Prop := E c.1 c.2.1 c.2.2.1 c.2.2.2.1 mX9_plus c.2.2.2.2 14 [some (.ref a0), some (.ref a1), some (.int a2), some (.ref a3), some (.int a4)] [] h k n
set_option maxHeartbeats 4000000 in
theorem s_X9_plus_0 (c : cC) (a0 : Nat) (a1 : Nat) (a2 : Int32) (h : eH) (k n : Nat) (H : ∃ x1 : Nat, fV h a0 9 1 (.ref x1) ∧ (∃ (N5 : Nat) (f6 : Nat → Int64), h.1 x1 = some (.inl (c.2.2.1.2.1 1, N5, .inr (.inl f6))) ∧ c.2.1 ≤ x1 ∧ 1 ≤ c.2.2.2.1 ∧ 1 ≤ k ∧ N5 ≤ n ∧ ∀ h4 : eH, h4 = eNw h (.inl (c.2.2.1.2.1 1, N5, .inr (.inl f6))) → (eCs c.2.2.1 h4 h.2 "[J" ∧ (h_X9_plus_14 c a0 a1 a2 h.2 (0 : Int32) h4 (k - 1) (n - N5))))) : h_X9_plus_0 c a0 a1 a2 h k n := by
  refine e_aload_n dX9_plus_0 rfl ?_
  obtain ⟨x1, ⟨fsx1, g2, g2v⟩, H⟩ := H
  refine e_get dX9_plus_1 fX9_1 q1817 g2 g2v ?_
  obtain ⟨N5, f6, g3, g3l, g3h, g3k, g3n, H⟩ := H
  refine e_cloneJ dX9_plus_4 q1828 q1829 q1460 q1461 q1830 q1831 g3 g3l g3h (Nat.le_of_ble_eq_true rfl) (k1 := k - 1) (n1 := n - N5) (by omega) (by omega) ?_
  replace H := H _ rfl
  generalize eNw h _ = h4 at H ⊢
  obtain ⟨g7, H⟩ := H
  refine c_castR dX9_plus_7 q1832 g7 ?_
  refine e_astore_n _ dX9_plus_10 (by decide) rfl rfl ?_
  refine e_iconst (0) dX9_plus_11 (by decide) ?_
  refine e_istore _ dX9_plus_12 (by decide) rfl rfl ?_
  exact E.less2 H (eS_s (eS_s (eS_s (eS_s (eS_s eS_0)))))
set_option maxHeartbeats 4000000 in
theorem s_X9_plus_14 (c : cC) (a0 : Nat) (a1 : Nat) (a2 : Int32) (a3 : Nat) (a4 : Int32) (h : eH) (k n : Nat) (H : ∃ v1 : vp_A, h.1 a3 = some (.inl (c.2.2.1.2.1 1, v1)) ∧ (((nI v1.1) ≤ a4 → 1 ≤ k ∧ 2 ≤ n ∧ ∀ h4 : eH, h4 = eNw h (.inr (9, [.null, .null])) → (∃ x6 : Nat, fV h4 a0 9 0 (.ref x6) ∧ (∃ (d11 k12 n13 : Nat) (Q14 : eH → Prop) (X15 : Nat → Nat → eH → Prop), cV c.1 c.2.1 c.2.2.1 d11 mX9_init [.ref h.2, .ref x6, .ref a3] h4 k12 n13 Q14 X15 ∧ d11 + 1 ≤ c.2.2.2.1 ∧ k12 ≤ k - 1 ∧ n13 ≤ n - 2 ∧ (∀ h9 : eH, Q14 h9 → (c.2.2.2.2 (.inl (some (.ref h.2))) h9)) ∧ (∀ (ci q : Nat) (h9 : eH), X15 ci q h9 → ci = 10) ∧ (∀ (q16 : Nat) (h17 : eH) (fs9 : List Value), X15 10 q16 h17 → h17.1 q16 = some (.inr (10, fs9)) → c.2.1 ≤ q16 → c.2.2.2.2 (.inr q16) h17)))) ∧ (¬ (nI v1.1) ≤ a4 → ∃ (N18 : Nat) (f19 : Nat → Int64), h.1 a3 = some (.inl (c.2.2.1.2.1 1, N18, .inr (.inl f19))) ∧ vp_in a4 N18 ∧ (∃ x21 : Nat, fV h a1 9 1 (.ref x21) ∧ (∃ (N23 : Nat) (f24 : Nat → Int64), h.1 x21 = some (.inl (c.2.2.1.2.1 1, N23, .inr (.inl f24))) ∧ vp_in a4 N23 ∧ (∃ (N26 : Nat) (f27 : Nat → Int64), h.1 a3 = some (.inl (c.2.2.1.2.1 1, N26, .inr (.inl f27))) ∧ c.2.1 ≤ a3 ∧ vp_in a4 N26 ∧ ∀ h29 : eH, h29 = eUp h a3 (.inl (c.2.2.1.2.1 1, N26, .inr (.inl (va_up f27 a4.toNatClampNeg ((f19 a4.toNatClampNeg) + (a2.toInt64 * (f24 a4.toNatClampNeg))))))) → (h_X9_plus_14 c a0 a1 a2 a3 (a4 + 1) h29 k n))))))) : h_X9_plus_14 c a0 a1 a2 a3 a4 h k n := by
  refine e_iload dX9_plus_14 rfl ?_
  refine e_aload_n dX9_plus_16 rfl ?_
  obtain ⟨v1, g2, H⟩ := H
  refine e_alen (t := 1) dX9_plus_17 (fun _ => rfl) g2 ?_
  refine e_icmp_ge 44 dX9_plus_18 (by decide) (fun g3 => ?_) (fun g3 => ?_)
  · replace H := H.1 g3
    obtain ⟨g5, g5n, H⟩ := H
    refine e_new (ci := 9) (N := 2) (C := RX9) (T := TX9) tyX9 (fs := [.null, .null]) dX9_plus_44 rfl in_X9 tyX9_ok q1779 q1780 q177 (by decide) (k1 := k - 1) (n1 := n - 2) (by omega) (by omega) ?_
    replace H := H _ rfl
    generalize eNw h _ = h4 at H ⊢
    refine e_dup dX9_plus_47 rfl ?_
    refine e_aload_n dX9_plus_48 rfl ?_
    obtain ⟨x6, ⟨fsx6, g7, g7v⟩, H⟩ := H
    refine e_get dX9_plus_49 fX9_0 q1816 g7 g7v ?_
    refine e_aload_n dX9_plus_52 rfl ?_
    obtain ⟨d11, k12, n13, Q14, X15, g10, g10d, g10k, g10n, H, Hx, Hx10⟩ := H
    refine e_callI (As := [.ref x6, .ref a3]) g10 dX9_plus_53 wX9_init rfl rfl rfl q1781 q1782 rfl g10d rfl (Nat.le_of_ble_eq_true rfl) (k1 := k - 1 - k12) (n1 := n - 2 - n13) (by omega) (by omega) ?_ ?_
    · rintro v h9 (⟨v9, e9, e8, hq⟩ | ⟨ci9, q9, e9, -⟩)
      · cases e9
        subst e8
        replace H := H h9 hq
        exact e_areturn (r := some h.2) _ dX9_plus_56 rfl (Or.inl ⟨_, rfl⟩) H
      · cases e9
    · rintro q9 h9 (⟨v9, e9, -⟩ | ⟨ci9, q8, e9, gl, ⟨fs9, gq⟩, hx⟩)
      · cases e9
      · cases e9
        rcases Hx ci9 q9 h9 hx with rfl
        · have H := Hx10 q9 h9 fs9 hx gq gl
          exact ex_out (r := (RX10, TX10, 6)) (fun z hz => absurd hz List.not_mem_nil) gq rfl gl H
  · replace H := H.2 g3
    refine e_aload_n dX9_plus_21 rfl ?_
    refine e_iload dX9_plus_22 rfl ?_
    refine e_dup2 dX9_plus_24 rfl rfl ?_
    obtain ⟨N18, f19, g20, g20i, H⟩ := H
    refine e_laload dX9_plus_25 g20 g20i ?_
    refine e_iload_n dX9_plus_26 rfl ?_
    refine e_i2l dX9_plus_27 ?_
    refine e_aload_n dX9_plus_28 rfl ?_
    obtain ⟨x21, ⟨fsx21, g22, g22v⟩, H⟩ := H
    refine e_get dX9_plus_29 fX9_1 q1817 g22 g22v ?_
    refine e_iload dX9_plus_32 rfl ?_
    obtain ⟨N23, f24, g25, g25i, H⟩ := H
    refine e_laload dX9_plus_34 g25 g25i ?_
    refine e_lmul dX9_plus_35 ?_
    refine e_ladd dX9_plus_36 ?_
    obtain ⟨N26, f27, g28, g28l, g28i, H⟩ := H
    refine e_lastore dX9_plus_37 g28 g28l g28i ?_
    replace H := H _ rfl
    generalize eUp h a3 _ = h29 at H ⊢
    refine e_iinc (a4 + 1) _ dX9_plus_38 rfl rfl (by decide) rfl rfl ?_
    refine e_goto 14 dX9_plus_41 (by decide) ?_
    exact E.less2 H (eS_s (eS_s (eS_s (eS_s (eS_s eS_0)))))
theorem en_X9_plus {l : Launch} {lo : Nat} {G : eG} {d : Nat} {P : eO → eH → Prop} (a0 : Nat) (a1 : Nat) (a2 : Int32) {h : eH} {k n : Nat} (H : h_X9_plus_0 (l, lo, G, d, P) a0 a1 a2 h k n) : Ct l lo G d mX9_plus [.ref a0, .ref a1, .int a2] h k n P := 
  Ct_of (eArL mX9_plus.2.2.2.1 [.ref a0, .ref a1, .int a2]) (by decide) rfl (Nat.le_of_ble_eq_true rfl) (fun j w q => eArL_mem j w q) (E.less2 H (eS_s (eS_s (eS_s (eS_n (eS_n eS_0))))))
/-! X9_power TroupeSums$Sum.power(I)LTroupeSums$Sum; -/
def h_X9_power_0 (c : cC) (a0 : Nat) (a1 : Int32) (h : eH) (k n : Nat) : Prop := E c.1 c.2.1 c.2.2.1 c.2.2.2.1 mX9_power c.2.2.2.2 0 [some (.ref a0), some (.int a1), none, none] [] h k n
def h_X9_power_25 (c : cC) (a0 : Nat) (a1 : Int32) (a2 : Nat) (a3 : Int32) (h : eH) (k n : Nat) : Prop := E c.1 c.2.1 c.2.2.1 c.2.2.2.1 mX9_power c.2.2.2.2 25 [some (.ref a0), some (.int a1), some (.ref a2), some (.int a3)] [] h k n
set_option maxHeartbeats 4000000 in
theorem s_X9_power_0 (c : cC) (a0 : Nat) (a1 : Int32) (h : eH) (k n : Nat) (H : ∃ x1 : Nat, fV h a0 9 0 (.ref x1) ∧ (∃ x3 : Nat, fV h a0 9 0 (.ref x3) ∧ (∃ x5 : Nat, fV h x3 3 5 (.ref x5) ∧ (∃ fs8 : List Value, h.1 x5 = some (.inr (15, fs8)) ∧ ∃ (d10 k11 n12 : Nat) (Q13 : Int32 → eH → Prop), cI c.1 c.2.1 c.2.2.1 d10 mJ2_size [.ref x5] h k11 n12 Q13 cX0 ∧ d10 + 1 ≤ c.2.2.2.1 ∧ k11 ≤ k ∧ n12 ≤ n ∧ (∀ (r7 : Int32) (h8 : eH), Q13 r7 h8 → (∃ (d17 k18 n19 : Nat) (Q20 : Nat → eH → Prop) (X21 : Nat → Nat → eH → Prop), cR c.1 c.2.1 c.2.2.1 d17 mX9_of [.ref x1, .int (r7 - (1 : Int32)), .long (1 : Int64)] h8 k18 n19 Q20 X21 ∧ d17 + 1 ≤ c.2.2.2.1 ∧ k18 ≤ k - k11 ∧ n19 ≤ n - n12 ∧ (∀ (r14 : Nat) (h15 : eH), Q20 r14 h15 → (h_X9_power_25 c a0 a1 r14 (0 : Int32) h15 (k - k11 - k18) (n - n12 - n19))) ∧ (∀ (ci q : Nat) (h9 : eH), X21 ci q h9 → ci = 10) ∧ (∀ (q22 : Nat) (h23 : eH) (fs9 : List Value), X21 10 q22 h23 → h23.1 q22 = some (.inr (10, fs9)) → c.2.1 ≤ q22 → c.2.2.2.2 (.inr q22) h23))))))) : h_X9_power_0 c a0 a1 h k n := by
  refine e_aload_n dX9_power_0 rfl ?_
  obtain ⟨x1, ⟨fsx1, g2, g2v⟩, H⟩ := H
  refine e_get dX9_power_1 fX9_0 q1816 g2 g2v ?_
  refine e_aload_n dX9_power_4 rfl ?_
  obtain ⟨x3, ⟨fsx3, g4, g4v⟩, H⟩ := H
  refine e_get dX9_power_5 fX9_0 q1816 g4 g4v ?_
  obtain ⟨x5, ⟨fsx5, g6, g6v⟩, H⟩ := H
  refine e_getN dX9_power_8 fX3_5 q1193 g6 g6v ?_
  obtain ⟨fsg9, g9o, H⟩ := H
  obtain ⟨d10, k11, n12, Q13, g9, g9d, g9k, g9n, H⟩ := H
  refine e_callF (i := 3) (r := (RJ2, TJ2, 3)) (As := []) g9 dX9_power_11 wJ2_size rfl rfl q1778 q876 q874 g9o rfl rfl g9d rfl (Nat.le_of_ble_eq_true rfl) (k1 := k - k11) (n1 := n - n12) (by omega) (by omega) ?_ ?_
  · rintro v h8 (⟨v9, e9, r7, e8, hq⟩ | ⟨ci9, q9, e9, -⟩)
    · cases e9
      subst e8
      replace H := H r7 h8 hq
      refine e_iconst (1) dX9_power_16 (by decide) ?_
      refine e_isub dX9_power_17 ?_
      refine e_lconst 1 dX9_power_18 (by decide) ?_
      obtain ⟨d17, k18, n19, Q20, X21, g16, g16d, g16k, g16n, H, Hx, Hx10⟩ := H
      refine e_callS (As := [.ref x1, .int (r7 - (1 : Int32)), .long (1 : Int64)]) g16 dX9_power_19 wX9_of q1851 q1775 rfl g16d rfl (Nat.le_of_ble_eq_true rfl) (k1 := k - k11 - k18) (n1 := n - n12 - n19) (by omega) (by omega) ?_ ?_
      · rintro v h15 (⟨v9, e9, r14, e8, hq⟩ | ⟨ci9, q9, e9, -⟩)
        · cases e9
          subst e8
          replace H := H r14 h15 hq
          refine e_astore_n _ dX9_power_22 (by decide) rfl rfl ?_
          refine e_iconst (0) dX9_power_23 (by decide) ?_
          refine e_istore_n _ dX9_power_24 (by decide) rfl rfl ?_
          exact E.less2 H (eS_s (eS_s (eS_s (eS_s eS_0))))
        · cases e9
      · rintro q9 h9 (⟨v9, e9, -⟩ | ⟨ci9, q8, e9, gl, ⟨fs9, gq⟩, hx⟩)
        · cases e9
        · cases e9
          rcases Hx ci9 q9 h9 hx with rfl
          · have H := Hx10 q9 h9 fs9 hx gq gl
            exact ex_out (r := (RX10, TX10, 6)) (fun z hz => absurd hz List.not_mem_nil) gq rfl gl H
    · cases e9
  · rintro q9 h9 (⟨v9, e9, -⟩ | ⟨ci9, q8, e9, -, -, hx⟩)
    · cases e9
    · exact hx.elim
set_option maxHeartbeats 4000000 in
theorem s_X9_power_25 (c : cC) (a0 : Nat) (a1 : Int32) (a2 : Nat) (a3 : Int32) (h : eH) (k n : Nat) (H : (a1 ≤ a3 → c.2.2.2.2 (.inl (some (.ref a2))) h) ∧ (¬ a1 ≤ a3 → ∃ fs8 : List Value, h.1 a2 = some (.inr (9, fs8)) ∧ ∃ (d5 k6 n7 : Nat) (Q8 : Nat → eH → Prop) (X9 : Nat → Nat → eH → Prop), cR c.1 c.2.1 c.2.2.1 d5 mX9_times [.ref a2, .ref a0] h k6 n7 Q8 X9 ∧ d5 + 1 ≤ c.2.2.2.1 ∧ k6 ≤ k ∧ n7 ≤ n ∧ (∀ (r2 : Nat) (h3 : eH), Q8 r2 h3 → (h_X9_power_25 c a0 a1 r2 (a3 + 1) h3 (k - k6) (n - n7))) ∧ (∀ (ci q : Nat) (h9 : eH), X9 ci q h9 → ci = 10) ∧ (∀ (q10 : Nat) (h11 : eH) (fs9 : List Value), X9 10 q10 h11 → h11.1 q10 = some (.inr (10, fs9)) → c.2.1 ≤ q10 → c.2.2.2.2 (.inr q10) h11))) : h_X9_power_25 c a0 a1 a2 a3 h k n := by
  refine e_iload_n dX9_power_25 rfl ?_
  refine e_iload_n dX9_power_26 rfl ?_
  refine e_icmp_ge 42 dX9_power_27 (by decide) (fun g1 => ?_) (fun g1 => ?_)
  · replace H := H.1 g1
    refine e_aload_n dX9_power_42 rfl ?_
    exact e_areturn (r := some a2) _ dX9_power_43 rfl (Or.inl ⟨_, rfl⟩) H
  · replace H := H.2 g1
    refine e_aload_n dX9_power_30 rfl ?_
    refine e_aload_n dX9_power_31 rfl ?_
    obtain ⟨fsg4, g4o, H⟩ := H
    obtain ⟨d5, k6, n7, Q8, X9, g4, g4d, g4k, g4n, H, Hx, Hx10⟩ := H
    refine e_callV (r := (RX9, TX9, 2)) (As := [.ref a0]) g4 dX9_power_32 wX9_times q1852 q1853 q1854 g4o rfl rfl g4d rfl (Nat.le_of_ble_eq_true rfl) (k1 := k - k6) (n1 := n - n7) (by omega) (by omega) ?_ ?_
    · rintro v h3 (⟨v9, e9, r2, e8, hq⟩ | ⟨ci9, q9, e9, -⟩)
      · cases e9
        subst e8
        replace H := H r2 h3 hq
        refine e_astore_n _ dX9_power_35 (by decide) rfl rfl ?_
        refine e_iinc (a3 + 1) _ dX9_power_36 rfl rfl (by decide) rfl rfl ?_
        refine e_goto 25 dX9_power_39 (by decide) ?_
        exact E.less2 H (eS_s (eS_s (eS_s (eS_s eS_0))))
      · cases e9
    · rintro q9 h9 (⟨v9, e9, -⟩ | ⟨ci9, q8, e9, gl, ⟨fs9, gq⟩, hx⟩)
      · cases e9
      · cases e9
        rcases Hx ci9 q9 h9 hx with rfl
        · have H := Hx10 q9 h9 fs9 hx gq gl
          exact ex_out (r := (RX10, TX10, 6)) (fun z hz => absurd hz List.not_mem_nil) gq rfl gl H
theorem en_X9_power {l : Launch} {lo : Nat} {G : eG} {d : Nat} {P : eO → eH → Prop} (a0 : Nat) (a1 : Int32) {h : eH} {k n : Nat} (H : h_X9_power_0 (l, lo, G, d, P) a0 a1 h k n) : Ct l lo G d mX9_power [.ref a0, .int a1] h k n P := 
  Ct_of (eArL mX9_power.2.2.2.1 [.ref a0, .int a1]) (by decide) rfl (Nat.le_of_ble_eq_true rfl) (fun j w q => eArL_mem j w q) (E.less2 H (eS_s (eS_s (eS_n (eS_n eS_0)))))
/-! X9_times TroupeSums$Sum.times(LTroupeSums$Sum;)LTroupeSums$Sum; -/
def h_X9_times_0 (c : cC) (a0 : Nat) (a1 : Nat) (h : eH) (k n : Nat) : Prop := E c.1 c.2.1 c.2.2.1 c.2.2.2.1 mX9_times c.2.2.2.2 0 [some (.ref a0), some (.ref a1), none, none, none] [] h k n
def h_X9_times_13 (c : cC) (a0 : Nat) (a2 : Nat) (a3 : Nat) (a4 : Int32) (h : eH) (k n : Nat) : Prop := E c.1 c.2.1 c.2.2.1 c.2.2.2.1 mX9_times c.2.2.2.2 13 [some (.ref a0), none, some (.ref a2), some (.ref a3), some (.int a4)] [] h k n
def h_X9_times_59 (c : cC) (a0 : Nat) (a2 : Nat) (a3 : Nat) (a4 : Int32) (h : eH) (k n : Nat) : Prop := E c.1 c.2.1 c.2.2.1 c.2.2.2.1 mX9_times c.2.2.2.2 59 [some (.ref a0), none, some (.ref a2), some (.ref a3), some (.int a4)] [] h k n
set_option maxHeartbeats 4000000 in
theorem s_X9_times_0 (c : cC) (a0 : Nat) (a1 : Nat) (h : eH) (k n : Nat) (H : ∃ fs8 : List Value, h.1 a0 = some (.inr (9, fs8)) ∧ ∃ (d4 k5 n6 : Nat) (Q7 : Nat → eH → Prop), cR c.1 c.2.1 c.2.2.1 d4 mX9_marks [.ref a0] h k5 n6 Q7 cX0 ∧ d4 + 1 ≤ c.2.2.2.1 ∧ k5 ≤ k ∧ n6 ≤ n ∧ (∀ (r1 : Nat) (h2 : eH), Q7 r1 h2 → (∃ fs8 : List Value, h2.1 a1 = some (.inr (9, fs8)) ∧ ∃ (d11 k12 n13 : Nat) (Q14 : Nat → eH → Prop), cR c.1 c.2.1 c.2.2.1 d11 mX9_marks [.ref a1] h2 k12 n13 Q14 cX0 ∧ d11 + 1 ≤ c.2.2.2.1 ∧ k12 ≤ k - k5 ∧ n13 ≤ n - n6 ∧ (∀ (r8 : Nat) (h9 : eH), Q14 r8 h9 → (h_X9_times_13 c a0 r1 r8 (0 : Int32) h9 (k - k5 - k12) (n - n6 - n13)))))) : h_X9_times_0 c a0 a1 h k n := by
  refine e_aload_n dX9_times_0 rfl ?_
  obtain ⟨fsg3, g3o, H⟩ := H
  obtain ⟨d4, k5, n6, Q7, g3, g3d, g3k, g3n, H⟩ := H
  refine e_callV (r := (RX9, TX9, 2)) (As := []) g3 dX9_times_1 wX9_marks q1808 q1809 q1810 g3o rfl rfl g3d rfl (Nat.le_of_ble_eq_true rfl) (k1 := k - k5) (n1 := n - n6) (by omega) (by omega) ?_ ?_
  · rintro v h2 (⟨v9, e9, r1, e8, hq⟩ | ⟨ci9, q9, e9, -⟩)
    · cases e9
      subst e8
      replace H := H r1 h2 hq
      refine e_astore_n _ dX9_times_4 (by decide) rfl rfl ?_
      refine e_aload_n dX9_times_5 rfl ?_
      obtain ⟨fsg10, g10o, H⟩ := H
      obtain ⟨d11, k12, n13, Q14, g10, g10d, g10k, g10n, H⟩ := H
      refine e_callV (r := (RX9, TX9, 2)) (As := []) g10 dX9_times_6 wX9_marks q1808 q1809 q1810 g10o rfl rfl g10d rfl (Nat.le_of_ble_eq_true rfl) (k1 := k - k5 - k12) (n1 := n - n6 - n13) (by omega) (by omega) ?_ ?_
      · rintro v h9 (⟨v9, e9, r8, e8, hq⟩ | ⟨ci9, q9, e9, -⟩)
        · cases e9
          subst e8
          replace H := H r8 h9 hq
          refine e_astore_n _ dX9_times_9 (by decide) rfl rfl ?_
          refine e_iconst (0) dX9_times_10 (by decide) ?_
          refine e_istore _ dX9_times_11 (by decide) rfl rfl ?_
          exact E.less2 H (eS_s (eS_n (eS_s (eS_s (eS_s eS_0)))))
        · cases e9
      · rintro q9 h9 (⟨v9, e9, -⟩ | ⟨ci9, q8, e9, -, -, hx⟩)
        · cases e9
        · exact hx.elim
    · cases e9
  · rintro q9 h9 (⟨v9, e9, -⟩ | ⟨ci9, q8, e9, -, -, hx⟩)
    · cases e9
    · exact hx.elim
set_option maxHeartbeats 4000000 in
theorem s_X9_times_13 (c : cC) (a0 : Nat) (a2 : Nat) (a3 : Nat) (a4 : Int32) (h : eH) (k n : Nat) (H : ∃ v1 : vp_A, h.1 a2 = some (.inl (c.2.2.1.2.1 1, v1)) ∧ (((nI v1.1) ≤ a4 → 1 ≤ k ∧ 2 ≤ n ∧ ∀ h4 : eH, h4 = eNw h (.inr (9, [.null, .null])) → (∃ x6 : Nat, fV h4 a0 9 0 (.ref x6) ∧ (∃ x8 : Nat, fV h4 a0 9 0 (.ref x8) ∧ (∃ fs8 : List Value, h4.1 x8 = some (.inr (3, fs8)) ∧ ∃ (d13 k14 n15 : Nat) (Q16 : Nat → eH → Prop), cR c.1 c.2.1 c.2.2.1 d13 mX3_solved [.ref x8, .ref a2] h4 k14 n15 Q16 cX0 ∧ d13 + 1 ≤ c.2.2.2.1 ∧ k14 ≤ k - 1 ∧ n15 ≤ n - 2 ∧ (∀ (r10 : Nat) (h11 : eH), Q16 r10 h11 → (∃ (d20 k21 n22 : Nat) (Q23 : eH → Prop) (X24 : Nat → Nat → eH → Prop), cV c.1 c.2.1 c.2.2.1 d20 mX9_init [.ref h.2, .ref x6, .ref r10] h11 k21 n22 Q23 X24 ∧ d20 + 1 ≤ c.2.2.2.1 ∧ k21 ≤ k - 1 - k14 ∧ n22 ≤ n - 2 - n15 ∧ (∀ h18 : eH, Q23 h18 → (c.2.2.2.2 (.inl (some (.ref h.2))) h18)) ∧ (∀ (ci q : Nat) (h9 : eH), X24 ci q h9 → ci = 10) ∧ (∀ (q25 : Nat) (h26 : eH) (fs9 : List Value), X24 10 q25 h26 → h26.1 q25 = some (.inr (10, fs9)) → c.2.1 ≤ q25 → c.2.2.2.2 (.inr q25) h26))))))) ∧ (¬ (nI v1.1) ≤ a4 → ∃ (N27 : Nat) (f28 : Nat → Int64), h.1 a3 = some (.inl (c.2.2.1.2.1 1, N27, .inr (.inl f28))) ∧ vp_in a4 N27 ∧ (((lg_cmp (f28 a4.toNatClampNeg) (0 : Int64)) = 0 → h_X9_times_59 c a0 a2 a3 a4 h k n) ∧ (¬ (lg_cmp (f28 a4.toNatClampNeg) (0 : Int64)) = 0 → ∃ (N31 : Nat) (f32 : Nat → Int64), h.1 a2 = some (.inl (c.2.2.1.2.1 1, N31, .inr (.inl f32))) ∧ vp_in a4 N31 ∧ (1 ≤ c.2.2.2.1 ∧ (∃ (N35 : Nat) (f36 : Nat → Int64), h.1 a3 = some (.inl (c.2.2.1.2.1 1, N35, .inr (.inl f36))) ∧ vp_in a4 N35 ∧ (1 ≤ c.2.2.2.1 ∧ (¬ (if 0 < (f36 a4.toNatClampNeg) then (f36 a4.toNatClampNeg) else -(f36 a4.toNatClampNeg)) = 0 ∧ (((lg_cmp (if 0 < (f32 a4.toNatClampNeg) then (f32 a4.toNatClampNeg) else -(f32 a4.toNatClampNeg)) ((1000000000000 : Int64) / (if 0 < (f36 a4.toNatClampNeg) then (f36 a4.toNatClampNeg) else -(f36 a4.toNatClampNeg)))) ≤ 0 → h_X9_times_59 c a0 a2 a3 a4 h k n) ∧ (¬ (lg_cmp (if 0 < (f32 a4.toNatClampNeg) then (f32 a4.toNatClampNeg) else -(f32 a4.toNatClampNeg)) ((1000000000000 : Int64) / (if 0 < (f36 a4.toNatClampNeg) then (f36 a4.toNatClampNeg) else -(f36 a4.toNatClampNeg)))) ≤ 0 → 1 ≤ k ∧ 6 ≤ n ∧ ∀ h41 : eH, h41 = eNw h (.inr (10, [.null, .null, .null, .null, .null, .int 0])) → (∃ (d46 k47 n48 : Nat) (Q49 : eH → Prop), cV c.1 c.2.1 c.2.2.1 d46 mX10_init [.ref h.2] h41 k47 n48 Q49 cX0 ∧ d46 + 1 ≤ c.2.2.2.1 ∧ k47 ≤ k - 1 ∧ n48 ≤ n - 6 ∧ (∀ h44 : eH, Q49 h44 → (∃ fs9 : List Value, h44.1 h.2 = some (.inr (10, fs9)) ∧ c.2.1 ≤ h.2 ∧ (c.2.2.2.2 (.inr h.2) h44))))))))))))))) : h_X9_times_13 c a0 a2 a3 a4 h k n := by
  refine e_iload dX9_times_13 rfl ?_
  refine e_aload_n dX9_times_15 rfl ?_
  obtain ⟨v1, g2, H⟩ := H
  refine e_alen (t := 1) dX9_times_16 (fun _ => rfl) g2 ?_
  refine e_icmp_ge 76 dX9_times_17 (by decide) (fun g3 => ?_) (fun g3 => ?_)
  · replace H := H.1 g3
    obtain ⟨g5, g5n, H⟩ := H
    refine e_new (ci := 9) (N := 2) (C := RX9) (T := TX9) tyX9 (fs := [.null, .null]) dX9_times_76 rfl in_X9 tyX9_ok q1779 q1780 q177 (by decide) (k1 := k - 1) (n1 := n - 2) (by omega) (by omega) ?_
    replace H := H _ rfl
    generalize eNw h _ = h4 at H ⊢
    refine e_dup dX9_times_79 rfl ?_
    refine e_aload_n dX9_times_80 rfl ?_
    obtain ⟨x6, ⟨fsx6, g7, g7v⟩, H⟩ := H
    refine e_get dX9_times_81 fX9_0 q1816 g7 g7v ?_
    refine e_aload_n dX9_times_84 rfl ?_
    obtain ⟨x8, ⟨fsx8, g9, g9v⟩, H⟩ := H
    refine e_get dX9_times_85 fX9_0 q1816 g9 g9v ?_
    refine e_aload_n dX9_times_88 rfl ?_
    obtain ⟨fsg12, g12o, H⟩ := H
    obtain ⟨d13, k14, n15, Q16, g12, g12d, g12k, g12n, H⟩ := H
    refine e_callV (r := (RX3, TX3, 8)) (As := [.ref a2]) g12 dX9_times_89 wX3_solved q1859 q1860 q1861 g12o rfl rfl g12d rfl (Nat.le_of_ble_eq_true rfl) (k1 := k - 1 - k14) (n1 := n - 2 - n15) (by omega) (by omega) ?_ ?_
    · rintro v h11 (⟨v9, e9, r10, e8, hq⟩ | ⟨ci9, q9, e9, -⟩)
      · cases e9
        subst e8
        replace H := H r10 h11 hq
        obtain ⟨d20, k21, n22, Q23, X24, g19, g19d, g19k, g19n, H, Hx, Hx10⟩ := H
        refine e_callI (As := [.ref x6, .ref r10]) g19 dX9_times_92 wX9_init rfl rfl rfl q1781 q1782 rfl g19d rfl (Nat.le_of_ble_eq_true rfl) (k1 := k - 1 - k14 - k21) (n1 := n - 2 - n15 - n22) (by omega) (by omega) ?_ ?_
        · rintro v h18 (⟨v9, e9, e8, hq⟩ | ⟨ci9, q9, e9, -⟩)
          · cases e9
            subst e8
            replace H := H h18 hq
            exact e_areturn (r := some h.2) _ dX9_times_95 rfl (Or.inl ⟨_, rfl⟩) H
          · cases e9
        · rintro q9 h9 (⟨v9, e9, -⟩ | ⟨ci9, q8, e9, gl, ⟨fs9, gq⟩, hx⟩)
          · cases e9
          · cases e9
            rcases Hx ci9 q9 h9 hx with rfl
            · have H := Hx10 q9 h9 fs9 hx gq gl
              exact ex_out (r := (RX10, TX10, 6)) (fun z hz => absurd hz List.not_mem_nil) gq rfl gl H
      · cases e9
    · rintro q9 h9 (⟨v9, e9, -⟩ | ⟨ci9, q8, e9, -, -, hx⟩)
      · cases e9
      · exact hx.elim
  · replace H := H.2 g3
    refine e_aload_n dX9_times_20 rfl ?_
    refine e_iload dX9_times_21 rfl ?_
    obtain ⟨N27, f28, g29, g29i, H⟩ := H
    refine e_laload dX9_times_23 g29 g29i ?_
    refine e_lconst 0 dX9_times_24 (by decide) ?_
    refine e_lcmp dX9_times_25 ?_
    refine e_if_eq 59 dX9_times_26 (by decide) (fun g30 => ?_) (fun g30 => ?_)
    · replace H := H.1 g30
      exact E.less2 H (eS_s (eS_n (eS_s (eS_s (eS_s eS_0)))))
    · replace H := H.2 g30
      refine e_aload_n dX9_times_29 rfl ?_
      refine e_iload dX9_times_30 rfl ?_
      obtain ⟨N31, f32, g33, g33i, H⟩ := H
      refine e_laload dX9_times_32 g33 g33i ?_
      obtain ⟨g34, H⟩ := H
      refine e_mabs dX9_times_33 q1856 g34 (Nat.le_of_ble_eq_true rfl) ?_
      refine e_ldc2 dX9_times_36 q1789 ?_
      refine e_aload_n dX9_times_39 rfl ?_
      refine e_iload dX9_times_40 rfl ?_
      obtain ⟨N35, f36, g37, g37i, H⟩ := H
      refine e_laload dX9_times_42 g37 g37i ?_
      obtain ⟨g38, H⟩ := H
      refine e_mabs dX9_times_43 q1856 g38 (Nat.le_of_ble_eq_true rfl) ?_
      obtain ⟨g39, H⟩ := H
      refine e_ldiv dX9_times_46 g39 ?_
      refine e_lcmp dX9_times_47 ?_
      refine e_if_le 59 dX9_times_48 (by decide) (fun g40 => ?_) (fun g40 => ?_)
      · replace H := H.1 g40
        exact E.less2 H (eS_s (eS_n (eS_s (eS_s (eS_s eS_0)))))
      · replace H := H.2 g40
        obtain ⟨g42, g42n, H⟩ := H
        refine e_new (ci := 10) (N := 6) (C := RX10) (T := TX10) tyX10 (fs := [.null, .null, .null, .null, .null, .int 0]) dX9_times_51 rfl in_X10 tyX10_ok q1793 q1794 q178 (by decide) (k1 := k - 1) (n1 := n - 6) (by omega) (by omega) ?_
        replace H := H _ rfl
        generalize eNw h _ = h41 at H ⊢
        refine e_dup dX9_times_54 rfl ?_
        obtain ⟨d46, k47, n48, Q49, g45, g45d, g45k, g45n, H⟩ := H
        refine e_callI (As := []) g45 dX9_times_55 wX10_init rfl rfl rfl q1802 q1803 rfl g45d rfl (Nat.le_of_ble_eq_true rfl) (k1 := k - 1 - k47) (n1 := n - 6 - n48) (by omega) (by omega) ?_ ?_
        · rintro v h44 (⟨v9, e9, e8, hq⟩ | ⟨ci9, q9, e9, -⟩)
          · cases e9
            subst e8
            replace H := H h44 hq
            obtain ⟨fs9, gq, gl, H⟩ := H
            refine e_athrow dX9_times_58 ?_
            exact ex_out (r := (RX10, TX10, 6)) (fun z hz => absurd hz List.not_mem_nil) gq rfl gl H
          · cases e9
        · rintro q9 h9 (⟨v9, e9, -⟩ | ⟨ci9, q8, e9, -, -, hx⟩)
          · cases e9
          · exact hx.elim
set_option maxHeartbeats 4000000 in
theorem s_X9_times_59 (c : cC) (a0 : Nat) (a2 : Nat) (a3 : Nat) (a4 : Int32) (h : eH) (k n : Nat) (H : ∃ (N1 : Nat) (f2 : Nat → Int64), h.1 a2 = some (.inl (c.2.2.1.2.1 1, N1, .inr (.inl f2))) ∧ vp_in a4 N1 ∧ (∃ (N4 : Nat) (f5 : Nat → Int64), h.1 a3 = some (.inl (c.2.2.1.2.1 1, N4, .inr (.inl f5))) ∧ vp_in a4 N4 ∧ (∃ (N7 : Nat) (f8 : Nat → Int64), h.1 a2 = some (.inl (c.2.2.1.2.1 1, N7, .inr (.inl f8))) ∧ c.2.1 ≤ a2 ∧ vp_in a4 N7 ∧ ∀ h10 : eH, h10 = eUp h a2 (.inl (c.2.2.1.2.1 1, N7, .inr (.inl (va_up f8 a4.toNatClampNeg ((f2 a4.toNatClampNeg) * (f5 a4.toNatClampNeg)))))) → (h_X9_times_13 c a0 a2 a3 (a4 + 1) h10 k n)))) : h_X9_times_59 c a0 a2 a3 a4 h k n := by
  refine e_aload_n dX9_times_59 rfl ?_
  refine e_iload dX9_times_60 rfl ?_
  refine e_dup2 dX9_times_62 rfl rfl ?_
  obtain ⟨N1, f2, g3, g3i, H⟩ := H
  refine e_laload dX9_times_63 g3 g3i ?_
  refine e_aload_n dX9_times_64 rfl ?_
  refine e_iload dX9_times_65 rfl ?_
  obtain ⟨N4, f5, g6, g6i, H⟩ := H
  refine e_laload dX9_times_67 g6 g6i ?_
  refine e_lmul dX9_times_68 ?_
  obtain ⟨N7, f8, g9, g9l, g9i, H⟩ := H
  refine e_lastore dX9_times_69 g9 g9l g9i ?_
  replace H := H _ rfl
  generalize eUp h a2 _ = h10 at H ⊢
  refine e_iinc (a4 + 1) _ dX9_times_70 rfl rfl (by decide) rfl rfl ?_
  refine e_goto 13 dX9_times_73 (by decide) ?_
  exact E.less2 H (eS_s (eS_n (eS_s (eS_s (eS_s eS_0)))))
theorem en_X9_times {l : Launch} {lo : Nat} {G : eG} {d : Nat} {P : eO → eH → Prop} (a0 : Nat) (a1 : Nat) {h : eH} {k n : Nat} (H : h_X9_times_0 (l, lo, G, d, P) a0 a1 h k n) : Ct l lo G d mX9_times [.ref a0, .ref a1] h k n P := 
  Ct_of (eArL mX9_times.2.2.2.1 [.ref a0, .ref a1]) (by decide) rfl (Nat.le_of_ble_eq_true rfl) (fun j w q => eArL_mem j w q) (E.less2 H (eS_s (eS_s (eS_n (eS_n (eS_n eS_0))))))
/-! X13_init TroupeSums$Seeker.<init>(LTroupeSums$Group;)V -/
def h_X13_init_0 (c : cC) (a0 : Nat) (a1 : Nat) (h : eH) (k n : Nat) : Prop := E c.1 c.2.1 c.2.2.1 c.2.2.2.1 mX13_init c.2.2.2.2 0 [some (.ref a0), some (.ref a1)] [] h k n
set_option maxHeartbeats 4000000 in
theorem s_X13_init_0 (c : cC) (a0 : Nat) (a1 : Nat) (h : eH) (k n : Nat) (H : 1 ≤ c.2.2.2.1 ∧ (1 ≤ k ∧ 4 ≤ n ∧ ∀ h2 : eH, h2 = eNw h (.inr (22, [.null, .int 0, .null, .int 0])) → (∃ (d7 k8 n9 : Nat) (Q10 : eH → Prop), cV c.1 c.2.1 c.2.2.1 d7 mJ23_init_3 [.ref h.2] h2 k8 n9 Q10 cX0 ∧ d7 + 1 ≤ c.2.2.2.1 ∧ k8 ≤ k - 1 ∧ n9 ≤ n - 4 ∧ (∀ h5 : eH, Q10 h5 → (∃ fs11 : List Value, h5.1 a0 = some (.inr (13, fs11)) ∧ c.2.1 ≤ a0 ∧ 3 < fs11.length ∧ ∀ h13 : eH, h13 = eUp h5 a0 (.inr (13, fs11.set 3 (.ref h.2))) → (∃ fs14 : List Value, h13.1 a0 = some (.inr (13, fs14)) ∧ c.2.1 ≤ a0 ∧ 0 < fs14.length ∧ ∀ h16 : eH, h16 = eUp h13 a0 (.inr (13, fs14.set 0 (.ref a1))) → (∃ x17 : Nat, fV h16 a1 3 5 (.ref x17) ∧ (∃ fs8 : List Value, h16.1 x17 = some (.inr (15, fs8)) ∧ ∃ (d22 k23 n24 : Nat) (Q25 : Int32 → eH → Prop), cI c.1 c.2.1 c.2.2.1 d22 mJ2_size [.ref x17] h16 k23 n24 Q25 cX0 ∧ d22 + 1 ≤ c.2.2.2.1 ∧ k23 ≤ k - 1 - k8 ∧ n24 ≤ n - 4 - n9 ∧ (∀ (r19 : Int32) (h20 : eH), Q25 r19 h20 → (∃ N28 : Nat, r19 = nI N28 ∧ N28 ≤ 10000000 ∧ 1 ≤ k - 1 - k8 - k23 ∧ N28 ≤ n - 4 - n9 - n24 ∧ ∀ h26 : eH, h26 = eNw h20 (.inl (c.2.2.1.2.1 1, N28, .inr (.inl (fun _ => 0)))) → (∃ fs29 : List Value, h26.1 a0 = some (.inr (13, fs29)) ∧ c.2.1 ≤ a0 ∧ 1 < fs29.length ∧ ∀ h31 : eH, h31 = eUp h26 a0 (.inr (13, fs29.set 1 (.ref h20.2))) → (∃ x32 : Nat, fV h31 a0 13 1 (.ref x32) ∧ (∃ v34 : vp_A, h31.1 x32 = some (.inl (c.2.2.1.2.1 1, v34)) ∧ (∃ N38 : Nat, (nI v34.1) = nI N38 ∧ N38 ≤ 10000000 ∧ 1 ≤ k - 1 - k8 - k23 - 1 ∧ N38 ≤ n - 4 - n9 - n24 - N28 ∧ ∀ h36 : eH, h36 = eNw h31 (.inl (c.2.2.1.2.1 1, N38, .inr (.inl (fun _ => 0)))) → (∃ fs39 : List Value, h36.1 a0 = some (.inr (13, fs39)) ∧ c.2.1 ≤ a0 ∧ 2 < fs39.length ∧ ∀ h41 : eH, h41 = eUp h36 a0 (.inr (13, fs39.set 2 (.ref h31.2))) → (c.2.2.2.2 (.inl none) h41)))))))))))))))) : h_X13_init_0 c a0 a1 h k n := by
  refine e_aload_n dX13_init_0 rfl ?_
  obtain ⟨g1, H⟩ := H
  refine e_objInit dX13_init_1 q2200 q192 q193 g1 (Nat.le_of_ble_eq_true rfl) ?_
  refine e_aload_n dX13_init_4 rfl ?_
  obtain ⟨g3, g3n, H⟩ := H
  refine e_new (ci := 22) (N := 4) (C := RJ23) (T := TJ23) tyJ23 (fs := [.null, .int 0, .null, .int 0]) dX13_init_5 rfl in_J23 tyJ23_ok q2201 q995 q164 (by decide) (k1 := k - 1) (n1 := n - 4) (by omega) (by omega) ?_
  replace H := H _ rfl
  generalize eNw h _ = h2 at H ⊢
  refine e_dup dX13_init_8 rfl ?_
  obtain ⟨d7, k8, n9, Q10, g6, g6d, g6k, g6n, H⟩ := H
  refine e_callI (As := []) g6 dX13_init_9 wJ23_init_3 rfl rfl rfl q2202 q2203 rfl g6d rfl (Nat.le_of_ble_eq_true rfl) (k1 := k - 1 - k8) (n1 := n - 4 - n9) (by omega) (by omega) ?_ ?_
  · rintro v h5 (⟨v9, e9, e8, hq⟩ | ⟨ci9, q9, e9, -⟩)
    · cases e9
      subst e8
      replace H := H h5 hq
      obtain ⟨fs11, g12, g12l, g12j, H⟩ := H
      refine e_putF dX13_init_12 fX13_3 q2210 rfl rfl (eFit_or _ _) g12 g12l g12j ?_
      replace H := H _ rfl
      generalize eUp h5 a0 _ = h13 at H ⊢
      refine e_aload_n dX13_init_15 rfl ?_
      refine e_aload_n dX13_init_16 rfl ?_
      obtain ⟨fs14, g15, g15l, g15j, H⟩ := H
      refine e_putF dX13_init_17 fX13_0 q2207 rfl rfl (eFit_or _ _) g15 g15l g15j ?_
      replace H := H _ rfl
      generalize eUp h13 a0 _ = h16 at H ⊢
      refine e_aload_n dX13_init_20 rfl ?_
      refine e_aload_n dX13_init_21 rfl ?_
      obtain ⟨x17, ⟨fsx17, g18, g18v⟩, H⟩ := H
      refine e_getN dX13_init_22 fX3_5 q1191 g18 g18v ?_
      obtain ⟨fsg21, g21o, H⟩ := H
      obtain ⟨d22, k23, n24, Q25, g21, g21d, g21k, g21n, H⟩ := H
      refine e_callF (i := 3) (r := (RJ2, TJ2, 3)) (As := []) g21 dX13_init_25 wJ2_size rfl rfl q2206 q876 q874 g21o rfl rfl g21d rfl (Nat.le_of_ble_eq_true rfl) (k1 := k - 1 - k8 - k23) (n1 := n - 4 - n9 - n24) (by omega) (by omega) ?_ ?_
      · rintro v h20 (⟨v9, e9, r19, e8, hq⟩ | ⟨ci9, q9, e9, -⟩)
        · cases e9
          subst e8
          replace H := H r19 h20 hq
          obtain ⟨N28, g27i, g27b, g27, g27n, H⟩ := H
          refine c_newarrayJ dX13_init_30 q1234 g27i g27b g27 g27n ?_
          replace H := H _ rfl
          generalize eNw h20 _ = h26 at H ⊢
          obtain ⟨fs29, g30, g30l, g30j, H⟩ := H
          refine e_putF dX13_init_32 fX13_1 q2208 rfl rfl (eFit_ar _ _) g30 g30l g30j ?_
          replace H := H _ rfl
          generalize eUp h26 a0 _ = h31 at H ⊢
          refine e_aload_n dX13_init_35 rfl ?_
          refine e_aload_n dX13_init_36 rfl ?_
          obtain ⟨x32, ⟨fsx32, g33, g33v⟩, H⟩ := H
          refine e_get dX13_init_37 fX13_1 q2208 g33 g33v ?_
          obtain ⟨v34, g35, H⟩ := H
          refine e_alen (t := 1) dX13_init_40 (fun _ => rfl) g35 ?_
          obtain ⟨N38, g37i, g37b, g37, g37n, H⟩ := H
          refine c_newarrayJ dX13_init_41 q1234 g37i g37b g37 g37n ?_
          replace H := H _ rfl
          generalize eNw h31 _ = h36 at H ⊢
          obtain ⟨fs39, g40, g40l, g40j, H⟩ := H
          refine e_putF dX13_init_43 fX13_2 q2209 rfl rfl (eFit_ar _ _) g40 g40l g40j ?_
          replace H := H _ rfl
          generalize eUp h36 a0 _ = h41 at H ⊢
          exact e_return dX13_init_46 rfl H
        · cases e9
      · rintro q9 h9 (⟨v9, e9, -⟩ | ⟨ci9, q8, e9, -, -, hx⟩)
        · cases e9
        · exact hx.elim
    · cases e9
  · rintro q9 h9 (⟨v9, e9, -⟩ | ⟨ci9, q8, e9, -, -, hx⟩)
    · cases e9
    · exact hx.elim
theorem en_X13_init {l : Launch} {lo : Nat} {G : eG} {d : Nat} {P : eO → eH → Prop} (a0 : Nat) (a1 : Nat) {h : eH} {k n : Nat} (H : h_X13_init_0 (l, lo, G, d, P) a0 a1 h k n) : Ct l lo G d mX13_init [.ref a0, .ref a1] h k n P := 
  Ct_of (eArL mX13_init.2.2.2.1 [.ref a0, .ref a1]) (by decide) rfl (Nat.le_of_ble_eq_true rfl) (fun j w q => eArL_mem j w q) (E.less2 H (eS_s (eS_s eS_0)))
/-! X13_all TroupeSums$Seeker.all()Ljava/util/List; -/
def h_X13_all_0 (c : cC) (a0 : Nat) (h : eH) (k n : Nat) : Prop := E c.1 c.2.1 c.2.2.1 c.2.2.2.1 mX13_all c.2.2.2.2 0 [some (.ref a0), none] [] h k n
def h_X13_all_20 (c : cC) (a0 : Nat) (a1 : Nat) (h : eH) (k n : Nat) : Prop := E c.1 c.2.1 c.2.2.1 c.2.2.2.1 mX13_all c.2.2.2.2 20 [some (.ref a0), some (.ref a1)] [] h k n
set_option maxHeartbeats 4000000 in
theorem s_X13_all_0 (c : cC) (a0 : Nat) (h : eH) (k n : Nat) (H : ∃ x1 : Nat, fV h a0 13 1 (.ref x1) ∧ (∃ v3 : vp_A, h.1 x1 = some (.inl (c.2.2.1.2.1 1, v3)) ∧ (∃ fs8 : List Value, h.1 a0 = some (.inr (13, fs8)) ∧ ∃ (d8 k9 n10 : Nat) (Q11 : eH → Prop), cV c.1 c.2.1 c.2.2.1 d8 mX13_goes [.ref a0, .int ((nI v3.1) - (1 : Int32)), .int (0 : Int32)] h k9 n10 Q11 cX0 ∧ d8 + 1 ≤ c.2.2.2.1 ∧ k9 ≤ k ∧ n10 ≤ n ∧ (∀ h6 : eH, Q11 h6 → (1 ≤ k - k9 ∧ 3 ≤ n - n10 ∧ ∀ h12 : eH, h12 = eNw h6 (.inr (15, [.int 0, .null, .int 0])) → (∃ (d17 k18 n19 : Nat) (Q20 : eH → Prop), cV c.1 c.2.1 c.2.2.1 d17 mJ2_init [.ref h6.2] h12 k18 n19 Q20 cX0 ∧ d17 + 1 ≤ c.2.2.2.1 ∧ k18 ≤ k - k9 - 1 ∧ n19 ≤ n - n10 - 3 ∧ (∀ h15 : eH, Q20 h15 → (h_X13_all_20 c a0 h6.2 h15 (k - k9 - 1 - k18) (n - n10 - 3 - n19))))))))) : h_X13_all_0 c a0 h k n := by
  refine e_aload_n dX13_all_0 rfl ?_
  refine e_aload_n dX13_all_1 rfl ?_
  obtain ⟨x1, ⟨fsx1, g2, g2v⟩, H⟩ := H
  refine e_get dX13_all_2 fX13_1 q2208 g2 g2v ?_
  obtain ⟨v3, g4, H⟩ := H
  refine e_alen (t := 1) dX13_all_5 (fun _ => rfl) g4 ?_
  refine e_iconst (1) dX13_all_6 (by decide) ?_
  refine e_isub dX13_all_7 ?_
  refine e_iconst (0) dX13_all_8 (by decide) ?_
  obtain ⟨fsg7, g7o, H⟩ := H
  obtain ⟨d8, k9, n10, Q11, g7, g7d, g7k, g7n, H⟩ := H
  refine e_callV (r := (RX13, TX13, 4)) (As := [.int ((nI v3.1) - (1 : Int32)), .int (0 : Int32)]) g7 dX13_all_9 wX13_goes q2224 q2225 q2226 g7o rfl rfl g7d rfl (Nat.le_of_ble_eq_true rfl) (k1 := k - k9) (n1 := n - n10) (by omega) (by omega) ?_ ?_
  · rintro v h6 (⟨v9, e9, e8, hq⟩ | ⟨ci9, q9, e9, -⟩)
    · cases e9
      subst e8
      replace H := H h6 hq
      obtain ⟨g13, g13n, H⟩ := H
      refine e_new (ci := 15) (N := 3) (C := RJ2) (T := TJ2) tyJ2 (fs := [.int 0, .null, .int 0]) dX13_all_12 rfl in_J2 tyJ2_ok q2241 q204 q138 (by decide) (k1 := k - k9 - 1) (n1 := n - n10 - 3) (by omega) (by omega) ?_
      replace H := H _ rfl
      generalize eNw h6 _ = h12 at H ⊢
      refine e_dup dX13_all_15 rfl ?_
      obtain ⟨d17, k18, n19, Q20, g16, g16d, g16k, g16n, H⟩ := H
      refine e_callI (As := []) g16 dX13_all_16 wJ2_init rfl rfl rfl q2242 q206 rfl g16d rfl (Nat.le_of_ble_eq_true rfl) (k1 := k - k9 - 1 - k18) (n1 := n - n10 - 3 - n19) (by omega) (by omega) ?_ ?_
      · rintro v h15 (⟨v9, e9, e8, hq⟩ | ⟨ci9, q9, e9, -⟩)
        · cases e9
          subst e8
          replace H := H h15 hq
          refine e_astore_n _ dX13_all_19 (by decide) rfl rfl ?_
          exact E.less2 H (eS_s (eS_s eS_0))
        · cases e9
      · rintro q9 h9 (⟨v9, e9, -⟩ | ⟨ci9, q8, e9, -, -, hx⟩)
        · cases e9
        · exact hx.elim
    · cases e9
  · rintro q9 h9 (⟨v9, e9, -⟩ | ⟨ci9, q8, e9, -, -, hx⟩)
    · cases e9
    · exact hx.elim
set_option maxHeartbeats 4000000 in
theorem s_X13_all_20 (c : cC) (a0 : Nat) (a1 : Nat) (h : eH) (k n : Nat) (H : ∃ x1 : Nat, fV h a0 13 3 (.ref x1) ∧ (∃ fs8 : List Value, h.1 x1 = some (.inr (22, fs8)) ∧ ∃ (d6 k7 n8 : Nat) (Q9 : Int32 → eH → Prop), cI c.1 c.2.1 c.2.2.1 d6 mJ0_isEmpty [.ref x1] h k7 n8 Q9 cX0 ∧ d6 + 1 ≤ c.2.2.2.1 ∧ k7 ≤ k ∧ n8 ≤ n ∧ (∀ (r3 : Int32) (h4 : eH), Q9 r3 h4 → ((¬ r3 = 0 → c.2.2.2.2 (.inl (some (.ref a1))) h4) ∧ (r3 = 0 → ∃ x11 : Nat, fV h4 a0 13 3 (.ref x11) ∧ (∃ fs8 : List Value, h4.1 x11 = some (.inr (22, fs8)) ∧ ∃ (d16 k17 n18 : Nat) (Q19 : Option Nat → eH → Prop), cQ c.1 c.2.1 c.2.2.1 d16 mJ22_remove [.ref x11] h4 k17 n18 Q19 cX0 ∧ d16 + 1 ≤ c.2.2.2.1 ∧ k17 ≤ k - k7 ∧ n18 ≤ n - n8 ∧ (∀ (r13 : Option Nat) (h14 : eH), Q19 r13 h14 → ((∀ o21 : Nat, r13 = some o21 → eCs c.2.2.1 h14 o21 "TroupeSums$Signs") ∧ (∃ fs8 : List Value, h14.1 a1 = some (.inr (15, fs8)) ∧ ∃ (d25 k26 n27 : Nat) (Q28 : Int32 → eH → Prop), cI c.1 c.2.1 c.2.2.1 d25 mJ2_add [.ref a1, va_rf r13] h14 k26 n27 Q28 cX0 ∧ d25 + 1 ≤ c.2.2.2.1 ∧ k26 ≤ k - k7 - k17 ∧ n27 ≤ n - n8 - n18 ∧ (∀ (r22 : Int32) (h23 : eH), Q28 r22 h23 → (h_X13_all_20 c a0 a1 h23 (k - k7 - k17 - k26) (n - n8 - n18 - n27)))))))))))) : h_X13_all_20 c a0 a1 h k n := by
  refine e_aload_n dX13_all_20 rfl ?_
  obtain ⟨x1, ⟨fsx1, g2, g2v⟩, H⟩ := H
  refine e_get dX13_all_21 fX13_3 q2210 g2 g2v ?_
  obtain ⟨fsg5, g5o, H⟩ := H
  obtain ⟨d6, k7, n8, Q9, g5, g5d, g5k, g5n, H⟩ := H
  refine e_callU (r := (RJ23, TJ23, 4)) (As := []) g5 dX13_all_24 wJ0_isEmpty rfl rfl q2243 q1127 q1130 q1129 g5o rfl rfl g5d rfl (Nat.le_of_ble_eq_true rfl) (k1 := k - k7) (n1 := n - n8) (by omega) (by omega) ?_ ?_
  · rintro v h4 (⟨v9, e9, r3, e8, hq⟩ | ⟨ci9, q9, e9, -⟩)
    · cases e9
      subst e8
      replace H := H r3 h4 hq
      refine e_if_ne 50 dX13_all_27 (by decide) (fun g10 => ?_) (fun g10 => ?_)
      · replace H := H.1 g10
        refine e_aload_n dX13_all_50 rfl ?_
        exact e_areturn (r := some a1) _ dX13_all_51 rfl (Or.inl ⟨_, rfl⟩) H
      · replace H := H.2 g10
        refine e_aload_n dX13_all_30 rfl ?_
        refine e_aload_n dX13_all_31 rfl ?_
        obtain ⟨x11, ⟨fsx11, g12, g12v⟩, H⟩ := H
        refine e_get dX13_all_32 fX13_3 q2210 g12 g12v ?_
        obtain ⟨fsg15, g15o, H⟩ := H
        obtain ⟨d16, k17, n18, Q19, g15, g15d, g15k, g15n, H⟩ := H
        refine e_callU (r := (RJ23, TJ23, 4)) (As := []) g15 dX13_all_35 wJ22_remove rfl rfl q2244 q1158 q1161 q1160 g15o rfl rfl g15d rfl (Nat.le_of_ble_eq_true rfl) (k1 := k - k7 - k17) (n1 := n - n8 - n18) (by omega) (by omega) ?_ ?_
        · rintro v h14 (⟨v9, e9, r13, e8, hq⟩ | ⟨ci9, q9, e9, -⟩)
          · cases e9
            subst e8
            replace H := H r13 h14 hq
            obtain ⟨g20, H⟩ := H
            refine c_cast dX13_all_38 q2228 g20 ?_
            obtain ⟨fsg24, g24o, H⟩ := H
            obtain ⟨d25, k26, n27, Q28, g24, g24d, g24k, g24n, H⟩ := H
            refine e_callF (i := 5) (r := (RJ2, TJ2, 3)) (As := [va_rf r13]) g24 dX13_all_41 wJ2_add rfl rfl q2246 q797 q795 g24o rfl rfl g24d rfl (Nat.le_of_ble_eq_true rfl) (k1 := k - k7 - k17 - k26) (n1 := n - n8 - n18 - n27) (by omega) (by omega) ?_ ?_
            · rintro v h23 (⟨v9, e9, r22, e8, hq⟩ | ⟨ci9, q9, e9, -⟩)
              · cases e9
                subst e8
                replace H := H r22 h23 hq
                refine e_pop dX13_all_46 rfl ?_
                refine e_goto 20 dX13_all_47 (by decide) ?_
                exact E.less2 H (eS_s (eS_s eS_0))
              · cases e9
            · rintro q9 h9 (⟨v9, e9, -⟩ | ⟨ci9, q8, e9, -, -, hx⟩)
              · cases e9
              · exact hx.elim
          · cases e9
        · rintro q9 h9 (⟨v9, e9, -⟩ | ⟨ci9, q8, e9, -, -, hx⟩)
          · cases e9
          · exact hx.elim
    · cases e9
  · rintro q9 h9 (⟨v9, e9, -⟩ | ⟨ci9, q8, e9, -, -, hx⟩)
    · cases e9
    · exact hx.elim
theorem en_X13_all {l : Launch} {lo : Nat} {G : eG} {d : Nat} {P : eO → eH → Prop} (a0 : Nat) {h : eH} {k n : Nat} (H : h_X13_all_0 (l, lo, G, d, P) a0 h k n) : Ct l lo G d mX13_all [.ref a0] h k n P := 
  Ct_of (eArL mX13_all.2.2.2.1 [.ref a0]) (by decide) rfl (Nat.le_of_ble_eq_true rfl) (fun j w q => eArL_mem j w q) (E.less2 H (eS_s (eS_n eS_0)))
/-! X13_goes TroupeSums$Seeker.goes(II)V -/
def h_X13_goes_0 (c : cC) (a0 : Nat) (a1 : Int32) (a2 : Int32) (h : eH) (k n : Nat) : Prop := E c.1 c.2.1 c.2.2.1 c.2.2.2.1 mX13_goes c.2.2.2.2 0 [some (.ref a0), some (.int a1), some (.int a2), none, none, none, none] [] h k n
def h_X13_goes_23 (c : cC) (a0 : Nat) (a1 : Int32) (a2 : Int32) (a3 : Int32) (h : eH) (k n : Nat) : Prop := E c.1 c.2.1 c.2.2.1 c.2.2.2.1 mX13_goes c.2.2.2.2 23 [some (.ref a0), some (.int a1), some (.int a2), some (.int a3), none, none, none] [] h k n
def h_X13_goes_43 (c : cC) (a0 : Nat) (a1 : Int32) (a2 : Int32) (a3 : Int32) (a4 : Int64) (a6 : Int32) (h : eH) (k n : Nat) : Prop := E c.1 c.2.1 c.2.2.1 c.2.2.2.1 mX13_goes c.2.2.2.2 43 [some (.ref a0), some (.int a1), some (.int a2), some (.int a3), some (.long a4), none, some (.int a6)] [] h k n
def h_X13_goes_149 (c : cC) (a0 : Nat) (a1 : Int32) (a2 : Int32) (a3 : Int32) (h : eH) (k n : Nat) : Prop := E c.1 c.2.1 c.2.2.1 c.2.2.2.1 mX13_goes c.2.2.2.2 149 [some (.ref a0), some (.int a1), some (.int a2), some (.int a3), none, none, none] [] h k n
set_option maxHeartbeats 4000000 in
theorem s_X13_goes_0 (c : cC) (a0 : Nat) (a1 : Int32) (a2 : Int32) (h : eH) (k n : Nat) (H : (0 ≤ a1 → h_X13_goes_23 c a0 a1 a2 (0 : Int32) h k n) ∧ (¬ 0 ≤ a1 → ∃ x2 : Nat, fV h a0 13 3 (.ref x2) ∧ (1 ≤ k ∧ 1 ≤ n ∧ ∀ h4 : eH, h4 = eNw h (.inr (14, [.int 0])) → (∃ (d9 k10 n11 : Nat) (Q12 : eH → Prop), cV c.1 c.2.1 c.2.2.1 d9 mX14_init [.ref h.2, .int a2] h4 k10 n11 Q12 cX0 ∧ d9 + 1 ≤ c.2.2.2.1 ∧ k10 ≤ k - 1 ∧ n11 ≤ n - 1 ∧ (∀ h7 : eH, Q12 h7 → (∃ fs8 : List Value, h7.1 x2 = some (.inr (22, fs8)) ∧ ∃ (d16 k17 n18 : Nat) (Q19 : Int32 → eH → Prop), cI c.1 c.2.1 c.2.2.1 d16 mJ23_add [.ref x2, .ref h.2] h7 k17 n18 Q19 cX0 ∧ d16 + 1 ≤ c.2.2.2.1 ∧ k17 ≤ k - 1 - k10 ∧ n18 ≤ n - 1 - n11 ∧ (∀ (r13 : Int32) (h14 : eH), Q19 r13 h14 → (c.2.2.2.2 (.inl none) h14)))))))) : h_X13_goes_0 c a0 a1 a2 h k n := by
  refine e_iload_n dX13_goes_0 rfl ?_
  refine e_if_ge 21 dX13_goes_1 (by decide) (fun g1 => ?_) (fun g1 => ?_)
  · replace H := H.1 g1
    refine e_iconst (0) dX13_goes_21 (by decide) ?_
    refine e_istore_n _ dX13_goes_22 (by decide) rfl rfl ?_
    exact E.less2 H (eS_s (eS_s (eS_s (eS_s (eS_n (eS_n (eS_n eS_0)))))))
  · replace H := H.2 g1
    refine e_aload_n dX13_goes_4 rfl ?_
    obtain ⟨x2, ⟨fsx2, g3, g3v⟩, H⟩ := H
    refine e_get dX13_goes_5 fX13_3 q2210 g3 g3v ?_
    obtain ⟨g5, g5n, H⟩ := H
    refine e_new (ci := 14) (N := 1) (C := RX14) (T := TX14) tyX14 (fs := [.int 0]) dX13_goes_8 rfl in_X14 tyX14_ok q2228 q2229 q185 (by decide) (k1 := k - 1) (n1 := n - 1) (by omega) (by omega) ?_
    replace H := H _ rfl
    generalize eNw h _ = h4 at H ⊢
    refine e_dup dX13_goes_11 rfl ?_
    refine e_iload_n dX13_goes_12 rfl ?_
    obtain ⟨d9, k10, n11, Q12, g8, g8d, g8k, g8n, H⟩ := H
    refine e_callI (As := [.int a2]) g8 dX13_goes_13 wX14_init rfl rfl rfl q2230 q2231 rfl g8d rfl (Nat.le_of_ble_eq_true rfl) (k1 := k - 1 - k10) (n1 := n - 1 - n11) (by omega) (by omega) ?_ ?_
    · rintro v h7 (⟨v9, e9, e8, hq⟩ | ⟨ci9, q9, e9, -⟩)
      · cases e9
        subst e8
        replace H := H h7 hq
        obtain ⟨fsg15, g15o, H⟩ := H
        obtain ⟨d16, k17, n18, Q19, g15, g15d, g15k, g15n, H⟩ := H
        refine e_callV (r := (RJ23, TJ23, 4)) (As := [.ref h.2]) g15 dX13_goes_16 wJ23_add q2239 q1098 q1099 g15o rfl rfl g15d rfl (Nat.le_of_ble_eq_true rfl) (k1 := k - 1 - k10 - k17) (n1 := n - 1 - n11 - n18) (by omega) (by omega) ?_ ?_
        · rintro v h14 (⟨v9, e9, r13, e8, hq⟩ | ⟨ci9, q9, e9, -⟩)
          · cases e9
            subst e8
            replace H := H r13 h14 hq
            refine e_pop dX13_goes_19 rfl ?_
            exact e_return dX13_goes_20 rfl H
          · cases e9
        · rintro q9 h9 (⟨v9, e9, -⟩ | ⟨ci9, q8, e9, -, -, hx⟩)
          · cases e9
          · exact hx.elim
      · cases e9
    · rintro q9 h9 (⟨v9, e9, -⟩ | ⟨ci9, q8, e9, -, -, hx⟩)
      · cases e9
      · exact hx.elim
set_option maxHeartbeats 4000000 in
theorem s_X13_goes_23 (c : cC) (a0 : Nat) (a1 : Int32) (a2 : Int32) (a3 : Int32) (h : eH) (k n : Nat) (H : ((2 : Int32) ≤ a3 → c.2.2.2.2 (.inl none) h) ∧ (¬ (2 : Int32) ≤ a3 → h_X13_goes_43 c a0 a1 a2 a3 ((1 : Int64) - ((2 : Int64) * a3.toInt64)) (a1 + (1 : Int32)) h k n)) : h_X13_goes_23 c a0 a1 a2 a3 h k n := by
  refine e_iload_n dX13_goes_23 rfl ?_
  refine e_iconst (2) dX13_goes_24 (by decide) ?_
  refine e_icmp_ge 155 dX13_goes_25 (by decide) (fun g1 => ?_) (fun g1 => ?_)
  · replace H := H.1 g1
    exact e_return dX13_goes_155 rfl H
  · replace H := H.2 g1
    refine e_lconst 1 dX13_goes_28 (by decide) ?_
    refine e_ldc2 dX13_goes_29 q2240 ?_
    refine e_iload_n dX13_goes_32 rfl ?_
    refine e_i2l dX13_goes_33 ?_
    refine e_lmul dX13_goes_34 ?_
    refine e_lsub dX13_goes_35 ?_
    refine e_lstore _ dX13_goes_36 (by decide) rfl rfl ?_
    refine e_iload_n dX13_goes_38 rfl ?_
    refine e_iconst (1) dX13_goes_39 (by decide) ?_
    refine e_iadd dX13_goes_40 ?_
    refine e_istore _ dX13_goes_41 (by decide) trivial rfl ?_
    exact E.less2 H (eS_s (eS_s (eS_s (eS_s (eS_s (eS_n (eS_s eS_0)))))))
set_option maxHeartbeats 4000000 in
theorem s_X13_goes_43 (c : cC) (a0 : Nat) (a1 : Int32) (a2 : Int32) (a3 : Int32) (a4 : Int64) (a6 : Int32) (h : eH) (k n : Nat) (H : ∃ x1 : Nat, fV h a0 13 1 (.ref x1) ∧ (∃ v3 : vp_A, h.1 x1 = some (.inl (c.2.2.1.2.1 1, v3)) ∧ (((nI v3.1) ≤ a6 → ∃ x6 : Nat, fV h a0 13 0 (.ref x6) ∧ (∃ x8 : Nat, fV h x6 3 7 (.ref x8) ∧ (∃ (N10 : Nat) (f11 : Nat → Option Nat), h.1 x8 = some (.inl (c.2.2.1.2.1 4, N10, .inr (.inr (.inr (.inr f11))))) ∧ vp_in a1 N10 ∧ ∃ r13 : Nat, f11 a1.toNatClampNeg = some r13 ∧ (∃ (N14 : Nat) (f15 : Nat → Int32), h.1 r13 = some (.inl (c.2.2.1.2.1 0, N14, .inl f15)) ∧ vp_in a1 N14 ∧ (¬ ((f15 a1.toNatClampNeg).toInt64) = 0 ∧ (((lg_cmp (a4 - a4 / ((f15 a1.toNatClampNeg).toInt64) * ((f15 a1.toNatClampNeg).toInt64)) (0 : Int64)) = 0 → ∃ x19 : Nat, fV h a0 13 2 (.ref x19) ∧ (∃ x21 : Nat, fV h a0 13 0 (.ref x21) ∧ (∃ x23 : Nat, fV h x21 3 7 (.ref x23) ∧ (∃ (N25 : Nat) (f26 : Nat → Option Nat), h.1 x23 = some (.inl (c.2.2.1.2.1 4, N25, .inr (.inr (.inr (.inr f26))))) ∧ vp_in a1 N25 ∧ ∃ r28 : Nat, f26 a1.toNatClampNeg = some r28 ∧ (∃ (N29 : Nat) (f30 : Nat → Int32), h.1 r28 = some (.inl (c.2.2.1.2.1 0, N29, .inl f30)) ∧ vp_in a1 N29 ∧ (¬ ((f30 a1.toNatClampNeg).toInt64) = 0 ∧ (∃ (N33 : Nat) (f34 : Nat → Int64), h.1 x19 = some (.inl (c.2.2.1.2.1 1, N33, .inr (.inl f34))) ∧ c.2.1 ≤ x19 ∧ vp_in a1 N33 ∧ ∀ h36 : eH, h36 = eUp h x19 (.inl (c.2.2.1.2.1 1, N33, .inr (.inl (va_up f34 a1.toNatClampNeg (a4 / ((f30 a1.toNatClampNeg).toInt64)))))) → (∃ x37 : Nat, fV h36 a0 13 1 (.ref x37) ∧ (∃ v39 : vp_A, h36.1 x37 = some (.inl (c.2.2.1.2.1 1, v39)) ∧ (∃ fs8 : List Value, h36.1 a0 = some (.inr (13, fs8)) ∧ ∃ (d44 k45 n46 : Nat) (Q47 : eH → Prop), cV c.1 c.2.1 c.2.2.1 d44 mX13_goes [.ref a0, .int (a1 - (1 : Int32)), .int (a2 ||| (a3 <<< ((((nI v39.1) - (1 : Int32)) - a1) &&& 31)))] h36 k45 n46 Q47 cX0 ∧ d44 + 1 ≤ c.2.2.2.1 ∧ k45 ≤ k ∧ n46 ≤ n ∧ (∀ h42 : eH, Q47 h42 → (h_X13_goes_149 c a0 a1 a2 a3 h42 (k - k45) (n - n46))))))))))))) ∧ (¬ (lg_cmp (a4 - a4 / ((f15 a1.toNatClampNeg).toInt64) * ((f15 a1.toNatClampNeg).toInt64)) (0 : Int64)) = 0 → h_X13_goes_149 c a0 a1 a2 a3 h k n))))))) ∧ (¬ (nI v3.1) ≤ a6 → ∃ x48 : Nat, fV h a0 13 2 (.ref x48) ∧ (∃ (N50 : Nat) (f51 : Nat → Int64), h.1 x48 = some (.inl (c.2.2.1.2.1 1, N50, .inr (.inl f51))) ∧ vp_in a6 N50 ∧ (∃ x53 : Nat, fV h a0 13 0 (.ref x53) ∧ (∃ x55 : Nat, fV h x53 3 7 (.ref x55) ∧ (∃ (N57 : Nat) (f58 : Nat → Option Nat), h.1 x55 = some (.inl (c.2.2.1.2.1 4, N57, .inr (.inr (.inr (.inr f58))))) ∧ vp_in a6 N57 ∧ ∃ r60 : Nat, f58 a6.toNatClampNeg = some r60 ∧ (∃ (N61 : Nat) (f62 : Nat → Int32), h.1 r60 = some (.inl (c.2.2.1.2.1 0, N61, .inl f62)) ∧ vp_in a1 N61 ∧ (h_X13_goes_43 c a0 a1 a2 a3 (a4 - ((f51 a6.toNatClampNeg) * ((f62 a1.toNatClampNeg).toInt64))) (a6 + 1) h k n)))))))))) : h_X13_goes_43 c a0 a1 a2 a3 a4 a6 h k n := by
  refine e_iload dX13_goes_43 rfl ?_
  refine e_aload_n dX13_goes_45 rfl ?_
  obtain ⟨x1, ⟨fsx1, g2, g2v⟩, H⟩ := H
  refine e_get dX13_goes_46 fX13_1 q2208 g2 g2v ?_
  obtain ⟨v3, g4, H⟩ := H
  refine e_alen (t := 1) dX13_goes_49 (fun _ => rfl) g4 ?_
  refine e_icmp_ge 85 dX13_goes_50 (by decide) (fun g5 => ?_) (fun g5 => ?_)
  · replace H := H.1 g5
    refine e_lload dX13_goes_85 rfl ?_
    refine e_aload_n dX13_goes_87 rfl ?_
    obtain ⟨x6, ⟨fsx6, g7, g7v⟩, H⟩ := H
    refine e_get dX13_goes_88 fX13_0 q2207 g7 g7v ?_
    obtain ⟨x8, ⟨fsx8, g9, g9v⟩, H⟩ := H
    refine e_getN dX13_goes_91 fX3_7 q1198 g9 g9v ?_
    refine e_iload_n dX13_goes_94 rfl ?_
    obtain ⟨N10, f11, g12, g12i, r13, g12r, H⟩ := H
    refine e_aaload 4 dX13_goes_95 (fun _ => rfl) rfl g12 g12i ?_
    rw [g12r]
    refine e_iload_n dX13_goes_96 rfl ?_
    obtain ⟨N14, f15, g16, g16i, H⟩ := H
    refine e_iaload dX13_goes_97 g16 g16i ?_
    refine e_i2l dX13_goes_98 ?_
    obtain ⟨g17, H⟩ := H
    refine e_lrem dX13_goes_99 g17 ?_
    refine e_lconst 0 dX13_goes_100 (by decide) ?_
    refine e_lcmp dX13_goes_101 ?_
    refine e_if_eq 108 dX13_goes_102 (by decide) (fun g18 => ?_) (fun g18 => ?_)
    · replace H := H.1 g18
      refine e_aload_n dX13_goes_108 rfl ?_
      obtain ⟨x19, ⟨fsx19, g20, g20v⟩, H⟩ := H
      refine e_get dX13_goes_109 fX13_2 q2209 g20 g20v ?_
      refine e_iload_n dX13_goes_112 rfl ?_
      refine e_lload dX13_goes_113 rfl ?_
      refine e_aload_n dX13_goes_115 rfl ?_
      obtain ⟨x21, ⟨fsx21, g22, g22v⟩, H⟩ := H
      refine e_get dX13_goes_116 fX13_0 q2207 g22 g22v ?_
      obtain ⟨x23, ⟨fsx23, g24, g24v⟩, H⟩ := H
      refine e_getN dX13_goes_119 fX3_7 q1198 g24 g24v ?_
      refine e_iload_n dX13_goes_122 rfl ?_
      obtain ⟨N25, f26, g27, g27i, r28, g27r, H⟩ := H
      refine e_aaload 4 dX13_goes_123 (fun _ => rfl) rfl g27 g27i ?_
      rw [g27r]
      refine e_iload_n dX13_goes_124 rfl ?_
      obtain ⟨N29, f30, g31, g31i, H⟩ := H
      refine e_iaload dX13_goes_125 g31 g31i ?_
      refine e_i2l dX13_goes_126 ?_
      obtain ⟨g32, H⟩ := H
      refine e_ldiv dX13_goes_127 g32 ?_
      obtain ⟨N33, f34, g35, g35l, g35i, H⟩ := H
      refine e_lastore dX13_goes_128 g35 g35l g35i ?_
      replace H := H _ rfl
      generalize eUp h x19 _ = h36 at H ⊢
      refine e_aload_n dX13_goes_129 rfl ?_
      refine e_iload_n dX13_goes_130 rfl ?_
      refine e_iconst (1) dX13_goes_131 (by decide) ?_
      refine e_isub dX13_goes_132 ?_
      refine e_iload_n dX13_goes_133 rfl ?_
      refine e_iload_n dX13_goes_134 rfl ?_
      refine e_aload_n dX13_goes_135 rfl ?_
      obtain ⟨x37, ⟨fsx37, g38, g38v⟩, H⟩ := H
      refine e_get dX13_goes_136 fX13_1 q2208 g38 g38v ?_
      obtain ⟨v39, g40, H⟩ := H
      refine e_alen (t := 1) dX13_goes_139 (fun _ => rfl) g40 ?_
      refine e_iconst (1) dX13_goes_140 (by decide) ?_
      refine e_isub dX13_goes_141 ?_
      refine e_iload_n dX13_goes_142 rfl ?_
      refine e_isub dX13_goes_143 ?_
      refine e_ishl dX13_goes_144 ?_
      refine e_ior dX13_goes_145 ?_
      obtain ⟨fsg43, g43o, H⟩ := H
      obtain ⟨d44, k45, n46, Q47, g43, g43d, g43k, g43n, H⟩ := H
      refine e_callV (r := (RX13, TX13, 4)) (As := [.int (a1 - (1 : Int32)), .int (a2 ||| (a3 <<< ((((nI v39.1) - (1 : Int32)) - a1) &&& 31)))]) g43 dX13_goes_146 wX13_goes q2224 q2225 q2226 g43o rfl rfl g43d rfl (Nat.le_of_ble_eq_true rfl) (k1 := k - k45) (n1 := n - n46) (by omega) (by omega) ?_ ?_
      · rintro v h42 (⟨v9, e9, e8, hq⟩ | ⟨ci9, q9, e9, -⟩)
        · cases e9
          subst e8
          replace H := H h42 hq
          exact E.less2 H (eS_s (eS_s (eS_s (eS_s (eS_n (eS_n (eS_n eS_0)))))))
        · cases e9
      · rintro q9 h9 (⟨v9, e9, -⟩ | ⟨ci9, q8, e9, -, -, hx⟩)
        · cases e9
        · exact hx.elim
    · replace H := H.2 g18
      refine e_goto 149 dX13_goes_105 (by decide) ?_
      exact E.less2 H (eS_s (eS_s (eS_s (eS_s (eS_n (eS_n (eS_n eS_0)))))))
  · replace H := H.2 g5
    refine e_lload dX13_goes_53 rfl ?_
    refine e_aload_n dX13_goes_55 rfl ?_
    obtain ⟨x48, ⟨fsx48, g49, g49v⟩, H⟩ := H
    refine e_get dX13_goes_56 fX13_2 q2209 g49 g49v ?_
    refine e_iload dX13_goes_59 rfl ?_
    obtain ⟨N50, f51, g52, g52i, H⟩ := H
    refine e_laload dX13_goes_61 g52 g52i ?_
    refine e_aload_n dX13_goes_62 rfl ?_
    obtain ⟨x53, ⟨fsx53, g54, g54v⟩, H⟩ := H
    refine e_get dX13_goes_63 fX13_0 q2207 g54 g54v ?_
    obtain ⟨x55, ⟨fsx55, g56, g56v⟩, H⟩ := H
    refine e_getN dX13_goes_66 fX3_7 q1198 g56 g56v ?_
    refine e_iload dX13_goes_69 rfl ?_
    obtain ⟨N57, f58, g59, g59i, r60, g59r, H⟩ := H
    refine e_aaload 4 dX13_goes_71 (fun _ => rfl) rfl g59 g59i ?_
    rw [g59r]
    refine e_iload_n dX13_goes_72 rfl ?_
    obtain ⟨N61, f62, g63, g63i, H⟩ := H
    refine e_iaload dX13_goes_73 g63 g63i ?_
    refine e_i2l dX13_goes_74 ?_
    refine e_lmul dX13_goes_75 ?_
    refine e_lsub dX13_goes_76 ?_
    refine e_lstore _ dX13_goes_77 (by decide) rfl rfl ?_
    refine e_iinc (a6 + 1) _ dX13_goes_79 rfl rfl (by decide) trivial rfl ?_
    refine e_goto 43 dX13_goes_82 (by decide) ?_
    exact E.less2 H (eS_s (eS_s (eS_s (eS_s (eS_s (eS_n (eS_s eS_0)))))))
set_option maxHeartbeats 4000000 in
theorem s_X13_goes_149 (c : cC) (a0 : Nat) (a1 : Int32) (a2 : Int32) (a3 : Int32) (h : eH) (k n : Nat) (H : h_X13_goes_23 c a0 a1 a2 (a3 + 1) h k n) : h_X13_goes_149 c a0 a1 a2 a3 h k n := by
  refine e_iinc (a3 + 1) _ dX13_goes_149 rfl rfl (by decide) rfl rfl ?_
  refine e_goto 23 dX13_goes_152 (by decide) ?_
  exact E.less2 H (eS_s (eS_s (eS_s (eS_s (eS_n (eS_n (eS_n eS_0)))))))
theorem en_X13_goes {l : Launch} {lo : Nat} {G : eG} {d : Nat} {P : eO → eH → Prop} (a0 : Nat) (a1 : Int32) (a2 : Int32) {h : eH} {k n : Nat} (H : h_X13_goes_0 (l, lo, G, d, P) a0 a1 a2 h k n) : Ct l lo G d mX13_goes [.ref a0, .int a1, .int a2] h k n P := 
  Ct_of (eArL mX13_goes.2.2.2.1 [.ref a0, .int a1, .int a2]) (by decide) rfl (Nat.le_of_ble_eq_true rfl) (fun j w q => eArL_mem j w q) (E.less2 H (eS_s (eS_s (eS_s (eS_n (eS_n (eS_n (eS_n eS_0))))))))
