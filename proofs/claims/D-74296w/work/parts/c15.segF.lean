/-! segments: X3_init, X3_findSubgroups, X3_size, X3_made, X3_findSorts, X3_firstOf, X3_turned, X3_norm, X3_mark, X3_marksOf, X3_solved, X3_isLevel, X3_order, X3_sortOf, X3_isRound, X3_within, X3_residue, X3_block, X3_keeper, X3_orbit, X3_coset, X3_moebius, X3_mixed, X3_centre, X3_likes, X3_peak, X3_sum, X3_lowest, X3_congruence, X3_cosets, X3_firstWrong -/
/-! X3_init TroupeSums$Group.<init>(ILjava/util/TreeMap;)V -/
def h_X3_init_0 (c : cC) (a0 : Nat) (a1 : Int32) (a2 : Nat) (h : eH) (k n : Nat) : Prop := E c.1 c.2.1 c.2.2.1 c.2.2.2.1 mX3_init c.2.2.2.2 0 [some (.ref a0), some (.int a1), some (.ref a2), none, none, none] [] h k n
def h_X3_init_52 (c : cC) (a0 : Nat) (a2 : Nat) (a3 : Nat) (h : eH) (k n : Nat) : Prop := E c.1 c.2.1 c.2.2.1 c.2.2.2.1 mX3_init c.2.2.2.2 52 [some (.ref a0), none, some (.ref a2), some (.ref a3), none, none] [] h k n
def h_X3_init_117 (c : cC) (a0 : Nat) (a2 : Nat) (a3 : Int32) (a4 : Int32) (h : eH) (k n : Nat) : Prop := E c.1 c.2.1 c.2.2.1 c.2.2.2.1 mX3_init c.2.2.2.2 117 [some (.ref a0), none, some (.ref a2), some (.int a3), some (.int a4), none] [] h k n
def h_X3_init_156 (c : cC) (a0 : Nat) (a2 : Nat) (a3 : Int32) (a4 : Int32) (h : eH) (k n : Nat) : Prop := E c.1 c.2.1 c.2.2.1 c.2.2.2.1 mX3_init c.2.2.2.2 156 [some (.ref a0), none, some (.ref a2), some (.int a3), some (.int a4), none] [] h k n
def h_X3_init_165 (c : cC) (a0 : Nat) (a2 : Nat) (a3 : Int32) (a4 : Int32) (a5 : Int32) (h : eH) (k n : Nat) : Prop := E c.1 c.2.1 c.2.2.1 c.2.2.2.1 mX3_init c.2.2.2.2 165 [some (.ref a0), none, some (.ref a2), some (.int a3), some (.int a4), some (.int a5)] [] h k n
def h_X3_init_244 (c : cC) (a0 : Nat) (a2 : Nat) (a3 : Int32) (a4 : Int32) (a5 : Int32) (h : eH) (k n : Nat) : Prop := E c.1 c.2.1 c.2.2.1 c.2.2.2.1 mX3_init c.2.2.2.2 244 [some (.ref a0), none, some (.ref a2), some (.int a3), some (.int a4), some (.int a5)] [] h k n
def h_X3_init_308 (c : cC) (a0 : Nat) (a4 : Int32) (h : eH) (k n : Nat) : Prop := E c.1 c.2.1 c.2.2.1 c.2.2.2.1 mX3_init c.2.2.2.2 308 [some (.ref a0), none, none, none, some (.int a4), none] [] h k n
def h_X3_init_321 (c : cC) (a0 : Nat) (a4 : Int32) (a5 : Int32) (h : eH) (k n : Nat) : Prop := E c.1 c.2.1 c.2.2.1 c.2.2.2.1 mX3_init c.2.2.2.2 321 [some (.ref a0), none, none, none, some (.int a4), some (.int a5)] [] h k n
set_option maxHeartbeats 4000000 in
theorem s_X3_init_0 (c : cC) (a0 : Nat) (a1 : Int32) (a2 : Nat) (h : eH) (k n : Nat) (H : 1 ≤ c.2.2.2.1 ∧ (1 ≤ k ∧ 3 ≤ n ∧ ∀ h2 : eH, h2 = eNw h (.inr (15, [.int 0, .null, .int 0])) → (∃ (d7 k8 n9 : Nat) (Q10 : eH → Prop), cV c.1 c.2.1 c.2.2.1 d7 mJ2_init [.ref h.2] h2 k8 n9 Q10 cX0 ∧ d7 + 1 ≤ c.2.2.2.1 ∧ k8 ≤ k - 1 ∧ n9 ≤ n - 3 ∧ (∀ h5 : eH, Q10 h5 → (∃ fs11 : List Value, h5.1 a0 = some (.inr (3, fs11)) ∧ c.2.1 ≤ a0 ∧ 1 < fs11.length ∧ ∀ h13 : eH, h13 = eUp h5 a0 (.inr (3, fs11.set 1 (.ref h.2))) → (1 ≤ k - 1 - k8 ∧ 3 ≤ n - 3 - n9 ∧ ∀ h14 : eH, h14 = eNw h13 (.inr (15, [.int 0, .null, .int 0])) → (∃ (d19 k20 n21 : Nat) (Q22 : eH → Prop), cV c.1 c.2.1 c.2.2.1 d19 mJ2_init [.ref h13.2] h14 k20 n21 Q22 cX0 ∧ d19 + 1 ≤ c.2.2.2.1 ∧ k20 ≤ k - 1 - k8 - 1 ∧ n21 ≤ n - 3 - n9 - 3 ∧ (∀ h17 : eH, Q22 h17 → (∃ fs23 : List Value, h17.1 a0 = some (.inr (3, fs23)) ∧ c.2.1 ≤ a0 ∧ 4 < fs23.length ∧ ∀ h25 : eH, h25 = eUp h17 a0 (.inr (3, fs23.set 4 (.ref h13.2))) → (1 ≤ k - 1 - k8 - 1 - k20 ∧ 3 ≤ n - 3 - n9 - 3 - n21 ∧ ∀ h26 : eH, h26 = eNw h25 (.inr (15, [.int 0, .null, .int 0])) → (∃ (d31 k32 n33 : Nat) (Q34 : eH → Prop), cV c.1 c.2.1 c.2.2.1 d31 mJ2_init [.ref h25.2] h26 k32 n33 Q34 cX0 ∧ d31 + 1 ≤ c.2.2.2.1 ∧ k32 ≤ k - 1 - k8 - 1 - k20 - 1 ∧ n33 ≤ n - 3 - n9 - 3 - n21 - 3 ∧ (∀ h29 : eH, Q34 h29 → (∃ fs35 : List Value, h29.1 a0 = some (.inr (3, fs35)) ∧ c.2.1 ≤ a0 ∧ 5 < fs35.length ∧ ∀ h37 : eH, h37 = eUp h29 a0 (.inr (3, fs35.set 5 (.ref h25.2))) → (∃ fs38 : List Value, h37.1 a0 = some (.inr (3, fs38)) ∧ c.2.1 ≤ a0 ∧ 0 < fs38.length ∧ ∀ h40 : eH, h40 = eUp h37 a0 (.inr (3, fs38.set 0 (.int a1))) → (∃ fs8 : List Value, h40.1 a2 = some (.inr (16, fs8)) ∧ ∃ (d44 k45 n46 : Nat) (Q47 : Nat → eH → Prop), cR c.1 c.2.1 c.2.2.1 d44 mJ4_keySet [.ref a2] h40 k45 n46 Q47 cX0 ∧ d44 + 1 ≤ c.2.2.2.1 ∧ k45 ≤ k - 1 - k8 - 1 - k20 - 1 - k32 ∧ n46 ≤ n - 3 - n9 - 3 - n21 - 3 - n33 ∧ (∀ (r41 : Nat) (h42 : eH), Q47 r41 h42 → (∃ fs8 : List Value, h42.1 r41 = some (.inr (20, fs8)) ∧ ∃ (d51 k52 n53 : Nat) (Q54 : Nat → eH → Prop), cR c.1 c.2.1 c.2.2.1 d51 mJ18_iterator [.ref r41] h42 k52 n53 Q54 cX0 ∧ d51 + 1 ≤ c.2.2.2.1 ∧ k52 ≤ k - 1 - k8 - 1 - k20 - 1 - k32 - k45 ∧ n53 ≤ n - 3 - n9 - 3 - n21 - 3 - n33 - n46 ∧ (∀ (r48 : Nat) (h49 : eH), Q54 r48 h49 → (h_X3_init_52 c a0 a2 r48 h49 (k - 1 - k8 - 1 - k20 - 1 - k32 - k45 - k52) (n - 3 - n9 - 3 - n21 - 3 - n33 - n46 - n53)))))))))))))))))))) : h_X3_init_0 c a0 a1 a2 h k n := by
  refine e_aload_n dX3_init_0 rfl ?_
  obtain ⟨g1, H⟩ := H
  refine e_objInit dX3_init_1 q677 q192 q193 g1 (Nat.le_of_ble_eq_true rfl) ?_
  refine e_aload_n dX3_init_4 rfl ?_
  obtain ⟨g3, g3n, H⟩ := H
  refine e_new (ci := 15) (N := 3) (C := RJ2) (T := TJ2) tyJ2 (fs := [.int 0, .null, .int 0]) dX3_init_5 rfl in_J2 tyJ2_ok q678 q204 q138 (by decide) (k1 := k - 1) (n1 := n - 3) (by omega) (by omega) ?_
  replace H := H _ rfl
  generalize eNw h _ = h2 at H ⊢
  refine e_dup dX3_init_8 rfl ?_
  obtain ⟨d7, k8, n9, Q10, g6, g6d, g6k, g6n, H⟩ := H
  refine e_callI (As := []) g6 dX3_init_9 wJ2_init rfl rfl rfl q679 q206 rfl g6d rfl (Nat.le_of_ble_eq_true rfl) (k1 := k - 1 - k8) (n1 := n - 3 - n9) (by omega) (by omega) ?_ ?_
  · rintro v h5 (⟨v9, e9, e8, hq⟩ | ⟨ci9, q9, e9, -⟩)
    · cases e9
      subst e8
      replace H := H h5 hq
      obtain ⟨fs11, g12, g12l, g12j, H⟩ := H
      refine e_putF dX3_init_12 fX3_1 q1184 rfl rfl (eFit_or _ _) g12 g12l g12j ?_
      replace H := H _ rfl
      generalize eUp h5 a0 _ = h13 at H ⊢
      refine e_aload_n dX3_init_15 rfl ?_
      obtain ⟨g15, g15n, H⟩ := H
      refine e_new (ci := 15) (N := 3) (C := RJ2) (T := TJ2) tyJ2 (fs := [.int 0, .null, .int 0]) dX3_init_16 rfl in_J2 tyJ2_ok q678 q204 q138 (by decide) (k1 := k - 1 - k8 - 1) (n1 := n - 3 - n9 - 3) (by omega) (by omega) ?_
      replace H := H _ rfl
      generalize eNw h13 _ = h14 at H ⊢
      refine e_dup dX3_init_19 rfl ?_
      obtain ⟨d19, k20, n21, Q22, g18, g18d, g18k, g18n, H⟩ := H
      refine e_callI (As := []) g18 dX3_init_20 wJ2_init rfl rfl rfl q679 q206 rfl g18d rfl (Nat.le_of_ble_eq_true rfl) (k1 := k - 1 - k8 - 1 - k20) (n1 := n - 3 - n9 - 3 - n21) (by omega) (by omega) ?_ ?_
      · rintro v h17 (⟨v9, e9, e8, hq⟩ | ⟨ci9, q9, e9, -⟩)
        · cases e9
          subst e8
          replace H := H h17 hq
          obtain ⟨fs23, g24, g24l, g24j, H⟩ := H
          refine e_putF dX3_init_23 fX3_4 q1189 rfl rfl (eFit_or _ _) g24 g24l g24j ?_
          replace H := H _ rfl
          generalize eUp h17 a0 _ = h25 at H ⊢
          refine e_aload_n dX3_init_26 rfl ?_
          obtain ⟨g27, g27n, H⟩ := H
          refine e_new (ci := 15) (N := 3) (C := RJ2) (T := TJ2) tyJ2 (fs := [.int 0, .null, .int 0]) dX3_init_27 rfl in_J2 tyJ2_ok q678 q204 q138 (by decide) (k1 := k - 1 - k8 - 1 - k20 - 1) (n1 := n - 3 - n9 - 3 - n21 - 3) (by omega) (by omega) ?_
          replace H := H _ rfl
          generalize eNw h25 _ = h26 at H ⊢
          refine e_dup dX3_init_30 rfl ?_
          obtain ⟨d31, k32, n33, Q34, g30, g30d, g30k, g30n, H⟩ := H
          refine e_callI (As := []) g30 dX3_init_31 wJ2_init rfl rfl rfl q679 q206 rfl g30d rfl (Nat.le_of_ble_eq_true rfl) (k1 := k - 1 - k8 - 1 - k20 - 1 - k32) (n1 := n - 3 - n9 - 3 - n21 - 3 - n33) (by omega) (by omega) ?_ ?_
          · rintro v h29 (⟨v9, e9, e8, hq⟩ | ⟨ci9, q9, e9, -⟩)
            · cases e9
              subst e8
              replace H := H h29 hq
              obtain ⟨fs35, g36, g36l, g36j, H⟩ := H
              refine e_putF dX3_init_34 fX3_5 q1192 rfl rfl (eFit_or _ _) g36 g36l g36j ?_
              replace H := H _ rfl
              generalize eUp h29 a0 _ = h37 at H ⊢
              refine e_aload_n dX3_init_37 rfl ?_
              refine e_iload_n dX3_init_38 rfl ?_
              obtain ⟨fs38, g39, g39l, g39j, H⟩ := H
              refine e_putF dX3_init_39 fX3_0 q1183 rfl rfl (eFit_i _) g39 g39l g39j ?_
              replace H := H _ rfl
              generalize eUp h37 a0 _ = h40 at H ⊢
              refine e_aload_n dX3_init_42 rfl ?_
              obtain ⟨fsg43, g43o, H⟩ := H
              obtain ⟨d44, k45, n46, Q47, g43, g43d, g43k, g43n, H⟩ := H
              refine e_callV (r := (RJ4, TJ4, 9)) (As := []) g43 dX3_init_43 wJ4_keySet q680 q681 q682 g43o rfl rfl g43d rfl (Nat.le_of_ble_eq_true rfl) (k1 := k - 1 - k8 - 1 - k20 - 1 - k32 - k45) (n1 := n - 3 - n9 - 3 - n21 - 3 - n33 - n46) (by omega) (by omega) ?_ ?_
              · rintro v h42 (⟨v9, e9, r41, e8, hq⟩ | ⟨ci9, q9, e9, -⟩)
                · cases e9
                  subst e8
                  replace H := H r41 h42 hq
                  obtain ⟨fsg50, g50o, H⟩ := H
                  obtain ⟨d51, k52, n53, Q54, g50, g50d, g50k, g50n, H⟩ := H
                  refine e_callF (i := 9) (r := (RJ18, TJ18, 1)) (As := []) g50 dX3_init_46 wJ18_iterator rfl rfl q702 q708 q706 g50o rfl rfl g50d rfl (Nat.le_of_ble_eq_true rfl) (k1 := k - 1 - k8 - 1 - k20 - 1 - k32 - k45 - k52) (n1 := n - 3 - n9 - 3 - n21 - 3 - n33 - n46 - n53) (by omega) (by omega) ?_ ?_
                  · rintro v h49 (⟨v9, e9, r48, e8, hq⟩ | ⟨ci9, q9, e9, -⟩)
                    · cases e9
                      subst e8
                      replace H := H r48 h49 hq
                      refine e_astore_n _ dX3_init_51 (by decide) rfl rfl ?_
                      exact E.less2 H (eS_s (eS_n (eS_s (eS_s (eS_n (eS_n eS_0))))))
                    · cases e9
                  · rintro q9 h9 (⟨v9, e9, -⟩ | ⟨ci9, q8, e9, -, -, hx⟩)
                    · cases e9
                    · exact hx.elim
                · cases e9
              · rintro q9 h9 (⟨v9, e9, -⟩ | ⟨ci9, q8, e9, -, -, hx⟩)
                · cases e9
                · exact hx.elim
            · cases e9
          · rintro q9 h9 (⟨v9, e9, -⟩ | ⟨ci9, q8, e9, -, -, hx⟩)
            · cases e9
            · exact hx.elim
        · cases e9
      · rintro q9 h9 (⟨v9, e9, -⟩ | ⟨ci9, q8, e9, -, -, hx⟩)
        · cases e9
        · exact hx.elim
    · cases e9
  · rintro q9 h9 (⟨v9, e9, -⟩ | ⟨ci9, q8, e9, -, -, hx⟩)
    · cases e9
    · exact hx.elim
set_option maxHeartbeats 4000000 in
theorem s_X3_init_52 (c : cC) (a0 : Nat) (a2 : Nat) (a3 : Nat) (h : eH) (k n : Nat) (H : ∃ fs8 : List Value, h.1 a3 = some (.inr (21, fs8)) ∧ ∃ (d4 k5 n6 : Nat) (Q7 : Int32 → eH → Prop), cI c.1 c.2.1 c.2.2.1 d4 mJ19_hasNext [.ref a3] h k5 n6 Q7 cX0 ∧ d4 + 1 ≤ c.2.2.2.1 ∧ k5 ≤ k ∧ n6 ≤ n ∧ (∀ (r1 : Int32) (h2 : eH), Q7 r1 h2 → ((r1 = 0 → ∃ x9 : Nat, fV h2 a0 3 1 (.ref x9) ∧ (∃ fs8 : List Value, h2.1 x9 = some (.inr (15, fs8)) ∧ ∃ (d14 k15 n16 : Nat) (Q17 : Int32 → eH → Prop), cI c.1 c.2.1 c.2.2.1 d14 mJ2_size [.ref x9] h2 k15 n16 Q17 cX0 ∧ d14 + 1 ≤ c.2.2.2.1 ∧ k15 ≤ k - k5 ∧ n16 ≤ n - n6 ∧ (∀ (r11 : Int32) (h12 : eH), Q17 r11 h12 → (∃ (N20 K21 : Nat), r11 = nI N20 ∧ r11 = nI K21 ∧ N20 ≤ 10000 ∧ K21 ≤ 10000 ∧ 1 + N20 ≤ k - k5 - k15 ∧ N20 + N20 * K21 ≤ n - n6 - n16 ∧ ∀ h18 : eH, h18 = eMw c.2.2.1 h12 N20 K21 → (∃ fs22 : List Value, h18.1 a0 = some (.inr (3, fs22)) ∧ c.2.1 ≤ a0 ∧ 2 < fs22.length ∧ ∀ h24 : eH, h24 = eUp h18 a0 (.inr (3, fs22.set 2 (.ref h12.2))) → (∃ N27 : Nat, r11 = nI N27 ∧ N27 ≤ 10000000 ∧ 1 ≤ k - k5 - k15 - (1 + N20) ∧ N27 ≤ n - n6 - n16 - (N20 + N20 * K21) ∧ ∀ h25 : eH, h25 = eNw h24 (.inl (c.2.2.1.2.1 0, N27, .inl (fun _ => 0))) → (∃ fs28 : List Value, h25.1 a0 = some (.inr (3, fs28)) ∧ c.2.1 ≤ a0 ∧ 3 < fs28.length ∧ ∀ h30 : eH, h30 = eUp h25 a0 (.inr (3, fs28.set 3 (.ref h24.2))) → (h_X3_init_117 c a0 a2 r11 (0 : Int32) h30 (k - k5 - k15 - (1 + N20) - 1) (n - n6 - n16 - (N20 + N20 * K21) - N27))))))))) ∧ (¬ r1 = 0 → ∃ fs8 : List Value, h2.1 a3 = some (.inr (21, fs8)) ∧ ∃ (d34 k35 n36 : Nat) (Q37 : Nat → eH → Prop), cR c.1 c.2.1 c.2.2.1 d34 mJ20_next [.ref a3] h2 k35 n36 Q37 cX0 ∧ d34 + 1 ≤ c.2.2.2.1 ∧ k35 ≤ k - k5 ∧ n36 ≤ n - n6 ∧ (∀ (r31 : Nat) (h32 : eH), Q37 r31 h32 → (eCs c.2.2.1 h32 r31 "TroupeSums$Row" ∧ (∃ x39 : Nat, fV h32 a0 3 1 (.ref x39) ∧ (∃ fs8 : List Value, h32.1 x39 = some (.inr (15, fs8)) ∧ ∃ (d44 k45 n46 : Nat) (Q47 : Int32 → eH → Prop), cI c.1 c.2.1 c.2.2.1 d44 mJ2_add [.ref x39, .ref r31] h32 k45 n46 Q47 cX0 ∧ d44 + 1 ≤ c.2.2.2.1 ∧ k45 ≤ k - k5 - k35 ∧ n46 ≤ n - n6 - n36 ∧ (∀ (r41 : Int32) (h42 : eH), Q47 r41 h42 → (h_X3_init_52 c a0 a2 a3 h42 (k - k5 - k35 - k45) (n - n6 - n36 - n46))))))))))) : h_X3_init_52 c a0 a2 a3 h k n := by
  refine e_aload_n dX3_init_52 rfl ?_
  obtain ⟨fsg3, g3o, H⟩ := H
  obtain ⟨d4, k5, n6, Q7, g3, g3d, g3k, g3n, H⟩ := H
  refine e_callF (i := 10) (r := (RJ20, TJ20, 4)) (As := []) g3 dX3_init_53 wJ19_hasNext rfl rfl q747 q759 q757 g3o rfl rfl g3d rfl (Nat.le_of_ble_eq_true rfl) (k1 := k - k5) (n1 := n - n6) (by omega) (by omega) ?_ ?_
  · rintro v h2 (⟨v9, e9, r1, e8, hq⟩ | ⟨ci9, q9, e9, -⟩)
    · cases e9
      subst e8
      replace H := H r1 h2 hq
      refine e_if_eq 87 dX3_init_58 (by decide) (fun g8 => ?_) (fun g8 => ?_)
      · replace H := H.1 g8
        refine e_aload_n dX3_init_87 rfl ?_
        obtain ⟨x9, ⟨fsx9, g10, g10v⟩, H⟩ := H
        refine e_get dX3_init_88 fX3_1 q1184 g10 g10v ?_
        obtain ⟨fsg13, g13o, H⟩ := H
        obtain ⟨d14, k15, n16, Q17, g13, g13d, g13k, g13n, H⟩ := H
        refine e_callF (i := 3) (r := (RJ2, TJ2, 3)) (As := []) g13 dX3_init_91 wJ2_size rfl rfl q871 q876 q874 g13o rfl rfl g13d rfl (Nat.le_of_ble_eq_true rfl) (k1 := k - k5 - k15) (n1 := n - n6 - n16) (by omega) (by omega) ?_ ?_
        · rintro v h12 (⟨v9, e9, r11, e8, hq⟩ | ⟨ci9, q9, e9, -⟩)
          · cases e9
            subst e8
            replace H := H r11 h12 hq
            refine e_istore_n _ dX3_init_96 (by decide) rfl rfl ?_
            refine e_aload_n dX3_init_97 rfl ?_
            refine e_iload_n dX3_init_98 rfl ?_
            refine e_iload_n dX3_init_99 rfl ?_
            obtain ⟨N20, K21, g19i, g19j, g19b, g19c, g19, g19n, H⟩ := H
            refine c_multinew dX3_init_100 q879 q880 q303 g19i g19j g19b g19c g19 g19n ?_
            replace H := H _ rfl
            generalize eMw _ h12 _ _ = h18 at H ⊢
            obtain ⟨fs22, g23, g23l, g23j, H⟩ := H
            refine e_putF dX3_init_104 fX3_2 q1186 rfl rfl (eFit_ar _ _) g23 g23l g23j ?_
            replace H := H _ rfl
            generalize eUp h18 a0 _ = h24 at H ⊢
            refine e_aload_n dX3_init_107 rfl ?_
            refine e_iload_n dX3_init_108 rfl ?_
            obtain ⟨N27, g26i, g26b, g26, g26n, H⟩ := H
            refine c_newarrayI dX3_init_109 q303 g26i g26b g26 g26n ?_
            replace H := H _ rfl
            generalize eNw h24 _ = h25 at H ⊢
            obtain ⟨fs28, g29, g29l, g29j, H⟩ := H
            refine e_putF dX3_init_111 fX3_3 q1188 rfl rfl (eFit_ar _ _) g29 g29l g29j ?_
            replace H := H _ rfl
            generalize eUp h25 a0 _ = h30 at H ⊢
            refine e_iconst (0) dX3_init_114 (by decide) ?_
            refine e_istore _ dX3_init_115 (by decide) rfl rfl ?_
            exact E.less2 H (eS_s (eS_n (eS_s (eS_s (eS_s (eS_n eS_0))))))
          · cases e9
        · rintro q9 h9 (⟨v9, e9, -⟩ | ⟨ci9, q8, e9, -, -, hx⟩)
          · cases e9
          · exact hx.elim
      · replace H := H.2 g8
        refine e_aload_n dX3_init_61 rfl ?_
        obtain ⟨fsg33, g33o, H⟩ := H
        obtain ⟨d34, k35, n36, Q37, g33, g33d, g33k, g33n, H⟩ := H
        refine e_callF (i := 11) (r := (RJ20, TJ20, 4)) (As := []) g33 dX3_init_62 wJ20_next rfl rfl q763 q777 q775 g33o rfl rfl g33d rfl (Nat.le_of_ble_eq_true rfl) (k1 := k - k5 - k35) (n1 := n - n6 - n36) (by omega) (by omega) ?_ ?_
        · rintro v h32 (⟨v9, e9, r31, e8, hq⟩ | ⟨ci9, q9, e9, -⟩)
          · cases e9
            subst e8
            replace H := H r31 h32 hq
            obtain ⟨g38, H⟩ := H
            refine c_castR dX3_init_67 q789 g38 ?_
            refine e_astore _ dX3_init_70 (by decide) rfl rfl ?_
            refine e_aload_n dX3_init_72 rfl ?_
            obtain ⟨x39, ⟨fsx39, g40, g40v⟩, H⟩ := H
            refine e_get dX3_init_73 fX3_1 q1184 g40 g40v ?_
            refine e_aload dX3_init_76 rfl ?_
            obtain ⟨fsg43, g43o, H⟩ := H
            obtain ⟨d44, k45, n46, Q47, g43, g43d, g43k, g43n, H⟩ := H
            refine e_callF (i := 5) (r := (RJ2, TJ2, 3)) (As := [.ref r31]) g43 dX3_init_78 wJ2_add rfl rfl q791 q797 q795 g43o rfl rfl g43d rfl (Nat.le_of_ble_eq_true rfl) (k1 := k - k5 - k35 - k45) (n1 := n - n6 - n36 - n46) (by omega) (by omega) ?_ ?_
            · rintro v h42 (⟨v9, e9, r41, e8, hq⟩ | ⟨ci9, q9, e9, -⟩)
              · cases e9
                subst e8
                replace H := H r41 h42 hq
                refine e_pop dX3_init_83 rfl ?_
                refine e_goto 52 dX3_init_84 (by decide) ?_
                exact E.less2 H (eS_s (eS_n (eS_s (eS_s (eS_n (eS_n eS_0))))))
              · cases e9
            · rintro q9 h9 (⟨v9, e9, -⟩ | ⟨ci9, q8, e9, -, -, hx⟩)
              · cases e9
              · exact hx.elim
          · cases e9
        · rintro q9 h9 (⟨v9, e9, -⟩ | ⟨ci9, q8, e9, -, -, hx⟩)
          · cases e9
          · exact hx.elim
    · cases e9
  · rintro q9 h9 (⟨v9, e9, -⟩ | ⟨ci9, q8, e9, -, -, hx⟩)
    · cases e9
    · exact hx.elim
set_option maxHeartbeats 4000000 in
theorem s_X3_init_117 (c : cC) (a0 : Nat) (a2 : Nat) (a3 : Int32) (a4 : Int32) (h : eH) (k n : Nat) (H : (a3 ≤ a4 → h_X3_init_156 c a0 a2 a3 (0 : Int32) h k n) ∧ (¬ a3 ≤ a4 → ∃ x2 : Nat, fV h a0 3 1 (.ref x2) ∧ (∃ fs8 : List Value, h.1 x2 = some (.inr (15, fs8)) ∧ ∃ (d7 k8 n9 : Nat) (Q10 : Nat → eH → Prop), cR c.1 c.2.1 c.2.2.1 d7 mJ2_get [.ref x2, .int a4] h k8 n9 Q10 cX0 ∧ d7 + 1 ≤ c.2.2.2.1 ∧ k8 ≤ k ∧ n9 ≤ n ∧ (∀ (r4 : Nat) (h5 : eH), Q10 r4 h5 → (eCs c.2.2.1 h5 r4 "TroupeSums$Row" ∧ (∃ (d15 k16 n17 : Nat) (Q18 : Nat → eH → Prop), cR c.1 c.2.1 c.2.2.1 d15 mJ6_valueOf [.int a4] h5 k16 n17 Q18 cX0 ∧ d15 + 1 ≤ c.2.2.2.1 ∧ k16 ≤ k - k8 ∧ n17 ≤ n - n9 ∧ (∀ (r12 : Nat) (h13 : eH), Q18 r12 h13 → (∃ fs8 : List Value, h13.1 a2 = some (.inr (16, fs8)) ∧ ∃ (d22 k23 n24 : Nat) (Q25 : Option Nat → eH → Prop), cQ c.1 c.2.1 c.2.2.1 d22 mJ4_put [.ref a2, .ref r4, .ref r12] h13 k23 n24 Q25 cX0 ∧ d22 + 1 ≤ c.2.2.2.1 ∧ k23 ≤ k - k8 - k16 ∧ n24 ≤ n - n9 - n17 ∧ (∀ (r19 : Option Nat) (h20 : eH), Q25 r19 h20 → (h_X3_init_117 c a0 a2 a3 (a4 + 1) h20 (k - k8 - k16 - k23) (n - n9 - n17 - n24))))))))))) : h_X3_init_117 c a0 a2 a3 a4 h k n := by
  refine e_iload dX3_init_117 rfl ?_
  refine e_iload_n dX3_init_119 rfl ?_
  refine e_icmp_ge 153 dX3_init_120 (by decide) (fun g1 => ?_) (fun g1 => ?_)
  · replace H := H.1 g1
    refine e_iconst (0) dX3_init_153 (by decide) ?_
    refine e_istore _ dX3_init_154 (by decide) rfl rfl ?_
    exact E.less2 H (eS_s (eS_n (eS_s (eS_s (eS_s (eS_n eS_0))))))
  · replace H := H.2 g1
    refine e_aload_n dX3_init_123 rfl ?_
    refine e_aload_n dX3_init_124 rfl ?_
    obtain ⟨x2, ⟨fsx2, g3, g3v⟩, H⟩ := H
    refine e_get dX3_init_125 fX3_1 q1184 g3 g3v ?_
    refine e_iload dX3_init_128 rfl ?_
    obtain ⟨fsg6, g6o, H⟩ := H
    obtain ⟨d7, k8, n9, Q10, g6, g6d, g6k, g6n, H⟩ := H
    refine e_callF (i := 4) (r := (RJ2, TJ2, 3)) (As := [.int a4]) g6 dX3_init_130 wJ2_get rfl rfl q882 q887 q885 g6o rfl rfl g6d rfl (Nat.le_of_ble_eq_true rfl) (k1 := k - k8) (n1 := n - n9) (by omega) (by omega) ?_ ?_
    · rintro v h5 (⟨v9, e9, r4, e8, hq⟩ | ⟨ci9, q9, e9, -⟩)
      · cases e9
        subst e8
        replace H := H r4 h5 hq
        obtain ⟨g11, H⟩ := H
        refine c_castR dX3_init_135 q789 g11 ?_
        refine e_iload dX3_init_138 rfl ?_
        obtain ⟨d15, k16, n17, Q18, g14, g14d, g14k, g14n, H⟩ := H
        refine e_callS (As := [.int a4]) g14 dX3_init_140 wJ6_valueOf q900 q305 rfl g14d rfl (Nat.le_of_ble_eq_true rfl) (k1 := k - k8 - k16) (n1 := n - n9 - n17) (by omega) (by omega) ?_ ?_
        · rintro v h13 (⟨v9, e9, r12, e8, hq⟩ | ⟨ci9, q9, e9, -⟩)
          · cases e9
            subst e8
            replace H := H r12 h13 hq
            obtain ⟨fsg21, g21o, H⟩ := H
            obtain ⟨d22, k23, n24, Q25, g21, g21d, g21k, g21n, H⟩ := H
            refine e_callV (r := (RJ4, TJ4, 9)) (As := [.ref r4, .ref r12]) g21 dX3_init_143 wJ4_put q901 q325 q326 g21o rfl rfl g21d rfl (Nat.le_of_ble_eq_true rfl) (k1 := k - k8 - k16 - k23) (n1 := n - n9 - n17 - n24) (by omega) (by omega) ?_ ?_
            · rintro v h20 (⟨v9, e9, r19, e8, hq⟩ | ⟨ci9, q9, e9, -⟩)
              · cases e9
                subst e8
                replace H := H r19 h20 hq
                refine e_pop dX3_init_146 (eRfC _) ?_
                refine e_iinc (a4 + 1) _ dX3_init_147 rfl rfl (by decide) rfl rfl ?_
                refine e_goto 117 dX3_init_150 (by decide) ?_
                exact E.less2 H (eS_s (eS_n (eS_s (eS_s (eS_s (eS_n eS_0))))))
              · cases e9
            · rintro q9 h9 (⟨v9, e9, -⟩ | ⟨ci9, q8, e9, -, -, hx⟩)
              · cases e9
              · exact hx.elim
          · cases e9
        · rintro q9 h9 (⟨v9, e9, -⟩ | ⟨ci9, q8, e9, -, -, hx⟩)
          · cases e9
          · exact hx.elim
      · cases e9
    · rintro q9 h9 (⟨v9, e9, -⟩ | ⟨ci9, q8, e9, -, -, hx⟩)
      · cases e9
      · exact hx.elim
set_option maxHeartbeats 4000000 in
theorem s_X3_init_156 (c : cC) (a0 : Nat) (a2 : Nat) (a3 : Int32) (a4 : Int32) (h : eH) (k n : Nat) (H : (a3 ≤ a4 → ∃ fs8 : List Value, h.1 a0 = some (.inr (3, fs8)) ∧ ∃ (d5 k6 n7 : Nat) (Q8 : eH → Prop), cV c.1 c.2.1 c.2.2.1 d5 mX3_findSubgroups [.ref a0] h k6 n7 Q8 cX0 ∧ d5 + 1 ≤ c.2.2.2.1 ∧ k6 ≤ k ∧ n7 ≤ n ∧ (∀ h3 : eH, Q8 h3 → (∃ x9 : Nat, fV h3 a0 3 4 (.ref x9) ∧ (∃ fs8 : List Value, h3.1 x9 = some (.inr (15, fs8)) ∧ ∃ (d14 k15 n16 : Nat) (Q17 : Int32 → eH → Prop), cI c.1 c.2.1 c.2.2.1 d14 mJ2_size [.ref x9] h3 k15 n16 Q17 cX0 ∧ d14 + 1 ≤ c.2.2.2.1 ∧ k15 ≤ k - k6 ∧ n16 ≤ n - n7 ∧ (∀ (r11 : Int32) (h12 : eH), Q17 r11 h12 → (∃ N20 : Nat, r11 = nI N20 ∧ N20 ≤ 10000000 ∧ 1 ≤ k - k6 - k15 ∧ N20 ≤ n - n7 - n16 ∧ ∀ h18 : eH, h18 = eNw h12 (.inl (c.2.2.1.2.1 0, N20, .inl (fun _ => 0))) → (∃ fs21 : List Value, h18.1 a0 = some (.inr (3, fs21)) ∧ c.2.1 ≤ a0 ∧ 6 < fs21.length ∧ ∀ h23 : eH, h23 = eUp h18 a0 (.inr (3, fs21.set 6 (.ref h12.2))) → (∃ fs8 : List Value, h23.1 a0 = some (.inr (3, fs8)) ∧ ∃ (d27 k28 n29 : Nat) (Q30 : eH → Prop), cV c.1 c.2.1 c.2.2.1 d27 mX3_findSorts [.ref a0] h23 k28 n29 Q30 cX0 ∧ d27 + 1 ≤ c.2.2.2.1 ∧ k28 ≤ k - k6 - k15 - 1 ∧ n29 ≤ n - n7 - n16 - N20 ∧ (∀ h25 : eH, Q30 h25 → (∃ x31 : Nat, fV h25 a0 3 5 (.ref x31) ∧ (∃ fs8 : List Value, h25.1 x31 = some (.inr (15, fs8)) ∧ ∃ (d36 k37 n38 : Nat) (Q39 : Int32 → eH → Prop), cI c.1 c.2.1 c.2.2.1 d36 mJ2_size [.ref x31] h25 k37 n38 Q39 cX0 ∧ d36 + 1 ≤ c.2.2.2.1 ∧ k37 ≤ k - k6 - k15 - 1 - k28 ∧ n38 ≤ n - n7 - n16 - N20 - n29 ∧ (∀ (r33 : Int32) (h34 : eH), Q39 r33 h34 → (∃ x40 : Nat, fV h34 a0 3 5 (.ref x40) ∧ (∃ fs8 : List Value, h34.1 x40 = some (.inr (15, fs8)) ∧ ∃ (d45 k46 n47 : Nat) (Q48 : Int32 → eH → Prop), cI c.1 c.2.1 c.2.2.1 d45 mJ2_size [.ref x40] h34 k46 n47 Q48 cX0 ∧ d45 + 1 ≤ c.2.2.2.1 ∧ k46 ≤ k - k6 - k15 - 1 - k28 - k37 ∧ n47 ≤ n - n7 - n16 - N20 - n29 - n38 ∧ (∀ (r42 : Int32) (h43 : eH), Q48 r42 h43 → (∃ (N51 K52 : Nat), r33 = nI N51 ∧ r42 = nI K52 ∧ N51 ≤ 10000 ∧ K52 ≤ 10000 ∧ 1 + N51 ≤ k - k6 - k15 - 1 - k28 - k37 - k46 ∧ N51 + N51 * K52 ≤ n - n7 - n16 - N20 - n29 - n38 - n47 ∧ ∀ h49 : eH, h49 = eMw c.2.2.1 h43 N51 K52 → (∃ fs53 : List Value, h49.1 a0 = some (.inr (3, fs53)) ∧ c.2.1 ≤ a0 ∧ 7 < fs53.length ∧ ∀ h55 : eH, h55 = eUp h49 a0 (.inr (3, fs53.set 7 (.ref h43.2))) → (h_X3_init_308 c a0 (0 : Int32) h55 (k - k6 - k15 - 1 - k28 - k37 - k46 - (1 + N51)) (n - n7 - n16 - N20 - n29 - n38 - n47 - (N51 + N51 * K52)))))))))))))))))))) ∧ (¬ a3 ≤ a4 → h_X3_init_165 c a0 a2 a3 a4 (0 : Int32) h k n)) : h_X3_init_156 c a0 a2 a3 a4 h k n := by
  refine e_iload dX3_init_156 rfl ?_
  refine e_iload_n dX3_init_158 rfl ?_
  refine e_icmp_ge 256 dX3_init_159 (by decide) (fun g1 => ?_) (fun g1 => ?_)
  · replace H := H.1 g1
    refine e_aload_n dX3_init_256 rfl ?_
    obtain ⟨fsg4, g4o, H⟩ := H
    obtain ⟨d5, k6, n7, Q8, g4, g4d, g4k, g4n, H⟩ := H
    refine e_callV (r := (RX3, TX3, 8)) (As := []) g4 dX3_init_257 wX3_findSubgroups q924 q926 qs9 g4o rfl rfl g4d rfl (Nat.le_of_ble_eq_true rfl) (k1 := k - k6) (n1 := n - n7) (by omega) (by omega) ?_ ?_
    · rintro v h3 (⟨v9, e9, e8, hq⟩ | ⟨ci9, q9, e9, -⟩)
      · cases e9
        subst e8
        replace H := H h3 hq
        refine e_aload_n dX3_init_260 rfl ?_
        refine e_aload_n dX3_init_261 rfl ?_
        obtain ⟨x9, ⟨fsx9, g10, g10v⟩, H⟩ := H
        refine e_get dX3_init_262 fX3_4 q1189 g10 g10v ?_
        obtain ⟨fsg13, g13o, H⟩ := H
        obtain ⟨d14, k15, n16, Q17, g13, g13d, g13k, g13n, H⟩ := H
        refine e_callF (i := 3) (r := (RJ2, TJ2, 3)) (As := []) g13 dX3_init_265 wJ2_size rfl rfl q871 q876 q874 g13o rfl rfl g13d rfl (Nat.le_of_ble_eq_true rfl) (k1 := k - k6 - k15) (n1 := n - n7 - n16) (by omega) (by omega) ?_ ?_
        · rintro v h12 (⟨v9, e9, r11, e8, hq⟩ | ⟨ci9, q9, e9, -⟩)
          · cases e9
            subst e8
            replace H := H r11 h12 hq
            obtain ⟨N20, g19i, g19b, g19, g19n, H⟩ := H
            refine c_newarrayI dX3_init_270 q303 g19i g19b g19 g19n ?_
            replace H := H _ rfl
            generalize eNw h12 _ = h18 at H ⊢
            obtain ⟨fs21, g22, g22l, g22j, H⟩ := H
            refine e_putF dX3_init_272 fX3_6 q1196 rfl rfl (eFit_ar _ _) g22 g22l g22j ?_
            replace H := H _ rfl
            generalize eUp h18 a0 _ = h23 at H ⊢
            refine e_aload_n dX3_init_275 rfl ?_
            obtain ⟨fsg26, g26o, H⟩ := H
            obtain ⟨d27, k28, n29, Q30, g26, g26d, g26k, g26n, H⟩ := H
            refine e_callV (r := (RX3, TX3, 8)) (As := []) g26 dX3_init_276 wX3_findSorts q990 q992 qs10 g26o rfl rfl g26d rfl (Nat.le_of_ble_eq_true rfl) (k1 := k - k6 - k15 - 1 - k28) (n1 := n - n7 - n16 - N20 - n29) (by omega) (by omega) ?_ ?_
            · rintro v h25 (⟨v9, e9, e8, hq⟩ | ⟨ci9, q9, e9, -⟩)
              · cases e9
                subst e8
                replace H := H h25 hq
                refine e_aload_n dX3_init_279 rfl ?_
                refine e_aload_n dX3_init_280 rfl ?_
                obtain ⟨x31, ⟨fsx31, g32, g32v⟩, H⟩ := H
                refine e_get dX3_init_281 fX3_5 q1192 g32 g32v ?_
                obtain ⟨fsg35, g35o, H⟩ := H
                obtain ⟨d36, k37, n38, Q39, g35, g35d, g35k, g35n, H⟩ := H
                refine e_callF (i := 3) (r := (RJ2, TJ2, 3)) (As := []) g35 dX3_init_284 wJ2_size rfl rfl q871 q876 q874 g35o rfl rfl g35d rfl (Nat.le_of_ble_eq_true rfl) (k1 := k - k6 - k15 - 1 - k28 - k37) (n1 := n - n7 - n16 - N20 - n29 - n38) (by omega) (by omega) ?_ ?_
                · rintro v h34 (⟨v9, e9, r33, e8, hq⟩ | ⟨ci9, q9, e9, -⟩)
                  · cases e9
                    subst e8
                    replace H := H r33 h34 hq
                    refine e_aload_n dX3_init_289 rfl ?_
                    obtain ⟨x40, ⟨fsx40, g41, g41v⟩, H⟩ := H
                    refine e_get dX3_init_290 fX3_5 q1192 g41 g41v ?_
                    obtain ⟨fsg44, g44o, H⟩ := H
                    obtain ⟨d45, k46, n47, Q48, g44, g44d, g44k, g44n, H⟩ := H
                    refine e_callF (i := 3) (r := (RJ2, TJ2, 3)) (As := []) g44 dX3_init_293 wJ2_size rfl rfl q871 q876 q874 g44o rfl rfl g44d rfl (Nat.le_of_ble_eq_true rfl) (k1 := k - k6 - k15 - 1 - k28 - k37 - k46) (n1 := n - n7 - n16 - N20 - n29 - n38 - n47) (by omega) (by omega) ?_ ?_
                    · rintro v h43 (⟨v9, e9, r42, e8, hq⟩ | ⟨ci9, q9, e9, -⟩)
                      · cases e9
                        subst e8
                        replace H := H r42 h43 hq
                        obtain ⟨N51, K52, g50i, g50j, g50b, g50c, g50, g50n, H⟩ := H
                        refine c_multinew dX3_init_298 q879 q880 q303 g50i g50j g50b g50c g50 g50n ?_
                        replace H := H _ rfl
                        generalize eMw _ h43 _ _ = h49 at H ⊢
                        obtain ⟨fs53, g54, g54l, g54j, H⟩ := H
                        refine e_putF dX3_init_302 fX3_7 q1197 rfl rfl (eFit_ar _ _) g54 g54l g54j ?_
                        replace H := H _ rfl
                        generalize eUp h49 a0 _ = h55 at H ⊢
                        refine e_iconst (0) dX3_init_305 (by decide) ?_
                        refine e_istore _ dX3_init_306 (by decide) rfl rfl ?_
                        exact E.less2 H (eS_s (eS_n (eS_n (eS_n (eS_s (eS_n eS_0))))))
                      · cases e9
                    · rintro q9 h9 (⟨v9, e9, -⟩ | ⟨ci9, q8, e9, -, -, hx⟩)
                      · cases e9
                      · exact hx.elim
                  · cases e9
                · rintro q9 h9 (⟨v9, e9, -⟩ | ⟨ci9, q8, e9, -, -, hx⟩)
                  · cases e9
                  · exact hx.elim
              · cases e9
            · rintro q9 h9 (⟨v9, e9, -⟩ | ⟨ci9, q8, e9, -, -, hx⟩)
              · cases e9
              · exact hx.elim
          · cases e9
        · rintro q9 h9 (⟨v9, e9, -⟩ | ⟨ci9, q8, e9, -, -, hx⟩)
          · cases e9
          · exact hx.elim
      · cases e9
    · rintro q9 h9 (⟨v9, e9, -⟩ | ⟨ci9, q8, e9, -, -, hx⟩)
      · cases e9
      · exact hx.elim
  · replace H := H.2 g1
    refine e_iconst (0) dX3_init_162 (by decide) ?_
    refine e_istore _ dX3_init_163 (by decide) rfl rfl ?_
    exact E.less2 H (eS_s (eS_n (eS_s (eS_s (eS_s (eS_s eS_0))))))
set_option maxHeartbeats 4000000 in
theorem s_X3_init_165 (c : cC) (a0 : Nat) (a2 : Nat) (a3 : Int32) (a4 : Int32) (a5 : Int32) (h : eH) (k n : Nat) (H : (a3 ≤ a5 → h_X3_init_156 c a0 a2 a3 (a4 + 1) h k n) ∧ (¬ a3 ≤ a5 → ∃ x2 : Nat, fV h a0 3 2 (.ref x2) ∧ (∃ (N4 : Nat) (f5 : Nat → Option Nat), h.1 x2 = some (.inl (c.2.2.1.2.1 4, N4, .inr (.inr (.inr (.inr f5))))) ∧ vp_in a4 N4 ∧ ∃ r7 : Nat, f5 a4.toNatClampNeg = some r7 ∧ (∃ x8 : Nat, fV h a0 3 1 (.ref x8) ∧ (∃ fs8 : List Value, h.1 x8 = some (.inr (15, fs8)) ∧ ∃ (d13 k14 n15 : Nat) (Q16 : Nat → eH → Prop), cR c.1 c.2.1 c.2.2.1 d13 mJ2_get [.ref x8, .int a4] h k14 n15 Q16 cX0 ∧ d13 + 1 ≤ c.2.2.2.1 ∧ k14 ≤ k ∧ n15 ≤ n ∧ (∀ (r10 : Nat) (h11 : eH), Q16 r10 h11 → (eCs c.2.2.1 h11 r10 "TroupeSums$Row" ∧ (∃ x18 : Nat, fV h11 a0 3 1 (.ref x18) ∧ (∃ fs8 : List Value, h11.1 x18 = some (.inr (15, fs8)) ∧ ∃ (d23 k24 n25 : Nat) (Q26 : Nat → eH → Prop), cR c.1 c.2.1 c.2.2.1 d23 mJ2_get [.ref x18, .int a5] h11 k24 n25 Q26 cX0 ∧ d23 + 1 ≤ c.2.2.2.1 ∧ k24 ≤ k - k14 ∧ n25 ≤ n - n15 ∧ (∀ (r20 : Nat) (h21 : eH), Q26 r20 h21 → (eCs c.2.2.1 h21 r20 "TroupeSums$Row" ∧ (∃ fs8 : List Value, h21.1 r10 = some (.inr (2, fs8)) ∧ ∃ (d31 k32 n33 : Nat) (Q34 : Nat → eH → Prop), cR c.1 c.2.1 c.2.2.1 d31 mX2_then [.ref r10, .ref r20] h21 k32 n33 Q34 cX0 ∧ d31 + 1 ≤ c.2.2.2.1 ∧ k32 ≤ k - k14 - k24 ∧ n33 ≤ n - n15 - n25 ∧ (∀ (r28 : Nat) (h29 : eH), Q34 r28 h29 → (∃ fs8 : List Value, h29.1 a2 = some (.inr (16, fs8)) ∧ ∃ (d38 k39 n40 : Nat) (Q41 : Option Nat → eH → Prop), cQ c.1 c.2.1 c.2.2.1 d38 mJ4_get [.ref a2, .ref r28] h29 k39 n40 Q41 cX0 ∧ d38 + 1 ≤ c.2.2.2.1 ∧ k39 ≤ k - k14 - k24 - k32 ∧ n40 ≤ n - n15 - n25 - n33 ∧ (∀ (r35 : Option Nat) (h36 : eH), Q41 r35 h36 → ((∀ o43 : Nat, r35 = some o43 → eCs c.2.2.1 h36 o43 "java/lang/Integer") ∧ (∃ o44 : Nat, r35 = some o44 ∧ ∃ fs8 : List Value, h36.1 o44 = some (.inr (17, fs8)) ∧ ∃ (d48 k49 n50 : Nat) (Q51 : Int32 → eH → Prop), cI c.1 c.2.1 c.2.2.1 d48 mJ6_intValue [.ref o44] h36 k49 n50 Q51 cX0 ∧ d48 + 1 ≤ c.2.2.2.1 ∧ k49 ≤ k - k14 - k24 - k32 - k39 ∧ n50 ≤ n - n15 - n25 - n33 - n40 ∧ (∀ (r45 : Int32) (h46 : eH), Q51 r45 h46 → (∃ (N52 : Nat) (f53 : Nat → Int32), h46.1 r7 = some (.inl (c.2.2.1.2.1 0, N52, .inl f53)) ∧ c.2.1 ≤ r7 ∧ vp_in a5 N52 ∧ ∀ h55 : eH, h55 = eUp h46 r7 (.inl (c.2.2.1.2.1 0, N52, .inl (va_up f53 a5.toNatClampNeg r45))) → (∃ x56 : Nat, fV h55 a0 3 2 (.ref x56) ∧ (∃ (N58 : Nat) (f59 : Nat → Option Nat), h55.1 x56 = some (.inl (c.2.2.1.2.1 4, N58, .inr (.inr (.inr (.inr f59))))) ∧ vp_in a4 N58 ∧ ∃ r61 : Nat, f59 a4.toNatClampNeg = some r61 ∧ (∃ (N62 : Nat) (f63 : Nat → Int32), h55.1 r61 = some (.inl (c.2.2.1.2.1 0, N62, .inl f63)) ∧ vp_in a5 N62 ∧ ((¬ (f63 a5.toNatClampNeg) = 0 → h_X3_init_244 c a0 a2 a3 a4 a5 h55 (k - k14 - k24 - k32 - k39 - k49) (n - n15 - n25 - n33 - n40 - n50)) ∧ ((f63 a5.toNatClampNeg) = 0 → ∃ x66 : Nat, fV h55 a0 3 3 (.ref x66) ∧ (∃ (N68 : Nat) (f69 : Nat → Int32), h55.1 x66 = some (.inl (c.2.2.1.2.1 0, N68, .inl f69)) ∧ c.2.1 ≤ x66 ∧ vp_in a4 N68 ∧ ∀ h71 : eH, h71 = eUp h55 x66 (.inl (c.2.2.1.2.1 0, N68, .inl (va_up f69 a4.toNatClampNeg a5))) → (h_X3_init_244 c a0 a2 a3 a4 a5 h71 (k - k14 - k24 - k32 - k39 - k49) (n - n15 - n25 - n33 - n40 - n50))))))))))))))))))))))))))) : h_X3_init_165 c a0 a2 a3 a4 a5 h k n := by
  refine e_iload dX3_init_165 rfl ?_
  refine e_iload_n dX3_init_167 rfl ?_
  refine e_icmp_ge 250 dX3_init_168 (by decide) (fun g1 => ?_) (fun g1 => ?_)
  · replace H := H.1 g1
    refine e_iinc (a4 + 1) _ dX3_init_250 rfl rfl (by decide) rfl rfl ?_
    refine e_goto 156 dX3_init_253 (by decide) ?_
    exact E.less2 H (eS_s (eS_n (eS_s (eS_s (eS_s (eS_n eS_0))))))
  · replace H := H.2 g1
    refine e_aload_n dX3_init_171 rfl ?_
    obtain ⟨x2, ⟨fsx2, g3, g3v⟩, H⟩ := H
    refine e_get dX3_init_172 fX3_2 q1186 g3 g3v ?_
    refine e_iload dX3_init_175 rfl ?_
    obtain ⟨N4, f5, g6, g6i, r7, g6r, H⟩ := H
    refine e_aaload 4 dX3_init_177 (fun _ => rfl) rfl g6 g6i ?_
    rw [g6r]
    refine e_iload dX3_init_178 rfl ?_
    refine e_aload_n dX3_init_180 rfl ?_
    refine e_aload_n dX3_init_181 rfl ?_
    obtain ⟨x8, ⟨fsx8, g9, g9v⟩, H⟩ := H
    refine e_get dX3_init_182 fX3_1 q1184 g9 g9v ?_
    refine e_iload dX3_init_185 rfl ?_
    obtain ⟨fsg12, g12o, H⟩ := H
    obtain ⟨d13, k14, n15, Q16, g12, g12d, g12k, g12n, H⟩ := H
    refine e_callF (i := 4) (r := (RJ2, TJ2, 3)) (As := [.int a4]) g12 dX3_init_187 wJ2_get rfl rfl q882 q887 q885 g12o rfl rfl g12d rfl (Nat.le_of_ble_eq_true rfl) (k1 := k - k14) (n1 := n - n15) (by omega) (by omega) ?_ ?_
    · rintro v h11 (⟨v9, e9, r10, e8, hq⟩ | ⟨ci9, q9, e9, -⟩)
      · cases e9
        subst e8
        replace H := H r10 h11 hq
        obtain ⟨g17, H⟩ := H
        refine c_castR dX3_init_192 q789 g17 ?_
        refine e_aload_n dX3_init_195 rfl ?_
        obtain ⟨x18, ⟨fsx18, g19, g19v⟩, H⟩ := H
        refine e_get dX3_init_196 fX3_1 q1184 g19 g19v ?_
        refine e_iload dX3_init_199 rfl ?_
        obtain ⟨fsg22, g22o, H⟩ := H
        obtain ⟨d23, k24, n25, Q26, g22, g22d, g22k, g22n, H⟩ := H
        refine e_callF (i := 4) (r := (RJ2, TJ2, 3)) (As := [.int a5]) g22 dX3_init_201 wJ2_get rfl rfl q882 q887 q885 g22o rfl rfl g22d rfl (Nat.le_of_ble_eq_true rfl) (k1 := k - k14 - k24) (n1 := n - n15 - n25) (by omega) (by omega) ?_ ?_
        · rintro v h21 (⟨v9, e9, r20, e8, hq⟩ | ⟨ci9, q9, e9, -⟩)
          · cases e9
            subst e8
            replace H := H r20 h21 hq
            obtain ⟨g27, H⟩ := H
            refine c_castR dX3_init_206 q789 g27 ?_
            obtain ⟨fsg30, g30o, H⟩ := H
            obtain ⟨d31, k32, n33, Q34, g30, g30d, g30k, g30n, H⟩ := H
            refine e_callV (r := (RX2, TX2, 1)) (As := [.ref r20]) g30 dX3_init_209 wX2_then q902 q903 q904 g30o rfl rfl g30d rfl (Nat.le_of_ble_eq_true rfl) (k1 := k - k14 - k24 - k32) (n1 := n - n15 - n25 - n33) (by omega) (by omega) ?_ ?_
            · rintro v h29 (⟨v9, e9, r28, e8, hq⟩ | ⟨ci9, q9, e9, -⟩)
              · cases e9
                subst e8
                replace H := H r28 h29 hq
                obtain ⟨fsg37, g37o, H⟩ := H
                obtain ⟨d38, k39, n40, Q41, g37, g37d, g37k, g37n, H⟩ := H
                refine e_callV (r := (RJ4, TJ4, 9)) (As := [.ref r28]) g37 dX3_init_212 wJ4_get q907 q908 q909 g37o rfl rfl g37d rfl (Nat.le_of_ble_eq_true rfl) (k1 := k - k14 - k24 - k32 - k39) (n1 := n - n15 - n25 - n33 - n40) (by omega) (by omega) ?_ ?_
                · rintro v h36 (⟨v9, e9, r35, e8, hq⟩ | ⟨ci9, q9, e9, -⟩)
                  · cases e9
                    subst e8
                    replace H := H r35 h36 hq
                    obtain ⟨g42, H⟩ := H
                    refine c_cast dX3_init_215 q919 g42 ?_
                    obtain ⟨o44, eo44, H⟩ := H
                    subst eo44
                    obtain ⟨fsg47, g47o, H⟩ := H
                    obtain ⟨d48, k49, n50, Q51, g47, g47d, g47k, g47n, H⟩ := H
                    refine e_callV (r := (RJ6, TJ6, 1)) (As := []) g47 dX3_init_218 wJ6_intValue q920 q921 q922 g47o rfl rfl g47d rfl (Nat.le_of_ble_eq_true rfl) (k1 := k - k14 - k24 - k32 - k39 - k49) (n1 := n - n15 - n25 - n33 - n40 - n50) (by omega) (by omega) ?_ ?_
                    · rintro v h46 (⟨v9, e9, r45, e8, hq⟩ | ⟨ci9, q9, e9, -⟩)
                      · cases e9
                        subst e8
                        replace H := H r45 h46 hq
                        obtain ⟨N52, f53, g54, g54l, g54i, H⟩ := H
                        refine e_iastore dX3_init_221 g54 g54l g54i ?_
                        replace H := H _ rfl
                        generalize eUp h46 r7 _ = h55 at H ⊢
                        refine e_aload_n dX3_init_222 rfl ?_
                        obtain ⟨x56, ⟨fsx56, g57, g57v⟩, H⟩ := H
                        refine e_get dX3_init_223 fX3_2 q1186 g57 g57v ?_
                        refine e_iload dX3_init_226 rfl ?_
                        obtain ⟨N58, f59, g60, g60i, r61, g60r, H⟩ := H
                        refine e_aaload 4 dX3_init_228 (fun _ => rfl) rfl g60 g60i ?_
                        rw [g60r]
                        refine e_iload dX3_init_229 rfl ?_
                        obtain ⟨N62, f63, g64, g64i, H⟩ := H
                        refine e_iaload dX3_init_231 g64 g64i ?_
                        refine e_if_ne 244 dX3_init_232 (by decide) (fun g65 => ?_) (fun g65 => ?_)
                        · replace H := H.1 g65
                          exact E.less2 H (eS_s (eS_n (eS_s (eS_s (eS_s (eS_s eS_0))))))
                        · replace H := H.2 g65
                          refine e_aload_n dX3_init_235 rfl ?_
                          obtain ⟨x66, ⟨fsx66, g67, g67v⟩, H⟩ := H
                          refine e_get dX3_init_236 fX3_3 q1188 g67 g67v ?_
                          refine e_iload dX3_init_239 rfl ?_
                          refine e_iload dX3_init_241 rfl ?_
                          obtain ⟨N68, f69, g70, g70l, g70i, H⟩ := H
                          refine e_iastore dX3_init_243 g70 g70l g70i ?_
                          replace H := H _ rfl
                          generalize eUp h55 x66 _ = h71 at H ⊢
                          exact E.less2 H (eS_s (eS_n (eS_s (eS_s (eS_s (eS_s eS_0))))))
                      · cases e9
                    · rintro q9 h9 (⟨v9, e9, -⟩ | ⟨ci9, q8, e9, -, -, hx⟩)
                      · cases e9
                      · exact hx.elim
                  · cases e9
                · rintro q9 h9 (⟨v9, e9, -⟩ | ⟨ci9, q8, e9, -, -, hx⟩)
                  · cases e9
                  · exact hx.elim
              · cases e9
            · rintro q9 h9 (⟨v9, e9, -⟩ | ⟨ci9, q8, e9, -, -, hx⟩)
              · cases e9
              · exact hx.elim
          · cases e9
        · rintro q9 h9 (⟨v9, e9, -⟩ | ⟨ci9, q8, e9, -, -, hx⟩)
          · cases e9
          · exact hx.elim
      · cases e9
    · rintro q9 h9 (⟨v9, e9, -⟩ | ⟨ci9, q8, e9, -, -, hx⟩)
      · cases e9
      · exact hx.elim
set_option maxHeartbeats 4000000 in
theorem s_X3_init_244 (c : cC) (a0 : Nat) (a2 : Nat) (a3 : Int32) (a4 : Int32) (a5 : Int32) (h : eH) (k n : Nat) (H : h_X3_init_165 c a0 a2 a3 a4 (a5 + 1) h k n) : h_X3_init_244 c a0 a2 a3 a4 a5 h k n := by
  refine e_iinc (a5 + 1) _ dX3_init_244 rfl rfl (by decide) rfl rfl ?_
  refine e_goto 165 dX3_init_247 (by decide) ?_
  exact E.less2 H (eS_s (eS_n (eS_s (eS_s (eS_s (eS_s eS_0))))))
set_option maxHeartbeats 4000000 in
theorem s_X3_init_308 (c : cC) (a0 : Nat) (a4 : Int32) (h : eH) (k n : Nat) (H : ∃ x1 : Nat, fV h a0 3 7 (.ref x1) ∧ (∃ v3 : vp_A, h.1 x1 = some (.inl (c.2.2.1.2.1 4, v3)) ∧ (((nI v3.1) ≤ a4 → c.2.2.2.2 (.inl none) h) ∧ (¬ (nI v3.1) ≤ a4 → h_X3_init_321 c a0 a4 (0 : Int32) h k n)))) : h_X3_init_308 c a0 a4 h k n := by
  refine e_iload dX3_init_308 rfl ?_
  refine e_aload_n dX3_init_310 rfl ?_
  obtain ⟨x1, ⟨fsx1, g2, g2v⟩, H⟩ := H
  refine e_get dX3_init_311 fX3_7 q1197 g2 g2v ?_
  obtain ⟨v3, g4, H⟩ := H
  refine e_alen (t := 4) dX3_init_314 (fun _ => rfl) g4 ?_
  refine e_icmp_ge 391 dX3_init_315 (by decide) (fun g5 => ?_) (fun g5 => ?_)
  · replace H := H.1 g5
    exact e_return dX3_init_391 rfl H
  · replace H := H.2 g5
    refine e_iconst (0) dX3_init_318 (by decide) ?_
    refine e_istore _ dX3_init_319 (by decide) rfl rfl ?_
    exact E.less2 H (eS_s (eS_n (eS_n (eS_n (eS_s (eS_s eS_0))))))
set_option maxHeartbeats 4000000 in
theorem s_X3_init_321 (c : cC) (a0 : Nat) (a4 : Int32) (a5 : Int32) (h : eH) (k n : Nat) (H : ∃ x1 : Nat, fV h a0 3 7 (.ref x1) ∧ (∃ v3 : vp_A, h.1 x1 = some (.inl (c.2.2.1.2.1 4, v3)) ∧ (((nI v3.1) ≤ a5 → h_X3_init_308 c a0 (a4 + 1) h k n) ∧ (¬ (nI v3.1) ≤ a5 → ∃ x6 : Nat, fV h a0 3 7 (.ref x6) ∧ (∃ (N8 : Nat) (f9 : Nat → Option Nat), h.1 x6 = some (.inl (c.2.2.1.2.1 4, N8, .inr (.inr (.inr (.inr f9))))) ∧ vp_in a4 N8 ∧ ∃ r11 : Nat, f9 a4.toNatClampNeg = some r11 ∧ (∃ x12 : Nat, fV h a0 3 5 (.ref x12) ∧ (∃ fs8 : List Value, h.1 x12 = some (.inr (15, fs8)) ∧ ∃ (d17 k18 n19 : Nat) (Q20 : Nat → eH → Prop), cR c.1 c.2.1 c.2.2.1 d17 mJ2_get [.ref x12, .int a4] h k18 n19 Q20 cX0 ∧ d17 + 1 ≤ c.2.2.2.1 ∧ k18 ≤ k ∧ n19 ≤ n ∧ (∀ (r14 : Nat) (h15 : eH), Q20 r14 h15 → (eCs c.2.2.1 h15 r14 "TroupeSums$Sort" ∧ (∃ x22 : Int32, fV h15 r14 5 1 (.int x22) ∧ (∃ x24 : Nat, fV h15 a0 3 5 (.ref x24) ∧ (∃ fs8 : List Value, h15.1 x24 = some (.inr (15, fs8)) ∧ ∃ (d29 k30 n31 : Nat) (Q32 : Nat → eH → Prop), cR c.1 c.2.1 c.2.2.1 d29 mJ2_get [.ref x24, .int a5] h15 k30 n31 Q32 cX0 ∧ d29 + 1 ≤ c.2.2.2.1 ∧ k30 ≤ k - k18 ∧ n31 ≤ n - n19 ∧ (∀ (r26 : Nat) (h27 : eH), Q32 r26 h27 → (eCs c.2.2.1 h27 r26 "TroupeSums$Sort" ∧ (∃ x34 : Int32, fV h27 r26 5 1 (.int x34) ∧ (∃ fs8 : List Value, h27.1 a0 = some (.inr (3, fs8)) ∧ ∃ (d39 k40 n41 : Nat) (Q42 : Int32 → eH → Prop), cI c.1 c.2.1 c.2.2.1 d39 mX3_mark [.ref a0, .int x22, .int x34] h27 k40 n41 Q42 cX0 ∧ d39 + 1 ≤ c.2.2.2.1 ∧ k40 ≤ k - k18 - k30 ∧ n41 ≤ n - n19 - n31 ∧ (∀ (r36 : Int32) (h37 : eH), Q42 r36 h37 → (∃ (N43 : Nat) (f44 : Nat → Int32), h37.1 r11 = some (.inl (c.2.2.1.2.1 0, N43, .inl f44)) ∧ c.2.1 ≤ r11 ∧ vp_in a5 N43 ∧ ∀ h46 : eH, h46 = eUp h37 r11 (.inl (c.2.2.1.2.1 0, N43, .inl (va_up f44 a5.toNatClampNeg r36))) → (h_X3_init_321 c a0 a4 (a5 + 1) h46 (k - k18 - k30 - k40) (n - n19 - n31 - n41)))))))))))))))))))) : h_X3_init_321 c a0 a4 a5 h k n := by
  refine e_iload dX3_init_321 rfl ?_
  refine e_aload_n dX3_init_323 rfl ?_
  obtain ⟨x1, ⟨fsx1, g2, g2v⟩, H⟩ := H
  refine e_get dX3_init_324 fX3_7 q1197 g2 g2v ?_
  obtain ⟨v3, g4, H⟩ := H
  refine e_alen (t := 4) dX3_init_327 (fun _ => rfl) g4 ?_
  refine e_icmp_ge 385 dX3_init_328 (by decide) (fun g5 => ?_) (fun g5 => ?_)
  · replace H := H.1 g5
    refine e_iinc (a4 + 1) _ dX3_init_385 rfl rfl (by decide) trivial rfl ?_
    refine e_goto 308 dX3_init_388 (by decide) ?_
    exact E.less2 H (eS_s (eS_n (eS_n (eS_n (eS_s (eS_n eS_0))))))
  · replace H := H.2 g5
    refine e_aload_n dX3_init_331 rfl ?_
    obtain ⟨x6, ⟨fsx6, g7, g7v⟩, H⟩ := H
    refine e_get dX3_init_332 fX3_7 q1197 g7 g7v ?_
    refine e_iload dX3_init_335 rfl ?_
    obtain ⟨N8, f9, g10, g10i, r11, g10r, H⟩ := H
    refine e_aaload 4 dX3_init_337 (fun _ => rfl) rfl g10 g10i ?_
    rw [g10r]
    refine e_iload dX3_init_338 rfl ?_
    refine e_aload_n dX3_init_340 rfl ?_
    refine e_aload_n dX3_init_341 rfl ?_
    obtain ⟨x12, ⟨fsx12, g13, g13v⟩, H⟩ := H
    refine e_get dX3_init_342 fX3_5 q1192 g13 g13v ?_
    refine e_iload dX3_init_345 rfl ?_
    obtain ⟨fsg16, g16o, H⟩ := H
    obtain ⟨d17, k18, n19, Q20, g16, g16d, g16k, g16n, H⟩ := H
    refine e_callF (i := 4) (r := (RJ2, TJ2, 3)) (As := [.int a4]) g16 dX3_init_347 wJ2_get rfl rfl q882 q887 q885 g16o rfl rfl g16d rfl (Nat.le_of_ble_eq_true rfl) (k1 := k - k18) (n1 := n - n19) (by omega) (by omega) ?_ ?_
    · rintro v h15 (⟨v9, e9, r14, e8, hq⟩ | ⟨ci9, q9, e9, -⟩)
      · cases e9
        subst e8
        replace H := H r14 h15 hq
        obtain ⟨g21, H⟩ := H
        refine c_castR dX3_init_352 q1064 g21 ?_
        obtain ⟨x22, ⟨fsx22, g23, g23v⟩, H⟩ := H
        refine e_getN dX3_init_355 fX5_1 q1081 g23 g23v ?_
        refine e_aload_n dX3_init_358 rfl ?_
        obtain ⟨x24, ⟨fsx24, g25, g25v⟩, H⟩ := H
        refine e_get dX3_init_359 fX3_5 q1192 g25 g25v ?_
        refine e_iload dX3_init_362 rfl ?_
        obtain ⟨fsg28, g28o, H⟩ := H
        obtain ⟨d29, k30, n31, Q32, g28, g28d, g28k, g28n, H⟩ := H
        refine e_callF (i := 4) (r := (RJ2, TJ2, 3)) (As := [.int a5]) g28 dX3_init_364 wJ2_get rfl rfl q882 q887 q885 g28o rfl rfl g28d rfl (Nat.le_of_ble_eq_true rfl) (k1 := k - k18 - k30) (n1 := n - n19 - n31) (by omega) (by omega) ?_ ?_
        · rintro v h27 (⟨v9, e9, r26, e8, hq⟩ | ⟨ci9, q9, e9, -⟩)
          · cases e9
            subst e8
            replace H := H r26 h27 hq
            obtain ⟨g33, H⟩ := H
            refine c_castR dX3_init_369 q1064 g33 ?_
            obtain ⟨x34, ⟨fsx34, g35, g35v⟩, H⟩ := H
            refine e_getN dX3_init_372 fX5_1 q1081 g35 g35v ?_
            obtain ⟨fsg38, g38o, H⟩ := H
            obtain ⟨d39, k40, n41, Q42, g38, g38d, g38k, g38n, H⟩ := H
            refine e_callV (r := (RX3, TX3, 8)) (As := [.int x22, .int x34]) g38 dX3_init_375 wX3_mark q1178 q1180 qs14 g38o rfl rfl g38d rfl (Nat.le_of_ble_eq_true rfl) (k1 := k - k18 - k30 - k40) (n1 := n - n19 - n31 - n41) (by omega) (by omega) ?_ ?_
            · rintro v h37 (⟨v9, e9, r36, e8, hq⟩ | ⟨ci9, q9, e9, -⟩)
              · cases e9
                subst e8
                replace H := H r36 h37 hq
                obtain ⟨N43, f44, g45, g45l, g45i, H⟩ := H
                refine e_iastore dX3_init_378 g45 g45l g45i ?_
                replace H := H _ rfl
                generalize eUp h37 r11 _ = h46 at H ⊢
                refine e_iinc (a5 + 1) _ dX3_init_379 rfl rfl (by decide) rfl rfl ?_
                refine e_goto 321 dX3_init_382 (by decide) ?_
                exact E.less2 H (eS_s (eS_n (eS_n (eS_n (eS_s (eS_s eS_0))))))
              · cases e9
            · rintro q9 h9 (⟨v9, e9, -⟩ | ⟨ci9, q8, e9, -, -, hx⟩)
              · cases e9
              · exact hx.elim
          · cases e9
        · rintro q9 h9 (⟨v9, e9, -⟩ | ⟨ci9, q8, e9, -, -, hx⟩)
          · cases e9
          · exact hx.elim
      · cases e9
    · rintro q9 h9 (⟨v9, e9, -⟩ | ⟨ci9, q8, e9, -, -, hx⟩)
      · cases e9
      · exact hx.elim
theorem en_X3_init {l : Launch} {lo : Nat} {G : eG} {d : Nat} {P : eO → eH → Prop} (a0 : Nat) (a1 : Int32) (a2 : Nat) {h : eH} {k n : Nat} (H : h_X3_init_0 (l, lo, G, d, P) a0 a1 a2 h k n) : Ct l lo G d mX3_init [.ref a0, .int a1, .ref a2] h k n P := 
  Ct_of (eArL mX3_init.2.2.2.1 [.ref a0, .int a1, .ref a2]) (by decide) rfl (Nat.le_of_ble_eq_true rfl) (fun j w q => eArL_mem j w q) (E.less2 H (eS_s (eS_s (eS_s (eS_n (eS_n (eS_n eS_0)))))))
/-! X3_findSubgroups TroupeSums$Group.findSubgroups()V -/
def h_X3_findSubgroups_0 (c : cC) (a0 : Nat) (h : eH) (k n : Nat) : Prop := E c.1 c.2.1 c.2.2.1 c.2.2.2.1 mX3_findSubgroups c.2.2.2.2 0 [some (.ref a0), none, none, none] [] h k n
def h_X3_findSubgroups_16 (c : cC) (a0 : Nat) (a1 : Int32) (h : eH) (k n : Nat) : Prop := E c.1 c.2.1 c.2.2.1 c.2.2.2.1 mX3_findSubgroups c.2.2.2.2 16 [some (.ref a0), some (.int a1), none, none] [] h k n
def h_X3_findSubgroups_31 (c : cC) (a0 : Nat) (a1 : Int32) (a2 : Int32) (h : eH) (k n : Nat) : Prop := E c.1 c.2.1 c.2.2.1 c.2.2.2.1 mX3_findSubgroups c.2.2.2.2 31 [some (.ref a0), some (.int a1), some (.int a2), none] [] h k n
def h_X3_findSubgroups_94 (c : cC) (a0 : Nat) (a1 : Int32) (a2 : Int32) (h : eH) (k n : Nat) : Prop := E c.1 c.2.1 c.2.2.1 c.2.2.2.1 mX3_findSubgroups c.2.2.2.2 94 [some (.ref a0), some (.int a1), some (.int a2), none] [] h k n
set_option maxHeartbeats 4000000 in
theorem s_X3_findSubgroups_0 (c : cC) (a0 : Nat) (h : eH) (k n : Nat) (H : ∃ x1 : Nat, fV h a0 3 4 (.ref x1) ∧ (∃ (d6 k7 n8 : Nat) (Q9 : Nat → eH → Prop), cR c.1 c.2.1 c.2.2.1 d6 mJ6_valueOf [.int (1 : Int32)] h k7 n8 Q9 cX0 ∧ d6 + 1 ≤ c.2.2.2.1 ∧ k7 ≤ k ∧ n8 ≤ n ∧ (∀ (r3 : Nat) (h4 : eH), Q9 r3 h4 → (∃ fs8 : List Value, h4.1 x1 = some (.inr (15, fs8)) ∧ ∃ (d13 k14 n15 : Nat) (Q16 : Int32 → eH → Prop), cI c.1 c.2.1 c.2.2.1 d13 mJ2_add [.ref x1, .ref r3] h4 k14 n15 Q16 cX0 ∧ d13 + 1 ≤ c.2.2.2.1 ∧ k14 ≤ k - k7 ∧ n15 ≤ n - n8 ∧ (∀ (r10 : Int32) (h11 : eH), Q16 r10 h11 → (h_X3_findSubgroups_16 c a0 (0 : Int32) h11 (k - k7 - k14) (n - n8 - n15))))))) : h_X3_findSubgroups_0 c a0 h k n := by
  refine e_aload_n dX3_findSubgroups_0 rfl ?_
  obtain ⟨x1, ⟨fsx1, g2, g2v⟩, H⟩ := H
  refine e_get dX3_findSubgroups_1 fX3_4 q1189 g2 g2v ?_
  refine e_iconst (1) dX3_findSubgroups_4 (by decide) ?_
  obtain ⟨d6, k7, n8, Q9, g5, g5d, g5k, g5n, H⟩ := H
  refine e_callS (As := [.int (1 : Int32)]) g5 dX3_findSubgroups_5 wJ6_valueOf q900 q305 rfl g5d rfl (Nat.le_of_ble_eq_true rfl) (k1 := k - k7) (n1 := n - n8) (by omega) (by omega) ?_ ?_
  · rintro v h4 (⟨v9, e9, r3, e8, hq⟩ | ⟨ci9, q9, e9, -⟩)
    · cases e9
      subst e8
      replace H := H r3 h4 hq
      obtain ⟨fsg12, g12o, H⟩ := H
      obtain ⟨d13, k14, n15, Q16, g12, g12d, g12k, g12n, H⟩ := H
      refine e_callF (i := 5) (r := (RJ2, TJ2, 3)) (As := [.ref r3]) g12 dX3_findSubgroups_8 wJ2_add rfl rfl q791 q797 q795 g12o rfl rfl g12d rfl (Nat.le_of_ble_eq_true rfl) (k1 := k - k7 - k14) (n1 := n - n8 - n15) (by omega) (by omega) ?_ ?_
      · rintro v h11 (⟨v9, e9, r10, e8, hq⟩ | ⟨ci9, q9, e9, -⟩)
        · cases e9
          subst e8
          replace H := H r10 h11 hq
          refine e_pop dX3_findSubgroups_13 rfl ?_
          refine e_iconst (0) dX3_findSubgroups_14 (by decide) ?_
          refine e_istore_n _ dX3_findSubgroups_15 (by decide) rfl rfl ?_
          exact E.less2 H (eS_s (eS_s (eS_n (eS_n eS_0))))
        · cases e9
      · rintro q9 h9 (⟨v9, e9, -⟩ | ⟨ci9, q8, e9, -, -, hx⟩)
        · cases e9
        · exact hx.elim
    · cases e9
  · rintro q9 h9 (⟨v9, e9, -⟩ | ⟨ci9, q8, e9, -, -, hx⟩)
    · cases e9
    · exact hx.elim
set_option maxHeartbeats 4000000 in
theorem s_X3_findSubgroups_16 (c : cC) (a0 : Nat) (a1 : Int32) (h : eH) (k n : Nat) (H : ∃ x1 : Nat, fV h a0 3 4 (.ref x1) ∧ (∃ fs8 : List Value, h.1 x1 = some (.inr (15, fs8)) ∧ ∃ (d6 k7 n8 : Nat) (Q9 : Int32 → eH → Prop), cI c.1 c.2.1 c.2.2.1 d6 mJ2_size [.ref x1] h k7 n8 Q9 cX0 ∧ d6 + 1 ≤ c.2.2.2.1 ∧ k7 ≤ k ∧ n8 ≤ n ∧ (∀ (r3 : Int32) (h4 : eH), Q9 r3 h4 → ((r3 ≤ a1 → c.2.2.2.2 (.inl none) h4) ∧ (¬ r3 ≤ a1 → h_X3_findSubgroups_31 c a0 a1 (1 : Int32) h4 (k - k7) (n - n8)))))) : h_X3_findSubgroups_16 c a0 a1 h k n := by
  refine e_iload_n dX3_findSubgroups_16 rfl ?_
  refine e_aload_n dX3_findSubgroups_17 rfl ?_
  obtain ⟨x1, ⟨fsx1, g2, g2v⟩, H⟩ := H
  refine e_get dX3_findSubgroups_18 fX3_4 q1189 g2 g2v ?_
  obtain ⟨fsg5, g5o, H⟩ := H
  obtain ⟨d6, k7, n8, Q9, g5, g5d, g5k, g5n, H⟩ := H
  refine e_callF (i := 3) (r := (RJ2, TJ2, 3)) (As := []) g5 dX3_findSubgroups_21 wJ2_size rfl rfl q871 q876 q874 g5o rfl rfl g5d rfl (Nat.le_of_ble_eq_true rfl) (k1 := k - k7) (n1 := n - n8) (by omega) (by omega) ?_ ?_
  · rintro v h4 (⟨v9, e9, r3, e8, hq⟩ | ⟨ci9, q9, e9, -⟩)
    · cases e9
      subst e8
      replace H := H r3 h4 hq
      refine e_icmp_ge 106 dX3_findSubgroups_26 (by decide) (fun g10 => ?_) (fun g10 => ?_)
      · replace H := H.1 g10
        exact e_return dX3_findSubgroups_106 rfl H
      · replace H := H.2 g10
        refine e_iconst (1) dX3_findSubgroups_29 (by decide) ?_
        refine e_istore_n _ dX3_findSubgroups_30 (by decide) rfl rfl ?_
        exact E.less2 H (eS_s (eS_s (eS_s (eS_n eS_0))))
    · cases e9
  · rintro q9 h9 (⟨v9, e9, -⟩ | ⟨ci9, q8, e9, -, -, hx⟩)
    · cases e9
    · exact hx.elim
set_option maxHeartbeats 4000000 in
theorem s_X3_findSubgroups_31 (c : cC) (a0 : Nat) (a1 : Int32) (a2 : Int32) (h : eH) (k n : Nat) (H : ∃ fs8 : List Value, h.1 a0 = some (.inr (3, fs8)) ∧ ∃ (d4 k5 n6 : Nat) (Q7 : Int32 → eH → Prop), cI c.1 c.2.1 c.2.2.1 d4 mX3_size [.ref a0] h k5 n6 Q7 cX0 ∧ d4 + 1 ≤ c.2.2.2.1 ∧ k5 ≤ k ∧ n6 ≤ n ∧ (∀ (r1 : Int32) (h2 : eH), Q7 r1 h2 → ((r1 ≤ a2 → h_X3_findSubgroups_16 c a0 (a1 + 1) h2 (k - k5) (n - n6)) ∧ (¬ r1 ≤ a2 → ∃ x9 : Nat, fV h2 a0 3 4 (.ref x9) ∧ (∃ fs8 : List Value, h2.1 x9 = some (.inr (15, fs8)) ∧ ∃ (d14 k15 n16 : Nat) (Q17 : Nat → eH → Prop), cR c.1 c.2.1 c.2.2.1 d14 mJ2_get [.ref x9, .int a1] h2 k15 n16 Q17 cX0 ∧ d14 + 1 ≤ c.2.2.2.1 ∧ k15 ≤ k - k5 ∧ n16 ≤ n - n6 ∧ (∀ (r11 : Nat) (h12 : eH), Q17 r11 h12 → (eCs c.2.2.1 h12 r11 "java/lang/Integer" ∧ (∃ fs8 : List Value, h12.1 r11 = some (.inr (17, fs8)) ∧ ∃ (d22 k23 n24 : Nat) (Q25 : Int32 → eH → Prop), cI c.1 c.2.1 c.2.2.1 d22 mJ6_intValue [.ref r11] h12 k23 n24 Q25 cX0 ∧ d22 + 1 ≤ c.2.2.2.1 ∧ k23 ≤ k - k5 - k15 ∧ n24 ≤ n - n6 - n16 ∧ (∀ (r19 : Int32) (h20 : eH), Q25 r19 h20 → (∃ fs8 : List Value, h20.1 a0 = some (.inr (3, fs8)) ∧ ∃ (d29 k30 n31 : Nat) (Q32 : Int32 → eH → Prop), cI c.1 c.2.1 c.2.2.1 d29 mX3_made [.ref a0, .int (r19 ||| ((1 : Int32) <<< (a2 &&& 31)))] h20 k30 n31 Q32 cX0 ∧ d29 + 1 ≤ c.2.2.2.1 ∧ k30 ≤ k - k5 - k15 - k23 ∧ n31 ≤ n - n6 - n16 - n24 ∧ (∀ (r26 : Int32) (h27 : eH), Q32 r26 h27 → (∃ x33 : Nat, fV h27 a0 3 4 (.ref x33) ∧ (∃ (d38 k39 n40 : Nat) (Q41 : Nat → eH → Prop), cR c.1 c.2.1 c.2.2.1 d38 mJ6_valueOf [.int r26] h27 k39 n40 Q41 cX0 ∧ d38 + 1 ≤ c.2.2.2.1 ∧ k39 ≤ k - k5 - k15 - k23 - k30 ∧ n40 ≤ n - n6 - n16 - n24 - n31 ∧ (∀ (r35 : Nat) (h36 : eH), Q41 r35 h36 → (∃ fs8 : List Value, h36.1 x33 = some (.inr (15, fs8)) ∧ ∃ (d45 k46 n47 : Nat) (Q48 : Int32 → eH → Prop), cI c.1 c.2.1 c.2.2.1 d45 mJ2_contains [.ref x33, .ref r35] h36 k46 n47 Q48 cX0 ∧ d45 + 1 ≤ c.2.2.2.1 ∧ k46 ≤ k - k5 - k15 - k23 - k30 - k39 ∧ n47 ≤ n - n6 - n16 - n24 - n31 - n40 ∧ (∀ (r42 : Int32) (h43 : eH), Q48 r42 h43 → ((¬ r42 = 0 → h_X3_findSubgroups_94 c a0 a1 a2 h43 (k - k5 - k15 - k23 - k30 - k39 - k46) (n - n6 - n16 - n24 - n31 - n40 - n47)) ∧ (r42 = 0 → ∃ x50 : Nat, fV h43 a0 3 4 (.ref x50) ∧ (∃ (d55 k56 n57 : Nat) (Q58 : Nat → eH → Prop), cR c.1 c.2.1 c.2.2.1 d55 mJ6_valueOf [.int r26] h43 k56 n57 Q58 cX0 ∧ d55 + 1 ≤ c.2.2.2.1 ∧ k56 ≤ k - k5 - k15 - k23 - k30 - k39 - k46 ∧ n57 ≤ n - n6 - n16 - n24 - n31 - n40 - n47 ∧ (∀ (r52 : Nat) (h53 : eH), Q58 r52 h53 → (∃ fs8 : List Value, h53.1 x50 = some (.inr (15, fs8)) ∧ ∃ (d62 k63 n64 : Nat) (Q65 : Int32 → eH → Prop), cI c.1 c.2.1 c.2.2.1 d62 mJ2_add [.ref x50, .ref r52] h53 k63 n64 Q65 cX0 ∧ d62 + 1 ≤ c.2.2.2.1 ∧ k63 ≤ k - k5 - k15 - k23 - k30 - k39 - k46 - k56 ∧ n64 ≤ n - n6 - n16 - n24 - n31 - n40 - n47 - n57 ∧ (∀ (r59 : Int32) (h60 : eH), Q65 r59 h60 → (h_X3_findSubgroups_94 c a0 a1 a2 h60 (k - k5 - k15 - k23 - k30 - k39 - k46 - k56 - k63) (n - n6 - n16 - n24 - n31 - n40 - n47 - n57 - n64)))))))))))))))))))))))) : h_X3_findSubgroups_31 c a0 a1 a2 h k n := by
  refine e_iload_n dX3_findSubgroups_31 rfl ?_
  refine e_aload_n dX3_findSubgroups_32 rfl ?_
  obtain ⟨fsg3, g3o, H⟩ := H
  obtain ⟨d4, k5, n6, Q7, g3, g3d, g3k, g3n, H⟩ := H
  refine e_callV (r := (RX3, TX3, 8)) (As := []) g3 dX3_findSubgroups_33 wX3_size q928 q929 q930 g3o rfl rfl g3d rfl (Nat.le_of_ble_eq_true rfl) (k1 := k - k5) (n1 := n - n6) (by omega) (by omega) ?_ ?_
  · rintro v h2 (⟨v9, e9, r1, e8, hq⟩ | ⟨ci9, q9, e9, -⟩)
    · cases e9
      subst e8
      replace H := H r1 h2 hq
      refine e_icmp_ge 100 dX3_findSubgroups_36 (by decide) (fun g8 => ?_) (fun g8 => ?_)
      · replace H := H.1 g8
        refine e_iinc (a1 + 1) _ dX3_findSubgroups_100 rfl rfl (by decide) rfl rfl ?_
        refine e_goto 16 dX3_findSubgroups_103 (by decide) ?_
        exact E.less2 H (eS_s (eS_s (eS_n (eS_n eS_0))))
      · replace H := H.2 g8
        refine e_aload_n dX3_findSubgroups_39 rfl ?_
        refine e_aload_n dX3_findSubgroups_40 rfl ?_
        obtain ⟨x9, ⟨fsx9, g10, g10v⟩, H⟩ := H
        refine e_get dX3_findSubgroups_41 fX3_4 q1189 g10 g10v ?_
        refine e_iload_n dX3_findSubgroups_44 rfl ?_
        obtain ⟨fsg13, g13o, H⟩ := H
        obtain ⟨d14, k15, n16, Q17, g13, g13d, g13k, g13n, H⟩ := H
        refine e_callF (i := 4) (r := (RJ2, TJ2, 3)) (As := [.int a1]) g13 dX3_findSubgroups_45 wJ2_get rfl rfl q882 q887 q885 g13o rfl rfl g13d rfl (Nat.le_of_ble_eq_true rfl) (k1 := k - k5 - k15) (n1 := n - n6 - n16) (by omega) (by omega) ?_ ?_
        · rintro v h12 (⟨v9, e9, r11, e8, hq⟩ | ⟨ci9, q9, e9, -⟩)
          · cases e9
            subst e8
            replace H := H r11 h12 hq
            obtain ⟨g18, H⟩ := H
            refine c_castR dX3_findSubgroups_50 q919 g18 ?_
            obtain ⟨fsg21, g21o, H⟩ := H
            obtain ⟨d22, k23, n24, Q25, g21, g21d, g21k, g21n, H⟩ := H
            refine e_callV (r := (RJ6, TJ6, 1)) (As := []) g21 dX3_findSubgroups_53 wJ6_intValue q920 q921 q922 g21o rfl rfl g21d rfl (Nat.le_of_ble_eq_true rfl) (k1 := k - k5 - k15 - k23) (n1 := n - n6 - n16 - n24) (by omega) (by omega) ?_ ?_
            · rintro v h20 (⟨v9, e9, r19, e8, hq⟩ | ⟨ci9, q9, e9, -⟩)
              · cases e9
                subst e8
                replace H := H r19 h20 hq
                refine e_iconst (1) dX3_findSubgroups_56 (by decide) ?_
                refine e_iload_n dX3_findSubgroups_57 rfl ?_
                refine e_ishl dX3_findSubgroups_58 ?_
                refine e_ior dX3_findSubgroups_59 ?_
                obtain ⟨fsg28, g28o, H⟩ := H
                obtain ⟨d29, k30, n31, Q32, g28, g28d, g28k, g28n, H⟩ := H
                refine e_callV (r := (RX3, TX3, 8)) (As := [.int (r19 ||| ((1 : Int32) <<< (a2 &&& 31)))]) g28 dX3_findSubgroups_60 wX3_made q932 q933 q934 g28o rfl rfl g28d rfl (Nat.le_of_ble_eq_true rfl) (k1 := k - k5 - k15 - k23 - k30) (n1 := n - n6 - n16 - n24 - n31) (by omega) (by omega) ?_ ?_
                · rintro v h27 (⟨v9, e9, r26, e8, hq⟩ | ⟨ci9, q9, e9, -⟩)
                  · cases e9
                    subst e8
                    replace H := H r26 h27 hq
                    refine e_istore_n _ dX3_findSubgroups_63 (by decide) rfl rfl ?_
                    refine e_aload_n dX3_findSubgroups_64 rfl ?_
                    obtain ⟨x33, ⟨fsx33, g34, g34v⟩, H⟩ := H
                    refine e_get dX3_findSubgroups_65 fX3_4 q1189 g34 g34v ?_
                    refine e_iload_n dX3_findSubgroups_68 rfl ?_
                    obtain ⟨d38, k39, n40, Q41, g37, g37d, g37k, g37n, H⟩ := H
                    refine e_callS (As := [.int r26]) g37 dX3_findSubgroups_69 wJ6_valueOf q900 q305 rfl g37d rfl (Nat.le_of_ble_eq_true rfl) (k1 := k - k5 - k15 - k23 - k30 - k39) (n1 := n - n6 - n16 - n24 - n31 - n40) (by omega) (by omega) ?_ ?_
                    · rintro v h36 (⟨v9, e9, r35, e8, hq⟩ | ⟨ci9, q9, e9, -⟩)
                      · cases e9
                        subst e8
                        replace H := H r35 h36 hq
                        obtain ⟨fsg44, g44o, H⟩ := H
                        obtain ⟨d45, k46, n47, Q48, g44, g44d, g44k, g44n, H⟩ := H
                        refine e_callF (i := 6) (r := (RJ2, TJ2, 3)) (As := [.ref r35]) g44 dX3_findSubgroups_72 wJ2_contains rfl rfl q940 q945 q943 g44o rfl rfl g44d rfl (Nat.le_of_ble_eq_true rfl) (k1 := k - k5 - k15 - k23 - k30 - k39 - k46) (n1 := n - n6 - n16 - n24 - n31 - n40 - n47) (by omega) (by omega) ?_ ?_
                        · rintro v h43 (⟨v9, e9, r42, e8, hq⟩ | ⟨ci9, q9, e9, -⟩)
                          · cases e9
                            subst e8
                            replace H := H r42 h43 hq
                            refine e_if_ne 94 dX3_findSubgroups_77 (by decide) (fun g49 => ?_) (fun g49 => ?_)
                            · replace H := H.1 g49
                              exact E.less2 H (eS_s (eS_s (eS_s (eS_n eS_0))))
                            · replace H := H.2 g49
                              refine e_aload_n dX3_findSubgroups_80 rfl ?_
                              obtain ⟨x50, ⟨fsx50, g51, g51v⟩, H⟩ := H
                              refine e_get dX3_findSubgroups_81 fX3_4 q1189 g51 g51v ?_
                              refine e_iload_n dX3_findSubgroups_84 rfl ?_
                              obtain ⟨d55, k56, n57, Q58, g54, g54d, g54k, g54n, H⟩ := H
                              refine e_callS (As := [.int r26]) g54 dX3_findSubgroups_85 wJ6_valueOf q900 q305 rfl g54d rfl (Nat.le_of_ble_eq_true rfl) (k1 := k - k5 - k15 - k23 - k30 - k39 - k46 - k56) (n1 := n - n6 - n16 - n24 - n31 - n40 - n47 - n57) (by omega) (by omega) ?_ ?_
                              · rintro v h53 (⟨v9, e9, r52, e8, hq⟩ | ⟨ci9, q9, e9, -⟩)
                                · cases e9
                                  subst e8
                                  replace H := H r52 h53 hq
                                  obtain ⟨fsg61, g61o, H⟩ := H
                                  obtain ⟨d62, k63, n64, Q65, g61, g61d, g61k, g61n, H⟩ := H
                                  refine e_callF (i := 5) (r := (RJ2, TJ2, 3)) (As := [.ref r52]) g61 dX3_findSubgroups_88 wJ2_add rfl rfl q791 q797 q795 g61o rfl rfl g61d rfl (Nat.le_of_ble_eq_true rfl) (k1 := k - k5 - k15 - k23 - k30 - k39 - k46 - k56 - k63) (n1 := n - n6 - n16 - n24 - n31 - n40 - n47 - n57 - n64) (by omega) (by omega) ?_ ?_
                                  · rintro v h60 (⟨v9, e9, r59, e8, hq⟩ | ⟨ci9, q9, e9, -⟩)
                                    · cases e9
                                      subst e8
                                      replace H := H r59 h60 hq
                                      refine e_pop dX3_findSubgroups_93 rfl ?_
                                      exact E.less2 H (eS_s (eS_s (eS_s (eS_n eS_0))))
                                    · cases e9
                                  · rintro q9 h9 (⟨v9, e9, -⟩ | ⟨ci9, q8, e9, -, -, hx⟩)
                                    · cases e9
                                    · exact hx.elim
                                · cases e9
                              · rintro q9 h9 (⟨v9, e9, -⟩ | ⟨ci9, q8, e9, -, -, hx⟩)
                                · cases e9
                                · exact hx.elim
                          · cases e9
                        · rintro q9 h9 (⟨v9, e9, -⟩ | ⟨ci9, q8, e9, -, -, hx⟩)
                          · cases e9
                          · exact hx.elim
                      · cases e9
                    · rintro q9 h9 (⟨v9, e9, -⟩ | ⟨ci9, q8, e9, -, -, hx⟩)
                      · cases e9
                      · exact hx.elim
                  · cases e9
                · rintro q9 h9 (⟨v9, e9, -⟩ | ⟨ci9, q8, e9, -, -, hx⟩)
                  · cases e9
                  · exact hx.elim
              · cases e9
            · rintro q9 h9 (⟨v9, e9, -⟩ | ⟨ci9, q8, e9, -, -, hx⟩)
              · cases e9
              · exact hx.elim
          · cases e9
        · rintro q9 h9 (⟨v9, e9, -⟩ | ⟨ci9, q8, e9, -, -, hx⟩)
          · cases e9
          · exact hx.elim
    · cases e9
  · rintro q9 h9 (⟨v9, e9, -⟩ | ⟨ci9, q8, e9, -, -, hx⟩)
    · cases e9
    · exact hx.elim
set_option maxHeartbeats 4000000 in
theorem s_X3_findSubgroups_94 (c : cC) (a0 : Nat) (a1 : Int32) (a2 : Int32) (h : eH) (k n : Nat) (H : h_X3_findSubgroups_31 c a0 a1 (a2 + 1) h k n) : h_X3_findSubgroups_94 c a0 a1 a2 h k n := by
  refine e_iinc (a2 + 1) _ dX3_findSubgroups_94 rfl rfl (by decide) rfl rfl ?_
  refine e_goto 31 dX3_findSubgroups_97 (by decide) ?_
  exact E.less2 H (eS_s (eS_s (eS_s (eS_n eS_0))))
theorem en_X3_findSubgroups {l : Launch} {lo : Nat} {G : eG} {d : Nat} {P : eO → eH → Prop} (a0 : Nat) {h : eH} {k n : Nat} (H : h_X3_findSubgroups_0 (l, lo, G, d, P) a0 h k n) : Ct l lo G d mX3_findSubgroups [.ref a0] h k n P := 
  Ct_of (eArL mX3_findSubgroups.2.2.2.1 [.ref a0]) (by decide) rfl (Nat.le_of_ble_eq_true rfl) (fun j w q => eArL_mem j w q) (E.less2 H (eS_s (eS_n (eS_n (eS_n eS_0)))))
/-! X3_size TroupeSums$Group.size()I -/
def h_X3_size_0 (c : cC) (a0 : Nat) (h : eH) (k n : Nat) : Prop := E c.1 c.2.1 c.2.2.1 c.2.2.2.1 mX3_size c.2.2.2.2 0 [some (.ref a0)] [] h k n
set_option maxHeartbeats 4000000 in
theorem s_X3_size_0 (c : cC) (a0 : Nat) (h : eH) (k n : Nat) (H : ∃ x1 : Nat, fV h a0 3 1 (.ref x1) ∧ (∃ fs8 : List Value, h.1 x1 = some (.inr (15, fs8)) ∧ ∃ (d6 k7 n8 : Nat) (Q9 : Int32 → eH → Prop), cI c.1 c.2.1 c.2.2.1 d6 mJ2_size [.ref x1] h k7 n8 Q9 cX0 ∧ d6 + 1 ≤ c.2.2.2.1 ∧ k7 ≤ k ∧ n8 ≤ n ∧ (∀ (r3 : Int32) (h4 : eH), Q9 r3 h4 → (c.2.2.2.2 (.inl (some (.int r3))) h4)))) : h_X3_size_0 c a0 h k n := by
  refine e_aload_n dX3_size_0 rfl ?_
  obtain ⟨x1, ⟨fsx1, g2, g2v⟩, H⟩ := H
  refine e_get dX3_size_1 fX3_1 q1184 g2 g2v ?_
  obtain ⟨fsg5, g5o, H⟩ := H
  obtain ⟨d6, k7, n8, Q9, g5, g5d, g5k, g5n, H⟩ := H
  refine e_callF (i := 3) (r := (RJ2, TJ2, 3)) (As := []) g5 dX3_size_4 wJ2_size rfl rfl q871 q876 q874 g5o rfl rfl g5d rfl (Nat.le_of_ble_eq_true rfl) (k1 := k - k7) (n1 := n - n8) (by omega) (by omega) ?_ ?_
  · rintro v h4 (⟨v9, e9, r3, e8, hq⟩ | ⟨ci9, q9, e9, -⟩)
    · cases e9
      subst e8
      replace H := H r3 h4 hq
      exact e_ireturn .int dX3_size_9 rfl rfl H
    · cases e9
  · rintro q9 h9 (⟨v9, e9, -⟩ | ⟨ci9, q8, e9, -, -, hx⟩)
    · cases e9
    · exact hx.elim
theorem en_X3_size {l : Launch} {lo : Nat} {G : eG} {d : Nat} {P : eO → eH → Prop} (a0 : Nat) {h : eH} {k n : Nat} (H : h_X3_size_0 (l, lo, G, d, P) a0 h k n) : Ct l lo G d mX3_size [.ref a0] h k n P := 
  Ct_of (eArL mX3_size.2.2.2.1 [.ref a0]) (by decide) rfl (Nat.le_of_ble_eq_true rfl) (fun j w q => eArL_mem j w q) (E.less2 H (eS_s eS_0))
/-! X3_made TroupeSums$Group.made(I)I -/
def h_X3_made_0 (c : cC) (a0 : Nat) (a1 : Int32) (h : eH) (k n : Nat) : Prop := E c.1 c.2.1 c.2.2.1 c.2.2.2.1 mX3_made c.2.2.2.2 0 [some (.ref a0), some (.int a1), none, none, none, none] [] h k n
def h_X3_made_6 (c : cC) (a0 : Nat) (a2 : Int32) (a3 : Int32) (h : eH) (k n : Nat) : Prop := E c.1 c.2.1 c.2.2.1 c.2.2.2.1 mX3_made c.2.2.2.2 6 [some (.ref a0), none, some (.int a2), some (.int a3), none, none] [] h k n
def h_X3_made_16 (c : cC) (a0 : Nat) (a2 : Int32) (a3 : Int32) (a4 : Int32) (h : eH) (k n : Nat) : Prop := E c.1 c.2.1 c.2.2.1 c.2.2.2.1 mX3_made c.2.2.2.2 16 [some (.ref a0), none, some (.int a2), some (.int a3), some (.int a4), none] [] h k n
def h_X3_made_28 (c : cC) (a0 : Nat) (a2 : Int32) (a3 : Int32) (a4 : Int32) (a5 : Int32) (h : eH) (k n : Nat) : Prop := E c.1 c.2.1 c.2.2.1 c.2.2.2.1 mX3_made c.2.2.2.2 28 [some (.ref a0), none, some (.int a2), some (.int a3), some (.int a4), some (.int a5)] [] h k n
def h_X3_made_82 (c : cC) (a0 : Nat) (a2 : Int32) (a3 : Int32) (a4 : Int32) (h : eH) (k n : Nat) : Prop := E c.1 c.2.1 c.2.2.1 c.2.2.2.1 mX3_made c.2.2.2.2 82 [some (.ref a0), none, some (.int a2), some (.int a3), some (.int a4), none] [] h k n
set_option maxHeartbeats 4000000 in
theorem s_X3_made_0 (c : cC) (a0 : Nat) (a1 : Int32) (h : eH) (k n : Nat) (H : h_X3_made_6 c a0 (a1 ||| (1 : Int32)) (0 : Int32) h k n) : h_X3_made_0 c a0 a1 h k n := by
  refine e_iload_n dX3_made_0 rfl ?_
  refine e_iconst (1) dX3_made_1 (by decide) ?_
  refine e_ior dX3_made_2 ?_
  refine e_istore_n _ dX3_made_3 (by decide) rfl rfl ?_
  refine e_iconst (0) dX3_made_4 (by decide) ?_
  refine e_istore_n _ dX3_made_5 (by decide) rfl rfl ?_
  exact E.less2 H (eS_s (eS_n (eS_s (eS_s (eS_n (eS_n eS_0))))))
set_option maxHeartbeats 4000000 in
theorem s_X3_made_6 (c : cC) (a0 : Nat) (a2 : Int32) (a3 : Int32) (h : eH) (k n : Nat) (H : (a2 = a3 → c.2.2.2.2 (.inl (some (.int a2))) h) ∧ (¬ a2 = a3 → h_X3_made_16 c a0 a2 a2 (0 : Int32) h k n)) : h_X3_made_6 c a0 a2 a3 h k n := by
  refine e_iload_n dX3_made_6 rfl ?_
  refine e_iload_n dX3_made_7 rfl ?_
  refine e_icmp_eq 91 dX3_made_8 (by decide) (fun g1 => ?_) (fun g1 => ?_)
  · replace H := H.1 g1
    refine e_iload_n dX3_made_91 rfl ?_
    exact e_ireturn .int dX3_made_92 rfl rfl H
  · replace H := H.2 g1
    refine e_iload_n dX3_made_11 rfl ?_
    refine e_istore_n _ dX3_made_12 (by decide) rfl rfl ?_
    refine e_iconst (0) dX3_made_13 (by decide) ?_
    refine e_istore _ dX3_made_14 (by decide) rfl rfl ?_
    exact E.less2 H (eS_s (eS_n (eS_s (eS_s (eS_s (eS_n eS_0))))))
set_option maxHeartbeats 4000000 in
theorem s_X3_made_16 (c : cC) (a0 : Nat) (a2 : Int32) (a3 : Int32) (a4 : Int32) (h : eH) (k n : Nat) (H : ∃ fs8 : List Value, h.1 a0 = some (.inr (3, fs8)) ∧ ∃ (d4 k5 n6 : Nat) (Q7 : Int32 → eH → Prop), cI c.1 c.2.1 c.2.2.1 d4 mX3_size [.ref a0] h k5 n6 Q7 cX0 ∧ d4 + 1 ≤ c.2.2.2.1 ∧ k5 ≤ k ∧ n6 ≤ n ∧ (∀ (r1 : Int32) (h2 : eH), Q7 r1 h2 → ((r1 ≤ a4 → h_X3_made_6 c a0 a2 a3 h2 (k - k5) (n - n6)) ∧ (¬ r1 ≤ a4 → h_X3_made_28 c a0 a2 a3 a4 (0 : Int32) h2 (k - k5) (n - n6))))) : h_X3_made_16 c a0 a2 a3 a4 h k n := by
  refine e_iload dX3_made_16 rfl ?_
  refine e_aload_n dX3_made_18 rfl ?_
  obtain ⟨fsg3, g3o, H⟩ := H
  obtain ⟨d4, k5, n6, Q7, g3, g3d, g3k, g3n, H⟩ := H
  refine e_callV (r := (RX3, TX3, 8)) (As := []) g3 dX3_made_19 wX3_size q928 q929 q930 g3o rfl rfl g3d rfl (Nat.le_of_ble_eq_true rfl) (k1 := k - k5) (n1 := n - n6) (by omega) (by omega) ?_ ?_
  · rintro v h2 (⟨v9, e9, r1, e8, hq⟩ | ⟨ci9, q9, e9, -⟩)
    · cases e9
      subst e8
      replace H := H r1 h2 hq
      refine e_icmp_ge 88 dX3_made_22 (by decide) (fun g8 => ?_) (fun g8 => ?_)
      · replace H := H.1 g8
        refine e_goto 6 dX3_made_88 (by decide) ?_
        exact E.less2 H (eS_s (eS_n (eS_s (eS_s (eS_n (eS_n eS_0))))))
      · replace H := H.2 g8
        refine e_iconst (0) dX3_made_25 (by decide) ?_
        refine e_istore _ dX3_made_26 (by decide) rfl rfl ?_
        exact E.less2 H (eS_s (eS_n (eS_s (eS_s (eS_s (eS_s eS_0))))))
    · cases e9
  · rintro q9 h9 (⟨v9, e9, -⟩ | ⟨ci9, q8, e9, -, -, hx⟩)
    · cases e9
    · exact hx.elim
set_option maxHeartbeats 4000000 in
theorem s_X3_made_28 (c : cC) (a0 : Nat) (a2 : Int32) (a3 : Int32) (a4 : Int32) (a5 : Int32) (h : eH) (k n : Nat) (H : ∃ fs8 : List Value, h.1 a0 = some (.inr (3, fs8)) ∧ ∃ (d4 k5 n6 : Nat) (Q7 : Int32 → eH → Prop), cI c.1 c.2.1 c.2.2.1 d4 mX3_size [.ref a0] h k5 n6 Q7 cX0 ∧ d4 + 1 ≤ c.2.2.2.1 ∧ k5 ≤ k ∧ n6 ≤ n ∧ (∀ (r1 : Int32) (h2 : eH), Q7 r1 h2 → ((r1 ≤ a5 → h_X3_made_82 c a0 a2 a3 a4 h2 (k - k5) (n - n6)) ∧ (¬ r1 ≤ a5 → ∃ (d12 k13 n14 : Nat) (Q15 : Int32 → eH → Prop), cI c.1 c.2.1 c.2.2.1 d12 mX0_isOf [.long a3.toInt64, .int a4] h2 k13 n14 Q15 cX0 ∧ d12 + 1 ≤ c.2.2.2.1 ∧ k13 ≤ k - k5 ∧ n14 ≤ n - n6 ∧ (∀ (r9 : Int32) (h10 : eH), Q15 r9 h10 → ((r9 = 0 → h_X3_made_82 c a0 a2 a3 a4 h10 (k - k5 - k13) (n - n6 - n14)) ∧ (¬ r9 = 0 → ∃ (d20 k21 n22 : Nat) (Q23 : Int32 → eH → Prop), cI c.1 c.2.1 c.2.2.1 d20 mX0_isOf [.long a3.toInt64, .int a5] h10 k21 n22 Q23 cX0 ∧ d20 + 1 ≤ c.2.2.2.1 ∧ k21 ≤ k - k5 - k13 ∧ n22 ≤ n - n6 - n14 ∧ (∀ (r17 : Int32) (h18 : eH), Q23 r17 h18 → ((r17 = 0 → h_X3_made_28 c a0 (a2 ||| (0 : Int32)) a3 a4 (a5 + 1) h18 (k - k5 - k13 - k21) (n - n6 - n14 - n22)) ∧ (¬ r17 = 0 → ∃ x25 : Nat, fV h18 a0 3 2 (.ref x25) ∧ (∃ (N27 : Nat) (f28 : Nat → Option Nat), h18.1 x25 = some (.inl (c.2.2.1.2.1 4, N27, .inr (.inr (.inr (.inr f28))))) ∧ vp_in a4 N27 ∧ ∃ r30 : Nat, f28 a4.toNatClampNeg = some r30 ∧ (∃ (N31 : Nat) (f32 : Nat → Int32), h18.1 r30 = some (.inl (c.2.2.1.2.1 0, N31, .inl f32)) ∧ vp_in a5 N31 ∧ (h_X3_made_28 c a0 (a2 ||| ((1 : Int32) <<< ((f32 a5.toNatClampNeg) &&& 31))) a3 a4 (a5 + 1) h18 (k - k5 - k13 - k21) (n - n6 - n14 - n22)))))))))))))) : h_X3_made_28 c a0 a2 a3 a4 a5 h k n := by
  refine e_iload dX3_made_28 rfl ?_
  refine e_aload_n dX3_made_30 rfl ?_
  obtain ⟨fsg3, g3o, H⟩ := H
  obtain ⟨d4, k5, n6, Q7, g3, g3d, g3k, g3n, H⟩ := H
  refine e_callV (r := (RX3, TX3, 8)) (As := []) g3 dX3_made_31 wX3_size q928 q929 q930 g3o rfl rfl g3d rfl (Nat.le_of_ble_eq_true rfl) (k1 := k - k5) (n1 := n - n6) (by omega) (by omega) ?_ ?_
  · rintro v h2 (⟨v9, e9, r1, e8, hq⟩ | ⟨ci9, q9, e9, -⟩)
    · cases e9
      subst e8
      replace H := H r1 h2 hq
      refine e_icmp_ge 82 dX3_made_34 (by decide) (fun g8 => ?_) (fun g8 => ?_)
      · replace H := H.1 g8
        exact E.less2 H (eS_s (eS_n (eS_s (eS_s (eS_s (eS_n eS_0))))))
      · replace H := H.2 g8
        refine e_iload_n dX3_made_37 rfl ?_
        refine e_i2l dX3_made_38 ?_
        refine e_iload dX3_made_39 rfl ?_
        obtain ⟨d12, k13, n14, Q15, g11, g11d, g11k, g11n, H⟩ := H
        refine e_callSN (As := [.long a3.toInt64, .int a4]) g11 dX3_made_41 wX0_isOf rfl q936 q937 rfl g11d rfl (Nat.le_of_ble_eq_true rfl) (k1 := k - k5 - k13) (n1 := n - n6 - n14) (by omega) (by omega) ?_ ?_
        · rintro v h10 (⟨v9, e9, r9, e8, hq⟩ | ⟨ci9, q9, e9, -⟩)
          · cases e9
            subst e8
            replace H := H r9 h10 hq
            refine e_if_eq 82 dX3_made_44 (by decide) (fun g16 => ?_) (fun g16 => ?_)
            · replace H := H.1 g16
              exact E.less2 H (eS_s (eS_n (eS_s (eS_s (eS_s (eS_n eS_0))))))
            · replace H := H.2 g16
              refine e_iload_n dX3_made_47 rfl ?_
              refine e_iload_n dX3_made_48 rfl ?_
              refine e_i2l dX3_made_49 ?_
              refine e_iload dX3_made_50 rfl ?_
              obtain ⟨d20, k21, n22, Q23, g19, g19d, g19k, g19n, H⟩ := H
              refine e_callSN (As := [.long a3.toInt64, .int a5]) g19 dX3_made_52 wX0_isOf rfl q936 q937 rfl g19d rfl (Nat.le_of_ble_eq_true rfl) (k1 := k - k5 - k13 - k21) (n1 := n - n6 - n14 - n22) (by omega) (by omega) ?_ ?_
              · rintro v h18 (⟨v9, e9, r17, e8, hq⟩ | ⟨ci9, q9, e9, -⟩)
                · cases e9
                  subst e8
                  replace H := H r17 h18 hq
                  refine e_if_eq 73 dX3_made_55 (by decide) (fun g24 => ?_) (fun g24 => ?_)
                  · replace H := H.1 g24
                    refine e_iconst (0) dX3_made_73 (by decide) ?_
                    refine e_ior dX3_made_74 ?_
                    refine e_istore_n _ dX3_made_75 (by decide) trivial rfl ?_
                    refine e_iinc (a5 + 1) _ dX3_made_76 rfl rfl (by decide) rfl rfl ?_
                    refine e_goto 28 dX3_made_79 (by decide) ?_
                    exact E.less2 H (eS_s (eS_n (eS_s (eS_s (eS_s (eS_s eS_0))))))
                  · replace H := H.2 g24
                    refine e_iconst (1) dX3_made_58 (by decide) ?_
                    refine e_aload_n dX3_made_59 rfl ?_
                    obtain ⟨x25, ⟨fsx25, g26, g26v⟩, H⟩ := H
                    refine e_get dX3_made_60 fX3_2 q1186 g26 g26v ?_
                    refine e_iload dX3_made_63 rfl ?_
                    obtain ⟨N27, f28, g29, g29i, r30, g29r, H⟩ := H
                    refine e_aaload 4 dX3_made_65 (fun _ => rfl) rfl g29 g29i ?_
                    rw [g29r]
                    refine e_iload dX3_made_66 rfl ?_
                    obtain ⟨N31, f32, g33, g33i, H⟩ := H
                    refine e_iaload dX3_made_68 g33 g33i ?_
                    refine e_ishl dX3_made_69 ?_
                    refine e_goto 74 dX3_made_70 (by decide) ?_
                    refine e_ior dX3_made_74 ?_
                    refine e_istore_n _ dX3_made_75 (by decide) trivial rfl ?_
                    refine e_iinc (a5 + 1) _ dX3_made_76 rfl rfl (by decide) rfl rfl ?_
                    refine e_goto 28 dX3_made_79 (by decide) ?_
                    exact E.less2 H (eS_s (eS_n (eS_s (eS_s (eS_s (eS_s eS_0))))))
                · cases e9
              · rintro q9 h9 (⟨v9, e9, -⟩ | ⟨ci9, q8, e9, -, -, hx⟩)
                · cases e9
                · exact hx.elim
          · cases e9
        · rintro q9 h9 (⟨v9, e9, -⟩ | ⟨ci9, q8, e9, -, -, hx⟩)
          · cases e9
          · exact hx.elim
    · cases e9
  · rintro q9 h9 (⟨v9, e9, -⟩ | ⟨ci9, q8, e9, -, -, hx⟩)
    · cases e9
    · exact hx.elim
set_option maxHeartbeats 4000000 in
theorem s_X3_made_82 (c : cC) (a0 : Nat) (a2 : Int32) (a3 : Int32) (a4 : Int32) (h : eH) (k n : Nat) (H : h_X3_made_16 c a0 a2 a3 (a4 + 1) h k n) : h_X3_made_82 c a0 a2 a3 a4 h k n := by
  refine e_iinc (a4 + 1) _ dX3_made_82 rfl rfl (by decide) rfl rfl ?_
  refine e_goto 16 dX3_made_85 (by decide) ?_
  exact E.less2 H (eS_s (eS_n (eS_s (eS_s (eS_s (eS_n eS_0))))))
theorem en_X3_made {l : Launch} {lo : Nat} {G : eG} {d : Nat} {P : eO → eH → Prop} (a0 : Nat) (a1 : Int32) {h : eH} {k n : Nat} (H : h_X3_made_0 (l, lo, G, d, P) a0 a1 h k n) : Ct l lo G d mX3_made [.ref a0, .int a1] h k n P := 
  Ct_of (eArL mX3_made.2.2.2.1 [.ref a0, .int a1]) (by decide) rfl (Nat.le_of_ble_eq_true rfl) (fun j w q => eArL_mem j w q) (E.less2 H (eS_s (eS_s (eS_n (eS_n (eS_n (eS_n eS_0)))))))
/-! X3_findSorts TroupeSums$Group.findSorts()V -/
def h_X3_findSorts_0 (c : cC) (a0 : Nat) (h : eH) (k n : Nat) : Prop := E c.1 c.2.1 c.2.2.1 c.2.2.2.1 mX3_findSorts c.2.2.2.2 0 [some (.ref a0), none, none, none] [] h k n
def h_X3_findSorts_25 (c : cC) (a0 : Nat) (a1 : Nat) (a2 : Nat) (h : eH) (k n : Nat) : Prop := E c.1 c.2.1 c.2.2.1 c.2.2.2.1 mX3_findSorts c.2.2.2.2 25 [some (.ref a0), some (.ref a1), some (.ref a2), none] [] h k n
def h_X3_findSorts_69 (c : cC) (a0 : Nat) (a1 : Nat) (a2 : Nat) (h : eH) (k n : Nat) : Prop := E c.1 c.2.1 c.2.2.1 c.2.2.2.1 mX3_findSorts c.2.2.2.2 69 [some (.ref a0), some (.ref a1), some (.ref a2), none] [] h k n
def h_X3_findSorts_72 (c : cC) (a0 : Nat) (a1 : Nat) (h : eH) (k n : Nat) : Prop := E c.1 c.2.1 c.2.2.1 c.2.2.2.1 mX3_findSorts c.2.2.2.2 72 [some (.ref a0), some (.ref a1), none, none] [] h k n
def h_X3_findSorts_101 (c : cC) (a0 : Nat) (a2 : Int32) (h : eH) (k n : Nat) : Prop := E c.1 c.2.1 c.2.2.1 c.2.2.2.1 mX3_findSorts c.2.2.2.2 101 [some (.ref a0), none, some (.int a2), none] [] h k n
def h_X3_findSorts_131 (c : cC) (a0 : Nat) (a2 : Int32) (a3 : Int32) (h : eH) (k n : Nat) : Prop := E c.1 c.2.1 c.2.2.1 c.2.2.2.1 mX3_findSorts c.2.2.2.2 131 [some (.ref a0), none, some (.int a2), some (.int a3)] [] h k n
def h_X3_findSorts_212 (c : cC) (a0 : Nat) (a2 : Nat) (h : eH) (k n : Nat) : Prop := E c.1 c.2.1 c.2.2.1 c.2.2.2.1 mX3_findSorts c.2.2.2.2 212 [some (.ref a0), none, some (.ref a2), none] [] h k n
set_option maxHeartbeats 4000000 in
theorem s_X3_findSorts_0 (c : cC) (a0 : Nat) (h : eH) (k n : Nat) (H : 1 ≤ k ∧ 4 ≤ n ∧ ∀ h1 : eH, h1 = eNw h (.inr (22, [.null, .int 0, .null, .int 0])) → (1 ≤ k - 1 ∧ 0 ≤ n - 4 ∧ ∀ h3 : eH, h3 = eNw h1 (.inr (4, [])) → (∃ (d8 k9 n10 : Nat) (Q11 : eH → Prop), cV c.1 c.2.1 c.2.2.1 d8 mX4_init [.ref h1.2] h3 k9 n10 Q11 cX0 ∧ d8 + 1 ≤ c.2.2.2.1 ∧ k9 ≤ k - 1 - 1 ∧ n10 ≤ n - 4 - 0 ∧ (∀ h6 : eH, Q11 h6 → (∃ (d15 k16 n17 : Nat) (Q18 : eH → Prop), cV c.1 c.2.1 c.2.2.1 d15 mJ23_init [.ref h.2, .ref h1.2] h6 k16 n17 Q18 cX0 ∧ d15 + 1 ≤ c.2.2.2.1 ∧ k16 ≤ k - 1 - 1 - k9 ∧ n17 ≤ n - 4 - 0 - n10 ∧ (∀ h13 : eH, Q18 h13 → (∃ x19 : Nat, fV h13 a0 3 4 (.ref x19) ∧ (∃ fs8 : List Value, h13.1 x19 = some (.inr (15, fs8)) ∧ ∃ (d24 k25 n26 : Nat) (Q27 : Nat → eH → Prop), cR c.1 c.2.1 c.2.2.1 d24 mJ2_iterator [.ref x19] h13 k25 n26 Q27 cX0 ∧ d24 + 1 ≤ c.2.2.2.1 ∧ k25 ≤ k - 1 - 1 - k9 - k16 ∧ n26 ≤ n - 4 - 0 - n10 - n17 ∧ (∀ (r21 : Nat) (h22 : eH), Q27 r21 h22 → (h_X3_findSorts_25 c a0 h.2 r21 h22 (k - 1 - 1 - k9 - k16 - k25) (n - 4 - 0 - n10 - n17 - n26))))))))))) : h_X3_findSorts_0 c a0 h k n := by
  obtain ⟨g2, g2n, H⟩ := H
  refine e_new (ci := 22) (N := 4) (C := RJ23) (T := TJ23) tyJ23 (fs := [.null, .int 0, .null, .int 0]) dX3_findSorts_0 rfl in_J23 tyJ23_ok q994 q995 q164 (by decide) (k1 := k - 1) (n1 := n - 4) (by omega) (by omega) ?_
  replace H := H _ rfl
  generalize eNw h _ = h1 at H ⊢
  refine e_dup dX3_findSorts_3 rfl ?_
  obtain ⟨g4, g4n, H⟩ := H
  refine e_new (ci := 4) (N := 0) (C := "TroupeSums$BySize") (T := TX4) (fun _ => .int) (fs := []) dX3_findSorts_4 rfl (fun w hw => absurd (show w ∈ ([] : List Cond) from hw) List.not_mem_nil) (fun i hi => absurd hi (Nat.not_lt_zero _)) q996 q997 q165 (by decide) (k1 := k - 1 - 1) (n1 := n - 4 - 0) (by omega) (by omega) ?_
  replace H := H _ rfl
  generalize eNw h1 _ = h3 at H ⊢
  refine e_dup dX3_findSorts_7 rfl ?_
  obtain ⟨d8, k9, n10, Q11, g7, g7d, g7k, g7n, H⟩ := H
  refine e_callIN (As := []) g7 dX3_findSorts_8 wX4_init rfl rfl rfl q998 q999 rfl g7d rfl (Nat.le_of_ble_eq_true rfl) (k1 := k - 1 - 1 - k9) (n1 := n - 4 - 0 - n10) (by omega) (by omega) ?_ ?_
  · rintro v h6 (⟨v9, e9, e8, hq⟩ | ⟨ci9, q9, e9, -⟩)
    · cases e9
      subst e8
      replace H := H h6 hq
      obtain ⟨d15, k16, n17, Q18, g14, g14d, g14k, g14n, H⟩ := H
      refine e_callI (As := [.ref h1.2]) g14 dX3_findSorts_11 wJ23_init rfl rfl rfl q1003 q1004 rfl g14d rfl (Nat.le_of_ble_eq_true rfl) (k1 := k - 1 - 1 - k9 - k16) (n1 := n - 4 - 0 - n10 - n17) (by omega) (by omega) ?_ ?_
      · rintro v h13 (⟨v9, e9, e8, hq⟩ | ⟨ci9, q9, e9, -⟩)
        · cases e9
          subst e8
          replace H := H h13 hq
          refine e_astore_n _ dX3_findSorts_14 (by decide) rfl rfl ?_
          refine e_aload_n dX3_findSorts_15 rfl ?_
          obtain ⟨x19, ⟨fsx19, g20, g20v⟩, H⟩ := H
          refine e_get dX3_findSorts_16 fX3_4 q1189 g20 g20v ?_
          obtain ⟨fsg23, g23o, H⟩ := H
          obtain ⟨d24, k25, n26, Q27, g23, g23d, g23k, g23n, H⟩ := H
          refine e_callF (i := 7) (r := (RJ2, TJ2, 3)) (As := []) g23 dX3_findSorts_19 wJ2_iterator rfl rfl q1028 q1033 q1031 g23o rfl rfl g23d rfl (Nat.le_of_ble_eq_true rfl) (k1 := k - 1 - 1 - k9 - k16 - k25) (n1 := n - 4 - 0 - n10 - n17 - n26) (by omega) (by omega) ?_ ?_
          · rintro v h22 (⟨v9, e9, r21, e8, hq⟩ | ⟨ci9, q9, e9, -⟩)
            · cases e9
              subst e8
              replace H := H r21 h22 hq
              refine e_astore_n _ dX3_findSorts_24 (by decide) rfl rfl ?_
              exact E.less2 H (eS_s (eS_s (eS_s (eS_n eS_0))))
            · cases e9
          · rintro q9 h9 (⟨v9, e9, -⟩ | ⟨ci9, q8, e9, -, -, hx⟩)
            · cases e9
            · exact hx.elim
        · cases e9
      · rintro q9 h9 (⟨v9, e9, -⟩ | ⟨ci9, q8, e9, -, -, hx⟩)
        · cases e9
        · exact hx.elim
    · cases e9
  · rintro q9 h9 (⟨v9, e9, -⟩ | ⟨ci9, q8, e9, -, -, hx⟩)
    · cases e9
    · exact hx.elim
set_option maxHeartbeats 4000000 in
theorem s_X3_findSorts_25 (c : cC) (a0 : Nat) (a1 : Nat) (a2 : Nat) (h : eH) (k n : Nat) (H : ∃ fs8 : List Value, h.1 a2 = some (.inr (23, fs8)) ∧ ∃ (d4 k5 n6 : Nat) (Q7 : Int32 → eH → Prop), cI c.1 c.2.1 c.2.2.1 d4 mJ24_hasNext [.ref a2] h k5 n6 Q7 cX0 ∧ d4 + 1 ≤ c.2.2.2.1 ∧ k5 ≤ k ∧ n6 ≤ n ∧ (∀ (r1 : Int32) (h2 : eH), Q7 r1 h2 → ((r1 = 0 → h_X3_findSorts_72 c a0 a1 h2 (k - k5) (n - n6)) ∧ (¬ r1 = 0 → ∃ fs8 : List Value, h2.1 a2 = some (.inr (23, fs8)) ∧ ∃ (d12 k13 n14 : Nat) (Q15 : Nat → eH → Prop), cR c.1 c.2.1 c.2.2.1 d12 mJ24_next [.ref a2] h2 k13 n14 Q15 cX0 ∧ d12 + 1 ≤ c.2.2.2.1 ∧ k13 ≤ k - k5 ∧ n14 ≤ n - n6 ∧ (∀ (r9 : Nat) (h10 : eH), Q15 r9 h10 → (eCs c.2.2.1 h10 r9 "java/lang/Integer" ∧ (∃ fs8 : List Value, h10.1 r9 = some (.inr (17, fs8)) ∧ ∃ (d20 k21 n22 : Nat) (Q23 : Int32 → eH → Prop), cI c.1 c.2.1 c.2.2.1 d20 mJ6_intValue [.ref r9] h10 k21 n22 Q23 cX0 ∧ d20 + 1 ≤ c.2.2.2.1 ∧ k21 ≤ k - k5 - k13 ∧ n22 ≤ n - n6 - n14 ∧ (∀ (r17 : Int32) (h18 : eH), Q23 r17 h18 → (∃ fs8 : List Value, h18.1 a0 = some (.inr (3, fs8)) ∧ ∃ (d27 k28 n29 : Nat) (Q30 : Int32 → eH → Prop), cI c.1 c.2.1 c.2.2.1 d27 mX3_firstOf [.ref a0, .int r17] h18 k28 n29 Q30 cX0 ∧ d27 + 1 ≤ c.2.2.2.1 ∧ k28 ≤ k - k5 - k13 - k21 ∧ n29 ≤ n - n6 - n14 - n22 ∧ (∀ (r24 : Int32) (h25 : eH), Q30 r24 h25 → ((¬ r24 = r17 → h_X3_findSorts_69 c a0 a1 a2 h25 (k - k5 - k13 - k21 - k28) (n - n6 - n14 - n22 - n29)) ∧ (r24 = r17 → 1 ≤ k - k5 - k13 - k21 - k28 ∧ 4 ≤ n - n6 - n14 - n22 - n29 ∧ ∀ h32 : eH, h32 = eNw h25 (.inr (5, [.int 0, .int 0, .int 0, .int 0])) → (∃ (d37 k38 n39 : Nat) (Q40 : eH → Prop), cV c.1 c.2.1 c.2.2.1 d37 mX5_init [.ref h25.2, .int r17] h32 k38 n39 Q40 cX0 ∧ d37 + 1 ≤ c.2.2.2.1 ∧ k38 ≤ k - k5 - k13 - k21 - k28 - 1 ∧ n39 ≤ n - n6 - n14 - n22 - n29 - 4 ∧ (∀ h35 : eH, Q40 h35 → (∃ fs8 : List Value, h35.1 a1 = some (.inr (22, fs8)) ∧ ∃ (d44 k45 n46 : Nat) (Q47 : Int32 → eH → Prop), cI c.1 c.2.1 c.2.2.1 d44 mJ23_add [.ref a1, .ref h25.2] h35 k45 n46 Q47 cX0 ∧ d44 + 1 ≤ c.2.2.2.1 ∧ k45 ≤ k - k5 - k13 - k21 - k28 - 1 - k38 ∧ n46 ≤ n - n6 - n14 - n22 - n29 - 4 - n39 ∧ (∀ (r41 : Int32) (h42 : eH), Q47 r41 h42 → (h_X3_findSorts_69 c a0 a1 a2 h42 (k - k5 - k13 - k21 - k28 - 1 - k38 - k45) (n - n6 - n14 - n22 - n29 - 4 - n39 - n46)))))))))))))))))) : h_X3_findSorts_25 c a0 a1 a2 h k n := by
  refine e_aload_n dX3_findSorts_25 rfl ?_
  obtain ⟨fsg3, g3o, H⟩ := H
  obtain ⟨d4, k5, n6, Q7, g3, g3d, g3k, g3n, H⟩ := H
  refine e_callF (i := 12) (r := (RJ24, TJ24, 4)) (As := []) g3 dX3_findSorts_26 wJ24_hasNext rfl rfl q747 q753 q751 g3o rfl rfl g3d rfl (Nat.le_of_ble_eq_true rfl) (k1 := k - k5) (n1 := n - n6) (by omega) (by omega) ?_ ?_
  · rintro v h2 (⟨v9, e9, r1, e8, hq⟩ | ⟨ci9, q9, e9, -⟩)
    · cases e9
      subst e8
      replace H := H r1 h2 hq
      refine e_if_eq 72 dX3_findSorts_31 (by decide) (fun g8 => ?_) (fun g8 => ?_)
      · replace H := H.1 g8
        exact E.less2 H (eS_s (eS_s (eS_n (eS_n eS_0))))
      · replace H := H.2 g8
        refine e_aload_n dX3_findSorts_34 rfl ?_
        obtain ⟨fsg11, g11o, H⟩ := H
        obtain ⟨d12, k13, n14, Q15, g11, g11d, g11k, g11n, H⟩ := H
        refine e_callF (i := 13) (r := (RJ24, TJ24, 4)) (As := []) g11 dX3_findSorts_35 wJ24_next rfl rfl q763 q768 q766 g11o rfl rfl g11d rfl (Nat.le_of_ble_eq_true rfl) (k1 := k - k5 - k13) (n1 := n - n6 - n14) (by omega) (by omega) ?_ ?_
        · rintro v h10 (⟨v9, e9, r9, e8, hq⟩ | ⟨ci9, q9, e9, -⟩)
          · cases e9
            subst e8
            replace H := H r9 h10 hq
            obtain ⟨g16, H⟩ := H
            refine c_castR dX3_findSorts_40 q919 g16 ?_
            obtain ⟨fsg19, g19o, H⟩ := H
            obtain ⟨d20, k21, n22, Q23, g19, g19d, g19k, g19n, H⟩ := H
            refine e_callV (r := (RJ6, TJ6, 1)) (As := []) g19 dX3_findSorts_43 wJ6_intValue q920 q921 q922 g19o rfl rfl g19d rfl (Nat.le_of_ble_eq_true rfl) (k1 := k - k5 - k13 - k21) (n1 := n - n6 - n14 - n22) (by omega) (by omega) ?_ ?_
            · rintro v h18 (⟨v9, e9, r17, e8, hq⟩ | ⟨ci9, q9, e9, -⟩)
              · cases e9
                subst e8
                replace H := H r17 h18 hq
                refine e_istore_n _ dX3_findSorts_46 (by decide) rfl rfl ?_
                refine e_aload_n dX3_findSorts_47 rfl ?_
                refine e_iload_n dX3_findSorts_48 rfl ?_
                obtain ⟨fsg26, g26o, H⟩ := H
                obtain ⟨d27, k28, n29, Q30, g26, g26d, g26k, g26n, H⟩ := H
                refine e_callV (r := (RX3, TX3, 8)) (As := [.int r17]) g26 dX3_findSorts_49 wX3_firstOf q1055 q1057 qs11 g26o rfl rfl g26d rfl (Nat.le_of_ble_eq_true rfl) (k1 := k - k5 - k13 - k21 - k28) (n1 := n - n6 - n14 - n22 - n29) (by omega) (by omega) ?_ ?_
                · rintro v h25 (⟨v9, e9, r24, e8, hq⟩ | ⟨ci9, q9, e9, -⟩)
                  · cases e9
                    subst e8
                    replace H := H r24 h25 hq
                    refine e_iload_n dX3_findSorts_52 rfl ?_
                    refine e_icmp_ne 69 dX3_findSorts_53 (by decide) (fun g31 => ?_) (fun g31 => ?_)
                    · replace H := H.1 g31
                      exact E.less2 H (eS_s (eS_s (eS_s (eS_n eS_0))))
                    · replace H := H.2 g31
                      refine e_aload_n dX3_findSorts_56 rfl ?_
                      obtain ⟨g33, g33n, H⟩ := H
                      refine e_new (ci := 5) (N := 4) (C := RX5) (T := TX5) tyX5 (fs := [.int 0, .int 0, .int 0, .int 0]) dX3_findSorts_57 rfl in_X5 tyX5_ok q1064 q1065 q167 (by decide) (k1 := k - k5 - k13 - k21 - k28 - 1) (n1 := n - n6 - n14 - n22 - n29 - 4) (by omega) (by omega) ?_
                      replace H := H _ rfl
                      generalize eNw h25 _ = h32 at H ⊢
                      refine e_dup dX3_findSorts_60 rfl ?_
                      refine e_iload_n dX3_findSorts_61 rfl ?_
                      obtain ⟨d37, k38, n39, Q40, g36, g36d, g36k, g36n, H⟩ := H
                      refine e_callI (As := [.int r17]) g36 dX3_findSorts_62 wX5_init rfl rfl rfl q1066 q1067 rfl g36d rfl (Nat.le_of_ble_eq_true rfl) (k1 := k - k5 - k13 - k21 - k28 - 1 - k38) (n1 := n - n6 - n14 - n22 - n29 - 4 - n39) (by omega) (by omega) ?_ ?_
                      · rintro v h35 (⟨v9, e9, e8, hq⟩ | ⟨ci9, q9, e9, -⟩)
                        · cases e9
                          subst e8
                          replace H := H h35 hq
                          obtain ⟨fsg43, g43o, H⟩ := H
                          obtain ⟨d44, k45, n46, Q47, g43, g43d, g43k, g43n, H⟩ := H
                          refine e_callV (r := (RJ23, TJ23, 4)) (As := [.ref h25.2]) g43 dX3_findSorts_65 wJ23_add q1097 q1098 q1099 g43o rfl rfl g43d rfl (Nat.le_of_ble_eq_true rfl) (k1 := k - k5 - k13 - k21 - k28 - 1 - k38 - k45) (n1 := n - n6 - n14 - n22 - n29 - 4 - n39 - n46) (by omega) (by omega) ?_ ?_
                          · rintro v h42 (⟨v9, e9, r41, e8, hq⟩ | ⟨ci9, q9, e9, -⟩)
                            · cases e9
                              subst e8
                              replace H := H r41 h42 hq
                              refine e_pop dX3_findSorts_68 rfl ?_
                              exact E.less2 H (eS_s (eS_s (eS_s (eS_n eS_0))))
                            · cases e9
                          · rintro q9 h9 (⟨v9, e9, -⟩ | ⟨ci9, q8, e9, -, -, hx⟩)
                            · cases e9
                            · exact hx.elim
                        · cases e9
                      · rintro q9 h9 (⟨v9, e9, -⟩ | ⟨ci9, q8, e9, -, -, hx⟩)
                        · cases e9
                        · exact hx.elim
                  · cases e9
                · rintro q9 h9 (⟨v9, e9, -⟩ | ⟨ci9, q8, e9, -, -, hx⟩)
                  · cases e9
                  · exact hx.elim
              · cases e9
            · rintro q9 h9 (⟨v9, e9, -⟩ | ⟨ci9, q8, e9, -, -, hx⟩)
              · cases e9
              · exact hx.elim
          · cases e9
        · rintro q9 h9 (⟨v9, e9, -⟩ | ⟨ci9, q8, e9, -, -, hx⟩)
          · cases e9
          · exact hx.elim
    · cases e9
  · rintro q9 h9 (⟨v9, e9, -⟩ | ⟨ci9, q8, e9, -, -, hx⟩)
    · cases e9
    · exact hx.elim
set_option maxHeartbeats 4000000 in
theorem s_X3_findSorts_69 (c : cC) (a0 : Nat) (a1 : Nat) (a2 : Nat) (h : eH) (k n : Nat) (H : h_X3_findSorts_25 c a0 a1 a2 h k n) : h_X3_findSorts_69 c a0 a1 a2 h k n := by
  refine e_goto 25 dX3_findSorts_69 (by decide) ?_
  exact E.less2 H (eS_s (eS_s (eS_s (eS_n eS_0))))
set_option maxHeartbeats 4000000 in
theorem s_X3_findSorts_72 (c : cC) (a0 : Nat) (a1 : Nat) (h : eH) (k n : Nat) (H : ∃ fs8 : List Value, h.1 a1 = some (.inr (22, fs8)) ∧ ∃ (d4 k5 n6 : Nat) (Q7 : Int32 → eH → Prop), cI c.1 c.2.1 c.2.2.1 d4 mJ0_isEmpty [.ref a1] h k5 n6 Q7 cX0 ∧ d4 + 1 ≤ c.2.2.2.1 ∧ k5 ≤ k ∧ n6 ≤ n ∧ (∀ (r1 : Int32) (h2 : eH), Q7 r1 h2 → ((¬ r1 = 0 → h_X3_findSorts_101 c a0 (0 : Int32) h2 (k - k5) (n - n6)) ∧ (r1 = 0 → ∃ x9 : Nat, fV h2 a0 3 5 (.ref x9) ∧ (∃ fs8 : List Value, h2.1 a1 = some (.inr (22, fs8)) ∧ ∃ (d14 k15 n16 : Nat) (Q17 : Option Nat → eH → Prop), cQ c.1 c.2.1 c.2.2.1 d14 mJ22_remove [.ref a1] h2 k15 n16 Q17 cX0 ∧ d14 + 1 ≤ c.2.2.2.1 ∧ k15 ≤ k - k5 ∧ n16 ≤ n - n6 ∧ (∀ (r11 : Option Nat) (h12 : eH), Q17 r11 h12 → ((∀ o19 : Nat, r11 = some o19 → eCs c.2.2.1 h12 o19 "TroupeSums$Sort") ∧ (∃ fs8 : List Value, h12.1 x9 = some (.inr (15, fs8)) ∧ ∃ (d23 k24 n25 : Nat) (Q26 : Int32 → eH → Prop), cI c.1 c.2.1 c.2.2.1 d23 mJ2_add [.ref x9, va_rf r11] h12 k24 n25 Q26 cX0 ∧ d23 + 1 ≤ c.2.2.2.1 ∧ k24 ≤ k - k5 - k15 ∧ n25 ≤ n - n6 - n16 ∧ (∀ (r20 : Int32) (h21 : eH), Q26 r20 h21 → (h_X3_findSorts_72 c a0 a1 h21 (k - k5 - k15 - k24) (n - n6 - n16 - n25))))))))))) : h_X3_findSorts_72 c a0 a1 h k n := by
  refine e_aload_n dX3_findSorts_72 rfl ?_
  obtain ⟨fsg3, g3o, H⟩ := H
  obtain ⟨d4, k5, n6, Q7, g3, g3d, g3k, g3n, H⟩ := H
  refine e_callU (r := (RJ23, TJ23, 4)) (As := []) g3 dX3_findSorts_73 wJ0_isEmpty rfl rfl q1126 q1127 q1130 q1129 g3o rfl rfl g3d rfl (Nat.le_of_ble_eq_true rfl) (k1 := k - k5) (n1 := n - n6) (by omega) (by omega) ?_ ?_
  · rintro v h2 (⟨v9, e9, r1, e8, hq⟩ | ⟨ci9, q9, e9, -⟩)
    · cases e9
      subst e8
      replace H := H r1 h2 hq
      refine e_if_ne 99 dX3_findSorts_76 (by decide) (fun g8 => ?_) (fun g8 => ?_)
      · replace H := H.1 g8
        refine e_iconst (0) dX3_findSorts_99 (by decide) ?_
        refine e_istore_n _ dX3_findSorts_100 (by decide) rfl rfl ?_
        exact E.less2 H (eS_s (eS_n (eS_s (eS_n eS_0))))
      · replace H := H.2 g8
        refine e_aload_n dX3_findSorts_79 rfl ?_
        obtain ⟨x9, ⟨fsx9, g10, g10v⟩, H⟩ := H
        refine e_get dX3_findSorts_80 fX3_5 q1192 g10 g10v ?_
        refine e_aload_n dX3_findSorts_83 rfl ?_
        obtain ⟨fsg13, g13o, H⟩ := H
        obtain ⟨d14, k15, n16, Q17, g13, g13d, g13k, g13n, H⟩ := H
        refine e_callU (r := (RJ23, TJ23, 4)) (As := []) g13 dX3_findSorts_84 wJ22_remove rfl rfl q1157 q1158 q1161 q1160 g13o rfl rfl g13d rfl (Nat.le_of_ble_eq_true rfl) (k1 := k - k5 - k15) (n1 := n - n6 - n16) (by omega) (by omega) ?_ ?_
        · rintro v h12 (⟨v9, e9, r11, e8, hq⟩ | ⟨ci9, q9, e9, -⟩)
          · cases e9
            subst e8
            replace H := H r11 h12 hq
            obtain ⟨g18, H⟩ := H
            refine c_cast dX3_findSorts_87 q1064 g18 ?_
            obtain ⟨fsg22, g22o, H⟩ := H
            obtain ⟨d23, k24, n25, Q26, g22, g22d, g22k, g22n, H⟩ := H
            refine e_callF (i := 5) (r := (RJ2, TJ2, 3)) (As := [va_rf r11]) g22 dX3_findSorts_90 wJ2_add rfl rfl q791 q797 q795 g22o rfl rfl g22d rfl (Nat.le_of_ble_eq_true rfl) (k1 := k - k5 - k15 - k24) (n1 := n - n6 - n16 - n25) (by omega) (by omega) ?_ ?_
            · rintro v h21 (⟨v9, e9, r20, e8, hq⟩ | ⟨ci9, q9, e9, -⟩)
              · cases e9
                subst e8
                replace H := H r20 h21 hq
                refine e_pop dX3_findSorts_95 rfl ?_
                refine e_goto 72 dX3_findSorts_96 (by decide) ?_
                exact E.less2 H (eS_s (eS_s (eS_n (eS_n eS_0))))
              · cases e9
            · rintro q9 h9 (⟨v9, e9, -⟩ | ⟨ci9, q8, e9, -, -, hx⟩)
              · cases e9
              · exact hx.elim
          · cases e9
        · rintro q9 h9 (⟨v9, e9, -⟩ | ⟨ci9, q8, e9, -, -, hx⟩)
          · cases e9
          · exact hx.elim
    · cases e9
  · rintro q9 h9 (⟨v9, e9, -⟩ | ⟨ci9, q8, e9, -, -, hx⟩)
    · cases e9
    · exact hx.elim
set_option maxHeartbeats 4000000 in
theorem s_X3_findSorts_101 (c : cC) (a0 : Nat) (a2 : Int32) (h : eH) (k n : Nat) (H : ∃ x1 : Nat, fV h a0 3 6 (.ref x1) ∧ (∃ v3 : vp_A, h.1 x1 = some (.inl (c.2.2.1.2.1 0, v3)) ∧ (((nI v3.1) ≤ a2 → ∃ x6 : Nat, fV h a0 3 5 (.ref x6) ∧ (∃ fs8 : List Value, h.1 x6 = some (.inr (15, fs8)) ∧ ∃ (d11 k12 n13 : Nat) (Q14 : Nat → eH → Prop), cR c.1 c.2.1 c.2.2.1 d11 mJ2_iterator [.ref x6] h k12 n13 Q14 cX0 ∧ d11 + 1 ≤ c.2.2.2.1 ∧ k12 ≤ k ∧ n13 ≤ n ∧ (∀ (r8 : Nat) (h9 : eH), Q14 r8 h9 → (h_X3_findSorts_212 c a0 r8 h9 (k - k12) (n - n13))))) ∧ (¬ (nI v3.1) ≤ a2 → ∃ x15 : Nat, fV h a0 3 4 (.ref x15) ∧ (∃ fs8 : List Value, h.1 x15 = some (.inr (15, fs8)) ∧ ∃ (d20 k21 n22 : Nat) (Q23 : Nat → eH → Prop), cR c.1 c.2.1 c.2.2.1 d20 mJ2_get [.ref x15, .int a2] h k21 n22 Q23 cX0 ∧ d20 + 1 ≤ c.2.2.2.1 ∧ k21 ≤ k ∧ n22 ≤ n ∧ (∀ (r17 : Nat) (h18 : eH), Q23 r17 h18 → (eCs c.2.2.1 h18 r17 "java/lang/Integer" ∧ (∃ fs8 : List Value, h18.1 r17 = some (.inr (17, fs8)) ∧ ∃ (d28 k29 n30 : Nat) (Q31 : Int32 → eH → Prop), cI c.1 c.2.1 c.2.2.1 d28 mJ6_intValue [.ref r17] h18 k29 n30 Q31 cX0 ∧ d28 + 1 ≤ c.2.2.2.1 ∧ k29 ≤ k - k21 ∧ n30 ≤ n - n22 ∧ (∀ (r25 : Int32) (h26 : eH), Q31 r25 h26 → (∃ fs8 : List Value, h26.1 a0 = some (.inr (3, fs8)) ∧ ∃ (d35 k36 n37 : Nat) (Q38 : Int32 → eH → Prop), cI c.1 c.2.1 c.2.2.1 d35 mX3_firstOf [.ref a0, .int r25] h26 k36 n37 Q38 cX0 ∧ d35 + 1 ≤ c.2.2.2.1 ∧ k36 ≤ k - k21 - k29 ∧ n37 ≤ n - n22 - n30 ∧ (∀ (r32 : Int32) (h33 : eH), Q38 r32 h33 → (h_X3_findSorts_131 c a0 a2 r32 h33 (k - k21 - k29 - k36) (n - n22 - n30 - n37))))))))))))) : h_X3_findSorts_101 c a0 a2 h k n := by
  refine e_iload_n dX3_findSorts_101 rfl ?_
  refine e_aload_n dX3_findSorts_102 rfl ?_
  obtain ⟨x1, ⟨fsx1, g2, g2v⟩, H⟩ := H
  refine e_get dX3_findSorts_103 fX3_6 q1196 g2 g2v ?_
  obtain ⟨v3, g4, H⟩ := H
  refine e_alen (t := 0) dX3_findSorts_106 (fun _ => rfl) g4 ?_
  refine e_icmp_ge 202 dX3_findSorts_107 (by decide) (fun g5 => ?_) (fun g5 => ?_)
  · replace H := H.1 g5
    refine e_aload_n dX3_findSorts_202 rfl ?_
    obtain ⟨x6, ⟨fsx6, g7, g7v⟩, H⟩ := H
    refine e_get dX3_findSorts_203 fX3_5 q1192 g7 g7v ?_
    obtain ⟨fsg10, g10o, H⟩ := H
    obtain ⟨d11, k12, n13, Q14, g10, g10d, g10k, g10n, H⟩ := H
    refine e_callF (i := 7) (r := (RJ2, TJ2, 3)) (As := []) g10 dX3_findSorts_206 wJ2_iterator rfl rfl q1028 q1033 q1031 g10o rfl rfl g10d rfl (Nat.le_of_ble_eq_true rfl) (k1 := k - k12) (n1 := n - n13) (by omega) (by omega) ?_ ?_
    · rintro v h9 (⟨v9, e9, r8, e8, hq⟩ | ⟨ci9, q9, e9, -⟩)
      · cases e9
        subst e8
        replace H := H r8 h9 hq
        refine e_astore_n _ dX3_findSorts_211 (by decide) trivial rfl ?_
        exact E.less2 H (eS_s (eS_n (eS_s (eS_n eS_0))))
      · cases e9
    · rintro q9 h9 (⟨v9, e9, -⟩ | ⟨ci9, q8, e9, -, -, hx⟩)
      · cases e9
      · exact hx.elim
  · replace H := H.2 g5
    refine e_aload_n dX3_findSorts_110 rfl ?_
    refine e_aload_n dX3_findSorts_111 rfl ?_
    obtain ⟨x15, ⟨fsx15, g16, g16v⟩, H⟩ := H
    refine e_get dX3_findSorts_112 fX3_4 q1189 g16 g16v ?_
    refine e_iload_n dX3_findSorts_115 rfl ?_
    obtain ⟨fsg19, g19o, H⟩ := H
    obtain ⟨d20, k21, n22, Q23, g19, g19d, g19k, g19n, H⟩ := H
    refine e_callF (i := 4) (r := (RJ2, TJ2, 3)) (As := [.int a2]) g19 dX3_findSorts_116 wJ2_get rfl rfl q882 q887 q885 g19o rfl rfl g19d rfl (Nat.le_of_ble_eq_true rfl) (k1 := k - k21) (n1 := n - n22) (by omega) (by omega) ?_ ?_
    · rintro v h18 (⟨v9, e9, r17, e8, hq⟩ | ⟨ci9, q9, e9, -⟩)
      · cases e9
        subst e8
        replace H := H r17 h18 hq
        obtain ⟨g24, H⟩ := H
        refine c_castR dX3_findSorts_121 q919 g24 ?_
        obtain ⟨fsg27, g27o, H⟩ := H
        obtain ⟨d28, k29, n30, Q31, g27, g27d, g27k, g27n, H⟩ := H
        refine e_callV (r := (RJ6, TJ6, 1)) (As := []) g27 dX3_findSorts_124 wJ6_intValue q920 q921 q922 g27o rfl rfl g27d rfl (Nat.le_of_ble_eq_true rfl) (k1 := k - k21 - k29) (n1 := n - n22 - n30) (by omega) (by omega) ?_ ?_
        · rintro v h26 (⟨v9, e9, r25, e8, hq⟩ | ⟨ci9, q9, e9, -⟩)
          · cases e9
            subst e8
            replace H := H r25 h26 hq
            obtain ⟨fsg34, g34o, H⟩ := H
            obtain ⟨d35, k36, n37, Q38, g34, g34d, g34k, g34n, H⟩ := H
            refine e_callV (r := (RX3, TX3, 8)) (As := [.int r25]) g34 dX3_findSorts_127 wX3_firstOf q1055 q1057 qs11 g34o rfl rfl g34d rfl (Nat.le_of_ble_eq_true rfl) (k1 := k - k21 - k29 - k36) (n1 := n - n22 - n30 - n37) (by omega) (by omega) ?_ ?_
            · rintro v h33 (⟨v9, e9, r32, e8, hq⟩ | ⟨ci9, q9, e9, -⟩)
              · cases e9
                subst e8
                replace H := H r32 h33 hq
                refine e_istore_n _ dX3_findSorts_130 (by decide) rfl rfl ?_
                exact E.less2 H (eS_s (eS_n (eS_s (eS_s eS_0))))
              · cases e9
            · rintro q9 h9 (⟨v9, e9, -⟩ | ⟨ci9, q8, e9, -, -, hx⟩)
              · cases e9
              · exact hx.elim
          · cases e9
        · rintro q9 h9 (⟨v9, e9, -⟩ | ⟨ci9, q8, e9, -, -, hx⟩)
          · cases e9
          · exact hx.elim
      · cases e9
    · rintro q9 h9 (⟨v9, e9, -⟩ | ⟨ci9, q8, e9, -, -, hx⟩)
      · cases e9
      · exact hx.elim
set_option maxHeartbeats 4000000 in
theorem s_X3_findSorts_131 (c : cC) (a0 : Nat) (a2 : Int32) (a3 : Int32) (h : eH) (k n : Nat) (H : ∃ x1 : Nat, fV h a0 3 5 (.ref x1) ∧ (∃ x3 : Nat, fV h a0 3 6 (.ref x3) ∧ (∃ (N5 : Nat) (f6 : Nat → Int32), h.1 x3 = some (.inl (c.2.2.1.2.1 0, N5, .inl f6)) ∧ vp_in a2 N5 ∧ (∃ fs8 : List Value, h.1 x1 = some (.inr (15, fs8)) ∧ ∃ (d11 k12 n13 : Nat) (Q14 : Nat → eH → Prop), cR c.1 c.2.1 c.2.2.1 d11 mJ2_get [.ref x1, .int (f6 a2.toNatClampNeg)] h k12 n13 Q14 cX0 ∧ d11 + 1 ≤ c.2.2.2.1 ∧ k12 ≤ k ∧ n13 ≤ n ∧ (∀ (r8 : Nat) (h9 : eH), Q14 r8 h9 → (eCs c.2.2.1 h9 r8 "TroupeSums$Sort" ∧ (∃ x16 : Int32, fV h9 r8 5 1 (.int x16) ∧ ((x16 = a3 → ∃ x19 : Nat, fV h9 a0 3 5 (.ref x19) ∧ (∃ x21 : Nat, fV h9 a0 3 6 (.ref x21) ∧ (∃ (N23 : Nat) (f24 : Nat → Int32), h9.1 x21 = some (.inl (c.2.2.1.2.1 0, N23, .inl f24)) ∧ vp_in a2 N23 ∧ (∃ fs8 : List Value, h9.1 x19 = some (.inr (15, fs8)) ∧ ∃ (d29 k30 n31 : Nat) (Q32 : Nat → eH → Prop), cR c.1 c.2.1 c.2.2.1 d29 mJ2_get [.ref x19, .int (f24 a2.toNatClampNeg)] h9 k30 n31 Q32 cX0 ∧ d29 + 1 ≤ c.2.2.2.1 ∧ k30 ≤ k - k12 ∧ n31 ≤ n - n13 ∧ (∀ (r26 : Nat) (h27 : eH), Q32 r26 h27 → (eCs c.2.2.1 h27 r26 "TroupeSums$Sort" ∧ (∃ x34 : Int32, fV h27 r26 5 2 (.int x34) ∧ (∃ fs36 : List Value, h27.1 r26 = some (.inr (5, fs36)) ∧ c.2.1 ≤ r26 ∧ 2 < fs36.length ∧ ∀ h38 : eH, h38 = eUp h27 r26 (.inr (5, fs36.set 2 (.int (x34 + (1 : Int32))))) → (h_X3_findSorts_101 c a0 (a2 + 1) h38 (k - k12 - k30) (n - n13 - n31)))))))))) ∧ (¬ x16 = a3 → ∃ x39 : Nat, fV h9 a0 3 6 (.ref x39) ∧ (∃ (N41 : Nat) (f42 : Nat → Int32), h9.1 x39 = some (.inl (c.2.2.1.2.1 0, N41, .inl f42)) ∧ vp_in a2 N41 ∧ (∃ (N44 : Nat) (f45 : Nat → Int32), h9.1 x39 = some (.inl (c.2.2.1.2.1 0, N44, .inl f45)) ∧ c.2.1 ≤ x39 ∧ vp_in a2 N44 ∧ ∀ h47 : eH, h47 = eUp h9 x39 (.inl (c.2.2.1.2.1 0, N44, .inl (va_up f45 a2.toNatClampNeg ((f42 a2.toNatClampNeg) + (1 : Int32))))) → (h_X3_findSorts_131 c a0 a2 a3 h47 (k - k12) (n - n13))))))))))))) : h_X3_findSorts_131 c a0 a2 a3 h k n := by
  refine e_aload_n dX3_findSorts_131 rfl ?_
  obtain ⟨x1, ⟨fsx1, g2, g2v⟩, H⟩ := H
  refine e_get dX3_findSorts_132 fX3_5 q1192 g2 g2v ?_
  refine e_aload_n dX3_findSorts_135 rfl ?_
  obtain ⟨x3, ⟨fsx3, g4, g4v⟩, H⟩ := H
  refine e_get dX3_findSorts_136 fX3_6 q1196 g4 g4v ?_
  refine e_iload_n dX3_findSorts_139 rfl ?_
  obtain ⟨N5, f6, g7, g7i, H⟩ := H
  refine e_iaload dX3_findSorts_140 g7 g7i ?_
  obtain ⟨fsg10, g10o, H⟩ := H
  obtain ⟨d11, k12, n13, Q14, g10, g10d, g10k, g10n, H⟩ := H
  refine e_callF (i := 4) (r := (RJ2, TJ2, 3)) (As := [.int (f6 a2.toNatClampNeg)]) g10 dX3_findSorts_141 wJ2_get rfl rfl q882 q887 q885 g10o rfl rfl g10d rfl (Nat.le_of_ble_eq_true rfl) (k1 := k - k12) (n1 := n - n13) (by omega) (by omega) ?_ ?_
  · rintro v h9 (⟨v9, e9, r8, e8, hq⟩ | ⟨ci9, q9, e9, -⟩)
    · cases e9
      subst e8
      replace H := H r8 h9 hq
      obtain ⟨g15, H⟩ := H
      refine c_castR dX3_findSorts_146 q1064 g15 ?_
      obtain ⟨x16, ⟨fsx16, g17, g17v⟩, H⟩ := H
      refine e_getN dX3_findSorts_149 fX5_1 q1081 g17 g17v ?_
      refine e_iload_n dX3_findSorts_152 rfl ?_
      refine e_icmp_eq 169 dX3_findSorts_153 (by decide) (fun g18 => ?_) (fun g18 => ?_)
      · replace H := H.1 g18
        refine e_aload_n dX3_findSorts_169 rfl ?_
        obtain ⟨x19, ⟨fsx19, g20, g20v⟩, H⟩ := H
        refine e_get dX3_findSorts_170 fX3_5 q1192 g20 g20v ?_
        refine e_aload_n dX3_findSorts_173 rfl ?_
        obtain ⟨x21, ⟨fsx21, g22, g22v⟩, H⟩ := H
        refine e_get dX3_findSorts_174 fX3_6 q1196 g22 g22v ?_
        refine e_iload_n dX3_findSorts_177 rfl ?_
        obtain ⟨N23, f24, g25, g25i, H⟩ := H
        refine e_iaload dX3_findSorts_178 g25 g25i ?_
        obtain ⟨fsg28, g28o, H⟩ := H
        obtain ⟨d29, k30, n31, Q32, g28, g28d, g28k, g28n, H⟩ := H
        refine e_callF (i := 4) (r := (RJ2, TJ2, 3)) (As := [.int (f24 a2.toNatClampNeg)]) g28 dX3_findSorts_179 wJ2_get rfl rfl q882 q887 q885 g28o rfl rfl g28d rfl (Nat.le_of_ble_eq_true rfl) (k1 := k - k12 - k30) (n1 := n - n13 - n31) (by omega) (by omega) ?_ ?_
        · rintro v h27 (⟨v9, e9, r26, e8, hq⟩ | ⟨ci9, q9, e9, -⟩)
          · cases e9
            subst e8
            replace H := H r26 h27 hq
            obtain ⟨g33, H⟩ := H
            refine c_castR dX3_findSorts_184 q1064 g33 ?_
            refine e_dup dX3_findSorts_187 rfl ?_
            obtain ⟨x34, ⟨fsx34, g35, g35v⟩, H⟩ := H
            refine e_getN dX3_findSorts_188 fX5_2 q1084 g35 g35v ?_
            refine e_iconst (1) dX3_findSorts_191 (by decide) ?_
            refine e_iadd dX3_findSorts_192 ?_
            obtain ⟨fs36, g37, g37l, g37j, H⟩ := H
            refine e_putN dX3_findSorts_193 fX5_2 q1084 (eFit_i _) g37 g37l g37j ?_
            replace H := H _ rfl
            generalize eUp h27 r26 _ = h38 at H ⊢
            refine e_iinc (a2 + 1) _ dX3_findSorts_196 rfl rfl (by decide) trivial rfl ?_
            refine e_goto 101 dX3_findSorts_199 (by decide) ?_
            exact E.less2 H (eS_s (eS_n (eS_s (eS_n eS_0))))
          · cases e9
        · rintro q9 h9 (⟨v9, e9, -⟩ | ⟨ci9, q8, e9, -, -, hx⟩)
          · cases e9
          · exact hx.elim
      · replace H := H.2 g18
        refine e_aload_n dX3_findSorts_156 rfl ?_
        obtain ⟨x39, ⟨fsx39, g40, g40v⟩, H⟩ := H
        refine e_get dX3_findSorts_157 fX3_6 q1196 g40 g40v ?_
        refine e_iload_n dX3_findSorts_160 rfl ?_
        refine e_dup2 dX3_findSorts_161 rfl rfl ?_
        obtain ⟨N41, f42, g43, g43i, H⟩ := H
        refine e_iaload dX3_findSorts_162 g43 g43i ?_
        refine e_iconst (1) dX3_findSorts_163 (by decide) ?_
        refine e_iadd dX3_findSorts_164 ?_
        obtain ⟨N44, f45, g46, g46l, g46i, H⟩ := H
        refine e_iastore dX3_findSorts_165 g46 g46l g46i ?_
        replace H := H _ rfl
        generalize eUp h9 x39 _ = h47 at H ⊢
        refine e_goto 131 dX3_findSorts_166 (by decide) ?_
        exact E.less2 H (eS_s (eS_n (eS_s (eS_s eS_0))))
    · cases e9
  · rintro q9 h9 (⟨v9, e9, -⟩ | ⟨ci9, q8, e9, -, -, hx⟩)
    · cases e9
    · exact hx.elim
set_option maxHeartbeats 4000000 in
theorem s_X3_findSorts_212 (c : cC) (a0 : Nat) (a2 : Nat) (h : eH) (k n : Nat) (H : ∃ fs8 : List Value, h.1 a2 = some (.inr (23, fs8)) ∧ ∃ (d4 k5 n6 : Nat) (Q7 : Int32 → eH → Prop), cI c.1 c.2.1 c.2.2.1 d4 mJ24_hasNext [.ref a2] h k5 n6 Q7 cX0 ∧ d4 + 1 ≤ c.2.2.2.1 ∧ k5 ≤ k ∧ n6 ≤ n ∧ (∀ (r1 : Int32) (h2 : eH), Q7 r1 h2 → ((r1 = 0 → c.2.2.2.2 (.inl none) h2) ∧ (¬ r1 = 0 → ∃ fs8 : List Value, h2.1 a2 = some (.inr (23, fs8)) ∧ ∃ (d12 k13 n14 : Nat) (Q15 : Nat → eH → Prop), cR c.1 c.2.1 c.2.2.1 d12 mJ24_next [.ref a2] h2 k13 n14 Q15 cX0 ∧ d12 + 1 ≤ c.2.2.2.1 ∧ k13 ≤ k - k5 ∧ n14 ≤ n - n6 ∧ (∀ (r9 : Nat) (h10 : eH), Q15 r9 h10 → (eCs c.2.2.1 h10 r9 "TroupeSums$Sort" ∧ (∃ x17 : Int32, fV h10 r9 5 1 (.int x17) ∧ (∃ fs8 : List Value, h10.1 a0 = some (.inr (3, fs8)) ∧ ∃ (d22 k23 n24 : Nat) (Q25 : Int32 → eH → Prop), cI c.1 c.2.1 c.2.2.1 d22 mX3_norm [.ref a0, .int x17] h10 k23 n24 Q25 cX0 ∧ d22 + 1 ≤ c.2.2.2.1 ∧ k23 ≤ k - k5 - k13 ∧ n24 ≤ n - n6 - n14 ∧ (∀ (r19 : Int32) (h20 : eH), Q25 r19 h20 → (∃ fs26 : List Value, h20.1 r9 = some (.inr (5, fs26)) ∧ c.2.1 ≤ r9 ∧ 3 < fs26.length ∧ ∀ h28 : eH, h28 = eUp h20 r9 (.inr (5, fs26.set 3 (.int r19))) → (h_X3_findSorts_212 c a0 a2 h28 (k - k5 - k13 - k23) (n - n6 - n14 - n24)))))))))))) : h_X3_findSorts_212 c a0 a2 h k n := by
  refine e_aload_n dX3_findSorts_212 rfl ?_
  obtain ⟨fsg3, g3o, H⟩ := H
  obtain ⟨d4, k5, n6, Q7, g3, g3d, g3k, g3n, H⟩ := H
  refine e_callF (i := 12) (r := (RJ24, TJ24, 4)) (As := []) g3 dX3_findSorts_213 wJ24_hasNext rfl rfl q747 q753 q751 g3o rfl rfl g3d rfl (Nat.le_of_ble_eq_true rfl) (k1 := k - k5) (n1 := n - n6) (by omega) (by omega) ?_ ?_
  · rintro v h2 (⟨v9, e9, r1, e8, hq⟩ | ⟨ci9, q9, e9, -⟩)
    · cases e9
      subst e8
      replace H := H r1 h2 hq
      refine e_if_eq 246 dX3_findSorts_218 (by decide) (fun g8 => ?_) (fun g8 => ?_)
      · replace H := H.1 g8
        exact e_return dX3_findSorts_246 rfl H
      · replace H := H.2 g8
        refine e_aload_n dX3_findSorts_221 rfl ?_
        obtain ⟨fsg11, g11o, H⟩ := H
        obtain ⟨d12, k13, n14, Q15, g11, g11d, g11k, g11n, H⟩ := H
        refine e_callF (i := 13) (r := (RJ24, TJ24, 4)) (As := []) g11 dX3_findSorts_222 wJ24_next rfl rfl q763 q768 q766 g11o rfl rfl g11d rfl (Nat.le_of_ble_eq_true rfl) (k1 := k - k5 - k13) (n1 := n - n6 - n14) (by omega) (by omega) ?_ ?_
        · rintro v h10 (⟨v9, e9, r9, e8, hq⟩ | ⟨ci9, q9, e9, -⟩)
          · cases e9
            subst e8
            replace H := H r9 h10 hq
            obtain ⟨g16, H⟩ := H
            refine c_castR dX3_findSorts_227 q1064 g16 ?_
            refine e_astore_n _ dX3_findSorts_230 (by decide) rfl rfl ?_
            refine e_aload_n dX3_findSorts_231 rfl ?_
            refine e_aload_n dX3_findSorts_232 rfl ?_
            refine e_aload_n dX3_findSorts_233 rfl ?_
            obtain ⟨x17, ⟨fsx17, g18, g18v⟩, H⟩ := H
            refine e_getN dX3_findSorts_234 fX5_1 q1081 g18 g18v ?_
            obtain ⟨fsg21, g21o, H⟩ := H
            obtain ⟨d22, k23, n24, Q25, g21, g21d, g21k, g21n, H⟩ := H
            refine e_callV (r := (RX3, TX3, 8)) (As := [.int x17]) g21 dX3_findSorts_237 wX3_norm q1174 q1175 q1176 g21o rfl rfl g21d rfl (Nat.le_of_ble_eq_true rfl) (k1 := k - k5 - k13 - k23) (n1 := n - n6 - n14 - n24) (by omega) (by omega) ?_ ?_
            · rintro v h20 (⟨v9, e9, r19, e8, hq⟩ | ⟨ci9, q9, e9, -⟩)
              · cases e9
                subst e8
                replace H := H r19 h20 hq
                obtain ⟨fs26, g27, g27l, g27j, H⟩ := H
                refine e_putN dX3_findSorts_240 fX5_3 q1086 (eFit_i _) g27 g27l g27j ?_
                replace H := H _ rfl
                generalize eUp h20 r9 _ = h28 at H ⊢
                refine e_goto 212 dX3_findSorts_243 (by decide) ?_
                exact E.less2 H (eS_s (eS_n (eS_s (eS_n eS_0))))
              · cases e9
            · rintro q9 h9 (⟨v9, e9, -⟩ | ⟨ci9, q8, e9, -, -, hx⟩)
              · cases e9
              · exact hx.elim
          · cases e9
        · rintro q9 h9 (⟨v9, e9, -⟩ | ⟨ci9, q8, e9, -, -, hx⟩)
          · cases e9
          · exact hx.elim
    · cases e9
  · rintro q9 h9 (⟨v9, e9, -⟩ | ⟨ci9, q8, e9, -, -, hx⟩)
    · cases e9
    · exact hx.elim
theorem en_X3_findSorts {l : Launch} {lo : Nat} {G : eG} {d : Nat} {P : eO → eH → Prop} (a0 : Nat) {h : eH} {k n : Nat} (H : h_X3_findSorts_0 (l, lo, G, d, P) a0 h k n) : Ct l lo G d mX3_findSorts [.ref a0] h k n P := 
  Ct_of (eArL mX3_findSorts.2.2.2.1 [.ref a0]) (by decide) rfl (Nat.le_of_ble_eq_true rfl) (fun j w q => eArL_mem j w q) (E.less2 H (eS_s (eS_n (eS_n (eS_n eS_0)))))
/-! X3_firstOf TroupeSums$Group.firstOf(I)I -/
def h_X3_firstOf_0 (c : cC) (a0 : Nat) (a1 : Int32) (h : eH) (k n : Nat) : Prop := E c.1 c.2.1 c.2.2.1 c.2.2.2.1 mX3_firstOf c.2.2.2.2 0 [some (.ref a0), some (.int a1), none, none] [] h k n
def h_X3_firstOf_4 (c : cC) (a0 : Nat) (a1 : Int32) (a2 : Int32) (a3 : Int32) (h : eH) (k n : Nat) : Prop := E c.1 c.2.1 c.2.2.1 c.2.2.2.1 mX3_firstOf c.2.2.2.2 4 [some (.ref a0), some (.int a1), some (.int a2), some (.int a3)] [] h k n
set_option maxHeartbeats 4000000 in
theorem s_X3_firstOf_0 (c : cC) (a0 : Nat) (a1 : Int32) (h : eH) (k n : Nat) (H : h_X3_firstOf_4 c a0 a1 a1 (0 : Int32) h k n) : h_X3_firstOf_0 c a0 a1 h k n := by
  refine e_iload_n dX3_firstOf_0 rfl ?_
  refine e_istore_n _ dX3_firstOf_1 (by decide) rfl rfl ?_
  refine e_iconst (0) dX3_firstOf_2 (by decide) ?_
  refine e_istore_n _ dX3_firstOf_3 (by decide) rfl rfl ?_
  exact E.less2 H (eS_s (eS_s (eS_s (eS_s eS_0))))
set_option maxHeartbeats 4000000 in
theorem s_X3_firstOf_4 (c : cC) (a0 : Nat) (a1 : Int32) (a2 : Int32) (a3 : Int32) (h : eH) (k n : Nat) (H : ∃ fs8 : List Value, h.1 a0 = some (.inr (3, fs8)) ∧ ∃ (d4 k5 n6 : Nat) (Q7 : Int32 → eH → Prop), cI c.1 c.2.1 c.2.2.1 d4 mX3_size [.ref a0] h k5 n6 Q7 cX0 ∧ d4 + 1 ≤ c.2.2.2.1 ∧ k5 ≤ k ∧ n6 ≤ n ∧ (∀ (r1 : Int32) (h2 : eH), Q7 r1 h2 → ((r1 ≤ a3 → c.2.2.2.2 (.inl (some (.int a2))) h2) ∧ (¬ r1 ≤ a3 → ∃ fs8 : List Value, h2.1 a0 = some (.inr (3, fs8)) ∧ ∃ (d12 k13 n14 : Nat) (Q15 : Int32 → eH → Prop), cI c.1 c.2.1 c.2.2.1 d12 mX3_turned [.ref a0, .int a1, .int a3] h2 k13 n14 Q15 cX0 ∧ d12 + 1 ≤ c.2.2.2.1 ∧ k13 ≤ k - k5 ∧ n14 ≤ n - n6 ∧ (∀ (r9 : Int32) (h10 : eH), Q15 r9 h10 → (1 ≤ c.2.2.2.1 ∧ (h_X3_firstOf_4 c a0 a1 (if r9 < a2 then r9 else a2) (a3 + 1) h10 (k - k5 - k13) (n - n6 - n14)))))))) : h_X3_firstOf_4 c a0 a1 a2 a3 h k n := by
  refine e_iload_n dX3_firstOf_4 rfl ?_
  refine e_aload_n dX3_firstOf_5 rfl ?_
  obtain ⟨fsg3, g3o, H⟩ := H
  obtain ⟨d4, k5, n6, Q7, g3, g3d, g3k, g3n, H⟩ := H
  refine e_callV (r := (RX3, TX3, 8)) (As := []) g3 dX3_firstOf_6 wX3_size q928 q929 q930 g3o rfl rfl g3d rfl (Nat.le_of_ble_eq_true rfl) (k1 := k - k5) (n1 := n - n6) (by omega) (by omega) ?_ ?_
  · rintro v h2 (⟨v9, e9, r1, e8, hq⟩ | ⟨ci9, q9, e9, -⟩)
    · cases e9
      subst e8
      replace H := H r1 h2 hq
      refine e_icmp_ge 29 dX3_firstOf_9 (by decide) (fun g8 => ?_) (fun g8 => ?_)
      · replace H := H.1 g8
        refine e_iload_n dX3_firstOf_29 rfl ?_
        exact e_ireturn .int dX3_firstOf_30 rfl rfl H
      · replace H := H.2 g8
        refine e_iload_n dX3_firstOf_12 rfl ?_
        refine e_aload_n dX3_firstOf_13 rfl ?_
        refine e_iload_n dX3_firstOf_14 rfl ?_
        refine e_iload_n dX3_firstOf_15 rfl ?_
        obtain ⟨fsg11, g11o, H⟩ := H
        obtain ⟨d12, k13, n14, Q15, g11, g11d, g11k, g11n, H⟩ := H
        refine e_callV (r := (RX3, TX3, 8)) (As := [.int a1, .int a3]) g11 dX3_firstOf_16 wX3_turned q1059 q1060 q1061 g11o rfl rfl g11d rfl (Nat.le_of_ble_eq_true rfl) (k1 := k - k5 - k13) (n1 := n - n6 - n14) (by omega) (by omega) ?_ ?_
        · rintro v h10 (⟨v9, e9, r9, e8, hq⟩ | ⟨ci9, q9, e9, -⟩)
          · cases e9
            subst e8
            replace H := H r9 h10 hq
            obtain ⟨g16, H⟩ := H
            refine e_mmin dX3_firstOf_19 q1063 g16 (Nat.le_of_ble_eq_true rfl) ?_
            refine e_istore_n _ dX3_firstOf_22 (by decide) rfl rfl ?_
            refine e_iinc (a3 + 1) _ dX3_firstOf_23 rfl rfl (by decide) rfl rfl ?_
            refine e_goto 4 dX3_firstOf_26 (by decide) ?_
            exact E.less2 H (eS_s (eS_s (eS_s (eS_s eS_0))))
          · cases e9
        · rintro q9 h9 (⟨v9, e9, -⟩ | ⟨ci9, q8, e9, -, -, hx⟩)
          · cases e9
          · exact hx.elim
    · cases e9
  · rintro q9 h9 (⟨v9, e9, -⟩ | ⟨ci9, q8, e9, -, -, hx⟩)
    · cases e9
    · exact hx.elim
theorem en_X3_firstOf {l : Launch} {lo : Nat} {G : eG} {d : Nat} {P : eO → eH → Prop} (a0 : Nat) (a1 : Int32) {h : eH} {k n : Nat} (H : h_X3_firstOf_0 (l, lo, G, d, P) a0 a1 h k n) : Ct l lo G d mX3_firstOf [.ref a0, .int a1] h k n P := 
  Ct_of (eArL mX3_firstOf.2.2.2.1 [.ref a0, .int a1]) (by decide) rfl (Nat.le_of_ble_eq_true rfl) (fun j w q => eArL_mem j w q) (E.less2 H (eS_s (eS_s (eS_n (eS_n eS_0)))))
/-! X3_turned TroupeSums$Group.turned(II)I -/
def h_X3_turned_0 (c : cC) (a0 : Nat) (a1 : Int32) (a2 : Int32) (h : eH) (k n : Nat) : Prop := E c.1 c.2.1 c.2.2.1 c.2.2.2.1 mX3_turned c.2.2.2.2 0 [some (.ref a0), some (.int a1), some (.int a2), none, none] [] h k n
def h_X3_turned_5 (c : cC) (a0 : Nat) (a1 : Int32) (a2 : Int32) (a3 : Int32) (a4 : Int32) (h : eH) (k n : Nat) : Prop := E c.1 c.2.1 c.2.2.1 c.2.2.2.1 mX3_turned c.2.2.2.2 5 [some (.ref a0), some (.int a1), some (.int a2), some (.int a3), some (.int a4)] [] h k n
set_option maxHeartbeats 4000000 in
theorem s_X3_turned_0 (c : cC) (a0 : Nat) (a1 : Int32) (a2 : Int32) (h : eH) (k n : Nat) (H : h_X3_turned_5 c a0 a1 a2 (0 : Int32) (0 : Int32) h k n) : h_X3_turned_0 c a0 a1 a2 h k n := by
  refine e_iconst (0) dX3_turned_0 (by decide) ?_
  refine e_istore_n _ dX3_turned_1 (by decide) rfl rfl ?_
  refine e_iconst (0) dX3_turned_2 (by decide) ?_
  refine e_istore _ dX3_turned_3 (by decide) rfl rfl ?_
  exact E.less2 H (eS_s (eS_s (eS_s (eS_s (eS_s eS_0)))))
set_option maxHeartbeats 4000000 in
theorem s_X3_turned_5 (c : cC) (a0 : Nat) (a1 : Int32) (a2 : Int32) (a3 : Int32) (a4 : Int32) (h : eH) (k n : Nat) (H : ∃ fs8 : List Value, h.1 a0 = some (.inr (3, fs8)) ∧ ∃ (d4 k5 n6 : Nat) (Q7 : Int32 → eH → Prop), cI c.1 c.2.1 c.2.2.1 d4 mX3_size [.ref a0] h k5 n6 Q7 cX0 ∧ d4 + 1 ≤ c.2.2.2.1 ∧ k5 ≤ k ∧ n6 ≤ n ∧ (∀ (r1 : Int32) (h2 : eH), Q7 r1 h2 → ((r1 ≤ a4 → c.2.2.2.2 (.inl (some (.int a3))) h2) ∧ (¬ r1 ≤ a4 → ∃ (d12 k13 n14 : Nat) (Q15 : Int32 → eH → Prop), cI c.1 c.2.1 c.2.2.1 d12 mX0_isOf [.long a1.toInt64, .int a4] h2 k13 n14 Q15 cX0 ∧ d12 + 1 ≤ c.2.2.2.1 ∧ k13 ≤ k - k5 ∧ n14 ≤ n - n6 ∧ (∀ (r9 : Int32) (h10 : eH), Q15 r9 h10 → ((r9 = 0 → h_X3_turned_5 c a0 a1 a2 (a3 ||| (0 : Int32)) (a4 + 1) h10 (k - k5 - k13) (n - n6 - n14)) ∧ (¬ r9 = 0 → ∃ x17 : Nat, fV h10 a0 3 2 (.ref x17) ∧ (∃ x19 : Nat, fV h10 a0 3 2 (.ref x19) ∧ (∃ x21 : Nat, fV h10 a0 3 3 (.ref x21) ∧ (∃ (N23 : Nat) (f24 : Nat → Int32), h10.1 x21 = some (.inl (c.2.2.1.2.1 0, N23, .inl f24)) ∧ vp_in a2 N23 ∧ (∃ (N26 : Nat) (f27 : Nat → Option Nat), h10.1 x19 = some (.inl (c.2.2.1.2.1 4, N26, .inr (.inr (.inr (.inr f27))))) ∧ vp_in (f24 a2.toNatClampNeg) N26 ∧ ∃ r29 : Nat, f27 (f24 a2.toNatClampNeg).toNatClampNeg = some r29 ∧ (∃ (N30 : Nat) (f31 : Nat → Int32), h10.1 r29 = some (.inl (c.2.2.1.2.1 0, N30, .inl f31)) ∧ vp_in a4 N30 ∧ (∃ (N33 : Nat) (f34 : Nat → Option Nat), h10.1 x17 = some (.inl (c.2.2.1.2.1 4, N33, .inr (.inr (.inr (.inr f34))))) ∧ vp_in (f31 a4.toNatClampNeg) N33 ∧ ∃ r36 : Nat, f34 (f31 a4.toNatClampNeg).toNatClampNeg = some r36 ∧ (∃ (N37 : Nat) (f38 : Nat → Int32), h10.1 r36 = some (.inl (c.2.2.1.2.1 0, N37, .inl f38)) ∧ vp_in a2 N37 ∧ (h_X3_turned_5 c a0 a1 a2 (a3 ||| ((1 : Int32) <<< ((f38 a2.toNatClampNeg) &&& 31))) (a4 + 1) h10 (k - k5 - k13) (n - n6 - n14)))))))))))))))) : h_X3_turned_5 c a0 a1 a2 a3 a4 h k n := by
  refine e_iload dX3_turned_5 rfl ?_
  refine e_aload_n dX3_turned_7 rfl ?_
  obtain ⟨fsg3, g3o, H⟩ := H
  obtain ⟨d4, k5, n6, Q7, g3, g3d, g3k, g3n, H⟩ := H
  refine e_callV (r := (RX3, TX3, 8)) (As := []) g3 dX3_turned_8 wX3_size q928 q929 q930 g3o rfl rfl g3d rfl (Nat.le_of_ble_eq_true rfl) (k1 := k - k5) (n1 := n - n6) (by omega) (by omega) ?_ ?_
  · rintro v h2 (⟨v9, e9, r1, e8, hq⟩ | ⟨ci9, q9, e9, -⟩)
    · cases e9
      subst e8
      replace H := H r1 h2 hq
      refine e_icmp_ge 60 dX3_turned_11 (by decide) (fun g8 => ?_) (fun g8 => ?_)
      · replace H := H.1 g8
        refine e_iload_n dX3_turned_60 rfl ?_
        exact e_ireturn .int dX3_turned_61 rfl rfl H
      · replace H := H.2 g8
        refine e_iload_n dX3_turned_14 rfl ?_
        refine e_iload_n dX3_turned_15 rfl ?_
        refine e_i2l dX3_turned_16 ?_
        refine e_iload dX3_turned_17 rfl ?_
        obtain ⟨d12, k13, n14, Q15, g11, g11d, g11k, g11n, H⟩ := H
        refine e_callSN (As := [.long a1.toInt64, .int a4]) g11 dX3_turned_19 wX0_isOf rfl q936 q937 rfl g11d rfl (Nat.le_of_ble_eq_true rfl) (k1 := k - k5 - k13) (n1 := n - n6 - n14) (by omega) (by omega) ?_ ?_
        · rintro v h10 (⟨v9, e9, r9, e8, hq⟩ | ⟨ci9, q9, e9, -⟩)
          · cases e9
            subst e8
            replace H := H r9 h10 hq
            refine e_if_eq 51 dX3_turned_22 (by decide) (fun g16 => ?_) (fun g16 => ?_)
            · replace H := H.1 g16
              refine e_iconst (0) dX3_turned_51 (by decide) ?_
              refine e_ior dX3_turned_52 ?_
              refine e_istore_n _ dX3_turned_53 (by decide) rfl rfl ?_
              refine e_iinc (a4 + 1) _ dX3_turned_54 rfl rfl (by decide) rfl rfl ?_
              refine e_goto 5 dX3_turned_57 (by decide) ?_
              exact E.less2 H (eS_s (eS_s (eS_s (eS_s (eS_s eS_0)))))
            · replace H := H.2 g16
              refine e_iconst (1) dX3_turned_25 (by decide) ?_
              refine e_aload_n dX3_turned_26 rfl ?_
              obtain ⟨x17, ⟨fsx17, g18, g18v⟩, H⟩ := H
              refine e_get dX3_turned_27 fX3_2 q1186 g18 g18v ?_
              refine e_aload_n dX3_turned_30 rfl ?_
              obtain ⟨x19, ⟨fsx19, g20, g20v⟩, H⟩ := H
              refine e_get dX3_turned_31 fX3_2 q1186 g20 g20v ?_
              refine e_aload_n dX3_turned_34 rfl ?_
              obtain ⟨x21, ⟨fsx21, g22, g22v⟩, H⟩ := H
              refine e_get dX3_turned_35 fX3_3 q1188 g22 g22v ?_
              refine e_iload_n dX3_turned_38 rfl ?_
              obtain ⟨N23, f24, g25, g25i, H⟩ := H
              refine e_iaload dX3_turned_39 g25 g25i ?_
              obtain ⟨N26, f27, g28, g28i, r29, g28r, H⟩ := H
              refine e_aaload 4 dX3_turned_40 (fun _ => rfl) rfl g28 g28i ?_
              rw [g28r]
              refine e_iload dX3_turned_41 rfl ?_
              obtain ⟨N30, f31, g32, g32i, H⟩ := H
              refine e_iaload dX3_turned_43 g32 g32i ?_
              obtain ⟨N33, f34, g35, g35i, r36, g35r, H⟩ := H
              refine e_aaload 4 dX3_turned_44 (fun _ => rfl) rfl g35 g35i ?_
              rw [g35r]
              refine e_iload_n dX3_turned_45 rfl ?_
              obtain ⟨N37, f38, g39, g39i, H⟩ := H
              refine e_iaload dX3_turned_46 g39 g39i ?_
              refine e_ishl dX3_turned_47 ?_
              refine e_goto 52 dX3_turned_48 (by decide) ?_
              refine e_ior dX3_turned_52 ?_
              refine e_istore_n _ dX3_turned_53 (by decide) rfl rfl ?_
              refine e_iinc (a4 + 1) _ dX3_turned_54 rfl rfl (by decide) rfl rfl ?_
              refine e_goto 5 dX3_turned_57 (by decide) ?_
              exact E.less2 H (eS_s (eS_s (eS_s (eS_s (eS_s eS_0)))))
          · cases e9
        · rintro q9 h9 (⟨v9, e9, -⟩ | ⟨ci9, q8, e9, -, -, hx⟩)
          · cases e9
          · exact hx.elim
    · cases e9
  · rintro q9 h9 (⟨v9, e9, -⟩ | ⟨ci9, q8, e9, -, -, hx⟩)
    · cases e9
    · exact hx.elim
theorem en_X3_turned {l : Launch} {lo : Nat} {G : eG} {d : Nat} {P : eO → eH → Prop} (a0 : Nat) (a1 : Int32) (a2 : Int32) {h : eH} {k n : Nat} (H : h_X3_turned_0 (l, lo, G, d, P) a0 a1 a2 h k n) : Ct l lo G d mX3_turned [.ref a0, .int a1, .int a2] h k n P := 
  Ct_of (eArL mX3_turned.2.2.2.1 [.ref a0, .int a1, .int a2]) (by decide) rfl (Nat.le_of_ble_eq_true rfl) (fun j w q => eArL_mem j w q) (E.less2 H (eS_s (eS_s (eS_s (eS_n (eS_n eS_0))))))
/-! X3_norm TroupeSums$Group.norm(I)I -/
def h_X3_norm_0 (c : cC) (a0 : Nat) (a1 : Int32) (h : eH) (k n : Nat) : Prop := E c.1 c.2.1 c.2.2.1 c.2.2.2.1 mX3_norm c.2.2.2.2 0 [some (.ref a0), some (.int a1), none, none] [] h k n
def h_X3_norm_4 (c : cC) (a0 : Nat) (a1 : Int32) (a2 : Int32) (a3 : Int32) (h : eH) (k n : Nat) : Prop := E c.1 c.2.1 c.2.2.1 c.2.2.2.1 mX3_norm c.2.2.2.2 4 [some (.ref a0), some (.int a1), some (.int a2), some (.int a3)] [] h k n
set_option maxHeartbeats 4000000 in
theorem s_X3_norm_0 (c : cC) (a0 : Nat) (a1 : Int32) (h : eH) (k n : Nat) (H : h_X3_norm_4 c a0 a1 (0 : Int32) (0 : Int32) h k n) : h_X3_norm_0 c a0 a1 h k n := by
  refine e_iconst (0) dX3_norm_0 (by decide) ?_
  refine e_istore_n _ dX3_norm_1 (by decide) rfl rfl ?_
  refine e_iconst (0) dX3_norm_2 (by decide) ?_
  refine e_istore_n _ dX3_norm_3 (by decide) rfl rfl ?_
  exact E.less2 H (eS_s (eS_s (eS_s (eS_s eS_0))))
set_option maxHeartbeats 4000000 in
theorem s_X3_norm_4 (c : cC) (a0 : Nat) (a1 : Int32) (a2 : Int32) (a3 : Int32) (h : eH) (k n : Nat) (H : ∃ fs8 : List Value, h.1 a0 = some (.inr (3, fs8)) ∧ ∃ (d4 k5 n6 : Nat) (Q7 : Int32 → eH → Prop), cI c.1 c.2.1 c.2.2.1 d4 mX3_size [.ref a0] h k5 n6 Q7 cX0 ∧ d4 + 1 ≤ c.2.2.2.1 ∧ k5 ≤ k ∧ n6 ≤ n ∧ (∀ (r1 : Int32) (h2 : eH), Q7 r1 h2 → ((r1 ≤ a3 → c.2.2.2.2 (.inl (some (.int a2))) h2) ∧ (¬ r1 ≤ a3 → ∃ fs8 : List Value, h2.1 a0 = some (.inr (3, fs8)) ∧ ∃ (d12 k13 n14 : Nat) (Q15 : Int32 → eH → Prop), cI c.1 c.2.1 c.2.2.1 d12 mX3_turned [.ref a0, .int a1, .int a3] h2 k13 n14 Q15 cX0 ∧ d12 + 1 ≤ c.2.2.2.1 ∧ k13 ≤ k - k5 ∧ n14 ≤ n - n6 ∧ (∀ (r9 : Int32) (h10 : eH), Q15 r9 h10 → ((¬ r9 = a1 → h_X3_norm_4 c a0 a1 (a2 ||| (0 : Int32)) (a3 + 1) h10 (k - k5 - k13) (n - n6 - n14)) ∧ (r9 = a1 → h_X3_norm_4 c a0 a1 (a2 ||| ((1 : Int32) <<< (a3 &&& 31))) (a3 + 1) h10 (k - k5 - k13) (n - n6 - n14)))))))) : h_X3_norm_4 c a0 a1 a2 a3 h k n := by
  refine e_iload_n dX3_norm_4 rfl ?_
  refine e_aload_n dX3_norm_5 rfl ?_
  obtain ⟨fsg3, g3o, H⟩ := H
  obtain ⟨d4, k5, n6, Q7, g3, g3d, g3k, g3n, H⟩ := H
  refine e_callV (r := (RX3, TX3, 8)) (As := []) g3 dX3_norm_6 wX3_size q928 q929 q930 g3o rfl rfl g3d rfl (Nat.le_of_ble_eq_true rfl) (k1 := k - k5) (n1 := n - n6) (by omega) (by omega) ?_ ?_
  · rintro v h2 (⟨v9, e9, r1, e8, hq⟩ | ⟨ci9, q9, e9, -⟩)
    · cases e9
      subst e8
      replace H := H r1 h2 hq
      refine e_icmp_ge 38 dX3_norm_9 (by decide) (fun g8 => ?_) (fun g8 => ?_)
      · replace H := H.1 g8
        refine e_iload_n dX3_norm_38 rfl ?_
        exact e_ireturn .int dX3_norm_39 rfl rfl H
      · replace H := H.2 g8
        refine e_iload_n dX3_norm_12 rfl ?_
        refine e_aload_n dX3_norm_13 rfl ?_
        refine e_iload_n dX3_norm_14 rfl ?_
        refine e_iload_n dX3_norm_15 rfl ?_
        obtain ⟨fsg11, g11o, H⟩ := H
        obtain ⟨d12, k13, n14, Q15, g11, g11d, g11k, g11n, H⟩ := H
        refine e_callV (r := (RX3, TX3, 8)) (As := [.int a1, .int a3]) g11 dX3_norm_16 wX3_turned q1059 q1060 q1061 g11o rfl rfl g11d rfl (Nat.le_of_ble_eq_true rfl) (k1 := k - k5 - k13) (n1 := n - n6 - n14) (by omega) (by omega) ?_ ?_
        · rintro v h10 (⟨v9, e9, r9, e8, hq⟩ | ⟨ci9, q9, e9, -⟩)
          · cases e9
            subst e8
            replace H := H r9 h10 hq
            refine e_iload_n dX3_norm_19 rfl ?_
            refine e_icmp_ne 29 dX3_norm_20 (by decide) (fun g16 => ?_) (fun g16 => ?_)
            · replace H := H.1 g16
              refine e_iconst (0) dX3_norm_29 (by decide) ?_
              refine e_ior dX3_norm_30 ?_
              refine e_istore_n _ dX3_norm_31 (by decide) rfl rfl ?_
              refine e_iinc (a3 + 1) _ dX3_norm_32 rfl rfl (by decide) rfl rfl ?_
              refine e_goto 4 dX3_norm_35 (by decide) ?_
              exact E.less2 H (eS_s (eS_s (eS_s (eS_s eS_0))))
            · replace H := H.2 g16
              refine e_iconst (1) dX3_norm_23 (by decide) ?_
              refine e_iload_n dX3_norm_24 rfl ?_
              refine e_ishl dX3_norm_25 ?_
              refine e_goto 30 dX3_norm_26 (by decide) ?_
              refine e_ior dX3_norm_30 ?_
              refine e_istore_n _ dX3_norm_31 (by decide) rfl rfl ?_
              refine e_iinc (a3 + 1) _ dX3_norm_32 rfl rfl (by decide) rfl rfl ?_
              refine e_goto 4 dX3_norm_35 (by decide) ?_
              exact E.less2 H (eS_s (eS_s (eS_s (eS_s eS_0))))
          · cases e9
        · rintro q9 h9 (⟨v9, e9, -⟩ | ⟨ci9, q8, e9, -, -, hx⟩)
          · cases e9
          · exact hx.elim
    · cases e9
  · rintro q9 h9 (⟨v9, e9, -⟩ | ⟨ci9, q8, e9, -, -, hx⟩)
    · cases e9
    · exact hx.elim
theorem en_X3_norm {l : Launch} {lo : Nat} {G : eG} {d : Nat} {P : eO → eH → Prop} (a0 : Nat) (a1 : Int32) {h : eH} {k n : Nat} (H : h_X3_norm_0 (l, lo, G, d, P) a0 a1 h k n) : Ct l lo G d mX3_norm [.ref a0, .int a1] h k n P := 
  Ct_of (eArL mX3_norm.2.2.2.1 [.ref a0, .int a1]) (by decide) rfl (Nat.le_of_ble_eq_true rfl) (fun j w q => eArL_mem j w q) (E.less2 H (eS_s (eS_s (eS_n (eS_n eS_0)))))
/-! X3_mark TroupeSums$Group.mark(II)I -/
def h_X3_mark_0 (c : cC) (a0 : Nat) (a1 : Int32) (a2 : Int32) (h : eH) (k n : Nat) : Prop := E c.1 c.2.1 c.2.2.1 c.2.2.2.1 mX3_mark c.2.2.2.2 0 [some (.ref a0), some (.int a1), some (.int a2), none, none] [] h k n
def h_X3_mark_5 (c : cC) (a0 : Nat) (a1 : Int32) (a2 : Int32) (a3 : Int32) (a4 : Int32) (h : eH) (k n : Nat) : Prop := E c.1 c.2.1 c.2.2.1 c.2.2.2.1 mX3_mark c.2.2.2.2 5 [some (.ref a0), some (.int a1), some (.int a2), some (.int a3), some (.int a4)] [] h k n
set_option maxHeartbeats 4000000 in
theorem s_X3_mark_0 (c : cC) (a0 : Nat) (a1 : Int32) (a2 : Int32) (h : eH) (k n : Nat) (H : h_X3_mark_5 c a0 a1 a2 (0 : Int32) (0 : Int32) h k n) : h_X3_mark_0 c a0 a1 a2 h k n := by
  refine e_iconst (0) dX3_mark_0 (by decide) ?_
  refine e_istore_n _ dX3_mark_1 (by decide) rfl rfl ?_
  refine e_iconst (0) dX3_mark_2 (by decide) ?_
  refine e_istore _ dX3_mark_3 (by decide) rfl rfl ?_
  exact E.less2 H (eS_s (eS_s (eS_s (eS_s (eS_s eS_0)))))
set_option maxHeartbeats 4000000 in
theorem s_X3_mark_5 (c : cC) (a0 : Nat) (a1 : Int32) (a2 : Int32) (a3 : Int32) (a4 : Int32) (h : eH) (k n : Nat) (H : ∃ fs8 : List Value, h.1 a0 = some (.inr (3, fs8)) ∧ ∃ (d4 k5 n6 : Nat) (Q7 : Int32 → eH → Prop), cI c.1 c.2.1 c.2.2.1 d4 mX3_size [.ref a0] h k5 n6 Q7 cX0 ∧ d4 + 1 ≤ c.2.2.2.1 ∧ k5 ≤ k ∧ n6 ≤ n ∧ (∀ (r1 : Int32) (h2 : eH), Q7 r1 h2 → ((r1 ≤ a4 → ∃ (d12 k13 n14 : Nat) (Q15 : Int32 → eH → Prop), cI c.1 c.2.1 c.2.2.1 d12 mJ6_bitCount [.int a1] h2 k13 n14 Q15 cX0 ∧ d12 + 1 ≤ c.2.2.2.1 ∧ k13 ≤ k - k5 ∧ n14 ≤ n - n6 ∧ (∀ (r9 : Int32) (h10 : eH), Q15 r9 h10 → (¬ r9 = 0 ∧ (c.2.2.2.2 (.inl (some (.int (a3 / r9)))) h10)))) ∧ (¬ r1 ≤ a4 → ∃ x17 : Nat, fV h2 a0 3 3 (.ref x17) ∧ (∃ (N19 : Nat) (f20 : Nat → Int32), h2.1 x17 = some (.inl (c.2.2.1.2.1 0, N19, .inl f20)) ∧ vp_in a4 N19 ∧ (∃ fs8 : List Value, h2.1 a0 = some (.inr (3, fs8)) ∧ ∃ (d25 k26 n27 : Nat) (Q28 : Int32 → eH → Prop), cI c.1 c.2.1 c.2.2.1 d25 mX3_turned [.ref a0, .int a2, .int (f20 a4.toNatClampNeg)] h2 k26 n27 Q28 cX0 ∧ d25 + 1 ≤ c.2.2.2.1 ∧ k26 ≤ k - k5 ∧ n27 ≤ n - n6 ∧ (∀ (r22 : Int32) (h23 : eH), Q28 r22 h23 → ((¬ (r22 &&& (a1 ^^^ (-1 : Int32))) = 0 → h_X3_mark_5 c a0 a1 a2 (a3 + (0 : Int32)) (a4 + 1) h23 (k - k5 - k26) (n - n6 - n27)) ∧ ((r22 &&& (a1 ^^^ (-1 : Int32))) = 0 → h_X3_mark_5 c a0 a1 a2 (a3 + (1 : Int32)) (a4 + 1) h23 (k - k5 - k26) (n - n6 - n27)))))))))) : h_X3_mark_5 c a0 a1 a2 a3 a4 h k n := by
  refine e_iload dX3_mark_5 rfl ?_
  refine e_aload_n dX3_mark_7 rfl ?_
  obtain ⟨fsg3, g3o, H⟩ := H
  obtain ⟨d4, k5, n6, Q7, g3, g3d, g3k, g3n, H⟩ := H
  refine e_callV (r := (RX3, TX3, 8)) (As := []) g3 dX3_mark_8 wX3_size q928 q929 q930 g3o rfl rfl g3d rfl (Nat.le_of_ble_eq_true rfl) (k1 := k - k5) (n1 := n - n6) (by omega) (by omega) ?_ ?_
  · rintro v h2 (⟨v9, e9, r1, e8, hq⟩ | ⟨ci9, q9, e9, -⟩)
    · cases e9
      subst e8
      replace H := H r1 h2 hq
      refine e_icmp_ge 47 dX3_mark_11 (by decide) (fun g8 => ?_) (fun g8 => ?_)
      · replace H := H.1 g8
        refine e_iload_n dX3_mark_47 rfl ?_
        refine e_iload_n dX3_mark_48 rfl ?_
        obtain ⟨d12, k13, n14, Q15, g11, g11d, g11k, g11n, H⟩ := H
        refine e_callS (As := [.int a1]) g11 dX3_mark_49 wJ6_bitCount q1182 q1071 rfl g11d rfl (Nat.le_of_ble_eq_true rfl) (k1 := k - k5 - k13) (n1 := n - n6 - n14) (by omega) (by omega) ?_ ?_
        · rintro v h10 (⟨v9, e9, r9, e8, hq⟩ | ⟨ci9, q9, e9, -⟩)
          · cases e9
            subst e8
            replace H := H r9 h10 hq
            obtain ⟨g16, H⟩ := H
            refine e_idiv dX3_mark_52 g16 ?_
            exact e_ireturn .int dX3_mark_53 rfl rfl H
          · cases e9
        · rintro q9 h9 (⟨v9, e9, -⟩ | ⟨ci9, q8, e9, -, -, hx⟩)
          · cases e9
          · exact hx.elim
      · replace H := H.2 g8
        refine e_iload_n dX3_mark_14 rfl ?_
        refine e_aload_n dX3_mark_15 rfl ?_
        refine e_iload_n dX3_mark_16 rfl ?_
        refine e_aload_n dX3_mark_17 rfl ?_
        obtain ⟨x17, ⟨fsx17, g18, g18v⟩, H⟩ := H
        refine e_get dX3_mark_18 fX3_3 q1188 g18 g18v ?_
        refine e_iload dX3_mark_21 rfl ?_
        obtain ⟨N19, f20, g21, g21i, H⟩ := H
        refine e_iaload dX3_mark_23 g21 g21i ?_
        obtain ⟨fsg24, g24o, H⟩ := H
        obtain ⟨d25, k26, n27, Q28, g24, g24d, g24k, g24n, H⟩ := H
        refine e_callV (r := (RX3, TX3, 8)) (As := [.int a2, .int (f20 a4.toNatClampNeg)]) g24 dX3_mark_24 wX3_turned q1059 q1060 q1061 g24o rfl rfl g24d rfl (Nat.le_of_ble_eq_true rfl) (k1 := k - k5 - k26) (n1 := n - n6 - n27) (by omega) (by omega) ?_ ?_
        · rintro v h23 (⟨v9, e9, r22, e8, hq⟩ | ⟨ci9, q9, e9, -⟩)
          · cases e9
            subst e8
            replace H := H r22 h23 hq
            refine e_iload_n dX3_mark_27 rfl ?_
            refine e_iconst (-1) dX3_mark_28 (by decide) ?_
            refine e_ixor dX3_mark_29 ?_
            refine e_iand dX3_mark_30 ?_
            refine e_if_ne 38 dX3_mark_31 (by decide) (fun g29 => ?_) (fun g29 => ?_)
            · replace H := H.1 g29
              refine e_iconst (0) dX3_mark_38 (by decide) ?_
              refine e_iadd dX3_mark_39 ?_
              refine e_istore_n _ dX3_mark_40 (by decide) rfl rfl ?_
              refine e_iinc (a4 + 1) _ dX3_mark_41 rfl rfl (by decide) rfl rfl ?_
              refine e_goto 5 dX3_mark_44 (by decide) ?_
              exact E.less2 H (eS_s (eS_s (eS_s (eS_s (eS_s eS_0)))))
            · replace H := H.2 g29
              refine e_iconst (1) dX3_mark_34 (by decide) ?_
              refine e_goto 39 dX3_mark_35 (by decide) ?_
              refine e_iadd dX3_mark_39 ?_
              refine e_istore_n _ dX3_mark_40 (by decide) rfl rfl ?_
              refine e_iinc (a4 + 1) _ dX3_mark_41 rfl rfl (by decide) rfl rfl ?_
              refine e_goto 5 dX3_mark_44 (by decide) ?_
              exact E.less2 H (eS_s (eS_s (eS_s (eS_s (eS_s eS_0)))))
          · cases e9
        · rintro q9 h9 (⟨v9, e9, -⟩ | ⟨ci9, q8, e9, -, -, hx⟩)
          · cases e9
          · exact hx.elim
    · cases e9
  · rintro q9 h9 (⟨v9, e9, -⟩ | ⟨ci9, q8, e9, -, -, hx⟩)
    · cases e9
    · exact hx.elim
theorem en_X3_mark {l : Launch} {lo : Nat} {G : eG} {d : Nat} {P : eO → eH → Prop} (a0 : Nat) (a1 : Int32) (a2 : Int32) {h : eH} {k n : Nat} (H : h_X3_mark_0 (l, lo, G, d, P) a0 a1 a2 h k n) : Ct l lo G d mX3_mark [.ref a0, .int a1, .int a2] h k n P := 
  Ct_of (eArL mX3_mark.2.2.2.1 [.ref a0, .int a1, .int a2]) (by decide) rfl (Nat.le_of_ble_eq_true rfl) (fun j w q => eArL_mem j w q) (E.less2 H (eS_s (eS_s (eS_s (eS_n (eS_n eS_0))))))
/-! X3_marksOf TroupeSums$Group.marksOf([J)[J -/
def h_X3_marksOf_0 (c : cC) (a0 : Nat) (a1 : Nat) (h : eH) (k n : Nat) : Prop := E c.1 c.2.1 c.2.2.1 c.2.2.2.1 mX3_marksOf c.2.2.2.2 0 [some (.ref a0), some (.ref a1), none, none, none] [] h k n
def h_X3_marksOf_7 (c : cC) (a0 : Nat) (a1 : Nat) (a2 : Nat) (a3 : Int32) (h : eH) (k n : Nat) : Prop := E c.1 c.2.1 c.2.2.1 c.2.2.2.1 mX3_marksOf c.2.2.2.2 7 [some (.ref a0), some (.ref a1), some (.ref a2), some (.int a3), none] [] h k n
def h_X3_marksOf_16 (c : cC) (a0 : Nat) (a1 : Nat) (a2 : Nat) (a3 : Int32) (a4 : Int32) (h : eH) (k n : Nat) : Prop := E c.1 c.2.1 c.2.2.1 c.2.2.2.1 mX3_marksOf c.2.2.2.2 16 [some (.ref a0), some (.ref a1), some (.ref a2), some (.int a3), some (.int a4)] [] h k n
set_option maxHeartbeats 4000000 in
theorem s_X3_marksOf_0 (c : cC) (a0 : Nat) (a1 : Nat) (h : eH) (k n : Nat) (H : ∃ v1 : vp_A, h.1 a1 = some (.inl (c.2.2.1.2.1 1, v1)) ∧ (∃ N5 : Nat, (nI v1.1) = nI N5 ∧ N5 ≤ 10000000 ∧ 1 ≤ k ∧ N5 ≤ n ∧ ∀ h3 : eH, h3 = eNw h (.inl (c.2.2.1.2.1 1, N5, .inr (.inl (fun _ => 0)))) → (h_X3_marksOf_7 c a0 a1 h.2 (0 : Int32) h3 (k - 1) (n - N5)))) : h_X3_marksOf_0 c a0 a1 h k n := by
  refine e_aload_n dX3_marksOf_0 rfl ?_
  obtain ⟨v1, g2, H⟩ := H
  refine e_alen (t := 1) dX3_marksOf_1 (fun _ => rfl) g2 ?_
  obtain ⟨N5, g4i, g4b, g4, g4n, H⟩ := H
  refine c_newarrayJ dX3_marksOf_2 q1234 g4i g4b g4 g4n ?_
  replace H := H _ rfl
  generalize eNw h _ = h3 at H ⊢
  refine e_astore_n _ dX3_marksOf_4 (by decide) rfl rfl ?_
  refine e_iconst (0) dX3_marksOf_5 (by decide) ?_
  refine e_istore_n _ dX3_marksOf_6 (by decide) rfl rfl ?_
  exact E.less2 H (eS_s (eS_s (eS_s (eS_s (eS_n eS_0)))))
set_option maxHeartbeats 4000000 in
theorem s_X3_marksOf_7 (c : cC) (a0 : Nat) (a1 : Nat) (a2 : Nat) (a3 : Int32) (h : eH) (k n : Nat) (H : ∃ v1 : vp_A, h.1 a2 = some (.inl (c.2.2.1.2.1 1, v1)) ∧ (((nI v1.1) ≤ a3 → c.2.2.2.2 (.inl (some (.ref a2))) h) ∧ (¬ (nI v1.1) ≤ a3 → h_X3_marksOf_16 c a0 a1 a2 a3 (0 : Int32) h k n))) : h_X3_marksOf_7 c a0 a1 a2 a3 h k n := by
  refine e_iload_n dX3_marksOf_7 rfl ?_
  refine e_aload_n dX3_marksOf_8 rfl ?_
  obtain ⟨v1, g2, H⟩ := H
  refine e_alen (t := 1) dX3_marksOf_9 (fun _ => rfl) g2 ?_
  refine e_icmp_ge 56 dX3_marksOf_10 (by decide) (fun g3 => ?_) (fun g3 => ?_)
  · replace H := H.1 g3
    refine e_aload_n dX3_marksOf_56 rfl ?_
    exact e_areturn (r := some a2) _ dX3_marksOf_57 rfl (Or.inr ⟨_, rfl⟩) H
  · replace H := H.2 g3
    refine e_iconst (0) dX3_marksOf_13 (by decide) ?_
    refine e_istore _ dX3_marksOf_14 (by decide) rfl rfl ?_
    exact E.less2 H (eS_s (eS_s (eS_s (eS_s (eS_s eS_0)))))
set_option maxHeartbeats 4000000 in
theorem s_X3_marksOf_16 (c : cC) (a0 : Nat) (a1 : Nat) (a2 : Nat) (a3 : Int32) (a4 : Int32) (h : eH) (k n : Nat) (H : ∃ v1 : vp_A, h.1 a2 = some (.inl (c.2.2.1.2.1 1, v1)) ∧ (((nI v1.1) ≤ a4 → h_X3_marksOf_7 c a0 a1 a2 (a3 + 1) h k n) ∧ (¬ (nI v1.1) ≤ a4 → ∃ (N4 : Nat) (f5 : Nat → Int64), h.1 a2 = some (.inl (c.2.2.1.2.1 1, N4, .inr (.inl f5))) ∧ vp_in a4 N4 ∧ (∃ (N7 : Nat) (f8 : Nat → Int64), h.1 a1 = some (.inl (c.2.2.1.2.1 1, N7, .inr (.inl f8))) ∧ vp_in a3 N7 ∧ (∃ x10 : Nat, fV h a0 3 7 (.ref x10) ∧ (∃ (N12 : Nat) (f13 : Nat → Option Nat), h.1 x10 = some (.inl (c.2.2.1.2.1 4, N12, .inr (.inr (.inr (.inr f13))))) ∧ vp_in a3 N12 ∧ ∃ r15 : Nat, f13 a3.toNatClampNeg = some r15 ∧ (∃ (N16 : Nat) (f17 : Nat → Int32), h.1 r15 = some (.inl (c.2.2.1.2.1 0, N16, .inl f17)) ∧ vp_in a4 N16 ∧ (∃ (N19 : Nat) (f20 : Nat → Int64), h.1 a2 = some (.inl (c.2.2.1.2.1 1, N19, .inr (.inl f20))) ∧ c.2.1 ≤ a2 ∧ vp_in a4 N19 ∧ ∀ h22 : eH, h22 = eUp h a2 (.inl (c.2.2.1.2.1 1, N19, .inr (.inl (va_up f20 a4.toNatClampNeg ((f5 a4.toNatClampNeg) + ((f8 a3.toNatClampNeg) * ((f17 a4.toNatClampNeg).toInt64))))))) → (h_X3_marksOf_16 c a0 a1 a2 a3 (a4 + 1) h22 k n))))))))) : h_X3_marksOf_16 c a0 a1 a2 a3 a4 h k n := by
  refine e_iload dX3_marksOf_16 rfl ?_
  refine e_aload_n dX3_marksOf_18 rfl ?_
  obtain ⟨v1, g2, H⟩ := H
  refine e_alen (t := 1) dX3_marksOf_19 (fun _ => rfl) g2 ?_
  refine e_icmp_ge 50 dX3_marksOf_20 (by decide) (fun g3 => ?_) (fun g3 => ?_)
  · replace H := H.1 g3
    refine e_iinc (a3 + 1) _ dX3_marksOf_50 rfl rfl (by decide) rfl rfl ?_
    refine e_goto 7 dX3_marksOf_53 (by decide) ?_
    exact E.less2 H (eS_s (eS_s (eS_s (eS_s (eS_n eS_0)))))
  · replace H := H.2 g3
    refine e_aload_n dX3_marksOf_23 rfl ?_
    refine e_iload dX3_marksOf_24 rfl ?_
    refine e_dup2 dX3_marksOf_26 rfl rfl ?_
    obtain ⟨N4, f5, g6, g6i, H⟩ := H
    refine e_laload dX3_marksOf_27 g6 g6i ?_
    refine e_aload_n dX3_marksOf_28 rfl ?_
    refine e_iload_n dX3_marksOf_29 rfl ?_
    obtain ⟨N7, f8, g9, g9i, H⟩ := H
    refine e_laload dX3_marksOf_30 g9 g9i ?_
    refine e_aload_n dX3_marksOf_31 rfl ?_
    obtain ⟨x10, ⟨fsx10, g11, g11v⟩, H⟩ := H
    refine e_get dX3_marksOf_32 fX3_7 q1197 g11 g11v ?_
    refine e_iload_n dX3_marksOf_35 rfl ?_
    obtain ⟨N12, f13, g14, g14i, r15, g14r, H⟩ := H
    refine e_aaload 4 dX3_marksOf_36 (fun _ => rfl) rfl g14 g14i ?_
    rw [g14r]
    refine e_iload dX3_marksOf_37 rfl ?_
    obtain ⟨N16, f17, g18, g18i, H⟩ := H
    refine e_iaload dX3_marksOf_39 g18 g18i ?_
    refine e_i2l dX3_marksOf_40 ?_
    refine e_lmul dX3_marksOf_41 ?_
    refine e_ladd dX3_marksOf_42 ?_
    obtain ⟨N19, f20, g21, g21l, g21i, H⟩ := H
    refine e_lastore dX3_marksOf_43 g21 g21l g21i ?_
    replace H := H _ rfl
    generalize eUp h a2 _ = h22 at H ⊢
    refine e_iinc (a4 + 1) _ dX3_marksOf_44 rfl rfl (by decide) rfl rfl ?_
    refine e_goto 16 dX3_marksOf_47 (by decide) ?_
    exact E.less2 H (eS_s (eS_s (eS_s (eS_s (eS_s eS_0)))))
theorem en_X3_marksOf {l : Launch} {lo : Nat} {G : eG} {d : Nat} {P : eO → eH → Prop} (a0 : Nat) (a1 : Nat) {h : eH} {k n : Nat} (H : h_X3_marksOf_0 (l, lo, G, d, P) a0 a1 h k n) : Ct l lo G d mX3_marksOf [.ref a0, .ref a1] h k n P := 
  Ct_of (eArL mX3_marksOf.2.2.2.1 [.ref a0, .ref a1]) (by decide) rfl (Nat.le_of_ble_eq_true rfl) (fun j w q => eArL_mem j w q) (E.less2 H (eS_s (eS_s (eS_n (eS_n (eS_n eS_0))))))
/-! X3_solved TroupeSums$Group.solved([J)[J -/
def h_X3_solved_0 (c : cC) (a0 : Nat) (a1 : Nat) (h : eH) (k n : Nat) : Prop := E c.1 c.2.1 c.2.2.1 c.2.2.2.1 mX3_solved c.2.2.2.2 0 [some (.ref a0), some (.ref a1), none, none, none, none, none] [] h k n
def h_X3_solved_10 (c : cC) (a0 : Nat) (a1 : Nat) (a2 : Nat) (a3 : Int32) (h : eH) (k n : Nat) : Prop := E c.1 c.2.1 c.2.2.1 c.2.2.2.1 mX3_solved c.2.2.2.2 10 [some (.ref a0), some (.ref a1), some (.ref a2), some (.int a3), none, none, none] [] h k n
def h_X3_solved_24 (c : cC) (a0 : Nat) (a1 : Nat) (a2 : Nat) (a3 : Int32) (a4 : Int64) (a6 : Int32) (h : eH) (k n : Nat) : Prop := E c.1 c.2.1 c.2.2.1 c.2.2.2.1 mX3_solved c.2.2.2.2 24 [some (.ref a0), some (.ref a1), some (.ref a2), some (.int a3), some (.long a4), none, some (.int a6)] [] h k n
set_option maxHeartbeats 4000000 in
theorem s_X3_solved_0 (c : cC) (a0 : Nat) (a1 : Nat) (h : eH) (k n : Nat) (H : ∃ v1 : vp_A, h.1 a1 = some (.inl (c.2.2.1.2.1 1, v1)) ∧ (∃ N5 : Nat, (nI v1.1) = nI N5 ∧ N5 ≤ 10000000 ∧ 1 ≤ k ∧ N5 ≤ n ∧ ∀ h3 : eH, h3 = eNw h (.inl (c.2.2.1.2.1 1, N5, .inr (.inl (fun _ => 0)))) → (∃ v6 : vp_A, h3.1 a1 = some (.inl (c.2.2.1.2.1 1, v6)) ∧ (h_X3_solved_10 c a0 a1 h.2 ((nI v6.1) - (1 : Int32)) h3 (k - 1) (n - N5))))) : h_X3_solved_0 c a0 a1 h k n := by
  refine e_aload_n dX3_solved_0 rfl ?_
  obtain ⟨v1, g2, H⟩ := H
  refine e_alen (t := 1) dX3_solved_1 (fun _ => rfl) g2 ?_
  obtain ⟨N5, g4i, g4b, g4, g4n, H⟩ := H
  refine c_newarrayJ dX3_solved_2 q1234 g4i g4b g4 g4n ?_
  replace H := H _ rfl
  generalize eNw h _ = h3 at H ⊢
  refine e_astore_n _ dX3_solved_4 (by decide) rfl rfl ?_
  refine e_aload_n dX3_solved_5 rfl ?_
  obtain ⟨v6, g7, H⟩ := H
  refine e_alen (t := 1) dX3_solved_6 (fun _ => rfl) g7 ?_
  refine e_iconst (1) dX3_solved_7 (by decide) ?_
  refine e_isub dX3_solved_8 ?_
  refine e_istore_n _ dX3_solved_9 (by decide) rfl rfl ?_
  exact E.less2 H (eS_s (eS_s (eS_s (eS_s (eS_n (eS_n (eS_n eS_0)))))))
set_option maxHeartbeats 4000000 in
theorem s_X3_solved_10 (c : cC) (a0 : Nat) (a1 : Nat) (a2 : Nat) (a3 : Int32) (h : eH) (k n : Nat) (H : (a3 < 0 → c.2.2.2.2 (.inl (some (.ref a2))) h) ∧ (¬ a3 < 0 → ∃ (N2 : Nat) (f3 : Nat → Int64), h.1 a1 = some (.inl (c.2.2.1.2.1 1, N2, .inr (.inl f3))) ∧ vp_in a3 N2 ∧ (h_X3_solved_24 c a0 a1 a2 a3 (f3 a3.toNatClampNeg) (a3 + (1 : Int32)) h k n))) : h_X3_solved_10 c a0 a1 a2 a3 h k n := by
  refine e_iload_n dX3_solved_10 rfl ?_
  refine e_if_lt 78 dX3_solved_11 (by decide) (fun g1 => ?_) (fun g1 => ?_)
  · replace H := H.1 g1
    refine e_aload_n dX3_solved_78 rfl ?_
    exact e_areturn (r := some a2) _ dX3_solved_79 rfl (Or.inr ⟨_, rfl⟩) H
  · replace H := H.2 g1
    refine e_aload_n dX3_solved_14 rfl ?_
    refine e_iload_n dX3_solved_15 rfl ?_
    obtain ⟨N2, f3, g4, g4i, H⟩ := H
    refine e_laload dX3_solved_16 g4 g4i ?_
    refine e_lstore _ dX3_solved_17 (by decide) rfl rfl ?_
    refine e_iload_n dX3_solved_19 rfl ?_
    refine e_iconst (1) dX3_solved_20 (by decide) ?_
    refine e_iadd dX3_solved_21 ?_
    refine e_istore _ dX3_solved_22 (by decide) trivial rfl ?_
    exact E.less2 H (eS_s (eS_s (eS_s (eS_s (eS_s (eS_n (eS_s eS_0)))))))
set_option maxHeartbeats 4000000 in
theorem s_X3_solved_24 (c : cC) (a0 : Nat) (a1 : Nat) (a2 : Nat) (a3 : Int32) (a4 : Int64) (a6 : Int32) (h : eH) (k n : Nat) (H : ∃ v1 : vp_A, h.1 a1 = some (.inl (c.2.2.1.2.1 1, v1)) ∧ (((nI v1.1) ≤ a6 → ∃ x4 : Nat, fV h a0 3 7 (.ref x4) ∧ (∃ (N6 : Nat) (f7 : Nat → Option Nat), h.1 x4 = some (.inl (c.2.2.1.2.1 4, N6, .inr (.inr (.inr (.inr f7))))) ∧ vp_in a3 N6 ∧ ∃ r9 : Nat, f7 a3.toNatClampNeg = some r9 ∧ (∃ (N10 : Nat) (f11 : Nat → Int32), h.1 r9 = some (.inl (c.2.2.1.2.1 0, N10, .inl f11)) ∧ vp_in a3 N10 ∧ (¬ ((f11 a3.toNatClampNeg).toInt64) = 0 ∧ (∃ (N14 : Nat) (f15 : Nat → Int64), h.1 a2 = some (.inl (c.2.2.1.2.1 1, N14, .inr (.inl f15))) ∧ c.2.1 ≤ a2 ∧ vp_in a3 N14 ∧ ∀ h17 : eH, h17 = eUp h a2 (.inl (c.2.2.1.2.1 1, N14, .inr (.inl (va_up f15 a3.toNatClampNeg (a4 / ((f11 a3.toNatClampNeg).toInt64)))))) → (h_X3_solved_10 c a0 a1 a2 (a3 + (-1)) h17 k n)))))) ∧ (¬ (nI v1.1) ≤ a6 → ∃ (N18 : Nat) (f19 : Nat → Int64), h.1 a2 = some (.inl (c.2.2.1.2.1 1, N18, .inr (.inl f19))) ∧ vp_in a6 N18 ∧ (∃ x21 : Nat, fV h a0 3 7 (.ref x21) ∧ (∃ (N23 : Nat) (f24 : Nat → Option Nat), h.1 x21 = some (.inl (c.2.2.1.2.1 4, N23, .inr (.inr (.inr (.inr f24))))) ∧ vp_in a6 N23 ∧ ∃ r26 : Nat, f24 a6.toNatClampNeg = some r26 ∧ (∃ (N27 : Nat) (f28 : Nat → Int32), h.1 r26 = some (.inl (c.2.2.1.2.1 0, N27, .inl f28)) ∧ vp_in a3 N27 ∧ (h_X3_solved_24 c a0 a1 a2 a3 (a4 - ((f19 a6.toNatClampNeg) * ((f28 a3.toNatClampNeg).toInt64))) (a6 + 1) h k n))))))) : h_X3_solved_24 c a0 a1 a2 a3 a4 a6 h k n := by
  refine e_iload dX3_solved_24 rfl ?_
  refine e_aload_n dX3_solved_26 rfl ?_
  obtain ⟨v1, g2, H⟩ := H
  refine e_alen (t := 1) dX3_solved_27 (fun _ => rfl) g2 ?_
  refine e_icmp_ge 57 dX3_solved_28 (by decide) (fun g3 => ?_) (fun g3 => ?_)
  · replace H := H.1 g3
    refine e_aload_n dX3_solved_57 rfl ?_
    refine e_iload_n dX3_solved_58 rfl ?_
    refine e_lload dX3_solved_59 rfl ?_
    refine e_aload_n dX3_solved_61 rfl ?_
    obtain ⟨x4, ⟨fsx4, g5, g5v⟩, H⟩ := H
    refine e_get dX3_solved_62 fX3_7 q1197 g5 g5v ?_
    refine e_iload_n dX3_solved_65 rfl ?_
    obtain ⟨N6, f7, g8, g8i, r9, g8r, H⟩ := H
    refine e_aaload 4 dX3_solved_66 (fun _ => rfl) rfl g8 g8i ?_
    rw [g8r]
    refine e_iload_n dX3_solved_67 rfl ?_
    obtain ⟨N10, f11, g12, g12i, H⟩ := H
    refine e_iaload dX3_solved_68 g12 g12i ?_
    refine e_i2l dX3_solved_69 ?_
    obtain ⟨g13, H⟩ := H
    refine e_ldiv dX3_solved_70 g13 ?_
    obtain ⟨N14, f15, g16, g16l, g16i, H⟩ := H
    refine e_lastore dX3_solved_71 g16 g16l g16i ?_
    replace H := H _ rfl
    generalize eUp h a2 _ = h17 at H ⊢
    refine e_iinc (a3 + (-1)) _ dX3_solved_72 rfl rfl (by decide) rfl rfl ?_
    refine e_goto 10 dX3_solved_75 (by decide) ?_
    exact E.less2 H (eS_s (eS_s (eS_s (eS_s (eS_n (eS_n (eS_n eS_0)))))))
  · replace H := H.2 g3
    refine e_lload dX3_solved_31 rfl ?_
    refine e_aload_n dX3_solved_33 rfl ?_
    refine e_iload dX3_solved_34 rfl ?_
    obtain ⟨N18, f19, g20, g20i, H⟩ := H
    refine e_laload dX3_solved_36 g20 g20i ?_
    refine e_aload_n dX3_solved_37 rfl ?_
    obtain ⟨x21, ⟨fsx21, g22, g22v⟩, H⟩ := H
    refine e_get dX3_solved_38 fX3_7 q1197 g22 g22v ?_
    refine e_iload dX3_solved_41 rfl ?_
    obtain ⟨N23, f24, g25, g25i, r26, g25r, H⟩ := H
    refine e_aaload 4 dX3_solved_43 (fun _ => rfl) rfl g25 g25i ?_
    rw [g25r]
    refine e_iload_n dX3_solved_44 rfl ?_
    obtain ⟨N27, f28, g29, g29i, H⟩ := H
    refine e_iaload dX3_solved_45 g29 g29i ?_
    refine e_i2l dX3_solved_46 ?_
    refine e_lmul dX3_solved_47 ?_
    refine e_lsub dX3_solved_48 ?_
    refine e_lstore _ dX3_solved_49 (by decide) rfl rfl ?_
    refine e_iinc (a6 + 1) _ dX3_solved_51 rfl rfl (by decide) trivial rfl ?_
    refine e_goto 24 dX3_solved_54 (by decide) ?_
    exact E.less2 H (eS_s (eS_s (eS_s (eS_s (eS_s (eS_n (eS_s eS_0)))))))
theorem en_X3_solved {l : Launch} {lo : Nat} {G : eG} {d : Nat} {P : eO → eH → Prop} (a0 : Nat) (a1 : Nat) {h : eH} {k n : Nat} (H : h_X3_solved_0 (l, lo, G, d, P) a0 a1 h k n) : Ct l lo G d mX3_solved [.ref a0, .ref a1] h k n P := 
  Ct_of (eArL mX3_solved.2.2.2.1 [.ref a0, .ref a1]) (by decide) rfl (Nat.le_of_ble_eq_true rfl) (fun j w q => eArL_mem j w q) (E.less2 H (eS_s (eS_s (eS_n (eS_n (eS_n (eS_n (eS_n eS_0))))))))
/-! X3_isLevel TroupeSums$Group.isLevel(I)Z -/
def h_X3_isLevel_0 (c : cC) (a0 : Nat) (a1 : Int32) (h : eH) (k n : Nat) : Prop := E c.1 c.2.1 c.2.2.1 c.2.2.2.1 mX3_isLevel c.2.2.2.2 0 [some (.ref a0), some (.int a1), none, none] [] h k n
def h_X3_isLevel_2 (c : cC) (a0 : Nat) (a1 : Int32) (a2 : Int32) (h : eH) (k n : Nat) : Prop := E c.1 c.2.1 c.2.2.1 c.2.2.2.1 mX3_isLevel c.2.2.2.2 2 [some (.ref a0), some (.int a1), some (.int a2), none] [] h k n
def h_X3_isLevel_12 (c : cC) (a0 : Nat) (a1 : Int32) (a2 : Int32) (a3 : Int32) (h : eH) (k n : Nat) : Prop := E c.1 c.2.1 c.2.2.1 c.2.2.2.1 mX3_isLevel c.2.2.2.2 12 [some (.ref a0), some (.int a1), some (.int a2), some (.int a3)] [] h k n
def h_X3_isLevel_56 (c : cC) (a0 : Nat) (a1 : Int32) (a2 : Int32) (a3 : Int32) (h : eH) (k n : Nat) : Prop := E c.1 c.2.1 c.2.2.1 c.2.2.2.1 mX3_isLevel c.2.2.2.2 56 [some (.ref a0), some (.int a1), some (.int a2), some (.int a3)] [] h k n
set_option maxHeartbeats 4000000 in
theorem s_X3_isLevel_0 (c : cC) (a0 : Nat) (a1 : Int32) (h : eH) (k n : Nat) (H : h_X3_isLevel_2 c a0 a1 (0 : Int32) h k n) : h_X3_isLevel_0 c a0 a1 h k n := by
  refine e_iconst (0) dX3_isLevel_0 (by decide) ?_
  refine e_istore_n _ dX3_isLevel_1 (by decide) rfl rfl ?_
  exact E.less2 H (eS_s (eS_s (eS_s (eS_n eS_0))))
set_option maxHeartbeats 4000000 in
theorem s_X3_isLevel_2 (c : cC) (a0 : Nat) (a1 : Int32) (a2 : Int32) (h : eH) (k n : Nat) (H : ∃ fs8 : List Value, h.1 a0 = some (.inr (3, fs8)) ∧ ∃ (d4 k5 n6 : Nat) (Q7 : Int32 → eH → Prop), cI c.1 c.2.1 c.2.2.1 d4 mX3_size [.ref a0] h k5 n6 Q7 cX0 ∧ d4 + 1 ≤ c.2.2.2.1 ∧ k5 ≤ k ∧ n6 ≤ n ∧ (∀ (r1 : Int32) (h2 : eH), Q7 r1 h2 → ((r1 ≤ a2 → c.2.2.2.2 (.inl (some (.int (1 : Int32)))) h2) ∧ (¬ r1 ≤ a2 → h_X3_isLevel_12 c a0 a1 a2 (0 : Int32) h2 (k - k5) (n - n6))))) : h_X3_isLevel_2 c a0 a1 a2 h k n := by
  refine e_iload_n dX3_isLevel_2 rfl ?_
  refine e_aload_n dX3_isLevel_3 rfl ?_
  obtain ⟨fsg3, g3o, H⟩ := H
  obtain ⟨d4, k5, n6, Q7, g3, g3d, g3k, g3n, H⟩ := H
  refine e_callV (r := (RX3, TX3, 8)) (As := []) g3 dX3_isLevel_4 wX3_size q928 q929 q930 g3o rfl rfl g3d rfl (Nat.le_of_ble_eq_true rfl) (k1 := k - k5) (n1 := n - n6) (by omega) (by omega) ?_ ?_
  · rintro v h2 (⟨v9, e9, r1, e8, hq⟩ | ⟨ci9, q9, e9, -⟩)
    · cases e9
      subst e8
      replace H := H r1 h2 hq
      refine e_icmp_ge 68 dX3_isLevel_7 (by decide) (fun g8 => ?_) (fun g8 => ?_)
      · replace H := H.1 g8
        refine e_iconst (1) dX3_isLevel_68 (by decide) ?_
        exact e_ireturn .boolean dX3_isLevel_69 rfl (by decide) H
      · replace H := H.2 g8
        refine e_iconst (0) dX3_isLevel_10 (by decide) ?_
        refine e_istore_n _ dX3_isLevel_11 (by decide) rfl rfl ?_
        exact E.less2 H (eS_s (eS_s (eS_s (eS_s eS_0))))
    · cases e9
  · rintro q9 h9 (⟨v9, e9, -⟩ | ⟨ci9, q8, e9, -, -, hx⟩)
    · cases e9
    · exact hx.elim
set_option maxHeartbeats 4000000 in
theorem s_X3_isLevel_12 (c : cC) (a0 : Nat) (a1 : Int32) (a2 : Int32) (a3 : Int32) (h : eH) (k n : Nat) (H : (a2 ≤ a3 → h_X3_isLevel_2 c a0 a1 (a2 + 1) h k n) ∧ (¬ a2 ≤ a3 → ∃ (d5 k6 n7 : Nat) (Q8 : Int32 → eH → Prop), cI c.1 c.2.1 c.2.2.1 d5 mX0_isOf [.long a1.toInt64, .int a2] h k6 n7 Q8 cX0 ∧ d5 + 1 ≤ c.2.2.2.1 ∧ k6 ≤ k ∧ n7 ≤ n ∧ (∀ (r2 : Int32) (h3 : eH), Q8 r2 h3 → ((r2 = 0 → h_X3_isLevel_56 c a0 a1 a2 a3 h3 (k - k6) (n - n7)) ∧ (¬ r2 = 0 → ∃ (d13 k14 n15 : Nat) (Q16 : Int32 → eH → Prop), cI c.1 c.2.1 c.2.2.1 d13 mX0_isOf [.long a1.toInt64, .int a3] h3 k14 n15 Q16 cX0 ∧ d13 + 1 ≤ c.2.2.2.1 ∧ k14 ≤ k - k6 ∧ n15 ≤ n - n7 ∧ (∀ (r10 : Int32) (h11 : eH), Q16 r10 h11 → ((r10 = 0 → h_X3_isLevel_56 c a0 a1 a2 a3 h11 (k - k6 - k14) (n - n7 - n15)) ∧ (¬ r10 = 0 → ∃ x18 : Nat, fV h11 a0 3 2 (.ref x18) ∧ (∃ (N20 : Nat) (f21 : Nat → Option Nat), h11.1 x18 = some (.inl (c.2.2.1.2.1 4, N20, .inr (.inr (.inr (.inr f21))))) ∧ vp_in a2 N20 ∧ ∃ r23 : Nat, f21 a2.toNatClampNeg = some r23 ∧ (∃ (N24 : Nat) (f25 : Nat → Int32), h11.1 r23 = some (.inl (c.2.2.1.2.1 0, N24, .inl f25)) ∧ vp_in a3 N24 ∧ (∃ x27 : Nat, fV h11 a0 3 2 (.ref x27) ∧ (∃ (N29 : Nat) (f30 : Nat → Option Nat), h11.1 x27 = some (.inl (c.2.2.1.2.1 4, N29, .inr (.inr (.inr (.inr f30))))) ∧ vp_in a3 N29 ∧ ∃ r32 : Nat, f30 a3.toNatClampNeg = some r32 ∧ (∃ (N33 : Nat) (f34 : Nat → Int32), h11.1 r32 = some (.inl (c.2.2.1.2.1 0, N33, .inl f34)) ∧ vp_in a2 N33 ∧ (((f25 a3.toNatClampNeg) = (f34 a2.toNatClampNeg) → h_X3_isLevel_56 c a0 a1 a2 a3 h11 (k - k6 - k14) (n - n7 - n15)) ∧ (¬ (f25 a3.toNatClampNeg) = (f34 a2.toNatClampNeg) → c.2.2.2.2 (.inl (some (.int (0 : Int32)))) h11))))))))))))))) : h_X3_isLevel_12 c a0 a1 a2 a3 h k n := by
  refine e_iload_n dX3_isLevel_12 rfl ?_
  refine e_iload_n dX3_isLevel_13 rfl ?_
  refine e_icmp_ge 62 dX3_isLevel_14 (by decide) (fun g1 => ?_) (fun g1 => ?_)
  · replace H := H.1 g1
    refine e_iinc (a2 + 1) _ dX3_isLevel_62 rfl rfl (by decide) rfl rfl ?_
    refine e_goto 2 dX3_isLevel_65 (by decide) ?_
    exact E.less2 H (eS_s (eS_s (eS_s (eS_n eS_0))))
  · replace H := H.2 g1
    refine e_iload_n dX3_isLevel_17 rfl ?_
    refine e_i2l dX3_isLevel_18 ?_
    refine e_iload_n dX3_isLevel_19 rfl ?_
    obtain ⟨d5, k6, n7, Q8, g4, g4d, g4k, g4n, H⟩ := H
    refine e_callSN (As := [.long a1.toInt64, .int a2]) g4 dX3_isLevel_20 wX0_isOf rfl q936 q937 rfl g4d rfl (Nat.le_of_ble_eq_true rfl) (k1 := k - k6) (n1 := n - n7) (by omega) (by omega) ?_ ?_
    · rintro v h3 (⟨v9, e9, r2, e8, hq⟩ | ⟨ci9, q9, e9, -⟩)
      · cases e9
        subst e8
        replace H := H r2 h3 hq
        refine e_if_eq 56 dX3_isLevel_23 (by decide) (fun g9 => ?_) (fun g9 => ?_)
        · replace H := H.1 g9
          exact E.less2 H (eS_s (eS_s (eS_s (eS_s eS_0))))
        · replace H := H.2 g9
          refine e_iload_n dX3_isLevel_26 rfl ?_
          refine e_i2l dX3_isLevel_27 ?_
          refine e_iload_n dX3_isLevel_28 rfl ?_
          obtain ⟨d13, k14, n15, Q16, g12, g12d, g12k, g12n, H⟩ := H
          refine e_callSN (As := [.long a1.toInt64, .int a3]) g12 dX3_isLevel_29 wX0_isOf rfl q936 q937 rfl g12d rfl (Nat.le_of_ble_eq_true rfl) (k1 := k - k6 - k14) (n1 := n - n7 - n15) (by omega) (by omega) ?_ ?_
          · rintro v h11 (⟨v9, e9, r10, e8, hq⟩ | ⟨ci9, q9, e9, -⟩)
            · cases e9
              subst e8
              replace H := H r10 h11 hq
              refine e_if_eq 56 dX3_isLevel_32 (by decide) (fun g17 => ?_) (fun g17 => ?_)
              · replace H := H.1 g17
                exact E.less2 H (eS_s (eS_s (eS_s (eS_s eS_0))))
              · replace H := H.2 g17
                refine e_aload_n dX3_isLevel_35 rfl ?_
                obtain ⟨x18, ⟨fsx18, g19, g19v⟩, H⟩ := H
                refine e_get dX3_isLevel_36 fX3_2 q1186 g19 g19v ?_
                refine e_iload_n dX3_isLevel_39 rfl ?_
                obtain ⟨N20, f21, g22, g22i, r23, g22r, H⟩ := H
                refine e_aaload 4 dX3_isLevel_40 (fun _ => rfl) rfl g22 g22i ?_
                rw [g22r]
                refine e_iload_n dX3_isLevel_41 rfl ?_
                obtain ⟨N24, f25, g26, g26i, H⟩ := H
                refine e_iaload dX3_isLevel_42 g26 g26i ?_
                refine e_aload_n dX3_isLevel_43 rfl ?_
                obtain ⟨x27, ⟨fsx27, g28, g28v⟩, H⟩ := H
                refine e_get dX3_isLevel_44 fX3_2 q1186 g28 g28v ?_
                refine e_iload_n dX3_isLevel_47 rfl ?_
                obtain ⟨N29, f30, g31, g31i, r32, g31r, H⟩ := H
                refine e_aaload 4 dX3_isLevel_48 (fun _ => rfl) rfl g31 g31i ?_
                rw [g31r]
                refine e_iload_n dX3_isLevel_49 rfl ?_
                obtain ⟨N33, f34, g35, g35i, H⟩ := H
                refine e_iaload dX3_isLevel_50 g35 g35i ?_
                refine e_icmp_eq 56 dX3_isLevel_51 (by decide) (fun g36 => ?_) (fun g36 => ?_)
                · replace H := H.1 g36
                  exact E.less2 H (eS_s (eS_s (eS_s (eS_s eS_0))))
                · replace H := H.2 g36
                  refine e_iconst (0) dX3_isLevel_54 (by decide) ?_
                  exact e_ireturn .boolean dX3_isLevel_55 rfl (by decide) H
            · cases e9
          · rintro q9 h9 (⟨v9, e9, -⟩ | ⟨ci9, q8, e9, -, -, hx⟩)
            · cases e9
            · exact hx.elim
      · cases e9
    · rintro q9 h9 (⟨v9, e9, -⟩ | ⟨ci9, q8, e9, -, -, hx⟩)
      · cases e9
      · exact hx.elim
set_option maxHeartbeats 4000000 in
theorem s_X3_isLevel_56 (c : cC) (a0 : Nat) (a1 : Int32) (a2 : Int32) (a3 : Int32) (h : eH) (k n : Nat) (H : h_X3_isLevel_12 c a0 a1 a2 (a3 + 1) h k n) : h_X3_isLevel_56 c a0 a1 a2 a3 h k n := by
  refine e_iinc (a3 + 1) _ dX3_isLevel_56 rfl rfl (by decide) rfl rfl ?_
  refine e_goto 12 dX3_isLevel_59 (by decide) ?_
  exact E.less2 H (eS_s (eS_s (eS_s (eS_s eS_0))))
theorem en_X3_isLevel {l : Launch} {lo : Nat} {G : eG} {d : Nat} {P : eO → eH → Prop} (a0 : Nat) (a1 : Int32) {h : eH} {k n : Nat} (H : h_X3_isLevel_0 (l, lo, G, d, P) a0 a1 h k n) : Ct l lo G d mX3_isLevel [.ref a0, .int a1] h k n P := 
  Ct_of (eArL mX3_isLevel.2.2.2.1 [.ref a0, .int a1]) (by decide) rfl (Nat.le_of_ble_eq_true rfl) (fun j w q => eArL_mem j w q) (E.less2 H (eS_s (eS_s (eS_n (eS_n eS_0)))))
/-! X3_order TroupeSums$Group.order(I)I -/
def h_X3_order_0 (c : cC) (a0 : Nat) (a1 : Int32) (h : eH) (k n : Nat) : Prop := E c.1 c.2.1 c.2.2.1 c.2.2.2.1 mX3_order c.2.2.2.2 0 [some (.ref a0), some (.int a1), none, none] [] h k n
def h_X3_order_4 (c : cC) (a0 : Nat) (a1 : Int32) (a2 : Int32) (a3 : Int32) (h : eH) (k n : Nat) : Prop := E c.1 c.2.1 c.2.2.1 c.2.2.2.1 mX3_order c.2.2.2.2 4 [some (.ref a0), some (.int a1), some (.int a2), some (.int a3)] [] h k n
set_option maxHeartbeats 4000000 in
theorem s_X3_order_0 (c : cC) (a0 : Nat) (a1 : Int32) (h : eH) (k n : Nat) (H : h_X3_order_4 c a0 a1 (1 : Int32) a1 h k n) : h_X3_order_0 c a0 a1 h k n := by
  refine e_iconst (1) dX3_order_0 (by decide) ?_
  refine e_istore_n _ dX3_order_1 (by decide) rfl rfl ?_
  refine e_iload_n dX3_order_2 rfl ?_
  refine e_istore_n _ dX3_order_3 (by decide) rfl rfl ?_
  exact E.less2 H (eS_s (eS_s (eS_s (eS_s eS_0))))
set_option maxHeartbeats 4000000 in
theorem s_X3_order_4 (c : cC) (a0 : Nat) (a1 : Int32) (a2 : Int32) (a3 : Int32) (h : eH) (k n : Nat) (H : (a3 = 0 → c.2.2.2.2 (.inl (some (.int a2))) h) ∧ (¬ a3 = 0 → ∃ x2 : Nat, fV h a0 3 2 (.ref x2) ∧ (∃ (N4 : Nat) (f5 : Nat → Option Nat), h.1 x2 = some (.inl (c.2.2.1.2.1 4, N4, .inr (.inr (.inr (.inr f5))))) ∧ vp_in a3 N4 ∧ ∃ r7 : Nat, f5 a3.toNatClampNeg = some r7 ∧ (∃ (N8 : Nat) (f9 : Nat → Int32), h.1 r7 = some (.inl (c.2.2.1.2.1 0, N8, .inl f9)) ∧ vp_in a1 N8 ∧ (h_X3_order_4 c a0 a1 (a2 + 1) (f9 a1.toNatClampNeg) h k n))))) : h_X3_order_4 c a0 a1 a2 a3 h k n := by
  refine e_iload_n dX3_order_4 rfl ?_
  refine e_if_eq 23 dX3_order_5 (by decide) (fun g1 => ?_) (fun g1 => ?_)
  · replace H := H.1 g1
    refine e_iload_n dX3_order_23 rfl ?_
    exact e_ireturn .int dX3_order_24 rfl rfl H
  · replace H := H.2 g1
    refine e_iinc (a2 + 1) _ dX3_order_8 rfl rfl (by decide) rfl rfl ?_
    refine e_aload_n dX3_order_11 rfl ?_
    obtain ⟨x2, ⟨fsx2, g3, g3v⟩, H⟩ := H
    refine e_get dX3_order_12 fX3_2 q1186 g3 g3v ?_
    refine e_iload_n dX3_order_15 rfl ?_
    obtain ⟨N4, f5, g6, g6i, r7, g6r, H⟩ := H
    refine e_aaload 4 dX3_order_16 (fun _ => rfl) rfl g6 g6i ?_
    rw [g6r]
    refine e_iload_n dX3_order_17 rfl ?_
    obtain ⟨N8, f9, g10, g10i, H⟩ := H
    refine e_iaload dX3_order_18 g10 g10i ?_
    refine e_istore_n _ dX3_order_19 (by decide) rfl rfl ?_
    refine e_goto 4 dX3_order_20 (by decide) ?_
    exact E.less2 H (eS_s (eS_s (eS_s (eS_s eS_0))))
theorem en_X3_order {l : Launch} {lo : Nat} {G : eG} {d : Nat} {P : eO → eH → Prop} (a0 : Nat) (a1 : Int32) {h : eH} {k n : Nat} (H : h_X3_order_0 (l, lo, G, d, P) a0 a1 h k n) : Ct l lo G d mX3_order [.ref a0, .int a1] h k n P := 
  Ct_of (eArL mX3_order.2.2.2.1 [.ref a0, .int a1]) (by decide) rfl (Nat.le_of_ble_eq_true rfl) (fun j w q => eArL_mem j w q) (E.less2 H (eS_s (eS_s (eS_n (eS_n eS_0)))))
/-! X3_sortOf TroupeSums$Group.sortOf(I)I -/
def h_X3_sortOf_0 (c : cC) (a0 : Nat) (a1 : Int32) (h : eH) (k n : Nat) : Prop := E c.1 c.2.1 c.2.2.1 c.2.2.2.1 mX3_sortOf c.2.2.2.2 0 [some (.ref a0), some (.int a1)] [] h k n
set_option maxHeartbeats 4000000 in
theorem s_X3_sortOf_0 (c : cC) (a0 : Nat) (a1 : Int32) (h : eH) (k n : Nat) (H : ∃ x1 : Nat, fV h a0 3 6 (.ref x1) ∧ (∃ x3 : Nat, fV h a0 3 4 (.ref x3) ∧ (∃ (d8 k9 n10 : Nat) (Q11 : Nat → eH → Prop), cR c.1 c.2.1 c.2.2.1 d8 mJ6_valueOf [.int a1] h k9 n10 Q11 cX0 ∧ d8 + 1 ≤ c.2.2.2.1 ∧ k9 ≤ k ∧ n10 ≤ n ∧ (∀ (r5 : Nat) (h6 : eH), Q11 r5 h6 → (∃ fs8 : List Value, h6.1 x3 = some (.inr (15, fs8)) ∧ ∃ (d15 k16 n17 : Nat) (Q18 : Int32 → eH → Prop), cI c.1 c.2.1 c.2.2.1 d15 mJ2_indexOf [.ref x3, .ref r5] h6 k16 n17 Q18 cX0 ∧ d15 + 1 ≤ c.2.2.2.1 ∧ k16 ≤ k - k9 ∧ n17 ≤ n - n10 ∧ (∀ (r12 : Int32) (h13 : eH), Q18 r12 h13 → (∃ (N19 : Nat) (f20 : Nat → Int32), h13.1 x1 = some (.inl (c.2.2.1.2.1 0, N19, .inl f20)) ∧ vp_in r12 N19 ∧ (c.2.2.2.2 (.inl (some (.int (f20 r12.toNatClampNeg)))) h13)))))))) : h_X3_sortOf_0 c a0 a1 h k n := by
  refine e_aload_n dX3_sortOf_0 rfl ?_
  obtain ⟨x1, ⟨fsx1, g2, g2v⟩, H⟩ := H
  refine e_get dX3_sortOf_1 fX3_6 q1196 g2 g2v ?_
  refine e_aload_n dX3_sortOf_4 rfl ?_
  obtain ⟨x3, ⟨fsx3, g4, g4v⟩, H⟩ := H
  refine e_get dX3_sortOf_5 fX3_4 q1189 g4 g4v ?_
  refine e_iload_n dX3_sortOf_8 rfl ?_
  obtain ⟨d8, k9, n10, Q11, g7, g7d, g7k, g7n, H⟩ := H
  refine e_callS (As := [.int a1]) g7 dX3_sortOf_9 wJ6_valueOf q900 q305 rfl g7d rfl (Nat.le_of_ble_eq_true rfl) (k1 := k - k9) (n1 := n - n10) (by omega) (by omega) ?_ ?_
  · rintro v h6 (⟨v9, e9, r5, e8, hq⟩ | ⟨ci9, q9, e9, -⟩)
    · cases e9
      subst e8
      replace H := H r5 h6 hq
      obtain ⟨fsg14, g14o, H⟩ := H
      obtain ⟨d15, k16, n17, Q18, g14, g14d, g14k, g14n, H⟩ := H
      refine e_callF (i := 8) (r := (RJ2, TJ2, 3)) (As := [.ref r5]) g14 dX3_sortOf_12 wJ2_indexOf rfl rfl q2010 q949 q1841 g14o rfl rfl g14d rfl (Nat.le_of_ble_eq_true rfl) (k1 := k - k9 - k16) (n1 := n - n10 - n17) (by omega) (by omega) ?_ ?_
      · rintro v h13 (⟨v9, e9, r12, e8, hq⟩ | ⟨ci9, q9, e9, -⟩)
        · cases e9
          subst e8
          replace H := H r12 h13 hq
          obtain ⟨N19, f20, g21, g21i, H⟩ := H
          refine e_iaload dX3_sortOf_17 g21 g21i ?_
          exact e_ireturn .int dX3_sortOf_18 rfl rfl H
        · cases e9
      · rintro q9 h9 (⟨v9, e9, -⟩ | ⟨ci9, q8, e9, -, -, hx⟩)
        · cases e9
        · exact hx.elim
    · cases e9
  · rintro q9 h9 (⟨v9, e9, -⟩ | ⟨ci9, q8, e9, -, -, hx⟩)
    · cases e9
    · exact hx.elim
theorem en_X3_sortOf {l : Launch} {lo : Nat} {G : eG} {d : Nat} {P : eO → eH → Prop} (a0 : Nat) (a1 : Int32) {h : eH} {k n : Nat} (H : h_X3_sortOf_0 (l, lo, G, d, P) a0 a1 h k n) : Ct l lo G d mX3_sortOf [.ref a0, .int a1] h k n P := 
  Ct_of (eArL mX3_sortOf.2.2.2.1 [.ref a0, .int a1]) (by decide) rfl (Nat.le_of_ble_eq_true rfl) (fun j w q => eArL_mem j w q) (E.less2 H (eS_s (eS_s eS_0)))
/-! X3_isRound TroupeSums$Group.isRound(I)Z -/
def h_X3_isRound_0 (c : cC) (a0 : Nat) (a1 : Int32) (h : eH) (k n : Nat) : Prop := E c.1 c.2.1 c.2.2.1 c.2.2.2.1 mX3_isRound c.2.2.2.2 0 [some (.ref a0), some (.int a1), none] [] h k n
def h_X3_isRound_2 (c : cC) (a0 : Nat) (a1 : Int32) (a2 : Int32) (h : eH) (k n : Nat) : Prop := E c.1 c.2.1 c.2.2.1 c.2.2.2.1 mX3_isRound c.2.2.2.2 2 [some (.ref a0), some (.int a1), some (.int a2)] [] h k n
def h_X3_isRound_32 (c : cC) (a0 : Nat) (a1 : Int32) (a2 : Int32) (h : eH) (k n : Nat) : Prop := E c.1 c.2.1 c.2.2.1 c.2.2.2.1 mX3_isRound c.2.2.2.2 32 [some (.ref a0), some (.int a1), some (.int a2)] [] h k n
set_option maxHeartbeats 4000000 in
theorem s_X3_isRound_0 (c : cC) (a0 : Nat) (a1 : Int32) (h : eH) (k n : Nat) (H : h_X3_isRound_2 c a0 a1 (0 : Int32) h k n) : h_X3_isRound_0 c a0 a1 h k n := by
  refine e_iconst (0) dX3_isRound_0 (by decide) ?_
  refine e_istore_n _ dX3_isRound_1 (by decide) rfl rfl ?_
  exact E.less2 H (eS_s (eS_s (eS_s eS_0)))
set_option maxHeartbeats 4000000 in
theorem s_X3_isRound_2 (c : cC) (a0 : Nat) (a1 : Int32) (a2 : Int32) (h : eH) (k n : Nat) (H : ∃ fs8 : List Value, h.1 a0 = some (.inr (3, fs8)) ∧ ∃ (d4 k5 n6 : Nat) (Q7 : Int32 → eH → Prop), cI c.1 c.2.1 c.2.2.1 d4 mX3_size [.ref a0] h k5 n6 Q7 cX0 ∧ d4 + 1 ≤ c.2.2.2.1 ∧ k5 ≤ k ∧ n6 ≤ n ∧ (∀ (r1 : Int32) (h2 : eH), Q7 r1 h2 → ((r1 ≤ a2 → c.2.2.2.2 (.inl (some (.int (0 : Int32)))) h2) ∧ (¬ r1 ≤ a2 → ∃ (d12 k13 n14 : Nat) (Q15 : Int32 → eH → Prop), cI c.1 c.2.1 c.2.2.1 d12 mX0_isOf [.long a1.toInt64, .int a2] h2 k13 n14 Q15 cX0 ∧ d12 + 1 ≤ c.2.2.2.1 ∧ k13 ≤ k - k5 ∧ n14 ≤ n - n6 ∧ (∀ (r9 : Int32) (h10 : eH), Q15 r9 h10 → ((r9 = 0 → h_X3_isRound_32 c a0 a1 a2 h10 (k - k5 - k13) (n - n6 - n14)) ∧ (¬ r9 = 0 → ∃ fs8 : List Value, h10.1 a0 = some (.inr (3, fs8)) ∧ ∃ (d20 k21 n22 : Nat) (Q23 : Int32 → eH → Prop), cI c.1 c.2.1 c.2.2.1 d20 mX3_made [.ref a0, .int ((1 : Int32) <<< (a2 &&& 31))] h10 k21 n22 Q23 cX0 ∧ d20 + 1 ≤ c.2.2.2.1 ∧ k21 ≤ k - k5 - k13 ∧ n22 ≤ n - n6 - n14 ∧ (∀ (r17 : Int32) (h18 : eH), Q23 r17 h18 → ((¬ r17 = a1 → h_X3_isRound_32 c a0 a1 a2 h18 (k - k5 - k13 - k21) (n - n6 - n14 - n22)) ∧ (r17 = a1 → c.2.2.2.2 (.inl (some (.int (1 : Int32)))) h18)))))))))) : h_X3_isRound_2 c a0 a1 a2 h k n := by
  refine e_iload_n dX3_isRound_2 rfl ?_
  refine e_aload_n dX3_isRound_3 rfl ?_
  obtain ⟨fsg3, g3o, H⟩ := H
  obtain ⟨d4, k5, n6, Q7, g3, g3d, g3k, g3n, H⟩ := H
  refine e_callV (r := (RX3, TX3, 8)) (As := []) g3 dX3_isRound_4 wX3_size q928 q929 q930 g3o rfl rfl g3d rfl (Nat.le_of_ble_eq_true rfl) (k1 := k - k5) (n1 := n - n6) (by omega) (by omega) ?_ ?_
  · rintro v h2 (⟨v9, e9, r1, e8, hq⟩ | ⟨ci9, q9, e9, -⟩)
    · cases e9
      subst e8
      replace H := H r1 h2 hq
      refine e_icmp_ge 38 dX3_isRound_7 (by decide) (fun g8 => ?_) (fun g8 => ?_)
      · replace H := H.1 g8
        refine e_iconst (0) dX3_isRound_38 (by decide) ?_
        exact e_ireturn .boolean dX3_isRound_39 rfl (by decide) H
      · replace H := H.2 g8
        refine e_iload_n dX3_isRound_10 rfl ?_
        refine e_i2l dX3_isRound_11 ?_
        refine e_iload_n dX3_isRound_12 rfl ?_
        obtain ⟨d12, k13, n14, Q15, g11, g11d, g11k, g11n, H⟩ := H
        refine e_callSN (As := [.long a1.toInt64, .int a2]) g11 dX3_isRound_13 wX0_isOf rfl q936 q937 rfl g11d rfl (Nat.le_of_ble_eq_true rfl) (k1 := k - k5 - k13) (n1 := n - n6 - n14) (by omega) (by omega) ?_ ?_
        · rintro v h10 (⟨v9, e9, r9, e8, hq⟩ | ⟨ci9, q9, e9, -⟩)
          · cases e9
            subst e8
            replace H := H r9 h10 hq
            refine e_if_eq 32 dX3_isRound_16 (by decide) (fun g16 => ?_) (fun g16 => ?_)
            · replace H := H.1 g16
              exact E.less2 H (eS_s (eS_s (eS_s eS_0)))
            · replace H := H.2 g16
              refine e_aload_n dX3_isRound_19 rfl ?_
              refine e_iconst (1) dX3_isRound_20 (by decide) ?_
              refine e_iload_n dX3_isRound_21 rfl ?_
              refine e_ishl dX3_isRound_22 ?_
              obtain ⟨fsg19, g19o, H⟩ := H
              obtain ⟨d20, k21, n22, Q23, g19, g19d, g19k, g19n, H⟩ := H
              refine e_callV (r := (RX3, TX3, 8)) (As := [.int ((1 : Int32) <<< (a2 &&& 31))]) g19 dX3_isRound_23 wX3_made q932 q933 q934 g19o rfl rfl g19d rfl (Nat.le_of_ble_eq_true rfl) (k1 := k - k5 - k13 - k21) (n1 := n - n6 - n14 - n22) (by omega) (by omega) ?_ ?_
              · rintro v h18 (⟨v9, e9, r17, e8, hq⟩ | ⟨ci9, q9, e9, -⟩)
                · cases e9
                  subst e8
                  replace H := H r17 h18 hq
                  refine e_iload_n dX3_isRound_26 rfl ?_
                  refine e_icmp_ne 32 dX3_isRound_27 (by decide) (fun g24 => ?_) (fun g24 => ?_)
                  · replace H := H.1 g24
                    exact E.less2 H (eS_s (eS_s (eS_s eS_0)))
                  · replace H := H.2 g24
                    refine e_iconst (1) dX3_isRound_30 (by decide) ?_
                    exact e_ireturn .boolean dX3_isRound_31 rfl (by decide) H
                · cases e9
              · rintro q9 h9 (⟨v9, e9, -⟩ | ⟨ci9, q8, e9, -, -, hx⟩)
                · cases e9
                · exact hx.elim
          · cases e9
        · rintro q9 h9 (⟨v9, e9, -⟩ | ⟨ci9, q8, e9, -, -, hx⟩)
          · cases e9
          · exact hx.elim
    · cases e9
  · rintro q9 h9 (⟨v9, e9, -⟩ | ⟨ci9, q8, e9, -, -, hx⟩)
    · cases e9
    · exact hx.elim
set_option maxHeartbeats 4000000 in
theorem s_X3_isRound_32 (c : cC) (a0 : Nat) (a1 : Int32) (a2 : Int32) (h : eH) (k n : Nat) (H : h_X3_isRound_2 c a0 a1 (a2 + 1) h k n) : h_X3_isRound_32 c a0 a1 a2 h k n := by
  refine e_iinc (a2 + 1) _ dX3_isRound_32 rfl rfl (by decide) rfl rfl ?_
  refine e_goto 2 dX3_isRound_35 (by decide) ?_
  exact E.less2 H (eS_s (eS_s (eS_s eS_0)))
theorem en_X3_isRound {l : Launch} {lo : Nat} {G : eG} {d : Nat} {P : eO → eH → Prop} (a0 : Nat) (a1 : Int32) {h : eH} {k n : Nat} (H : h_X3_isRound_0 (l, lo, G, d, P) a0 a1 h k n) : Ct l lo G d mX3_isRound [.ref a0, .int a1] h k n P := 
  Ct_of (eArL mX3_isRound.2.2.2.1 [.ref a0, .int a1]) (by decide) rfl (Nat.le_of_ble_eq_true rfl) (fun j w q => eArL_mem j w q) (E.less2 H (eS_s (eS_s (eS_n eS_0))))
/-! X3_within TroupeSums$Group.within(II)I -/
def h_X3_within_0 (c : cC) (a0 : Nat) (a1 : Int32) (a2 : Int32) (h : eH) (k n : Nat) : Prop := E c.1 c.2.1 c.2.2.1 c.2.2.2.1 mX3_within c.2.2.2.2 0 [some (.ref a0), some (.int a1), some (.int a2), none, none] [] h k n
def h_X3_within_5 (c : cC) (a0 : Nat) (a1 : Int32) (a2 : Int32) (a3 : Int32) (a4 : Int32) (h : eH) (k n : Nat) : Prop := E c.1 c.2.1 c.2.2.1 c.2.2.2.1 mX3_within c.2.2.2.2 5 [some (.ref a0), some (.int a1), some (.int a2), some (.int a3), some (.int a4)] [] h k n
set_option maxHeartbeats 4000000 in
theorem s_X3_within_0 (c : cC) (a0 : Nat) (a1 : Int32) (a2 : Int32) (h : eH) (k n : Nat) (H : h_X3_within_5 c a0 a1 a2 (0 : Int32) (0 : Int32) h k n) : h_X3_within_0 c a0 a1 a2 h k n := by
  refine e_iconst (0) dX3_within_0 (by decide) ?_
  refine e_istore_n _ dX3_within_1 (by decide) rfl rfl ?_
  refine e_iconst (0) dX3_within_2 (by decide) ?_
  refine e_istore _ dX3_within_3 (by decide) rfl rfl ?_
  exact E.less2 H (eS_s (eS_s (eS_s (eS_s (eS_s eS_0)))))
set_option maxHeartbeats 4000000 in
theorem s_X3_within_5 (c : cC) (a0 : Nat) (a1 : Int32) (a2 : Int32) (a3 : Int32) (a4 : Int32) (h : eH) (k n : Nat) (H : ∃ x1 : Nat, fV h a0 3 6 (.ref x1) ∧ (∃ v3 : vp_A, h.1 x1 = some (.inl (c.2.2.1.2.1 0, v3)) ∧ (((nI v3.1) ≤ a4 → c.2.2.2.2 (.inl (some (.int a3))) h) ∧ (¬ (nI v3.1) ≤ a4 → ∃ x6 : Nat, fV h a0 3 6 (.ref x6) ∧ (∃ (N8 : Nat) (f9 : Nat → Int32), h.1 x6 = some (.inl (c.2.2.1.2.1 0, N8, .inl f9)) ∧ vp_in a4 N8 ∧ ((¬ (f9 a4.toNatClampNeg) = a1 → h_X3_within_5 c a0 a1 a2 (a3 + (0 : Int32)) (a4 + 1) h k n) ∧ ((f9 a4.toNatClampNeg) = a1 → ∃ x12 : Nat, fV h a0 3 4 (.ref x12) ∧ (∃ fs8 : List Value, h.1 x12 = some (.inr (15, fs8)) ∧ ∃ (d17 k18 n19 : Nat) (Q20 : Nat → eH → Prop), cR c.1 c.2.1 c.2.2.1 d17 mJ2_get [.ref x12, .int a4] h k18 n19 Q20 cX0 ∧ d17 + 1 ≤ c.2.2.2.1 ∧ k18 ≤ k ∧ n19 ≤ n ∧ (∀ (r14 : Nat) (h15 : eH), Q20 r14 h15 → (eCs c.2.2.1 h15 r14 "java/lang/Integer" ∧ (∃ fs8 : List Value, h15.1 r14 = some (.inr (17, fs8)) ∧ ∃ (d25 k26 n27 : Nat) (Q28 : Int32 → eH → Prop), cI c.1 c.2.1 c.2.2.1 d25 mJ6_intValue [.ref r14] h15 k26 n27 Q28 cX0 ∧ d25 + 1 ≤ c.2.2.2.1 ∧ k26 ≤ k - k18 ∧ n27 ≤ n - n19 ∧ (∀ (r22 : Int32) (h23 : eH), Q28 r22 h23 → (∃ x29 : Nat, fV h23 a0 3 5 (.ref x29) ∧ (∃ fs8 : List Value, h23.1 x29 = some (.inr (15, fs8)) ∧ ∃ (d34 k35 n36 : Nat) (Q37 : Nat → eH → Prop), cR c.1 c.2.1 c.2.2.1 d34 mJ2_get [.ref x29, .int a2] h23 k35 n36 Q37 cX0 ∧ d34 + 1 ≤ c.2.2.2.1 ∧ k35 ≤ k - k18 - k26 ∧ n36 ≤ n - n19 - n27 ∧ (∀ (r31 : Nat) (h32 : eH), Q37 r31 h32 → (eCs c.2.2.1 h32 r31 "TroupeSums$Sort" ∧ (∃ x39 : Int32, fV h32 r31 5 1 (.int x39) ∧ ((¬ (r22 &&& (x39 ^^^ (-1 : Int32))) = 0 → h_X3_within_5 c a0 a1 a2 (a3 + (0 : Int32)) (a4 + 1) h32 (k - k18 - k26 - k35) (n - n19 - n27 - n36)) ∧ ((r22 &&& (x39 ^^^ (-1 : Int32))) = 0 → h_X3_within_5 c a0 a1 a2 (a3 + (1 : Int32)) (a4 + 1) h32 (k - k18 - k26 - k35) (n - n19 - n27 - n36)))))))))))))))))))) : h_X3_within_5 c a0 a1 a2 a3 a4 h k n := by
  refine e_iload dX3_within_5 rfl ?_
  refine e_aload_n dX3_within_7 rfl ?_
  obtain ⟨x1, ⟨fsx1, g2, g2v⟩, H⟩ := H
  refine e_get dX3_within_8 fX3_6 q1196 g2 g2v ?_
  obtain ⟨v3, g4, H⟩ := H
  refine e_alen (t := 0) dX3_within_11 (fun _ => rfl) g4 ?_
  refine e_icmp_ge 79 dX3_within_12 (by decide) (fun g5 => ?_) (fun g5 => ?_)
  · replace H := H.1 g5
    refine e_iload_n dX3_within_79 rfl ?_
    exact e_ireturn .int dX3_within_80 rfl rfl H
  · replace H := H.2 g5
    refine e_iload_n dX3_within_15 rfl ?_
    refine e_aload_n dX3_within_16 rfl ?_
    obtain ⟨x6, ⟨fsx6, g7, g7v⟩, H⟩ := H
    refine e_get dX3_within_17 fX3_6 q1196 g7 g7v ?_
    refine e_iload dX3_within_20 rfl ?_
    obtain ⟨N8, f9, g10, g10i, H⟩ := H
    refine e_iaload dX3_within_22 g10 g10i ?_
    refine e_iload_n dX3_within_23 rfl ?_
    refine e_icmp_ne 70 dX3_within_24 (by decide) (fun g11 => ?_) (fun g11 => ?_)
    · replace H := H.1 g11
      refine e_iconst (0) dX3_within_70 (by decide) ?_
      refine e_iadd dX3_within_71 ?_
      refine e_istore_n _ dX3_within_72 (by decide) rfl rfl ?_
      refine e_iinc (a4 + 1) _ dX3_within_73 rfl rfl (by decide) rfl rfl ?_
      refine e_goto 5 dX3_within_76 (by decide) ?_
      exact E.less2 H (eS_s (eS_s (eS_s (eS_s (eS_s eS_0)))))
    · replace H := H.2 g11
      refine e_aload_n dX3_within_27 rfl ?_
      obtain ⟨x12, ⟨fsx12, g13, g13v⟩, H⟩ := H
      refine e_get dX3_within_28 fX3_4 q1189 g13 g13v ?_
      refine e_iload dX3_within_31 rfl ?_
      obtain ⟨fsg16, g16o, H⟩ := H
      obtain ⟨d17, k18, n19, Q20, g16, g16d, g16k, g16n, H⟩ := H
      refine e_callF (i := 4) (r := (RJ2, TJ2, 3)) (As := [.int a4]) g16 dX3_within_33 wJ2_get rfl rfl q882 q887 q885 g16o rfl rfl g16d rfl (Nat.le_of_ble_eq_true rfl) (k1 := k - k18) (n1 := n - n19) (by omega) (by omega) ?_ ?_
      · rintro v h15 (⟨v9, e9, r14, e8, hq⟩ | ⟨ci9, q9, e9, -⟩)
        · cases e9
          subst e8
          replace H := H r14 h15 hq
          obtain ⟨g21, H⟩ := H
          refine c_castR dX3_within_38 q919 g21 ?_
          obtain ⟨fsg24, g24o, H⟩ := H
          obtain ⟨d25, k26, n27, Q28, g24, g24d, g24k, g24n, H⟩ := H
          refine e_callV (r := (RJ6, TJ6, 1)) (As := []) g24 dX3_within_41 wJ6_intValue q920 q921 q922 g24o rfl rfl g24d rfl (Nat.le_of_ble_eq_true rfl) (k1 := k - k18 - k26) (n1 := n - n19 - n27) (by omega) (by omega) ?_ ?_
          · rintro v h23 (⟨v9, e9, r22, e8, hq⟩ | ⟨ci9, q9, e9, -⟩)
            · cases e9
              subst e8
              replace H := H r22 h23 hq
              refine e_aload_n dX3_within_44 rfl ?_
              obtain ⟨x29, ⟨fsx29, g30, g30v⟩, H⟩ := H
              refine e_get dX3_within_45 fX3_5 q1192 g30 g30v ?_
              refine e_iload_n dX3_within_48 rfl ?_
              obtain ⟨fsg33, g33o, H⟩ := H
              obtain ⟨d34, k35, n36, Q37, g33, g33d, g33k, g33n, H⟩ := H
              refine e_callF (i := 4) (r := (RJ2, TJ2, 3)) (As := [.int a2]) g33 dX3_within_49 wJ2_get rfl rfl q882 q887 q885 g33o rfl rfl g33d rfl (Nat.le_of_ble_eq_true rfl) (k1 := k - k18 - k26 - k35) (n1 := n - n19 - n27 - n36) (by omega) (by omega) ?_ ?_
              · rintro v h32 (⟨v9, e9, r31, e8, hq⟩ | ⟨ci9, q9, e9, -⟩)
                · cases e9
                  subst e8
                  replace H := H r31 h32 hq
                  obtain ⟨g38, H⟩ := H
                  refine c_castR dX3_within_54 q1064 g38 ?_
                  obtain ⟨x39, ⟨fsx39, g40, g40v⟩, H⟩ := H
                  refine e_getN dX3_within_57 fX5_1 q1081 g40 g40v ?_
                  refine e_iconst (-1) dX3_within_60 (by decide) ?_
                  refine e_ixor dX3_within_61 ?_
                  refine e_iand dX3_within_62 ?_
                  refine e_if_ne 70 dX3_within_63 (by decide) (fun g41 => ?_) (fun g41 => ?_)
                  · replace H := H.1 g41
                    refine e_iconst (0) dX3_within_70 (by decide) ?_
                    refine e_iadd dX3_within_71 ?_
                    refine e_istore_n _ dX3_within_72 (by decide) rfl rfl ?_
                    refine e_iinc (a4 + 1) _ dX3_within_73 rfl rfl (by decide) rfl rfl ?_
                    refine e_goto 5 dX3_within_76 (by decide) ?_
                    exact E.less2 H (eS_s (eS_s (eS_s (eS_s (eS_s eS_0)))))
                  · replace H := H.2 g41
                    refine e_iconst (1) dX3_within_66 (by decide) ?_
                    refine e_goto 71 dX3_within_67 (by decide) ?_
                    refine e_iadd dX3_within_71 ?_
                    refine e_istore_n _ dX3_within_72 (by decide) rfl rfl ?_
                    refine e_iinc (a4 + 1) _ dX3_within_73 rfl rfl (by decide) rfl rfl ?_
                    refine e_goto 5 dX3_within_76 (by decide) ?_
                    exact E.less2 H (eS_s (eS_s (eS_s (eS_s (eS_s eS_0)))))
                · cases e9
              · rintro q9 h9 (⟨v9, e9, -⟩ | ⟨ci9, q8, e9, -, -, hx⟩)
                · cases e9
                · exact hx.elim
            · cases e9
          · rintro q9 h9 (⟨v9, e9, -⟩ | ⟨ci9, q8, e9, -, -, hx⟩)
            · cases e9
            · exact hx.elim
        · cases e9
      · rintro q9 h9 (⟨v9, e9, -⟩ | ⟨ci9, q8, e9, -, -, hx⟩)
        · cases e9
        · exact hx.elim
theorem en_X3_within {l : Launch} {lo : Nat} {G : eG} {d : Nat} {P : eO → eH → Prop} (a0 : Nat) (a1 : Int32) (a2 : Int32) {h : eH} {k n : Nat} (H : h_X3_within_0 (l, lo, G, d, P) a0 a1 a2 h k n) : Ct l lo G d mX3_within [.ref a0, .int a1, .int a2] h k n P := 
  Ct_of (eArL mX3_within.2.2.2.1 [.ref a0, .int a1, .int a2]) (by decide) rfl (Nat.le_of_ble_eq_true rfl) (fun j w q => eArL_mem j w q) (E.less2 H (eS_s (eS_s (eS_s (eS_n (eS_n eS_0))))))
/-! X3_residue TroupeSums$Group.residue(II)I -/
def h_X3_residue_0 (c : cC) (a0 : Nat) (a1 : Int32) (a2 : Int32) (h : eH) (k n : Nat) : Prop := E c.1 c.2.1 c.2.2.1 c.2.2.2.1 mX3_residue c.2.2.2.2 0 [some (.ref a0), some (.int a1), some (.int a2), none, none, none, none, none] [] h k n
def h_X3_residue_31 (c : cC) (a0 : Nat) (a2 : Int32) (a3 : Int32) (a4 : Int32) (a5 : Nat) (h : eH) (k n : Nat) : Prop := E c.1 c.2.1 c.2.2.1 c.2.2.2.1 mX3_residue c.2.2.2.2 31 [some (.ref a0), none, some (.int a2), some (.int a3), some (.int a4), some (.ref a5), none, none] [] h k n
def h_X3_residue_105 (c : cC) (a0 : Nat) (a2 : Int32) (a3 : Int32) (a4 : Int32) (a5 : Nat) (a6 : Int32) (a7 : Int32) (h : eH) (k n : Nat) : Prop := E c.1 c.2.1 c.2.2.1 c.2.2.2.1 mX3_residue c.2.2.2.2 105 [some (.ref a0), none, some (.int a2), some (.int a3), some (.int a4), some (.ref a5), some (.int a6), some (.int a7)] [] h k n
def h_X3_residue_131 (c : cC) (a0 : Nat) (a2 : Int32) (a3 : Int32) (a4 : Int32) (a5 : Nat) (h : eH) (k n : Nat) : Prop := E c.1 c.2.1 c.2.2.1 c.2.2.2.1 mX3_residue c.2.2.2.2 131 [some (.ref a0), none, some (.int a2), some (.int a3), some (.int a4), some (.ref a5), none, none] [] h k n
set_option maxHeartbeats 4000000 in
theorem s_X3_residue_0 (c : cC) (a0 : Nat) (a1 : Int32) (a2 : Int32) (h : eH) (k n : Nat) (H : ∃ x1 : Nat, fV h a0 3 5 (.ref x1) ∧ (∃ fs8 : List Value, h.1 x1 = some (.inr (15, fs8)) ∧ ∃ (d6 k7 n8 : Nat) (Q9 : Nat → eH → Prop), cR c.1 c.2.1 c.2.2.1 d6 mJ2_get [.ref x1, .int a1] h k7 n8 Q9 cX0 ∧ d6 + 1 ≤ c.2.2.2.1 ∧ k7 ≤ k ∧ n8 ≤ n ∧ (∀ (r3 : Nat) (h4 : eH), Q9 r3 h4 → (eCs c.2.2.1 h4 r3 "TroupeSums$Sort" ∧ (∃ x11 : Int32, fV h4 r3 5 1 (.int x11) ∧ (∃ x13 : Nat, fV h4 a0 3 4 (.ref x13) ∧ (∃ fs8 : List Value, h4.1 x13 = some (.inr (15, fs8)) ∧ ∃ (d18 k19 n20 : Nat) (Q21 : Nat → eH → Prop), cR c.1 c.2.1 c.2.2.1 d18 mJ2_iterator [.ref x13] h4 k19 n20 Q21 cX0 ∧ d18 + 1 ≤ c.2.2.2.1 ∧ k19 ≤ k - k7 ∧ n20 ≤ n - n8 ∧ (∀ (r15 : Nat) (h16 : eH), Q21 r15 h16 → (h_X3_residue_31 c a0 a2 x11 x11 r15 h16 (k - k7 - k19) (n - n8 - n20)))))))))) : h_X3_residue_0 c a0 a1 a2 h k n := by
  refine e_aload_n dX3_residue_0 rfl ?_
  obtain ⟨x1, ⟨fsx1, g2, g2v⟩, H⟩ := H
  refine e_get dX3_residue_1 fX3_5 q1192 g2 g2v ?_
  refine e_iload_n dX3_residue_4 rfl ?_
  obtain ⟨fsg5, g5o, H⟩ := H
  obtain ⟨d6, k7, n8, Q9, g5, g5d, g5k, g5n, H⟩ := H
  refine e_callF (i := 4) (r := (RJ2, TJ2, 3)) (As := [.int a1]) g5 dX3_residue_5 wJ2_get rfl rfl q882 q887 q885 g5o rfl rfl g5d rfl (Nat.le_of_ble_eq_true rfl) (k1 := k - k7) (n1 := n - n8) (by omega) (by omega) ?_ ?_
  · rintro v h4 (⟨v9, e9, r3, e8, hq⟩ | ⟨ci9, q9, e9, -⟩)
    · cases e9
      subst e8
      replace H := H r3 h4 hq
      obtain ⟨g10, H⟩ := H
      refine c_castR dX3_residue_10 q1064 g10 ?_
      obtain ⟨x11, ⟨fsx11, g12, g12v⟩, H⟩ := H
      refine e_getN dX3_residue_13 fX5_1 q1081 g12 g12v ?_
      refine e_istore_n _ dX3_residue_16 (by decide) rfl rfl ?_
      refine e_iload_n dX3_residue_17 rfl ?_
      refine e_istore _ dX3_residue_18 (by decide) rfl rfl ?_
      refine e_aload_n dX3_residue_20 rfl ?_
      obtain ⟨x13, ⟨fsx13, g14, g14v⟩, H⟩ := H
      refine e_get dX3_residue_21 fX3_4 q1189 g14 g14v ?_
      obtain ⟨fsg17, g17o, H⟩ := H
      obtain ⟨d18, k19, n20, Q21, g17, g17d, g17k, g17n, H⟩ := H
      refine e_callF (i := 7) (r := (RJ2, TJ2, 3)) (As := []) g17 dX3_residue_24 wJ2_iterator rfl rfl q1028 q1033 q1031 g17o rfl rfl g17d rfl (Nat.le_of_ble_eq_true rfl) (k1 := k - k7 - k19) (n1 := n - n8 - n20) (by omega) (by omega) ?_ ?_
      · rintro v h16 (⟨v9, e9, r15, e8, hq⟩ | ⟨ci9, q9, e9, -⟩)
        · cases e9
          subst e8
          replace H := H r15 h16 hq
          refine e_astore _ dX3_residue_29 (by decide) rfl rfl ?_
          exact E.less2 H (eS_s (eS_n (eS_s (eS_s (eS_s (eS_s (eS_n (eS_n eS_0))))))))
        · cases e9
      · rintro q9 h9 (⟨v9, e9, -⟩ | ⟨ci9, q8, e9, -, -, hx⟩)
        · cases e9
        · exact hx.elim
    · cases e9
  · rintro q9 h9 (⟨v9, e9, -⟩ | ⟨ci9, q8, e9, -, -, hx⟩)
    · cases e9
    · exact hx.elim
set_option maxHeartbeats 4000000 in
theorem s_X3_residue_31 (c : cC) (a0 : Nat) (a2 : Int32) (a3 : Int32) (a4 : Int32) (a5 : Nat) (h : eH) (k n : Nat) (H : ∃ fs8 : List Value, h.1 a5 = some (.inr (23, fs8)) ∧ ∃ (d4 k5 n6 : Nat) (Q7 : Int32 → eH → Prop), cI c.1 c.2.1 c.2.2.1 d4 mJ24_hasNext [.ref a5] h k5 n6 Q7 cX0 ∧ d4 + 1 ≤ c.2.2.2.1 ∧ k5 ≤ k ∧ n6 ≤ n ∧ (∀ (r1 : Int32) (h2 : eH), Q7 r1 h2 → ((r1 = 0 → ∃ fs8 : List Value, h2.1 a0 = some (.inr (3, fs8)) ∧ ∃ (d12 k13 n14 : Nat) (Q15 : Int32 → eH → Prop), cI c.1 c.2.1 c.2.2.1 d12 mX3_sortOf [.ref a0, .int a4] h2 k13 n14 Q15 cX0 ∧ d12 + 1 ≤ c.2.2.2.1 ∧ k13 ≤ k - k5 ∧ n14 ≤ n - n6 ∧ (∀ (r9 : Int32) (h10 : eH), Q15 r9 h10 → (c.2.2.2.2 (.inl (some (.int r9))) h10))) ∧ (¬ r1 = 0 → ∃ fs8 : List Value, h2.1 a5 = some (.inr (23, fs8)) ∧ ∃ (d19 k20 n21 : Nat) (Q22 : Nat → eH → Prop), cR c.1 c.2.1 c.2.2.1 d19 mJ24_next [.ref a5] h2 k20 n21 Q22 cX0 ∧ d19 + 1 ≤ c.2.2.2.1 ∧ k20 ≤ k - k5 ∧ n21 ≤ n - n6 ∧ (∀ (r16 : Nat) (h17 : eH), Q22 r16 h17 → (eCs c.2.2.1 h17 r16 "java/lang/Integer" ∧ (∃ fs8 : List Value, h17.1 r16 = some (.inr (17, fs8)) ∧ ∃ (d27 k28 n29 : Nat) (Q30 : Int32 → eH → Prop), cI c.1 c.2.1 c.2.2.1 d27 mJ6_intValue [.ref r16] h17 k28 n29 Q30 cX0 ∧ d27 + 1 ≤ c.2.2.2.1 ∧ k28 ≤ k - k5 - k20 ∧ n29 ≤ n - n6 - n21 ∧ (∀ (r24 : Int32) (h25 : eH), Q30 r24 h25 → ((¬ (r24 &&& (a3 ^^^ (-1 : Int32))) = 0 → h_X3_residue_31 c a0 a2 a3 a4 a5 h25 (k - k5 - k20 - k28) (n - n6 - n21 - n29)) ∧ ((r24 &&& (a3 ^^^ (-1 : Int32))) = 0 → ∃ fs8 : List Value, h25.1 a0 = some (.inr (3, fs8)) ∧ ∃ (d35 k36 n37 : Nat) (Q38 : Int32 → eH → Prop), cI c.1 c.2.1 c.2.2.1 d35 mX3_norm [.ref a0, .int r24] h25 k36 n37 Q38 cX0 ∧ d35 + 1 ≤ c.2.2.2.1 ∧ k36 ≤ k - k5 - k20 - k28 ∧ n37 ≤ n - n6 - n21 - n29 ∧ (∀ (r32 : Int32) (h33 : eH), Q38 r32 h33 → ((¬ (r32 &&& a3) = a3 → h_X3_residue_31 c a0 a2 a3 a4 a5 h33 (k - k5 - k20 - k28 - k36) (n - n6 - n21 - n29 - n37)) ∧ ((r32 &&& a3) = a3 → ∃ (d43 k44 n45 : Nat) (Q46 : Int32 → eH → Prop), cI c.1 c.2.1 c.2.2.1 d43 mJ6_bitCount [.int r24] h33 k44 n45 Q46 cX0 ∧ d43 + 1 ≤ c.2.2.2.1 ∧ k44 ≤ k - k5 - k20 - k28 - k36 ∧ n45 ≤ n - n6 - n21 - n29 - n37 ∧ (∀ (r40 : Int32) (h41 : eH), Q46 r40 h41 → (∃ (d50 k51 n52 : Nat) (Q53 : Int32 → eH → Prop), cI c.1 c.2.1 c.2.2.1 d50 mJ6_bitCount [.int a4] h41 k51 n52 Q53 cX0 ∧ d50 + 1 ≤ c.2.2.2.1 ∧ k51 ≤ k - k5 - k20 - k28 - k36 - k44 ∧ n52 ≤ n - n6 - n21 - n29 - n37 - n45 ∧ (∀ (r47 : Int32) (h48 : eH), Q53 r47 h48 → ((r40 < r47 → ∃ (d58 k59 n60 : Nat) (Q61 : Int32 → eH → Prop), cI c.1 c.2.1 c.2.2.1 d58 mJ6_bitCount [.int a3] h48 k59 n60 Q61 cX0 ∧ d58 + 1 ≤ c.2.2.2.1 ∧ k59 ≤ k - k5 - k20 - k28 - k36 - k44 - k51 ∧ n60 ≤ n - n6 - n21 - n29 - n37 - n45 - n52 ∧ (∀ (r55 : Int32) (h56 : eH), Q61 r55 h56 → (∃ (d65 k66 n67 : Nat) (Q68 : Int32 → eH → Prop), cI c.1 c.2.1 c.2.2.1 d65 mJ6_bitCount [.int r24] h56 k66 n67 Q68 cX0 ∧ d65 + 1 ≤ c.2.2.2.1 ∧ k66 ≤ k - k5 - k20 - k28 - k36 - k44 - k51 - k59 ∧ n67 ≤ n - n6 - n21 - n29 - n37 - n45 - n52 - n60 ∧ (∀ (r62 : Int32) (h63 : eH), Q68 r62 h63 → (¬ r62 = 0 ∧ (h_X3_residue_105 c a0 a2 a3 a4 a5 r24 (r55 / r62) h63 (k - k5 - k20 - k28 - k36 - k44 - k51 - k59 - k66) (n - n6 - n21 - n29 - n37 - n45 - n52 - n60 - n67))))))) ∧ (¬ r40 < r47 → h_X3_residue_31 c a0 a2 a3 a4 a5 h48 (k - k5 - k20 - k28 - k36 - k44 - k51) (n - n6 - n21 - n29 - n37 - n45 - n52))))))))))))))))))) : h_X3_residue_31 c a0 a2 a3 a4 a5 h k n := by
  refine e_aload dX3_residue_31 rfl ?_
  obtain ⟨fsg3, g3o, H⟩ := H
  obtain ⟨d4, k5, n6, Q7, g3, g3d, g3k, g3n, H⟩ := H
  refine e_callF (i := 12) (r := (RJ24, TJ24, 4)) (As := []) g3 dX3_residue_33 wJ24_hasNext rfl rfl q747 q753 q751 g3o rfl rfl g3d rfl (Nat.le_of_ble_eq_true rfl) (k1 := k - k5) (n1 := n - n6) (by omega) (by omega) ?_ ?_
  · rintro v h2 (⟨v9, e9, r1, e8, hq⟩ | ⟨ci9, q9, e9, -⟩)
    · cases e9
      subst e8
      replace H := H r1 h2 hq
      refine e_if_eq 134 dX3_residue_38 (by decide) (fun g8 => ?_) (fun g8 => ?_)
      · replace H := H.1 g8
        refine e_aload_n dX3_residue_134 rfl ?_
        refine e_iload dX3_residue_135 rfl ?_
        obtain ⟨fsg11, g11o, H⟩ := H
        obtain ⟨d12, k13, n14, Q15, g11, g11d, g11k, g11n, H⟩ := H
        refine e_callV (r := (RX3, TX3, 8)) (As := [.int a4]) g11 dX3_residue_137 wX3_sortOf q2055 q2006 q2007 g11o rfl rfl g11d rfl (Nat.le_of_ble_eq_true rfl) (k1 := k - k5 - k13) (n1 := n - n6 - n14) (by omega) (by omega) ?_ ?_
        · rintro v h10 (⟨v9, e9, r9, e8, hq⟩ | ⟨ci9, q9, e9, -⟩)
          · cases e9
            subst e8
            replace H := H r9 h10 hq
            exact e_ireturn .int dX3_residue_140 rfl rfl H
          · cases e9
        · rintro q9 h9 (⟨v9, e9, -⟩ | ⟨ci9, q8, e9, -, -, hx⟩)
          · cases e9
          · exact hx.elim
      · replace H := H.2 g8
        refine e_aload dX3_residue_41 rfl ?_
        obtain ⟨fsg18, g18o, H⟩ := H
        obtain ⟨d19, k20, n21, Q22, g18, g18d, g18k, g18n, H⟩ := H
        refine e_callF (i := 13) (r := (RJ24, TJ24, 4)) (As := []) g18 dX3_residue_43 wJ24_next rfl rfl q763 q768 q766 g18o rfl rfl g18d rfl (Nat.le_of_ble_eq_true rfl) (k1 := k - k5 - k20) (n1 := n - n6 - n21) (by omega) (by omega) ?_ ?_
        · rintro v h17 (⟨v9, e9, r16, e8, hq⟩ | ⟨ci9, q9, e9, -⟩)
          · cases e9
            subst e8
            replace H := H r16 h17 hq
            obtain ⟨g23, H⟩ := H
            refine c_castR dX3_residue_48 q919 g23 ?_
            obtain ⟨fsg26, g26o, H⟩ := H
            obtain ⟨d27, k28, n29, Q30, g26, g26d, g26k, g26n, H⟩ := H
            refine e_callV (r := (RJ6, TJ6, 1)) (As := []) g26 dX3_residue_51 wJ6_intValue q920 q921 q922 g26o rfl rfl g26d rfl (Nat.le_of_ble_eq_true rfl) (k1 := k - k5 - k20 - k28) (n1 := n - n6 - n21 - n29) (by omega) (by omega) ?_ ?_
            · rintro v h25 (⟨v9, e9, r24, e8, hq⟩ | ⟨ci9, q9, e9, -⟩)
              · cases e9
                subst e8
                replace H := H r24 h25 hq
                refine e_istore _ dX3_residue_54 (by decide) rfl rfl ?_
                refine e_iload dX3_residue_56 rfl ?_
                refine e_iload_n dX3_residue_58 rfl ?_
                refine e_iconst (-1) dX3_residue_59 (by decide) ?_
                refine e_ixor dX3_residue_60 ?_
                refine e_iand dX3_residue_61 ?_
                refine e_if_ne 31 dX3_residue_62 (by decide) (fun g31 => ?_) (fun g31 => ?_)
                · replace H := H.1 g31
                  exact E.less2 H (eS_s (eS_n (eS_s (eS_s (eS_s (eS_s (eS_n (eS_n eS_0))))))))
                · replace H := H.2 g31
                  refine e_aload_n dX3_residue_65 rfl ?_
                  refine e_iload dX3_residue_66 rfl ?_
                  obtain ⟨fsg34, g34o, H⟩ := H
                  obtain ⟨d35, k36, n37, Q38, g34, g34d, g34k, g34n, H⟩ := H
                  refine e_callV (r := (RX3, TX3, 8)) (As := [.int r24]) g34 dX3_residue_68 wX3_norm q1174 q1175 q1176 g34o rfl rfl g34d rfl (Nat.le_of_ble_eq_true rfl) (k1 := k - k5 - k20 - k28 - k36) (n1 := n - n6 - n21 - n29 - n37) (by omega) (by omega) ?_ ?_
                  · rintro v h33 (⟨v9, e9, r32, e8, hq⟩ | ⟨ci9, q9, e9, -⟩)
                    · cases e9
                      subst e8
                      replace H := H r32 h33 hq
                      refine e_iload_n dX3_residue_71 rfl ?_
                      refine e_iand dX3_residue_72 ?_
                      refine e_iload_n dX3_residue_73 rfl ?_
                      refine e_icmp_ne 31 dX3_residue_74 (by decide) (fun g39 => ?_) (fun g39 => ?_)
                      · replace H := H.1 g39
                        exact E.less2 H (eS_s (eS_n (eS_s (eS_s (eS_s (eS_s (eS_n (eS_n eS_0))))))))
                      · replace H := H.2 g39
                        refine e_iload dX3_residue_77 rfl ?_
                        obtain ⟨d43, k44, n45, Q46, g42, g42d, g42k, g42n, H⟩ := H
                        refine e_callS (As := [.int r24]) g42 dX3_residue_79 wJ6_bitCount q1182 q1071 rfl g42d rfl (Nat.le_of_ble_eq_true rfl) (k1 := k - k5 - k20 - k28 - k36 - k44) (n1 := n - n6 - n21 - n29 - n37 - n45) (by omega) (by omega) ?_ ?_
                        · rintro v h41 (⟨v9, e9, r40, e8, hq⟩ | ⟨ci9, q9, e9, -⟩)
                          · cases e9
                            subst e8
                            replace H := H r40 h41 hq
                            refine e_iload dX3_residue_82 rfl ?_
                            obtain ⟨d50, k51, n52, Q53, g49, g49d, g49k, g49n, H⟩ := H
                            refine e_callS (As := [.int a4]) g49 dX3_residue_84 wJ6_bitCount q1182 q1071 rfl g49d rfl (Nat.le_of_ble_eq_true rfl) (k1 := k - k5 - k20 - k28 - k36 - k44 - k51) (n1 := n - n6 - n21 - n29 - n37 - n45 - n52) (by omega) (by omega) ?_ ?_
                            · rintro v h48 (⟨v9, e9, r47, e8, hq⟩ | ⟨ci9, q9, e9, -⟩)
                              · cases e9
                                subst e8
                                replace H := H r47 h48 hq
                                refine e_icmp_lt 93 dX3_residue_87 (by decide) (fun g54 => ?_) (fun g54 => ?_)
                                · replace H := H.1 g54
                                  refine e_iload_n dX3_residue_93 rfl ?_
                                  obtain ⟨d58, k59, n60, Q61, g57, g57d, g57k, g57n, H⟩ := H
                                  refine e_callS (As := [.int a3]) g57 dX3_residue_94 wJ6_bitCount q1182 q1071 rfl g57d rfl (Nat.le_of_ble_eq_true rfl) (k1 := k - k5 - k20 - k28 - k36 - k44 - k51 - k59) (n1 := n - n6 - n21 - n29 - n37 - n45 - n52 - n60) (by omega) (by omega) ?_ ?_
                                  · rintro v h56 (⟨v9, e9, r55, e8, hq⟩ | ⟨ci9, q9, e9, -⟩)
                                    · cases e9
                                      subst e8
                                      replace H := H r55 h56 hq
                                      refine e_iload dX3_residue_97 rfl ?_
                                      obtain ⟨d65, k66, n67, Q68, g64, g64d, g64k, g64n, H⟩ := H
                                      refine e_callS (As := [.int r24]) g64 dX3_residue_99 wJ6_bitCount q1182 q1071 rfl g64d rfl (Nat.le_of_ble_eq_true rfl) (k1 := k - k5 - k20 - k28 - k36 - k44 - k51 - k59 - k66) (n1 := n - n6 - n21 - n29 - n37 - n45 - n52 - n60 - n67) (by omega) (by omega) ?_ ?_
                                      · rintro v h63 (⟨v9, e9, r62, e8, hq⟩ | ⟨ci9, q9, e9, -⟩)
                                        · cases e9
                                          subst e8
                                          replace H := H r62 h63 hq
                                          obtain ⟨g69, H⟩ := H
                                          refine e_idiv dX3_residue_102 g69 ?_
                                          refine e_istore _ dX3_residue_103 (by decide) rfl rfl ?_
                                          exact E.less2 H (eS_s (eS_n (eS_s (eS_s (eS_s (eS_s (eS_s (eS_s eS_0))))))))
                                        · cases e9
                                      · rintro q9 h9 (⟨v9, e9, -⟩ | ⟨ci9, q8, e9, -, -, hx⟩)
                                        · cases e9
                                        · exact hx.elim
                                    · cases e9
                                  · rintro q9 h9 (⟨v9, e9, -⟩ | ⟨ci9, q8, e9, -, -, hx⟩)
                                    · cases e9
                                    · exact hx.elim
                                · replace H := H.2 g54
                                  refine e_goto 31 dX3_residue_90 (by decide) ?_
                                  exact E.less2 H (eS_s (eS_n (eS_s (eS_s (eS_s (eS_s (eS_n (eS_n eS_0))))))))
                              · cases e9
                            · rintro q9 h9 (⟨v9, e9, -⟩ | ⟨ci9, q8, e9, -, -, hx⟩)
                              · cases e9
                              · exact hx.elim
                          · cases e9
                        · rintro q9 h9 (⟨v9, e9, -⟩ | ⟨ci9, q8, e9, -, -, hx⟩)
                          · cases e9
                          · exact hx.elim
                    · cases e9
                  · rintro q9 h9 (⟨v9, e9, -⟩ | ⟨ci9, q8, e9, -, -, hx⟩)
                    · cases e9
                    · exact hx.elim
              · cases e9
            · rintro q9 h9 (⟨v9, e9, -⟩ | ⟨ci9, q8, e9, -, -, hx⟩)
              · cases e9
              · exact hx.elim
          · cases e9
        · rintro q9 h9 (⟨v9, e9, -⟩ | ⟨ci9, q8, e9, -, -, hx⟩)
          · cases e9
          · exact hx.elim
    · cases e9
  · rintro q9 h9 (⟨v9, e9, -⟩ | ⟨ci9, q8, e9, -, -, hx⟩)
    · cases e9
    · exact hx.elim
set_option maxHeartbeats 4000000 in
theorem s_X3_residue_105 (c : cC) (a0 : Nat) (a2 : Int32) (a3 : Int32) (a4 : Int32) (a5 : Nat) (a6 : Int32) (a7 : Int32) (h : eH) (k n : Nat) (H : ¬ a2 = 0 ∧ ((¬ (a7 - a7 / a2 * a2) = 0 → (¬ a7 = (1 : Int32) → h_X3_residue_131 c a0 a2 a3 a4 a5 h k n) ∧ (a7 = (1 : Int32) → h_X3_residue_131 c a0 a2 a3 a6 a5 h k n)) ∧ ((a7 - a7 / a2 * a2) = 0 → ¬ a2 = 0 ∧ (h_X3_residue_105 c a0 a2 a3 a4 a5 a6 (a7 / a2) h k n)))) : h_X3_residue_105 c a0 a2 a3 a4 a5 a6 a7 h k n := by
  refine e_iload dX3_residue_105 rfl ?_
  refine e_iload_n dX3_residue_107 rfl ?_
  obtain ⟨g1, H⟩ := H
  refine e_irem dX3_residue_108 g1 ?_
  refine e_if_ne 121 dX3_residue_109 (by decide) (fun g2 => ?_) (fun g2 => ?_)
  · replace H := H.1 g2
    refine e_iload dX3_residue_121 rfl ?_
    refine e_iconst (1) dX3_residue_123 (by decide) ?_
    refine e_icmp_ne 131 dX3_residue_124 (by decide) (fun g3 => ?_) (fun g3 => ?_)
    · replace H := H.1 g3
      exact E.less2 H (eS_s (eS_n (eS_s (eS_s (eS_s (eS_s (eS_n (eS_n eS_0))))))))
    · replace H := H.2 g3
      refine e_iload dX3_residue_127 rfl ?_
      refine e_istore _ dX3_residue_129 (by decide) rfl rfl ?_
      exact E.less2 H (eS_s (eS_n (eS_s (eS_s (eS_s (eS_s (eS_n (eS_n eS_0))))))))
  · replace H := H.2 g2
    refine e_iload dX3_residue_112 rfl ?_
    refine e_iload_n dX3_residue_114 rfl ?_
    obtain ⟨g4, H⟩ := H
    refine e_idiv dX3_residue_115 g4 ?_
    refine e_istore _ dX3_residue_116 (by decide) rfl rfl ?_
    refine e_goto 105 dX3_residue_118 (by decide) ?_
    exact E.less2 H (eS_s (eS_n (eS_s (eS_s (eS_s (eS_s (eS_s (eS_s eS_0))))))))
set_option maxHeartbeats 4000000 in
theorem s_X3_residue_131 (c : cC) (a0 : Nat) (a2 : Int32) (a3 : Int32) (a4 : Int32) (a5 : Nat) (h : eH) (k n : Nat) (H : h_X3_residue_31 c a0 a2 a3 a4 a5 h k n) : h_X3_residue_131 c a0 a2 a3 a4 a5 h k n := by
  refine e_goto 31 dX3_residue_131 (by decide) ?_
  exact E.less2 H (eS_s (eS_n (eS_s (eS_s (eS_s (eS_s (eS_n (eS_n eS_0))))))))
theorem en_X3_residue {l : Launch} {lo : Nat} {G : eG} {d : Nat} {P : eO → eH → Prop} (a0 : Nat) (a1 : Int32) (a2 : Int32) {h : eH} {k n : Nat} (H : h_X3_residue_0 (l, lo, G, d, P) a0 a1 a2 h k n) : Ct l lo G d mX3_residue [.ref a0, .int a1, .int a2] h k n P := 
  Ct_of (eArL mX3_residue.2.2.2.1 [.ref a0, .int a1, .int a2]) (by decide) rfl (Nat.le_of_ble_eq_true rfl) (fun j w q => eArL_mem j w q) (E.less2 H (eS_s (eS_s (eS_s (eS_n (eS_n (eS_n (eS_n (eS_n eS_0)))))))))
/-! X3_block TroupeSums$Group.block(II)I -/
def h_X3_block_0 (c : cC) (a0 : Nat) (a1 : Int32) (a2 : Int32) (h : eH) (k n : Nat) : Prop := E c.1 c.2.1 c.2.2.1 c.2.2.2.1 mX3_block c.2.2.2.2 0 [some (.ref a0), some (.int a1), some (.int a2), none, none] [] h k n
def h_X3_block_5 (c : cC) (a0 : Nat) (a1 : Int32) (a2 : Int32) (a3 : Int32) (a4 : Int32) (h : eH) (k n : Nat) : Prop := E c.1 c.2.1 c.2.2.1 c.2.2.2.1 mX3_block c.2.2.2.2 5 [some (.ref a0), some (.int a1), some (.int a2), some (.int a3), some (.int a4)] [] h k n
set_option maxHeartbeats 4000000 in
theorem s_X3_block_0 (c : cC) (a0 : Nat) (a1 : Int32) (a2 : Int32) (h : eH) (k n : Nat) (H : h_X3_block_5 c a0 a1 a2 (0 : Int32) (0 : Int32) h k n) : h_X3_block_0 c a0 a1 a2 h k n := by
  refine e_iconst (0) dX3_block_0 (by decide) ?_
  refine e_istore_n _ dX3_block_1 (by decide) rfl rfl ?_
  refine e_iconst (0) dX3_block_2 (by decide) ?_
  refine e_istore _ dX3_block_3 (by decide) rfl rfl ?_
  exact E.less2 H (eS_s (eS_s (eS_s (eS_s (eS_s eS_0)))))
set_option maxHeartbeats 4000000 in
theorem s_X3_block_5 (c : cC) (a0 : Nat) (a1 : Int32) (a2 : Int32) (a3 : Int32) (a4 : Int32) (h : eH) (k n : Nat) (H : ∃ x1 : Nat, fV h a0 3 5 (.ref x1) ∧ (∃ fs8 : List Value, h.1 x1 = some (.inr (15, fs8)) ∧ ∃ (d6 k7 n8 : Nat) (Q9 : Int32 → eH → Prop), cI c.1 c.2.1 c.2.2.1 d6 mJ2_size [.ref x1] h k7 n8 Q9 cX0 ∧ d6 + 1 ≤ c.2.2.2.1 ∧ k7 ≤ k ∧ n8 ≤ n ∧ (∀ (r3 : Int32) (h4 : eH), Q9 r3 h4 → ((r3 ≤ a4 → c.2.2.2.2 (.inl (some (.int a3))) h4) ∧ (¬ r3 ≤ a4 → ∃ fs8 : List Value, h4.1 a0 = some (.inr (3, fs8)) ∧ ∃ (d14 k15 n16 : Nat) (Q17 : Int32 → eH → Prop), cI c.1 c.2.1 c.2.2.1 d14 mX3_residue [.ref a0, .int a4, .int a2] h4 k15 n16 Q17 cX0 ∧ d14 + 1 ≤ c.2.2.2.1 ∧ k15 ≤ k - k7 ∧ n16 ≤ n - n8 ∧ (∀ (r11 : Int32) (h12 : eH), Q17 r11 h12 → (∃ fs8 : List Value, h12.1 a0 = some (.inr (3, fs8)) ∧ ∃ (d21 k22 n23 : Nat) (Q24 : Int32 → eH → Prop), cI c.1 c.2.1 c.2.2.1 d21 mX3_residue [.ref a0, .int a1, .int a2] h12 k22 n23 Q24 cX0 ∧ d21 + 1 ≤ c.2.2.2.1 ∧ k22 ≤ k - k7 - k15 ∧ n23 ≤ n - n8 - n16 ∧ (∀ (r18 : Int32) (h19 : eH), Q24 r18 h19 → ((¬ r11 = r18 → h_X3_block_5 c a0 a1 a2 (a3 ||| (0 : Int32)) (a4 + 1) h19 (k - k7 - k15 - k22) (n - n8 - n16 - n23)) ∧ (r11 = r18 → h_X3_block_5 c a0 a1 a2 (a3 ||| ((1 : Int32) <<< (a4 &&& 31))) (a4 + 1) h19 (k - k7 - k15 - k22) (n - n8 - n16 - n23))))))))))) : h_X3_block_5 c a0 a1 a2 a3 a4 h k n := by
  refine e_iload dX3_block_5 rfl ?_
  refine e_aload_n dX3_block_7 rfl ?_
  obtain ⟨x1, ⟨fsx1, g2, g2v⟩, H⟩ := H
  refine e_get dX3_block_8 fX3_5 q1192 g2 g2v ?_
  obtain ⟨fsg5, g5o, H⟩ := H
  obtain ⟨d6, k7, n8, Q9, g5, g5d, g5k, g5n, H⟩ := H
  refine e_callF (i := 3) (r := (RJ2, TJ2, 3)) (As := []) g5 dX3_block_11 wJ2_size rfl rfl q871 q876 q874 g5o rfl rfl g5d rfl (Nat.le_of_ble_eq_true rfl) (k1 := k - k7) (n1 := n - n8) (by omega) (by omega) ?_ ?_
  · rintro v h4 (⟨v9, e9, r3, e8, hq⟩ | ⟨ci9, q9, e9, -⟩)
    · cases e9
      subst e8
      replace H := H r3 h4 hq
      refine e_icmp_ge 52 dX3_block_16 (by decide) (fun g10 => ?_) (fun g10 => ?_)
      · replace H := H.1 g10
        refine e_iload_n dX3_block_52 rfl ?_
        exact e_ireturn .int dX3_block_53 rfl rfl H
      · replace H := H.2 g10
        refine e_iload_n dX3_block_19 rfl ?_
        refine e_aload_n dX3_block_20 rfl ?_
        refine e_iload dX3_block_21 rfl ?_
        refine e_iload_n dX3_block_23 rfl ?_
        obtain ⟨fsg13, g13o, H⟩ := H
        obtain ⟨d14, k15, n16, Q17, g13, g13d, g13k, g13n, H⟩ := H
        refine e_callV (r := (RX3, TX3, 8)) (As := [.int a4, .int a2]) g13 dX3_block_24 wX3_residue q2064 q2052 q2053 g13o rfl rfl g13d rfl (Nat.le_of_ble_eq_true rfl) (k1 := k - k7 - k15) (n1 := n - n8 - n16) (by omega) (by omega) ?_ ?_
        · rintro v h12 (⟨v9, e9, r11, e8, hq⟩ | ⟨ci9, q9, e9, -⟩)
          · cases e9
            subst e8
            replace H := H r11 h12 hq
            refine e_aload_n dX3_block_27 rfl ?_
            refine e_iload_n dX3_block_28 rfl ?_
            refine e_iload_n dX3_block_29 rfl ?_
            obtain ⟨fsg20, g20o, H⟩ := H
            obtain ⟨d21, k22, n23, Q24, g20, g20d, g20k, g20n, H⟩ := H
            refine e_callV (r := (RX3, TX3, 8)) (As := [.int a1, .int a2]) g20 dX3_block_30 wX3_residue q2064 q2052 q2053 g20o rfl rfl g20d rfl (Nat.le_of_ble_eq_true rfl) (k1 := k - k7 - k15 - k22) (n1 := n - n8 - n16 - n23) (by omega) (by omega) ?_ ?_
            · rintro v h19 (⟨v9, e9, r18, e8, hq⟩ | ⟨ci9, q9, e9, -⟩)
              · cases e9
                subst e8
                replace H := H r18 h19 hq
                refine e_icmp_ne 43 dX3_block_33 (by decide) (fun g25 => ?_) (fun g25 => ?_)
                · replace H := H.1 g25
                  refine e_iconst (0) dX3_block_43 (by decide) ?_
                  refine e_ior dX3_block_44 ?_
                  refine e_istore_n _ dX3_block_45 (by decide) rfl rfl ?_
                  refine e_iinc (a4 + 1) _ dX3_block_46 rfl rfl (by decide) rfl rfl ?_
                  refine e_goto 5 dX3_block_49 (by decide) ?_
                  exact E.less2 H (eS_s (eS_s (eS_s (eS_s (eS_s eS_0)))))
                · replace H := H.2 g25
                  refine e_iconst (1) dX3_block_36 (by decide) ?_
                  refine e_iload dX3_block_37 rfl ?_
                  refine e_ishl dX3_block_39 ?_
                  refine e_goto 44 dX3_block_40 (by decide) ?_
                  refine e_ior dX3_block_44 ?_
                  refine e_istore_n _ dX3_block_45 (by decide) rfl rfl ?_
                  refine e_iinc (a4 + 1) _ dX3_block_46 rfl rfl (by decide) rfl rfl ?_
                  refine e_goto 5 dX3_block_49 (by decide) ?_
                  exact E.less2 H (eS_s (eS_s (eS_s (eS_s (eS_s eS_0)))))
              · cases e9
            · rintro q9 h9 (⟨v9, e9, -⟩ | ⟨ci9, q8, e9, -, -, hx⟩)
              · cases e9
              · exact hx.elim
          · cases e9
        · rintro q9 h9 (⟨v9, e9, -⟩ | ⟨ci9, q8, e9, -, -, hx⟩)
          · cases e9
          · exact hx.elim
    · cases e9
  · rintro q9 h9 (⟨v9, e9, -⟩ | ⟨ci9, q8, e9, -, -, hx⟩)
    · cases e9
    · exact hx.elim
theorem en_X3_block {l : Launch} {lo : Nat} {G : eG} {d : Nat} {P : eO → eH → Prop} (a0 : Nat) (a1 : Int32) (a2 : Int32) {h : eH} {k n : Nat} (H : h_X3_block_0 (l, lo, G, d, P) a0 a1 a2 h k n) : Ct l lo G d mX3_block [.ref a0, .int a1, .int a2] h k n P := 
  Ct_of (eArL mX3_block.2.2.2.1 [.ref a0, .int a1, .int a2]) (by decide) rfl (Nat.le_of_ble_eq_true rfl) (fun j w q => eArL_mem j w q) (E.less2 H (eS_s (eS_s (eS_s (eS_n (eS_n eS_0))))))
/-! X3_keeper TroupeSums$Group.keeper(I)I -/
def h_X3_keeper_0 (c : cC) (a0 : Nat) (a1 : Int32) (h : eH) (k n : Nat) : Prop := E c.1 c.2.1 c.2.2.1 c.2.2.2.1 mX3_keeper c.2.2.2.2 0 [some (.ref a0), some (.int a1), none, none] [] h k n
def h_X3_keeper_4 (c : cC) (a0 : Nat) (a1 : Int32) (a2 : Int32) (a3 : Int32) (h : eH) (k n : Nat) : Prop := E c.1 c.2.1 c.2.2.1 c.2.2.2.1 mX3_keeper c.2.2.2.2 4 [some (.ref a0), some (.int a1), some (.int a2), some (.int a3)] [] h k n
set_option maxHeartbeats 4000000 in
theorem s_X3_keeper_0 (c : cC) (a0 : Nat) (a1 : Int32) (h : eH) (k n : Nat) (H : h_X3_keeper_4 c a0 a1 (0 : Int32) (0 : Int32) h k n) : h_X3_keeper_0 c a0 a1 h k n := by
  refine e_iconst (0) dX3_keeper_0 (by decide) ?_
  refine e_istore_n _ dX3_keeper_1 (by decide) rfl rfl ?_
  refine e_iconst (0) dX3_keeper_2 (by decide) ?_
  refine e_istore_n _ dX3_keeper_3 (by decide) rfl rfl ?_
  exact E.less2 H (eS_s (eS_s (eS_s (eS_s eS_0))))
set_option maxHeartbeats 4000000 in
theorem s_X3_keeper_4 (c : cC) (a0 : Nat) (a1 : Int32) (a2 : Int32) (a3 : Int32) (h : eH) (k n : Nat) (H : ∃ fs8 : List Value, h.1 a0 = some (.inr (3, fs8)) ∧ ∃ (d4 k5 n6 : Nat) (Q7 : Int32 → eH → Prop), cI c.1 c.2.1 c.2.2.1 d4 mX3_size [.ref a0] h k5 n6 Q7 cX0 ∧ d4 + 1 ≤ c.2.2.2.1 ∧ k5 ≤ k ∧ n6 ≤ n ∧ (∀ (r1 : Int32) (h2 : eH), Q7 r1 h2 → ((r1 ≤ a3 → c.2.2.2.2 (.inl (some (.int a2))) h2) ∧ (¬ r1 ≤ a3 → ∃ x9 : Nat, fV h2 a0 3 1 (.ref x9) ∧ (∃ fs8 : List Value, h2.1 x9 = some (.inr (15, fs8)) ∧ ∃ (d14 k15 n16 : Nat) (Q17 : Nat → eH → Prop), cR c.1 c.2.1 c.2.2.1 d14 mJ2_get [.ref x9, .int a3] h2 k15 n16 Q17 cX0 ∧ d14 + 1 ≤ c.2.2.2.1 ∧ k15 ≤ k - k5 ∧ n16 ≤ n - n6 ∧ (∀ (r11 : Nat) (h12 : eH), Q17 r11 h12 → (eCs c.2.2.1 h12 r11 "TroupeSums$Row" ∧ (∃ x19 : Nat, fV h12 r11 2 0 (.ref x19) ∧ (∃ (N21 : Nat) (f22 : Nat → Int32), h12.1 x19 = some (.inl (c.2.2.1.2.1 0, N21, .inl f22)) ∧ vp_in a1 N21 ∧ ((¬ (f22 a1.toNatClampNeg) = a1 → h_X3_keeper_4 c a0 a1 (a2 ||| (0 : Int32)) (a3 + 1) h12 (k - k5 - k15) (n - n6 - n16)) ∧ ((f22 a1.toNatClampNeg) = a1 → h_X3_keeper_4 c a0 a1 (a2 ||| ((1 : Int32) <<< (a3 &&& 31))) (a3 + 1) h12 (k - k5 - k15) (n - n6 - n16)))))))))))) : h_X3_keeper_4 c a0 a1 a2 a3 h k n := by
  refine e_iload_n dX3_keeper_4 rfl ?_
  refine e_aload_n dX3_keeper_5 rfl ?_
  obtain ⟨fsg3, g3o, H⟩ := H
  obtain ⟨d4, k5, n6, Q7, g3, g3d, g3k, g3n, H⟩ := H
  refine e_callV (r := (RX3, TX3, 8)) (As := []) g3 dX3_keeper_6 wX3_size q928 q929 q930 g3o rfl rfl g3d rfl (Nat.le_of_ble_eq_true rfl) (k1 := k - k5) (n1 := n - n6) (by omega) (by omega) ?_ ?_
  · rintro v h2 (⟨v9, e9, r1, e8, hq⟩ | ⟨ci9, q9, e9, -⟩)
    · cases e9
      subst e8
      replace H := H r1 h2 hq
      refine e_icmp_ge 50 dX3_keeper_9 (by decide) (fun g8 => ?_) (fun g8 => ?_)
      · replace H := H.1 g8
        refine e_iload_n dX3_keeper_50 rfl ?_
        exact e_ireturn .int dX3_keeper_51 rfl rfl H
      · replace H := H.2 g8
        refine e_iload_n dX3_keeper_12 rfl ?_
        refine e_aload_n dX3_keeper_13 rfl ?_
        obtain ⟨x9, ⟨fsx9, g10, g10v⟩, H⟩ := H
        refine e_get dX3_keeper_14 fX3_1 q1184 g10 g10v ?_
        refine e_iload_n dX3_keeper_17 rfl ?_
        obtain ⟨fsg13, g13o, H⟩ := H
        obtain ⟨d14, k15, n16, Q17, g13, g13d, g13k, g13n, H⟩ := H
        refine e_callF (i := 4) (r := (RJ2, TJ2, 3)) (As := [.int a3]) g13 dX3_keeper_18 wJ2_get rfl rfl q882 q887 q885 g13o rfl rfl g13d rfl (Nat.le_of_ble_eq_true rfl) (k1 := k - k5 - k15) (n1 := n - n6 - n16) (by omega) (by omega) ?_ ?_
        · rintro v h12 (⟨v9, e9, r11, e8, hq⟩ | ⟨ci9, q9, e9, -⟩)
          · cases e9
            subst e8
            replace H := H r11 h12 hq
            obtain ⟨g18, H⟩ := H
            refine c_castR dX3_keeper_23 q789 g18 ?_
            obtain ⟨x19, ⟨fsx19, g20, g20v⟩, H⟩ := H
            refine e_getN dX3_keeper_26 fX2_0 q299 g20 g20v ?_
            refine e_iload_n dX3_keeper_29 rfl ?_
            obtain ⟨N21, f22, g23, g23i, H⟩ := H
            refine e_iaload dX3_keeper_30 g23 g23i ?_
            refine e_iload_n dX3_keeper_31 rfl ?_
            refine e_icmp_ne 41 dX3_keeper_32 (by decide) (fun g24 => ?_) (fun g24 => ?_)
            · replace H := H.1 g24
              refine e_iconst (0) dX3_keeper_41 (by decide) ?_
              refine e_ior dX3_keeper_42 ?_
              refine e_istore_n _ dX3_keeper_43 (by decide) rfl rfl ?_
              refine e_iinc (a3 + 1) _ dX3_keeper_44 rfl rfl (by decide) rfl rfl ?_
              refine e_goto 4 dX3_keeper_47 (by decide) ?_
              exact E.less2 H (eS_s (eS_s (eS_s (eS_s eS_0))))
            · replace H := H.2 g24
              refine e_iconst (1) dX3_keeper_35 (by decide) ?_
              refine e_iload_n dX3_keeper_36 rfl ?_
              refine e_ishl dX3_keeper_37 ?_
              refine e_goto 42 dX3_keeper_38 (by decide) ?_
              refine e_ior dX3_keeper_42 ?_
              refine e_istore_n _ dX3_keeper_43 (by decide) rfl rfl ?_
              refine e_iinc (a3 + 1) _ dX3_keeper_44 rfl rfl (by decide) rfl rfl ?_
              refine e_goto 4 dX3_keeper_47 (by decide) ?_
              exact E.less2 H (eS_s (eS_s (eS_s (eS_s eS_0))))
          · cases e9
        · rintro q9 h9 (⟨v9, e9, -⟩ | ⟨ci9, q8, e9, -, -, hx⟩)
          · cases e9
          · exact hx.elim
    · cases e9
  · rintro q9 h9 (⟨v9, e9, -⟩ | ⟨ci9, q8, e9, -, -, hx⟩)
    · cases e9
    · exact hx.elim
theorem en_X3_keeper {l : Launch} {lo : Nat} {G : eG} {d : Nat} {P : eO → eH → Prop} (a0 : Nat) (a1 : Int32) {h : eH} {k n : Nat} (H : h_X3_keeper_0 (l, lo, G, d, P) a0 a1 h k n) : Ct l lo G d mX3_keeper [.ref a0, .int a1] h k n P := 
  Ct_of (eArL mX3_keeper.2.2.2.1 [.ref a0, .int a1]) (by decide) rfl (Nat.le_of_ble_eq_true rfl) (fun j w q => eArL_mem j w q) (E.less2 H (eS_s (eS_s (eS_n (eS_n eS_0)))))
/-! X3_orbit TroupeSums$Group.orbit(I)I -/
def h_X3_orbit_0 (c : cC) (a0 : Nat) (a1 : Int32) (h : eH) (k n : Nat) : Prop := E c.1 c.2.1 c.2.2.1 c.2.2.2.1 mX3_orbit c.2.2.2.2 0 [some (.ref a0), some (.int a1), none, none, none] [] h k n
def h_X3_orbit_12 (c : cC) (a1 : Int32) (a2 : Int32) (a3 : Nat) (h : eH) (k n : Nat) : Prop := E c.1 c.2.1 c.2.2.1 c.2.2.2.1 mX3_orbit c.2.2.2.2 12 [none, some (.int a1), some (.int a2), some (.ref a3), none] [] h k n
set_option maxHeartbeats 4000000 in
theorem s_X3_orbit_0 (c : cC) (a0 : Nat) (a1 : Int32) (h : eH) (k n : Nat) (H : ∃ x1 : Nat, fV h a0 3 1 (.ref x1) ∧ (∃ fs8 : List Value, h.1 x1 = some (.inr (15, fs8)) ∧ ∃ (d6 k7 n8 : Nat) (Q9 : Nat → eH → Prop), cR c.1 c.2.1 c.2.2.1 d6 mJ2_iterator [.ref x1] h k7 n8 Q9 cX0 ∧ d6 + 1 ≤ c.2.2.2.1 ∧ k7 ≤ k ∧ n8 ≤ n ∧ (∀ (r3 : Nat) (h4 : eH), Q9 r3 h4 → (h_X3_orbit_12 c a1 (0 : Int32) r3 h4 (k - k7) (n - n8))))) : h_X3_orbit_0 c a0 a1 h k n := by
  refine e_iconst (0) dX3_orbit_0 (by decide) ?_
  refine e_istore_n _ dX3_orbit_1 (by decide) rfl rfl ?_
  refine e_aload_n dX3_orbit_2 rfl ?_
  obtain ⟨x1, ⟨fsx1, g2, g2v⟩, H⟩ := H
  refine e_get dX3_orbit_3 fX3_1 q1184 g2 g2v ?_
  obtain ⟨fsg5, g5o, H⟩ := H
  obtain ⟨d6, k7, n8, Q9, g5, g5d, g5k, g5n, H⟩ := H
  refine e_callF (i := 7) (r := (RJ2, TJ2, 3)) (As := []) g5 dX3_orbit_6 wJ2_iterator rfl rfl q1028 q1033 q1031 g5o rfl rfl g5d rfl (Nat.le_of_ble_eq_true rfl) (k1 := k - k7) (n1 := n - n8) (by omega) (by omega) ?_ ?_
  · rintro v h4 (⟨v9, e9, r3, e8, hq⟩ | ⟨ci9, q9, e9, -⟩)
    · cases e9
      subst e8
      replace H := H r3 h4 hq
      refine e_astore_n _ dX3_orbit_11 (by decide) rfl rfl ?_
      exact E.less2 H (eS_n (eS_s (eS_s (eS_s (eS_n eS_0)))))
    · cases e9
  · rintro q9 h9 (⟨v9, e9, -⟩ | ⟨ci9, q8, e9, -, -, hx⟩)
    · cases e9
    · exact hx.elim
set_option maxHeartbeats 4000000 in
theorem s_X3_orbit_12 (c : cC) (a1 : Int32) (a2 : Int32) (a3 : Nat) (h : eH) (k n : Nat) (H : ∃ fs8 : List Value, h.1 a3 = some (.inr (23, fs8)) ∧ ∃ (d4 k5 n6 : Nat) (Q7 : Int32 → eH → Prop), cI c.1 c.2.1 c.2.2.1 d4 mJ24_hasNext [.ref a3] h k5 n6 Q7 cX0 ∧ d4 + 1 ≤ c.2.2.2.1 ∧ k5 ≤ k ∧ n6 ≤ n ∧ (∀ (r1 : Int32) (h2 : eH), Q7 r1 h2 → ((r1 = 0 → c.2.2.2.2 (.inl (some (.int a2))) h2) ∧ (¬ r1 = 0 → ∃ fs8 : List Value, h2.1 a3 = some (.inr (23, fs8)) ∧ ∃ (d12 k13 n14 : Nat) (Q15 : Nat → eH → Prop), cR c.1 c.2.1 c.2.2.1 d12 mJ24_next [.ref a3] h2 k13 n14 Q15 cX0 ∧ d12 + 1 ≤ c.2.2.2.1 ∧ k13 ≤ k - k5 ∧ n14 ≤ n - n6 ∧ (∀ (r9 : Nat) (h10 : eH), Q15 r9 h10 → (eCs c.2.2.1 h10 r9 "TroupeSums$Row" ∧ (∃ x17 : Nat, fV h10 r9 2 0 (.ref x17) ∧ (∃ (N19 : Nat) (f20 : Nat → Int32), h10.1 x17 = some (.inl (c.2.2.1.2.1 0, N19, .inl f20)) ∧ vp_in a1 N19 ∧ (h_X3_orbit_12 c a1 (a2 ||| ((1 : Int32) <<< ((f20 a1.toNatClampNeg) &&& 31))) a3 h10 (k - k5 - k13) (n - n6 - n14)))))))))) : h_X3_orbit_12 c a1 a2 a3 h k n := by
  refine e_aload_n dX3_orbit_12 rfl ?_
  obtain ⟨fsg3, g3o, H⟩ := H
  obtain ⟨d4, k5, n6, Q7, g3, g3d, g3k, g3n, H⟩ := H
  refine e_callF (i := 12) (r := (RJ24, TJ24, 4)) (As := []) g3 dX3_orbit_13 wJ24_hasNext rfl rfl q747 q753 q751 g3o rfl rfl g3d rfl (Nat.le_of_ble_eq_true rfl) (k1 := k - k5) (n1 := n - n6) (by omega) (by omega) ?_ ?_
  · rintro v h2 (⟨v9, e9, r1, e8, hq⟩ | ⟨ci9, q9, e9, -⟩)
    · cases e9
      subst e8
      replace H := H r1 h2 hq
      refine e_if_eq 47 dX3_orbit_18 (by decide) (fun g8 => ?_) (fun g8 => ?_)
      · replace H := H.1 g8
        refine e_iload_n dX3_orbit_47 rfl ?_
        exact e_ireturn .int dX3_orbit_48 rfl rfl H
      · replace H := H.2 g8
        refine e_aload_n dX3_orbit_21 rfl ?_
        obtain ⟨fsg11, g11o, H⟩ := H
        obtain ⟨d12, k13, n14, Q15, g11, g11d, g11k, g11n, H⟩ := H
        refine e_callF (i := 13) (r := (RJ24, TJ24, 4)) (As := []) g11 dX3_orbit_22 wJ24_next rfl rfl q763 q768 q766 g11o rfl rfl g11d rfl (Nat.le_of_ble_eq_true rfl) (k1 := k - k5 - k13) (n1 := n - n6 - n14) (by omega) (by omega) ?_ ?_
        · rintro v h10 (⟨v9, e9, r9, e8, hq⟩ | ⟨ci9, q9, e9, -⟩)
          · cases e9
            subst e8
            replace H := H r9 h10 hq
            obtain ⟨g16, H⟩ := H
            refine c_castR dX3_orbit_27 q789 g16 ?_
            refine e_astore _ dX3_orbit_30 (by decide) rfl rfl ?_
            refine e_iload_n dX3_orbit_32 rfl ?_
            refine e_iconst (1) dX3_orbit_33 (by decide) ?_
            refine e_aload dX3_orbit_34 rfl ?_
            obtain ⟨x17, ⟨fsx17, g18, g18v⟩, H⟩ := H
            refine e_getN dX3_orbit_36 fX2_0 q299 g18 g18v ?_
            refine e_iload_n dX3_orbit_39 rfl ?_
            obtain ⟨N19, f20, g21, g21i, H⟩ := H
            refine e_iaload dX3_orbit_40 g21 g21i ?_
            refine e_ishl dX3_orbit_41 ?_
            refine e_ior dX3_orbit_42 ?_
            refine e_istore_n _ dX3_orbit_43 (by decide) rfl rfl ?_
            refine e_goto 12 dX3_orbit_44 (by decide) ?_
            exact E.less2 H (eS_n (eS_s (eS_s (eS_s (eS_n eS_0)))))
          · cases e9
        · rintro q9 h9 (⟨v9, e9, -⟩ | ⟨ci9, q8, e9, -, -, hx⟩)
          · cases e9
          · exact hx.elim
    · cases e9
  · rintro q9 h9 (⟨v9, e9, -⟩ | ⟨ci9, q8, e9, -, -, hx⟩)
    · cases e9
    · exact hx.elim
theorem en_X3_orbit {l : Launch} {lo : Nat} {G : eG} {d : Nat} {P : eO → eH → Prop} (a0 : Nat) (a1 : Int32) {h : eH} {k n : Nat} (H : h_X3_orbit_0 (l, lo, G, d, P) a0 a1 h k n) : Ct l lo G d mX3_orbit [.ref a0, .int a1] h k n P := 
  Ct_of (eArL mX3_orbit.2.2.2.1 [.ref a0, .int a1]) (by decide) rfl (Nat.le_of_ble_eq_true rfl) (fun j w q => eArL_mem j w q) (E.less2 H (eS_s (eS_s (eS_n (eS_n (eS_n eS_0))))))
/-! X3_coset TroupeSums$Group.coset(II)I -/
def h_X3_coset_0 (c : cC) (a0 : Nat) (a1 : Int32) (a2 : Int32) (h : eH) (k n : Nat) : Prop := E c.1 c.2.1 c.2.2.1 c.2.2.2.1 mX3_coset c.2.2.2.2 0 [some (.ref a0), some (.int a1), some (.int a2), none, none] [] h k n
def h_X3_coset_5 (c : cC) (a0 : Nat) (a1 : Int32) (a2 : Int32) (a3 : Int32) (a4 : Int32) (h : eH) (k n : Nat) : Prop := E c.1 c.2.1 c.2.2.1 c.2.2.2.1 mX3_coset c.2.2.2.2 5 [some (.ref a0), some (.int a1), some (.int a2), some (.int a3), some (.int a4)] [] h k n
def h_X3_coset_53 (c : cC) (a0 : Nat) (a1 : Int32) (a2 : Int32) (a3 : Int32) (a4 : Int32) (h : eH) (k n : Nat) : Prop := E c.1 c.2.1 c.2.2.1 c.2.2.2.1 mX3_coset c.2.2.2.2 53 [some (.ref a0), some (.int a1), some (.int a2), some (.int a3), some (.int a4)] [] h k n
set_option maxHeartbeats 4000000 in
theorem s_X3_coset_0 (c : cC) (a0 : Nat) (a1 : Int32) (a2 : Int32) (h : eH) (k n : Nat) (H : h_X3_coset_5 c a0 a1 a2 a2 (0 : Int32) h k n) : h_X3_coset_0 c a0 a1 a2 h k n := by
  refine e_iload_n dX3_coset_0 rfl ?_
  refine e_istore_n _ dX3_coset_1 (by decide) rfl rfl ?_
  refine e_iconst (0) dX3_coset_2 (by decide) ?_
  refine e_istore _ dX3_coset_3 (by decide) rfl rfl ?_
  exact E.less2 H (eS_s (eS_s (eS_s (eS_s (eS_s eS_0)))))
set_option maxHeartbeats 4000000 in
theorem s_X3_coset_5 (c : cC) (a0 : Nat) (a1 : Int32) (a2 : Int32) (a3 : Int32) (a4 : Int32) (h : eH) (k n : Nat) (H : ∃ fs8 : List Value, h.1 a0 = some (.inr (3, fs8)) ∧ ∃ (d4 k5 n6 : Nat) (Q7 : Int32 → eH → Prop), cI c.1 c.2.1 c.2.2.1 d4 mX3_size [.ref a0] h k5 n6 Q7 cX0 ∧ d4 + 1 ≤ c.2.2.2.1 ∧ k5 ≤ k ∧ n6 ≤ n ∧ (∀ (r1 : Int32) (h2 : eH), Q7 r1 h2 → ((r1 ≤ a4 → c.2.2.2.2 (.inl (some (.int a3))) h2) ∧ (¬ r1 ≤ a4 → ∃ x9 : Nat, fV h2 a0 3 5 (.ref x9) ∧ (∃ fs8 : List Value, h2.1 x9 = some (.inr (15, fs8)) ∧ ∃ (d14 k15 n16 : Nat) (Q17 : Nat → eH → Prop), cR c.1 c.2.1 c.2.2.1 d14 mJ2_get [.ref x9, .int a1] h2 k15 n16 Q17 cX0 ∧ d14 + 1 ≤ c.2.2.2.1 ∧ k15 ≤ k - k5 ∧ n16 ≤ n - n6 ∧ (∀ (r11 : Nat) (h12 : eH), Q17 r11 h12 → (eCs c.2.2.1 h12 r11 "TroupeSums$Sort" ∧ (∃ x19 : Int32, fV h12 r11 5 1 (.int x19) ∧ (∃ (d24 k25 n26 : Nat) (Q27 : Int32 → eH → Prop), cI c.1 c.2.1 c.2.2.1 d24 mX0_isOf [.long x19.toInt64, .int a4] h12 k25 n26 Q27 cX0 ∧ d24 + 1 ≤ c.2.2.2.1 ∧ k25 ≤ k - k5 - k15 ∧ n26 ≤ n - n6 - n16 ∧ (∀ (r21 : Int32) (h22 : eH), Q27 r21 h22 → ((r21 = 0 → h_X3_coset_53 c a0 a1 a2 a3 a4 h22 (k - k5 - k15 - k25) (n - n6 - n16 - n26)) ∧ (¬ r21 = 0 → ∃ x29 : Nat, fV h22 a0 3 2 (.ref x29) ∧ (∃ (N31 : Nat) (f32 : Nat → Option Nat), h22.1 x29 = some (.inl (c.2.2.1.2.1 4, N31, .inr (.inr (.inr (.inr f32))))) ∧ vp_in a4 N31 ∧ ∃ r34 : Nat, f32 a4.toNatClampNeg = some r34 ∧ (∃ (N35 : Nat) (f36 : Nat → Int32), h22.1 r34 = some (.inl (c.2.2.1.2.1 0, N35, .inl f36)) ∧ vp_in a2 N35 ∧ (1 ≤ c.2.2.2.1 ∧ (h_X3_coset_53 c a0 a1 a2 (if (f36 a2.toNatClampNeg) < a3 then (f36 a2.toNatClampNeg) else a3) a4 h22 (k - k5 - k15 - k25) (n - n6 - n16 - n26))))))))))))))))) : h_X3_coset_5 c a0 a1 a2 a3 a4 h k n := by
  refine e_iload dX3_coset_5 rfl ?_
  refine e_aload_n dX3_coset_7 rfl ?_
  obtain ⟨fsg3, g3o, H⟩ := H
  obtain ⟨d4, k5, n6, Q7, g3, g3d, g3k, g3n, H⟩ := H
  refine e_callV (r := (RX3, TX3, 8)) (As := []) g3 dX3_coset_8 wX3_size q928 q929 q930 g3o rfl rfl g3d rfl (Nat.le_of_ble_eq_true rfl) (k1 := k - k5) (n1 := n - n6) (by omega) (by omega) ?_ ?_
  · rintro v h2 (⟨v9, e9, r1, e8, hq⟩ | ⟨ci9, q9, e9, -⟩)
    · cases e9
      subst e8
      replace H := H r1 h2 hq
      refine e_icmp_ge 59 dX3_coset_11 (by decide) (fun g8 => ?_) (fun g8 => ?_)
      · replace H := H.1 g8
        refine e_iload_n dX3_coset_59 rfl ?_
        exact e_ireturn .int dX3_coset_60 rfl rfl H
      · replace H := H.2 g8
        refine e_aload_n dX3_coset_14 rfl ?_
        obtain ⟨x9, ⟨fsx9, g10, g10v⟩, H⟩ := H
        refine e_get dX3_coset_15 fX3_5 q1192 g10 g10v ?_
        refine e_iload_n dX3_coset_18 rfl ?_
        obtain ⟨fsg13, g13o, H⟩ := H
        obtain ⟨d14, k15, n16, Q17, g13, g13d, g13k, g13n, H⟩ := H
        refine e_callF (i := 4) (r := (RJ2, TJ2, 3)) (As := [.int a1]) g13 dX3_coset_19 wJ2_get rfl rfl q882 q887 q885 g13o rfl rfl g13d rfl (Nat.le_of_ble_eq_true rfl) (k1 := k - k5 - k15) (n1 := n - n6 - n16) (by omega) (by omega) ?_ ?_
        · rintro v h12 (⟨v9, e9, r11, e8, hq⟩ | ⟨ci9, q9, e9, -⟩)
          · cases e9
            subst e8
            replace H := H r11 h12 hq
            obtain ⟨g18, H⟩ := H
            refine c_castR dX3_coset_24 q1064 g18 ?_
            obtain ⟨x19, ⟨fsx19, g20, g20v⟩, H⟩ := H
            refine e_getN dX3_coset_27 fX5_1 q1081 g20 g20v ?_
            refine e_i2l dX3_coset_30 ?_
            refine e_iload dX3_coset_31 rfl ?_
            obtain ⟨d24, k25, n26, Q27, g23, g23d, g23k, g23n, H⟩ := H
            refine e_callSN (As := [.long x19.toInt64, .int a4]) g23 dX3_coset_33 wX0_isOf rfl q936 q937 rfl g23d rfl (Nat.le_of_ble_eq_true rfl) (k1 := k - k5 - k15 - k25) (n1 := n - n6 - n16 - n26) (by omega) (by omega) ?_ ?_
            · rintro v h22 (⟨v9, e9, r21, e8, hq⟩ | ⟨ci9, q9, e9, -⟩)
              · cases e9
                subst e8
                replace H := H r21 h22 hq
                refine e_if_eq 53 dX3_coset_36 (by decide) (fun g28 => ?_) (fun g28 => ?_)
                · replace H := H.1 g28
                  exact E.less2 H (eS_s (eS_s (eS_s (eS_s (eS_s eS_0)))))
                · replace H := H.2 g28
                  refine e_iload_n dX3_coset_39 rfl ?_
                  refine e_aload_n dX3_coset_40 rfl ?_
                  obtain ⟨x29, ⟨fsx29, g30, g30v⟩, H⟩ := H
                  refine e_get dX3_coset_41 fX3_2 q1186 g30 g30v ?_
                  refine e_iload dX3_coset_44 rfl ?_
                  obtain ⟨N31, f32, g33, g33i, r34, g33r, H⟩ := H
                  refine e_aaload 4 dX3_coset_46 (fun _ => rfl) rfl g33 g33i ?_
                  rw [g33r]
                  refine e_iload_n dX3_coset_47 rfl ?_
                  obtain ⟨N35, f36, g37, g37i, H⟩ := H
                  refine e_iaload dX3_coset_48 g37 g37i ?_
                  obtain ⟨g38, H⟩ := H
                  refine e_mmin dX3_coset_49 q1063 g38 (Nat.le_of_ble_eq_true rfl) ?_
                  refine e_istore_n _ dX3_coset_52 (by decide) rfl rfl ?_
                  exact E.less2 H (eS_s (eS_s (eS_s (eS_s (eS_s eS_0)))))
              · cases e9
            · rintro q9 h9 (⟨v9, e9, -⟩ | ⟨ci9, q8, e9, -, -, hx⟩)
              · cases e9
              · exact hx.elim
          · cases e9
        · rintro q9 h9 (⟨v9, e9, -⟩ | ⟨ci9, q8, e9, -, -, hx⟩)
          · cases e9
          · exact hx.elim
    · cases e9
  · rintro q9 h9 (⟨v9, e9, -⟩ | ⟨ci9, q8, e9, -, -, hx⟩)
    · cases e9
    · exact hx.elim
set_option maxHeartbeats 4000000 in
theorem s_X3_coset_53 (c : cC) (a0 : Nat) (a1 : Int32) (a2 : Int32) (a3 : Int32) (a4 : Int32) (h : eH) (k n : Nat) (H : h_X3_coset_5 c a0 a1 a2 a3 (a4 + 1) h k n) : h_X3_coset_53 c a0 a1 a2 a3 a4 h k n := by
  refine e_iinc (a4 + 1) _ dX3_coset_53 rfl rfl (by decide) rfl rfl ?_
  refine e_goto 5 dX3_coset_56 (by decide) ?_
  exact E.less2 H (eS_s (eS_s (eS_s (eS_s (eS_s eS_0)))))
theorem en_X3_coset {l : Launch} {lo : Nat} {G : eG} {d : Nat} {P : eO → eH → Prop} (a0 : Nat) (a1 : Int32) (a2 : Int32) {h : eH} {k n : Nat} (H : h_X3_coset_0 (l, lo, G, d, P) a0 a1 a2 h k n) : Ct l lo G d mX3_coset [.ref a0, .int a1, .int a2] h k n P := 
  Ct_of (eArL mX3_coset.2.2.2.1 [.ref a0, .int a1, .int a2]) (by decide) rfl (Nat.le_of_ble_eq_true rfl) (fun j w q => eArL_mem j w q) (E.less2 H (eS_s (eS_s (eS_s (eS_n (eS_n eS_0))))))
/-! X3_moebius TroupeSums$Group.moebius(I)I -/
def h_X3_moebius_0 (c : cC) (a0 : Nat) (a1 : Int32) (h : eH) (k n : Nat) : Prop := E c.1 c.2.1 c.2.2.1 c.2.2.2.1 mX3_moebius c.2.2.2.2 0 [some (.ref a0), some (.int a1), none, none, none, none] [] h k n
def h_X3_moebius_17 (c : cC) (a0 : Nat) (a1 : Int32) (a2 : Nat) (a3 : Int32) (h : eH) (k n : Nat) : Prop := E c.1 c.2.1 c.2.2.1 c.2.2.2.1 mX3_moebius c.2.2.2.2 17 [some (.ref a0), some (.int a1), some (.ref a2), some (.int a3), none, none] [] h k n
def h_X3_moebius_41 (c : cC) (a0 : Nat) (a1 : Int32) (a2 : Nat) (a3 : Int32) (a4 : Int32) (h : eH) (k n : Nat) : Prop := E c.1 c.2.1 c.2.2.1 c.2.2.2.1 mX3_moebius c.2.2.2.2 41 [some (.ref a0), some (.int a1), some (.ref a2), some (.int a3), some (.int a4), none] [] h k n
def h_X3_moebius_105 (c : cC) (a0 : Nat) (a1 : Int32) (a2 : Nat) (a3 : Int32) (a4 : Int32) (h : eH) (k n : Nat) : Prop := E c.1 c.2.1 c.2.2.1 c.2.2.2.1 mX3_moebius c.2.2.2.2 105 [some (.ref a0), some (.int a1), some (.ref a2), some (.int a3), some (.int a4), none] [] h k n
set_option maxHeartbeats 4000000 in
theorem s_X3_moebius_0 (c : cC) (a0 : Nat) (a1 : Int32) (h : eH) (k n : Nat) (H : ∃ x1 : Nat, fV h a0 3 5 (.ref x1) ∧ (∃ fs8 : List Value, h.1 x1 = some (.inr (15, fs8)) ∧ ∃ (d6 k7 n8 : Nat) (Q9 : Int32 → eH → Prop), cI c.1 c.2.1 c.2.2.1 d6 mJ2_size [.ref x1] h k7 n8 Q9 cX0 ∧ d6 + 1 ≤ c.2.2.2.1 ∧ k7 ≤ k ∧ n8 ≤ n ∧ (∀ (r3 : Int32) (h4 : eH), Q9 r3 h4 → (∃ N12 : Nat, r3 = nI N12 ∧ N12 ≤ 10000000 ∧ 1 ≤ k - k7 ∧ N12 ≤ n - n8 ∧ ∀ h10 : eH, h10 = eNw h4 (.inl (c.2.2.1.2.1 0, N12, .inl (fun _ => 0))) → (∃ v13 : vp_A, h10.1 h4.2 = some (.inl (c.2.2.1.2.1 0, v13)) ∧ (h_X3_moebius_17 c a0 a1 h4.2 ((nI v13.1) - (1 : Int32)) h10 (k - k7 - 1) (n - n8 - N12))))))) : h_X3_moebius_0 c a0 a1 h k n := by
  refine e_aload_n dX3_moebius_0 rfl ?_
  obtain ⟨x1, ⟨fsx1, g2, g2v⟩, H⟩ := H
  refine e_get dX3_moebius_1 fX3_5 q1192 g2 g2v ?_
  obtain ⟨fsg5, g5o, H⟩ := H
  obtain ⟨d6, k7, n8, Q9, g5, g5d, g5k, g5n, H⟩ := H
  refine e_callF (i := 3) (r := (RJ2, TJ2, 3)) (As := []) g5 dX3_moebius_4 wJ2_size rfl rfl q871 q876 q874 g5o rfl rfl g5d rfl (Nat.le_of_ble_eq_true rfl) (k1 := k - k7) (n1 := n - n8) (by omega) (by omega) ?_ ?_
  · rintro v h4 (⟨v9, e9, r3, e8, hq⟩ | ⟨ci9, q9, e9, -⟩)
    · cases e9
      subst e8
      replace H := H r3 h4 hq
      obtain ⟨N12, g11i, g11b, g11, g11n, H⟩ := H
      refine c_newarrayI dX3_moebius_9 q303 g11i g11b g11 g11n ?_
      replace H := H _ rfl
      generalize eNw h4 _ = h10 at H ⊢
      refine e_astore_n _ dX3_moebius_11 (by decide) rfl rfl ?_
      refine e_aload_n dX3_moebius_12 rfl ?_
      obtain ⟨v13, g14, H⟩ := H
      refine e_alen (t := 0) dX3_moebius_13 (fun _ => rfl) g14 ?_
      refine e_iconst (1) dX3_moebius_14 (by decide) ?_
      refine e_isub dX3_moebius_15 ?_
      refine e_istore_n _ dX3_moebius_16 (by decide) rfl rfl ?_
      exact E.less2 H (eS_s (eS_s (eS_s (eS_s (eS_n (eS_n eS_0))))))
    · cases e9
  · rintro q9 h9 (⟨v9, e9, -⟩ | ⟨ci9, q8, e9, -, -, hx⟩)
    · cases e9
    · exact hx.elim
set_option maxHeartbeats 4000000 in
theorem s_X3_moebius_17 (c : cC) (a0 : Nat) (a1 : Int32) (a2 : Nat) (a3 : Int32) (h : eH) (k n : Nat) (H : (a3 < a1 → ∃ (N2 : Nat) (f3 : Nat → Int32), h.1 a2 = some (.inl (c.2.2.1.2.1 0, N2, .inl f3)) ∧ vp_in a1 N2 ∧ (c.2.2.2.2 (.inl (some (.int (f3 a1.toNatClampNeg)))) h)) ∧ (¬ a3 < a1 → ∃ v5 : vp_A, h.1 a2 = some (.inl (c.2.2.1.2.1 0, v5)) ∧ ((¬ a3 = ((nI v5.1) - (1 : Int32)) → ∃ (N8 : Nat) (f9 : Nat → Int32), h.1 a2 = some (.inl (c.2.2.1.2.1 0, N8, .inl f9)) ∧ c.2.1 ≤ a2 ∧ vp_in a3 N8 ∧ ∀ h11 : eH, h11 = eUp h a2 (.inl (c.2.2.1.2.1 0, N8, .inl (va_up f9 a3.toNatClampNeg (0 : Int32)))) → (h_X3_moebius_41 c a0 a1 a2 a3 (0 : Int32) h11 k n)) ∧ (a3 = ((nI v5.1) - (1 : Int32)) → ∃ (N12 : Nat) (f13 : Nat → Int32), h.1 a2 = some (.inl (c.2.2.1.2.1 0, N12, .inl f13)) ∧ c.2.1 ≤ a2 ∧ vp_in a3 N12 ∧ ∀ h15 : eH, h15 = eUp h a2 (.inl (c.2.2.1.2.1 0, N12, .inl (va_up f13 a3.toNatClampNeg (1 : Int32)))) → (h_X3_moebius_41 c a0 a1 a2 a3 (0 : Int32) h15 k n))))) : h_X3_moebius_17 c a0 a1 a2 a3 h k n := by
  refine e_iload_n dX3_moebius_17 rfl ?_
  refine e_iload_n dX3_moebius_18 rfl ?_
  refine e_icmp_lt 144 dX3_moebius_19 (by decide) (fun g1 => ?_) (fun g1 => ?_)
  · replace H := H.1 g1
    refine e_aload_n dX3_moebius_144 rfl ?_
    refine e_iload_n dX3_moebius_145 rfl ?_
    obtain ⟨N2, f3, g4, g4i, H⟩ := H
    refine e_iaload dX3_moebius_146 g4 g4i ?_
    exact e_ireturn .int dX3_moebius_147 rfl rfl H
  · replace H := H.2 g1
    refine e_aload_n dX3_moebius_22 rfl ?_
    refine e_iload_n dX3_moebius_23 rfl ?_
    refine e_iload_n dX3_moebius_24 rfl ?_
    refine e_aload_n dX3_moebius_25 rfl ?_
    obtain ⟨v5, g6, H⟩ := H
    refine e_alen (t := 0) dX3_moebius_26 (fun _ => rfl) g6 ?_
    refine e_iconst (1) dX3_moebius_27 (by decide) ?_
    refine e_isub dX3_moebius_28 ?_
    refine e_icmp_ne 36 dX3_moebius_29 (by decide) (fun g7 => ?_) (fun g7 => ?_)
    · replace H := H.1 g7
      refine e_iconst (0) dX3_moebius_36 (by decide) ?_
      obtain ⟨N8, f9, g10, g10l, g10i, H⟩ := H
      refine e_iastore dX3_moebius_37 g10 g10l g10i ?_
      replace H := H _ rfl
      generalize eUp h a2 _ = h11 at H ⊢
      refine e_iconst (0) dX3_moebius_38 (by decide) ?_
      refine e_istore _ dX3_moebius_39 (by decide) rfl rfl ?_
      exact E.less2 H (eS_s (eS_s (eS_s (eS_s (eS_s (eS_n eS_0))))))
    · replace H := H.2 g7
      refine e_iconst (1) dX3_moebius_32 (by decide) ?_
      refine e_goto 37 dX3_moebius_33 (by decide) ?_
      obtain ⟨N12, f13, g14, g14l, g14i, H⟩ := H
      refine e_iastore dX3_moebius_37 g14 g14l g14i ?_
      replace H := H _ rfl
      generalize eUp h a2 _ = h15 at H ⊢
      refine e_iconst (0) dX3_moebius_38 (by decide) ?_
      refine e_istore _ dX3_moebius_39 (by decide) rfl rfl ?_
      exact E.less2 H (eS_s (eS_s (eS_s (eS_s (eS_s (eS_n eS_0))))))
set_option maxHeartbeats 4000000 in
theorem s_X3_moebius_41 (c : cC) (a0 : Nat) (a1 : Int32) (a2 : Nat) (a3 : Int32) (a4 : Int32) (h : eH) (k n : Nat) (H : ∃ x1 : Nat, fV h a0 3 6 (.ref x1) ∧ (∃ v3 : vp_A, h.1 x1 = some (.inl (c.2.2.1.2.1 0, v3)) ∧ (((nI v3.1) ≤ a4 → h_X3_moebius_17 c a0 a1 a2 (a3 + (-1)) h k n) ∧ (¬ (nI v3.1) ≤ a4 → ∃ x6 : Nat, fV h a0 3 6 (.ref x6) ∧ (∃ (N8 : Nat) (f9 : Nat → Int32), h.1 x6 = some (.inl (c.2.2.1.2.1 0, N8, .inl f9)) ∧ vp_in a4 N8 ∧ (((f9 a4.toNatClampNeg) ≤ a3 → h_X3_moebius_105 c a0 a1 a2 a3 a4 h k n) ∧ (¬ (f9 a4.toNatClampNeg) ≤ a3 → ∃ x12 : Nat, fV h a0 3 5 (.ref x12) ∧ (∃ fs8 : List Value, h.1 x12 = some (.inr (15, fs8)) ∧ ∃ (d17 k18 n19 : Nat) (Q20 : Nat → eH → Prop), cR c.1 c.2.1 c.2.2.1 d17 mJ2_get [.ref x12, .int a3] h k18 n19 Q20 cX0 ∧ d17 + 1 ≤ c.2.2.2.1 ∧ k18 ≤ k ∧ n19 ≤ n ∧ (∀ (r14 : Nat) (h15 : eH), Q20 r14 h15 → (eCs c.2.2.1 h15 r14 "TroupeSums$Sort" ∧ (∃ x22 : Int32, fV h15 r14 5 1 (.int x22) ∧ (∃ x24 : Nat, fV h15 a0 3 4 (.ref x24) ∧ (∃ fs8 : List Value, h15.1 x24 = some (.inr (15, fs8)) ∧ ∃ (d29 k30 n31 : Nat) (Q32 : Nat → eH → Prop), cR c.1 c.2.1 c.2.2.1 d29 mJ2_get [.ref x24, .int a4] h15 k30 n31 Q32 cX0 ∧ d29 + 1 ≤ c.2.2.2.1 ∧ k30 ≤ k - k18 ∧ n31 ≤ n - n19 ∧ (∀ (r26 : Nat) (h27 : eH), Q32 r26 h27 → (eCs c.2.2.1 h27 r26 "java/lang/Integer" ∧ (∃ fs8 : List Value, h27.1 r26 = some (.inr (17, fs8)) ∧ ∃ (d37 k38 n39 : Nat) (Q40 : Int32 → eH → Prop), cI c.1 c.2.1 c.2.2.1 d37 mJ6_intValue [.ref r26] h27 k38 n39 Q40 cX0 ∧ d37 + 1 ≤ c.2.2.2.1 ∧ k38 ≤ k - k18 - k30 ∧ n39 ≤ n - n19 - n31 ∧ (∀ (r34 : Int32) (h35 : eH), Q40 r34 h35 → ((¬ (x22 &&& (r34 ^^^ (-1 : Int32))) = 0 → h_X3_moebius_105 c a0 a1 a2 a3 a4 h35 (k - k18 - k30 - k38) (n - n19 - n31 - n39)) ∧ ((x22 &&& (r34 ^^^ (-1 : Int32))) = 0 → ∃ (N42 : Nat) (f43 : Nat → Int32), h35.1 a2 = some (.inl (c.2.2.1.2.1 0, N42, .inl f43)) ∧ vp_in a3 N42 ∧ (((1 : Int32) = 0 → ∃ (N46 : Nat) (f47 : Nat → Int32), h35.1 a2 = some (.inl (c.2.2.1.2.1 0, N46, .inl f47)) ∧ c.2.1 ≤ a2 ∧ vp_in a3 N46 ∧ ∀ h49 : eH, h49 = eUp h35 a2 (.inl (c.2.2.1.2.1 0, N46, .inl (va_up f47 a3.toNatClampNeg ((f43 a3.toNatClampNeg) - (0 : Int32))))) → (h_X3_moebius_41 c a0 a1 a2 a3 (a4 + 1) h49 (k - k18 - k30 - k38) (n - n19 - n31 - n39))) ∧ (¬ (1 : Int32) = 0 → ∃ x50 : Nat, fV h35 a0 3 6 (.ref x50) ∧ (∃ (N52 : Nat) (f53 : Nat → Int32), h35.1 x50 = some (.inl (c.2.2.1.2.1 0, N52, .inl f53)) ∧ vp_in a4 N52 ∧ (∃ (N55 : Nat) (f56 : Nat → Int32), h35.1 a2 = some (.inl (c.2.2.1.2.1 0, N55, .inl f56)) ∧ vp_in (f53 a4.toNatClampNeg) N55 ∧ (∃ (N58 : Nat) (f59 : Nat → Int32), h35.1 a2 = some (.inl (c.2.2.1.2.1 0, N58, .inl f59)) ∧ c.2.1 ≤ a2 ∧ vp_in a3 N58 ∧ ∀ h61 : eH, h61 = eUp h35 a2 (.inl (c.2.2.1.2.1 0, N58, .inl (va_up f59 a3.toNatClampNeg ((f43 a3.toNatClampNeg) - (f56 (f53 a4.toNatClampNeg).toNatClampNeg))))) → (h_X3_moebius_41 c a0 a1 a2 a3 (a4 + 1) h61 (k - k18 - k30 - k38) (n - n19 - n31 - n39)))))))))))))))))))))))))) : h_X3_moebius_41 c a0 a1 a2 a3 a4 h k n := by
  refine e_iload dX3_moebius_41 rfl ?_
  refine e_aload_n dX3_moebius_43 rfl ?_
  obtain ⟨x1, ⟨fsx1, g2, g2v⟩, H⟩ := H
  refine e_get dX3_moebius_44 fX3_6 q1196 g2 g2v ?_
  obtain ⟨v3, g4, H⟩ := H
  refine e_alen (t := 0) dX3_moebius_47 (fun _ => rfl) g4 ?_
  refine e_icmp_ge 138 dX3_moebius_48 (by decide) (fun g5 => ?_) (fun g5 => ?_)
  · replace H := H.1 g5
    refine e_iinc (a3 + (-1)) _ dX3_moebius_138 rfl rfl (by decide) rfl rfl ?_
    refine e_goto 17 dX3_moebius_141 (by decide) ?_
    exact E.less2 H (eS_s (eS_s (eS_s (eS_s (eS_n (eS_n eS_0))))))
  · replace H := H.2 g5
    refine e_aload_n dX3_moebius_51 rfl ?_
    obtain ⟨x6, ⟨fsx6, g7, g7v⟩, H⟩ := H
    refine e_get dX3_moebius_52 fX3_6 q1196 g7 g7v ?_
    refine e_iload dX3_moebius_55 rfl ?_
    obtain ⟨N8, f9, g10, g10i, H⟩ := H
    refine e_iaload dX3_moebius_57 g10 g10i ?_
    refine e_iload_n dX3_moebius_58 rfl ?_
    refine e_icmp_le 105 dX3_moebius_59 (by decide) (fun g11 => ?_) (fun g11 => ?_)
    · replace H := H.1 g11
      exact E.less2 H (eS_s (eS_s (eS_s (eS_s (eS_s (eS_n eS_0))))))
    · replace H := H.2 g11
      refine e_aload_n dX3_moebius_62 rfl ?_
      obtain ⟨x12, ⟨fsx12, g13, g13v⟩, H⟩ := H
      refine e_get dX3_moebius_63 fX3_5 q1192 g13 g13v ?_
      refine e_iload_n dX3_moebius_66 rfl ?_
      obtain ⟨fsg16, g16o, H⟩ := H
      obtain ⟨d17, k18, n19, Q20, g16, g16d, g16k, g16n, H⟩ := H
      refine e_callF (i := 4) (r := (RJ2, TJ2, 3)) (As := [.int a3]) g16 dX3_moebius_67 wJ2_get rfl rfl q882 q887 q885 g16o rfl rfl g16d rfl (Nat.le_of_ble_eq_true rfl) (k1 := k - k18) (n1 := n - n19) (by omega) (by omega) ?_ ?_
      · rintro v h15 (⟨v9, e9, r14, e8, hq⟩ | ⟨ci9, q9, e9, -⟩)
        · cases e9
          subst e8
          replace H := H r14 h15 hq
          obtain ⟨g21, H⟩ := H
          refine c_castR dX3_moebius_72 q1064 g21 ?_
          obtain ⟨x22, ⟨fsx22, g23, g23v⟩, H⟩ := H
          refine e_getN dX3_moebius_75 fX5_1 q1081 g23 g23v ?_
          refine e_aload_n dX3_moebius_78 rfl ?_
          obtain ⟨x24, ⟨fsx24, g25, g25v⟩, H⟩ := H
          refine e_get dX3_moebius_79 fX3_4 q1189 g25 g25v ?_
          refine e_iload dX3_moebius_82 rfl ?_
          obtain ⟨fsg28, g28o, H⟩ := H
          obtain ⟨d29, k30, n31, Q32, g28, g28d, g28k, g28n, H⟩ := H
          refine e_callF (i := 4) (r := (RJ2, TJ2, 3)) (As := [.int a4]) g28 dX3_moebius_84 wJ2_get rfl rfl q882 q887 q885 g28o rfl rfl g28d rfl (Nat.le_of_ble_eq_true rfl) (k1 := k - k18 - k30) (n1 := n - n19 - n31) (by omega) (by omega) ?_ ?_
          · rintro v h27 (⟨v9, e9, r26, e8, hq⟩ | ⟨ci9, q9, e9, -⟩)
            · cases e9
              subst e8
              replace H := H r26 h27 hq
              obtain ⟨g33, H⟩ := H
              refine c_castR dX3_moebius_89 q919 g33 ?_
              obtain ⟨fsg36, g36o, H⟩ := H
              obtain ⟨d37, k38, n39, Q40, g36, g36d, g36k, g36n, H⟩ := H
              refine e_callV (r := (RJ6, TJ6, 1)) (As := []) g36 dX3_moebius_92 wJ6_intValue q920 q921 q922 g36o rfl rfl g36d rfl (Nat.le_of_ble_eq_true rfl) (k1 := k - k18 - k30 - k38) (n1 := n - n19 - n31 - n39) (by omega) (by omega) ?_ ?_
              · rintro v h35 (⟨v9, e9, r34, e8, hq⟩ | ⟨ci9, q9, e9, -⟩)
                · cases e9
                  subst e8
                  replace H := H r34 h35 hq
                  refine e_iconst (-1) dX3_moebius_95 (by decide) ?_
                  refine e_ixor dX3_moebius_96 ?_
                  refine e_iand dX3_moebius_97 ?_
                  refine e_if_ne 105 dX3_moebius_98 (by decide) (fun g41 => ?_) (fun g41 => ?_)
                  · replace H := H.1 g41
                    exact E.less2 H (eS_s (eS_s (eS_s (eS_s (eS_s (eS_n eS_0))))))
                  · replace H := H.2 g41
                    refine e_iconst (1) dX3_moebius_101 (by decide) ?_
                    refine e_goto 106 dX3_moebius_102 (by decide) ?_
                    refine e_istore _ dX3_moebius_106 (by decide) rfl rfl ?_
                    refine e_aload_n dX3_moebius_108 rfl ?_
                    refine e_iload_n dX3_moebius_109 rfl ?_
                    refine e_dup2 dX3_moebius_110 rfl rfl ?_
                    obtain ⟨N42, f43, g44, g44i, H⟩ := H
                    refine e_iaload dX3_moebius_111 g44 g44i ?_
                    refine e_iload dX3_moebius_112 rfl ?_
                    refine e_if_eq 129 dX3_moebius_114 (by decide) (fun g45 => ?_) (fun g45 => ?_)
                    · replace H := H.1 g45
                      refine e_iconst (0) dX3_moebius_129 (by decide) ?_
                      refine e_isub dX3_moebius_130 ?_
                      obtain ⟨N46, f47, g48, g48l, g48i, H⟩ := H
                      refine e_iastore dX3_moebius_131 g48 g48l g48i ?_
                      replace H := H _ rfl
                      generalize eUp h35 a2 _ = h49 at H ⊢
                      refine e_iinc (a4 + 1) _ dX3_moebius_132 rfl rfl (by decide) rfl rfl ?_
                      refine e_goto 41 dX3_moebius_135 (by decide) ?_
                      exact E.less2 H (eS_s (eS_s (eS_s (eS_s (eS_s (eS_n eS_0))))))
                    · replace H := H.2 g45
                      refine e_aload_n dX3_moebius_117 rfl ?_
                      refine e_aload_n dX3_moebius_118 rfl ?_
                      obtain ⟨x50, ⟨fsx50, g51, g51v⟩, H⟩ := H
                      refine e_get dX3_moebius_119 fX3_6 q1196 g51 g51v ?_
                      refine e_iload dX3_moebius_122 rfl ?_
                      obtain ⟨N52, f53, g54, g54i, H⟩ := H
                      refine e_iaload dX3_moebius_124 g54 g54i ?_
                      obtain ⟨N55, f56, g57, g57i, H⟩ := H
                      refine e_iaload dX3_moebius_125 g57 g57i ?_
                      refine e_goto 130 dX3_moebius_126 (by decide) ?_
                      refine e_isub dX3_moebius_130 ?_
                      obtain ⟨N58, f59, g60, g60l, g60i, H⟩ := H
                      refine e_iastore dX3_moebius_131 g60 g60l g60i ?_
                      replace H := H _ rfl
                      generalize eUp h35 a2 _ = h61 at H ⊢
                      refine e_iinc (a4 + 1) _ dX3_moebius_132 rfl rfl (by decide) rfl rfl ?_
                      refine e_goto 41 dX3_moebius_135 (by decide) ?_
                      exact E.less2 H (eS_s (eS_s (eS_s (eS_s (eS_s (eS_n eS_0))))))
                · cases e9
              · rintro q9 h9 (⟨v9, e9, -⟩ | ⟨ci9, q8, e9, -, -, hx⟩)
                · cases e9
                · exact hx.elim
            · cases e9
          · rintro q9 h9 (⟨v9, e9, -⟩ | ⟨ci9, q8, e9, -, -, hx⟩)
            · cases e9
            · exact hx.elim
        · cases e9
      · rintro q9 h9 (⟨v9, e9, -⟩ | ⟨ci9, q8, e9, -, -, hx⟩)
        · cases e9
        · exact hx.elim
set_option maxHeartbeats 4000000 in
theorem s_X3_moebius_105 (c : cC) (a0 : Nat) (a1 : Int32) (a2 : Nat) (a3 : Int32) (a4 : Int32) (h : eH) (k n : Nat) (H : ∃ (N1 : Nat) (f2 : Nat → Int32), h.1 a2 = some (.inl (c.2.2.1.2.1 0, N1, .inl f2)) ∧ vp_in a3 N1 ∧ (((0 : Int32) = 0 → ∃ (N5 : Nat) (f6 : Nat → Int32), h.1 a2 = some (.inl (c.2.2.1.2.1 0, N5, .inl f6)) ∧ c.2.1 ≤ a2 ∧ vp_in a3 N5 ∧ ∀ h8 : eH, h8 = eUp h a2 (.inl (c.2.2.1.2.1 0, N5, .inl (va_up f6 a3.toNatClampNeg ((f2 a3.toNatClampNeg) - (0 : Int32))))) → (h_X3_moebius_41 c a0 a1 a2 a3 (a4 + 1) h8 k n)) ∧ (¬ (0 : Int32) = 0 → ∃ x9 : Nat, fV h a0 3 6 (.ref x9) ∧ (∃ (N11 : Nat) (f12 : Nat → Int32), h.1 x9 = some (.inl (c.2.2.1.2.1 0, N11, .inl f12)) ∧ vp_in a4 N11 ∧ (∃ (N14 : Nat) (f15 : Nat → Int32), h.1 a2 = some (.inl (c.2.2.1.2.1 0, N14, .inl f15)) ∧ vp_in (f12 a4.toNatClampNeg) N14 ∧ (∃ (N17 : Nat) (f18 : Nat → Int32), h.1 a2 = some (.inl (c.2.2.1.2.1 0, N17, .inl f18)) ∧ c.2.1 ≤ a2 ∧ vp_in a3 N17 ∧ ∀ h20 : eH, h20 = eUp h a2 (.inl (c.2.2.1.2.1 0, N17, .inl (va_up f18 a3.toNatClampNeg ((f2 a3.toNatClampNeg) - (f15 (f12 a4.toNatClampNeg).toNatClampNeg))))) → (h_X3_moebius_41 c a0 a1 a2 a3 (a4 + 1) h20 k n))))))) : h_X3_moebius_105 c a0 a1 a2 a3 a4 h k n := by
  refine e_iconst (0) dX3_moebius_105 (by decide) ?_
  refine e_istore _ dX3_moebius_106 (by decide) rfl rfl ?_
  refine e_aload_n dX3_moebius_108 rfl ?_
  refine e_iload_n dX3_moebius_109 rfl ?_
  refine e_dup2 dX3_moebius_110 rfl rfl ?_
  obtain ⟨N1, f2, g3, g3i, H⟩ := H
  refine e_iaload dX3_moebius_111 g3 g3i ?_
  refine e_iload dX3_moebius_112 rfl ?_
  refine e_if_eq 129 dX3_moebius_114 (by decide) (fun g4 => ?_) (fun g4 => ?_)
  · replace H := H.1 g4
    refine e_iconst (0) dX3_moebius_129 (by decide) ?_
    refine e_isub dX3_moebius_130 ?_
    obtain ⟨N5, f6, g7, g7l, g7i, H⟩ := H
    refine e_iastore dX3_moebius_131 g7 g7l g7i ?_
    replace H := H _ rfl
    generalize eUp h a2 _ = h8 at H ⊢
    refine e_iinc (a4 + 1) _ dX3_moebius_132 rfl rfl (by decide) rfl rfl ?_
    refine e_goto 41 dX3_moebius_135 (by decide) ?_
    exact E.less2 H (eS_s (eS_s (eS_s (eS_s (eS_s (eS_n eS_0))))))
  · replace H := H.2 g4
    refine e_aload_n dX3_moebius_117 rfl ?_
    refine e_aload_n dX3_moebius_118 rfl ?_
    obtain ⟨x9, ⟨fsx9, g10, g10v⟩, H⟩ := H
    refine e_get dX3_moebius_119 fX3_6 q1196 g10 g10v ?_
    refine e_iload dX3_moebius_122 rfl ?_
    obtain ⟨N11, f12, g13, g13i, H⟩ := H
    refine e_iaload dX3_moebius_124 g13 g13i ?_
    obtain ⟨N14, f15, g16, g16i, H⟩ := H
    refine e_iaload dX3_moebius_125 g16 g16i ?_
    refine e_goto 130 dX3_moebius_126 (by decide) ?_
    refine e_isub dX3_moebius_130 ?_
    obtain ⟨N17, f18, g19, g19l, g19i, H⟩ := H
    refine e_iastore dX3_moebius_131 g19 g19l g19i ?_
    replace H := H _ rfl
    generalize eUp h a2 _ = h20 at H ⊢
    refine e_iinc (a4 + 1) _ dX3_moebius_132 rfl rfl (by decide) rfl rfl ?_
    refine e_goto 41 dX3_moebius_135 (by decide) ?_
    exact E.less2 H (eS_s (eS_s (eS_s (eS_s (eS_s (eS_n eS_0))))))
theorem en_X3_moebius {l : Launch} {lo : Nat} {G : eG} {d : Nat} {P : eO → eH → Prop} (a0 : Nat) (a1 : Int32) {h : eH} {k n : Nat} (H : h_X3_moebius_0 (l, lo, G, d, P) a0 a1 h k n) : Ct l lo G d mX3_moebius [.ref a0, .int a1] h k n P := 
  Ct_of (eArL mX3_moebius.2.2.2.1 [.ref a0, .int a1]) (by decide) rfl (Nat.le_of_ble_eq_true rfl) (fun j w q => eArL_mem j w q) (E.less2 H (eS_s (eS_s (eS_n (eS_n (eS_n (eS_n eS_0)))))))
/-! X3_mixed TroupeSums$Group.mixed(I)I -/
def h_X3_mixed_0 (c : cC) (a0 : Nat) (a1 : Int32) (h : eH) (k n : Nat) : Prop := E c.1 c.2.1 c.2.2.1 c.2.2.2.1 mX3_mixed c.2.2.2.2 0 [some (.ref a0), some (.int a1), none, none, none] [] h k n
def h_X3_mixed_4 (c : cC) (a0 : Nat) (a1 : Int32) (a2 : Int32) (a3 : Int32) (h : eH) (k n : Nat) : Prop := E c.1 c.2.1 c.2.2.1 c.2.2.2.1 mX3_mixed c.2.2.2.2 4 [some (.ref a0), some (.int a1), some (.int a2), some (.int a3), none] [] h k n
def h_X3_mixed_15 (c : cC) (a0 : Nat) (a1 : Int32) (a2 : Int32) (a3 : Int32) (a4 : Int32) (h : eH) (k n : Nat) : Prop := E c.1 c.2.1 c.2.2.1 c.2.2.2.1 mX3_mixed c.2.2.2.2 15 [some (.ref a0), some (.int a1), some (.int a2), some (.int a3), some (.int a4)] [] h k n
set_option maxHeartbeats 4000000 in
theorem s_X3_mixed_0 (c : cC) (a0 : Nat) (a1 : Int32) (h : eH) (k n : Nat) (H : h_X3_mixed_4 c a0 a1 (1 : Int32) (0 : Int32) h k n) : h_X3_mixed_0 c a0 a1 h k n := by
  refine e_iconst (1) dX3_mixed_0 (by decide) ?_
  refine e_istore_n _ dX3_mixed_1 (by decide) rfl rfl ?_
  refine e_iconst (0) dX3_mixed_2 (by decide) ?_
  refine e_istore_n _ dX3_mixed_3 (by decide) rfl rfl ?_
  exact E.less2 H (eS_s (eS_s (eS_s (eS_s (eS_n eS_0)))))
set_option maxHeartbeats 4000000 in
theorem s_X3_mixed_4 (c : cC) (a0 : Nat) (a1 : Int32) (a2 : Int32) (a3 : Int32) (h : eH) (k n : Nat) (H : ∃ fs8 : List Value, h.1 a0 = some (.inr (3, fs8)) ∧ ∃ (d4 k5 n6 : Nat) (Q7 : Int32 → eH → Prop), cI c.1 c.2.1 c.2.2.1 d4 mX3_size [.ref a0] h k5 n6 Q7 cX0 ∧ d4 + 1 ≤ c.2.2.2.1 ∧ k5 ≤ k ∧ n6 ≤ n ∧ (∀ (r1 : Int32) (h2 : eH), Q7 r1 h2 → ((r1 ≤ a3 → ∃ fs8 : List Value, h2.1 a0 = some (.inr (3, fs8)) ∧ ∃ (d12 k13 n14 : Nat) (Q15 : Int32 → eH → Prop), cI c.1 c.2.1 c.2.2.1 d12 mX3_made [.ref a0, .int a2] h2 k13 n14 Q15 cX0 ∧ d12 + 1 ≤ c.2.2.2.1 ∧ k13 ≤ k - k5 ∧ n14 ≤ n - n6 ∧ (∀ (r9 : Int32) (h10 : eH), Q15 r9 h10 → (c.2.2.2.2 (.inl (some (.int r9))) h10))) ∧ (¬ r1 ≤ a3 → h_X3_mixed_15 c a0 a1 a2 a3 (0 : Int32) h2 (k - k5) (n - n6))))) : h_X3_mixed_4 c a0 a1 a2 a3 h k n := by
  refine e_iload_n dX3_mixed_4 rfl ?_
  refine e_aload_n dX3_mixed_5 rfl ?_
  obtain ⟨fsg3, g3o, H⟩ := H
  obtain ⟨d4, k5, n6, Q7, g3, g3d, g3k, g3n, H⟩ := H
  refine e_callV (r := (RX3, TX3, 8)) (As := []) g3 dX3_mixed_6 wX3_size q928 q929 q930 g3o rfl rfl g3d rfl (Nat.le_of_ble_eq_true rfl) (k1 := k - k5) (n1 := n - n6) (by omega) (by omega) ?_ ?_
  · rintro v h2 (⟨v9, e9, r1, e8, hq⟩ | ⟨ci9, q9, e9, -⟩)
    · cases e9
      subst e8
      replace H := H r1 h2 hq
      refine e_icmp_ge 98 dX3_mixed_9 (by decide) (fun g8 => ?_) (fun g8 => ?_)
      · replace H := H.1 g8
        refine e_aload_n dX3_mixed_98 rfl ?_
        refine e_iload_n dX3_mixed_99 rfl ?_
        obtain ⟨fsg11, g11o, H⟩ := H
        obtain ⟨d12, k13, n14, Q15, g11, g11d, g11k, g11n, H⟩ := H
        refine e_callV (r := (RX3, TX3, 8)) (As := [.int a2]) g11 dX3_mixed_100 wX3_made q932 q933 q934 g11o rfl rfl g11d rfl (Nat.le_of_ble_eq_true rfl) (k1 := k - k5 - k13) (n1 := n - n6 - n14) (by omega) (by omega) ?_ ?_
        · rintro v h10 (⟨v9, e9, r9, e8, hq⟩ | ⟨ci9, q9, e9, -⟩)
          · cases e9
            subst e8
            replace H := H r9 h10 hq
            exact e_ireturn .int dX3_mixed_103 rfl rfl H
          · cases e9
        · rintro q9 h9 (⟨v9, e9, -⟩ | ⟨ci9, q8, e9, -, -, hx⟩)
          · cases e9
          · exact hx.elim
      · replace H := H.2 g8
        refine e_iconst (0) dX3_mixed_12 (by decide) ?_
        refine e_istore _ dX3_mixed_13 (by decide) rfl rfl ?_
        exact E.less2 H (eS_s (eS_s (eS_s (eS_s (eS_s eS_0)))))
    · cases e9
  · rintro q9 h9 (⟨v9, e9, -⟩ | ⟨ci9, q8, e9, -, -, hx⟩)
    · cases e9
    · exact hx.elim
set_option maxHeartbeats 4000000 in
theorem s_X3_mixed_15 (c : cC) (a0 : Nat) (a1 : Int32) (a2 : Int32) (a3 : Int32) (a4 : Int32) (h : eH) (k n : Nat) (H : ∃ fs8 : List Value, h.1 a0 = some (.inr (3, fs8)) ∧ ∃ (d4 k5 n6 : Nat) (Q7 : Int32 → eH → Prop), cI c.1 c.2.1 c.2.2.1 d4 mX3_size [.ref a0] h k5 n6 Q7 cX0 ∧ d4 + 1 ≤ c.2.2.2.1 ∧ k5 ≤ k ∧ n6 ≤ n ∧ (∀ (r1 : Int32) (h2 : eH), Q7 r1 h2 → ((r1 ≤ a4 → h_X3_mixed_4 c a0 a1 a2 (a3 + 1) h2 (k - k5) (n - n6)) ∧ (¬ r1 ≤ a4 → ∃ (d12 k13 n14 : Nat) (Q15 : Int32 → eH → Prop), cI c.1 c.2.1 c.2.2.1 d12 mX0_isOf [.long a1.toInt64, .int a3] h2 k13 n14 Q15 cX0 ∧ d12 + 1 ≤ c.2.2.2.1 ∧ k13 ≤ k - k5 ∧ n14 ≤ n - n6 ∧ (∀ (r9 : Int32) (h10 : eH), Q15 r9 h10 → ((r9 = 0 → h_X3_mixed_15 c a0 a1 (a2 ||| (0 : Int32)) a3 (a4 + 1) h10 (k - k5 - k13) (n - n6 - n14)) ∧ (¬ r9 = 0 → ∃ (d20 k21 n22 : Nat) (Q23 : Int32 → eH → Prop), cI c.1 c.2.1 c.2.2.1 d20 mX0_isOf [.long a1.toInt64, .int a4] h10 k21 n22 Q23 cX0 ∧ d20 + 1 ≤ c.2.2.2.1 ∧ k21 ≤ k - k5 - k13 ∧ n22 ≤ n - n6 - n14 ∧ (∀ (r17 : Int32) (h18 : eH), Q23 r17 h18 → ((r17 = 0 → h_X3_mixed_15 c a0 a1 (a2 ||| (0 : Int32)) a3 (a4 + 1) h18 (k - k5 - k13 - k21) (n - n6 - n14 - n22)) ∧ (¬ r17 = 0 → ∃ x25 : Nat, fV h18 a0 3 2 (.ref x25) ∧ (∃ x27 : Nat, fV h18 a0 3 2 (.ref x27) ∧ (∃ x29 : Nat, fV h18 a0 3 3 (.ref x29) ∧ (∃ (N31 : Nat) (f32 : Nat → Int32), h18.1 x29 = some (.inl (c.2.2.1.2.1 0, N31, .inl f32)) ∧ vp_in a3 N31 ∧ (∃ (N34 : Nat) (f35 : Nat → Option Nat), h18.1 x27 = some (.inl (c.2.2.1.2.1 4, N34, .inr (.inr (.inr (.inr f35))))) ∧ vp_in (f32 a3.toNatClampNeg) N34 ∧ ∃ r37 : Nat, f35 (f32 a3.toNatClampNeg).toNatClampNeg = some r37 ∧ (∃ x38 : Nat, fV h18 a0 3 3 (.ref x38) ∧ (∃ (N40 : Nat) (f41 : Nat → Int32), h18.1 x38 = some (.inl (c.2.2.1.2.1 0, N40, .inl f41)) ∧ vp_in a4 N40 ∧ (∃ (N43 : Nat) (f44 : Nat → Int32), h18.1 r37 = some (.inl (c.2.2.1.2.1 0, N43, .inl f44)) ∧ vp_in (f41 a4.toNatClampNeg) N43 ∧ (∃ (N46 : Nat) (f47 : Nat → Option Nat), h18.1 x25 = some (.inl (c.2.2.1.2.1 4, N46, .inr (.inr (.inr (.inr f47))))) ∧ vp_in (f44 (f41 a4.toNatClampNeg).toNatClampNeg) N46 ∧ ∃ r49 : Nat, f47 (f44 (f41 a4.toNatClampNeg).toNatClampNeg).toNatClampNeg = some r49 ∧ (∃ x50 : Nat, fV h18 a0 3 2 (.ref x50) ∧ (∃ (N52 : Nat) (f53 : Nat → Option Nat), h18.1 x50 = some (.inl (c.2.2.1.2.1 4, N52, .inr (.inr (.inr (.inr f53))))) ∧ vp_in a3 N52 ∧ ∃ r55 : Nat, f53 a3.toNatClampNeg = some r55 ∧ (∃ (N56 : Nat) (f57 : Nat → Int32), h18.1 r55 = some (.inl (c.2.2.1.2.1 0, N56, .inl f57)) ∧ vp_in a4 N56 ∧ (∃ (N59 : Nat) (f60 : Nat → Int32), h18.1 r49 = some (.inl (c.2.2.1.2.1 0, N59, .inl f60)) ∧ vp_in (f57 a4.toNatClampNeg) N59 ∧ (h_X3_mixed_15 c a0 a1 (a2 ||| ((1 : Int32) <<< ((f60 (f57 a4.toNatClampNeg).toNatClampNeg) &&& 31))) a3 (a4 + 1) h18 (k - k5 - k13 - k21) (n - n6 - n14 - n22)))))))))))))))))))))))) : h_X3_mixed_15 c a0 a1 a2 a3 a4 h k n := by
  refine e_iload dX3_mixed_15 rfl ?_
  refine e_aload_n dX3_mixed_17 rfl ?_
  obtain ⟨fsg3, g3o, H⟩ := H
  obtain ⟨d4, k5, n6, Q7, g3, g3d, g3k, g3n, H⟩ := H
  refine e_callV (r := (RX3, TX3, 8)) (As := []) g3 dX3_mixed_18 wX3_size q928 q929 q930 g3o rfl rfl g3d rfl (Nat.le_of_ble_eq_true rfl) (k1 := k - k5) (n1 := n - n6) (by omega) (by omega) ?_ ?_
  · rintro v h2 (⟨v9, e9, r1, e8, hq⟩ | ⟨ci9, q9, e9, -⟩)
    · cases e9
      subst e8
      replace H := H r1 h2 hq
      refine e_icmp_ge 92 dX3_mixed_21 (by decide) (fun g8 => ?_) (fun g8 => ?_)
      · replace H := H.1 g8
        refine e_iinc (a3 + 1) _ dX3_mixed_92 rfl rfl (by decide) rfl rfl ?_
        refine e_goto 4 dX3_mixed_95 (by decide) ?_
        exact E.less2 H (eS_s (eS_s (eS_s (eS_s (eS_n eS_0)))))
      · replace H := H.2 g8
        refine e_iload_n dX3_mixed_24 rfl ?_
        refine e_iload_n dX3_mixed_25 rfl ?_
        refine e_i2l dX3_mixed_26 ?_
        refine e_iload_n dX3_mixed_27 rfl ?_
        obtain ⟨d12, k13, n14, Q15, g11, g11d, g11k, g11n, H⟩ := H
        refine e_callSN (As := [.long a1.toInt64, .int a3]) g11 dX3_mixed_28 wX0_isOf rfl q936 q937 rfl g11d rfl (Nat.le_of_ble_eq_true rfl) (k1 := k - k5 - k13) (n1 := n - n6 - n14) (by omega) (by omega) ?_ ?_
        · rintro v h10 (⟨v9, e9, r9, e8, hq⟩ | ⟨ci9, q9, e9, -⟩)
          · cases e9
            subst e8
            replace H := H r9 h10 hq
            refine e_if_eq 83 dX3_mixed_31 (by decide) (fun g16 => ?_) (fun g16 => ?_)
            · replace H := H.1 g16
              refine e_iconst (0) dX3_mixed_83 (by decide) ?_
              refine e_ior dX3_mixed_84 ?_
              refine e_istore_n _ dX3_mixed_85 (by decide) rfl rfl ?_
              refine e_iinc (a4 + 1) _ dX3_mixed_86 rfl rfl (by decide) rfl rfl ?_
              refine e_goto 15 dX3_mixed_89 (by decide) ?_
              exact E.less2 H (eS_s (eS_s (eS_s (eS_s (eS_s eS_0)))))
            · replace H := H.2 g16
              refine e_iload_n dX3_mixed_34 rfl ?_
              refine e_i2l dX3_mixed_35 ?_
              refine e_iload dX3_mixed_36 rfl ?_
              obtain ⟨d20, k21, n22, Q23, g19, g19d, g19k, g19n, H⟩ := H
              refine e_callSN (As := [.long a1.toInt64, .int a4]) g19 dX3_mixed_38 wX0_isOf rfl q936 q937 rfl g19d rfl (Nat.le_of_ble_eq_true rfl) (k1 := k - k5 - k13 - k21) (n1 := n - n6 - n14 - n22) (by omega) (by omega) ?_ ?_
              · rintro v h18 (⟨v9, e9, r17, e8, hq⟩ | ⟨ci9, q9, e9, -⟩)
                · cases e9
                  subst e8
                  replace H := H r17 h18 hq
                  refine e_if_eq 83 dX3_mixed_41 (by decide) (fun g24 => ?_) (fun g24 => ?_)
                  · replace H := H.1 g24
                    refine e_iconst (0) dX3_mixed_83 (by decide) ?_
                    refine e_ior dX3_mixed_84 ?_
                    refine e_istore_n _ dX3_mixed_85 (by decide) rfl rfl ?_
                    refine e_iinc (a4 + 1) _ dX3_mixed_86 rfl rfl (by decide) rfl rfl ?_
                    refine e_goto 15 dX3_mixed_89 (by decide) ?_
                    exact E.less2 H (eS_s (eS_s (eS_s (eS_s (eS_s eS_0)))))
                  · replace H := H.2 g24
                    refine e_iconst (1) dX3_mixed_44 (by decide) ?_
                    refine e_aload_n dX3_mixed_45 rfl ?_
                    obtain ⟨x25, ⟨fsx25, g26, g26v⟩, H⟩ := H
                    refine e_get dX3_mixed_46 fX3_2 q1186 g26 g26v ?_
                    refine e_aload_n dX3_mixed_49 rfl ?_
                    obtain ⟨x27, ⟨fsx27, g28, g28v⟩, H⟩ := H
                    refine e_get dX3_mixed_50 fX3_2 q1186 g28 g28v ?_
                    refine e_aload_n dX3_mixed_53 rfl ?_
                    obtain ⟨x29, ⟨fsx29, g30, g30v⟩, H⟩ := H
                    refine e_get dX3_mixed_54 fX3_3 q1188 g30 g30v ?_
                    refine e_iload_n dX3_mixed_57 rfl ?_
                    obtain ⟨N31, f32, g33, g33i, H⟩ := H
                    refine e_iaload dX3_mixed_58 g33 g33i ?_
                    obtain ⟨N34, f35, g36, g36i, r37, g36r, H⟩ := H
                    refine e_aaload 4 dX3_mixed_59 (fun _ => rfl) rfl g36 g36i ?_
                    rw [g36r]
                    refine e_aload_n dX3_mixed_60 rfl ?_
                    obtain ⟨x38, ⟨fsx38, g39, g39v⟩, H⟩ := H
                    refine e_get dX3_mixed_61 fX3_3 q1188 g39 g39v ?_
                    refine e_iload dX3_mixed_64 rfl ?_
                    obtain ⟨N40, f41, g42, g42i, H⟩ := H
                    refine e_iaload dX3_mixed_66 g42 g42i ?_
                    obtain ⟨N43, f44, g45, g45i, H⟩ := H
                    refine e_iaload dX3_mixed_67 g45 g45i ?_
                    obtain ⟨N46, f47, g48, g48i, r49, g48r, H⟩ := H
                    refine e_aaload 4 dX3_mixed_68 (fun _ => rfl) rfl g48 g48i ?_
                    rw [g48r]
                    refine e_aload_n dX3_mixed_69 rfl ?_
                    obtain ⟨x50, ⟨fsx50, g51, g51v⟩, H⟩ := H
                    refine e_get dX3_mixed_70 fX3_2 q1186 g51 g51v ?_
                    refine e_iload_n dX3_mixed_73 rfl ?_
                    obtain ⟨N52, f53, g54, g54i, r55, g54r, H⟩ := H
                    refine e_aaload 4 dX3_mixed_74 (fun _ => rfl) rfl g54 g54i ?_
                    rw [g54r]
                    refine e_iload dX3_mixed_75 rfl ?_
                    obtain ⟨N56, f57, g58, g58i, H⟩ := H
                    refine e_iaload dX3_mixed_77 g58 g58i ?_
                    obtain ⟨N59, f60, g61, g61i, H⟩ := H
                    refine e_iaload dX3_mixed_78 g61 g61i ?_
                    refine e_ishl dX3_mixed_79 ?_
                    refine e_goto 84 dX3_mixed_80 (by decide) ?_
                    refine e_ior dX3_mixed_84 ?_
                    refine e_istore_n _ dX3_mixed_85 (by decide) rfl rfl ?_
                    refine e_iinc (a4 + 1) _ dX3_mixed_86 rfl rfl (by decide) rfl rfl ?_
                    refine e_goto 15 dX3_mixed_89 (by decide) ?_
                    exact E.less2 H (eS_s (eS_s (eS_s (eS_s (eS_s eS_0)))))
                · cases e9
              · rintro q9 h9 (⟨v9, e9, -⟩ | ⟨ci9, q8, e9, -, -, hx⟩)
                · cases e9
                · exact hx.elim
          · cases e9
        · rintro q9 h9 (⟨v9, e9, -⟩ | ⟨ci9, q8, e9, -, -, hx⟩)
          · cases e9
          · exact hx.elim
    · cases e9
  · rintro q9 h9 (⟨v9, e9, -⟩ | ⟨ci9, q8, e9, -, -, hx⟩)
    · cases e9
    · exact hx.elim
theorem en_X3_mixed {l : Launch} {lo : Nat} {G : eG} {d : Nat} {P : eO → eH → Prop} (a0 : Nat) (a1 : Int32) {h : eH} {k n : Nat} (H : h_X3_mixed_0 (l, lo, G, d, P) a0 a1 h k n) : Ct l lo G d mX3_mixed [.ref a0, .int a1] h k n P := 
  Ct_of (eArL mX3_mixed.2.2.2.1 [.ref a0, .int a1]) (by decide) rfl (Nat.le_of_ble_eq_true rfl) (fun j w q => eArL_mem j w q) (E.less2 H (eS_s (eS_s (eS_n (eS_n (eS_n eS_0))))))
/-! X3_centre TroupeSums$Group.centre(I)I -/
def h_X3_centre_0 (c : cC) (a0 : Nat) (a1 : Int32) (h : eH) (k n : Nat) : Prop := E c.1 c.2.1 c.2.2.1 c.2.2.2.1 mX3_centre c.2.2.2.2 0 [some (.ref a0), some (.int a1), none, none, none, none] [] h k n
def h_X3_centre_4 (c : cC) (a0 : Nat) (a1 : Int32) (a2 : Int32) (a3 : Int32) (h : eH) (k n : Nat) : Prop := E c.1 c.2.1 c.2.2.1 c.2.2.2.1 mX3_centre c.2.2.2.2 4 [some (.ref a0), some (.int a1), some (.int a2), some (.int a3), none, none] [] h k n
def h_X3_centre_23 (c : cC) (a0 : Nat) (a1 : Int32) (a2 : Int32) (a3 : Int32) (a4 : Int32) (a5 : Int32) (h : eH) (k n : Nat) : Prop := E c.1 c.2.1 c.2.2.1 c.2.2.2.1 mX3_centre c.2.2.2.2 23 [some (.ref a0), some (.int a1), some (.int a2), some (.int a3), some (.int a4), some (.int a5)] [] h k n
def h_X3_centre_68 (c : cC) (a0 : Nat) (a1 : Int32) (a2 : Int32) (a3 : Int32) (a5 : Int32) (h : eH) (k n : Nat) : Prop := E c.1 c.2.1 c.2.2.1 c.2.2.2.1 mX3_centre c.2.2.2.2 68 [some (.ref a0), some (.int a1), some (.int a2), some (.int a3), none, some (.int a5)] [] h k n
def h_X3_centre_81 (c : cC) (a0 : Nat) (a1 : Int32) (a2 : Int32) (a3 : Int32) (a4 : Int32) (h : eH) (k n : Nat) : Prop := E c.1 c.2.1 c.2.2.1 c.2.2.2.1 mX3_centre c.2.2.2.2 81 [some (.ref a0), some (.int a1), some (.int a2), some (.int a3), some (.int a4), none] [] h k n
set_option maxHeartbeats 4000000 in
theorem s_X3_centre_0 (c : cC) (a0 : Nat) (a1 : Int32) (h : eH) (k n : Nat) (H : h_X3_centre_4 c a0 a1 (0 : Int32) (0 : Int32) h k n) : h_X3_centre_0 c a0 a1 h k n := by
  refine e_iconst (0) dX3_centre_0 (by decide) ?_
  refine e_istore_n _ dX3_centre_1 (by decide) rfl rfl ?_
  refine e_iconst (0) dX3_centre_2 (by decide) ?_
  refine e_istore_n _ dX3_centre_3 (by decide) rfl rfl ?_
  exact E.less2 H (eS_s (eS_s (eS_s (eS_s (eS_n (eS_n eS_0))))))
set_option maxHeartbeats 4000000 in
theorem s_X3_centre_4 (c : cC) (a0 : Nat) (a1 : Int32) (a2 : Int32) (a3 : Int32) (h : eH) (k n : Nat) (H : ∃ fs8 : List Value, h.1 a0 = some (.inr (3, fs8)) ∧ ∃ (d4 k5 n6 : Nat) (Q7 : Int32 → eH → Prop), cI c.1 c.2.1 c.2.2.1 d4 mX3_size [.ref a0] h k5 n6 Q7 cX0 ∧ d4 + 1 ≤ c.2.2.2.1 ∧ k5 ≤ k ∧ n6 ≤ n ∧ (∀ (r1 : Int32) (h2 : eH), Q7 r1 h2 → ((r1 ≤ a3 → c.2.2.2.2 (.inl (some (.int a2))) h2) ∧ (¬ r1 ≤ a3 → ∃ (d12 k13 n14 : Nat) (Q15 : Int32 → eH → Prop), cI c.1 c.2.1 c.2.2.1 d12 mX0_isOf [.long a1.toInt64, .int a3] h2 k13 n14 Q15 cX0 ∧ d12 + 1 ≤ c.2.2.2.1 ∧ k13 ≤ k - k5 ∧ n14 ≤ n - n6 ∧ (∀ (r9 : Int32) (h10 : eH), Q15 r9 h10 → (h_X3_centre_23 c a0 a1 a2 a3 r9 (0 : Int32) h10 (k - k5 - k13) (n - n6 - n14))))))) : h_X3_centre_4 c a0 a1 a2 a3 h k n := by
  refine e_iload_n dX3_centre_4 rfl ?_
  refine e_aload_n dX3_centre_5 rfl ?_
  obtain ⟨fsg3, g3o, H⟩ := H
  obtain ⟨d4, k5, n6, Q7, g3, g3d, g3k, g3n, H⟩ := H
  refine e_callV (r := (RX3, TX3, 8)) (As := []) g3 dX3_centre_6 wX3_size q928 q929 q930 g3o rfl rfl g3d rfl (Nat.le_of_ble_eq_true rfl) (k1 := k - k5) (n1 := n - n6) (by omega) (by omega) ?_ ?_
  · rintro v h2 (⟨v9, e9, r1, e8, hq⟩ | ⟨ci9, q9, e9, -⟩)
    · cases e9
      subst e8
      replace H := H r1 h2 hq
      refine e_icmp_ge 102 dX3_centre_9 (by decide) (fun g8 => ?_) (fun g8 => ?_)
      · replace H := H.1 g8
        refine e_iload_n dX3_centre_102 rfl ?_
        exact e_ireturn .int dX3_centre_103 rfl rfl H
      · replace H := H.2 g8
        refine e_iload_n dX3_centre_12 rfl ?_
        refine e_i2l dX3_centre_13 ?_
        refine e_iload_n dX3_centre_14 rfl ?_
        obtain ⟨d12, k13, n14, Q15, g11, g11d, g11k, g11n, H⟩ := H
        refine e_callSN (As := [.long a1.toInt64, .int a3]) g11 dX3_centre_15 wX0_isOf rfl q936 q937 rfl g11d rfl (Nat.le_of_ble_eq_true rfl) (k1 := k - k5 - k13) (n1 := n - n6 - n14) (by omega) (by omega) ?_ ?_
        · rintro v h10 (⟨v9, e9, r9, e8, hq⟩ | ⟨ci9, q9, e9, -⟩)
          · cases e9
            subst e8
            replace H := H r9 h10 hq
            refine e_istore _ dX3_centre_18 (by decide) rfl rfl ?_
            refine e_iconst (0) dX3_centre_20 (by decide) ?_
            refine e_istore _ dX3_centre_21 (by decide) rfl rfl ?_
            exact E.less2 H (eS_s (eS_s (eS_s (eS_s (eS_s (eS_s eS_0))))))
          · cases e9
        · rintro q9 h9 (⟨v9, e9, -⟩ | ⟨ci9, q8, e9, -, -, hx⟩)
          · cases e9
          · exact hx.elim
    · cases e9
  · rintro q9 h9 (⟨v9, e9, -⟩ | ⟨ci9, q8, e9, -, -, hx⟩)
    · cases e9
    · exact hx.elim
set_option maxHeartbeats 4000000 in
theorem s_X3_centre_23 (c : cC) (a0 : Nat) (a1 : Int32) (a2 : Int32) (a3 : Int32) (a4 : Int32) (a5 : Int32) (h : eH) (k n : Nat) (H : ∃ fs8 : List Value, h.1 a0 = some (.inr (3, fs8)) ∧ ∃ (d4 k5 n6 : Nat) (Q7 : Int32 → eH → Prop), cI c.1 c.2.1 c.2.2.1 d4 mX3_size [.ref a0] h k5 n6 Q7 cX0 ∧ d4 + 1 ≤ c.2.2.2.1 ∧ k5 ≤ k ∧ n6 ≤ n ∧ (∀ (r1 : Int32) (h2 : eH), Q7 r1 h2 → ((r1 ≤ a5 → h_X3_centre_81 c a0 a1 a2 a3 a4 h2 (k - k5) (n - n6)) ∧ (¬ r1 ≤ a5 → (a4 = 0 → h_X3_centre_81 c a0 a1 a2 a3 a4 h2 (k - k5) (n - n6)) ∧ (¬ a4 = 0 → ∃ (d13 k14 n15 : Nat) (Q16 : Int32 → eH → Prop), cI c.1 c.2.1 c.2.2.1 d13 mX0_isOf [.long a1.toInt64, .int a5] h2 k14 n15 Q16 cX0 ∧ d13 + 1 ≤ c.2.2.2.1 ∧ k14 ≤ k - k5 ∧ n15 ≤ n - n6 ∧ (∀ (r10 : Int32) (h11 : eH), Q16 r10 h11 → ((r10 = 0 → h_X3_centre_68 c a0 a1 a2 a3 a5 h11 (k - k5 - k14) (n - n6 - n15)) ∧ (¬ r10 = 0 → ∃ x18 : Nat, fV h11 a0 3 2 (.ref x18) ∧ (∃ (N20 : Nat) (f21 : Nat → Option Nat), h11.1 x18 = some (.inl (c.2.2.1.2.1 4, N20, .inr (.inr (.inr (.inr f21))))) ∧ vp_in a3 N20 ∧ ∃ r23 : Nat, f21 a3.toNatClampNeg = some r23 ∧ (∃ (N24 : Nat) (f25 : Nat → Int32), h11.1 r23 = some (.inl (c.2.2.1.2.1 0, N24, .inl f25)) ∧ vp_in a5 N24 ∧ (∃ x27 : Nat, fV h11 a0 3 2 (.ref x27) ∧ (∃ (N29 : Nat) (f30 : Nat → Option Nat), h11.1 x27 = some (.inl (c.2.2.1.2.1 4, N29, .inr (.inr (.inr (.inr f30))))) ∧ vp_in a5 N29 ∧ ∃ r32 : Nat, f30 a5.toNatClampNeg = some r32 ∧ (∃ (N33 : Nat) (f34 : Nat → Int32), h11.1 r32 = some (.inl (c.2.2.1.2.1 0, N33, .inl f34)) ∧ vp_in a3 N33 ∧ ((¬ (f25 a5.toNatClampNeg) = (f34 a3.toNatClampNeg) → h_X3_centre_23 c a0 a1 a2 a3 (0 : Int32) (a5 + 1) h11 (k - k5 - k14) (n - n6 - n15)) ∧ ((f25 a5.toNatClampNeg) = (f34 a3.toNatClampNeg) → h_X3_centre_68 c a0 a1 a2 a3 a5 h11 (k - k5 - k14) (n - n6 - n15)))))))))))))))) : h_X3_centre_23 c a0 a1 a2 a3 a4 a5 h k n := by
  refine e_iload dX3_centre_23 rfl ?_
  refine e_aload_n dX3_centre_25 rfl ?_
  obtain ⟨fsg3, g3o, H⟩ := H
  obtain ⟨d4, k5, n6, Q7, g3, g3d, g3k, g3n, H⟩ := H
  refine e_callV (r := (RX3, TX3, 8)) (As := []) g3 dX3_centre_26 wX3_size q928 q929 q930 g3o rfl rfl g3d rfl (Nat.le_of_ble_eq_true rfl) (k1 := k - k5) (n1 := n - n6) (by omega) (by omega) ?_ ?_
  · rintro v h2 (⟨v9, e9, r1, e8, hq⟩ | ⟨ci9, q9, e9, -⟩)
    · cases e9
      subst e8
      replace H := H r1 h2 hq
      refine e_icmp_ge 81 dX3_centre_29 (by decide) (fun g8 => ?_) (fun g8 => ?_)
      · replace H := H.1 g8
        exact E.less2 H (eS_s (eS_s (eS_s (eS_s (eS_s (eS_n eS_0))))))
      · replace H := H.2 g8
        refine e_iload dX3_centre_32 rfl ?_
        refine e_if_eq 81 dX3_centre_34 (by decide) (fun g9 => ?_) (fun g9 => ?_)
        · replace H := H.1 g9
          exact E.less2 H (eS_s (eS_s (eS_s (eS_s (eS_s (eS_n eS_0))))))
        · replace H := H.2 g9
          refine e_iload_n dX3_centre_37 rfl ?_
          refine e_i2l dX3_centre_38 ?_
          refine e_iload dX3_centre_39 rfl ?_
          obtain ⟨d13, k14, n15, Q16, g12, g12d, g12k, g12n, H⟩ := H
          refine e_callSN (As := [.long a1.toInt64, .int a5]) g12 dX3_centre_41 wX0_isOf rfl q936 q937 rfl g12d rfl (Nat.le_of_ble_eq_true rfl) (k1 := k - k5 - k14) (n1 := n - n6 - n15) (by omega) (by omega) ?_ ?_
          · rintro v h11 (⟨v9, e9, r10, e8, hq⟩ | ⟨ci9, q9, e9, -⟩)
            · cases e9
              subst e8
              replace H := H r10 h11 hq
              refine e_if_eq 68 dX3_centre_44 (by decide) (fun g17 => ?_) (fun g17 => ?_)
              · replace H := H.1 g17
                exact E.less2 H (eS_s (eS_s (eS_s (eS_s (eS_n (eS_s eS_0))))))
              · replace H := H.2 g17
                refine e_aload_n dX3_centre_47 rfl ?_
                obtain ⟨x18, ⟨fsx18, g19, g19v⟩, H⟩ := H
                refine e_get dX3_centre_48 fX3_2 q1186 g19 g19v ?_
                refine e_iload_n dX3_centre_51 rfl ?_
                obtain ⟨N20, f21, g22, g22i, r23, g22r, H⟩ := H
                refine e_aaload 4 dX3_centre_52 (fun _ => rfl) rfl g22 g22i ?_
                rw [g22r]
                refine e_iload dX3_centre_53 rfl ?_
                obtain ⟨N24, f25, g26, g26i, H⟩ := H
                refine e_iaload dX3_centre_55 g26 g26i ?_
                refine e_aload_n dX3_centre_56 rfl ?_
                obtain ⟨x27, ⟨fsx27, g28, g28v⟩, H⟩ := H
                refine e_get dX3_centre_57 fX3_2 q1186 g28 g28v ?_
                refine e_iload dX3_centre_60 rfl ?_
                obtain ⟨N29, f30, g31, g31i, r32, g31r, H⟩ := H
                refine e_aaload 4 dX3_centre_62 (fun _ => rfl) rfl g31 g31i ?_
                rw [g31r]
                refine e_iload_n dX3_centre_63 rfl ?_
                obtain ⟨N33, f34, g35, g35i, H⟩ := H
                refine e_iaload dX3_centre_64 g35 g35i ?_
                refine e_icmp_ne 72 dX3_centre_65 (by decide) (fun g36 => ?_) (fun g36 => ?_)
                · replace H := H.1 g36
                  refine e_iconst (0) dX3_centre_72 (by decide) ?_
                  refine e_istore _ dX3_centre_73 (by decide) rfl rfl ?_
                  refine e_iinc (a5 + 1) _ dX3_centre_75 rfl rfl (by decide) rfl rfl ?_
                  refine e_goto 23 dX3_centre_78 (by decide) ?_
                  exact E.less2 H (eS_s (eS_s (eS_s (eS_s (eS_s (eS_s eS_0))))))
                · replace H := H.2 g36
                  exact E.less2 H (eS_s (eS_s (eS_s (eS_s (eS_n (eS_s eS_0))))))
            · cases e9
          · rintro q9 h9 (⟨v9, e9, -⟩ | ⟨ci9, q8, e9, -, -, hx⟩)
            · cases e9
            · exact hx.elim
    · cases e9
  · rintro q9 h9 (⟨v9, e9, -⟩ | ⟨ci9, q8, e9, -, -, hx⟩)
    · cases e9
    · exact hx.elim
set_option maxHeartbeats 4000000 in
theorem s_X3_centre_68 (c : cC) (a0 : Nat) (a1 : Int32) (a2 : Int32) (a3 : Int32) (a5 : Int32) (h : eH) (k n : Nat) (H : h_X3_centre_23 c a0 a1 a2 a3 (1 : Int32) (a5 + 1) h k n) : h_X3_centre_68 c a0 a1 a2 a3 a5 h k n := by
  refine e_iconst (1) dX3_centre_68 (by decide) ?_
  refine e_goto 73 dX3_centre_69 (by decide) ?_
  refine e_istore _ dX3_centre_73 (by decide) rfl rfl ?_
  refine e_iinc (a5 + 1) _ dX3_centre_75 rfl rfl (by decide) rfl rfl ?_
  refine e_goto 23 dX3_centre_78 (by decide) ?_
  exact E.less2 H (eS_s (eS_s (eS_s (eS_s (eS_s (eS_s eS_0))))))
set_option maxHeartbeats 4000000 in
theorem s_X3_centre_81 (c : cC) (a0 : Nat) (a1 : Int32) (a2 : Int32) (a3 : Int32) (a4 : Int32) (h : eH) (k n : Nat) (H : (a4 = 0 → h_X3_centre_4 c a0 a1 (a2 ||| (0 : Int32)) (a3 + 1) h k n) ∧ (¬ a4 = 0 → h_X3_centre_4 c a0 a1 (a2 ||| ((1 : Int32) <<< (a3 &&& 31))) (a3 + 1) h k n)) : h_X3_centre_81 c a0 a1 a2 a3 a4 h k n := by
  refine e_iload_n dX3_centre_81 rfl ?_
  refine e_iload dX3_centre_82 rfl ?_
  refine e_if_eq 93 dX3_centre_84 (by decide) (fun g1 => ?_) (fun g1 => ?_)
  · replace H := H.1 g1
    refine e_iconst (0) dX3_centre_93 (by decide) ?_
    refine e_ior dX3_centre_94 ?_
    refine e_istore_n _ dX3_centre_95 (by decide) rfl rfl ?_
    refine e_iinc (a3 + 1) _ dX3_centre_96 rfl rfl (by decide) rfl rfl ?_
    refine e_goto 4 dX3_centre_99 (by decide) ?_
    exact E.less2 H (eS_s (eS_s (eS_s (eS_s (eS_n (eS_n eS_0))))))
  · replace H := H.2 g1
    refine e_iconst (1) dX3_centre_87 (by decide) ?_
    refine e_iload_n dX3_centre_88 rfl ?_
    refine e_ishl dX3_centre_89 ?_
    refine e_goto 94 dX3_centre_90 (by decide) ?_
    refine e_ior dX3_centre_94 ?_
    refine e_istore_n _ dX3_centre_95 (by decide) rfl rfl ?_
    refine e_iinc (a3 + 1) _ dX3_centre_96 rfl rfl (by decide) rfl rfl ?_
    refine e_goto 4 dX3_centre_99 (by decide) ?_
    exact E.less2 H (eS_s (eS_s (eS_s (eS_s (eS_n (eS_n eS_0))))))
theorem en_X3_centre {l : Launch} {lo : Nat} {G : eG} {d : Nat} {P : eO → eH → Prop} (a0 : Nat) (a1 : Int32) {h : eH} {k n : Nat} (H : h_X3_centre_0 (l, lo, G, d, P) a0 a1 h k n) : Ct l lo G d mX3_centre [.ref a0, .int a1] h k n P := 
  Ct_of (eArL mX3_centre.2.2.2.1 [.ref a0, .int a1]) (by decide) rfl (Nat.le_of_ble_eq_true rfl) (fun j w q => eArL_mem j w q) (E.less2 H (eS_s (eS_s (eS_n (eS_n (eS_n (eS_n eS_0)))))))
/-! X3_likes TroupeSums$Group.likes(I)I -/
def h_X3_likes_0 (c : cC) (a0 : Nat) (a1 : Int32) (h : eH) (k n : Nat) : Prop := E c.1 c.2.1 c.2.2.1 c.2.2.2.1 mX3_likes c.2.2.2.2 0 [some (.ref a0), some (.int a1), none, none] [] h k n
def h_X3_likes_4 (c : cC) (a0 : Nat) (a1 : Int32) (a2 : Int32) (a3 : Int32) (h : eH) (k n : Nat) : Prop := E c.1 c.2.1 c.2.2.1 c.2.2.2.1 mX3_likes c.2.2.2.2 4 [some (.ref a0), some (.int a1), some (.int a2), some (.int a3)] [] h k n
set_option maxHeartbeats 4000000 in
theorem s_X3_likes_0 (c : cC) (a0 : Nat) (a1 : Int32) (h : eH) (k n : Nat) (H : h_X3_likes_4 c a0 a1 (0 : Int32) (0 : Int32) h k n) : h_X3_likes_0 c a0 a1 h k n := by
  refine e_iconst (0) dX3_likes_0 (by decide) ?_
  refine e_istore_n _ dX3_likes_1 (by decide) rfl rfl ?_
  refine e_iconst (0) dX3_likes_2 (by decide) ?_
  refine e_istore_n _ dX3_likes_3 (by decide) rfl rfl ?_
  exact E.less2 H (eS_s (eS_s (eS_s (eS_s eS_0))))
set_option maxHeartbeats 4000000 in
theorem s_X3_likes_4 (c : cC) (a0 : Nat) (a1 : Int32) (a2 : Int32) (a3 : Int32) (h : eH) (k n : Nat) (H : ∃ fs8 : List Value, h.1 a0 = some (.inr (3, fs8)) ∧ ∃ (d4 k5 n6 : Nat) (Q7 : Int32 → eH → Prop), cI c.1 c.2.1 c.2.2.1 d4 mX3_size [.ref a0] h k5 n6 Q7 cX0 ∧ d4 + 1 ≤ c.2.2.2.1 ∧ k5 ≤ k ∧ n6 ≤ n ∧ (∀ (r1 : Int32) (h2 : eH), Q7 r1 h2 → ((r1 ≤ a3 → ∃ (d12 k13 n14 : Nat) (Q15 : Int32 → eH → Prop), cI c.1 c.2.1 c.2.2.1 d12 mJ6_bitCount [.int a2] h2 k13 n14 Q15 cX0 ∧ d12 + 1 ≤ c.2.2.2.1 ∧ k13 ≤ k - k5 ∧ n14 ≤ n - n6 ∧ (∀ (r9 : Int32) (h10 : eH), Q15 r9 h10 → (c.2.2.2.2 (.inl (some (.int r9))) h10))) ∧ (¬ r1 ≤ a3 → ∃ fs8 : List Value, h2.1 a0 = some (.inr (3, fs8)) ∧ ∃ (d19 k20 n21 : Nat) (Q22 : Int32 → eH → Prop), cI c.1 c.2.1 c.2.2.1 d19 mX3_turned [.ref a0, .int ((1 : Int32) <<< (a1 &&& 31)), .int a3] h2 k20 n21 Q22 cX0 ∧ d19 + 1 ≤ c.2.2.2.1 ∧ k20 ≤ k - k5 ∧ n21 ≤ n - n6 ∧ (∀ (r16 : Int32) (h17 : eH), Q22 r16 h17 → (h_X3_likes_4 c a0 a1 (a2 ||| r16) (a3 + 1) h17 (k - k5 - k20) (n - n6 - n21))))))) : h_X3_likes_4 c a0 a1 a2 a3 h k n := by
  refine e_iload_n dX3_likes_4 rfl ?_
  refine e_aload_n dX3_likes_5 rfl ?_
  obtain ⟨fsg3, g3o, H⟩ := H
  obtain ⟨d4, k5, n6, Q7, g3, g3d, g3k, g3n, H⟩ := H
  refine e_callV (r := (RX3, TX3, 8)) (As := []) g3 dX3_likes_6 wX3_size q928 q929 q930 g3o rfl rfl g3d rfl (Nat.le_of_ble_eq_true rfl) (k1 := k - k5) (n1 := n - n6) (by omega) (by omega) ?_ ?_
  · rintro v h2 (⟨v9, e9, r1, e8, hq⟩ | ⟨ci9, q9, e9, -⟩)
    · cases e9
      subst e8
      replace H := H r1 h2 hq
      refine e_icmp_ge 29 dX3_likes_9 (by decide) (fun g8 => ?_) (fun g8 => ?_)
      · replace H := H.1 g8
        refine e_iload_n dX3_likes_29 rfl ?_
        obtain ⟨d12, k13, n14, Q15, g11, g11d, g11k, g11n, H⟩ := H
        refine e_callS (As := [.int a2]) g11 dX3_likes_30 wJ6_bitCount q1182 q1071 rfl g11d rfl (Nat.le_of_ble_eq_true rfl) (k1 := k - k5 - k13) (n1 := n - n6 - n14) (by omega) (by omega) ?_ ?_
        · rintro v h10 (⟨v9, e9, r9, e8, hq⟩ | ⟨ci9, q9, e9, -⟩)
          · cases e9
            subst e8
            replace H := H r9 h10 hq
            exact e_ireturn .int dX3_likes_33 rfl rfl H
          · cases e9
        · rintro q9 h9 (⟨v9, e9, -⟩ | ⟨ci9, q8, e9, -, -, hx⟩)
          · cases e9
          · exact hx.elim
      · replace H := H.2 g8
        refine e_iload_n dX3_likes_12 rfl ?_
        refine e_aload_n dX3_likes_13 rfl ?_
        refine e_iconst (1) dX3_likes_14 (by decide) ?_
        refine e_iload_n dX3_likes_15 rfl ?_
        refine e_ishl dX3_likes_16 ?_
        refine e_iload_n dX3_likes_17 rfl ?_
        obtain ⟨fsg18, g18o, H⟩ := H
        obtain ⟨d19, k20, n21, Q22, g18, g18d, g18k, g18n, H⟩ := H
        refine e_callV (r := (RX3, TX3, 8)) (As := [.int ((1 : Int32) <<< (a1 &&& 31)), .int a3]) g18 dX3_likes_18 wX3_turned q1059 q1060 q1061 g18o rfl rfl g18d rfl (Nat.le_of_ble_eq_true rfl) (k1 := k - k5 - k20) (n1 := n - n6 - n21) (by omega) (by omega) ?_ ?_
        · rintro v h17 (⟨v9, e9, r16, e8, hq⟩ | ⟨ci9, q9, e9, -⟩)
          · cases e9
            subst e8
            replace H := H r16 h17 hq
            refine e_ior dX3_likes_21 ?_
            refine e_istore_n _ dX3_likes_22 (by decide) rfl rfl ?_
            refine e_iinc (a3 + 1) _ dX3_likes_23 rfl rfl (by decide) rfl rfl ?_
            refine e_goto 4 dX3_likes_26 (by decide) ?_
            exact E.less2 H (eS_s (eS_s (eS_s (eS_s eS_0))))
          · cases e9
        · rintro q9 h9 (⟨v9, e9, -⟩ | ⟨ci9, q8, e9, -, -, hx⟩)
          · cases e9
          · exact hx.elim
    · cases e9
  · rintro q9 h9 (⟨v9, e9, -⟩ | ⟨ci9, q8, e9, -, -, hx⟩)
    · cases e9
    · exact hx.elim
theorem en_X3_likes {l : Launch} {lo : Nat} {G : eG} {d : Nat} {P : eO → eH → Prop} (a0 : Nat) (a1 : Int32) {h : eH} {k n : Nat} (H : h_X3_likes_0 (l, lo, G, d, P) a0 a1 h k n) : Ct l lo G d mX3_likes [.ref a0, .int a1] h k n P := 
  Ct_of (eArL mX3_likes.2.2.2.1 [.ref a0, .int a1]) (by decide) rfl (Nat.le_of_ble_eq_true rfl) (fun j w q => eArL_mem j w q) (E.less2 H (eS_s (eS_s (eS_n (eS_n eS_0)))))
/-! X3_peak TroupeSums$Group.peak(I)[[J -/
def h_X3_peak_0 (c : cC) (a0 : Nat) (a1 : Int32) (h : eH) (k n : Nat) : Prop := E c.1 c.2.1 c.2.2.1 c.2.2.2.1 mX3_peak c.2.2.2.2 0 [some (.ref a0), some (.int a1), none, none, none, none, none] [] h k n
def h_X3_peak_20 (c : cC) (a0 : Nat) (a1 : Int32) (a2 : Int32) (a3 : Nat) (a4 : Int32) (h : eH) (k n : Nat) : Prop := E c.1 c.2.1 c.2.2.1 c.2.2.2.1 mX3_peak c.2.2.2.2 20 [some (.ref a0), some (.int a1), some (.int a2), some (.ref a3), some (.int a4), none, none] [] h k n
def h_X3_peak_58 (c : cC) (a0 : Nat) (a1 : Int32) (a2 : Int32) (a3 : Nat) (a4 : Int32) (a5 : Nat) (a6 : Int32) (h : eH) (k n : Nat) : Prop := E c.1 c.2.1 c.2.2.1 c.2.2.2.1 mX3_peak c.2.2.2.2 58 [some (.ref a0), some (.int a1), some (.int a2), some (.ref a3), some (.int a4), some (.ref a5), some (.int a6)] [] h k n
set_option maxHeartbeats 4000000 in
theorem s_X3_peak_0 (c : cC) (a0 : Nat) (a1 : Int32) (h : eH) (k n : Nat) (H : ∃ x1 : Nat, fV h a0 3 5 (.ref x1) ∧ (∃ fs8 : List Value, h.1 x1 = some (.inr (15, fs8)) ∧ ∃ (d6 k7 n8 : Nat) (Q9 : Int32 → eH → Prop), cI c.1 c.2.1 c.2.2.1 d6 mJ2_size [.ref x1] h k7 n8 Q9 cX0 ∧ d6 + 1 ≤ c.2.2.2.1 ∧ k7 ≤ k ∧ n8 ≤ n ∧ (∀ (r3 : Int32) (h4 : eH), Q9 r3 h4 → (∃ N12 : Nat, r3 = nI N12 ∧ N12 ≤ 10000000 ∧ 1 ≤ k - k7 ∧ N12 ≤ n - n8 ∧ ∀ h10 : eH, h10 = eNw h4 (.inl (c.2.2.1.2.1 5, N12, .inr (.inr (.inr (.inr (fun _ => none)))))) → (h_X3_peak_20 c a0 a1 r3 h4.2 (r3 - (1 : Int32)) h10 (k - k7 - 1) (n - n8 - N12)))))) : h_X3_peak_0 c a0 a1 h k n := by
  refine e_aload_n dX3_peak_0 rfl ?_
  obtain ⟨x1, ⟨fsx1, g2, g2v⟩, H⟩ := H
  refine e_get dX3_peak_1 fX3_5 q1192 g2 g2v ?_
  obtain ⟨fsg5, g5o, H⟩ := H
  obtain ⟨d6, k7, n8, Q9, g5, g5d, g5k, g5n, H⟩ := H
  refine e_callF (i := 3) (r := (RJ2, TJ2, 3)) (As := []) g5 dX3_peak_4 wJ2_size rfl rfl q871 q876 q874 g5o rfl rfl g5d rfl (Nat.le_of_ble_eq_true rfl) (k1 := k - k7) (n1 := n - n8) (by omega) (by omega) ?_ ?_
  · rintro v h4 (⟨v9, e9, r3, e8, hq⟩ | ⟨ci9, q9, e9, -⟩)
    · cases e9
      subst e8
      replace H := H r3 h4 hq
      refine e_istore_n _ dX3_peak_9 (by decide) rfl rfl ?_
      refine e_iload_n dX3_peak_10 rfl ?_
      obtain ⟨N12, g11i, g11b, g11, g11n, H⟩ := H
      refine c_anewarrayJ dX3_peak_11 q2171 q2172 g11i g11b g11 g11n ?_
      replace H := H _ rfl
      generalize eNw h4 _ = h10 at H ⊢
      refine e_astore_n _ dX3_peak_14 (by decide) rfl rfl ?_
      refine e_iload_n dX3_peak_15 rfl ?_
      refine e_iconst (1) dX3_peak_16 (by decide) ?_
      refine e_isub dX3_peak_17 ?_
      refine e_istore _ dX3_peak_18 (by decide) rfl rfl ?_
      exact E.less2 H (eS_s (eS_s (eS_s (eS_s (eS_s (eS_n (eS_n eS_0)))))))
    · cases e9
  · rintro q9 h9 (⟨v9, e9, -⟩ | ⟨ci9, q8, e9, -, -, hx⟩)
    · cases e9
    · exact hx.elim
set_option maxHeartbeats 4000000 in
theorem s_X3_peak_20 (c : cC) (a0 : Nat) (a1 : Int32) (a2 : Int32) (a3 : Nat) (a4 : Int32) (h : eH) (k n : Nat) (H : (a4 < 0 → c.2.2.2.2 (.inl (some (.ref a3))) h) ∧ (¬ a4 < 0 → ∃ N4 : Nat, (2 : Int32) = nI N4 ∧ N4 ≤ 10000000 ∧ 1 ≤ k ∧ N4 ≤ n ∧ ∀ h2 : eH, h2 = eNw h (.inl (c.2.2.1.2.1 1, N4, .inr (.inl (fun _ => 0)))) → (∃ (d8 k9 n10 : Nat) (Q11 : Int32 → eH → Prop), cI c.1 c.2.1 c.2.2.1 d8 mX0_isOf [.long a1.toInt64, .int a4] h2 k9 n10 Q11 cX0 ∧ d8 + 1 ≤ c.2.2.2.1 ∧ k9 ≤ k - 1 ∧ n10 ≤ n - N4 ∧ (∀ (r5 : Int32) (h6 : eH), Q11 r5 h6 → ((r5 = 0 → ∃ (N13 : Nat) (f14 : Nat → Int64), h6.1 h.2 = some (.inl (c.2.2.1.2.1 1, N13, .inr (.inl f14))) ∧ c.2.1 ≤ h.2 ∧ vp_in (0 : Int32) N13 ∧ ∀ h16 : eH, h16 = eUp h6 h.2 (.inl (c.2.2.1.2.1 1, N13, .inr (.inl (va_up f14 (0 : Int32).toNatClampNeg (0 : Int64))))) → (∃ (N17 : Nat) (f18 : Nat → Int64), h16.1 h.2 = some (.inl (c.2.2.1.2.1 1, N17, .inr (.inl f18))) ∧ c.2.1 ≤ h.2 ∧ vp_in (1 : Int32) N17 ∧ ∀ h20 : eH, h20 = eUp h16 h.2 (.inl (c.2.2.1.2.1 1, N17, .inr (.inl (va_up f18 (1 : Int32).toNatClampNeg (1 : Int64))))) → (h_X3_peak_58 c a0 a1 a2 a3 a4 h.2 (a4 + (1 : Int32)) h20 (k - 1 - k9) (n - N4 - n10)))) ∧ (¬ r5 = 0 → ∃ (N21 : Nat) (f22 : Nat → Int64), h6.1 h.2 = some (.inl (c.2.2.1.2.1 1, N21, .inr (.inl f22))) ∧ c.2.1 ≤ h.2 ∧ vp_in (0 : Int32) N21 ∧ ∀ h24 : eH, h24 = eUp h6 h.2 (.inl (c.2.2.1.2.1 1, N21, .inr (.inl (va_up f22 (0 : Int32).toNatClampNeg (1 : Int64))))) → (∃ (N25 : Nat) (f26 : Nat → Int64), h24.1 h.2 = some (.inl (c.2.2.1.2.1 1, N25, .inr (.inl f26))) ∧ c.2.1 ≤ h.2 ∧ vp_in (1 : Int32) N25 ∧ ∀ h28 : eH, h28 = eUp h24 h.2 (.inl (c.2.2.1.2.1 1, N25, .inr (.inl (va_up f26 (1 : Int32).toNatClampNeg (1 : Int64))))) → (h_X3_peak_58 c a0 a1 a2 a3 a4 h.2 (a4 + (1 : Int32)) h28 (k - 1 - k9) (n - N4 - n10))))))))) : h_X3_peak_20 c a0 a1 a2 a3 a4 h k n := by
  refine e_iload dX3_peak_20 rfl ?_
  refine e_if_lt 135 dX3_peak_22 (by decide) (fun g1 => ?_) (fun g1 => ?_)
  · replace H := H.1 g1
    refine e_aload_n dX3_peak_135 rfl ?_
    exact e_areturn (r := some a3) _ dX3_peak_136 rfl (Or.inr ⟨_, rfl⟩) H
  · replace H := H.2 g1
    refine e_iconst (2) dX3_peak_25 (by decide) ?_
    obtain ⟨N4, g3i, g3b, g3, g3n, H⟩ := H
    refine c_newarrayJ dX3_peak_26 q1234 g3i g3b g3 g3n ?_
    replace H := H _ rfl
    generalize eNw h _ = h2 at H ⊢
    refine e_dup dX3_peak_28 rfl ?_
    refine e_iconst (0) dX3_peak_29 (by decide) ?_
    refine e_iload_n dX3_peak_30 rfl ?_
    refine e_i2l dX3_peak_31 ?_
    refine e_iload dX3_peak_32 rfl ?_
    obtain ⟨d8, k9, n10, Q11, g7, g7d, g7k, g7n, H⟩ := H
    refine e_callSN (As := [.long a1.toInt64, .int a4]) g7 dX3_peak_34 wX0_isOf rfl q936 q937 rfl g7d rfl (Nat.le_of_ble_eq_true rfl) (k1 := k - 1 - k9) (n1 := n - N4 - n10) (by omega) (by omega) ?_ ?_
    · rintro v h6 (⟨v9, e9, r5, e8, hq⟩ | ⟨ci9, q9, e9, -⟩)
      · cases e9
        subst e8
        replace H := H r5 h6 hq
        refine e_if_eq 44 dX3_peak_37 (by decide) (fun g12 => ?_) (fun g12 => ?_)
        · replace H := H.1 g12
          refine e_lconst 0 dX3_peak_44 (by decide) ?_
          obtain ⟨N13, f14, g15, g15l, g15i, H⟩ := H
          refine e_lastore dX3_peak_45 g15 g15l g15i ?_
          replace H := H _ rfl
          generalize eUp h6 h.2 _ = h16 at H ⊢
          refine e_dup dX3_peak_46 rfl ?_
          refine e_iconst (1) dX3_peak_47 (by decide) ?_
          refine e_lconst 1 dX3_peak_48 (by decide) ?_
          obtain ⟨N17, f18, g19, g19l, g19i, H⟩ := H
          refine e_lastore dX3_peak_49 g19 g19l g19i ?_
          replace H := H _ rfl
          generalize eUp h16 h.2 _ = h20 at H ⊢
          refine e_astore _ dX3_peak_50 (by decide) rfl rfl ?_
          refine e_iload dX3_peak_52 rfl ?_
          refine e_iconst (1) dX3_peak_54 (by decide) ?_
          refine e_iadd dX3_peak_55 ?_
          refine e_istore _ dX3_peak_56 (by decide) rfl rfl ?_
          exact E.less2 H (eS_s (eS_s (eS_s (eS_s (eS_s (eS_s (eS_s eS_0)))))))
        · replace H := H.2 g12
          refine e_lconst 1 dX3_peak_40 (by decide) ?_
          refine e_goto 45 dX3_peak_41 (by decide) ?_
          obtain ⟨N21, f22, g23, g23l, g23i, H⟩ := H
          refine e_lastore dX3_peak_45 g23 g23l g23i ?_
          replace H := H _ rfl
          generalize eUp h6 h.2 _ = h24 at H ⊢
          refine e_dup dX3_peak_46 rfl ?_
          refine e_iconst (1) dX3_peak_47 (by decide) ?_
          refine e_lconst 1 dX3_peak_48 (by decide) ?_
          obtain ⟨N25, f26, g27, g27l, g27i, H⟩ := H
          refine e_lastore dX3_peak_49 g27 g27l g27i ?_
          replace H := H _ rfl
          generalize eUp h24 h.2 _ = h28 at H ⊢
          refine e_astore _ dX3_peak_50 (by decide) rfl rfl ?_
          refine e_iload dX3_peak_52 rfl ?_
          refine e_iconst (1) dX3_peak_54 (by decide) ?_
          refine e_iadd dX3_peak_55 ?_
          refine e_istore _ dX3_peak_56 (by decide) rfl rfl ?_
          exact E.less2 H (eS_s (eS_s (eS_s (eS_s (eS_s (eS_s (eS_s eS_0)))))))
      · cases e9
    · rintro q9 h9 (⟨v9, e9, -⟩ | ⟨ci9, q8, e9, -, -, hx⟩)
      · cases e9
      · exact hx.elim
set_option maxHeartbeats 4000000 in
theorem s_X3_peak_58 (c : cC) (a0 : Nat) (a1 : Int32) (a2 : Int32) (a3 : Nat) (a4 : Int32) (a5 : Nat) (a6 : Int32) (h : eH) (k n : Nat) (H : (a2 ≤ a6 → ∃ (N2 : Nat) (f3 : Nat → Int64), h.1 a5 = some (.inl (c.2.2.1.2.1 1, N2, .inr (.inl f3))) ∧ vp_in (0 : Int32) N2 ∧ (∃ (N5 : Nat) (f6 : Nat → Int64), h.1 a5 = some (.inl (c.2.2.1.2.1 1, N5, .inr (.inl f6))) ∧ vp_in (1 : Int32) N5 ∧ (∃ x8 : Nat, fV h a0 3 7 (.ref x8) ∧ (∃ (N10 : Nat) (f11 : Nat → Option Nat), h.1 x8 = some (.inl (c.2.2.1.2.1 4, N10, .inr (.inr (.inr (.inr f11))))) ∧ vp_in a4 N10 ∧ ∃ r13 : Nat, f11 a4.toNatClampNeg = some r13 ∧ (∃ (N14 : Nat) (f15 : Nat → Int32), h.1 r13 = some (.inl (c.2.2.1.2.1 0, N14, .inl f15)) ∧ vp_in a4 N14 ∧ (∃ (d20 k21 n22 : Nat) (Q23 : Nat → eH → Prop), cR c.1 c.2.1 c.2.2.1 d20 mX3_lowest [.long (f3 (0 : Int32).toNatClampNeg), .long ((f6 (1 : Int32).toNatClampNeg) * ((f15 a4.toNatClampNeg).toInt64))] h k21 n22 Q23 cX0 ∧ d20 + 1 ≤ c.2.2.2.1 ∧ k21 ≤ k ∧ n22 ≤ n ∧ (∀ (r17 : Nat) (h18 : eH), Q23 r17 h18 → (∃ va : vp_A, h18.1 r17 = some (.inl (c.2.2.1.2.1 1, va)) ∧ ∃ (N24 : Nat) (f25 : Nat → Option Nat), h18.1 a3 = some (.inl (c.2.2.1.2.1 5, N24, .inr (.inr (.inr (.inr f25))))) ∧ c.2.1 ≤ a3 ∧ vp_in a4 N24 ∧ ∀ h27 : eH, h27 = eUp h18 a3 (.inl (c.2.2.1.2.1 5, N24, .inr (.inr (.inr (.inr (va_up f25 a4.toNatClampNeg (some r17))))))) → (h_X3_peak_20 c a0 a1 a2 a3 (a4 + (-1)) h27 (k - k21) (n - n22)))))))))) ∧ (¬ a2 ≤ a6 → ∃ (N28 : Nat) (f29 : Nat → Option Nat), h.1 a3 = some (.inl (c.2.2.1.2.1 5, N28, .inr (.inr (.inr (.inr f29))))) ∧ vp_in a6 N28 ∧ ∃ r31 : Nat, f29 a6.toNatClampNeg = some r31 ∧ (∃ (N32 : Nat) (f33 : Nat → Int64), h.1 r31 = some (.inl (c.2.2.1.2.1 1, N32, .inr (.inl f33))) ∧ vp_in (0 : Int32) N32 ∧ (∃ x35 : Nat, fV h a0 3 7 (.ref x35) ∧ (∃ (N37 : Nat) (f38 : Nat → Option Nat), h.1 x35 = some (.inl (c.2.2.1.2.1 4, N37, .inr (.inr (.inr (.inr f38))))) ∧ vp_in a6 N37 ∧ ∃ r40 : Nat, f38 a6.toNatClampNeg = some r40 ∧ (∃ (N41 : Nat) (f42 : Nat → Int32), h.1 r40 = some (.inl (c.2.2.1.2.1 0, N41, .inl f42)) ∧ vp_in a4 N41 ∧ (∃ (N44 : Nat) (f45 : Nat → Option Nat), h.1 a3 = some (.inl (c.2.2.1.2.1 5, N44, .inr (.inr (.inr (.inr f45))))) ∧ vp_in a6 N44 ∧ ∃ r47 : Nat, f45 a6.toNatClampNeg = some r47 ∧ (∃ (N48 : Nat) (f49 : Nat → Int64), h.1 r47 = some (.inl (c.2.2.1.2.1 1, N48, .inr (.inl f49))) ∧ vp_in (1 : Int32) N48 ∧ (∃ (d54 k55 n56 : Nat) (Q57 : Nat → eH → Prop), cR c.1 c.2.1 c.2.2.1 d54 mX3_sum [.ref a5, .long ((-(f33 (0 : Int32).toNatClampNeg)) * ((f42 a4.toNatClampNeg).toInt64)), .long (f49 (1 : Int32).toNatClampNeg)] h k55 n56 Q57 cX0 ∧ d54 + 1 ≤ c.2.2.2.1 ∧ k55 ≤ k ∧ n56 ≤ n ∧ (∀ (r51 : Nat) (h52 : eH), Q57 r51 h52 → (h_X3_peak_58 c a0 a1 a2 a3 a4 r51 (a6 + 1) h52 (k - k55) (n - n56)))))))))))) : h_X3_peak_58 c a0 a1 a2 a3 a4 a5 a6 h k n := by
  refine e_iload dX3_peak_58 rfl ?_
  refine e_iload_n dX3_peak_60 rfl ?_
  refine e_icmp_ge 102 dX3_peak_61 (by decide) (fun g1 => ?_) (fun g1 => ?_)
  · replace H := H.1 g1
    refine e_aload_n dX3_peak_102 rfl ?_
    refine e_iload dX3_peak_103 rfl ?_
    refine e_aload dX3_peak_105 rfl ?_
    refine e_iconst (0) dX3_peak_107 (by decide) ?_
    obtain ⟨N2, f3, g4, g4i, H⟩ := H
    refine e_laload dX3_peak_108 g4 g4i ?_
    refine e_aload dX3_peak_109 rfl ?_
    refine e_iconst (1) dX3_peak_111 (by decide) ?_
    obtain ⟨N5, f6, g7, g7i, H⟩ := H
    refine e_laload dX3_peak_112 g7 g7i ?_
    refine e_aload_n dX3_peak_113 rfl ?_
    obtain ⟨x8, ⟨fsx8, g9, g9v⟩, H⟩ := H
    refine e_get dX3_peak_114 fX3_7 q1197 g9 g9v ?_
    refine e_iload dX3_peak_117 rfl ?_
    obtain ⟨N10, f11, g12, g12i, r13, g12r, H⟩ := H
    refine e_aaload 4 dX3_peak_119 (fun _ => rfl) rfl g12 g12i ?_
    rw [g12r]
    refine e_iload dX3_peak_120 rfl ?_
    obtain ⟨N14, f15, g16, g16i, H⟩ := H
    refine e_iaload dX3_peak_122 g16 g16i ?_
    refine e_i2l dX3_peak_123 ?_
    refine e_lmul dX3_peak_124 ?_
    obtain ⟨d20, k21, n22, Q23, g19, g19d, g19k, g19n, H⟩ := H
    refine e_callS (As := [.long (f3 (0 : Int32).toNatClampNeg), .long ((f6 (1 : Int32).toNatClampNeg) * ((f15 a4.toNatClampNeg).toInt64))]) g19 dX3_peak_125 wX3_lowest q2176 q2177 rfl g19d rfl (Nat.le_of_ble_eq_true rfl) (k1 := k - k21) (n1 := n - n22) (by omega) (by omega) ?_ ?_
    · rintro v h18 (⟨v9, e9, r17, e8, hq⟩ | ⟨ci9, q9, e9, -⟩)
      · cases e9
        subst e8
        replace H := H r17 h18 hq
        obtain ⟨vag26, g26v, H⟩ := H
        obtain ⟨N24, f25, g26, g26l, g26i, H⟩ := H
        refine e_aastoreJ dX3_peak_128 q2172 g26 g26l g26v g26i ?_
        replace H := H _ rfl
        generalize eUp h18 a3 _ = h27 at H ⊢
        refine e_iinc (a4 + (-1)) _ dX3_peak_129 rfl rfl (by decide) rfl rfl ?_
        refine e_goto 20 dX3_peak_132 (by decide) ?_
        exact E.less2 H (eS_s (eS_s (eS_s (eS_s (eS_s (eS_n (eS_n eS_0)))))))
      · cases e9
    · rintro q9 h9 (⟨v9, e9, -⟩ | ⟨ci9, q8, e9, -, -, hx⟩)
      · cases e9
      · exact hx.elim
  · replace H := H.2 g1
    refine e_aload dX3_peak_64 rfl ?_
    refine e_aload_n dX3_peak_66 rfl ?_
    refine e_iload dX3_peak_67 rfl ?_
    obtain ⟨N28, f29, g30, g30i, r31, g30r, H⟩ := H
    refine e_aaload 5 dX3_peak_69 (fun _ => rfl) rfl g30 g30i ?_
    rw [g30r]
    refine e_iconst (0) dX3_peak_70 (by decide) ?_
    obtain ⟨N32, f33, g34, g34i, H⟩ := H
    refine e_laload dX3_peak_71 g34 g34i ?_
    refine e_lneg dX3_peak_72 ?_
    refine e_aload_n dX3_peak_73 rfl ?_
    obtain ⟨x35, ⟨fsx35, g36, g36v⟩, H⟩ := H
    refine e_get dX3_peak_74 fX3_7 q1197 g36 g36v ?_
    refine e_iload dX3_peak_77 rfl ?_
    obtain ⟨N37, f38, g39, g39i, r40, g39r, H⟩ := H
    refine e_aaload 4 dX3_peak_79 (fun _ => rfl) rfl g39 g39i ?_
    rw [g39r]
    refine e_iload dX3_peak_80 rfl ?_
    obtain ⟨N41, f42, g43, g43i, H⟩ := H
    refine e_iaload dX3_peak_82 g43 g43i ?_
    refine e_i2l dX3_peak_83 ?_
    refine e_lmul dX3_peak_84 ?_
    refine e_aload_n dX3_peak_85 rfl ?_
    refine e_iload dX3_peak_86 rfl ?_
    obtain ⟨N44, f45, g46, g46i, r47, g46r, H⟩ := H
    refine e_aaload 5 dX3_peak_88 (fun _ => rfl) rfl g46 g46i ?_
    rw [g46r]
    refine e_iconst (1) dX3_peak_89 (by decide) ?_
    obtain ⟨N48, f49, g50, g50i, H⟩ := H
    refine e_laload dX3_peak_90 g50 g50i ?_
    obtain ⟨d54, k55, n56, Q57, g53, g53d, g53k, g53n, H⟩ := H
    refine e_callS (As := [.ref a5, .long ((-(f33 (0 : Int32).toNatClampNeg)) * ((f42 a4.toNatClampNeg).toInt64)), .long (f49 (1 : Int32).toNatClampNeg)]) g53 dX3_peak_91 wX3_sum q2173 q2174 rfl g53d rfl (Nat.le_of_ble_eq_true rfl) (k1 := k - k55) (n1 := n - n56) (by omega) (by omega) ?_ ?_
    · rintro v h52 (⟨v9, e9, r51, e8, hq⟩ | ⟨ci9, q9, e9, -⟩)
      · cases e9
        subst e8
        replace H := H r51 h52 hq
        refine e_astore _ dX3_peak_94 (by decide) rfl rfl ?_
        refine e_iinc (a6 + 1) _ dX3_peak_96 rfl rfl (by decide) rfl rfl ?_
        refine e_goto 58 dX3_peak_99 (by decide) ?_
        exact E.less2 H (eS_s (eS_s (eS_s (eS_s (eS_s (eS_s (eS_s eS_0)))))))
      · cases e9
    · rintro q9 h9 (⟨v9, e9, -⟩ | ⟨ci9, q8, e9, -, -, hx⟩)
      · cases e9
      · exact hx.elim
theorem en_X3_peak {l : Launch} {lo : Nat} {G : eG} {d : Nat} {P : eO → eH → Prop} (a0 : Nat) (a1 : Int32) {h : eH} {k n : Nat} (H : h_X3_peak_0 (l, lo, G, d, P) a0 a1 h k n) : Ct l lo G d mX3_peak [.ref a0, .int a1] h k n P := 
  Ct_of (eArL mX3_peak.2.2.2.1 [.ref a0, .int a1]) (by decide) rfl (Nat.le_of_ble_eq_true rfl) (fun j w q => eArL_mem j w q) (E.less2 H (eS_s (eS_s (eS_n (eS_n (eS_n (eS_n (eS_n eS_0))))))))
/-! X3_sum TroupeSums$Group.sum([JJJ)[J -/
def h_X3_sum_0 (c : cC) (a0 : Nat) (a1 : Int64) (a3 : Int64) (h : eH) (k n : Nat) : Prop := E c.1 c.2.1 c.2.2.1 c.2.2.2.1 mX3_sum c.2.2.2.2 0 [some (.ref a0), some (.long a1), none, some (.long a3), none] [] h k n
set_option maxHeartbeats 4000000 in
theorem s_X3_sum_0 (c : cC) (a0 : Nat) (a1 : Int64) (a3 : Int64) (h : eH) (k n : Nat) (H : ∃ (N1 : Nat) (f2 : Nat → Int64), h.1 a0 = some (.inl (c.2.2.1.2.1 1, N1, .inr (.inl f2))) ∧ vp_in (0 : Int32) N1 ∧ (∃ (N4 : Nat) (f5 : Nat → Int64), h.1 a0 = some (.inl (c.2.2.1.2.1 1, N4, .inr (.inl f5))) ∧ vp_in (1 : Int32) N4 ∧ (∃ (N7 : Nat) (f8 : Nat → Int64), h.1 a0 = some (.inl (c.2.2.1.2.1 1, N7, .inr (.inl f8))) ∧ vp_in (1 : Int32) N7 ∧ (∃ (d13 k14 n15 : Nat) (Q16 : Nat → eH → Prop), cR c.1 c.2.1 c.2.2.1 d13 mX3_lowest [.long (((f2 (0 : Int32).toNatClampNeg) * a3) + (a1 * (f5 (1 : Int32).toNatClampNeg))), .long ((f8 (1 : Int32).toNatClampNeg) * a3)] h k14 n15 Q16 cX0 ∧ d13 + 1 ≤ c.2.2.2.1 ∧ k14 ≤ k ∧ n15 ≤ n ∧ (∀ (r10 : Nat) (h11 : eH), Q16 r10 h11 → (c.2.2.2.2 (.inl (some (.ref r10))) h11)))))) : h_X3_sum_0 c a0 a1 a3 h k n := by
  refine e_aload_n dX3_sum_0 rfl ?_
  refine e_iconst (0) dX3_sum_1 (by decide) ?_
  obtain ⟨N1, f2, g3, g3i, H⟩ := H
  refine e_laload dX3_sum_2 g3 g3i ?_
  refine e_lload_n dX3_sum_3 rfl ?_
  refine e_lmul dX3_sum_4 ?_
  refine e_lload_n dX3_sum_5 rfl ?_
  refine e_aload_n dX3_sum_6 rfl ?_
  refine e_iconst (1) dX3_sum_7 (by decide) ?_
  obtain ⟨N4, f5, g6, g6i, H⟩ := H
  refine e_laload dX3_sum_8 g6 g6i ?_
  refine e_lmul dX3_sum_9 ?_
  refine e_ladd dX3_sum_10 ?_
  refine e_aload_n dX3_sum_11 rfl ?_
  refine e_iconst (1) dX3_sum_12 (by decide) ?_
  obtain ⟨N7, f8, g9, g9i, H⟩ := H
  refine e_laload dX3_sum_13 g9 g9i ?_
  refine e_lload_n dX3_sum_14 rfl ?_
  refine e_lmul dX3_sum_15 ?_
  obtain ⟨d13, k14, n15, Q16, g12, g12d, g12k, g12n, H⟩ := H
  refine e_callS (As := [.long (((f2 (0 : Int32).toNatClampNeg) * a3) + (a1 * (f5 (1 : Int32).toNatClampNeg))), .long ((f8 (1 : Int32).toNatClampNeg) * a3)]) g12 dX3_sum_16 wX3_lowest q2176 q2177 rfl g12d rfl (Nat.le_of_ble_eq_true rfl) (k1 := k - k14) (n1 := n - n15) (by omega) (by omega) ?_ ?_
  · rintro v h11 (⟨v9, e9, r10, e8, hq⟩ | ⟨ci9, q9, e9, -⟩)
    · cases e9
      subst e8
      replace H := H r10 h11 hq
      exact e_areturn (r := some r10) _ dX3_sum_19 rfl (Or.inr ⟨_, rfl⟩) H
    · cases e9
  · rintro q9 h9 (⟨v9, e9, -⟩ | ⟨ci9, q8, e9, -, -, hx⟩)
    · cases e9
    · exact hx.elim
theorem en_X3_sum {l : Launch} {lo : Nat} {G : eG} {d : Nat} {P : eO → eH → Prop} (a0 : Nat) (a1 : Int64) (a3 : Int64) {h : eH} {k n : Nat} (H : h_X3_sum_0 (l, lo, G, d, P) a0 a1 a3 h k n) : Ct l lo G d mX3_sum [.ref a0, .long a1, .long a3] h k n P := 
  Ct_of (eArL mX3_sum.2.2.2.1 [.ref a0, .long a1, .long a3]) (by decide) rfl (Nat.le_of_ble_eq_true rfl) (fun j w q => eArL_mem j w q) (E.less2 H (eS_s (eS_s (eS_n (eS_s (eS_n eS_0))))))
/-! X3_lowest TroupeSums$Group.lowest(JJ)[J -/
def h_X3_lowest_0 (c : cC) (a0 : Int64) (a2 : Int64) (h : eH) (k n : Nat) : Prop := E c.1 c.2.1 c.2.2.1 c.2.2.2.1 mX3_lowest c.2.2.2.2 0 [some (.long a0), none, some (.long a2), none, none, none] [] h k n
set_option maxHeartbeats 4000000 in
theorem s_X3_lowest_0 (c : cC) (a0 : Int64) (a2 : Int64) (h : eH) (k n : Nat) (H : ∃ (d4 k5 n6 : Nat) (Q7 : Int64 → eH → Prop), cL c.1 c.2.1 c.2.2.1 d4 mX0_common [.long a0, .long a2] h k5 n6 Q7 cX0 ∧ d4 + 1 ≤ c.2.2.2.1 ∧ k5 ≤ k ∧ n6 ≤ n ∧ (∀ (r1 : Int64) (h2 : eH), Q7 r1 h2 → (∃ N10 : Nat, (2 : Int32) = nI N10 ∧ N10 ≤ 10000000 ∧ 1 ≤ k - k5 ∧ N10 ≤ n - n6 ∧ ∀ h8 : eH, h8 = eNw h2 (.inl (c.2.2.1.2.1 1, N10, .inr (.inl (fun _ => 0)))) → (¬ r1 = 0 ∧ (∃ (N12 : Nat) (f13 : Nat → Int64), h8.1 h2.2 = some (.inl (c.2.2.1.2.1 1, N12, .inr (.inl f13))) ∧ c.2.1 ≤ h2.2 ∧ vp_in (0 : Int32) N12 ∧ ∀ h15 : eH, h15 = eUp h8 h2.2 (.inl (c.2.2.1.2.1 1, N12, .inr (.inl (va_up f13 (0 : Int32).toNatClampNeg (a0 / r1))))) → (¬ r1 = 0 ∧ (∃ (N17 : Nat) (f18 : Nat → Int64), h15.1 h2.2 = some (.inl (c.2.2.1.2.1 1, N17, .inr (.inl f18))) ∧ c.2.1 ≤ h2.2 ∧ vp_in (1 : Int32) N17 ∧ ∀ h20 : eH, h20 = eUp h15 h2.2 (.inl (c.2.2.1.2.1 1, N17, .inr (.inl (va_up f18 (1 : Int32).toNatClampNeg (a2 / r1))))) → (c.2.2.2.2 (.inl (some (.ref h2.2))) h20)))))))) : h_X3_lowest_0 c a0 a2 h k n := by
  refine e_lload_n dX3_lowest_0 rfl ?_
  refine e_lload_n dX3_lowest_1 rfl ?_
  obtain ⟨d4, k5, n6, Q7, g3, g3d, g3k, g3n, H⟩ := H
  refine e_callSN (As := [.long a0, .long a2]) g3 dX3_lowest_2 wX0_common rfl q2179 q2180 rfl g3d rfl (Nat.le_of_ble_eq_true rfl) (k1 := k - k5) (n1 := n - n6) (by omega) (by omega) ?_ ?_
  · rintro v h2 (⟨v9, e9, r1, e8, hq⟩ | ⟨ci9, q9, e9, -⟩)
    · cases e9
      subst e8
      replace H := H r1 h2 hq
      refine e_lstore _ dX3_lowest_5 (by decide) trivial rfl ?_
      refine e_iconst (2) dX3_lowest_7 (by decide) ?_
      obtain ⟨N10, g9i, g9b, g9, g9n, H⟩ := H
      refine c_newarrayJ dX3_lowest_8 q1234 g9i g9b g9 g9n ?_
      replace H := H _ rfl
      generalize eNw h2 _ = h8 at H ⊢
      refine e_dup dX3_lowest_10 rfl ?_
      refine e_iconst (0) dX3_lowest_11 (by decide) ?_
      refine e_lload_n dX3_lowest_12 rfl ?_
      refine e_lload dX3_lowest_13 rfl ?_
      obtain ⟨g11, H⟩ := H
      refine e_ldiv dX3_lowest_15 g11 ?_
      obtain ⟨N12, f13, g14, g14l, g14i, H⟩ := H
      refine e_lastore dX3_lowest_16 g14 g14l g14i ?_
      replace H := H _ rfl
      generalize eUp h8 h2.2 _ = h15 at H ⊢
      refine e_dup dX3_lowest_17 rfl ?_
      refine e_iconst (1) dX3_lowest_18 (by decide) ?_
      refine e_lload_n dX3_lowest_19 rfl ?_
      refine e_lload dX3_lowest_20 rfl ?_
      obtain ⟨g16, H⟩ := H
      refine e_ldiv dX3_lowest_22 g16 ?_
      obtain ⟨N17, f18, g19, g19l, g19i, H⟩ := H
      refine e_lastore dX3_lowest_23 g19 g19l g19i ?_
      replace H := H _ rfl
      generalize eUp h15 h2.2 _ = h20 at H ⊢
      exact e_areturn (r := some h2.2) _ dX3_lowest_24 rfl (Or.inr ⟨_, rfl⟩) H
    · cases e9
  · rintro q9 h9 (⟨v9, e9, -⟩ | ⟨ci9, q8, e9, -, -, hx⟩)
    · cases e9
    · exact hx.elim
theorem en_X3_lowest {l : Launch} {lo : Nat} {G : eG} {d : Nat} {P : eO → eH → Prop} (a0 : Int64) (a2 : Int64) {h : eH} {k n : Nat} (H : h_X3_lowest_0 (l, lo, G, d, P) a0 a2 h k n) : Ct l lo G d mX3_lowest [.long a0, .long a2] h k n P := 
  Ct_of (eArL mX3_lowest.2.2.2.1 [.long a0, .long a2]) (by decide) rfl (Nat.le_of_ble_eq_true rfl) (fun j w q => eArL_mem j w q) (E.less2 H (eS_s (eS_n (eS_s (eS_n (eS_n (eS_n eS_0)))))))
/-! X3_congruence TroupeSums$Group.congruence([JI)J -/
def h_X3_congruence_0 (c : cC) (a0 : Nat) (a1 : Nat) (a2 : Int32) (h : eH) (k n : Nat) : Prop := E c.1 c.2.1 c.2.2.1 c.2.2.2.1 mX3_congruence c.2.2.2.2 0 [some (.ref a0), some (.ref a1), some (.int a2), none, none, none, none] [] h k n
def h_X3_congruence_23 (c : cC) (a0 : Nat) (a1 : Nat) (a2 : Int32) (a3 : Int32) (a4 : Int64) (a6 : Int32) (h : eH) (k n : Nat) : Prop := E c.1 c.2.1 c.2.2.1 c.2.2.2.1 mX3_congruence c.2.2.2.2 23 [some (.ref a0), some (.ref a1), some (.int a2), some (.int a3), some (.long a4), none, some (.int a6)] [] h k n
set_option maxHeartbeats 4000000 in
theorem s_X3_congruence_0 (c : cC) (a0 : Nat) (a1 : Nat) (a2 : Int32) (h : eH) (k n : Nat) (H : ∃ x1 : Nat, fV h a0 3 5 (.ref x1) ∧ (∃ fs8 : List Value, h.1 x1 = some (.inr (15, fs8)) ∧ ∃ (d6 k7 n8 : Nat) (Q9 : Nat → eH → Prop), cR c.1 c.2.1 c.2.2.1 d6 mJ2_get [.ref x1, .int a2] h k7 n8 Q9 cX0 ∧ d6 + 1 ≤ c.2.2.2.1 ∧ k7 ≤ k ∧ n8 ≤ n ∧ (∀ (r3 : Nat) (h4 : eH), Q9 r3 h4 → (eCs c.2.2.1 h4 r3 "TroupeSums$Sort" ∧ (∃ x11 : Int32, fV h4 r3 5 1 (.int x11) ∧ (h_X3_congruence_23 c a0 a1 a2 x11 (0 : Int64) (0 : Int32) h4 (k - k7) (n - n8))))))) : h_X3_congruence_0 c a0 a1 a2 h k n := by
  refine e_aload_n dX3_congruence_0 rfl ?_
  obtain ⟨x1, ⟨fsx1, g2, g2v⟩, H⟩ := H
  refine e_get dX3_congruence_1 fX3_5 q1192 g2 g2v ?_
  refine e_iload_n dX3_congruence_4 rfl ?_
  obtain ⟨fsg5, g5o, H⟩ := H
  obtain ⟨d6, k7, n8, Q9, g5, g5d, g5k, g5n, H⟩ := H
  refine e_callF (i := 4) (r := (RJ2, TJ2, 3)) (As := [.int a2]) g5 dX3_congruence_5 wJ2_get rfl rfl q882 q887 q885 g5o rfl rfl g5d rfl (Nat.le_of_ble_eq_true rfl) (k1 := k - k7) (n1 := n - n8) (by omega) (by omega) ?_ ?_
  · rintro v h4 (⟨v9, e9, r3, e8, hq⟩ | ⟨ci9, q9, e9, -⟩)
    · cases e9
      subst e8
      replace H := H r3 h4 hq
      obtain ⟨g10, H⟩ := H
      refine c_castR dX3_congruence_10 q1064 g10 ?_
      obtain ⟨x11, ⟨fsx11, g12, g12v⟩, H⟩ := H
      refine e_getN dX3_congruence_13 fX5_1 q1081 g12 g12v ?_
      refine e_istore_n _ dX3_congruence_16 (by decide) rfl rfl ?_
      refine e_lconst 0 dX3_congruence_17 (by decide) ?_
      refine e_lstore _ dX3_congruence_18 (by decide) rfl rfl ?_
      refine e_iconst (0) dX3_congruence_20 (by decide) ?_
      refine e_istore _ dX3_congruence_21 (by decide) trivial rfl ?_
      exact E.less2 H (eS_s (eS_s (eS_s (eS_s (eS_s (eS_n (eS_s eS_0)))))))
    · cases e9
  · rintro q9 h9 (⟨v9, e9, -⟩ | ⟨ci9, q8, e9, -, -, hx⟩)
    · cases e9
    · exact hx.elim
set_option maxHeartbeats 4000000 in
theorem s_X3_congruence_23 (c : cC) (a0 : Nat) (a1 : Nat) (a2 : Int32) (a3 : Int32) (a4 : Int64) (a6 : Int32) (h : eH) (k n : Nat) (H : ∃ fs8 : List Value, h.1 a0 = some (.inr (3, fs8)) ∧ ∃ (d4 k5 n6 : Nat) (Q7 : Int32 → eH → Prop), cI c.1 c.2.1 c.2.2.1 d4 mX3_size [.ref a0] h k5 n6 Q7 cX0 ∧ d4 + 1 ≤ c.2.2.2.1 ∧ k5 ≤ k ∧ n6 ≤ n ∧ (∀ (r1 : Int32) (h2 : eH), Q7 r1 h2 → ((r1 ≤ a6 → ∃ x9 : Nat, fV h2 a0 3 5 (.ref x9) ∧ (∃ fs8 : List Value, h2.1 x9 = some (.inr (15, fs8)) ∧ ∃ (d14 k15 n16 : Nat) (Q17 : Nat → eH → Prop), cR c.1 c.2.1 c.2.2.1 d14 mJ2_get [.ref x9, .int a2] h2 k15 n16 Q17 cX0 ∧ d14 + 1 ≤ c.2.2.2.1 ∧ k15 ≤ k - k5 ∧ n16 ≤ n - n6 ∧ (∀ (r11 : Nat) (h12 : eH), Q17 r11 h12 → (eCs c.2.2.1 h12 r11 "TroupeSums$Sort" ∧ (∃ x19 : Int32, fV h12 r11 5 0 (.int x19) ∧ (¬ x19.toInt64 = 0 ∧ (c.2.2.2.2 (.inl (some (.long (a4 / x19.toInt64)))) h12))))))) ∧ (¬ r1 ≤ a6 → ∃ x22 : Nat, fV h2 a0 3 5 (.ref x22) ∧ (∃ fs8 : List Value, h2.1 x22 = some (.inr (15, fs8)) ∧ ∃ (d27 k28 n29 : Nat) (Q30 : Nat → eH → Prop), cR c.1 c.2.1 c.2.2.1 d27 mJ2_get [.ref x22, .int a2] h2 k28 n29 Q30 cX0 ∧ d27 + 1 ≤ c.2.2.2.1 ∧ k28 ≤ k - k5 ∧ n29 ≤ n - n6 ∧ (∀ (r24 : Nat) (h25 : eH), Q30 r24 h25 → (eCs c.2.2.1 h25 r24 "TroupeSums$Sort" ∧ (∃ x32 : Int32, fV h25 r24 5 3 (.int x32) ∧ (∃ (d37 k38 n39 : Nat) (Q40 : Int32 → eH → Prop), cI c.1 c.2.1 c.2.2.1 d37 mX0_isOf [.long x32.toInt64, .int a6] h25 k38 n39 Q40 cX0 ∧ d37 + 1 ≤ c.2.2.2.1 ∧ k38 ≤ k - k5 - k28 ∧ n39 ≤ n - n6 - n29 ∧ (∀ (r34 : Int32) (h35 : eH), Q40 r34 h35 → ((r34 = 0 → h_X3_congruence_23 c a0 a1 a2 a3 (a4 + (0 : Int64)) (a6 + 1) h35 (k - k5 - k28 - k38) (n - n6 - n29 - n39)) ∧ (¬ r34 = 0 → ∃ fs8 : List Value, h35.1 a0 = some (.inr (3, fs8)) ∧ ∃ (d45 k46 n47 : Nat) (Q48 : Int32 → eH → Prop), cI c.1 c.2.1 c.2.2.1 d45 mX3_made [.ref a0, .int (a3 ||| ((1 : Int32) <<< (a6 &&& 31)))] h35 k46 n47 Q48 cX0 ∧ d45 + 1 ≤ c.2.2.2.1 ∧ k46 ≤ k - k5 - k28 - k38 ∧ n47 ≤ n - n6 - n29 - n39 ∧ (∀ (r42 : Int32) (h43 : eH), Q48 r42 h43 → (∃ fs8 : List Value, h43.1 a0 = some (.inr (3, fs8)) ∧ ∃ (d52 k53 n54 : Nat) (Q55 : Int32 → eH → Prop), cI c.1 c.2.1 c.2.2.1 d52 mX3_sortOf [.ref a0, .int r42] h43 k53 n54 Q55 cX0 ∧ d52 + 1 ≤ c.2.2.2.1 ∧ k53 ≤ k - k5 - k28 - k38 - k46 ∧ n54 ≤ n - n6 - n29 - n39 - n47 ∧ (∀ (r49 : Int32) (h50 : eH), Q55 r49 h50 → (∃ (N56 : Nat) (f57 : Nat → Int64), h50.1 a1 = some (.inl (c.2.2.1.2.1 1, N56, .inr (.inl f57))) ∧ vp_in r49 N56 ∧ (h_X3_congruence_23 c a0 a1 a2 a3 (a4 + (f57 r49.toNatClampNeg)) (a6 + 1) h50 (k - k5 - k28 - k38 - k46 - k53) (n - n6 - n29 - n39 - n47 - n54)))))))))))))))))) : h_X3_congruence_23 c a0 a1 a2 a3 a4 a6 h k n := by
  refine e_iload dX3_congruence_23 rfl ?_
  refine e_aload_n dX3_congruence_25 rfl ?_
  obtain ⟨fsg3, g3o, H⟩ := H
  obtain ⟨d4, k5, n6, Q7, g3, g3d, g3k, g3n, H⟩ := H
  refine e_callV (r := (RX3, TX3, 8)) (As := []) g3 dX3_congruence_26 wX3_size q928 q929 q930 g3o rfl rfl g3d rfl (Nat.le_of_ble_eq_true rfl) (k1 := k - k5) (n1 := n - n6) (by omega) (by omega) ?_ ?_
  · rintro v h2 (⟨v9, e9, r1, e8, hq⟩ | ⟨ci9, q9, e9, -⟩)
    · cases e9
      subst e8
      replace H := H r1 h2 hq
      refine e_icmp_ge 88 dX3_congruence_29 (by decide) (fun g8 => ?_) (fun g8 => ?_)
      · replace H := H.1 g8
        refine e_lload dX3_congruence_88 rfl ?_
        refine e_aload_n dX3_congruence_90 rfl ?_
        obtain ⟨x9, ⟨fsx9, g10, g10v⟩, H⟩ := H
        refine e_get dX3_congruence_91 fX3_5 q1192 g10 g10v ?_
        refine e_iload_n dX3_congruence_94 rfl ?_
        obtain ⟨fsg13, g13o, H⟩ := H
        obtain ⟨d14, k15, n16, Q17, g13, g13d, g13k, g13n, H⟩ := H
        refine e_callF (i := 4) (r := (RJ2, TJ2, 3)) (As := [.int a2]) g13 dX3_congruence_95 wJ2_get rfl rfl q882 q887 q885 g13o rfl rfl g13d rfl (Nat.le_of_ble_eq_true rfl) (k1 := k - k5 - k15) (n1 := n - n6 - n16) (by omega) (by omega) ?_ ?_
        · rintro v h12 (⟨v9, e9, r11, e8, hq⟩ | ⟨ci9, q9, e9, -⟩)
          · cases e9
            subst e8
            replace H := H r11 h12 hq
            obtain ⟨g18, H⟩ := H
            refine c_castR dX3_congruence_100 q1064 g18 ?_
            obtain ⟨x19, ⟨fsx19, g20, g20v⟩, H⟩ := H
            refine e_getN dX3_congruence_103 fX5_0 q1079 g20 g20v ?_
            refine e_i2l dX3_congruence_106 ?_
            obtain ⟨g21, H⟩ := H
            refine e_ldiv dX3_congruence_107 g21 ?_
            exact e_lreturn dX3_congruence_108 rfl H
          · cases e9
        · rintro q9 h9 (⟨v9, e9, -⟩ | ⟨ci9, q8, e9, -, -, hx⟩)
          · cases e9
          · exact hx.elim
      · replace H := H.2 g8
        refine e_lload dX3_congruence_32 rfl ?_
        refine e_aload_n dX3_congruence_34 rfl ?_
        obtain ⟨x22, ⟨fsx22, g23, g23v⟩, H⟩ := H
        refine e_get dX3_congruence_35 fX3_5 q1192 g23 g23v ?_
        refine e_iload_n dX3_congruence_38 rfl ?_
        obtain ⟨fsg26, g26o, H⟩ := H
        obtain ⟨d27, k28, n29, Q30, g26, g26d, g26k, g26n, H⟩ := H
        refine e_callF (i := 4) (r := (RJ2, TJ2, 3)) (As := [.int a2]) g26 dX3_congruence_39 wJ2_get rfl rfl q882 q887 q885 g26o rfl rfl g26d rfl (Nat.le_of_ble_eq_true rfl) (k1 := k - k5 - k28) (n1 := n - n6 - n29) (by omega) (by omega) ?_ ?_
        · rintro v h25 (⟨v9, e9, r24, e8, hq⟩ | ⟨ci9, q9, e9, -⟩)
          · cases e9
            subst e8
            replace H := H r24 h25 hq
            obtain ⟨g31, H⟩ := H
            refine c_castR dX3_congruence_44 q1064 g31 ?_
            obtain ⟨x32, ⟨fsx32, g33, g33v⟩, H⟩ := H
            refine e_getN dX3_congruence_47 fX5_3 q1086 g33 g33v ?_
            refine e_i2l dX3_congruence_50 ?_
            refine e_iload dX3_congruence_51 rfl ?_
            obtain ⟨d37, k38, n39, Q40, g36, g36d, g36k, g36n, H⟩ := H
            refine e_callSN (As := [.long x32.toInt64, .int a6]) g36 dX3_congruence_53 wX0_isOf rfl q936 q937 rfl g36d rfl (Nat.le_of_ble_eq_true rfl) (k1 := k - k5 - k28 - k38) (n1 := n - n6 - n29 - n39) (by omega) (by omega) ?_ ?_
            · rintro v h35 (⟨v9, e9, r34, e8, hq⟩ | ⟨ci9, q9, e9, -⟩)
              · cases e9
                subst e8
                replace H := H r34 h35 hq
                refine e_if_eq 78 dX3_congruence_56 (by decide) (fun g41 => ?_) (fun g41 => ?_)
                · replace H := H.1 g41
                  refine e_lconst 0 dX3_congruence_78 (by decide) ?_
                  refine e_ladd dX3_congruence_79 ?_
                  refine e_lstore _ dX3_congruence_80 (by decide) rfl rfl ?_
                  refine e_iinc (a6 + 1) _ dX3_congruence_82 rfl rfl (by decide) trivial rfl ?_
                  refine e_goto 23 dX3_congruence_85 (by decide) ?_
                  exact E.less2 H (eS_s (eS_s (eS_s (eS_s (eS_s (eS_n (eS_s eS_0)))))))
                · replace H := H.2 g41
                  refine e_aload_n dX3_congruence_59 rfl ?_
                  refine e_aload_n dX3_congruence_60 rfl ?_
                  refine e_aload_n dX3_congruence_61 rfl ?_
                  refine e_iload_n dX3_congruence_62 rfl ?_
                  refine e_iconst (1) dX3_congruence_63 (by decide) ?_
                  refine e_iload dX3_congruence_64 rfl ?_
                  refine e_ishl dX3_congruence_66 ?_
                  refine e_ior dX3_congruence_67 ?_
                  obtain ⟨fsg44, g44o, H⟩ := H
                  obtain ⟨d45, k46, n47, Q48, g44, g44d, g44k, g44n, H⟩ := H
                  refine e_callV (r := (RX3, TX3, 8)) (As := [.int (a3 ||| ((1 : Int32) <<< (a6 &&& 31)))]) g44 dX3_congruence_68 wX3_made q932 q933 q934 g44o rfl rfl g44d rfl (Nat.le_of_ble_eq_true rfl) (k1 := k - k5 - k28 - k38 - k46) (n1 := n - n6 - n29 - n39 - n47) (by omega) (by omega) ?_ ?_
                  · rintro v h43 (⟨v9, e9, r42, e8, hq⟩ | ⟨ci9, q9, e9, -⟩)
                    · cases e9
                      subst e8
                      replace H := H r42 h43 hq
                      obtain ⟨fsg51, g51o, H⟩ := H
                      obtain ⟨d52, k53, n54, Q55, g51, g51d, g51k, g51n, H⟩ := H
                      refine e_callV (r := (RX3, TX3, 8)) (As := [.int r42]) g51 dX3_congruence_71 wX3_sortOf q2055 q2006 q2007 g51o rfl rfl g51d rfl (Nat.le_of_ble_eq_true rfl) (k1 := k - k5 - k28 - k38 - k46 - k53) (n1 := n - n6 - n29 - n39 - n47 - n54) (by omega) (by omega) ?_ ?_
                      · rintro v h50 (⟨v9, e9, r49, e8, hq⟩ | ⟨ci9, q9, e9, -⟩)
                        · cases e9
                          subst e8
                          replace H := H r49 h50 hq
                          obtain ⟨N56, f57, g58, g58i, H⟩ := H
                          refine e_laload dX3_congruence_74 g58 g58i ?_
                          refine e_goto 79 dX3_congruence_75 (by decide) ?_
                          refine e_ladd dX3_congruence_79 ?_
                          refine e_lstore _ dX3_congruence_80 (by decide) rfl rfl ?_
                          refine e_iinc (a6 + 1) _ dX3_congruence_82 rfl rfl (by decide) trivial rfl ?_
                          refine e_goto 23 dX3_congruence_85 (by decide) ?_
                          exact E.less2 H (eS_s (eS_s (eS_s (eS_s (eS_s (eS_n (eS_s eS_0)))))))
                        · cases e9
                      · rintro q9 h9 (⟨v9, e9, -⟩ | ⟨ci9, q8, e9, -, -, hx⟩)
                        · cases e9
                        · exact hx.elim
                    · cases e9
                  · rintro q9 h9 (⟨v9, e9, -⟩ | ⟨ci9, q8, e9, -, -, hx⟩)
                    · cases e9
                    · exact hx.elim
              · cases e9
            · rintro q9 h9 (⟨v9, e9, -⟩ | ⟨ci9, q8, e9, -, -, hx⟩)
              · cases e9
              · exact hx.elim
          · cases e9
        · rintro q9 h9 (⟨v9, e9, -⟩ | ⟨ci9, q8, e9, -, -, hx⟩)
          · cases e9
          · exact hx.elim
    · cases e9
  · rintro q9 h9 (⟨v9, e9, -⟩ | ⟨ci9, q8, e9, -, -, hx⟩)
    · cases e9
    · exact hx.elim
theorem en_X3_congruence {l : Launch} {lo : Nat} {G : eG} {d : Nat} {P : eO → eH → Prop} (a0 : Nat) (a1 : Nat) (a2 : Int32) {h : eH} {k n : Nat} (H : h_X3_congruence_0 (l, lo, G, d, P) a0 a1 a2 h k n) : Ct l lo G d mX3_congruence [.ref a0, .ref a1, .int a2] h k n P := 
  Ct_of (eArL mX3_congruence.2.2.2.1 [.ref a0, .ref a1, .int a2]) (by decide) rfl (Nat.le_of_ble_eq_true rfl) (fun j w q => eArL_mem j w q) (E.less2 H (eS_s (eS_s (eS_s (eS_n (eS_n (eS_n (eS_n eS_0))))))))
/-! X3_cosets TroupeSums$Group.cosets(I)I -/
def h_X3_cosets_0 (c : cC) (a0 : Nat) (a1 : Int32) (h : eH) (k n : Nat) : Prop := E c.1 c.2.1 c.2.2.1 c.2.2.2.1 mX3_cosets c.2.2.2.2 0 [some (.ref a0), some (.int a1)] [] h k n
set_option maxHeartbeats 4000000 in
theorem s_X3_cosets_0 (c : cC) (a0 : Nat) (a1 : Int32) (h : eH) (k n : Nat) (H : ∃ x1 : Nat, fV h a0 3 5 (.ref x1) ∧ (∃ fs8 : List Value, h.1 x1 = some (.inr (15, fs8)) ∧ ∃ (d6 k7 n8 : Nat) (Q9 : Nat → eH → Prop), cR c.1 c.2.1 c.2.2.1 d6 mJ2_get [.ref x1, .int a1] h k7 n8 Q9 cX0 ∧ d6 + 1 ≤ c.2.2.2.1 ∧ k7 ≤ k ∧ n8 ≤ n ∧ (∀ (r3 : Nat) (h4 : eH), Q9 r3 h4 → (eCs c.2.2.1 h4 r3 "TroupeSums$Sort" ∧ (∃ x11 : Int32, fV h4 r3 5 3 (.int x11) ∧ (∃ (d16 k17 n18 : Nat) (Q19 : Int32 → eH → Prop), cI c.1 c.2.1 c.2.2.1 d16 mJ6_bitCount [.int x11] h4 k17 n18 Q19 cX0 ∧ d16 + 1 ≤ c.2.2.2.1 ∧ k17 ≤ k - k7 ∧ n18 ≤ n - n8 ∧ (∀ (r13 : Int32) (h14 : eH), Q19 r13 h14 → (∃ x20 : Nat, fV h14 a0 3 5 (.ref x20) ∧ (∃ fs8 : List Value, h14.1 x20 = some (.inr (15, fs8)) ∧ ∃ (d25 k26 n27 : Nat) (Q28 : Nat → eH → Prop), cR c.1 c.2.1 c.2.2.1 d25 mJ2_get [.ref x20, .int a1] h14 k26 n27 Q28 cX0 ∧ d25 + 1 ≤ c.2.2.2.1 ∧ k26 ≤ k - k7 - k17 ∧ n27 ≤ n - n8 - n18 ∧ (∀ (r22 : Nat) (h23 : eH), Q28 r22 h23 → (eCs c.2.2.1 h23 r22 "TroupeSums$Sort" ∧ (∃ x30 : Int32, fV h23 r22 5 0 (.int x30) ∧ (¬ x30 = 0 ∧ (c.2.2.2.2 (.inl (some (.int (r13 / x30)))) h23)))))))))))))) : h_X3_cosets_0 c a0 a1 h k n := by
  refine e_aload_n dX3_cosets_0 rfl ?_
  obtain ⟨x1, ⟨fsx1, g2, g2v⟩, H⟩ := H
  refine e_get dX3_cosets_1 fX3_5 q1192 g2 g2v ?_
  refine e_iload_n dX3_cosets_4 rfl ?_
  obtain ⟨fsg5, g5o, H⟩ := H
  obtain ⟨d6, k7, n8, Q9, g5, g5d, g5k, g5n, H⟩ := H
  refine e_callF (i := 4) (r := (RJ2, TJ2, 3)) (As := [.int a1]) g5 dX3_cosets_5 wJ2_get rfl rfl q882 q887 q885 g5o rfl rfl g5d rfl (Nat.le_of_ble_eq_true rfl) (k1 := k - k7) (n1 := n - n8) (by omega) (by omega) ?_ ?_
  · rintro v h4 (⟨v9, e9, r3, e8, hq⟩ | ⟨ci9, q9, e9, -⟩)
    · cases e9
      subst e8
      replace H := H r3 h4 hq
      obtain ⟨g10, H⟩ := H
      refine c_castR dX3_cosets_10 q1064 g10 ?_
      obtain ⟨x11, ⟨fsx11, g12, g12v⟩, H⟩ := H
      refine e_getN dX3_cosets_13 fX5_3 q1086 g12 g12v ?_
      obtain ⟨d16, k17, n18, Q19, g15, g15d, g15k, g15n, H⟩ := H
      refine e_callS (As := [.int x11]) g15 dX3_cosets_16 wJ6_bitCount q1182 q1071 rfl g15d rfl (Nat.le_of_ble_eq_true rfl) (k1 := k - k7 - k17) (n1 := n - n8 - n18) (by omega) (by omega) ?_ ?_
      · rintro v h14 (⟨v9, e9, r13, e8, hq⟩ | ⟨ci9, q9, e9, -⟩)
        · cases e9
          subst e8
          replace H := H r13 h14 hq
          refine e_aload_n dX3_cosets_19 rfl ?_
          obtain ⟨x20, ⟨fsx20, g21, g21v⟩, H⟩ := H
          refine e_get dX3_cosets_20 fX3_5 q1192 g21 g21v ?_
          refine e_iload_n dX3_cosets_23 rfl ?_
          obtain ⟨fsg24, g24o, H⟩ := H
          obtain ⟨d25, k26, n27, Q28, g24, g24d, g24k, g24n, H⟩ := H
          refine e_callF (i := 4) (r := (RJ2, TJ2, 3)) (As := [.int a1]) g24 dX3_cosets_24 wJ2_get rfl rfl q882 q887 q885 g24o rfl rfl g24d rfl (Nat.le_of_ble_eq_true rfl) (k1 := k - k7 - k17 - k26) (n1 := n - n8 - n18 - n27) (by omega) (by omega) ?_ ?_
          · rintro v h23 (⟨v9, e9, r22, e8, hq⟩ | ⟨ci9, q9, e9, -⟩)
            · cases e9
              subst e8
              replace H := H r22 h23 hq
              obtain ⟨g29, H⟩ := H
              refine c_castR dX3_cosets_29 q1064 g29 ?_
              obtain ⟨x30, ⟨fsx30, g31, g31v⟩, H⟩ := H
              refine e_getN dX3_cosets_32 fX5_0 q1079 g31 g31v ?_
              obtain ⟨g32, H⟩ := H
              refine e_idiv dX3_cosets_35 g32 ?_
              exact e_ireturn .int dX3_cosets_36 rfl rfl H
            · cases e9
          · rintro q9 h9 (⟨v9, e9, -⟩ | ⟨ci9, q8, e9, -, -, hx⟩)
            · cases e9
            · exact hx.elim
        · cases e9
      · rintro q9 h9 (⟨v9, e9, -⟩ | ⟨ci9, q8, e9, -, -, hx⟩)
        · cases e9
        · exact hx.elim
    · cases e9
  · rintro q9 h9 (⟨v9, e9, -⟩ | ⟨ci9, q8, e9, -, -, hx⟩)
    · cases e9
    · exact hx.elim
theorem en_X3_cosets {l : Launch} {lo : Nat} {G : eG} {d : Nat} {P : eO → eH → Prop} (a0 : Nat) (a1 : Int32) {h : eH} {k n : Nat} (H : h_X3_cosets_0 (l, lo, G, d, P) a0 a1 h k n) : Ct l lo G d mX3_cosets [.ref a0, .int a1] h k n P := 
  Ct_of (eArL mX3_cosets.2.2.2.1 [.ref a0, .int a1]) (by decide) rfl (Nat.le_of_ble_eq_true rfl) (fun j w q => eArL_mem j w q) (E.less2 H (eS_s (eS_s eS_0)))
/-! X3_firstWrong TroupeSums$Group.firstWrong([J)I -/
def h_X3_firstWrong_0 (c : cC) (a0 : Nat) (a1 : Nat) (h : eH) (k n : Nat) : Prop := E c.1 c.2.1 c.2.2.1 c.2.2.2.1 mX3_firstWrong c.2.2.2.2 0 [some (.ref a0), some (.ref a1), none] [] h k n
def h_X3_firstWrong_2 (c : cC) (a0 : Nat) (a1 : Nat) (a2 : Int32) (h : eH) (k n : Nat) : Prop := E c.1 c.2.1 c.2.2.1 c.2.2.2.1 mX3_firstWrong c.2.2.2.2 2 [some (.ref a0), some (.ref a1), some (.int a2)] [] h k n
set_option maxHeartbeats 4000000 in
theorem s_X3_firstWrong_0 (c : cC) (a0 : Nat) (a1 : Nat) (h : eH) (k n : Nat) (H : h_X3_firstWrong_2 c a0 a1 (0 : Int32) h k n) : h_X3_firstWrong_0 c a0 a1 h k n := by
  refine e_iconst (0) dX3_firstWrong_0 (by decide) ?_
  refine e_istore_n _ dX3_firstWrong_1 (by decide) rfl rfl ?_
  exact E.less2 H (eS_s (eS_s (eS_s eS_0)))
set_option maxHeartbeats 4000000 in
theorem s_X3_firstWrong_2 (c : cC) (a0 : Nat) (a1 : Nat) (a2 : Int32) (h : eH) (k n : Nat) (H : ∃ x1 : Nat, fV h a0 3 5 (.ref x1) ∧ (∃ fs8 : List Value, h.1 x1 = some (.inr (15, fs8)) ∧ ∃ (d6 k7 n8 : Nat) (Q9 : Int32 → eH → Prop), cI c.1 c.2.1 c.2.2.1 d6 mJ2_size [.ref x1] h k7 n8 Q9 cX0 ∧ d6 + 1 ≤ c.2.2.2.1 ∧ k7 ≤ k ∧ n8 ≤ n ∧ (∀ (r3 : Int32) (h4 : eH), Q9 r3 h4 → ((r3 ≤ a2 → c.2.2.2.2 (.inl (some (.int (-1 : Int32)))) h4) ∧ (¬ r3 ≤ a2 → ∃ fs8 : List Value, h4.1 a0 = some (.inr (3, fs8)) ∧ ∃ (d14 k15 n16 : Nat) (Q17 : Int64 → eH → Prop), cL c.1 c.2.1 c.2.2.1 d14 mX3_congruence [.ref a0, .ref a1, .int a2] h4 k15 n16 Q17 cX0 ∧ d14 + 1 ≤ c.2.2.2.1 ∧ k15 ≤ k - k7 ∧ n16 ≤ n - n8 ∧ (∀ (r11 : Int64) (h12 : eH), Q17 r11 h12 → (∃ fs8 : List Value, h12.1 a0 = some (.inr (3, fs8)) ∧ ∃ (d21 k22 n23 : Nat) (Q24 : Int32 → eH → Prop), cI c.1 c.2.1 c.2.2.1 d21 mX3_cosets [.ref a0, .int a2] h12 k22 n23 Q24 cX0 ∧ d21 + 1 ≤ c.2.2.2.1 ∧ k22 ≤ k - k7 - k15 ∧ n23 ≤ n - n8 - n16 ∧ (∀ (r18 : Int32) (h19 : eH), Q24 r18 h19 → (¬ r18.toInt64 = 0 ∧ (((lg_cmp (r11 - r11 / r18.toInt64 * r18.toInt64) (0 : Int64)) = 0 → h_X3_firstWrong_2 c a0 a1 (a2 + 1) h19 (k - k7 - k15 - k22) (n - n8 - n16 - n23)) ∧ (¬ (lg_cmp (r11 - r11 / r18.toInt64 * r18.toInt64) (0 : Int64)) = 0 → c.2.2.2.2 (.inl (some (.int a2))) h19))))))))))) : h_X3_firstWrong_2 c a0 a1 a2 h k n := by
  refine e_iload_n dX3_firstWrong_2 rfl ?_
  refine e_aload_n dX3_firstWrong_3 rfl ?_
  obtain ⟨x1, ⟨fsx1, g2, g2v⟩, H⟩ := H
  refine e_get dX3_firstWrong_4 fX3_5 q1192 g2 g2v ?_
  obtain ⟨fsg5, g5o, H⟩ := H
  obtain ⟨d6, k7, n8, Q9, g5, g5d, g5k, g5n, H⟩ := H
  refine e_callF (i := 3) (r := (RJ2, TJ2, 3)) (As := []) g5 dX3_firstWrong_7 wJ2_size rfl rfl q871 q876 q874 g5o rfl rfl g5d rfl (Nat.le_of_ble_eq_true rfl) (k1 := k - k7) (n1 := n - n8) (by omega) (by omega) ?_ ?_
  · rintro v h4 (⟨v9, e9, r3, e8, hq⟩ | ⟨ci9, q9, e9, -⟩)
    · cases e9
      subst e8
      replace H := H r3 h4 hq
      refine e_icmp_ge 41 dX3_firstWrong_12 (by decide) (fun g10 => ?_) (fun g10 => ?_)
      · replace H := H.1 g10
        refine e_iconst (-1) dX3_firstWrong_41 (by decide) ?_
        exact e_ireturn .int dX3_firstWrong_42 rfl rfl H
      · replace H := H.2 g10
        refine e_aload_n dX3_firstWrong_15 rfl ?_
        refine e_aload_n dX3_firstWrong_16 rfl ?_
        refine e_iload_n dX3_firstWrong_17 rfl ?_
        obtain ⟨fsg13, g13o, H⟩ := H
        obtain ⟨d14, k15, n16, Q17, g13, g13d, g13k, g13n, H⟩ := H
        refine e_callV (r := (RX3, TX3, 8)) (As := [.ref a1, .int a2]) g13 dX3_firstWrong_18 wX3_congruence q2386 q2294 q2295 g13o rfl rfl g13d rfl (Nat.le_of_ble_eq_true rfl) (k1 := k - k7 - k15) (n1 := n - n8 - n16) (by omega) (by omega) ?_ ?_
        · rintro v h12 (⟨v9, e9, r11, e8, hq⟩ | ⟨ci9, q9, e9, -⟩)
          · cases e9
            subst e8
            replace H := H r11 h12 hq
            refine e_aload_n dX3_firstWrong_21 rfl ?_
            refine e_iload_n dX3_firstWrong_22 rfl ?_
            obtain ⟨fsg20, g20o, H⟩ := H
            obtain ⟨d21, k22, n23, Q24, g20, g20d, g20k, g20n, H⟩ := H
            refine e_callV (r := (RX3, TX3, 8)) (As := [.int a2]) g20 dX3_firstWrong_23 wX3_cosets q2387 q2298 q2299 g20o rfl rfl g20d rfl (Nat.le_of_ble_eq_true rfl) (k1 := k - k7 - k15 - k22) (n1 := n - n8 - n16 - n23) (by omega) (by omega) ?_ ?_
            · rintro v h19 (⟨v9, e9, r18, e8, hq⟩ | ⟨ci9, q9, e9, -⟩)
              · cases e9
                subst e8
                replace H := H r18 h19 hq
                refine e_i2l dX3_firstWrong_26 ?_
                obtain ⟨g25, H⟩ := H
                refine e_lrem dX3_firstWrong_27 g25 ?_
                refine e_lconst 0 dX3_firstWrong_28 (by decide) ?_
                refine e_lcmp dX3_firstWrong_29 ?_
                refine e_if_eq 35 dX3_firstWrong_30 (by decide) (fun g26 => ?_) (fun g26 => ?_)
                · replace H := H.1 g26
                  refine e_iinc (a2 + 1) _ dX3_firstWrong_35 rfl rfl (by decide) rfl rfl ?_
                  refine e_goto 2 dX3_firstWrong_38 (by decide) ?_
                  exact E.less2 H (eS_s (eS_s (eS_s eS_0)))
                · replace H := H.2 g26
                  refine e_iload_n dX3_firstWrong_33 rfl ?_
                  exact e_ireturn .int dX3_firstWrong_34 rfl rfl H
              · cases e9
            · rintro q9 h9 (⟨v9, e9, -⟩ | ⟨ci9, q8, e9, -, -, hx⟩)
              · cases e9
              · exact hx.elim
          · cases e9
        · rintro q9 h9 (⟨v9, e9, -⟩ | ⟨ci9, q8, e9, -, -, hx⟩)
          · cases e9
          · exact hx.elim
    · cases e9
  · rintro q9 h9 (⟨v9, e9, -⟩ | ⟨ci9, q8, e9, -, -, hx⟩)
    · cases e9
    · exact hx.elim
theorem en_X3_firstWrong {l : Launch} {lo : Nat} {G : eG} {d : Nat} {P : eO → eH → Prop} (a0 : Nat) (a1 : Nat) {h : eH} {k n : Nat} (H : h_X3_firstWrong_0 (l, lo, G, d, P) a0 a1 h k n) : Ct l lo G d mX3_firstWrong [.ref a0, .ref a1] h k n P := 
  Ct_of (eArL mX3_firstWrong.2.2.2.1 [.ref a0, .ref a1]) (by decide) rfl (Nat.le_of_ble_eq_true rfl) (fun j w q => eArL_mem j w q) (E.less2 H (eS_s (eS_s (eS_n eS_0))))
