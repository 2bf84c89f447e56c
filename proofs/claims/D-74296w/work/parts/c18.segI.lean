/-! segments: X0_init, X0_alone, X0_isOf, X0_feed, X0_end, X0_troupe, X0_right, X0_taken, X0_isIn, X0_faulted, X0_sorts, X0_fault, X0_about, X0_moves, X0_isMember, X0_times, X0_order, X0_makesOf, X0_areMembers, X0_sortOf, X0_sort, X0_isSort, X0_within, X0_mark, X0_product, X0_residue, X0_isPrime, X0_block, X0_keeper, X0_isPlace, X0_orbit, X0_coset, X0_takes, X0_moebius, X0_mixed -/
/-! X0_init TroupeSums.<init>()V -/
def h_X0_init_0 (c : cC) (a0 : Nat) (h : eH) (k n : Nat) : Prop := E c.1 c.2.1 c.2.2.1 c.2.2.2.1 mX0_init c.2.2.2.2 0 [some (.ref a0)] [] h k n
set_option maxHeartbeats 4000000 in
theorem s_X0_init_0 (c : cC) (a0 : Nat) (h : eH) (k n : Nat) (H : 1 ≤ c.2.2.2.1 ∧ (∃ N4 : Nat, (700 : Int32) = nI N4 ∧ N4 ≤ 10000000 ∧ 1 ≤ k ∧ N4 ≤ n ∧ ∀ h2 : eH, h2 = eNw h (.inl (c.2.2.1.2.1 2, N4, .inl (fun _ => 0))) → (∃ fs5 : List Value, h2.1 a0 = some (.inr (0, fs5)) ∧ c.2.1 ≤ a0 ∧ 0 < fs5.length ∧ ∀ h7 : eH, h7 = eUp h2 a0 (.inr (0, fs5.set 0 (.ref h.2))) → (∃ fs8 : List Value, h7.1 a0 = some (.inr (0, fs8)) ∧ c.2.1 ≤ a0 ∧ 3 < fs8.length ∧ ∀ h10 : eH, h10 = eUp h7 a0 (.inr (0, fs8.set 3 (.int (-1 : Int32)))) → (∃ (d14 k15 n16 : Nat) (Q17 : Nat → eH → Prop), cR c.1 c.2.1 c.2.2.1 d14 mX0_alone [] h10 k15 n16 Q17 cX0 ∧ d14 + 1 ≤ c.2.2.2.1 ∧ k15 ≤ k - 1 ∧ n16 ≤ n - N4 ∧ (∀ (r11 : Nat) (h12 : eH), Q17 r11 h12 → (∃ fs18 : List Value, h12.1 a0 = some (.inr (0, fs18)) ∧ c.2.1 ≤ a0 ∧ 4 < fs18.length ∧ ∀ h20 : eH, h20 = eUp h12 a0 (.inr (0, fs18.set 4 (.ref r11))) → (∃ N23 : Nat, (1 : Int32) = nI N23 ∧ N23 ≤ 10000000 ∧ 1 ≤ k - 1 - k15 ∧ N23 ≤ n - N4 - n16 ∧ ∀ h21 : eH, h21 = eNw h20 (.inl (c.2.2.1.2.1 1, N23, .inr (.inl (fun _ => 0)))) → (∃ fs24 : List Value, h21.1 a0 = some (.inr (0, fs24)) ∧ c.2.1 ≤ a0 ∧ 5 < fs24.length ∧ ∀ h26 : eH, h26 = eUp h21 a0 (.inr (0, fs24.set 5 (.ref h20.2))) → (1 ≤ k - 1 - k15 - 1 ∧ 3 ≤ n - N4 - n16 - N23 ∧ ∀ h27 : eH, h27 = eNw h26 (.inr (24, [.null, .int 0, .int 0])) → (∃ (d32 k33 n34 : Nat) (Q35 : eH → Prop), cV c.1 c.2.1 c.2.2.1 d32 mJ25_init [.ref h26.2] h27 k33 n34 Q35 cX0 ∧ d32 + 1 ≤ c.2.2.2.1 ∧ k33 ≤ k - 1 - k15 - 1 - 1 ∧ n34 ≤ n - N4 - n16 - N23 - 3 ∧ (∀ h30 : eH, Q35 h30 → (∃ fs36 : List Value, h30.1 a0 = some (.inr (0, fs36)) ∧ c.2.1 ≤ a0 ∧ 7 < fs36.length ∧ ∀ h38 : eH, h38 = eUp h30 a0 (.inr (0, fs36.set 7 (.ref h26.2))) → (c.2.2.2.2 (.inl none) h38)))))))))))))) : h_X0_init_0 c a0 h k n := by
  refine e_aload_n dX0_init_0 rfl ?_
  obtain ⟨g1, H⟩ := H
  refine e_objInit dX0_init_1 q191 q192 q193 g1 (Nat.le_of_ble_eq_true rfl) ?_
  refine e_aload_n dX0_init_4 rfl ?_
  refine e_sipush (700) dX0_init_5 (by decide) ?_
  obtain ⟨N4, g3i, g3b, g3, g3n, H⟩ := H
  refine c_newarrayB dX0_init_8 q232 g3i g3b g3 g3n ?_
  replace H := H _ rfl
  generalize eNw h _ = h2 at H ⊢
  obtain ⟨fs5, g6, g6l, g6j, H⟩ := H
  refine e_putF dX0_init_10 fX0_0 q1235 rfl rfl (eFit_ar _ _) g6 g6l g6j ?_
  replace H := H _ rfl
  generalize eUp h2 a0 _ = h7 at H ⊢
  refine e_aload_n dX0_init_13 rfl ?_
  refine e_iconst (-1) dX0_init_14 (by decide) ?_
  obtain ⟨fs8, g9, g9l, g9j, H⟩ := H
  refine e_put dX0_init_15 fX0_3 q1238 (eFit_i _) g9 g9l g9j ?_
  replace H := H _ rfl
  generalize eUp h7 a0 _ = h10 at H ⊢
  refine e_aload_n dX0_init_18 rfl ?_
  obtain ⟨d14, k15, n16, Q17, g13, g13d, g13k, g13n, H⟩ := H
  refine e_callS (As := []) g13 dX0_init_19 wX0_alone q194 q195 rfl g13d rfl (Nat.le_of_ble_eq_true rfl) (k1 := k - 1 - k15) (n1 := n - N4 - n16) (by omega) (by omega) ?_ ?_
  · rintro v h12 (⟨v9, e9, r11, e8, hq⟩ | ⟨ci9, q9, e9, -⟩)
    · cases e9
      subst e8
      replace H := H r11 h12 hq
      obtain ⟨fs18, g19, g19l, g19j, H⟩ := H
      refine e_put dX0_init_22 fX0_4 q1239 (eFit_or _ _) g19 g19l g19j ?_
      replace H := H _ rfl
      generalize eUp h12 a0 _ = h20 at H ⊢
      refine e_aload_n dX0_init_25 rfl ?_
      refine e_iconst (1) dX0_init_26 (by decide) ?_
      obtain ⟨N23, g22i, g22b, g22, g22n, H⟩ := H
      refine c_newarrayJ dX0_init_27 q1234 g22i g22b g22 g22n ?_
      replace H := H _ rfl
      generalize eNw h20 _ = h21 at H ⊢
      obtain ⟨fs24, g25, g25l, g25j, H⟩ := H
      refine e_put dX0_init_29 fX0_5 q1240 (eFit_ar _ _) g25 g25l g25j ?_
      replace H := H _ rfl
      generalize eUp h21 a0 _ = h26 at H ⊢
      refine e_aload_n dX0_init_32 rfl ?_
      obtain ⟨g28, g28n, H⟩ := H
      refine e_new (ci := 24) (N := 3) (C := RJ25) (T := TJ25) tyJ25 (fs := [.null, .int 0, .int 0]) dX0_init_33 rfl in_J25 tyJ25_ok q1217 q1218 q168 (by decide) (k1 := k - 1 - k15 - 1 - 1) (n1 := n - N4 - n16 - N23 - 3) (by omega) (by omega) ?_
      replace H := H _ rfl
      generalize eNw h26 _ = h27 at H ⊢
      refine e_dup dX0_init_36 rfl ?_
      obtain ⟨d32, k33, n34, Q35, g31, g31d, g31k, g31n, H⟩ := H
      refine e_callI (As := []) g31 dX0_init_37 wJ25_init rfl rfl rfl q1219 q1220 rfl g31d rfl (Nat.le_of_ble_eq_true rfl) (k1 := k - 1 - k15 - 1 - 1 - k33) (n1 := n - N4 - n16 - N23 - 3 - n34) (by omega) (by omega) ?_ ?_
      · rintro v h30 (⟨v9, e9, e8, hq⟩ | ⟨ci9, q9, e9, -⟩)
        · cases e9
          subst e8
          replace H := H h30 hq
          obtain ⟨fs36, g37, g37l, g37j, H⟩ := H
          refine e_putF dX0_init_40 fX0_7 q1242 rfl rfl (eFit_or _ _) g37 g37l g37j ?_
          replace H := H _ rfl
          generalize eUp h30 a0 _ = h38 at H ⊢
          exact e_return dX0_init_43 rfl H
        · cases e9
      · rintro q9 h9 (⟨v9, e9, -⟩ | ⟨ci9, q8, e9, -, -, hx⟩)
        · cases e9
        · exact hx.elim
    · cases e9
  · rintro q9 h9 (⟨v9, e9, -⟩ | ⟨ci9, q8, e9, -, -, hx⟩)
    · cases e9
    · exact hx.elim
theorem en_X0_init {l : Launch} {lo : Nat} {G : eG} {d : Nat} {P : eO → eH → Prop} (a0 : Nat) {h : eH} {k n : Nat} (H : h_X0_init_0 (l, lo, G, d, P) a0 h k n) : Ct l lo G d mX0_init [.ref a0] h k n P := 
  Ct_of (eArL mX0_init.2.2.2.1 [.ref a0]) (by decide) rfl (Nat.le_of_ble_eq_true rfl) (fun j w q => eArL_mem j w q) (E.less2 H (eS_s eS_0))
/-! X0_alone TroupeSums.alone()LTroupeSums$Troupe; -/
def h_X0_alone_0 (c : cC) (h : eH) (k n : Nat) : Prop := E c.1 c.2.1 c.2.2.1 c.2.2.2.1 mX0_alone c.2.2.2.2 0 [none, none] [] h k n
set_option maxHeartbeats 4000000 in
theorem s_X0_alone_0 (c : cC) (h : eH) (k n : Nat) (H : 1 ≤ k ∧ 5 ≤ n ∧ ∀ h1 : eH, h1 = eNw h (.inr (1, [.int 0, .int 0, .null, .null, .null])) → (∃ (d6 k7 n8 : Nat) (Q9 : eH → Prop), cV c.1 c.2.1 c.2.2.1 d6 mX1_init [.ref h.2] h1 k7 n8 Q9 cX0 ∧ d6 + 1 ≤ c.2.2.2.1 ∧ k7 ≤ k - 1 ∧ n8 ≤ n - 5 ∧ (∀ h4 : eH, Q9 h4 → (1 ≤ k - 1 - k7 ∧ 9 ≤ n - 5 - n8 ∧ ∀ h10 : eH, h10 = eNw h4 (.inr (16, [.null, .null, .null, .null, .int 0, .int 0, .null, .null, .null])) → (∃ (d15 k16 n17 : Nat) (Q18 : eH → Prop), cV c.1 c.2.1 c.2.2.1 d15 mJ4_init [.ref h4.2] h10 k16 n17 Q18 cX0 ∧ d15 + 1 ≤ c.2.2.2.1 ∧ k16 ≤ k - 1 - k7 - 1 ∧ n17 ≤ n - 5 - n8 - 9 ∧ (∀ h13 : eH, Q18 h13 → (1 ≤ k - 1 - k7 - 1 - k16 ∧ 1 ≤ n - 5 - n8 - 9 - n17 ∧ ∀ h19 : eH, h19 = eNw h13 (.inr (2, [.null])) → (∃ N23 : Nat, (1 : Int32) = nI N23 ∧ N23 ≤ 10000000 ∧ 1 ≤ k - 1 - k7 - 1 - k16 - 1 ∧ N23 ≤ n - 5 - n8 - 9 - n17 - 1 ∧ ∀ h21 : eH, h21 = eNw h19 (.inl (c.2.2.1.2.1 0, N23, .inl (fun _ => 0))) → (∃ (d27 k28 n29 : Nat) (Q30 : eH → Prop), cV c.1 c.2.1 c.2.2.1 d27 mX2_init [.ref h13.2, .ref h19.2] h21 k28 n29 Q30 cX0 ∧ d27 + 1 ≤ c.2.2.2.1 ∧ k28 ≤ k - 1 - k7 - 1 - k16 - 1 - 1 ∧ n29 ≤ n - 5 - n8 - 9 - n17 - 1 - N23 ∧ (∀ h25 : eH, Q30 h25 → (∃ (d34 k35 n36 : Nat) (Q37 : Nat → eH → Prop), cR c.1 c.2.1 c.2.2.1 d34 mJ6_valueOf [.int (0 : Int32)] h25 k35 n36 Q37 cX0 ∧ d34 + 1 ≤ c.2.2.2.1 ∧ k35 ≤ k - 1 - k7 - 1 - k16 - 1 - 1 - k28 ∧ n36 ≤ n - 5 - n8 - 9 - n17 - 1 - N23 - n29 ∧ (∀ (r31 : Nat) (h32 : eH), Q37 r31 h32 → (∃ fs8 : List Value, h32.1 h4.2 = some (.inr (16, fs8)) ∧ ∃ (d41 k42 n43 : Nat) (Q44 : Option Nat → eH → Prop), cQ c.1 c.2.1 c.2.2.1 d41 mJ4_put [.ref h4.2, .ref h13.2, .ref r31] h32 k42 n43 Q44 cX0 ∧ d41 + 1 ≤ c.2.2.2.1 ∧ k42 ≤ k - 1 - k7 - 1 - k16 - 1 - 1 - k28 - k35 ∧ n43 ≤ n - 5 - n8 - 9 - n17 - 1 - N23 - n29 - n36 ∧ (∀ (r38 : Option Nat) (h39 : eH), Q44 r38 h39 → (1 ≤ k - 1 - k7 - 1 - k16 - 1 - 1 - k28 - k35 - k42 ∧ 8 ≤ n - 5 - n8 - 9 - n17 - 1 - N23 - n29 - n36 - n43 ∧ ∀ h45 : eH, h45 = eNw h39 (.inr (3, [.int 0, .null, .null, .null, .null, .null, .null, .null])) → (∃ (d50 k51 n52 : Nat) (Q53 : eH → Prop), cV c.1 c.2.1 c.2.2.1 d50 mX3_init [.ref h39.2, .int (1 : Int32), .ref h4.2] h45 k51 n52 Q53 cX0 ∧ d50 + 1 ≤ c.2.2.2.1 ∧ k51 ≤ k - 1 - k7 - 1 - k16 - 1 - 1 - k28 - k35 - k42 - 1 ∧ n52 ≤ n - 5 - n8 - 9 - n17 - 1 - N23 - n29 - n36 - n43 - 8 ∧ (∀ h48 : eH, Q53 h48 → (∃ fs54 : List Value, h48.1 h.2 = some (.inr (1, fs54)) ∧ c.2.1 ≤ h.2 ∧ 2 < fs54.length ∧ ∀ h56 : eH, h56 = eUp h48 h.2 (.inr (1, fs54.set 2 (.ref h39.2))) → (c.2.2.2.2 (.inl (some (.ref h.2))) h56))))))))))))))))))) : h_X0_alone_0 c h k n := by
  obtain ⟨g2, g2n, H⟩ := H
  refine e_new (ci := 1) (N := 5) (C := RX1) (T := TX1) tyX1 (fs := [.int 0, .int 0, .null, .null, .null]) dX0_alone_0 rfl in_X1 tyX1_ok q197 q198 q135 (by decide) (k1 := k - 1) (n1 := n - 5) (by omega) (by omega) ?_
  replace H := H _ rfl
  generalize eNw h _ = h1 at H ⊢
  refine e_dup dX0_alone_3 rfl ?_
  obtain ⟨d6, k7, n8, Q9, g5, g5d, g5k, g5n, H⟩ := H
  refine e_callIN (As := []) g5 dX0_alone_4 wX1_init rfl rfl rfl q199 q200 rfl g5d rfl (Nat.le_of_ble_eq_true rfl) (k1 := k - 1 - k7) (n1 := n - 5 - n8) (by omega) (by omega) ?_ ?_
  · rintro v h4 (⟨v9, e9, e8, hq⟩ | ⟨ci9, q9, e9, -⟩)
    · cases e9
      subst e8
      replace H := H h4 hq
      refine e_astore_n _ dX0_alone_7 (by decide) trivial rfl ?_
      obtain ⟨g11, g11n, H⟩ := H
      refine e_new (ci := 16) (N := 9) (C := RJ4) (T := TJ4) tyJ4 (fs := [.null, .null, .null, .null, .int 0, .int 0, .null, .null, .null]) dX0_alone_8 rfl in_J4 tyJ4_ok q257 q258 q140 (by decide) (k1 := k - 1 - k7 - 1) (n1 := n - 5 - n8 - 9) (by omega) (by omega) ?_
      replace H := H _ rfl
      generalize eNw h4 _ = h10 at H ⊢
      refine e_dup dX0_alone_11 rfl ?_
      obtain ⟨d15, k16, n17, Q18, g14, g14d, g14k, g14n, H⟩ := H
      refine e_callI (As := []) g14 dX0_alone_12 wJ4_init rfl rfl rfl q259 q260 rfl g14d rfl (Nat.le_of_ble_eq_true rfl) (k1 := k - 1 - k7 - 1 - k16) (n1 := n - 5 - n8 - 9 - n17) (by omega) (by omega) ?_ ?_
      · rintro v h13 (⟨v9, e9, e8, hq⟩ | ⟨ci9, q9, e9, -⟩)
        · cases e9
          subst e8
          replace H := H h13 hq
          refine e_astore_n _ dX0_alone_15 (by decide) rfl rfl ?_
          refine e_aload_n dX0_alone_16 rfl ?_
          obtain ⟨g20, g20n, H⟩ := H
          refine e_new (ci := 2) (N := 1) (C := RX2) (T := TX2) tyX2 (fs := [.null]) dX0_alone_17 rfl in_X2 tyX2_ok q291 q292 q141 (by decide) (k1 := k - 1 - k7 - 1 - k16 - 1) (n1 := n - 5 - n8 - 9 - n17 - 1) (by omega) (by omega) ?_
          replace H := H _ rfl
          generalize eNw h13 _ = h19 at H ⊢
          refine e_dup dX0_alone_20 rfl ?_
          refine e_iconst (1) dX0_alone_21 (by decide) ?_
          obtain ⟨N23, g22i, g22b, g22, g22n, H⟩ := H
          refine c_newarrayI dX0_alone_22 q303 g22i g22b g22 g22n ?_
          replace H := H _ rfl
          generalize eNw h19 _ = h21 at H ⊢
          obtain ⟨d27, k28, n29, Q30, g26, g26d, g26k, g26n, H⟩ := H
          refine e_callI (As := [.ref h19.2]) g26 dX0_alone_24 wX2_init rfl rfl rfl q293 q294 rfl g26d rfl (Nat.le_of_ble_eq_true rfl) (k1 := k - 1 - k7 - 1 - k16 - 1 - 1 - k28) (n1 := n - 5 - n8 - 9 - n17 - 1 - N23 - n29) (by omega) (by omega) ?_ ?_
          · rintro v h25 (⟨v9, e9, e8, hq⟩ | ⟨ci9, q9, e9, -⟩)
            · cases e9
              subst e8
              replace H := H h25 hq
              refine e_iconst (0) dX0_alone_27 (by decide) ?_
              obtain ⟨d34, k35, n36, Q37, g33, g33d, g33k, g33n, H⟩ := H
              refine e_callS (As := [.int (0 : Int32)]) g33 dX0_alone_28 wJ6_valueOf q304 q305 rfl g33d rfl (Nat.le_of_ble_eq_true rfl) (k1 := k - 1 - k7 - 1 - k16 - 1 - 1 - k28 - k35) (n1 := n - 5 - n8 - 9 - n17 - 1 - N23 - n29 - n36) (by omega) (by omega) ?_ ?_
              · rintro v h32 (⟨v9, e9, r31, e8, hq⟩ | ⟨ci9, q9, e9, -⟩)
                · cases e9
                  subst e8
                  replace H := H r31 h32 hq
                  obtain ⟨fsg40, g40o, H⟩ := H
                  obtain ⟨d41, k42, n43, Q44, g40, g40d, g40k, g40n, H⟩ := H
                  refine e_callV (r := (RJ4, TJ4, 9)) (As := [.ref h13.2, .ref r31]) g40 dX0_alone_31 wJ4_put q324 q325 q326 g40o rfl rfl g40d rfl (Nat.le_of_ble_eq_true rfl) (k1 := k - 1 - k7 - 1 - k16 - 1 - 1 - k28 - k35 - k42) (n1 := n - 5 - n8 - 9 - n17 - 1 - N23 - n29 - n36 - n43) (by omega) (by omega) ?_ ?_
                  · rintro v h39 (⟨v9, e9, r38, e8, hq⟩ | ⟨ci9, q9, e9, -⟩)
                    · cases e9
                      subst e8
                      replace H := H r38 h39 hq
                      refine e_pop dX0_alone_34 (eRfC _) ?_
                      refine e_aload_n dX0_alone_35 rfl ?_
                      obtain ⟨g46, g46n, H⟩ := H
                      refine e_new (ci := 3) (N := 8) (C := RX3) (T := TX3) tyX3 (fs := [.int 0, .null, .null, .null, .null, .null, .null, .null]) dX0_alone_36 rfl in_X3 tyX3_ok q672 q673 q156 (by decide) (k1 := k - 1 - k7 - 1 - k16 - 1 - 1 - k28 - k35 - k42 - 1) (n1 := n - 5 - n8 - 9 - n17 - 1 - N23 - n29 - n36 - n43 - 8) (by omega) (by omega) ?_
                      replace H := H _ rfl
                      generalize eNw h39 _ = h45 at H ⊢
                      refine e_dup dX0_alone_39 rfl ?_
                      refine e_iconst (1) dX0_alone_40 (by decide) ?_
                      refine e_aload_n dX0_alone_41 rfl ?_
                      obtain ⟨d50, k51, n52, Q53, g49, g49d, g49k, g49n, H⟩ := H
                      refine e_callI (As := [.int (1 : Int32), .ref h4.2]) g49 dX0_alone_42 wX3_init rfl rfl rfl q674 q675 rfl g49d rfl (Nat.le_of_ble_eq_true rfl) (k1 := k - 1 - k7 - 1 - k16 - 1 - 1 - k28 - k35 - k42 - 1 - k51) (n1 := n - 5 - n8 - 9 - n17 - 1 - N23 - n29 - n36 - n43 - 8 - n52) (by omega) (by omega) ?_ ?_
                      · rintro v h48 (⟨v9, e9, e8, hq⟩ | ⟨ci9, q9, e9, -⟩)
                        · cases e9
                          subst e8
                          replace H := H h48 hq
                          obtain ⟨fs54, g55, g55l, g55j, H⟩ := H
                          refine e_putN dX0_alone_45 fX1_2 q238 (eFit_or _ _) g55 g55l g55j ?_
                          replace H := H _ rfl
                          generalize eUp h48 h.2 _ = h56 at H ⊢
                          refine e_aload_n dX0_alone_48 rfl ?_
                          exact e_areturn (r := some h.2) _ dX0_alone_49 rfl (Or.inl ⟨_, rfl⟩) H
                        · cases e9
                      · rintro q9 h9 (⟨v9, e9, -⟩ | ⟨ci9, q8, e9, -, -, hx⟩)
                        · cases e9
                        · exact hx.elim
                    · cases e9
                  · rintro q9 h9 (⟨v9, e9, -⟩ | ⟨ci9, q8, e9, -, -, hx⟩)
                    · cases e9
                    · exact hx.elim
                · cases e9
              · rintro q9 h9 (⟨v9, e9, -⟩ | ⟨ci9, q8, e9, -, -, hx⟩)
                · cases e9
                · exact hx.elim
            · cases e9
          · rintro q9 h9 (⟨v9, e9, -⟩ | ⟨ci9, q8, e9, -, -, hx⟩)
            · cases e9
            · exact hx.elim
        · cases e9
      · rintro q9 h9 (⟨v9, e9, -⟩ | ⟨ci9, q8, e9, -, -, hx⟩)
        · cases e9
        · exact hx.elim
    · cases e9
  · rintro q9 h9 (⟨v9, e9, -⟩ | ⟨ci9, q8, e9, -, -, hx⟩)
    · cases e9
    · exact hx.elim
theorem en_X0_alone {l : Launch} {lo : Nat} {G : eG} {d : Nat} {P : eO → eH → Prop} {h : eH} {k n : Nat} (H : h_X0_alone_0 (l, lo, G, d, P) h k n) : Ct l lo G d mX0_alone [] h k n P := 
  Ct_of (eArL mX0_alone.2.2.2.1 []) (by decide) rfl (Nat.le_of_ble_eq_true rfl) (fun j w q => eArL_mem j w q) (E.less2 H (eS_n (eS_n eS_0)))
/-! X0_isOf TroupeSums.isOf(JI)Z -/
def h_X0_isOf_0 (c : cC) (a0 : Int64) (a2 : Int32) (h : eH) (k n : Nat) : Prop := E c.1 c.2.1 c.2.2.1 c.2.2.2.1 mX0_isOf c.2.2.2.2 0 [some (.long a0), none, some (.int a2)] [] h k n
set_option maxHeartbeats 4000000 in
theorem s_X0_isOf_0 (c : cC) (a0 : Int64) (a2 : Int32) (h : eH) (k n : Nat) (H : (¬ (lg_cmp ((a0 >>> (a2.toInt64 &&& 63)) &&& (1 : Int64)) (1 : Int64)) = 0 → c.2.2.2.2 (.inl (some (.int (0 : Int32)))) h) ∧ ((lg_cmp ((a0 >>> (a2.toInt64 &&& 63)) &&& (1 : Int64)) (1 : Int64)) = 0 → c.2.2.2.2 (.inl (some (.int (1 : Int32)))) h)) : h_X0_isOf_0 c a0 a2 h k n := by
  refine e_lload_n dX0_isOf_0 rfl ?_
  refine e_iload_n dX0_isOf_1 rfl ?_
  refine e_lshr dX0_isOf_2 ?_
  refine e_lconst 1 dX0_isOf_3 (by decide) ?_
  refine e_land dX0_isOf_4 ?_
  refine e_lconst 1 dX0_isOf_5 (by decide) ?_
  refine e_lcmp dX0_isOf_6 ?_
  refine e_if_ne 14 dX0_isOf_7 (by decide) (fun g1 => ?_) (fun g1 => ?_)
  · replace H := H.1 g1
    refine e_iconst (0) dX0_isOf_14 (by decide) ?_
    exact e_ireturn .boolean dX0_isOf_15 rfl (by decide) H
  · replace H := H.2 g1
    refine e_iconst (1) dX0_isOf_10 (by decide) ?_
    refine e_goto 15 dX0_isOf_11 (by decide) ?_
    exact e_ireturn .boolean dX0_isOf_15 rfl (by decide) H
theorem en_X0_isOf {l : Launch} {lo : Nat} {G : eG} {d : Nat} {P : eO → eH → Prop} (a0 : Int64) (a2 : Int32) {h : eH} {k n : Nat} (H : h_X0_isOf_0 (l, lo, G, d, P) a0 a2 h k n) : Ct l lo G d mX0_isOf [.long a0, .int a2] h k n P := 
  Ct_of (eArL mX0_isOf.2.2.2.1 [.long a0, .int a2]) (by decide) rfl (Nat.le_of_ble_eq_true rfl) (fun j w q => eArL_mem j w q) (E.less2 H (eS_s (eS_n (eS_s eS_0))))
/-! X0_feed TroupeSums.feed(IIIII)I -/
def h_X0_feed_0 (c : cC) (a0 : Nat) (a1 : Int32) (a2 : Int32) (a3 : Int32) (a4 : Int32) (a5 : Int32) (h : eH) (k n : Nat) : Prop := E c.1 c.2.1 c.2.2.1 c.2.2.2.1 mX0_feed c.2.2.2.2 0 [some (.ref a0), some (.int a1), some (.int a2), some (.int a3), some (.int a4), some (.int a5), none, none, none, none, none] [] h k n
def h_X0_feed_50 (c : cC) (a0 : Nat) (a6 : Nat) (a7 : Int32) (a8 : Int32) (h : eH) (k n : Nat) : Prop := E c.1 c.2.1 c.2.2.1 c.2.2.2.1 mX0_feed c.2.2.2.2 50 [some (.ref a0), none, none, none, none, none, some (.ref a6), some (.int a7), some (.int a8), none, none] [] h k n
def h_X0_feed_68 (c : cC) (a0 : Nat) (a6 : Nat) (a7 : Int32) (a8 : Int32) (a9 : Int32) (a10 : Int32) (h : eH) (k n : Nat) : Prop := E c.1 c.2.1 c.2.2.1 c.2.2.2.1 mX0_feed c.2.2.2.2 68 [some (.ref a0), none, none, none, none, none, some (.ref a6), some (.int a7), some (.int a8), some (.int a9), some (.int a10)] [] h k n
set_option maxHeartbeats 4000000 in
theorem s_X0_feed_0 (c : cC) (a0 : Nat) (a1 : Int32) (a2 : Int32) (a3 : Int32) (a4 : Int32) (a5 : Int32) (h : eH) (k n : Nat) (H : ∃ x1 : Int32, fV h a0 0 1 (.int x1) ∧ (((x1 + (20 : Int32)) ≤ (700 : Int32) → ∃ N6 : Nat, (5 : Int32) = nI N6 ∧ N6 ≤ 10000000 ∧ 1 ≤ k ∧ N6 ≤ n ∧ ∀ h4 : eH, h4 = eNw h (.inl (c.2.2.1.2.1 0, N6, .inl (fun _ => 0))) → (∃ (N7 : Nat) (f8 : Nat → Int32), h4.1 h.2 = some (.inl (c.2.2.1.2.1 0, N7, .inl f8)) ∧ c.2.1 ≤ h.2 ∧ vp_in (0 : Int32) N7 ∧ ∀ h10 : eH, h10 = eUp h4 h.2 (.inl (c.2.2.1.2.1 0, N7, .inl (va_up f8 (0 : Int32).toNatClampNeg a1))) → (∃ (N11 : Nat) (f12 : Nat → Int32), h10.1 h.2 = some (.inl (c.2.2.1.2.1 0, N11, .inl f12)) ∧ c.2.1 ≤ h.2 ∧ vp_in (1 : Int32) N11 ∧ ∀ h14 : eH, h14 = eUp h10 h.2 (.inl (c.2.2.1.2.1 0, N11, .inl (va_up f12 (1 : Int32).toNatClampNeg a2))) → (∃ (N15 : Nat) (f16 : Nat → Int32), h14.1 h.2 = some (.inl (c.2.2.1.2.1 0, N15, .inl f16)) ∧ c.2.1 ≤ h.2 ∧ vp_in (2 : Int32) N15 ∧ ∀ h18 : eH, h18 = eUp h14 h.2 (.inl (c.2.2.1.2.1 0, N15, .inl (va_up f16 (2 : Int32).toNatClampNeg a3))) → (∃ (N19 : Nat) (f20 : Nat → Int32), h18.1 h.2 = some (.inl (c.2.2.1.2.1 0, N19, .inl f20)) ∧ c.2.1 ≤ h.2 ∧ vp_in (3 : Int32) N19 ∧ ∀ h22 : eH, h22 = eUp h18 h.2 (.inl (c.2.2.1.2.1 0, N19, .inl (va_up f20 (3 : Int32).toNatClampNeg a4))) → (∃ (N23 : Nat) (f24 : Nat → Int32), h22.1 h.2 = some (.inl (c.2.2.1.2.1 0, N23, .inl f24)) ∧ c.2.1 ≤ h.2 ∧ vp_in (4 : Int32) N23 ∧ ∀ h26 : eH, h26 = eUp h22 h.2 (.inl (c.2.2.1.2.1 0, N23, .inl (va_up f24 (4 : Int32).toNatClampNeg a5))) → (∃ v27 : vp_A, h26.1 h.2 = some (.inl (c.2.2.1.2.1 0, v27)) ∧ (h_X0_feed_50 c a0 h.2 (nI v27.1) (0 : Int32) h26 (k - 1) (n - N6))))))))) ∧ (¬ (x1 + (20 : Int32)) ≤ (700 : Int32) → c.2.2.2.2 (.inl (some (.int (-1 : Int32)))) h))) : h_X0_feed_0 c a0 a1 a2 a3 a4 a5 h k n := by
  refine e_aload_n dX0_feed_0 rfl ?_
  obtain ⟨x1, ⟨fsx1, g2, g2v⟩, H⟩ := H
  refine e_get dX0_feed_1 fX0_1 q1236 g2 g2v ?_
  refine e_bipush (20) dX0_feed_4 (by decide) ?_
  refine e_iadd dX0_feed_6 ?_
  refine e_sipush (700) dX0_feed_7 (by decide) ?_
  refine e_icmp_le 15 dX0_feed_10 (by decide) (fun g3 => ?_) (fun g3 => ?_)
  · replace H := H.1 g3
    refine e_iconst (5) dX0_feed_15 (by decide) ?_
    obtain ⟨N6, g5i, g5b, g5, g5n, H⟩ := H
    refine c_newarrayI dX0_feed_16 q303 g5i g5b g5 g5n ?_
    replace H := H _ rfl
    generalize eNw h _ = h4 at H ⊢
    refine e_dup dX0_feed_18 rfl ?_
    refine e_iconst (0) dX0_feed_19 (by decide) ?_
    refine e_iload_n dX0_feed_20 rfl ?_
    obtain ⟨N7, f8, g9, g9l, g9i, H⟩ := H
    refine e_iastore dX0_feed_21 g9 g9l g9i ?_
    replace H := H _ rfl
    generalize eUp h4 h.2 _ = h10 at H ⊢
    refine e_dup dX0_feed_22 rfl ?_
    refine e_iconst (1) dX0_feed_23 (by decide) ?_
    refine e_iload_n dX0_feed_24 rfl ?_
    obtain ⟨N11, f12, g13, g13l, g13i, H⟩ := H
    refine e_iastore dX0_feed_25 g13 g13l g13i ?_
    replace H := H _ rfl
    generalize eUp h10 h.2 _ = h14 at H ⊢
    refine e_dup dX0_feed_26 rfl ?_
    refine e_iconst (2) dX0_feed_27 (by decide) ?_
    refine e_iload_n dX0_feed_28 rfl ?_
    obtain ⟨N15, f16, g17, g17l, g17i, H⟩ := H
    refine e_iastore dX0_feed_29 g17 g17l g17i ?_
    replace H := H _ rfl
    generalize eUp h14 h.2 _ = h18 at H ⊢
    refine e_dup dX0_feed_30 rfl ?_
    refine e_iconst (3) dX0_feed_31 (by decide) ?_
    refine e_iload dX0_feed_32 rfl ?_
    obtain ⟨N19, f20, g21, g21l, g21i, H⟩ := H
    refine e_iastore dX0_feed_34 g21 g21l g21i ?_
    replace H := H _ rfl
    generalize eUp h18 h.2 _ = h22 at H ⊢
    refine e_dup dX0_feed_35 rfl ?_
    refine e_iconst (4) dX0_feed_36 (by decide) ?_
    refine e_iload dX0_feed_37 rfl ?_
    obtain ⟨N23, f24, g25, g25l, g25i, H⟩ := H
    refine e_iastore dX0_feed_39 g25 g25l g25i ?_
    replace H := H _ rfl
    generalize eUp h22 h.2 _ = h26 at H ⊢
    refine e_astore _ dX0_feed_40 (by decide) rfl rfl ?_
    refine e_aload dX0_feed_42 rfl ?_
    obtain ⟨v27, g28, H⟩ := H
    refine e_alen (t := 0) dX0_feed_44 (fun _ => rfl) g28 ?_
    refine e_istore _ dX0_feed_45 (by decide) rfl rfl ?_
    refine e_iconst (0) dX0_feed_47 (by decide) ?_
    refine e_istore _ dX0_feed_48 (by decide) rfl rfl ?_
    exact E.less2 H (eS_s (eS_n (eS_n (eS_n (eS_n (eS_n (eS_s (eS_s (eS_s (eS_n (eS_n eS_0)))))))))))
  · replace H := H.2 g3
    refine e_iconst (-1) dX0_feed_13 (by decide) ?_
    exact e_ireturn .int dX0_feed_14 rfl rfl H
set_option maxHeartbeats 4000000 in
theorem s_X0_feed_50 (c : cC) (a0 : Nat) (a6 : Nat) (a7 : Int32) (a8 : Int32) (h : eH) (k n : Nat) (H : (a7 ≤ a8 → ∃ x2 : Int32, fV h a0 0 1 (.int x2) ∧ (c.2.2.2.2 (.inl (some (.int x2))) h)) ∧ (¬ a7 ≤ a8 → ∃ (N4 : Nat) (f5 : Nat → Int32), h.1 a6 = some (.inl (c.2.2.1.2.1 0, N4, .inl f5)) ∧ vp_in a8 N4 ∧ (h_X0_feed_68 c a0 a6 a7 a8 (f5 a8.toNatClampNeg) (24 : Int32) h k n))) : h_X0_feed_50 c a0 a6 a7 a8 h k n := by
  refine e_iload dX0_feed_50 rfl ?_
  refine e_iload dX0_feed_52 rfl ?_
  refine e_icmp_ge 110 dX0_feed_54 (by decide) (fun g1 => ?_) (fun g1 => ?_)
  · replace H := H.1 g1
    refine e_aload_n dX0_feed_110 rfl ?_
    obtain ⟨x2, ⟨fsx2, g3, g3v⟩, H⟩ := H
    refine e_get dX0_feed_111 fX0_1 q1236 g3 g3v ?_
    exact e_ireturn .int dX0_feed_114 rfl rfl H
  · replace H := H.2 g1
    refine e_aload dX0_feed_57 rfl ?_
    refine e_iload dX0_feed_59 rfl ?_
    obtain ⟨N4, f5, g6, g6i, H⟩ := H
    refine e_iaload dX0_feed_61 g6 g6i ?_
    refine e_istore _ dX0_feed_62 (by decide) rfl rfl ?_
    refine e_bipush (24) dX0_feed_64 (by decide) ?_
    refine e_istore _ dX0_feed_66 (by decide) rfl rfl ?_
    exact E.less2 H (eS_s (eS_n (eS_n (eS_n (eS_n (eS_n (eS_s (eS_s (eS_s (eS_s (eS_s eS_0)))))))))))
set_option maxHeartbeats 4000000 in
theorem s_X0_feed_68 (c : cC) (a0 : Nat) (a6 : Nat) (a7 : Int32) (a8 : Int32) (a9 : Int32) (a10 : Int32) (h : eH) (k n : Nat) (H : (a10 < 0 → h_X0_feed_50 c a0 a6 a7 (a8 + 1) h k n) ∧ (¬ a10 < 0 → ∃ x2 : Nat, fV h a0 0 0 (.ref x2) ∧ (∃ x4 : Int32, fV h a0 0 1 (.int x4) ∧ (∃ (N6 : Nat) (f7 : Nat → Int32), h.1 x2 = some (.inl (c.2.2.1.2.1 2, N6, .inl f7)) ∧ c.2.1 ≤ x2 ∧ vp_in x4 N6 ∧ ∀ h9 : eH, h9 = eUp h x2 (.inl (c.2.2.1.2.1 2, N6, .inl (va_up f7 x4.toNatClampNeg ((a9 >>> (a10 &&& 31)).toInt8.toInt32).toInt8.toInt32))) → (∃ x10 : Int32, fV h9 a0 0 1 (.int x10) ∧ (∃ fs12 : List Value, h9.1 a0 = some (.inr (0, fs12)) ∧ c.2.1 ≤ a0 ∧ 1 < fs12.length ∧ ∀ h14 : eH, h14 = eUp h9 a0 (.inr (0, fs12.set 1 (.int (x10 + (1 : Int32))))) → (h_X0_feed_68 c a0 a6 a7 a8 a9 (a10 + (-8)) h14 k n))))))) : h_X0_feed_68 c a0 a6 a7 a8 a9 a10 h k n := by
  refine e_iload dX0_feed_68 rfl ?_
  refine e_if_lt 104 dX0_feed_70 (by decide) (fun g1 => ?_) (fun g1 => ?_)
  · replace H := H.1 g1
    refine e_iinc (a8 + 1) _ dX0_feed_104 rfl rfl (by decide) rfl rfl ?_
    refine e_goto 50 dX0_feed_107 (by decide) ?_
    exact E.less2 H (eS_s (eS_n (eS_n (eS_n (eS_n (eS_n (eS_s (eS_s (eS_s (eS_n (eS_n eS_0)))))))))))
  · replace H := H.2 g1
    refine e_aload_n dX0_feed_73 rfl ?_
    obtain ⟨x2, ⟨fsx2, g3, g3v⟩, H⟩ := H
    refine e_get dX0_feed_74 fX0_0 q1235 g3 g3v ?_
    refine e_aload_n dX0_feed_77 rfl ?_
    obtain ⟨x4, ⟨fsx4, g5, g5v⟩, H⟩ := H
    refine e_get dX0_feed_78 fX0_1 q1236 g5 g5v ?_
    refine e_iload dX0_feed_81 rfl ?_
    refine e_iload dX0_feed_83 rfl ?_
    refine e_ishr dX0_feed_85 ?_
    refine e_i2b dX0_feed_86 ?_
    obtain ⟨N6, f7, g8, g8l, g8i, H⟩ := H
    refine e_bastore dX0_feed_87 g8 g8l g8i ?_
    replace H := H _ rfl
    generalize eUp h x2 _ = h9 at H ⊢
    refine e_aload_n dX0_feed_88 rfl ?_
    refine e_dup dX0_feed_89 rfl ?_
    obtain ⟨x10, ⟨fsx10, g11, g11v⟩, H⟩ := H
    refine e_get dX0_feed_90 fX0_1 q1236 g11 g11v ?_
    refine e_iconst (1) dX0_feed_93 (by decide) ?_
    refine e_iadd dX0_feed_94 ?_
    obtain ⟨fs12, g13, g13l, g13j, H⟩ := H
    refine e_put dX0_feed_95 fX0_1 q1236 (eFit_i _) g13 g13l g13j ?_
    replace H := H _ rfl
    generalize eUp h9 a0 _ = h14 at H ⊢
    refine e_iinc (a10 + (-8)) _ dX0_feed_98 rfl rfl (by decide) rfl rfl ?_
    refine e_goto 68 dX0_feed_101 (by decide) ?_
    exact E.less2 H (eS_s (eS_n (eS_n (eS_n (eS_n (eS_n (eS_s (eS_s (eS_s (eS_s (eS_s eS_0)))))))))))
theorem en_X0_feed {l : Launch} {lo : Nat} {G : eG} {d : Nat} {P : eO → eH → Prop} (a0 : Nat) (a1 : Int32) (a2 : Int32) (a3 : Int32) (a4 : Int32) (a5 : Int32) {h : eH} {k n : Nat} (H : h_X0_feed_0 (l, lo, G, d, P) a0 a1 a2 a3 a4 a5 h k n) : Ct l lo G d mX0_feed [.ref a0, .int a1, .int a2, .int a3, .int a4, .int a5] h k n P := 
  Ct_of (eArL mX0_feed.2.2.2.1 [.ref a0, .int a1, .int a2, .int a3, .int a4, .int a5]) (by decide) rfl (Nat.le_of_ble_eq_true rfl) (fun j w q => eArL_mem j w q) (E.less2 H (eS_s (eS_s (eS_s (eS_s (eS_s (eS_s (eS_n (eS_n (eS_n (eS_n (eS_n eS_0))))))))))))
/-! X0_end TroupeSums.end(I)I -/
def h_X0_end_0 (c : cC) (a0 : Nat) (a1 : Int32) (h : eH) (k n : Nat) : Prop := E c.1 c.2.1 c.2.2.1 c.2.2.2.1 mX0_end c.2.2.2.2 0 [some (.ref a0), some (.int a1)] [] h k n
set_option maxHeartbeats 4000000 in
theorem s_X0_end_0 (c : cC) (a0 : Nat) (a1 : Int32) (h : eH) (k n : Nat) (H : (a1 < 0 → c.2.2.2.2 (.inl (some (.int (-1 : Int32)))) h) ∧ (¬ a1 < 0 → ∃ x2 : Int32, fV h a0 0 1 (.int x2) ∧ ((a1 ≤ x2 → ∃ fs5 : List Value, h.1 a0 = some (.inr (0, fs5)) ∧ c.2.1 ≤ a0 ∧ 1 < fs5.length ∧ ∀ h7 : eH, h7 = eUp h a0 (.inr (0, fs5.set 1 (.int a1))) → (c.2.2.2.2 (.inl (some (.int a1))) h7)) ∧ (¬ a1 ≤ x2 → c.2.2.2.2 (.inl (some (.int (-1 : Int32)))) h)))) : h_X0_end_0 c a0 a1 h k n := by
  refine e_iload_n dX0_end_0 rfl ?_
  refine e_if_lt 12 dX0_end_1 (by decide) (fun g1 => ?_) (fun g1 => ?_)
  · replace H := H.1 g1
    refine e_iconst (-1) dX0_end_12 (by decide) ?_
    exact e_ireturn .int dX0_end_13 rfl rfl H
  · replace H := H.2 g1
    refine e_iload_n dX0_end_4 rfl ?_
    refine e_aload_n dX0_end_5 rfl ?_
    obtain ⟨x2, ⟨fsx2, g3, g3v⟩, H⟩ := H
    refine e_get dX0_end_6 fX0_1 q1236 g3 g3v ?_
    refine e_icmp_le 14 dX0_end_9 (by decide) (fun g4 => ?_) (fun g4 => ?_)
    · replace H := H.1 g4
      refine e_aload_n dX0_end_14 rfl ?_
      refine e_iload_n dX0_end_15 rfl ?_
      obtain ⟨fs5, g6, g6l, g6j, H⟩ := H
      refine e_put dX0_end_16 fX0_1 q1236 (eFit_i _) g6 g6l g6j ?_
      replace H := H _ rfl
      generalize eUp h a0 _ = h7 at H ⊢
      refine e_iload_n dX0_end_19 rfl ?_
      exact e_ireturn .int dX0_end_20 rfl rfl H
    · replace H := H.2 g4
      refine e_iconst (-1) dX0_end_12 (by decide) ?_
      exact e_ireturn .int dX0_end_13 rfl rfl H
theorem en_X0_end {l : Launch} {lo : Nat} {G : eG} {d : Nat} {P : eO → eH → Prop} (a0 : Nat) (a1 : Int32) {h : eH} {k n : Nat} (H : h_X0_end_0 (l, lo, G, d, P) a0 a1 h k n) : Ct l lo G d mX0_end [.ref a0, .int a1] h k n P := 
  Ct_of (eArL mX0_end.2.2.2.1 [.ref a0, .int a1]) (by decide) rfl (Nat.le_of_ble_eq_true rfl) (fun j w q => eArL_mem j w q) (E.less2 H (eS_s (eS_s eS_0)))
/-! X0_troupe TroupeSums.troupe()I -/
def h_X0_troupe_0 (c : cC) (a0 : Nat) (h : eH) (k n : Nat) : Prop := E c.1 c.2.1 c.2.2.1 c.2.2.2.1 mX0_troupe c.2.2.2.2 0 [some (.ref a0), none] [] h k n
def h_X0_troupe_29 (c : cC) (a0 : Nat) (b0 : Nat) (h : eH) (k n : Nat) : Prop := E c.1 c.2.1 c.2.2.1 c.2.2.2.1 mX0_troupe c.2.2.2.2 29 [some (.ref a0), none] [.ref b0] h k n
set_option maxHeartbeats 4000000 in
theorem s_X0_troupe_0 (c : cC) (a0 : Nat) (h : eH) (k n : Nat) (H : ∃ fs8 : List Value, h.1 a0 = some (.inr (0, fs8)) ∧ ∃ (d4 k5 n6 : Nat) (Q7 : eH → Prop), cV c.1 c.2.1 c.2.2.1 d4 mX0_right [.ref a0] h k5 n6 Q7 cX0 ∧ d4 + 1 ≤ c.2.2.2.1 ∧ k5 ≤ k ∧ n6 ≤ n ∧ (∀ h2 : eH, Q7 h2 → (1 ≤ k - k5 ∧ 11 ≤ n - n6 ∧ ∀ h8 : eH, h8 = eNw h2 (.inr (7, [.null, .int 0, .int 0, .int 0, .int 0, .int 0, .int 0, .null, .null, .int 0, .int 0])) → (∃ x10 : Nat, fV h8 a0 0 0 (.ref x10) ∧ (∃ fs8 : List Value, h8.1 a0 = some (.inr (0, fs8)) ∧ ∃ (d15 k16 n17 : Nat) (Q18 : Int32 → eH → Prop), cI c.1 c.2.1 c.2.2.1 d15 mX0_taken [.ref a0] h8 k16 n17 Q18 cX0 ∧ d15 + 1 ≤ c.2.2.2.1 ∧ k16 ≤ k - k5 - 1 ∧ n17 ≤ n - n6 - 11 ∧ (∀ (r12 : Int32) (h13 : eH), Q18 r12 h13 → (∃ (d22 k23 n24 : Nat) (Q25 : eH → Prop), cV c.1 c.2.1 c.2.2.1 d22 mX7_init [.ref h2.2, .ref x10, .int r12] h13 k23 n24 Q25 cX0 ∧ d22 + 1 ≤ c.2.2.2.1 ∧ k23 ≤ k - k5 - 1 - k16 ∧ n24 ≤ n - n6 - 11 - n17 ∧ (∀ h20 : eH, Q25 h20 → (∃ fs8 : List Value, h20.1 h2.2 = some (.inr (7, fs8)) ∧ ∃ (d29 k30 n31 : Nat) (Q32 : Nat → eH → Prop) (X73 : Nat → Nat → eH → Prop), cR c.1 c.2.1 c.2.2.1 d29 mX7_read [.ref h2.2] h20 k30 n31 Q32 X73 ∧ d29 + 1 ≤ c.2.2.2.1 ∧ k30 ≤ k - k5 - 1 - k16 - k23 ∧ n31 ≤ n - n6 - 11 - n17 - n24 ∧ (∀ (r26 : Nat) (h27 : eH), Q32 r26 h27 → (∃ fs33 : List Value, h27.1 a0 = some (.inr (0, fs33)) ∧ c.2.1 ≤ a0 ∧ 4 < fs33.length ∧ ∀ h35 : eH, h35 = eUp h27 a0 (.inr (0, fs33.set 4 (.ref r26))) → (∃ fs8 : List Value, h35.1 a0 = some (.inr (0, fs8)) ∧ ∃ (d39 k40 n41 : Nat) (Q42 : Int32 → eH → Prop), cI c.1 c.2.1 c.2.2.1 d39 mX0_sorts [.ref a0] h35 k40 n41 Q42 cX0 ∧ d39 + 1 ≤ c.2.2.2.1 ∧ k40 ≤ k - k5 - 1 - k16 - k23 - k30 ∧ n41 ≤ n - n6 - 11 - n17 - n24 - n31 ∧ (∀ (r36 : Int32) (h37 : eH), Q42 r36 h37 → (∃ N45 : Nat, r36 = nI N45 ∧ N45 ≤ 10000000 ∧ 1 ≤ k - k5 - 1 - k16 - k23 - k30 - k40 ∧ N45 ≤ n - n6 - 11 - n17 - n24 - n31 - n41 ∧ ∀ h43 : eH, h43 = eNw h37 (.inl (c.2.2.1.2.1 1, N45, .inr (.inl (fun _ => 0)))) → (∃ fs46 : List Value, h43.1 a0 = some (.inr (0, fs46)) ∧ c.2.1 ≤ a0 ∧ 5 < fs46.length ∧ ∀ h48 : eH, h48 = eUp h43 a0 (.inr (0, fs46.set 5 (.ref h37.2))) → (∃ fs49 : List Value, h48.1 a0 = some (.inr (0, fs49)) ∧ c.2.1 ≤ a0 ∧ 6 < fs49.length ∧ ∀ h51 : eH, h51 = eUp h48 a0 (.inr (0, fs49.set 6 (.null))) → (∃ x52 : Nat, fV h51 a0 0 7 (.ref x52) ∧ (∃ fs8 : List Value, h51.1 x52 = some (.inr (24, fs8)) ∧ ∃ (d57 k58 n59 : Nat) (Q60 : eH → Prop), cV c.1 c.2.1 c.2.2.1 d57 mJ25_clear [.ref x52] h51 k58 n59 Q60 cX0 ∧ d57 + 1 ≤ c.2.2.2.1 ∧ k58 ≤ k - k5 - 1 - k16 - k23 - k30 - k40 - 1 ∧ n59 ≤ n - n6 - 11 - n17 - n24 - n31 - n41 - N45 ∧ (∀ h55 : eH, Q60 h55 → (∃ x61 : Nat, fV h55 a0 0 4 (.ref x61) ∧ (∃ x63 : Option Nat, fV h55 x61 1 2 (va_rf x63) ∧ (∃ o65 : Nat, x63 = some o65 ∧ ∃ fs8 : List Value, h55.1 o65 = some (.inr (3, fs8)) ∧ ∃ (d69 k70 n71 : Nat) (Q72 : Int32 → eH → Prop), cI c.1 c.2.1 c.2.2.1 d69 mX3_size [.ref o65] h55 k70 n71 Q72 cX0 ∧ d69 + 1 ≤ c.2.2.2.1 ∧ k70 ≤ k - k5 - 1 - k16 - k23 - k30 - k40 - 1 - k58 ∧ n71 ≤ n - n6 - 11 - n17 - n24 - n31 - n41 - N45 - n59 ∧ (∀ (r66 : Int32) (h67 : eH), Q72 r66 h67 → (c.2.2.2.2 (.inl (some (.int r66))) h67))))))))))))))) ∧ (∀ (ci q : Nat) (h9 : eH), X73 ci q h9 → ci = 12) ∧ (∀ (q74 : Nat) (h75 : eH) (fs9 : List Value), X73 12 q74 h75 → h75.1 q74 = some (.inr (12, fs9)) → c.2.1 ≤ q74 → h_X0_troupe_29 c a0 q74 h75 (k - k5 - 1 - k16 - k23 - k30) (n - n6 - 11 - n17 - n24 - n31))))))))))) : h_X0_troupe_0 c a0 h k n := by
  refine e_aload_n dX0_troupe_0 rfl ?_
  obtain ⟨fsg3, g3o, H⟩ := H
  obtain ⟨d4, k5, n6, Q7, g3, g3d, g3k, g3n, H⟩ := H
  refine e_callV (r := (RX0, TX0, 8)) (As := []) g3 dX0_troupe_1 wX0_right q1273 q1275 qs15 g3o rfl rfl g3d rfl (Nat.le_of_ble_eq_true rfl) (k1 := k - k5) (n1 := n - n6) (by omega) (by omega) ?_ ?_
  · rintro v h2 (⟨v9, e9, e8, hq⟩ | ⟨ci9, q9, e9, -⟩)
    · cases e9
      subst e8
      replace H := H h2 hq
      refine e_aload_n dX0_troupe_4 rfl ?_
      obtain ⟨g9, g9n, H⟩ := H
      refine e_new (ci := 7) (N := 11) (C := RX7) (T := TX7) tyX7 (fs := [.null, .int 0, .int 0, .int 0, .int 0, .int 0, .int 0, .null, .null, .int 0, .int 0]) dX0_troupe_5 rfl in_X7 tyX7_ok q1277 q1278 q170 (by decide) (k1 := k - k5 - 1) (n1 := n - n6 - 11) (by omega) (by omega) ?_
      replace H := H _ rfl
      generalize eNw h2 _ = h8 at H ⊢
      refine e_dup dX0_troupe_8 rfl ?_
      refine e_aload_n dX0_troupe_9 rfl ?_
      obtain ⟨x10, ⟨fsx10, g11, g11v⟩, H⟩ := H
      refine e_get dX0_troupe_10 fX0_0 q1235 g11 g11v ?_
      refine e_aload_n dX0_troupe_13 rfl ?_
      obtain ⟨fsg14, g14o, H⟩ := H
      obtain ⟨d15, k16, n17, Q18, g14, g14d, g14k, g14n, H⟩ := H
      refine e_callV (r := (RX0, TX0, 8)) (As := []) g14 dX0_troupe_14 wX0_taken q1279 q1281 qs16 g14o rfl rfl g14d rfl (Nat.le_of_ble_eq_true rfl) (k1 := k - k5 - 1 - k16) (n1 := n - n6 - 11 - n17) (by omega) (by omega) ?_ ?_
      · rintro v h13 (⟨v9, e9, r12, e8, hq⟩ | ⟨ci9, q9, e9, -⟩)
        · cases e9
          subst e8
          replace H := H r12 h13 hq
          obtain ⟨d22, k23, n24, Q25, g21, g21d, g21k, g21n, H⟩ := H
          refine e_callI (As := [.ref x10, .int r12]) g21 dX0_troupe_17 wX7_init rfl rfl rfl q1283 q1284 rfl g21d rfl (Nat.le_of_ble_eq_true rfl) (k1 := k - k5 - 1 - k16 - k23) (n1 := n - n6 - 11 - n17 - n24) (by omega) (by omega) ?_ ?_
          · rintro v h20 (⟨v9, e9, e8, hq⟩ | ⟨ci9, q9, e9, -⟩)
            · cases e9
              subst e8
              replace H := H h20 hq
              obtain ⟨fsg28, g28o, H⟩ := H
              obtain ⟨d29, k30, n31, Q32, X73, g28, g28d, g28k, g28n, H, Hx, Hx12⟩ := H
              refine e_callV (r := (RX7, TX7, 11)) (As := []) g28 dX0_troupe_20 wX7_read q1395 q1396 q1397 g28o rfl rfl g28d rfl (Nat.le_of_ble_eq_true rfl) (k1 := k - k5 - 1 - k16 - k23 - k30) (n1 := n - n6 - 11 - n17 - n24 - n31) (by omega) (by omega) ?_ ?_
              · rintro v h27 (⟨v9, e9, r26, e8, hq⟩ | ⟨ci9, q9, e9, -⟩)
                · cases e9
                  subst e8
                  replace H := H r26 h27 hq
                  obtain ⟨fs33, g34, g34l, g34j, H⟩ := H
                  refine e_put dX0_troupe_23 fX0_4 q1239 (eFit_or _ _) g34 g34l g34j ?_
                  replace H := H _ rfl
                  generalize eUp h27 a0 _ = h35 at H ⊢
                  refine e_goto 39 dX0_troupe_26 (by decide) ?_
                  refine e_aload_n dX0_troupe_39 rfl ?_
                  refine e_aload_n dX0_troupe_40 rfl ?_
                  obtain ⟨fsg38, g38o, H⟩ := H
                  obtain ⟨d39, k40, n41, Q42, g38, g38d, g38k, g38n, H⟩ := H
                  refine e_callV (r := (RX0, TX0, 8)) (As := []) g38 dX0_troupe_41 wX0_sorts q1913 q1915 qs42 g38o rfl rfl g38d rfl (Nat.le_of_ble_eq_true rfl) (k1 := k - k5 - 1 - k16 - k23 - k30 - k40) (n1 := n - n6 - 11 - n17 - n24 - n31 - n41) (by omega) (by omega) ?_ ?_
                  · rintro v h37 (⟨v9, e9, r36, e8, hq⟩ | ⟨ci9, q9, e9, -⟩)
                    · cases e9
                      subst e8
                      replace H := H r36 h37 hq
                      obtain ⟨N45, g44i, g44b, g44, g44n, H⟩ := H
                      refine c_newarrayJ dX0_troupe_44 q1234 g44i g44b g44 g44n ?_
                      replace H := H _ rfl
                      generalize eNw h37 _ = h43 at H ⊢
                      obtain ⟨fs46, g47, g47l, g47j, H⟩ := H
                      refine e_put dX0_troupe_46 fX0_5 q1240 (eFit_ar _ _) g47 g47l g47j ?_
                      replace H := H _ rfl
                      generalize eUp h43 a0 _ = h48 at H ⊢
                      refine e_aload_n dX0_troupe_49 rfl ?_
                      refine e_null dX0_troupe_50 ?_
                      obtain ⟨fs49, g50, g50l, g50j, H⟩ := H
                      refine e_put dX0_troupe_51 fX0_6 q1241 (eFit_o _ none) g50 g50l g50j ?_
                      replace H := H _ rfl
                      generalize eUp h48 a0 _ = h51 at H ⊢
                      refine e_aload_n dX0_troupe_54 rfl ?_
                      obtain ⟨x52, ⟨fsx52, g53, g53v⟩, H⟩ := H
                      refine e_get dX0_troupe_55 fX0_7 q1242 g53 g53v ?_
                      obtain ⟨fsg56, g56o, H⟩ := H
                      obtain ⟨d57, k58, n59, Q60, g56, g56d, g56k, g56n, H⟩ := H
                      refine e_callV (r := (RJ25, TJ25, 3)) (As := []) g56 dX0_troupe_58 wJ25_clear q1919 q1920 q1921 g56o rfl rfl g56d rfl (Nat.le_of_ble_eq_true rfl) (k1 := k - k5 - 1 - k16 - k23 - k30 - k40 - 1 - k58) (n1 := n - n6 - 11 - n17 - n24 - n31 - n41 - N45 - n59) (by omega) (by omega) ?_ ?_
                      · rintro v h55 (⟨v9, e9, e8, hq⟩ | ⟨ci9, q9, e9, -⟩)
                        · cases e9
                          subst e8
                          replace H := H h55 hq
                          refine e_aload_n dX0_troupe_61 rfl ?_
                          obtain ⟨x61, ⟨fsx61, g62, g62v⟩, H⟩ := H
                          refine e_get dX0_troupe_62 fX0_4 q1239 g62 g62v ?_
                          obtain ⟨x63, ⟨fsx63, g64, g64v⟩, H⟩ := H
                          refine e_getN dX0_troupe_65 fX1_2 q238 g64 g64v ?_
                          obtain ⟨o65, eo65, H⟩ := H
                          subst eo65
                          obtain ⟨fsg68, g68o, H⟩ := H
                          obtain ⟨d69, k70, n71, Q72, g68, g68d, g68k, g68n, H⟩ := H
                          refine e_callV (r := (RX3, TX3, 8)) (As := []) g68 dX0_troupe_68 wX3_size q1926 q929 q930 g68o rfl rfl g68d rfl (Nat.le_of_ble_eq_true rfl) (k1 := k - k5 - 1 - k16 - k23 - k30 - k40 - 1 - k58 - k70) (n1 := n - n6 - 11 - n17 - n24 - n31 - n41 - N45 - n59 - n71) (by omega) (by omega) ?_ ?_
                          · rintro v h67 (⟨v9, e9, r66, e8, hq⟩ | ⟨ci9, q9, e9, -⟩)
                            · cases e9
                              subst e8
                              replace H := H r66 h67 hq
                              exact e_ireturn .int dX0_troupe_71 rfl rfl H
                            · cases e9
                          · rintro q9 h9 (⟨v9, e9, -⟩ | ⟨ci9, q8, e9, -, -, hx⟩)
                            · cases e9
                            · exact hx.elim
                        · cases e9
                      · rintro q9 h9 (⟨v9, e9, -⟩ | ⟨ci9, q8, e9, -, -, hx⟩)
                        · cases e9
                        · exact hx.elim
                    · cases e9
                  · rintro q9 h9 (⟨v9, e9, -⟩ | ⟨ci9, q8, e9, -, -, hx⟩)
                    · cases e9
                    · exact hx.elim
                · cases e9
              · rintro q9 h9 (⟨v9, e9, -⟩ | ⟨ci9, q8, e9, gl, ⟨fs9, gq⟩, hx⟩)
                · cases e9
                · cases e9
                  rcases Hx ci9 q9 h9 hx with rfl
                  · have H := Hx12 q9 h9 fs9 hx gq gl
                    refine ex_catch (r := (RX12, TX12, 6)) [] (4, 26, 29, 101) [] rfl (by decide) (by decide) (fun z hz => absurd hz List.not_mem_nil) q1272 q1884 gq rfl gl ?_
                    exact E.less2 H (eS_s (eS_n eS_0))
            · cases e9
          · rintro q9 h9 (⟨v9, e9, -⟩ | ⟨ci9, q8, e9, -, -, hx⟩)
            · cases e9
            · exact hx.elim
        · cases e9
      · rintro q9 h9 (⟨v9, e9, -⟩ | ⟨ci9, q8, e9, -, -, hx⟩)
        · cases e9
        · exact hx.elim
    · cases e9
  · rintro q9 h9 (⟨v9, e9, -⟩ | ⟨ci9, q8, e9, -, -, hx⟩)
    · cases e9
    · exact hx.elim
set_option maxHeartbeats 4000000 in
theorem s_X0_troupe_29 (c : cC) (a0 : Nat) (b0 : Nat) (h : eH) (k n : Nat) (H : ∃ fs8 : List Value, h.1 b0 = some (.inr (12, fs8)) ∧ ∃ (d4 k5 n6 : Nat) (Q7 : Nat → eH → Prop), cR c.1 c.2.1 c.2.2.1 d4 mX12_first [.ref b0] h k5 n6 Q7 cX0 ∧ d4 + 1 ≤ c.2.2.2.1 ∧ k5 ≤ k ∧ n6 ≤ n ∧ (∀ (r1 : Nat) (h2 : eH), Q7 r1 h2 → (∃ fs8 : List Value, h2.1 a0 = some (.inr (0, fs8)) ∧ ∃ (d11 k12 n13 : Nat) (Q14 : Int32 → eH → Prop), cI c.1 c.2.1 c.2.2.1 d11 mX0_faulted [.ref a0, .ref r1] h2 k12 n13 Q14 cX0 ∧ d11 + 1 ≤ c.2.2.2.1 ∧ k12 ≤ k - k5 ∧ n13 ≤ n - n6 ∧ (∀ (r8 : Int32) (h9 : eH), Q14 r8 h9 → (c.2.2.2.2 (.inl (some (.int r8))) h9))))) : h_X0_troupe_29 c a0 b0 h k n := by
  refine e_astore_n _ dX0_troupe_29 (by decide) rfl rfl ?_
  refine e_aload_n dX0_troupe_30 rfl ?_
  refine e_aload_n dX0_troupe_31 rfl ?_
  obtain ⟨fsg3, g3o, H⟩ := H
  obtain ⟨d4, k5, n6, Q7, g3, g3d, g3k, g3n, H⟩ := H
  refine e_callV (r := (RX12, TX12, 6)) (As := []) g3 dX0_troupe_32 wX12_first q1897 q1898 q1899 g3o rfl rfl g3d rfl (Nat.le_of_ble_eq_true rfl) (k1 := k - k5) (n1 := n - n6) (by omega) (by omega) ?_ ?_
  · rintro v h2 (⟨v9, e9, r1, e8, hq⟩ | ⟨ci9, q9, e9, -⟩)
    · cases e9
      subst e8
      replace H := H r1 h2 hq
      obtain ⟨fsg10, g10o, H⟩ := H
      obtain ⟨d11, k12, n13, Q14, g10, g10d, g10k, g10n, H⟩ := H
      refine e_callV (r := (RX0, TX0, 8)) (As := [.ref r1]) g10 dX0_troupe_35 wX0_faulted q1909 q1911 qs41 g10o rfl rfl g10d rfl (Nat.le_of_ble_eq_true rfl) (k1 := k - k5 - k12) (n1 := n - n6 - n13) (by omega) (by omega) ?_ ?_
      · rintro v h9 (⟨v9, e9, r8, e8, hq⟩ | ⟨ci9, q9, e9, -⟩)
        · cases e9
          subst e8
          replace H := H r8 h9 hq
          exact e_ireturn .int dX0_troupe_38 rfl rfl H
        · cases e9
      · rintro q9 h9 (⟨v9, e9, -⟩ | ⟨ci9, q8, e9, -, -, hx⟩)
        · cases e9
        · exact hx.elim
    · cases e9
  · rintro q9 h9 (⟨v9, e9, -⟩ | ⟨ci9, q8, e9, -, -, hx⟩)
    · cases e9
    · exact hx.elim
theorem en_X0_troupe {l : Launch} {lo : Nat} {G : eG} {d : Nat} {P : eO → eH → Prop} (a0 : Nat) {h : eH} {k n : Nat} (H : h_X0_troupe_0 (l, lo, G, d, P) a0 h k n) : Ct l lo G d mX0_troupe [.ref a0] h k n P := 
  Ct_of (eArL mX0_troupe.2.2.2.1 [.ref a0]) (by decide) rfl (Nat.le_of_ble_eq_true rfl) (fun j w q => eArL_mem j w q) (E.less2 H (eS_s (eS_n eS_0)))
/-! X0_right TroupeSums.right()V -/
def h_X0_right_0 (c : cC) (a0 : Nat) (h : eH) (k n : Nat) : Prop := E c.1 c.2.1 c.2.2.1 c.2.2.2.1 mX0_right c.2.2.2.2 0 [some (.ref a0)] [] h k n
set_option maxHeartbeats 4000000 in
theorem s_X0_right_0 (c : cC) (a0 : Nat) (h : eH) (k n : Nat) (H : ∃ fs1 : List Value, h.1 a0 = some (.inr (0, fs1)) ∧ c.2.1 ≤ a0 ∧ 2 < fs1.length ∧ ∀ h3 : eH, h3 = eUp h a0 (.inr (0, fs1.set 2 (.int (0 : Int32)))) → (∃ fs4 : List Value, h3.1 a0 = some (.inr (0, fs4)) ∧ c.2.1 ≤ a0 ∧ 3 < fs4.length ∧ ∀ h6 : eH, h6 = eUp h3 a0 (.inr (0, fs4.set 3 (.int (-1 : Int32)))) → (c.2.2.2.2 (.inl none) h6))) : h_X0_right_0 c a0 h k n := by
  refine e_aload_n dX0_right_0 rfl ?_
  refine e_iconst (0) dX0_right_1 (by decide) ?_
  obtain ⟨fs1, g2, g2l, g2j, H⟩ := H
  refine e_put dX0_right_2 fX0_2 q1237 (eFit_i _) g2 g2l g2j ?_
  replace H := H _ rfl
  generalize eUp h a0 _ = h3 at H ⊢
  refine e_aload_n dX0_right_5 rfl ?_
  refine e_iconst (-1) dX0_right_6 (by decide) ?_
  obtain ⟨fs4, g5, g5l, g5j, H⟩ := H
  refine e_put dX0_right_7 fX0_3 q1238 (eFit_i _) g5 g5l g5j ?_
  replace H := H _ rfl
  generalize eUp h3 a0 _ = h6 at H ⊢
  exact e_return dX0_right_10 rfl H
theorem en_X0_right {l : Launch} {lo : Nat} {G : eG} {d : Nat} {P : eO → eH → Prop} (a0 : Nat) {h : eH} {k n : Nat} (H : h_X0_right_0 (l, lo, G, d, P) a0 h k n) : Ct l lo G d mX0_right [.ref a0] h k n P := 
  Ct_of (eArL mX0_right.2.2.2.1 [.ref a0]) (by decide) rfl (Nat.le_of_ble_eq_true rfl) (fun j w q => eArL_mem j w q) (E.less2 H (eS_s eS_0))
/-! X0_taken TroupeSums.taken()I -/
def h_X0_taken_0 (c : cC) (a0 : Nat) (h : eH) (k n : Nat) : Prop := E c.1 c.2.1 c.2.2.1 c.2.2.2.1 mX0_taken c.2.2.2.2 0 [some (.ref a0), none] [] h k n
set_option maxHeartbeats 4000000 in
theorem s_X0_taken_0 (c : cC) (a0 : Nat) (h : eH) (k n : Nat) (H : ∃ x1 : Int32, fV h a0 0 1 (.int x1) ∧ (∃ fs3 : List Value, h.1 a0 = some (.inr (0, fs3)) ∧ c.2.1 ≤ a0 ∧ 1 < fs3.length ∧ ∀ h5 : eH, h5 = eUp h a0 (.inr (0, fs3.set 1 (.int (0 : Int32)))) → (c.2.2.2.2 (.inl (some (.int x1))) h5))) : h_X0_taken_0 c a0 h k n := by
  refine e_aload_n dX0_taken_0 rfl ?_
  obtain ⟨x1, ⟨fsx1, g2, g2v⟩, H⟩ := H
  refine e_get dX0_taken_1 fX0_1 q1236 g2 g2v ?_
  refine e_istore_n _ dX0_taken_4 (by decide) rfl rfl ?_
  refine e_aload_n dX0_taken_5 rfl ?_
  refine e_iconst (0) dX0_taken_6 (by decide) ?_
  obtain ⟨fs3, g4, g4l, g4j, H⟩ := H
  refine e_put dX0_taken_7 fX0_1 q1236 (eFit_i _) g4 g4l g4j ?_
  replace H := H _ rfl
  generalize eUp h a0 _ = h5 at H ⊢
  refine e_iload_n dX0_taken_10 rfl ?_
  exact e_ireturn .int dX0_taken_11 rfl rfl H
theorem en_X0_taken {l : Launch} {lo : Nat} {G : eG} {d : Nat} {P : eO → eH → Prop} (a0 : Nat) {h : eH} {k n : Nat} (H : h_X0_taken_0 (l, lo, G, d, P) a0 h k n) : Ct l lo G d mX0_taken [.ref a0] h k n P := 
  Ct_of (eArL mX0_taken.2.2.2.1 [.ref a0]) (by decide) rfl (Nat.le_of_ble_eq_true rfl) (fun j w q => eArL_mem j w q) (E.less2 H (eS_s (eS_n eS_0)))
/-! X0_isIn TroupeSums.isIn(JJJ)Z -/
def h_X0_isIn_0 (c : cC) (a0 : Int64) (a2 : Int64) (a4 : Int64) (h : eH) (k n : Nat) : Prop := E c.1 c.2.1 c.2.2.1 c.2.2.2.1 mX0_isIn c.2.2.2.2 0 [some (.long a0), none, some (.long a2), none, some (.long a4), none] [] h k n
set_option maxHeartbeats 4000000 in
theorem s_X0_isIn_0 (c : cC) (a0 : Int64) (a2 : Int64) (a4 : Int64) (h : eH) (k n : Nat) (H : ((lg_cmp a0 a2) < 0 → c.2.2.2.2 (.inl (some (.int (0 : Int32)))) h) ∧ (¬ (lg_cmp a0 a2) < 0 → (0 < (lg_cmp a0 a4) → c.2.2.2.2 (.inl (some (.int (0 : Int32)))) h) ∧ (¬ 0 < (lg_cmp a0 a4) → c.2.2.2.2 (.inl (some (.int (1 : Int32)))) h))) : h_X0_isIn_0 c a0 a2 a4 h k n := by
  refine e_lload_n dX0_isIn_0 rfl ?_
  refine e_lload_n dX0_isIn_1 rfl ?_
  refine e_lcmp dX0_isIn_2 ?_
  refine e_if_lt 17 dX0_isIn_3 (by decide) (fun g1 => ?_) (fun g1 => ?_)
  · replace H := H.1 g1
    refine e_iconst (0) dX0_isIn_17 (by decide) ?_
    exact e_ireturn .boolean dX0_isIn_18 rfl (by decide) H
  · replace H := H.2 g1
    refine e_lload_n dX0_isIn_6 rfl ?_
    refine e_lload dX0_isIn_7 rfl ?_
    refine e_lcmp dX0_isIn_9 ?_
    refine e_if_gt 17 dX0_isIn_10 (by decide) (fun g2 => ?_) (fun g2 => ?_)
    · replace H := H.1 g2
      refine e_iconst (0) dX0_isIn_17 (by decide) ?_
      exact e_ireturn .boolean dX0_isIn_18 rfl (by decide) H
    · replace H := H.2 g2
      refine e_iconst (1) dX0_isIn_13 (by decide) ?_
      refine e_goto 18 dX0_isIn_14 (by decide) ?_
      exact e_ireturn .boolean dX0_isIn_18 rfl (by decide) H
theorem en_X0_isIn {l : Launch} {lo : Nat} {G : eG} {d : Nat} {P : eO → eH → Prop} (a0 : Int64) (a2 : Int64) (a4 : Int64) {h : eH} {k n : Nat} (H : h_X0_isIn_0 (l, lo, G, d, P) a0 a2 a4 h k n) : Ct l lo G d mX0_isIn [.long a0, .long a2, .long a4] h k n P := 
  Ct_of (eArL mX0_isIn.2.2.2.1 [.long a0, .long a2, .long a4]) (by decide) rfl (Nat.le_of_ble_eq_true rfl) (fun j w q => eArL_mem j w q) (E.less2 H (eS_s (eS_n (eS_s (eS_n (eS_s (eS_n eS_0)))))))
/-! X0_faulted TroupeSums.faulted(LTroupeSums$Wrong;)I -/
def h_X0_faulted_0 (c : cC) (a0 : Nat) (a1 : Nat) (h : eH) (k n : Nat) : Prop := E c.1 c.2.1 c.2.2.1 c.2.2.2.1 mX0_faulted c.2.2.2.2 0 [some (.ref a0), some (.ref a1)] [] h k n
set_option maxHeartbeats 4000000 in
theorem s_X0_faulted_0 (c : cC) (a0 : Nat) (a1 : Nat) (h : eH) (k n : Nat) (H : ∃ x1 : Int32, fV h a1 8 6 (.int x1) ∧ (∃ fs3 : List Value, h.1 a0 = some (.inr (0, fs3)) ∧ c.2.1 ≤ a0 ∧ 2 < fs3.length ∧ ∀ h5 : eH, h5 = eUp h a0 (.inr (0, fs3.set 2 (.int x1))) → (∃ x6 : Int32, fV h5 a1 8 7 (.int x6) ∧ (∃ fs8 : List Value, h5.1 a0 = some (.inr (0, fs8)) ∧ c.2.1 ≤ a0 ∧ 3 < fs8.length ∧ ∀ h10 : eH, h10 = eUp h5 a0 (.inr (0, fs8.set 3 (.int x6))) → (c.2.2.2.2 (.inl (some (.int (-1 : Int32)))) h10))))) : h_X0_faulted_0 c a0 a1 h k n := by
  refine e_aload_n dX0_faulted_0 rfl ?_
  refine e_aload_n dX0_faulted_1 rfl ?_
  obtain ⟨x1, ⟨fsx1, g2, g2v⟩, H⟩ := H
  refine e_getN dX0_faulted_2 fX8_6 q1617 g2 g2v ?_
  obtain ⟨fs3, g4, g4l, g4j, H⟩ := H
  refine e_put dX0_faulted_5 fX0_2 q1237 (eFit_i _) g4 g4l g4j ?_
  replace H := H _ rfl
  generalize eUp h a0 _ = h5 at H ⊢
  refine e_aload_n dX0_faulted_8 rfl ?_
  refine e_aload_n dX0_faulted_9 rfl ?_
  obtain ⟨x6, ⟨fsx6, g7, g7v⟩, H⟩ := H
  refine e_getN dX0_faulted_10 fX8_7 q1619 g7 g7v ?_
  obtain ⟨fs8, g9, g9l, g9j, H⟩ := H
  refine e_put dX0_faulted_13 fX0_3 q1238 (eFit_i _) g9 g9l g9j ?_
  replace H := H _ rfl
  generalize eUp h5 a0 _ = h10 at H ⊢
  refine e_iconst (-1) dX0_faulted_16 (by decide) ?_
  exact e_ireturn .int dX0_faulted_17 rfl rfl H
theorem en_X0_faulted {l : Launch} {lo : Nat} {G : eG} {d : Nat} {P : eO → eH → Prop} (a0 : Nat) (a1 : Nat) {h : eH} {k n : Nat} (H : h_X0_faulted_0 (l, lo, G, d, P) a0 a1 h k n) : Ct l lo G d mX0_faulted [.ref a0, .ref a1] h k n P := 
  Ct_of (eArL mX0_faulted.2.2.2.1 [.ref a0, .ref a1]) (by decide) rfl (Nat.le_of_ble_eq_true rfl) (fun j w q => eArL_mem j w q) (E.less2 H (eS_s (eS_s eS_0)))
/-! X0_sorts TroupeSums.sorts()I -/
def h_X0_sorts_0 (c : cC) (a0 : Nat) (h : eH) (k n : Nat) : Prop := E c.1 c.2.1 c.2.2.1 c.2.2.2.1 mX0_sorts c.2.2.2.2 0 [some (.ref a0)] [] h k n
set_option maxHeartbeats 4000000 in
theorem s_X0_sorts_0 (c : cC) (a0 : Nat) (h : eH) (k n : Nat) (H : ∃ x1 : Nat, fV h a0 0 4 (.ref x1) ∧ (∃ x3 : Option Nat, fV h x1 1 2 (va_rf x3) ∧ (∃ o5 : Nat, x3 = some o5 ∧ ∃ x6 : Nat, fV h o5 3 5 (.ref x6) ∧ (∃ fs8 : List Value, h.1 x6 = some (.inr (15, fs8)) ∧ ∃ (d11 k12 n13 : Nat) (Q14 : Int32 → eH → Prop), cI c.1 c.2.1 c.2.2.1 d11 mJ2_size [.ref x6] h k12 n13 Q14 cX0 ∧ d11 + 1 ≤ c.2.2.2.1 ∧ k12 ≤ k ∧ n13 ≤ n ∧ (∀ (r8 : Int32) (h9 : eH), Q14 r8 h9 → (c.2.2.2.2 (.inl (some (.int r8))) h9)))))) : h_X0_sorts_0 c a0 h k n := by
  refine e_aload_n dX0_sorts_0 rfl ?_
  obtain ⟨x1, ⟨fsx1, g2, g2v⟩, H⟩ := H
  refine e_get dX0_sorts_1 fX0_4 q1239 g2 g2v ?_
  obtain ⟨x3, ⟨fsx3, g4, g4v⟩, H⟩ := H
  refine e_getN dX0_sorts_4 fX1_2 q238 g4 g4v ?_
  obtain ⟨o5, eo5, H⟩ := H
  subst eo5
  obtain ⟨x6, ⟨fsx6, g7, g7v⟩, H⟩ := H
  refine e_getN dX0_sorts_7 fX3_5 q1194 g7 g7v ?_
  obtain ⟨fsg10, g10o, H⟩ := H
  obtain ⟨d11, k12, n13, Q14, g10, g10d, g10k, g10n, H⟩ := H
  refine e_callF (i := 3) (r := (RJ2, TJ2, 3)) (As := []) g10 dX0_sorts_10 wJ2_size rfl rfl q1918 q876 q874 g10o rfl rfl g10d rfl (Nat.le_of_ble_eq_true rfl) (k1 := k - k12) (n1 := n - n13) (by omega) (by omega) ?_ ?_
  · rintro v h9 (⟨v9, e9, r8, e8, hq⟩ | ⟨ci9, q9, e9, -⟩)
    · cases e9
      subst e8
      replace H := H r8 h9 hq
      exact e_ireturn .int dX0_sorts_15 rfl rfl H
    · cases e9
  · rintro q9 h9 (⟨v9, e9, -⟩ | ⟨ci9, q8, e9, -, -, hx⟩)
    · cases e9
    · exact hx.elim
theorem en_X0_sorts {l : Launch} {lo : Nat} {G : eG} {d : Nat} {P : eO → eH → Prop} (a0 : Nat) {h : eH} {k n : Nat} (H : h_X0_sorts_0 (l, lo, G, d, P) a0 h k n) : Ct l lo G d mX0_sorts [.ref a0] h k n P := 
  Ct_of (eArL mX0_sorts.2.2.2.1 [.ref a0]) (by decide) rfl (Nat.le_of_ble_eq_true rfl) (fun j w q => eArL_mem j w q) (E.less2 H (eS_s eS_0))
/-! X0_fault TroupeSums.fault(I)I -/
def h_X0_fault_0 (c : cC) (a0 : Nat) (a1 : Int32) (h : eH) (k n : Nat) : Prop := E c.1 c.2.1 c.2.2.1 c.2.2.2.1 mX0_fault c.2.2.2.2 0 [some (.ref a0), some (.int a1)] [] h k n
set_option maxHeartbeats 4000000 in
theorem s_X0_fault_0 (c : cC) (a0 : Nat) (a1 : Int32) (h : eH) (k n : Nat) (H : (¬ a1 = 0 → (¬ a1 = (1 : Int32) → c.2.2.2.2 (.inl (some (.int (-1 : Int32)))) h) ∧ (a1 = (1 : Int32) → ∃ x3 : Int32, fV h a0 0 3 (.int x3) ∧ (c.2.2.2.2 (.inl (some (.int x3))) h))) ∧ (a1 = 0 → ∃ x5 : Int32, fV h a0 0 2 (.int x5) ∧ (c.2.2.2.2 (.inl (some (.int x5))) h))) : h_X0_fault_0 c a0 a1 h k n := by
  refine e_iload_n dX0_fault_0 rfl ?_
  refine e_if_ne 11 dX0_fault_1 (by decide) (fun g1 => ?_) (fun g1 => ?_)
  · replace H := H.1 g1
    refine e_iload_n dX0_fault_11 rfl ?_
    refine e_iconst (1) dX0_fault_12 (by decide) ?_
    refine e_icmp_ne 23 dX0_fault_13 (by decide) (fun g2 => ?_) (fun g2 => ?_)
    · replace H := H.1 g2
      refine e_iconst (-1) dX0_fault_23 (by decide) ?_
      exact e_ireturn .int dX0_fault_24 rfl rfl H
    · replace H := H.2 g2
      refine e_aload_n dX0_fault_16 rfl ?_
      obtain ⟨x3, ⟨fsx3, g4, g4v⟩, H⟩ := H
      refine e_get dX0_fault_17 fX0_3 q1238 g4 g4v ?_
      refine e_goto 24 dX0_fault_20 (by decide) ?_
      exact e_ireturn .int dX0_fault_24 rfl rfl H
  · replace H := H.2 g1
    refine e_aload_n dX0_fault_4 rfl ?_
    obtain ⟨x5, ⟨fsx5, g6, g6v⟩, H⟩ := H
    refine e_get dX0_fault_5 fX0_2 q1237 g6 g6v ?_
    refine e_goto 24 dX0_fault_8 (by decide) ?_
    exact e_ireturn .int dX0_fault_24 rfl rfl H
theorem en_X0_fault {l : Launch} {lo : Nat} {G : eG} {d : Nat} {P : eO → eH → Prop} (a0 : Nat) (a1 : Int32) {h : eH} {k n : Nat} (H : h_X0_fault_0 (l, lo, G, d, P) a0 a1 h k n) : Ct l lo G d mX0_fault [.ref a0, .int a1] h k n P := 
  Ct_of (eArL mX0_fault.2.2.2.1 [.ref a0, .int a1]) (by decide) rfl (Nat.le_of_ble_eq_true rfl) (fun j w q => eArL_mem j w q) (E.less2 H (eS_s (eS_s eS_0)))
/-! X0_about TroupeSums.about(I)I -/
def h_X0_about_0 (c : cC) (a0 : Nat) (a1 : Int32) (h : eH) (k n : Nat) : Prop := E c.1 c.2.1 c.2.2.1 c.2.2.2.1 mX0_about c.2.2.2.2 0 [some (.ref a0), some (.int a1), none] [] h k n
set_option maxHeartbeats 4000000 in
theorem s_X0_about_0 (c : cC) (a0 : Nat) (a1 : Int32) (h : eH) (k n : Nat) (H : ∃ x1 : Nat, fV h a0 0 4 (.ref x1) ∧ (∃ x3 : Option Nat, fV h x1 1 2 (va_rf x3) ∧ (((a1.toInt < 0 ∨ 8 < a1.toInt) → c.2.2.2.2 (.inl (some (.int (-1 : Int32)))) h) ∧ (a1 = nI 0 → ∃ x7 : Nat, fV h a0 0 4 (.ref x7) ∧ (∃ x9 : Int32, fV h x7 1 0 (.int x9) ∧ (c.2.2.2.2 (.inl (some (.int x9))) h))) ∧ (a1 = nI 1 → ∃ x11 : Nat, fV h a0 0 4 (.ref x11) ∧ (∃ x13 : Int32, fV h x11 1 1 (.int x13) ∧ (c.2.2.2.2 (.inl (some (.int x13))) h))) ∧ (a1 = nI 2 → ∃ x15 : Nat, fV h a0 0 4 (.ref x15) ∧ (∃ x17 : Nat, fV h x15 1 3 (.ref x17) ∧ (∃ fs8 : List Value, h.1 x17 = some (.inr (15, fs8)) ∧ ∃ (d22 k23 n24 : Nat) (Q25 : Int32 → eH → Prop), cI c.1 c.2.1 c.2.2.1 d22 mJ2_size [.ref x17] h k23 n24 Q25 cX0 ∧ d22 + 1 ≤ c.2.2.2.1 ∧ k23 ≤ k ∧ n24 ≤ n ∧ (∀ (r19 : Int32) (h20 : eH), Q25 r19 h20 → (c.2.2.2.2 (.inl (some (.int r19))) h20))))) ∧ (a1 = nI 3 → ∃ o26 : Nat, x3 = some o26 ∧ ∃ fs8 : List Value, h.1 o26 = some (.inr (3, fs8)) ∧ ∃ (d30 k31 n32 : Nat) (Q33 : Int32 → eH → Prop), cI c.1 c.2.1 c.2.2.1 d30 mX3_size [.ref o26] h k31 n32 Q33 cX0 ∧ d30 + 1 ≤ c.2.2.2.1 ∧ k31 ≤ k ∧ n32 ≤ n ∧ (∀ (r27 : Int32) (h28 : eH), Q33 r27 h28 → (c.2.2.2.2 (.inl (some (.int r27))) h28))) ∧ (a1 = nI 4 → ∃ o34 : Nat, x3 = some o34 ∧ ∃ x35 : Nat, fV h o34 3 4 (.ref x35) ∧ (∃ fs8 : List Value, h.1 x35 = some (.inr (15, fs8)) ∧ ∃ (d40 k41 n42 : Nat) (Q43 : Int32 → eH → Prop), cI c.1 c.2.1 c.2.2.1 d40 mJ2_size [.ref x35] h k41 n42 Q43 cX0 ∧ d40 + 1 ≤ c.2.2.2.1 ∧ k41 ≤ k ∧ n42 ≤ n ∧ (∀ (r37 : Int32) (h38 : eH), Q43 r37 h38 → (c.2.2.2.2 (.inl (some (.int r37))) h38)))) ∧ (a1 = nI 5 → ∃ fs8 : List Value, h.1 a0 = some (.inr (0, fs8)) ∧ ∃ (d47 k48 n49 : Nat) (Q50 : Int32 → eH → Prop), cI c.1 c.2.1 c.2.2.1 d47 mX0_sorts [.ref a0] h k48 n49 Q50 cX0 ∧ d47 + 1 ≤ c.2.2.2.1 ∧ k48 ≤ k ∧ n49 ≤ n ∧ (∀ (r44 : Int32) (h45 : eH), Q50 r44 h45 → (c.2.2.2.2 (.inl (some (.int r44))) h45))) ∧ (a1 = nI 6 → ∃ o51 : Nat, x3 = some o51 ∧ ∃ fs8 : List Value, h.1 o51 = some (.inr (3, fs8)) ∧ ∃ (d55 k56 n57 : Nat) (Q58 : Int32 → eH → Prop), cI c.1 c.2.1 c.2.2.1 d55 mX3_size [.ref o51] h k56 n57 Q58 cX0 ∧ d55 + 1 ≤ c.2.2.2.1 ∧ k56 ≤ k ∧ n57 ≤ n ∧ (∀ (r52 : Int32) (h53 : eH), Q58 r52 h53 → (∃ fs8 : List Value, h53.1 o51 = some (.inr (3, fs8)) ∧ ∃ (d62 k63 n64 : Nat) (Q65 : Int32 → eH → Prop), cI c.1 c.2.1 c.2.2.1 d62 mX3_isLevel [.ref o51, .int (((1 : Int32) <<< (r52 &&& 31)) - (1 : Int32))] h53 k63 n64 Q65 cX0 ∧ d62 + 1 ≤ c.2.2.2.1 ∧ k63 ≤ k - k56 ∧ n64 ≤ n - n57 ∧ (∀ (r59 : Int32) (h60 : eH), Q65 r59 h60 → ((r59 = 0 → c.2.2.2.2 (.inl (some (.int (0 : Int32)))) h60) ∧ (¬ r59 = 0 → c.2.2.2.2 (.inl (some (.int (1 : Int32)))) h60)))))) ∧ (a1 = nI 7 → ∃ x67 : Nat, fV h a0 0 7 (.ref x67) ∧ (∃ fs8 : List Value, h.1 x67 = some (.inr (24, fs8)) ∧ ∃ (d72 k73 n74 : Nat) (Q75 : Int32 → eH → Prop), cI c.1 c.2.1 c.2.2.1 d72 mJ25_size [.ref x67] h k73 n74 Q75 cX0 ∧ d72 + 1 ≤ c.2.2.2.1 ∧ k73 ≤ k ∧ n74 ≤ n ∧ (∀ (r69 : Int32) (h70 : eH), Q75 r69 h70 → (c.2.2.2.2 (.inl (some (.int r69))) h70)))) ∧ (a1 = nI 8 → ∃ x76 : Int32, fV h a0 0 1 (.int x76) ∧ (c.2.2.2.2 (.inl (some (.int x76))) h))))) : h_X0_about_0 c a0 a1 h k n := by
  refine e_aload_n dX0_about_0 rfl ?_
  obtain ⟨x1, ⟨fsx1, g2, g2v⟩, H⟩ := H
  refine e_get dX0_about_1 fX0_4 q1239 g2 g2v ?_
  obtain ⟨x3, ⟨fsx3, g4, g4v⟩, H⟩ := H
  refine e_getN dX0_about_4 fX1_2 q238 g4 g4v ?_
  refine e_astoreR_n (r := x3) _ dX0_about_7 (by decide) rfl rfl ?_
  refine e_iload_n dX0_about_8 rfl ?_
  rcases eSwitch 8 a1 with g5 | ⟨k6, g5, rfl⟩
  · replace H := H.1 g5
    refine e_switchOut 161 dX0_about_9 g5 (by decide) ?_
    refine e_iconst (-1) dX0_about_161 (by decide) ?_
    exact e_ireturn .int dX0_about_162 rfl rfl H
  · replace H := H.2
    rcases (show k6 = 0 ∨ k6 = 1 ∨ k6 = 2 ∨ k6 = 3 ∨ k6 = 4 ∨ k6 = 5 ∨ k6 = 6 ∨ k6 = 7 ∨ k6 = 8 by omega) with rfl | rfl | rfl | rfl | rfl | rfl | rfl | rfl | rfl
    · replace H := H.1 rfl
      refine e_switchIn (off := 51) 60 dX0_about_9 (by decide) (by decide) (by decide) (by decide) ?_
      refine e_aload_n dX0_about_60 rfl ?_
      obtain ⟨x7, ⟨fsx7, g8, g8v⟩, H⟩ := H
      refine e_get dX0_about_61 fX0_4 q1239 g8 g8v ?_
      obtain ⟨x9, ⟨fsx9, g10, g10v⟩, H⟩ := H
      refine e_getN dX0_about_64 fX1_0 q235 g10 g10v ?_
      refine e_goto 162 dX0_about_67 (by decide) ?_
      exact e_ireturn .int dX0_about_162 rfl rfl H
    · replace H := H.2.1 rfl
      refine e_switchIn (off := 61) 70 dX0_about_9 (by decide) (by decide) (by decide) (by decide) ?_
      refine e_aload_n dX0_about_70 rfl ?_
      obtain ⟨x11, ⟨fsx11, g12, g12v⟩, H⟩ := H
      refine e_get dX0_about_71 fX0_4 q1239 g12 g12v ?_
      obtain ⟨x13, ⟨fsx13, g14, g14v⟩, H⟩ := H
      refine e_getN dX0_about_74 fX1_1 q237 g14 g14v ?_
      refine e_goto 162 dX0_about_77 (by decide) ?_
      exact e_ireturn .int dX0_about_162 rfl rfl H
    · replace H := H.2.2.1 rfl
      refine e_switchIn (off := 71) 80 dX0_about_9 (by decide) (by decide) (by decide) (by decide) ?_
      refine e_aload_n dX0_about_80 rfl ?_
      obtain ⟨x15, ⟨fsx15, g16, g16v⟩, H⟩ := H
      refine e_get dX0_about_81 fX0_4 q1239 g16 g16v ?_
      obtain ⟨x17, ⟨fsx17, g18, g18v⟩, H⟩ := H
      refine e_getN dX0_about_84 fX1_3 q242 g18 g18v ?_
      obtain ⟨fsg21, g21o, H⟩ := H
      obtain ⟨d22, k23, n24, Q25, g21, g21d, g21k, g21n, H⟩ := H
      refine e_callF (i := 3) (r := (RJ2, TJ2, 3)) (As := []) g21 dX0_about_87 wJ2_size rfl rfl q1918 q876 q874 g21o rfl rfl g21d rfl (Nat.le_of_ble_eq_true rfl) (k1 := k - k23) (n1 := n - n24) (by omega) (by omega) ?_ ?_
      · rintro v h20 (⟨v9, e9, r19, e8, hq⟩ | ⟨ci9, q9, e9, -⟩)
        · cases e9
          subst e8
          replace H := H r19 h20 hq
          refine e_goto 162 dX0_about_92 (by decide) ?_
          exact e_ireturn .int dX0_about_162 rfl rfl H
        · cases e9
      · rintro q9 h9 (⟨v9, e9, -⟩ | ⟨ci9, q8, e9, -, -, hx⟩)
        · cases e9
        · exact hx.elim
    · replace H := H.2.2.2.1 rfl
      refine e_switchIn (off := 86) 95 dX0_about_9 (by decide) (by decide) (by decide) (by decide) ?_
      refine e_aloadR_n (r := x3) dX0_about_95 rfl ?_
      obtain ⟨o26, eo26, H⟩ := H
      subst eo26
      obtain ⟨fsg29, g29o, H⟩ := H
      obtain ⟨d30, k31, n32, Q33, g29, g29d, g29k, g29n, H⟩ := H
      refine e_callV (r := (RX3, TX3, 8)) (As := []) g29 dX0_about_96 wX3_size q1926 q929 q930 g29o rfl rfl g29d rfl (Nat.le_of_ble_eq_true rfl) (k1 := k - k31) (n1 := n - n32) (by omega) (by omega) ?_ ?_
      · rintro v h28 (⟨v9, e9, r27, e8, hq⟩ | ⟨ci9, q9, e9, -⟩)
        · cases e9
          subst e8
          replace H := H r27 h28 hq
          refine e_goto 162 dX0_about_99 (by decide) ?_
          exact e_ireturn .int dX0_about_162 rfl rfl H
        · cases e9
      · rintro q9 h9 (⟨v9, e9, -⟩ | ⟨ci9, q8, e9, -, -, hx⟩)
        · cases e9
        · exact hx.elim
    · replace H := H.2.2.2.2.1 rfl
      refine e_switchIn (off := 93) 102 dX0_about_9 (by decide) (by decide) (by decide) (by decide) ?_
      refine e_aloadR_n (r := x3) dX0_about_102 rfl ?_
      obtain ⟨o34, eo34, H⟩ := H
      subst eo34
      obtain ⟨x35, ⟨fsx35, g36, g36v⟩, H⟩ := H
      refine e_getN dX0_about_103 fX3_4 q1190 g36 g36v ?_
      obtain ⟨fsg39, g39o, H⟩ := H
      obtain ⟨d40, k41, n42, Q43, g39, g39d, g39k, g39n, H⟩ := H
      refine e_callF (i := 3) (r := (RJ2, TJ2, 3)) (As := []) g39 dX0_about_106 wJ2_size rfl rfl q1918 q876 q874 g39o rfl rfl g39d rfl (Nat.le_of_ble_eq_true rfl) (k1 := k - k41) (n1 := n - n42) (by omega) (by omega) ?_ ?_
      · rintro v h38 (⟨v9, e9, r37, e8, hq⟩ | ⟨ci9, q9, e9, -⟩)
        · cases e9
          subst e8
          replace H := H r37 h38 hq
          refine e_goto 162 dX0_about_111 (by decide) ?_
          exact e_ireturn .int dX0_about_162 rfl rfl H
        · cases e9
      · rintro q9 h9 (⟨v9, e9, -⟩ | ⟨ci9, q8, e9, -, -, hx⟩)
        · cases e9
        · exact hx.elim
    · replace H := H.2.2.2.2.2.1 rfl
      refine e_switchIn (off := 105) 114 dX0_about_9 (by decide) (by decide) (by decide) (by decide) ?_
      refine e_aload_n dX0_about_114 rfl ?_
      obtain ⟨fsg46, g46o, H⟩ := H
      obtain ⟨d47, k48, n49, Q50, g46, g46d, g46k, g46n, H⟩ := H
      refine e_callV (r := (RX0, TX0, 8)) (As := []) g46 dX0_about_115 wX0_sorts q1913 q1915 qs42 g46o rfl rfl g46d rfl (Nat.le_of_ble_eq_true rfl) (k1 := k - k48) (n1 := n - n49) (by omega) (by omega) ?_ ?_
      · rintro v h45 (⟨v9, e9, r44, e8, hq⟩ | ⟨ci9, q9, e9, -⟩)
        · cases e9
          subst e8
          replace H := H r44 h45 hq
          refine e_goto 162 dX0_about_118 (by decide) ?_
          exact e_ireturn .int dX0_about_162 rfl rfl H
        · cases e9
      · rintro q9 h9 (⟨v9, e9, -⟩ | ⟨ci9, q8, e9, -, -, hx⟩)
        · cases e9
        · exact hx.elim
    · replace H := H.2.2.2.2.2.2.1 rfl
      refine e_switchIn (off := 112) 121 dX0_about_9 (by decide) (by decide) (by decide) (by decide) ?_
      refine e_aloadR_n (r := x3) dX0_about_121 rfl ?_
      refine e_iconst (1) dX0_about_122 (by decide) ?_
      refine e_aloadR_n (r := x3) dX0_about_123 rfl ?_
      obtain ⟨o51, eo51, H⟩ := H
      subst eo51
      obtain ⟨fsg54, g54o, H⟩ := H
      obtain ⟨d55, k56, n57, Q58, g54, g54d, g54k, g54n, H⟩ := H
      refine e_callV (r := (RX3, TX3, 8)) (As := []) g54 dX0_about_124 wX3_size q1926 q929 q930 g54o rfl rfl g54d rfl (Nat.le_of_ble_eq_true rfl) (k1 := k - k56) (n1 := n - n57) (by omega) (by omega) ?_ ?_
      · rintro v h53 (⟨v9, e9, r52, e8, hq⟩ | ⟨ci9, q9, e9, -⟩)
        · cases e9
          subst e8
          replace H := H r52 h53 hq
          refine e_ishl dX0_about_127 ?_
          refine e_iconst (1) dX0_about_128 (by decide) ?_
          refine e_isub dX0_about_129 ?_
          obtain ⟨fsg61, g61o, H⟩ := H
          obtain ⟨d62, k63, n64, Q65, g61, g61d, g61k, g61n, H⟩ := H
          refine e_callV (r := (RX3, TX3, 8)) (As := [.int (((1 : Int32) <<< (r52 &&& 31)) - (1 : Int32))]) g61 dX0_about_130 wX3_isLevel q1935 q1936 q1937 g61o rfl rfl g61d rfl (Nat.le_of_ble_eq_true rfl) (k1 := k - k56 - k63) (n1 := n - n57 - n64) (by omega) (by omega) ?_ ?_
          · rintro v h60 (⟨v9, e9, r59, e8, hq⟩ | ⟨ci9, q9, e9, -⟩)
            · cases e9
              subst e8
              replace H := H r59 h60 hq
              refine e_if_eq 140 dX0_about_133 (by decide) (fun g66 => ?_) (fun g66 => ?_)
              · replace H := H.1 g66
                refine e_iconst (0) dX0_about_140 (by decide) ?_
                refine e_goto 162 dX0_about_141 (by decide) ?_
                exact e_ireturn .int dX0_about_162 rfl rfl H
              · replace H := H.2 g66
                refine e_iconst (1) dX0_about_136 (by decide) ?_
                refine e_goto 162 dX0_about_137 (by decide) ?_
                exact e_ireturn .int dX0_about_162 rfl rfl H
            · cases e9
          · rintro q9 h9 (⟨v9, e9, -⟩ | ⟨ci9, q8, e9, -, -, hx⟩)
            · cases e9
            · exact hx.elim
        · cases e9
      · rintro q9 h9 (⟨v9, e9, -⟩ | ⟨ci9, q8, e9, -, -, hx⟩)
        · cases e9
        · exact hx.elim
    · replace H := H.2.2.2.2.2.2.2.1 rfl
      refine e_switchIn (off := 135) 144 dX0_about_9 (by decide) (by decide) (by decide) (by decide) ?_
      refine e_aload_n dX0_about_144 rfl ?_
      obtain ⟨x67, ⟨fsx67, g68, g68v⟩, H⟩ := H
      refine e_get dX0_about_145 fX0_7 q1242 g68 g68v ?_
      obtain ⟨fsg71, g71o, H⟩ := H
      obtain ⟨d72, k73, n74, Q75, g71, g71d, g71k, g71n, H⟩ := H
      refine e_callV (r := (RJ25, TJ25, 3)) (As := []) g71 dX0_about_148 wJ25_size q1939 q1136 q3179 g71o rfl rfl g71d rfl (Nat.le_of_ble_eq_true rfl) (k1 := k - k73) (n1 := n - n74) (by omega) (by omega) ?_ ?_
      · rintro v h70 (⟨v9, e9, r69, e8, hq⟩ | ⟨ci9, q9, e9, -⟩)
        · cases e9
          subst e8
          replace H := H r69 h70 hq
          refine e_goto 162 dX0_about_151 (by decide) ?_
          exact e_ireturn .int dX0_about_162 rfl rfl H
        · cases e9
      · rintro q9 h9 (⟨v9, e9, -⟩ | ⟨ci9, q8, e9, -, -, hx⟩)
        · cases e9
        · exact hx.elim
    · replace H := H.2.2.2.2.2.2.2.2 rfl
      refine e_switchIn (off := 145) 154 dX0_about_9 (by decide) (by decide) (by decide) (by decide) ?_
      refine e_aload_n dX0_about_154 rfl ?_
      obtain ⟨x76, ⟨fsx76, g77, g77v⟩, H⟩ := H
      refine e_get dX0_about_155 fX0_1 q1236 g77 g77v ?_
      refine e_goto 162 dX0_about_158 (by decide) ?_
      exact e_ireturn .int dX0_about_162 rfl rfl H
theorem en_X0_about {l : Launch} {lo : Nat} {G : eG} {d : Nat} {P : eO → eH → Prop} (a0 : Nat) (a1 : Int32) {h : eH} {k n : Nat} (H : h_X0_about_0 (l, lo, G, d, P) a0 a1 h k n) : Ct l lo G d mX0_about [.ref a0, .int a1] h k n P := 
  Ct_of (eArL mX0_about.2.2.2.1 [.ref a0, .int a1]) (by decide) rfl (Nat.le_of_ble_eq_true rfl) (fun j w q => eArL_mem j w q) (E.less2 H (eS_s (eS_s (eS_n eS_0))))
/-! X0_moves TroupeSums.moves(II)I -/
def h_X0_moves_0 (c : cC) (a0 : Nat) (a1 : Int32) (a2 : Int32) (h : eH) (k n : Nat) : Prop := E c.1 c.2.1 c.2.2.1 c.2.2.2.1 mX0_moves c.2.2.2.2 0 [some (.ref a0), some (.int a1), some (.int a2)] [] h k n
set_option maxHeartbeats 4000000 in
theorem s_X0_moves_0 (c : cC) (a0 : Nat) (a1 : Int32) (a2 : Int32) (h : eH) (k n : Nat) (H : ∃ fs8 : List Value, h.1 a0 = some (.inr (0, fs8)) ∧ ∃ (d4 k5 n6 : Nat) (Q7 : Int32 → eH → Prop), cI c.1 c.2.1 c.2.2.1 d4 mX0_isMember [.ref a0, .int a1] h k5 n6 Q7 cX0 ∧ d4 + 1 ≤ c.2.2.2.1 ∧ k5 ≤ k ∧ n6 ≤ n ∧ (∀ (r1 : Int32) (h2 : eH), Q7 r1 h2 → ((r1 = 0 → c.2.2.2.2 (.inl (some (.int (-1 : Int32)))) h2) ∧ (¬ r1 = 0 → ∃ x9 : Nat, fV h2 a0 0 4 (.ref x9) ∧ (∃ x11 : Int32, fV h2 x9 1 0 (.int x11) ∧ (∃ (d16 k17 n18 : Nat) (Q19 : Int32 → eH → Prop), cI c.1 c.2.1 c.2.2.1 d16 mX0_isIn [.long a2.toInt64, .long (0 : Int64), .long ((x11 - (1 : Int32)).toInt64)] h2 k17 n18 Q19 cX0 ∧ d16 + 1 ≤ c.2.2.2.1 ∧ k17 ≤ k - k5 ∧ n18 ≤ n - n6 ∧ (∀ (r13 : Int32) (h14 : eH), Q19 r13 h14 → ((r13 = 0 → c.2.2.2.2 (.inl (some (.int (-1 : Int32)))) h14) ∧ (¬ r13 = 0 → ∃ x21 : Nat, fV h14 a0 0 4 (.ref x21) ∧ (∃ x23 : Option Nat, fV h14 x21 1 2 (va_rf x23) ∧ (∃ o25 : Nat, x23 = some o25 ∧ ∃ x26 : Nat, fV h14 o25 3 1 (.ref x26) ∧ (∃ fs8 : List Value, h14.1 x26 = some (.inr (15, fs8)) ∧ ∃ (d31 k32 n33 : Nat) (Q34 : Nat → eH → Prop), cR c.1 c.2.1 c.2.2.1 d31 mJ2_get [.ref x26, .int a1] h14 k32 n33 Q34 cX0 ∧ d31 + 1 ≤ c.2.2.2.1 ∧ k32 ≤ k - k5 - k17 ∧ n33 ≤ n - n6 - n18 ∧ (∀ (r28 : Nat) (h29 : eH), Q34 r28 h29 → (eCs c.2.2.1 h29 r28 "TroupeSums$Row" ∧ (∃ x36 : Nat, fV h29 r28 2 0 (.ref x36) ∧ (∃ (N38 : Nat) (f39 : Nat → Int32), h29.1 x36 = some (.inl (c.2.2.1.2.1 0, N38, .inl f39)) ∧ vp_in a2 N38 ∧ (c.2.2.2.2 (.inl (some (.int (f39 a2.toNatClampNeg)))) h29))))))))))))))))) : h_X0_moves_0 c a0 a1 a2 h k n := by
  refine e_aload_n dX0_moves_0 rfl ?_
  refine e_iload_n dX0_moves_1 rfl ?_
  obtain ⟨fsg3, g3o, H⟩ := H
  obtain ⟨d4, k5, n6, Q7, g3, g3d, g3k, g3n, H⟩ := H
  refine e_callV (r := (RX0, TX0, 8)) (As := [.int a1]) g3 dX0_moves_2 wX0_isMember q1944 q1946 qs43 g3o rfl rfl g3d rfl (Nat.le_of_ble_eq_true rfl) (k1 := k - k5) (n1 := n - n6) (by omega) (by omega) ?_ ?_
  · rintro v h2 (⟨v9, e9, r1, e8, hq⟩ | ⟨ci9, q9, e9, -⟩)
    · cases e9
      subst e8
      replace H := H r1 h2 hq
      refine e_if_eq 54 dX0_moves_5 (by decide) (fun g8 => ?_) (fun g8 => ?_)
      · replace H := H.1 g8
        refine e_iconst (-1) dX0_moves_54 (by decide) ?_
        exact e_ireturn .int dX0_moves_55 rfl rfl H
      · replace H := H.2 g8
        refine e_iload_n dX0_moves_8 rfl ?_
        refine e_i2l dX0_moves_9 ?_
        refine e_lconst 0 dX0_moves_10 (by decide) ?_
        refine e_aload_n dX0_moves_11 rfl ?_
        obtain ⟨x9, ⟨fsx9, g10, g10v⟩, H⟩ := H
        refine e_get dX0_moves_12 fX0_4 q1239 g10 g10v ?_
        obtain ⟨x11, ⟨fsx11, g12, g12v⟩, H⟩ := H
        refine e_getN dX0_moves_15 fX1_0 q235 g12 g12v ?_
        refine e_iconst (1) dX0_moves_18 (by decide) ?_
        refine e_isub dX0_moves_19 ?_
        refine e_i2l dX0_moves_20 ?_
        obtain ⟨d16, k17, n18, Q19, g15, g15d, g15k, g15n, H⟩ := H
        refine e_callS (As := [.long a2.toInt64, .long (0 : Int64), .long ((x11 - (1 : Int32)).toInt64)]) g15 dX0_moves_21 wX0_isIn q1948 q1791 rfl g15d rfl (Nat.le_of_ble_eq_true rfl) (k1 := k - k5 - k17) (n1 := n - n6 - n18) (by omega) (by omega) ?_ ?_
        · rintro v h14 (⟨v9, e9, r13, e8, hq⟩ | ⟨ci9, q9, e9, -⟩)
          · cases e9
            subst e8
            replace H := H r13 h14 hq
            refine e_if_eq 54 dX0_moves_24 (by decide) (fun g20 => ?_) (fun g20 => ?_)
            · replace H := H.1 g20
              refine e_iconst (-1) dX0_moves_54 (by decide) ?_
              exact e_ireturn .int dX0_moves_55 rfl rfl H
            · replace H := H.2 g20
              refine e_aload_n dX0_moves_27 rfl ?_
              obtain ⟨x21, ⟨fsx21, g22, g22v⟩, H⟩ := H
              refine e_get dX0_moves_28 fX0_4 q1239 g22 g22v ?_
              obtain ⟨x23, ⟨fsx23, g24, g24v⟩, H⟩ := H
              refine e_getN dX0_moves_31 fX1_2 q238 g24 g24v ?_
              obtain ⟨o25, eo25, H⟩ := H
              subst eo25
              obtain ⟨x26, ⟨fsx26, g27, g27v⟩, H⟩ := H
              refine e_getN dX0_moves_34 fX3_1 q1185 g27 g27v ?_
              refine e_iload_n dX0_moves_37 rfl ?_
              obtain ⟨fsg30, g30o, H⟩ := H
              obtain ⟨d31, k32, n33, Q34, g30, g30d, g30k, g30n, H⟩ := H
              refine e_callF (i := 4) (r := (RJ2, TJ2, 3)) (As := [.int a1]) g30 dX0_moves_38 wJ2_get rfl rfl q1950 q887 q885 g30o rfl rfl g30d rfl (Nat.le_of_ble_eq_true rfl) (k1 := k - k5 - k17 - k32) (n1 := n - n6 - n18 - n33) (by omega) (by omega) ?_ ?_
              · rintro v h29 (⟨v9, e9, r28, e8, hq⟩ | ⟨ci9, q9, e9, -⟩)
                · cases e9
                  subst e8
                  replace H := H r28 h29 hq
                  obtain ⟨g35, H⟩ := H
                  refine c_castR dX0_moves_43 q291 g35 ?_
                  obtain ⟨x36, ⟨fsx36, g37, g37v⟩, H⟩ := H
                  refine e_getN dX0_moves_46 fX2_0 q298 g37 g37v ?_
                  refine e_iload_n dX0_moves_49 rfl ?_
                  obtain ⟨N38, f39, g40, g40i, H⟩ := H
                  refine e_iaload dX0_moves_50 g40 g40i ?_
                  refine e_goto 55 dX0_moves_51 (by decide) ?_
                  exact e_ireturn .int dX0_moves_55 rfl rfl H
                · cases e9
              · rintro q9 h9 (⟨v9, e9, -⟩ | ⟨ci9, q8, e9, -, -, hx⟩)
                · cases e9
                · exact hx.elim
          · cases e9
        · rintro q9 h9 (⟨v9, e9, -⟩ | ⟨ci9, q8, e9, -, -, hx⟩)
          · cases e9
          · exact hx.elim
    · cases e9
  · rintro q9 h9 (⟨v9, e9, -⟩ | ⟨ci9, q8, e9, -, -, hx⟩)
    · cases e9
    · exact hx.elim
theorem en_X0_moves {l : Launch} {lo : Nat} {G : eG} {d : Nat} {P : eO → eH → Prop} (a0 : Nat) (a1 : Int32) (a2 : Int32) {h : eH} {k n : Nat} (H : h_X0_moves_0 (l, lo, G, d, P) a0 a1 a2 h k n) : Ct l lo G d mX0_moves [.ref a0, .int a1, .int a2] h k n P := 
  Ct_of (eArL mX0_moves.2.2.2.1 [.ref a0, .int a1, .int a2]) (by decide) rfl (Nat.le_of_ble_eq_true rfl) (fun j w q => eArL_mem j w q) (E.less2 H (eS_s (eS_s (eS_s eS_0))))
/-! X0_isMember TroupeSums.isMember(I)Z -/
def h_X0_isMember_0 (c : cC) (a0 : Nat) (a1 : Int32) (h : eH) (k n : Nat) : Prop := E c.1 c.2.1 c.2.2.1 c.2.2.2.1 mX0_isMember c.2.2.2.2 0 [some (.ref a0), some (.int a1)] [] h k n
set_option maxHeartbeats 4000000 in
theorem s_X0_isMember_0 (c : cC) (a0 : Nat) (a1 : Int32) (h : eH) (k n : Nat) (H : ∃ x1 : Nat, fV h a0 0 4 (.ref x1) ∧ (∃ x3 : Option Nat, fV h x1 1 2 (va_rf x3) ∧ (∃ o5 : Nat, x3 = some o5 ∧ ∃ fs8 : List Value, h.1 o5 = some (.inr (3, fs8)) ∧ ∃ (d9 k10 n11 : Nat) (Q12 : Int32 → eH → Prop), cI c.1 c.2.1 c.2.2.1 d9 mX3_size [.ref o5] h k10 n11 Q12 cX0 ∧ d9 + 1 ≤ c.2.2.2.1 ∧ k10 ≤ k ∧ n11 ≤ n ∧ (∀ (r6 : Int32) (h7 : eH), Q12 r6 h7 → (∃ (d16 k17 n18 : Nat) (Q19 : Int32 → eH → Prop), cI c.1 c.2.1 c.2.2.1 d16 mX0_isIn [.long a1.toInt64, .long (0 : Int64), .long ((r6 - (1 : Int32)).toInt64)] h7 k17 n18 Q19 cX0 ∧ d16 + 1 ≤ c.2.2.2.1 ∧ k17 ≤ k - k10 ∧ n18 ≤ n - n11 ∧ (∀ (r13 : Int32) (h14 : eH), Q19 r13 h14 → (narrow .boolean (.int r13) = .int r13 ∧ c.2.2.2.2 (.inl (some (.int r13))) h14))))))) : h_X0_isMember_0 c a0 a1 h k n := by
  refine e_iload_n dX0_isMember_0 rfl ?_
  refine e_i2l dX0_isMember_1 ?_
  refine e_lconst 0 dX0_isMember_2 (by decide) ?_
  refine e_aload_n dX0_isMember_3 rfl ?_
  obtain ⟨x1, ⟨fsx1, g2, g2v⟩, H⟩ := H
  refine e_get dX0_isMember_4 fX0_4 q1239 g2 g2v ?_
  obtain ⟨x3, ⟨fsx3, g4, g4v⟩, H⟩ := H
  refine e_getN dX0_isMember_7 fX1_2 q238 g4 g4v ?_
  obtain ⟨o5, eo5, H⟩ := H
  subst eo5
  obtain ⟨fsg8, g8o, H⟩ := H
  obtain ⟨d9, k10, n11, Q12, g8, g8d, g8k, g8n, H⟩ := H
  refine e_callV (r := (RX3, TX3, 8)) (As := []) g8 dX0_isMember_10 wX3_size q1926 q929 q930 g8o rfl rfl g8d rfl (Nat.le_of_ble_eq_true rfl) (k1 := k - k10) (n1 := n - n11) (by omega) (by omega) ?_ ?_
  · rintro v h7 (⟨v9, e9, r6, e8, hq⟩ | ⟨ci9, q9, e9, -⟩)
    · cases e9
      subst e8
      replace H := H r6 h7 hq
      refine e_iconst (1) dX0_isMember_13 (by decide) ?_
      refine e_isub dX0_isMember_14 ?_
      refine e_i2l dX0_isMember_15 ?_
      obtain ⟨d16, k17, n18, Q19, g15, g15d, g15k, g15n, H⟩ := H
      refine e_callS (As := [.long a1.toInt64, .long (0 : Int64), .long ((r6 - (1 : Int32)).toInt64)]) g15 dX0_isMember_16 wX0_isIn q1948 q1791 rfl g15d rfl (Nat.le_of_ble_eq_true rfl) (k1 := k - k10 - k17) (n1 := n - n11 - n18) (by omega) (by omega) ?_ ?_
      · rintro v h14 (⟨v9, e9, r13, e8, hq⟩ | ⟨ci9, q9, e9, -⟩)
        · cases e9
          subst e8
          replace H := H r13 h14 hq
          exact e_ireturn .boolean dX0_isMember_19 rfl H.1 H.2
        · cases e9
      · rintro q9 h9 (⟨v9, e9, -⟩ | ⟨ci9, q8, e9, -, -, hx⟩)
        · cases e9
        · exact hx.elim
    · cases e9
  · rintro q9 h9 (⟨v9, e9, -⟩ | ⟨ci9, q8, e9, -, -, hx⟩)
    · cases e9
    · exact hx.elim
theorem en_X0_isMember {l : Launch} {lo : Nat} {G : eG} {d : Nat} {P : eO → eH → Prop} (a0 : Nat) (a1 : Int32) {h : eH} {k n : Nat} (H : h_X0_isMember_0 (l, lo, G, d, P) a0 a1 h k n) : Ct l lo G d mX0_isMember [.ref a0, .int a1] h k n P := 
  Ct_of (eArL mX0_isMember.2.2.2.1 [.ref a0, .int a1]) (by decide) rfl (Nat.le_of_ble_eq_true rfl) (fun j w q => eArL_mem j w q) (E.less2 H (eS_s (eS_s eS_0)))
/-! X0_times TroupeSums.times(II)I -/
def h_X0_times_0 (c : cC) (a0 : Nat) (a1 : Int32) (a2 : Int32) (h : eH) (k n : Nat) : Prop := E c.1 c.2.1 c.2.2.1 c.2.2.2.1 mX0_times c.2.2.2.2 0 [some (.ref a0), some (.int a1), some (.int a2), none] [] h k n
def h_X0_times_15 (c : cC) (b0 : Nat) (h : eH) (k n : Nat) : Prop := E c.1 c.2.1 c.2.2.1 c.2.2.2.1 mX0_times c.2.2.2.2 15 [none, none, none, none] [.ref b0] h k n
set_option maxHeartbeats 4000000 in
theorem s_X0_times_0 (c : cC) (a0 : Nat) (a1 : Int32) (a2 : Int32) (h : eH) (k n : Nat) (H : ∃ x1 : Nat, fV h a0 0 4 (.ref x1) ∧ (∃ x3 : Option Nat, fV h x1 1 2 (va_rf x3) ∧ (∃ o5 : Nat, x3 = some o5 ∧ ∃ x6 : Nat, fV h o5 3 2 (.ref x6) ∧ (∃ (N8 : Nat) (f9 : Nat → Option Nat), h.1 x6 = some (.inl (c.2.2.1.2.1 4, N8, .inr (.inr (.inr (.inr f9))))) ∧ vp_in a1 N8 ∧ ∃ r11 : Nat, f9 a1.toNatClampNeg = some r11 ∧ (∃ (N12 : Nat) (f13 : Nat → Int32), h.1 r11 = some (.inl (c.2.2.1.2.1 0, N12, .inl f13)) ∧ vp_in a2 N12 ∧ (c.2.2.2.2 (.inl (some (.int (f13 a2.toNatClampNeg)))) h)))))) : h_X0_times_0 c a0 a1 a2 h k n := by
  refine e_aload_n dX0_times_0 rfl ?_
  obtain ⟨x1, ⟨fsx1, g2, g2v⟩, H⟩ := H
  refine e_get dX0_times_1 fX0_4 q1239 g2 g2v ?_
  obtain ⟨x3, ⟨fsx3, g4, g4v⟩, H⟩ := H
  refine e_getN dX0_times_4 fX1_2 q238 g4 g4v ?_
  obtain ⟨o5, eo5, H⟩ := H
  subst eo5
  obtain ⟨x6, ⟨fsx6, g7, g7v⟩, H⟩ := H
  refine e_getN dX0_times_7 fX3_2 q1187 g7 g7v ?_
  refine e_iload_n dX0_times_10 rfl ?_
  obtain ⟨N8, f9, g10, g10i, r11, g10r, H⟩ := H
  refine e_aaload 4 dX0_times_11 (fun _ => rfl) rfl g10 g10i ?_
  rw [g10r]
  refine e_iload_n dX0_times_12 rfl ?_
  obtain ⟨N12, f13, g14, g14i, H⟩ := H
  refine e_iaload dX0_times_13 g14 g14i ?_
  exact e_ireturn .int dX0_times_14 rfl rfl H
set_option maxHeartbeats 4000000 in
theorem s_X0_times_15 (c : cC) (b0 : Nat) (h : eH) (k n : Nat) (H : c.2.2.2.2 (.inl (some (.int (-1 : Int32)))) h) : h_X0_times_15 c b0 h k n := by
  refine e_astore_n _ dX0_times_15 (by decide) trivial rfl ?_
  refine e_iconst (-1) dX0_times_16 (by decide) ?_
  exact e_ireturn .int dX0_times_17 rfl rfl H
theorem en_X0_times {l : Launch} {lo : Nat} {G : eG} {d : Nat} {P : eO → eH → Prop} (a0 : Nat) (a1 : Int32) (a2 : Int32) {h : eH} {k n : Nat} (H : h_X0_times_0 (l, lo, G, d, P) a0 a1 a2 h k n) : Ct l lo G d mX0_times [.ref a0, .int a1, .int a2] h k n P := 
  Ct_of (eArL mX0_times.2.2.2.1 [.ref a0, .int a1, .int a2]) (by decide) rfl (Nat.le_of_ble_eq_true rfl) (fun j w q => eArL_mem j w q) (E.less2 H (eS_s (eS_s (eS_s (eS_n eS_0)))))
/-! X0_order TroupeSums.order(I)I -/
def h_X0_order_0 (c : cC) (a0 : Nat) (a1 : Int32) (h : eH) (k n : Nat) : Prop := E c.1 c.2.1 c.2.2.1 c.2.2.2.1 mX0_order c.2.2.2.2 0 [some (.ref a0), some (.int a1)] [] h k n
set_option maxHeartbeats 4000000 in
theorem s_X0_order_0 (c : cC) (a0 : Nat) (a1 : Int32) (h : eH) (k n : Nat) (H : ∃ fs8 : List Value, h.1 a0 = some (.inr (0, fs8)) ∧ ∃ (d4 k5 n6 : Nat) (Q7 : Int32 → eH → Prop), cI c.1 c.2.1 c.2.2.1 d4 mX0_isMember [.ref a0, .int a1] h k5 n6 Q7 cX0 ∧ d4 + 1 ≤ c.2.2.2.1 ∧ k5 ≤ k ∧ n6 ≤ n ∧ (∀ (r1 : Int32) (h2 : eH), Q7 r1 h2 → ((r1 = 0 → c.2.2.2.2 (.inl (some (.int (-1 : Int32)))) h2) ∧ (¬ r1 = 0 → ∃ x9 : Nat, fV h2 a0 0 4 (.ref x9) ∧ (∃ x11 : Option Nat, fV h2 x9 1 2 (va_rf x11) ∧ (∃ o13 : Nat, x11 = some o13 ∧ ∃ fs8 : List Value, h2.1 o13 = some (.inr (3, fs8)) ∧ ∃ (d17 k18 n19 : Nat) (Q20 : Int32 → eH → Prop), cI c.1 c.2.1 c.2.2.1 d17 mX3_order [.ref o13, .int a1] h2 k18 n19 Q20 cX0 ∧ d17 + 1 ≤ c.2.2.2.1 ∧ k18 ≤ k - k5 ∧ n19 ≤ n - n6 ∧ (∀ (r14 : Int32) (h15 : eH), Q20 r14 h15 → (c.2.2.2.2 (.inl (some (.int r14))) h15)))))))) : h_X0_order_0 c a0 a1 h k n := by
  refine e_aload_n dX0_order_0 rfl ?_
  refine e_iload_n dX0_order_1 rfl ?_
  obtain ⟨fsg3, g3o, H⟩ := H
  obtain ⟨d4, k5, n6, Q7, g3, g3d, g3k, g3n, H⟩ := H
  refine e_callV (r := (RX0, TX0, 8)) (As := [.int a1]) g3 dX0_order_2 wX0_isMember q1944 q1946 qs43 g3o rfl rfl g3d rfl (Nat.le_of_ble_eq_true rfl) (k1 := k - k5) (n1 := n - n6) (by omega) (by omega) ?_ ?_
  · rintro v h2 (⟨v9, e9, r1, e8, hq⟩ | ⟨ci9, q9, e9, -⟩)
    · cases e9
      subst e8
      replace H := H r1 h2 hq
      refine e_if_eq 22 dX0_order_5 (by decide) (fun g8 => ?_) (fun g8 => ?_)
      · replace H := H.1 g8
        refine e_iconst (-1) dX0_order_22 (by decide) ?_
        exact e_ireturn .int dX0_order_23 rfl rfl H
      · replace H := H.2 g8
        refine e_aload_n dX0_order_8 rfl ?_
        obtain ⟨x9, ⟨fsx9, g10, g10v⟩, H⟩ := H
        refine e_get dX0_order_9 fX0_4 q1239 g10 g10v ?_
        obtain ⟨x11, ⟨fsx11, g12, g12v⟩, H⟩ := H
        refine e_getN dX0_order_12 fX1_2 q238 g12 g12v ?_
        refine e_iload_n dX0_order_15 rfl ?_
        obtain ⟨o13, eo13, H⟩ := H
        subst eo13
        obtain ⟨fsg16, g16o, H⟩ := H
        obtain ⟨d17, k18, n19, Q20, g16, g16d, g16k, g16n, H⟩ := H
        refine e_callV (r := (RX3, TX3, 8)) (As := [.int a1]) g16 dX0_order_16 wX3_order q1988 q1989 q1990 g16o rfl rfl g16d rfl (Nat.le_of_ble_eq_true rfl) (k1 := k - k5 - k18) (n1 := n - n6 - n19) (by omega) (by omega) ?_ ?_
        · rintro v h15 (⟨v9, e9, r14, e8, hq⟩ | ⟨ci9, q9, e9, -⟩)
          · cases e9
            subst e8
            replace H := H r14 h15 hq
            refine e_goto 23 dX0_order_19 (by decide) ?_
            exact e_ireturn .int dX0_order_23 rfl rfl H
          · cases e9
        · rintro q9 h9 (⟨v9, e9, -⟩ | ⟨ci9, q8, e9, -, -, hx⟩)
          · cases e9
          · exact hx.elim
    · cases e9
  · rintro q9 h9 (⟨v9, e9, -⟩ | ⟨ci9, q8, e9, -, -, hx⟩)
    · cases e9
    · exact hx.elim
theorem en_X0_order {l : Launch} {lo : Nat} {G : eG} {d : Nat} {P : eO → eH → Prop} (a0 : Nat) (a1 : Int32) {h : eH} {k n : Nat} (H : h_X0_order_0 (l, lo, G, d, P) a0 a1 h k n) : Ct l lo G d mX0_order [.ref a0, .int a1] h k n P := 
  Ct_of (eArL mX0_order.2.2.2.1 [.ref a0, .int a1]) (by decide) rfl (Nat.le_of_ble_eq_true rfl) (fun j w q => eArL_mem j w q) (E.less2 H (eS_s (eS_s eS_0)))
/-! X0_makesOf TroupeSums.makesOf(I)I -/
def h_X0_makesOf_0 (c : cC) (a0 : Nat) (a1 : Int32) (h : eH) (k n : Nat) : Prop := E c.1 c.2.1 c.2.2.1 c.2.2.2.1 mX0_makesOf c.2.2.2.2 0 [some (.ref a0), some (.int a1)] [] h k n
set_option maxHeartbeats 4000000 in
theorem s_X0_makesOf_0 (c : cC) (a0 : Nat) (a1 : Int32) (h : eH) (k n : Nat) (H : ∃ fs8 : List Value, h.1 a0 = some (.inr (0, fs8)) ∧ ∃ (d4 k5 n6 : Nat) (Q7 : Int32 → eH → Prop), cI c.1 c.2.1 c.2.2.1 d4 mX0_areMembers [.ref a0, .int a1] h k5 n6 Q7 cX0 ∧ d4 + 1 ≤ c.2.2.2.1 ∧ k5 ≤ k ∧ n6 ≤ n ∧ (∀ (r1 : Int32) (h2 : eH), Q7 r1 h2 → ((r1 = 0 → c.2.2.2.2 (.inl (some (.int (-1 : Int32)))) h2) ∧ (¬ r1 = 0 → ∃ x9 : Nat, fV h2 a0 0 4 (.ref x9) ∧ (∃ x11 : Option Nat, fV h2 x9 1 2 (va_rf x11) ∧ (∃ o13 : Nat, x11 = some o13 ∧ ∃ fs8 : List Value, h2.1 o13 = some (.inr (3, fs8)) ∧ ∃ (d17 k18 n19 : Nat) (Q20 : Int32 → eH → Prop), cI c.1 c.2.1 c.2.2.1 d17 mX3_made [.ref o13, .int a1] h2 k18 n19 Q20 cX0 ∧ d17 + 1 ≤ c.2.2.2.1 ∧ k18 ≤ k - k5 ∧ n19 ≤ n - n6 ∧ (∀ (r14 : Int32) (h15 : eH), Q20 r14 h15 → (c.2.2.2.2 (.inl (some (.int r14))) h15)))))))) : h_X0_makesOf_0 c a0 a1 h k n := by
  refine e_aload_n dX0_makesOf_0 rfl ?_
  refine e_iload_n dX0_makesOf_1 rfl ?_
  obtain ⟨fsg3, g3o, H⟩ := H
  obtain ⟨d4, k5, n6, Q7, g3, g3d, g3k, g3n, H⟩ := H
  refine e_callV (r := (RX0, TX0, 8)) (As := [.int a1]) g3 dX0_makesOf_2 wX0_areMembers q1996 q1998 qs44 g3o rfl rfl g3d rfl (Nat.le_of_ble_eq_true rfl) (k1 := k - k5) (n1 := n - n6) (by omega) (by omega) ?_ ?_
  · rintro v h2 (⟨v9, e9, r1, e8, hq⟩ | ⟨ci9, q9, e9, -⟩)
    · cases e9
      subst e8
      replace H := H r1 h2 hq
      refine e_if_eq 22 dX0_makesOf_5 (by decide) (fun g8 => ?_) (fun g8 => ?_)
      · replace H := H.1 g8
        refine e_iconst (-1) dX0_makesOf_22 (by decide) ?_
        exact e_ireturn .int dX0_makesOf_23 rfl rfl H
      · replace H := H.2 g8
        refine e_aload_n dX0_makesOf_8 rfl ?_
        obtain ⟨x9, ⟨fsx9, g10, g10v⟩, H⟩ := H
        refine e_get dX0_makesOf_9 fX0_4 q1239 g10 g10v ?_
        obtain ⟨x11, ⟨fsx11, g12, g12v⟩, H⟩ := H
        refine e_getN dX0_makesOf_12 fX1_2 q238 g12 g12v ?_
        refine e_iload_n dX0_makesOf_15 rfl ?_
        obtain ⟨o13, eo13, H⟩ := H
        subst eo13
        obtain ⟨fsg16, g16o, H⟩ := H
        obtain ⟨d17, k18, n19, Q20, g16, g16d, g16k, g16n, H⟩ := H
        refine e_callV (r := (RX3, TX3, 8)) (As := [.int a1]) g16 dX0_makesOf_16 wX3_made q2000 q933 q934 g16o rfl rfl g16d rfl (Nat.le_of_ble_eq_true rfl) (k1 := k - k5 - k18) (n1 := n - n6 - n19) (by omega) (by omega) ?_ ?_
        · rintro v h15 (⟨v9, e9, r14, e8, hq⟩ | ⟨ci9, q9, e9, -⟩)
          · cases e9
            subst e8
            replace H := H r14 h15 hq
            refine e_goto 23 dX0_makesOf_19 (by decide) ?_
            exact e_ireturn .int dX0_makesOf_23 rfl rfl H
          · cases e9
        · rintro q9 h9 (⟨v9, e9, -⟩ | ⟨ci9, q8, e9, -, -, hx⟩)
          · cases e9
          · exact hx.elim
    · cases e9
  · rintro q9 h9 (⟨v9, e9, -⟩ | ⟨ci9, q8, e9, -, -, hx⟩)
    · cases e9
    · exact hx.elim
theorem en_X0_makesOf {l : Launch} {lo : Nat} {G : eG} {d : Nat} {P : eO → eH → Prop} (a0 : Nat) (a1 : Int32) {h : eH} {k n : Nat} (H : h_X0_makesOf_0 (l, lo, G, d, P) a0 a1 h k n) : Ct l lo G d mX0_makesOf [.ref a0, .int a1] h k n P := 
  Ct_of (eArL mX0_makesOf.2.2.2.1 [.ref a0, .int a1]) (by decide) rfl (Nat.le_of_ble_eq_true rfl) (fun j w q => eArL_mem j w q) (E.less2 H (eS_s (eS_s eS_0)))
/-! X0_areMembers TroupeSums.areMembers(I)Z -/
def h_X0_areMembers_0 (c : cC) (a0 : Nat) (a1 : Int32) (h : eH) (k n : Nat) : Prop := E c.1 c.2.1 c.2.2.1 c.2.2.2.1 mX0_areMembers c.2.2.2.2 0 [some (.ref a0), some (.int a1)] [] h k n
set_option maxHeartbeats 4000000 in
theorem s_X0_areMembers_0 (c : cC) (a0 : Nat) (a1 : Int32) (h : eH) (k n : Nat) (H : (a1 < 0 → c.2.2.2.2 (.inl (some (.int (0 : Int32)))) h) ∧ (¬ a1 < 0 → ∃ x2 : Nat, fV h a0 0 4 (.ref x2) ∧ (∃ x4 : Option Nat, fV h x2 1 2 (va_rf x4) ∧ (∃ o6 : Nat, x4 = some o6 ∧ ∃ fs8 : List Value, h.1 o6 = some (.inr (3, fs8)) ∧ ∃ (d10 k11 n12 : Nat) (Q13 : Int32 → eH → Prop), cI c.1 c.2.1 c.2.2.1 d10 mX3_size [.ref o6] h k11 n12 Q13 cX0 ∧ d10 + 1 ≤ c.2.2.2.1 ∧ k11 ≤ k ∧ n12 ≤ n ∧ (∀ (r7 : Int32) (h8 : eH), Q13 r7 h8 → ((((1 : Int32) <<< (r7 &&& 31)) ≤ a1 → c.2.2.2.2 (.inl (some (.int (0 : Int32)))) h8) ∧ (¬ ((1 : Int32) <<< (r7 &&& 31)) ≤ a1 → c.2.2.2.2 (.inl (some (.int (1 : Int32)))) h8))))))) : h_X0_areMembers_0 c a0 a1 h k n := by
  refine e_iload_n dX0_areMembers_0 rfl ?_
  refine e_if_lt 24 dX0_areMembers_1 (by decide) (fun g1 => ?_) (fun g1 => ?_)
  · replace H := H.1 g1
    refine e_iconst (0) dX0_areMembers_24 (by decide) ?_
    exact e_ireturn .boolean dX0_areMembers_25 rfl (by decide) H
  · replace H := H.2 g1
    refine e_iload_n dX0_areMembers_4 rfl ?_
    refine e_iconst (1) dX0_areMembers_5 (by decide) ?_
    refine e_aload_n dX0_areMembers_6 rfl ?_
    obtain ⟨x2, ⟨fsx2, g3, g3v⟩, H⟩ := H
    refine e_get dX0_areMembers_7 fX0_4 q1239 g3 g3v ?_
    obtain ⟨x4, ⟨fsx4, g5, g5v⟩, H⟩ := H
    refine e_getN dX0_areMembers_10 fX1_2 q238 g5 g5v ?_
    obtain ⟨o6, eo6, H⟩ := H
    subst eo6
    obtain ⟨fsg9, g9o, H⟩ := H
    obtain ⟨d10, k11, n12, Q13, g9, g9d, g9k, g9n, H⟩ := H
    refine e_callV (r := (RX3, TX3, 8)) (As := []) g9 dX0_areMembers_13 wX3_size q1926 q929 q930 g9o rfl rfl g9d rfl (Nat.le_of_ble_eq_true rfl) (k1 := k - k11) (n1 := n - n12) (by omega) (by omega) ?_ ?_
    · rintro v h8 (⟨v9, e9, r7, e8, hq⟩ | ⟨ci9, q9, e9, -⟩)
      · cases e9
        subst e8
        replace H := H r7 h8 hq
        refine e_ishl dX0_areMembers_16 ?_
        refine e_icmp_ge 24 dX0_areMembers_17 (by decide) (fun g14 => ?_) (fun g14 => ?_)
        · replace H := H.1 g14
          refine e_iconst (0) dX0_areMembers_24 (by decide) ?_
          exact e_ireturn .boolean dX0_areMembers_25 rfl (by decide) H
        · replace H := H.2 g14
          refine e_iconst (1) dX0_areMembers_20 (by decide) ?_
          refine e_goto 25 dX0_areMembers_21 (by decide) ?_
          exact e_ireturn .boolean dX0_areMembers_25 rfl (by decide) H
      · cases e9
    · rintro q9 h9 (⟨v9, e9, -⟩ | ⟨ci9, q8, e9, -, -, hx⟩)
      · cases e9
      · exact hx.elim
theorem en_X0_areMembers {l : Launch} {lo : Nat} {G : eG} {d : Nat} {P : eO → eH → Prop} (a0 : Nat) (a1 : Int32) {h : eH} {k n : Nat} (H : h_X0_areMembers_0 (l, lo, G, d, P) a0 a1 h k n) : Ct l lo G d mX0_areMembers [.ref a0, .int a1] h k n P := 
  Ct_of (eArL mX0_areMembers.2.2.2.1 [.ref a0, .int a1]) (by decide) rfl (Nat.le_of_ble_eq_true rfl) (fun j w q => eArL_mem j w q) (E.less2 H (eS_s (eS_s eS_0)))
/-! X0_sortOf TroupeSums.sortOf(I)I -/
def h_X0_sortOf_0 (c : cC) (a0 : Nat) (a1 : Int32) (h : eH) (k n : Nat) : Prop := E c.1 c.2.1 c.2.2.1 c.2.2.2.1 mX0_sortOf c.2.2.2.2 0 [some (.ref a0), some (.int a1)] [] h k n
set_option maxHeartbeats 4000000 in
theorem s_X0_sortOf_0 (c : cC) (a0 : Nat) (a1 : Int32) (h : eH) (k n : Nat) (H : ∃ fs8 : List Value, h.1 a0 = some (.inr (0, fs8)) ∧ ∃ (d4 k5 n6 : Nat) (Q7 : Int32 → eH → Prop), cI c.1 c.2.1 c.2.2.1 d4 mX0_areMembers [.ref a0, .int a1] h k5 n6 Q7 cX0 ∧ d4 + 1 ≤ c.2.2.2.1 ∧ k5 ≤ k ∧ n6 ≤ n ∧ (∀ (r1 : Int32) (h2 : eH), Q7 r1 h2 → ((r1 = 0 → c.2.2.2.2 (.inl (some (.int (-1 : Int32)))) h2) ∧ (¬ r1 = 0 → ∃ x9 : Nat, fV h2 a0 0 4 (.ref x9) ∧ (∃ x11 : Option Nat, fV h2 x9 1 2 (va_rf x11) ∧ (∃ x13 : Nat, fV h2 a0 0 4 (.ref x13) ∧ (∃ x15 : Option Nat, fV h2 x13 1 2 (va_rf x15) ∧ (∃ o17 : Nat, x15 = some o17 ∧ ∃ fs8 : List Value, h2.1 o17 = some (.inr (3, fs8)) ∧ ∃ (d21 k22 n23 : Nat) (Q24 : Int32 → eH → Prop), cI c.1 c.2.1 c.2.2.1 d21 mX3_made [.ref o17, .int a1] h2 k22 n23 Q24 cX0 ∧ d21 + 1 ≤ c.2.2.2.1 ∧ k22 ≤ k - k5 ∧ n23 ≤ n - n6 ∧ (∀ (r18 : Int32) (h19 : eH), Q24 r18 h19 → (∃ o25 : Nat, x11 = some o25 ∧ ∃ fs8 : List Value, h19.1 o25 = some (.inr (3, fs8)) ∧ ∃ (d29 k30 n31 : Nat) (Q32 : Int32 → eH → Prop), cI c.1 c.2.1 c.2.2.1 d29 mX3_sortOf [.ref o25, .int r18] h19 k30 n31 Q32 cX0 ∧ d29 + 1 ≤ c.2.2.2.1 ∧ k30 ≤ k - k5 - k22 ∧ n31 ≤ n - n6 - n23 ∧ (∀ (r26 : Int32) (h27 : eH), Q32 r26 h27 → (c.2.2.2.2 (.inl (some (.int r26))) h27)))))))))))) : h_X0_sortOf_0 c a0 a1 h k n := by
  refine e_aload_n dX0_sortOf_0 rfl ?_
  refine e_iload_n dX0_sortOf_1 rfl ?_
  obtain ⟨fsg3, g3o, H⟩ := H
  obtain ⟨d4, k5, n6, Q7, g3, g3d, g3k, g3n, H⟩ := H
  refine e_callV (r := (RX0, TX0, 8)) (As := [.int a1]) g3 dX0_sortOf_2 wX0_areMembers q1996 q1998 qs44 g3o rfl rfl g3d rfl (Nat.le_of_ble_eq_true rfl) (k1 := k - k5) (n1 := n - n6) (by omega) (by omega) ?_ ?_
  · rintro v h2 (⟨v9, e9, r1, e8, hq⟩ | ⟨ci9, q9, e9, -⟩)
    · cases e9
      subst e8
      replace H := H r1 h2 hq
      refine e_if_eq 32 dX0_sortOf_5 (by decide) (fun g8 => ?_) (fun g8 => ?_)
      · replace H := H.1 g8
        refine e_iconst (-1) dX0_sortOf_32 (by decide) ?_
        exact e_ireturn .int dX0_sortOf_33 rfl rfl H
      · replace H := H.2 g8
        refine e_aload_n dX0_sortOf_8 rfl ?_
        obtain ⟨x9, ⟨fsx9, g10, g10v⟩, H⟩ := H
        refine e_get dX0_sortOf_9 fX0_4 q1239 g10 g10v ?_
        obtain ⟨x11, ⟨fsx11, g12, g12v⟩, H⟩ := H
        refine e_getN dX0_sortOf_12 fX1_2 q238 g12 g12v ?_
        refine e_aload_n dX0_sortOf_15 rfl ?_
        obtain ⟨x13, ⟨fsx13, g14, g14v⟩, H⟩ := H
        refine e_get dX0_sortOf_16 fX0_4 q1239 g14 g14v ?_
        obtain ⟨x15, ⟨fsx15, g16, g16v⟩, H⟩ := H
        refine e_getN dX0_sortOf_19 fX1_2 q238 g16 g16v ?_
        refine e_iload_n dX0_sortOf_22 rfl ?_
        obtain ⟨o17, eo17, H⟩ := H
        subst eo17
        obtain ⟨fsg20, g20o, H⟩ := H
        obtain ⟨d21, k22, n23, Q24, g20, g20d, g20k, g20n, H⟩ := H
        refine e_callV (r := (RX3, TX3, 8)) (As := [.int a1]) g20 dX0_sortOf_23 wX3_made q2000 q933 q934 g20o rfl rfl g20d rfl (show ((([va_rf x11] : List Value).map fun v => v.category).sum ≤ 8) from by simp only [List.map_cons, List.map_nil, List.sum_cons, List.sum_nil, eRfC, eCtI, eCtL, eCtR, eCtN]; decide) (k1 := k - k5 - k22) (n1 := n - n6 - n23) (by omega) (by omega) ?_ ?_
        · rintro v h19 (⟨v9, e9, r18, e8, hq⟩ | ⟨ci9, q9, e9, -⟩)
          · cases e9
            subst e8
            replace H := H r18 h19 hq
            obtain ⟨o25, eo25, H⟩ := H
            subst eo25
            obtain ⟨fsg28, g28o, H⟩ := H
            obtain ⟨d29, k30, n31, Q32, g28, g28d, g28k, g28n, H⟩ := H
            refine e_callV (r := (RX3, TX3, 8)) (As := [.int r18]) g28 dX0_sortOf_26 wX3_sortOf q2005 q2006 q2007 g28o rfl rfl g28d rfl (Nat.le_of_ble_eq_true rfl) (k1 := k - k5 - k22 - k30) (n1 := n - n6 - n23 - n31) (by omega) (by omega) ?_ ?_
            · rintro v h27 (⟨v9, e9, r26, e8, hq⟩ | ⟨ci9, q9, e9, -⟩)
              · cases e9
                subst e8
                replace H := H r26 h27 hq
                refine e_goto 33 dX0_sortOf_29 (by decide) ?_
                exact e_ireturn .int dX0_sortOf_33 rfl rfl H
              · cases e9
            · rintro q9 h9 (⟨v9, e9, -⟩ | ⟨ci9, q8, e9, -, -, hx⟩)
              · cases e9
              · exact hx.elim
          · cases e9
        · rintro q9 h9 (⟨v9, e9, -⟩ | ⟨ci9, q8, e9, -, -, hx⟩)
          · cases e9
          · exact hx.elim
    · cases e9
  · rintro q9 h9 (⟨v9, e9, -⟩ | ⟨ci9, q8, e9, -, -, hx⟩)
    · cases e9
    · exact hx.elim
theorem en_X0_sortOf {l : Launch} {lo : Nat} {G : eG} {d : Nat} {P : eO → eH → Prop} (a0 : Nat) (a1 : Int32) {h : eH} {k n : Nat} (H : h_X0_sortOf_0 (l, lo, G, d, P) a0 a1 h k n) : Ct l lo G d mX0_sortOf [.ref a0, .int a1] h k n P := 
  Ct_of (eArL mX0_sortOf.2.2.2.1 [.ref a0, .int a1]) (by decide) rfl (Nat.le_of_ble_eq_true rfl) (fun j w q => eArL_mem j w q) (E.less2 H (eS_s (eS_s eS_0)))
/-! X0_sort TroupeSums.sort(II)I -/
def h_X0_sort_0 (c : cC) (a0 : Nat) (a1 : Int32) (a2 : Int32) (h : eH) (k n : Nat) : Prop := E c.1 c.2.1 c.2.2.1 c.2.2.2.1 mX0_sort c.2.2.2.2 0 [some (.ref a0), some (.int a1), some (.int a2), none] [] h k n
set_option maxHeartbeats 4000000 in
theorem s_X0_sort_0 (c : cC) (a0 : Nat) (a1 : Int32) (a2 : Int32) (h : eH) (k n : Nat) (H : ∃ fs8 : List Value, h.1 a0 = some (.inr (0, fs8)) ∧ ∃ (d4 k5 n6 : Nat) (Q7 : Int32 → eH → Prop), cI c.1 c.2.1 c.2.2.1 d4 mX0_isSort [.ref a0, .int a1] h k5 n6 Q7 cX0 ∧ d4 + 1 ≤ c.2.2.2.1 ∧ k5 ≤ k ∧ n6 ≤ n ∧ (∀ (r1 : Int32) (h2 : eH), Q7 r1 h2 → ((¬ r1 = 0 → ∃ x9 : Nat, fV h2 a0 0 4 (.ref x9) ∧ (∃ x11 : Option Nat, fV h2 x9 1 2 (va_rf x11) ∧ (∃ o13 : Nat, x11 = some o13 ∧ ∃ x14 : Nat, fV h2 o13 3 5 (.ref x14) ∧ (∃ fs8 : List Value, h2.1 x14 = some (.inr (15, fs8)) ∧ ∃ (d19 k20 n21 : Nat) (Q22 : Nat → eH → Prop), cR c.1 c.2.1 c.2.2.1 d19 mJ2_get [.ref x14, .int a1] h2 k20 n21 Q22 cX0 ∧ d19 + 1 ≤ c.2.2.2.1 ∧ k20 ≤ k - k5 ∧ n21 ≤ n - n6 ∧ (∀ (r16 : Nat) (h17 : eH), Q22 r16 h17 → (eCs c.2.2.1 h17 r16 "TroupeSums$Sort" ∧ (((a2.toInt < 0 ∨ 5 < a2.toInt) → c.2.2.2.2 (.inl (some (.int (-1 : Int32)))) h17) ∧ (a2 = nI 0 → ∃ x26 : Int32, fV h17 r16 5 0 (.int x26) ∧ (c.2.2.2.2 (.inl (some (.int x26))) h17)) ∧ (a2 = nI 1 → ∃ x28 : Int32, fV h17 r16 5 2 (.int x28) ∧ (c.2.2.2.2 (.inl (some (.int x28))) h17)) ∧ (a2 = nI 2 → ∃ x30 : Int32, fV h17 r16 5 1 (.int x30) ∧ (c.2.2.2.2 (.inl (some (.int x30))) h17)) ∧ (a2 = nI 3 → ∃ x32 : Int32, fV h17 r16 5 3 (.int x32) ∧ (∃ (d37 k38 n39 : Nat) (Q40 : Int32 → eH → Prop), cI c.1 c.2.1 c.2.2.1 d37 mJ6_bitCount [.int x32] h17 k38 n39 Q40 cX0 ∧ d37 + 1 ≤ c.2.2.2.1 ∧ k38 ≤ k - k5 - k20 ∧ n39 ≤ n - n6 - n21 ∧ (∀ (r34 : Int32) (h35 : eH), Q40 r34 h35 → (c.2.2.2.2 (.inl (some (.int r34))) h35)))) ∧ (a2 = nI 4 → ∃ x41 : Nat, fV h17 a0 0 4 (.ref x41) ∧ (∃ x43 : Option Nat, fV h17 x41 1 2 (va_rf x43) ∧ (∃ x45 : Int32, fV h17 r16 5 1 (.int x45) ∧ (∃ o47 : Nat, x43 = some o47 ∧ ∃ fs8 : List Value, h17.1 o47 = some (.inr (3, fs8)) ∧ ∃ (d51 k52 n53 : Nat) (Q54 : Int32 → eH → Prop), cI c.1 c.2.1 c.2.2.1 d51 mX3_isRound [.ref o47, .int x45] h17 k52 n53 Q54 cX0 ∧ d51 + 1 ≤ c.2.2.2.1 ∧ k52 ≤ k - k5 - k20 ∧ n53 ≤ n - n6 - n21 ∧ (∀ (r48 : Int32) (h49 : eH), Q54 r48 h49 → ((r48 = 0 → c.2.2.2.2 (.inl (some (.int (0 : Int32)))) h49) ∧ (¬ r48 = 0 → c.2.2.2.2 (.inl (some (.int (1 : Int32)))) h49))))))) ∧ (a2 = nI 5 → ∃ x56 : Nat, fV h17 a0 0 4 (.ref x56) ∧ (∃ x58 : Option Nat, fV h17 x56 1 2 (va_rf x58) ∧ (∃ x60 : Int32, fV h17 r16 5 1 (.int x60) ∧ (∃ o62 : Nat, x58 = some o62 ∧ ∃ fs8 : List Value, h17.1 o62 = some (.inr (3, fs8)) ∧ ∃ (d66 k67 n68 : Nat) (Q69 : Int32 → eH → Prop), cI c.1 c.2.1 c.2.2.1 d66 mX3_isLevel [.ref o62, .int x60] h17 k67 n68 Q69 cX0 ∧ d66 + 1 ≤ c.2.2.2.1 ∧ k67 ≤ k - k5 - k20 ∧ n68 ≤ n - n6 - n21 ∧ (∀ (r63 : Int32) (h64 : eH), Q69 r63 h64 → ((r63 = 0 → c.2.2.2.2 (.inl (some (.int (0 : Int32)))) h64) ∧ (¬ r63 = 0 → c.2.2.2.2 (.inl (some (.int (1 : Int32)))) h64)))))))))))))) ∧ (r1 = 0 → c.2.2.2.2 (.inl (some (.int (-1 : Int32)))) h2)))) : h_X0_sort_0 c a0 a1 a2 h k n := by
  refine e_aload_n dX0_sort_0 rfl ?_
  refine e_iload_n dX0_sort_1 rfl ?_
  obtain ⟨fsg3, g3o, H⟩ := H
  obtain ⟨d4, k5, n6, Q7, g3, g3d, g3k, g3n, H⟩ := H
  refine e_callV (r := (RX0, TX0, 8)) (As := [.int a1]) g3 dX0_sort_2 wX0_isSort q2015 q2017 qs45 g3o rfl rfl g3d rfl (Nat.le_of_ble_eq_true rfl) (k1 := k - k5) (n1 := n - n6) (by omega) (by omega) ?_ ?_
  · rintro v h2 (⟨v9, e9, r1, e8, hq⟩ | ⟨ci9, q9, e9, -⟩)
    · cases e9
      subst e8
      replace H := H r1 h2 hq
      refine e_if_ne 10 dX0_sort_5 (by decide) (fun g8 => ?_) (fun g8 => ?_)
      · replace H := H.1 g8
        refine e_aload_n dX0_sort_10 rfl ?_
        obtain ⟨x9, ⟨fsx9, g10, g10v⟩, H⟩ := H
        refine e_get dX0_sort_11 fX0_4 q1239 g10 g10v ?_
        obtain ⟨x11, ⟨fsx11, g12, g12v⟩, H⟩ := H
        refine e_getN dX0_sort_14 fX1_2 q238 g12 g12v ?_
        obtain ⟨o13, eo13, H⟩ := H
        subst eo13
        obtain ⟨x14, ⟨fsx14, g15, g15v⟩, H⟩ := H
        refine e_getN dX0_sort_17 fX3_5 q1194 g15 g15v ?_
        refine e_iload_n dX0_sort_20 rfl ?_
        obtain ⟨fsg18, g18o, H⟩ := H
        obtain ⟨d19, k20, n21, Q22, g18, g18d, g18k, g18n, H⟩ := H
        refine e_callF (i := 4) (r := (RJ2, TJ2, 3)) (As := [.int a1]) g18 dX0_sort_21 wJ2_get rfl rfl q1950 q887 q885 g18o rfl rfl g18d rfl (Nat.le_of_ble_eq_true rfl) (k1 := k - k5 - k20) (n1 := n - n6 - n21) (by omega) (by omega) ?_ ?_
        · rintro v h17 (⟨v9, e9, r16, e8, hq⟩ | ⟨ci9, q9, e9, -⟩)
          · cases e9
            subst e8
            replace H := H r16 h17 hq
            obtain ⟨g23, H⟩ := H
            refine c_castR dX0_sort_26 q2019 g23 ?_
            refine e_astore_n _ dX0_sort_29 (by decide) rfl rfl ?_
            refine e_iload_n dX0_sort_30 rfl ?_
            rcases eSwitch 5 a2 with g24 | ⟨k25, g24, rfl⟩
            · replace H := H.1 g24
              refine e_switchOut 149 dX0_sort_31 g24 (by decide) ?_
              refine e_iconst (-1) dX0_sort_149 (by decide) ?_
              exact e_ireturn .int dX0_sort_150 rfl rfl H
            · replace H := H.2
              rcases (show k25 = 0 ∨ k25 = 1 ∨ k25 = 2 ∨ k25 = 3 ∨ k25 = 4 ∨ k25 = 5 by omega) with rfl | rfl | rfl | rfl | rfl | rfl
              · replace H := H.1 rfl
                refine e_switchIn (off := 37) 68 dX0_sort_31 (by decide) (by decide) (by decide) (by decide) ?_
                refine e_aload_n dX0_sort_68 rfl ?_
                obtain ⟨x26, ⟨fsx26, g27, g27v⟩, H⟩ := H
                refine e_getN dX0_sort_69 fX5_0 q1078 g27 g27v ?_
                refine e_goto 150 dX0_sort_72 (by decide) ?_
                exact e_ireturn .int dX0_sort_150 rfl rfl H
              · replace H := H.2.1 rfl
                refine e_switchIn (off := 44) 75 dX0_sort_31 (by decide) (by decide) (by decide) (by decide) ?_
                refine e_aload_n dX0_sort_75 rfl ?_
                obtain ⟨x28, ⟨fsx28, g29, g29v⟩, H⟩ := H
                refine e_getN dX0_sort_76 fX5_2 q1085 g29 g29v ?_
                refine e_goto 150 dX0_sort_79 (by decide) ?_
                exact e_ireturn .int dX0_sort_150 rfl rfl H
              · replace H := H.2.2.1 rfl
                refine e_switchIn (off := 51) 82 dX0_sort_31 (by decide) (by decide) (by decide) (by decide) ?_
                refine e_aload_n dX0_sort_82 rfl ?_
                obtain ⟨x30, ⟨fsx30, g31, g31v⟩, H⟩ := H
                refine e_getN dX0_sort_83 fX5_1 q1083 g31 g31v ?_
                refine e_goto 150 dX0_sort_86 (by decide) ?_
                exact e_ireturn .int dX0_sort_150 rfl rfl H
              · replace H := H.2.2.2.1 rfl
                refine e_switchIn (off := 58) 89 dX0_sort_31 (by decide) (by decide) (by decide) (by decide) ?_
                refine e_aload_n dX0_sort_89 rfl ?_
                obtain ⟨x32, ⟨fsx32, g33, g33v⟩, H⟩ := H
                refine e_getN dX0_sort_90 fX5_3 q1087 g33 g33v ?_
                obtain ⟨d37, k38, n39, Q40, g36, g36d, g36k, g36n, H⟩ := H
                refine e_callS (As := [.int x32]) g36 dX0_sort_93 wJ6_bitCount q2020 q1071 rfl g36d rfl (Nat.le_of_ble_eq_true rfl) (k1 := k - k5 - k20 - k38) (n1 := n - n6 - n21 - n39) (by omega) (by omega) ?_ ?_
                · rintro v h35 (⟨v9, e9, r34, e8, hq⟩ | ⟨ci9, q9, e9, -⟩)
                  · cases e9
                    subst e8
                    replace H := H r34 h35 hq
                    refine e_goto 150 dX0_sort_96 (by decide) ?_
                    exact e_ireturn .int dX0_sort_150 rfl rfl H
                  · cases e9
                · rintro q9 h9 (⟨v9, e9, -⟩ | ⟨ci9, q8, e9, -, -, hx⟩)
                  · cases e9
                  · exact hx.elim
              · replace H := H.2.2.2.2.1 rfl
                refine e_switchIn (off := 68) 99 dX0_sort_31 (by decide) (by decide) (by decide) (by decide) ?_
                refine e_aload_n dX0_sort_99 rfl ?_
                obtain ⟨x41, ⟨fsx41, g42, g42v⟩, H⟩ := H
                refine e_get dX0_sort_100 fX0_4 q1239 g42 g42v ?_
                obtain ⟨x43, ⟨fsx43, g44, g44v⟩, H⟩ := H
                refine e_getN dX0_sort_103 fX1_2 q238 g44 g44v ?_
                refine e_aload_n dX0_sort_106 rfl ?_
                obtain ⟨x45, ⟨fsx45, g46, g46v⟩, H⟩ := H
                refine e_getN dX0_sort_107 fX5_1 q1083 g46 g46v ?_
                obtain ⟨o47, eo47, H⟩ := H
                subst eo47
                obtain ⟨fsg50, g50o, H⟩ := H
                obtain ⟨d51, k52, n53, Q54, g50, g50d, g50k, g50n, H⟩ := H
                refine e_callV (r := (RX3, TX3, 8)) (As := [.int x45]) g50 dX0_sort_110 wX3_isRound q2021 q2022 q2023 g50o rfl rfl g50d rfl (Nat.le_of_ble_eq_true rfl) (k1 := k - k5 - k20 - k52) (n1 := n - n6 - n21 - n53) (by omega) (by omega) ?_ ?_
                · rintro v h49 (⟨v9, e9, r48, e8, hq⟩ | ⟨ci9, q9, e9, -⟩)
                  · cases e9
                    subst e8
                    replace H := H r48 h49 hq
                    refine e_if_eq 120 dX0_sort_113 (by decide) (fun g55 => ?_) (fun g55 => ?_)
                    · replace H := H.1 g55
                      refine e_iconst (0) dX0_sort_120 (by decide) ?_
                      refine e_goto 150 dX0_sort_121 (by decide) ?_
                      exact e_ireturn .int dX0_sort_150 rfl rfl H
                    · replace H := H.2 g55
                      refine e_iconst (1) dX0_sort_116 (by decide) ?_
                      refine e_goto 150 dX0_sort_117 (by decide) ?_
                      exact e_ireturn .int dX0_sort_150 rfl rfl H
                  · cases e9
                · rintro q9 h9 (⟨v9, e9, -⟩ | ⟨ci9, q8, e9, -, -, hx⟩)
                  · cases e9
                  · exact hx.elim
              · replace H := H.2.2.2.2.2 rfl
                refine e_switchIn (off := 93) 124 dX0_sort_31 (by decide) (by decide) (by decide) (by decide) ?_
                refine e_aload_n dX0_sort_124 rfl ?_
                obtain ⟨x56, ⟨fsx56, g57, g57v⟩, H⟩ := H
                refine e_get dX0_sort_125 fX0_4 q1239 g57 g57v ?_
                obtain ⟨x58, ⟨fsx58, g59, g59v⟩, H⟩ := H
                refine e_getN dX0_sort_128 fX1_2 q238 g59 g59v ?_
                refine e_aload_n dX0_sort_131 rfl ?_
                obtain ⟨x60, ⟨fsx60, g61, g61v⟩, H⟩ := H
                refine e_getN dX0_sort_132 fX5_1 q1083 g61 g61v ?_
                obtain ⟨o62, eo62, H⟩ := H
                subst eo62
                obtain ⟨fsg65, g65o, H⟩ := H
                obtain ⟨d66, k67, n68, Q69, g65, g65d, g65k, g65n, H⟩ := H
                refine e_callV (r := (RX3, TX3, 8)) (As := [.int x60]) g65 dX0_sort_135 wX3_isLevel q1935 q1936 q1937 g65o rfl rfl g65d rfl (Nat.le_of_ble_eq_true rfl) (k1 := k - k5 - k20 - k67) (n1 := n - n6 - n21 - n68) (by omega) (by omega) ?_ ?_
                · rintro v h64 (⟨v9, e9, r63, e8, hq⟩ | ⟨ci9, q9, e9, -⟩)
                  · cases e9
                    subst e8
                    replace H := H r63 h64 hq
                    refine e_if_eq 145 dX0_sort_138 (by decide) (fun g70 => ?_) (fun g70 => ?_)
                    · replace H := H.1 g70
                      refine e_iconst (0) dX0_sort_145 (by decide) ?_
                      refine e_goto 150 dX0_sort_146 (by decide) ?_
                      exact e_ireturn .int dX0_sort_150 rfl rfl H
                    · replace H := H.2 g70
                      refine e_iconst (1) dX0_sort_141 (by decide) ?_
                      refine e_goto 150 dX0_sort_142 (by decide) ?_
                      exact e_ireturn .int dX0_sort_150 rfl rfl H
                  · cases e9
                · rintro q9 h9 (⟨v9, e9, -⟩ | ⟨ci9, q8, e9, -, -, hx⟩)
                  · cases e9
                  · exact hx.elim
          · cases e9
        · rintro q9 h9 (⟨v9, e9, -⟩ | ⟨ci9, q8, e9, -, -, hx⟩)
          · cases e9
          · exact hx.elim
      · replace H := H.2 g8
        refine e_iconst (-1) dX0_sort_8 (by decide) ?_
        exact e_ireturn .int dX0_sort_9 rfl rfl H
    · cases e9
  · rintro q9 h9 (⟨v9, e9, -⟩ | ⟨ci9, q8, e9, -, -, hx⟩)
    · cases e9
    · exact hx.elim
theorem en_X0_sort {l : Launch} {lo : Nat} {G : eG} {d : Nat} {P : eO → eH → Prop} (a0 : Nat) (a1 : Int32) (a2 : Int32) {h : eH} {k n : Nat} (H : h_X0_sort_0 (l, lo, G, d, P) a0 a1 a2 h k n) : Ct l lo G d mX0_sort [.ref a0, .int a1, .int a2] h k n P := 
  Ct_of (eArL mX0_sort.2.2.2.1 [.ref a0, .int a1, .int a2]) (by decide) rfl (Nat.le_of_ble_eq_true rfl) (fun j w q => eArL_mem j w q) (E.less2 H (eS_s (eS_s (eS_s (eS_n eS_0)))))
/-! X0_isSort TroupeSums.isSort(I)Z -/
def h_X0_isSort_0 (c : cC) (a0 : Nat) (a1 : Int32) (h : eH) (k n : Nat) : Prop := E c.1 c.2.1 c.2.2.1 c.2.2.2.1 mX0_isSort c.2.2.2.2 0 [some (.ref a0), some (.int a1)] [] h k n
set_option maxHeartbeats 4000000 in
theorem s_X0_isSort_0 (c : cC) (a0 : Nat) (a1 : Int32) (h : eH) (k n : Nat) (H : ∃ fs8 : List Value, h.1 a0 = some (.inr (0, fs8)) ∧ ∃ (d4 k5 n6 : Nat) (Q7 : Int32 → eH → Prop), cI c.1 c.2.1 c.2.2.1 d4 mX0_sorts [.ref a0] h k5 n6 Q7 cX0 ∧ d4 + 1 ≤ c.2.2.2.1 ∧ k5 ≤ k ∧ n6 ≤ n ∧ (∀ (r1 : Int32) (h2 : eH), Q7 r1 h2 → (∃ (d11 k12 n13 : Nat) (Q14 : Int32 → eH → Prop), cI c.1 c.2.1 c.2.2.1 d11 mX0_isIn [.long a1.toInt64, .long (0 : Int64), .long ((r1 - (1 : Int32)).toInt64)] h2 k12 n13 Q14 cX0 ∧ d11 + 1 ≤ c.2.2.2.1 ∧ k12 ≤ k - k5 ∧ n13 ≤ n - n6 ∧ (∀ (r8 : Int32) (h9 : eH), Q14 r8 h9 → (narrow .boolean (.int r8) = .int r8 ∧ c.2.2.2.2 (.inl (some (.int r8))) h9))))) : h_X0_isSort_0 c a0 a1 h k n := by
  refine e_iload_n dX0_isSort_0 rfl ?_
  refine e_i2l dX0_isSort_1 ?_
  refine e_lconst 0 dX0_isSort_2 (by decide) ?_
  refine e_aload_n dX0_isSort_3 rfl ?_
  obtain ⟨fsg3, g3o, H⟩ := H
  obtain ⟨d4, k5, n6, Q7, g3, g3d, g3k, g3n, H⟩ := H
  refine e_callV (r := (RX0, TX0, 8)) (As := []) g3 dX0_isSort_4 wX0_sorts q1913 q1915 qs42 g3o rfl rfl g3d rfl (Nat.le_of_ble_eq_true rfl) (k1 := k - k5) (n1 := n - n6) (by omega) (by omega) ?_ ?_
  · rintro v h2 (⟨v9, e9, r1, e8, hq⟩ | ⟨ci9, q9, e9, -⟩)
    · cases e9
      subst e8
      replace H := H r1 h2 hq
      refine e_iconst (1) dX0_isSort_7 (by decide) ?_
      refine e_isub dX0_isSort_8 ?_
      refine e_i2l dX0_isSort_9 ?_
      obtain ⟨d11, k12, n13, Q14, g10, g10d, g10k, g10n, H⟩ := H
      refine e_callS (As := [.long a1.toInt64, .long (0 : Int64), .long ((r1 - (1 : Int32)).toInt64)]) g10 dX0_isSort_10 wX0_isIn q1948 q1791 rfl g10d rfl (Nat.le_of_ble_eq_true rfl) (k1 := k - k5 - k12) (n1 := n - n6 - n13) (by omega) (by omega) ?_ ?_
      · rintro v h9 (⟨v9, e9, r8, e8, hq⟩ | ⟨ci9, q9, e9, -⟩)
        · cases e9
          subst e8
          replace H := H r8 h9 hq
          exact e_ireturn .boolean dX0_isSort_13 rfl H.1 H.2
        · cases e9
      · rintro q9 h9 (⟨v9, e9, -⟩ | ⟨ci9, q8, e9, -, -, hx⟩)
        · cases e9
        · exact hx.elim
    · cases e9
  · rintro q9 h9 (⟨v9, e9, -⟩ | ⟨ci9, q8, e9, -, -, hx⟩)
    · cases e9
    · exact hx.elim
theorem en_X0_isSort {l : Launch} {lo : Nat} {G : eG} {d : Nat} {P : eO → eH → Prop} (a0 : Nat) (a1 : Int32) {h : eH} {k n : Nat} (H : h_X0_isSort_0 (l, lo, G, d, P) a0 a1 h k n) : Ct l lo G d mX0_isSort [.ref a0, .int a1] h k n P := 
  Ct_of (eArL mX0_isSort.2.2.2.1 [.ref a0, .int a1]) (by decide) rfl (Nat.le_of_ble_eq_true rfl) (fun j w q => eArL_mem j w q) (E.less2 H (eS_s (eS_s eS_0)))
/-! X0_within TroupeSums.within(II)I -/
def h_X0_within_0 (c : cC) (a0 : Nat) (a1 : Int32) (a2 : Int32) (h : eH) (k n : Nat) : Prop := E c.1 c.2.1 c.2.2.1 c.2.2.2.1 mX0_within c.2.2.2.2 0 [some (.ref a0), some (.int a1), some (.int a2)] [] h k n
set_option maxHeartbeats 4000000 in
theorem s_X0_within_0 (c : cC) (a0 : Nat) (a1 : Int32) (a2 : Int32) (h : eH) (k n : Nat) (H : ∃ fs8 : List Value, h.1 a0 = some (.inr (0, fs8)) ∧ ∃ (d4 k5 n6 : Nat) (Q7 : Int32 → eH → Prop), cI c.1 c.2.1 c.2.2.1 d4 mX0_isSort [.ref a0, .int a1] h k5 n6 Q7 cX0 ∧ d4 + 1 ≤ c.2.2.2.1 ∧ k5 ≤ k ∧ n6 ≤ n ∧ (∀ (r1 : Int32) (h2 : eH), Q7 r1 h2 → ((r1 = 0 → c.2.2.2.2 (.inl (some (.int (-1 : Int32)))) h2) ∧ (¬ r1 = 0 → ∃ fs8 : List Value, h2.1 a0 = some (.inr (0, fs8)) ∧ ∃ (d12 k13 n14 : Nat) (Q15 : Int32 → eH → Prop), cI c.1 c.2.1 c.2.2.1 d12 mX0_isSort [.ref a0, .int a2] h2 k13 n14 Q15 cX0 ∧ d12 + 1 ≤ c.2.2.2.1 ∧ k13 ≤ k - k5 ∧ n14 ≤ n - n6 ∧ (∀ (r9 : Int32) (h10 : eH), Q15 r9 h10 → ((r9 = 0 → c.2.2.2.2 (.inl (some (.int (-1 : Int32)))) h10) ∧ (¬ r9 = 0 → ∃ x17 : Nat, fV h10 a0 0 4 (.ref x17) ∧ (∃ x19 : Option Nat, fV h10 x17 1 2 (va_rf x19) ∧ (∃ o21 : Nat, x19 = some o21 ∧ ∃ fs8 : List Value, h10.1 o21 = some (.inr (3, fs8)) ∧ ∃ (d25 k26 n27 : Nat) (Q28 : Int32 → eH → Prop), cI c.1 c.2.1 c.2.2.1 d25 mX3_within [.ref o21, .int a1, .int a2] h10 k26 n27 Q28 cX0 ∧ d25 + 1 ≤ c.2.2.2.1 ∧ k26 ≤ k - k5 - k13 ∧ n27 ≤ n - n6 - n14 ∧ (∀ (r22 : Int32) (h23 : eH), Q28 r22 h23 → (c.2.2.2.2 (.inl (some (.int r22))) h23))))))))))) : h_X0_within_0 c a0 a1 a2 h k n := by
  refine e_aload_n dX0_within_0 rfl ?_
  refine e_iload_n dX0_within_1 rfl ?_
  obtain ⟨fsg3, g3o, H⟩ := H
  obtain ⟨d4, k5, n6, Q7, g3, g3d, g3k, g3n, H⟩ := H
  refine e_callV (r := (RX0, TX0, 8)) (As := [.int a1]) g3 dX0_within_2 wX0_isSort q2015 q2017 qs45 g3o rfl rfl g3d rfl (Nat.le_of_ble_eq_true rfl) (k1 := k - k5) (n1 := n - n6) (by omega) (by omega) ?_ ?_
  · rintro v h2 (⟨v9, e9, r1, e8, hq⟩ | ⟨ci9, q9, e9, -⟩)
    · cases e9
      subst e8
      replace H := H r1 h2 hq
      refine e_if_eq 31 dX0_within_5 (by decide) (fun g8 => ?_) (fun g8 => ?_)
      · replace H := H.1 g8
        refine e_iconst (-1) dX0_within_31 (by decide) ?_
        exact e_ireturn .int dX0_within_32 rfl rfl H
      · replace H := H.2 g8
        refine e_aload_n dX0_within_8 rfl ?_
        refine e_iload_n dX0_within_9 rfl ?_
        obtain ⟨fsg11, g11o, H⟩ := H
        obtain ⟨d12, k13, n14, Q15, g11, g11d, g11k, g11n, H⟩ := H
        refine e_callV (r := (RX0, TX0, 8)) (As := [.int a2]) g11 dX0_within_10 wX0_isSort q2015 q2017 qs45 g11o rfl rfl g11d rfl (Nat.le_of_ble_eq_true rfl) (k1 := k - k5 - k13) (n1 := n - n6 - n14) (by omega) (by omega) ?_ ?_
        · rintro v h10 (⟨v9, e9, r9, e8, hq⟩ | ⟨ci9, q9, e9, -⟩)
          · cases e9
            subst e8
            replace H := H r9 h10 hq
            refine e_if_eq 31 dX0_within_13 (by decide) (fun g16 => ?_) (fun g16 => ?_)
            · replace H := H.1 g16
              refine e_iconst (-1) dX0_within_31 (by decide) ?_
              exact e_ireturn .int dX0_within_32 rfl rfl H
            · replace H := H.2 g16
              refine e_aload_n dX0_within_16 rfl ?_
              obtain ⟨x17, ⟨fsx17, g18, g18v⟩, H⟩ := H
              refine e_get dX0_within_17 fX0_4 q1239 g18 g18v ?_
              obtain ⟨x19, ⟨fsx19, g20, g20v⟩, H⟩ := H
              refine e_getN dX0_within_20 fX1_2 q238 g20 g20v ?_
              refine e_iload_n dX0_within_23 rfl ?_
              refine e_iload_n dX0_within_24 rfl ?_
              obtain ⟨o21, eo21, H⟩ := H
              subst eo21
              obtain ⟨fsg24, g24o, H⟩ := H
              obtain ⟨d25, k26, n27, Q28, g24, g24d, g24k, g24n, H⟩ := H
              refine e_callV (r := (RX3, TX3, 8)) (As := [.int a1, .int a2]) g24 dX0_within_25 wX3_within q2029 q2030 q2031 g24o rfl rfl g24d rfl (Nat.le_of_ble_eq_true rfl) (k1 := k - k5 - k13 - k26) (n1 := n - n6 - n14 - n27) (by omega) (by omega) ?_ ?_
              · rintro v h23 (⟨v9, e9, r22, e8, hq⟩ | ⟨ci9, q9, e9, -⟩)
                · cases e9
                  subst e8
                  replace H := H r22 h23 hq
                  refine e_goto 32 dX0_within_28 (by decide) ?_
                  exact e_ireturn .int dX0_within_32 rfl rfl H
                · cases e9
              · rintro q9 h9 (⟨v9, e9, -⟩ | ⟨ci9, q8, e9, -, -, hx⟩)
                · cases e9
                · exact hx.elim
          · cases e9
        · rintro q9 h9 (⟨v9, e9, -⟩ | ⟨ci9, q8, e9, -, -, hx⟩)
          · cases e9
          · exact hx.elim
    · cases e9
  · rintro q9 h9 (⟨v9, e9, -⟩ | ⟨ci9, q8, e9, -, -, hx⟩)
    · cases e9
    · exact hx.elim
theorem en_X0_within {l : Launch} {lo : Nat} {G : eG} {d : Nat} {P : eO → eH → Prop} (a0 : Nat) (a1 : Int32) (a2 : Int32) {h : eH} {k n : Nat} (H : h_X0_within_0 (l, lo, G, d, P) a0 a1 a2 h k n) : Ct l lo G d mX0_within [.ref a0, .int a1, .int a2] h k n P := 
  Ct_of (eArL mX0_within.2.2.2.1 [.ref a0, .int a1, .int a2]) (by decide) rfl (Nat.le_of_ble_eq_true rfl) (fun j w q => eArL_mem j w q) (E.less2 H (eS_s (eS_s (eS_s eS_0))))
/-! X0_mark TroupeSums.mark(II)I -/
def h_X0_mark_0 (c : cC) (a0 : Nat) (a1 : Int32) (a2 : Int32) (h : eH) (k n : Nat) : Prop := E c.1 c.2.1 c.2.2.1 c.2.2.2.1 mX0_mark c.2.2.2.2 0 [some (.ref a0), some (.int a1), some (.int a2)] [] h k n
set_option maxHeartbeats 4000000 in
theorem s_X0_mark_0 (c : cC) (a0 : Nat) (a1 : Int32) (a2 : Int32) (h : eH) (k n : Nat) (H : ∃ fs8 : List Value, h.1 a0 = some (.inr (0, fs8)) ∧ ∃ (d4 k5 n6 : Nat) (Q7 : Int32 → eH → Prop), cI c.1 c.2.1 c.2.2.1 d4 mX0_isSort [.ref a0, .int a1] h k5 n6 Q7 cX0 ∧ d4 + 1 ≤ c.2.2.2.1 ∧ k5 ≤ k ∧ n6 ≤ n ∧ (∀ (r1 : Int32) (h2 : eH), Q7 r1 h2 → ((r1 = 0 → c.2.2.2.2 (.inl (some (.int (-1 : Int32)))) h2) ∧ (¬ r1 = 0 → ∃ fs8 : List Value, h2.1 a0 = some (.inr (0, fs8)) ∧ ∃ (d12 k13 n14 : Nat) (Q15 : Int32 → eH → Prop), cI c.1 c.2.1 c.2.2.1 d12 mX0_isSort [.ref a0, .int a2] h2 k13 n14 Q15 cX0 ∧ d12 + 1 ≤ c.2.2.2.1 ∧ k13 ≤ k - k5 ∧ n14 ≤ n - n6 ∧ (∀ (r9 : Int32) (h10 : eH), Q15 r9 h10 → ((r9 = 0 → c.2.2.2.2 (.inl (some (.int (-1 : Int32)))) h10) ∧ (¬ r9 = 0 → ∃ x17 : Nat, fV h10 a0 0 4 (.ref x17) ∧ (∃ x19 : Option Nat, fV h10 x17 1 2 (va_rf x19) ∧ (∃ o21 : Nat, x19 = some o21 ∧ ∃ x22 : Nat, fV h10 o21 3 7 (.ref x22) ∧ (∃ (N24 : Nat) (f25 : Nat → Option Nat), h10.1 x22 = some (.inl (c.2.2.1.2.1 4, N24, .inr (.inr (.inr (.inr f25))))) ∧ vp_in a1 N24 ∧ ∃ r27 : Nat, f25 a1.toNatClampNeg = some r27 ∧ (∃ (N28 : Nat) (f29 : Nat → Int32), h10.1 r27 = some (.inl (c.2.2.1.2.1 0, N28, .inl f29)) ∧ vp_in a2 N28 ∧ (c.2.2.2.2 (.inl (some (.int (f29 a2.toNatClampNeg)))) h10)))))))))))) : h_X0_mark_0 c a0 a1 a2 h k n := by
  refine e_aload_n dX0_mark_0 rfl ?_
  refine e_iload_n dX0_mark_1 rfl ?_
  obtain ⟨fsg3, g3o, H⟩ := H
  obtain ⟨d4, k5, n6, Q7, g3, g3d, g3k, g3n, H⟩ := H
  refine e_callV (r := (RX0, TX0, 8)) (As := [.int a1]) g3 dX0_mark_2 wX0_isSort q2015 q2017 qs45 g3o rfl rfl g3d rfl (Nat.le_of_ble_eq_true rfl) (k1 := k - k5) (n1 := n - n6) (by omega) (by omega) ?_ ?_
  · rintro v h2 (⟨v9, e9, r1, e8, hq⟩ | ⟨ci9, q9, e9, -⟩)
    · cases e9
      subst e8
      replace H := H r1 h2 hq
      refine e_if_eq 33 dX0_mark_5 (by decide) (fun g8 => ?_) (fun g8 => ?_)
      · replace H := H.1 g8
        refine e_iconst (-1) dX0_mark_33 (by decide) ?_
        exact e_ireturn .int dX0_mark_34 rfl rfl H
      · replace H := H.2 g8
        refine e_aload_n dX0_mark_8 rfl ?_
        refine e_iload_n dX0_mark_9 rfl ?_
        obtain ⟨fsg11, g11o, H⟩ := H
        obtain ⟨d12, k13, n14, Q15, g11, g11d, g11k, g11n, H⟩ := H
        refine e_callV (r := (RX0, TX0, 8)) (As := [.int a2]) g11 dX0_mark_10 wX0_isSort q2015 q2017 qs45 g11o rfl rfl g11d rfl (Nat.le_of_ble_eq_true rfl) (k1 := k - k5 - k13) (n1 := n - n6 - n14) (by omega) (by omega) ?_ ?_
        · rintro v h10 (⟨v9, e9, r9, e8, hq⟩ | ⟨ci9, q9, e9, -⟩)
          · cases e9
            subst e8
            replace H := H r9 h10 hq
            refine e_if_eq 33 dX0_mark_13 (by decide) (fun g16 => ?_) (fun g16 => ?_)
            · replace H := H.1 g16
              refine e_iconst (-1) dX0_mark_33 (by decide) ?_
              exact e_ireturn .int dX0_mark_34 rfl rfl H
            · replace H := H.2 g16
              refine e_aload_n dX0_mark_16 rfl ?_
              obtain ⟨x17, ⟨fsx17, g18, g18v⟩, H⟩ := H
              refine e_get dX0_mark_17 fX0_4 q1239 g18 g18v ?_
              obtain ⟨x19, ⟨fsx19, g20, g20v⟩, H⟩ := H
              refine e_getN dX0_mark_20 fX1_2 q238 g20 g20v ?_
              obtain ⟨o21, eo21, H⟩ := H
              subst eo21
              obtain ⟨x22, ⟨fsx22, g23, g23v⟩, H⟩ := H
              refine e_getN dX0_mark_23 fX3_7 q1199 g23 g23v ?_
              refine e_iload_n dX0_mark_26 rfl ?_
              obtain ⟨N24, f25, g26, g26i, r27, g26r, H⟩ := H
              refine e_aaload 4 dX0_mark_27 (fun _ => rfl) rfl g26 g26i ?_
              rw [g26r]
              refine e_iload_n dX0_mark_28 rfl ?_
              obtain ⟨N28, f29, g30, g30i, H⟩ := H
              refine e_iaload dX0_mark_29 g30 g30i ?_
              refine e_goto 34 dX0_mark_30 (by decide) ?_
              exact e_ireturn .int dX0_mark_34 rfl rfl H
          · cases e9
        · rintro q9 h9 (⟨v9, e9, -⟩ | ⟨ci9, q8, e9, -, -, hx⟩)
          · cases e9
          · exact hx.elim
    · cases e9
  · rintro q9 h9 (⟨v9, e9, -⟩ | ⟨ci9, q8, e9, -, -, hx⟩)
    · cases e9
    · exact hx.elim
theorem en_X0_mark {l : Launch} {lo : Nat} {G : eG} {d : Nat} {P : eO → eH → Prop} (a0 : Nat) (a1 : Int32) (a2 : Int32) {h : eH} {k n : Nat} (H : h_X0_mark_0 (l, lo, G, d, P) a0 a1 a2 h k n) : Ct l lo G d mX0_mark [.ref a0, .int a1, .int a2] h k n P := 
  Ct_of (eArL mX0_mark.2.2.2.1 [.ref a0, .int a1, .int a2]) (by decide) rfl (Nat.le_of_ble_eq_true rfl) (fun j w q => eArL_mem j w q) (E.less2 H (eS_s (eS_s (eS_s eS_0))))
/-! X0_product TroupeSums.product(III)I -/
def h_X0_product_0 (c : cC) (a0 : Nat) (a1 : Int32) (a2 : Int32) (a3 : Int32) (h : eH) (k n : Nat) : Prop := E c.1 c.2.1 c.2.2.1 c.2.2.2.1 mX0_product c.2.2.2.2 0 [some (.ref a0), some (.int a1), some (.int a2), some (.int a3), none] [] h k n
def h_X0_product_59 (c : cC) (b0 : Nat) (h : eH) (k n : Nat) : Prop := E c.1 c.2.1 c.2.2.1 c.2.2.2.1 mX0_product c.2.2.2.2 59 [none, none, none, none, none] [.ref b0] h k n
set_option maxHeartbeats 4000000 in
theorem s_X0_product_0 (c : cC) (a0 : Nat) (a1 : Int32) (a2 : Int32) (a3 : Int32) (h : eH) (k n : Nat) (H : ∃ fs8 : List Value, h.1 a0 = some (.inr (0, fs8)) ∧ ∃ (d4 k5 n6 : Nat) (Q7 : Int32 → eH → Prop), cI c.1 c.2.1 c.2.2.1 d4 mX0_isSort [.ref a0, .int a1] h k5 n6 Q7 cX0 ∧ d4 + 1 ≤ c.2.2.2.1 ∧ k5 ≤ k ∧ n6 ≤ n ∧ (∀ (r1 : Int32) (h2 : eH), Q7 r1 h2 → ((r1 = 0 → c.2.2.2.2 (.inl (some (.int (-1 : Int32)))) h2) ∧ (¬ r1 = 0 → ∃ fs8 : List Value, h2.1 a0 = some (.inr (0, fs8)) ∧ ∃ (d12 k13 n14 : Nat) (Q15 : Int32 → eH → Prop), cI c.1 c.2.1 c.2.2.1 d12 mX0_isSort [.ref a0, .int a2] h2 k13 n14 Q15 cX0 ∧ d12 + 1 ≤ c.2.2.2.1 ∧ k13 ≤ k - k5 ∧ n14 ≤ n - n6 ∧ (∀ (r9 : Int32) (h10 : eH), Q15 r9 h10 → ((r9 = 0 → c.2.2.2.2 (.inl (some (.int (-1 : Int32)))) h10) ∧ (¬ r9 = 0 → ∃ fs8 : List Value, h10.1 a0 = some (.inr (0, fs8)) ∧ ∃ (d20 k21 n22 : Nat) (Q23 : Int32 → eH → Prop), cI c.1 c.2.1 c.2.2.1 d20 mX0_isSort [.ref a0, .int a3] h10 k21 n22 Q23 cX0 ∧ d20 + 1 ≤ c.2.2.2.1 ∧ k21 ≤ k - k5 - k13 ∧ n22 ≤ n - n6 - n14 ∧ (∀ (r17 : Int32) (h18 : eH), Q23 r17 h18 → ((¬ r17 = 0 → ∃ x25 : Nat, fV h18 a0 0 4 (.ref x25) ∧ (∃ x27 : Option Nat, fV h18 x25 1 2 (va_rf x27) ∧ (∃ (d32 k33 n34 : Nat) (Q35 : Nat → eH → Prop) (X61 : Nat → Nat → eH → Prop), cR c.1 c.2.1 c.2.2.1 d32 mX9_of [va_rf x27, .int a1, .long (1 : Int64)] h18 k33 n34 Q35 X61 ∧ d32 + 1 ≤ c.2.2.2.1 ∧ k33 ≤ k - k5 - k13 - k21 ∧ n34 ≤ n - n6 - n14 - n22 ∧ (∀ (r29 : Nat) (h30 : eH), Q35 r29 h30 → (∃ (d39 k40 n41 : Nat) (Q42 : Nat → eH → Prop) (X58 : Nat → Nat → eH → Prop), cR c.1 c.2.1 c.2.2.1 d39 mX9_of [va_rf x27, .int a2, .long (1 : Int64)] h30 k40 n41 Q42 X58 ∧ d39 + 1 ≤ c.2.2.2.1 ∧ k40 ≤ k - k5 - k13 - k21 - k33 ∧ n41 ≤ n - n6 - n14 - n22 - n34 ∧ (∀ (r36 : Nat) (h37 : eH), Q42 r36 h37 → (∃ fs8 : List Value, h37.1 r29 = some (.inr (9, fs8)) ∧ ∃ (d46 k47 n48 : Nat) (Q49 : Nat → eH → Prop) (X55 : Nat → Nat → eH → Prop), cR c.1 c.2.1 c.2.2.1 d46 mX9_times [.ref r29, .ref r36] h37 k47 n48 Q49 X55 ∧ d46 + 1 ≤ c.2.2.2.1 ∧ k47 ≤ k - k5 - k13 - k21 - k33 - k40 ∧ n48 ≤ n - n6 - n14 - n22 - n34 - n41 ∧ (∀ (r43 : Nat) (h44 : eH), Q49 r43 h44 → (∃ x50 : Nat, fV h44 r43 9 1 (.ref x50) ∧ (∃ (N52 : Nat) (f53 : Nat → Int64), h44.1 x50 = some (.inl (c.2.2.1.2.1 1, N52, .inr (.inl f53))) ∧ vp_in a3 N52 ∧ (c.2.2.2.2 (.inl (some (.int ((f53 a3.toNatClampNeg).toInt32)))) h44)))) ∧ (∀ (ci q : Nat) (h9 : eH), X55 ci q h9 → ci = 10) ∧ (∀ (q56 : Nat) (h57 : eH) (fs9 : List Value), X55 10 q56 h57 → h57.1 q56 = some (.inr (10, fs9)) → c.2.1 ≤ q56 → h_X0_product_59 c q56 h57 (k - k5 - k13 - k21 - k33 - k40 - k47) (n - n6 - n14 - n22 - n34 - n41 - n48)))) ∧ (∀ (ci q : Nat) (h9 : eH), X58 ci q h9 → ci = 10) ∧ (∀ (q59 : Nat) (h60 : eH) (fs9 : List Value), X58 10 q59 h60 → h60.1 q59 = some (.inr (10, fs9)) → c.2.1 ≤ q59 → h_X0_product_59 c q59 h60 (k - k5 - k13 - k21 - k33 - k40) (n - n6 - n14 - n22 - n34 - n41)))) ∧ (∀ (ci q : Nat) (h9 : eH), X61 ci q h9 → ci = 10) ∧ (∀ (q62 : Nat) (h63 : eH) (fs9 : List Value), X61 10 q62 h63 → h63.1 q62 = some (.inr (10, fs9)) → c.2.1 ≤ q62 → h_X0_product_59 c q62 h63 (k - k5 - k13 - k21 - k33) (n - n6 - n14 - n22 - n34))))) ∧ (r17 = 0 → c.2.2.2.2 (.inl (some (.int (-1 : Int32)))) h18)))))))))) : h_X0_product_0 c a0 a1 a2 a3 h k n := by
  refine e_aload_n dX0_product_0 rfl ?_
  refine e_iload_n dX0_product_1 rfl ?_
  obtain ⟨fsg3, g3o, H⟩ := H
  obtain ⟨d4, k5, n6, Q7, g3, g3d, g3k, g3n, H⟩ := H
  refine e_callV (r := (RX0, TX0, 8)) (As := [.int a1]) g3 dX0_product_2 wX0_isSort q2015 q2017 qs45 g3o rfl rfl g3d rfl (Nat.le_of_ble_eq_true rfl) (k1 := k - k5) (n1 := n - n6) (by omega) (by omega) ?_ ?_
  · rintro v h2 (⟨v9, e9, r1, e8, hq⟩ | ⟨ci9, q9, e9, -⟩)
    · cases e9
      subst e8
      replace H := H r1 h2 hq
      refine e_if_eq 24 dX0_product_5 (by decide) (fun g8 => ?_) (fun g8 => ?_)
      · replace H := H.1 g8
        refine e_iconst (-1) dX0_product_24 (by decide) ?_
        exact e_ireturn .int dX0_product_25 rfl rfl H
      · replace H := H.2 g8
        refine e_aload_n dX0_product_8 rfl ?_
        refine e_iload_n dX0_product_9 rfl ?_
        obtain ⟨fsg11, g11o, H⟩ := H
        obtain ⟨d12, k13, n14, Q15, g11, g11d, g11k, g11n, H⟩ := H
        refine e_callV (r := (RX0, TX0, 8)) (As := [.int a2]) g11 dX0_product_10 wX0_isSort q2015 q2017 qs45 g11o rfl rfl g11d rfl (Nat.le_of_ble_eq_true rfl) (k1 := k - k5 - k13) (n1 := n - n6 - n14) (by omega) (by omega) ?_ ?_
        · rintro v h10 (⟨v9, e9, r9, e8, hq⟩ | ⟨ci9, q9, e9, -⟩)
          · cases e9
            subst e8
            replace H := H r9 h10 hq
            refine e_if_eq 24 dX0_product_13 (by decide) (fun g16 => ?_) (fun g16 => ?_)
            · replace H := H.1 g16
              refine e_iconst (-1) dX0_product_24 (by decide) ?_
              exact e_ireturn .int dX0_product_25 rfl rfl H
            · replace H := H.2 g16
              refine e_aload_n dX0_product_16 rfl ?_
              refine e_iload_n dX0_product_17 rfl ?_
              obtain ⟨fsg19, g19o, H⟩ := H
              obtain ⟨d20, k21, n22, Q23, g19, g19d, g19k, g19n, H⟩ := H
              refine e_callV (r := (RX0, TX0, 8)) (As := [.int a3]) g19 dX0_product_18 wX0_isSort q2015 q2017 qs45 g19o rfl rfl g19d rfl (Nat.le_of_ble_eq_true rfl) (k1 := k - k5 - k13 - k21) (n1 := n - n6 - n14 - n22) (by omega) (by omega) ?_ ?_
              · rintro v h18 (⟨v9, e9, r17, e8, hq⟩ | ⟨ci9, q9, e9, -⟩)
                · cases e9
                  subst e8
                  replace H := H r17 h18 hq
                  refine e_if_ne 26 dX0_product_21 (by decide) (fun g24 => ?_) (fun g24 => ?_)
                  · replace H := H.1 g24
                    refine e_aload_n dX0_product_26 rfl ?_
                    obtain ⟨x25, ⟨fsx25, g26, g26v⟩, H⟩ := H
                    refine e_get dX0_product_27 fX0_4 q1239 g26 g26v ?_
                    obtain ⟨x27, ⟨fsx27, g28, g28v⟩, H⟩ := H
                    refine e_getN dX0_product_30 fX1_2 q238 g28 g28v ?_
                    refine e_astoreR (r := x27) _ dX0_product_33 (by decide) rfl rfl ?_
                    refine e_aloadR (r := x27) dX0_product_35 rfl ?_
                    refine e_iload_n dX0_product_37 rfl ?_
                    refine e_lconst 1 dX0_product_38 (by decide) ?_
                    obtain ⟨d32, k33, n34, Q35, X61, g31, g31d, g31k, g31n, H, Hx, Hx10⟩ := H
                    refine e_callS (As := [va_rf x27, .int a1, .long (1 : Int64)]) g31 dX0_product_39 wX9_of q2042 q1775 rfl g31d rfl (Nat.le_of_ble_eq_true rfl) (k1 := k - k5 - k13 - k21 - k33) (n1 := n - n6 - n14 - n22 - n34) (by omega) (by omega) ?_ ?_
                    · rintro v h30 (⟨v9, e9, r29, e8, hq⟩ | ⟨ci9, q9, e9, -⟩)
                      · cases e9
                        subst e8
                        replace H := H r29 h30 hq
                        refine e_aloadR (r := x27) dX0_product_42 rfl ?_
                        refine e_iload_n dX0_product_44 rfl ?_
                        refine e_lconst 1 dX0_product_45 (by decide) ?_
                        obtain ⟨d39, k40, n41, Q42, X58, g38, g38d, g38k, g38n, H, Hx, Hx10⟩ := H
                        refine e_callS (As := [va_rf x27, .int a2, .long (1 : Int64)]) g38 dX0_product_46 wX9_of q2042 q1775 rfl g38d rfl (Nat.le_of_ble_eq_true rfl) (k1 := k - k5 - k13 - k21 - k33 - k40) (n1 := n - n6 - n14 - n22 - n34 - n41) (by omega) (by omega) ?_ ?_
                        · rintro v h37 (⟨v9, e9, r36, e8, hq⟩ | ⟨ci9, q9, e9, -⟩)
                          · cases e9
                            subst e8
                            replace H := H r36 h37 hq
                            obtain ⟨fsg45, g45o, H⟩ := H
                            obtain ⟨d46, k47, n48, Q49, X55, g45, g45d, g45k, g45n, H, Hx, Hx10⟩ := H
                            refine e_callV (r := (RX9, TX9, 2)) (As := [.ref r36]) g45 dX0_product_49 wX9_times q2043 q1853 q1854 g45o rfl rfl g45d rfl (Nat.le_of_ble_eq_true rfl) (k1 := k - k5 - k13 - k21 - k33 - k40 - k47) (n1 := n - n6 - n14 - n22 - n34 - n41 - n48) (by omega) (by omega) ?_ ?_
                            · rintro v h44 (⟨v9, e9, r43, e8, hq⟩ | ⟨ci9, q9, e9, -⟩)
                              · cases e9
                                subst e8
                                replace H := H r43 h44 hq
                                obtain ⟨x50, ⟨fsx50, g51, g51v⟩, H⟩ := H
                                refine e_getN dX0_product_52 fX9_1 q1818 g51 g51v ?_
                                refine e_iload_n dX0_product_55 rfl ?_
                                obtain ⟨N52, f53, g54, g54i, H⟩ := H
                                refine e_laload dX0_product_56 g54 g54i ?_
                                refine e_l2i dX0_product_57 ?_
                                exact e_ireturn .int dX0_product_58 rfl rfl H
                              · cases e9
                            · rintro q9 h9 (⟨v9, e9, -⟩ | ⟨ci9, q8, e9, gl, ⟨fs9, gq⟩, hx⟩)
                              · cases e9
                              · cases e9
                                rcases Hx ci9 q9 h9 hx with rfl
                                · have H := Hx10 q9 h9 fs9 hx gq gl
                                  refine ex_catch (r := (RX10, TX10, 6)) [] (26, 58, 59, 223) [] rfl (by decide) (by decide) (fun z hz => absurd hz List.not_mem_nil) q2041 q1795 gq rfl gl ?_
                                  exact E.less2 H (eS_n (eS_n (eS_n (eS_n (eS_n eS_0)))))
                          · cases e9
                        · rintro q9 h9 (⟨v9, e9, -⟩ | ⟨ci9, q8, e9, gl, ⟨fs9, gq⟩, hx⟩)
                          · cases e9
                          · cases e9
                            rcases Hx ci9 q9 h9 hx with rfl
                            · have H := Hx10 q9 h9 fs9 hx gq gl
                              refine ex_catch (r := (RX10, TX10, 6)) [] (26, 58, 59, 223) [] rfl (by decide) (by decide) (fun z hz => absurd hz List.not_mem_nil) q2041 q1795 gq rfl gl ?_
                              exact E.less2 H (eS_n (eS_n (eS_n (eS_n (eS_n eS_0)))))
                      · cases e9
                    · rintro q9 h9 (⟨v9, e9, -⟩ | ⟨ci9, q8, e9, gl, ⟨fs9, gq⟩, hx⟩)
                      · cases e9
                      · cases e9
                        rcases Hx ci9 q9 h9 hx with rfl
                        · have H := Hx10 q9 h9 fs9 hx gq gl
                          refine ex_catch (r := (RX10, TX10, 6)) [] (26, 58, 59, 223) [] rfl (by decide) (by decide) (fun z hz => absurd hz List.not_mem_nil) q2041 q1795 gq rfl gl ?_
                          exact E.less2 H (eS_n (eS_n (eS_n (eS_n (eS_n eS_0)))))
                  · replace H := H.2 g24
                    refine e_iconst (-1) dX0_product_24 (by decide) ?_
                    exact e_ireturn .int dX0_product_25 rfl rfl H
                · cases e9
              · rintro q9 h9 (⟨v9, e9, -⟩ | ⟨ci9, q8, e9, -, -, hx⟩)
                · cases e9
                · exact hx.elim
          · cases e9
        · rintro q9 h9 (⟨v9, e9, -⟩ | ⟨ci9, q8, e9, -, -, hx⟩)
          · cases e9
          · exact hx.elim
    · cases e9
  · rintro q9 h9 (⟨v9, e9, -⟩ | ⟨ci9, q8, e9, -, -, hx⟩)
    · cases e9
    · exact hx.elim
set_option maxHeartbeats 4000000 in
theorem s_X0_product_59 (c : cC) (b0 : Nat) (h : eH) (k n : Nat) (H : c.2.2.2.2 (.inl (some (.int (-1 : Int32)))) h) : h_X0_product_59 c b0 h k n := by
  refine e_astore _ dX0_product_59 (by decide) trivial rfl ?_
  refine e_iconst (-1) dX0_product_61 (by decide) ?_
  exact e_ireturn .int dX0_product_62 rfl rfl H
theorem en_X0_product {l : Launch} {lo : Nat} {G : eG} {d : Nat} {P : eO → eH → Prop} (a0 : Nat) (a1 : Int32) (a2 : Int32) (a3 : Int32) {h : eH} {k n : Nat} (H : h_X0_product_0 (l, lo, G, d, P) a0 a1 a2 a3 h k n) : Ct l lo G d mX0_product [.ref a0, .int a1, .int a2, .int a3] h k n P := 
  Ct_of (eArL mX0_product.2.2.2.1 [.ref a0, .int a1, .int a2, .int a3]) (by decide) rfl (Nat.le_of_ble_eq_true rfl) (fun j w q => eArL_mem j w q) (E.less2 H (eS_s (eS_s (eS_s (eS_s (eS_n eS_0))))))
/-! X0_residue TroupeSums.residue(II)I -/
def h_X0_residue_0 (c : cC) (a0 : Nat) (a1 : Int32) (a2 : Int32) (h : eH) (k n : Nat) : Prop := E c.1 c.2.1 c.2.2.1 c.2.2.2.1 mX0_residue c.2.2.2.2 0 [some (.ref a0), some (.int a1), some (.int a2)] [] h k n
set_option maxHeartbeats 4000000 in
theorem s_X0_residue_0 (c : cC) (a0 : Nat) (a1 : Int32) (a2 : Int32) (h : eH) (k n : Nat) (H : ∃ fs8 : List Value, h.1 a0 = some (.inr (0, fs8)) ∧ ∃ (d4 k5 n6 : Nat) (Q7 : Int32 → eH → Prop), cI c.1 c.2.1 c.2.2.1 d4 mX0_isSort [.ref a0, .int a1] h k5 n6 Q7 cX0 ∧ d4 + 1 ≤ c.2.2.2.1 ∧ k5 ≤ k ∧ n6 ≤ n ∧ (∀ (r1 : Int32) (h2 : eH), Q7 r1 h2 → ((r1 = 0 → c.2.2.2.2 (.inl (some (.int (-1 : Int32)))) h2) ∧ (¬ r1 = 0 → ∃ (d12 k13 n14 : Nat) (Q15 : Int32 → eH → Prop), cI c.1 c.2.1 c.2.2.1 d12 mX0_isPrime [.int a2] h2 k13 n14 Q15 cX0 ∧ d12 + 1 ≤ c.2.2.2.1 ∧ k13 ≤ k - k5 ∧ n14 ≤ n - n6 ∧ (∀ (r9 : Int32) (h10 : eH), Q15 r9 h10 → ((r9 = 0 → c.2.2.2.2 (.inl (some (.int (-1 : Int32)))) h10) ∧ (¬ r9 = 0 → ∃ x17 : Nat, fV h10 a0 0 4 (.ref x17) ∧ (∃ x19 : Option Nat, fV h10 x17 1 2 (va_rf x19) ∧ (∃ o21 : Nat, x19 = some o21 ∧ ∃ fs8 : List Value, h10.1 o21 = some (.inr (3, fs8)) ∧ ∃ (d25 k26 n27 : Nat) (Q28 : Int32 → eH → Prop), cI c.1 c.2.1 c.2.2.1 d25 mX3_residue [.ref o21, .int a1, .int a2] h10 k26 n27 Q28 cX0 ∧ d25 + 1 ≤ c.2.2.2.1 ∧ k26 ≤ k - k5 - k13 ∧ n27 ≤ n - n6 - n14 ∧ (∀ (r22 : Int32) (h23 : eH), Q28 r22 h23 → (c.2.2.2.2 (.inl (some (.int r22))) h23))))))))))) : h_X0_residue_0 c a0 a1 a2 h k n := by
  refine e_aload_n dX0_residue_0 rfl ?_
  refine e_iload_n dX0_residue_1 rfl ?_
  obtain ⟨fsg3, g3o, H⟩ := H
  obtain ⟨d4, k5, n6, Q7, g3, g3d, g3k, g3n, H⟩ := H
  refine e_callV (r := (RX0, TX0, 8)) (As := [.int a1]) g3 dX0_residue_2 wX0_isSort q2015 q2017 qs45 g3o rfl rfl g3d rfl (Nat.le_of_ble_eq_true rfl) (k1 := k - k5) (n1 := n - n6) (by omega) (by omega) ?_ ?_
  · rintro v h2 (⟨v9, e9, r1, e8, hq⟩ | ⟨ci9, q9, e9, -⟩)
    · cases e9
      subst e8
      replace H := H r1 h2 hq
      refine e_if_eq 30 dX0_residue_5 (by decide) (fun g8 => ?_) (fun g8 => ?_)
      · replace H := H.1 g8
        refine e_iconst (-1) dX0_residue_30 (by decide) ?_
        exact e_ireturn .int dX0_residue_31 rfl rfl H
      · replace H := H.2 g8
        refine e_iload_n dX0_residue_8 rfl ?_
        obtain ⟨d12, k13, n14, Q15, g11, g11d, g11k, g11n, H⟩ := H
        refine e_callS (As := [.int a2]) g11 dX0_residue_9 wX0_isPrime q2048 q2049 rfl g11d rfl (Nat.le_of_ble_eq_true rfl) (k1 := k - k5 - k13) (n1 := n - n6 - n14) (by omega) (by omega) ?_ ?_
        · rintro v h10 (⟨v9, e9, r9, e8, hq⟩ | ⟨ci9, q9, e9, -⟩)
          · cases e9
            subst e8
            replace H := H r9 h10 hq
            refine e_if_eq 30 dX0_residue_12 (by decide) (fun g16 => ?_) (fun g16 => ?_)
            · replace H := H.1 g16
              refine e_iconst (-1) dX0_residue_30 (by decide) ?_
              exact e_ireturn .int dX0_residue_31 rfl rfl H
            · replace H := H.2 g16
              refine e_aload_n dX0_residue_15 rfl ?_
              obtain ⟨x17, ⟨fsx17, g18, g18v⟩, H⟩ := H
              refine e_get dX0_residue_16 fX0_4 q1239 g18 g18v ?_
              obtain ⟨x19, ⟨fsx19, g20, g20v⟩, H⟩ := H
              refine e_getN dX0_residue_19 fX1_2 q238 g20 g20v ?_
              refine e_iload_n dX0_residue_22 rfl ?_
              refine e_iload_n dX0_residue_23 rfl ?_
              obtain ⟨o21, eo21, H⟩ := H
              subst eo21
              obtain ⟨fsg24, g24o, H⟩ := H
              obtain ⟨d25, k26, n27, Q28, g24, g24d, g24k, g24n, H⟩ := H
              refine e_callV (r := (RX3, TX3, 8)) (As := [.int a1, .int a2]) g24 dX0_residue_24 wX3_residue q2051 q2052 q2053 g24o rfl rfl g24d rfl (Nat.le_of_ble_eq_true rfl) (k1 := k - k5 - k13 - k26) (n1 := n - n6 - n14 - n27) (by omega) (by omega) ?_ ?_
              · rintro v h23 (⟨v9, e9, r22, e8, hq⟩ | ⟨ci9, q9, e9, -⟩)
                · cases e9
                  subst e8
                  replace H := H r22 h23 hq
                  refine e_goto 31 dX0_residue_27 (by decide) ?_
                  exact e_ireturn .int dX0_residue_31 rfl rfl H
                · cases e9
              · rintro q9 h9 (⟨v9, e9, -⟩ | ⟨ci9, q8, e9, -, -, hx⟩)
                · cases e9
                · exact hx.elim
          · cases e9
        · rintro q9 h9 (⟨v9, e9, -⟩ | ⟨ci9, q8, e9, -, -, hx⟩)
          · cases e9
          · exact hx.elim
    · cases e9
  · rintro q9 h9 (⟨v9, e9, -⟩ | ⟨ci9, q8, e9, -, -, hx⟩)
    · cases e9
    · exact hx.elim
theorem en_X0_residue {l : Launch} {lo : Nat} {G : eG} {d : Nat} {P : eO → eH → Prop} (a0 : Nat) (a1 : Int32) (a2 : Int32) {h : eH} {k n : Nat} (H : h_X0_residue_0 (l, lo, G, d, P) a0 a1 a2 h k n) : Ct l lo G d mX0_residue [.ref a0, .int a1, .int a2] h k n P := 
  Ct_of (eArL mX0_residue.2.2.2.1 [.ref a0, .int a1, .int a2]) (by decide) rfl (Nat.le_of_ble_eq_true rfl) (fun j w q => eArL_mem j w q) (E.less2 H (eS_s (eS_s (eS_s eS_0))))
/-! X0_isPrime TroupeSums.isPrime(I)Z -/
def h_X0_isPrime_0 (c : cC) (a0 : Int32) (h : eH) (k n : Nat) : Prop := E c.1 c.2.1 c.2.2.1 c.2.2.2.1 mX0_isPrime c.2.2.2.2 0 [some (.int a0)] [] h k n
def h_X0_isPrime_15 (c : cC) (h : eH) (k n : Nat) : Prop := E c.1 c.2.1 c.2.2.1 c.2.2.2.1 mX0_isPrime c.2.2.2.2 15 [none] [] h k n
set_option maxHeartbeats 4000000 in
theorem s_X0_isPrime_0 (c : cC) (a0 : Int32) (h : eH) (k n : Nat) (H : (a0 = (2 : Int32) → h_X0_isPrime_15 c h k n) ∧ (¬ a0 = (2 : Int32) → (a0 = (3 : Int32) → h_X0_isPrime_15 c h k n) ∧ (¬ a0 = (3 : Int32) → (¬ a0 = (5 : Int32) → c.2.2.2.2 (.inl (some (.int (0 : Int32)))) h) ∧ (a0 = (5 : Int32) → h_X0_isPrime_15 c h k n)))) : h_X0_isPrime_0 c a0 h k n := by
  refine e_iload_n dX0_isPrime_0 rfl ?_
  refine e_iconst (2) dX0_isPrime_1 (by decide) ?_
  refine e_icmp_eq 15 dX0_isPrime_2 (by decide) (fun g1 => ?_) (fun g1 => ?_)
  · replace H := H.1 g1
    exact E.less2 H (eS_n eS_0)
  · replace H := H.2 g1
    refine e_iload_n dX0_isPrime_5 rfl ?_
    refine e_iconst (3) dX0_isPrime_6 (by decide) ?_
    refine e_icmp_eq 15 dX0_isPrime_7 (by decide) (fun g2 => ?_) (fun g2 => ?_)
    · replace H := H.1 g2
      exact E.less2 H (eS_n eS_0)
    · replace H := H.2 g2
      refine e_iload_n dX0_isPrime_10 rfl ?_
      refine e_iconst (5) dX0_isPrime_11 (by decide) ?_
      refine e_icmp_ne 19 dX0_isPrime_12 (by decide) (fun g3 => ?_) (fun g3 => ?_)
      · replace H := H.1 g3
        refine e_iconst (0) dX0_isPrime_19 (by decide) ?_
        exact e_ireturn .boolean dX0_isPrime_20 rfl (by decide) H
      · replace H := H.2 g3
        exact E.less2 H (eS_n eS_0)
set_option maxHeartbeats 4000000 in
theorem s_X0_isPrime_15 (c : cC) (h : eH) (k n : Nat) (H : c.2.2.2.2 (.inl (some (.int (1 : Int32)))) h) : h_X0_isPrime_15 c h k n := by
  refine e_iconst (1) dX0_isPrime_15 (by decide) ?_
  refine e_goto 20 dX0_isPrime_16 (by decide) ?_
  exact e_ireturn .boolean dX0_isPrime_20 rfl (by decide) H
theorem en_X0_isPrime {l : Launch} {lo : Nat} {G : eG} {d : Nat} {P : eO → eH → Prop} (a0 : Int32) {h : eH} {k n : Nat} (H : h_X0_isPrime_0 (l, lo, G, d, P) a0 h k n) : Ct l lo G d mX0_isPrime [.int a0] h k n P := 
  Ct_of (eArL mX0_isPrime.2.2.2.1 [.int a0]) (by decide) rfl (Nat.le_of_ble_eq_true rfl) (fun j w q => eArL_mem j w q) (E.less2 H (eS_s eS_0))
/-! X0_block TroupeSums.block(II)I -/
def h_X0_block_0 (c : cC) (a0 : Nat) (a1 : Int32) (a2 : Int32) (h : eH) (k n : Nat) : Prop := E c.1 c.2.1 c.2.2.1 c.2.2.2.1 mX0_block c.2.2.2.2 0 [some (.ref a0), some (.int a1), some (.int a2)] [] h k n
set_option maxHeartbeats 4000000 in
theorem s_X0_block_0 (c : cC) (a0 : Nat) (a1 : Int32) (a2 : Int32) (h : eH) (k n : Nat) (H : ∃ fs8 : List Value, h.1 a0 = some (.inr (0, fs8)) ∧ ∃ (d4 k5 n6 : Nat) (Q7 : Int32 → eH → Prop), cI c.1 c.2.1 c.2.2.1 d4 mX0_isSort [.ref a0, .int a1] h k5 n6 Q7 cX0 ∧ d4 + 1 ≤ c.2.2.2.1 ∧ k5 ≤ k ∧ n6 ≤ n ∧ (∀ (r1 : Int32) (h2 : eH), Q7 r1 h2 → ((r1 = 0 → c.2.2.2.2 (.inl (some (.int (-1 : Int32)))) h2) ∧ (¬ r1 = 0 → ∃ (d12 k13 n14 : Nat) (Q15 : Int32 → eH → Prop), cI c.1 c.2.1 c.2.2.1 d12 mX0_isPrime [.int a2] h2 k13 n14 Q15 cX0 ∧ d12 + 1 ≤ c.2.2.2.1 ∧ k13 ≤ k - k5 ∧ n14 ≤ n - n6 ∧ (∀ (r9 : Int32) (h10 : eH), Q15 r9 h10 → ((r9 = 0 → c.2.2.2.2 (.inl (some (.int (-1 : Int32)))) h10) ∧ (¬ r9 = 0 → ∃ x17 : Nat, fV h10 a0 0 4 (.ref x17) ∧ (∃ x19 : Option Nat, fV h10 x17 1 2 (va_rf x19) ∧ (∃ o21 : Nat, x19 = some o21 ∧ ∃ fs8 : List Value, h10.1 o21 = some (.inr (3, fs8)) ∧ ∃ (d25 k26 n27 : Nat) (Q28 : Int32 → eH → Prop), cI c.1 c.2.1 c.2.2.1 d25 mX3_block [.ref o21, .int a1, .int a2] h10 k26 n27 Q28 cX0 ∧ d25 + 1 ≤ c.2.2.2.1 ∧ k26 ≤ k - k5 - k13 ∧ n27 ≤ n - n6 - n14 ∧ (∀ (r22 : Int32) (h23 : eH), Q28 r22 h23 → (c.2.2.2.2 (.inl (some (.int r22))) h23))))))))))) : h_X0_block_0 c a0 a1 a2 h k n := by
  refine e_aload_n dX0_block_0 rfl ?_
  refine e_iload_n dX0_block_1 rfl ?_
  obtain ⟨fsg3, g3o, H⟩ := H
  obtain ⟨d4, k5, n6, Q7, g3, g3d, g3k, g3n, H⟩ := H
  refine e_callV (r := (RX0, TX0, 8)) (As := [.int a1]) g3 dX0_block_2 wX0_isSort q2015 q2017 qs45 g3o rfl rfl g3d rfl (Nat.le_of_ble_eq_true rfl) (k1 := k - k5) (n1 := n - n6) (by omega) (by omega) ?_ ?_
  · rintro v h2 (⟨v9, e9, r1, e8, hq⟩ | ⟨ci9, q9, e9, -⟩)
    · cases e9
      subst e8
      replace H := H r1 h2 hq
      refine e_if_eq 30 dX0_block_5 (by decide) (fun g8 => ?_) (fun g8 => ?_)
      · replace H := H.1 g8
        refine e_iconst (-1) dX0_block_30 (by decide) ?_
        exact e_ireturn .int dX0_block_31 rfl rfl H
      · replace H := H.2 g8
        refine e_iload_n dX0_block_8 rfl ?_
        obtain ⟨d12, k13, n14, Q15, g11, g11d, g11k, g11n, H⟩ := H
        refine e_callS (As := [.int a2]) g11 dX0_block_9 wX0_isPrime q2048 q2049 rfl g11d rfl (Nat.le_of_ble_eq_true rfl) (k1 := k - k5 - k13) (n1 := n - n6 - n14) (by omega) (by omega) ?_ ?_
        · rintro v h10 (⟨v9, e9, r9, e8, hq⟩ | ⟨ci9, q9, e9, -⟩)
          · cases e9
            subst e8
            replace H := H r9 h10 hq
            refine e_if_eq 30 dX0_block_12 (by decide) (fun g16 => ?_) (fun g16 => ?_)
            · replace H := H.1 g16
              refine e_iconst (-1) dX0_block_30 (by decide) ?_
              exact e_ireturn .int dX0_block_31 rfl rfl H
            · replace H := H.2 g16
              refine e_aload_n dX0_block_15 rfl ?_
              obtain ⟨x17, ⟨fsx17, g18, g18v⟩, H⟩ := H
              refine e_get dX0_block_16 fX0_4 q1239 g18 g18v ?_
              obtain ⟨x19, ⟨fsx19, g20, g20v⟩, H⟩ := H
              refine e_getN dX0_block_19 fX1_2 q238 g20 g20v ?_
              refine e_iload_n dX0_block_22 rfl ?_
              refine e_iload_n dX0_block_23 rfl ?_
              obtain ⟨o21, eo21, H⟩ := H
              subst eo21
              obtain ⟨fsg24, g24o, H⟩ := H
              obtain ⟨d25, k26, n27, Q28, g24, g24d, g24k, g24n, H⟩ := H
              refine e_callV (r := (RX3, TX3, 8)) (As := [.int a1, .int a2]) g24 dX0_block_24 wX3_block q2060 q2061 q2062 g24o rfl rfl g24d rfl (Nat.le_of_ble_eq_true rfl) (k1 := k - k5 - k13 - k26) (n1 := n - n6 - n14 - n27) (by omega) (by omega) ?_ ?_
              · rintro v h23 (⟨v9, e9, r22, e8, hq⟩ | ⟨ci9, q9, e9, -⟩)
                · cases e9
                  subst e8
                  replace H := H r22 h23 hq
                  refine e_goto 31 dX0_block_27 (by decide) ?_
                  exact e_ireturn .int dX0_block_31 rfl rfl H
                · cases e9
              · rintro q9 h9 (⟨v9, e9, -⟩ | ⟨ci9, q8, e9, -, -, hx⟩)
                · cases e9
                · exact hx.elim
          · cases e9
        · rintro q9 h9 (⟨v9, e9, -⟩ | ⟨ci9, q8, e9, -, -, hx⟩)
          · cases e9
          · exact hx.elim
    · cases e9
  · rintro q9 h9 (⟨v9, e9, -⟩ | ⟨ci9, q8, e9, -, -, hx⟩)
    · cases e9
    · exact hx.elim
theorem en_X0_block {l : Launch} {lo : Nat} {G : eG} {d : Nat} {P : eO → eH → Prop} (a0 : Nat) (a1 : Int32) (a2 : Int32) {h : eH} {k n : Nat} (H : h_X0_block_0 (l, lo, G, d, P) a0 a1 a2 h k n) : Ct l lo G d mX0_block [.ref a0, .int a1, .int a2] h k n P := 
  Ct_of (eArL mX0_block.2.2.2.1 [.ref a0, .int a1, .int a2]) (by decide) rfl (Nat.le_of_ble_eq_true rfl) (fun j w q => eArL_mem j w q) (E.less2 H (eS_s (eS_s (eS_s eS_0))))
/-! X0_keeper TroupeSums.keeper(I)I -/
def h_X0_keeper_0 (c : cC) (a0 : Nat) (a1 : Int32) (h : eH) (k n : Nat) : Prop := E c.1 c.2.1 c.2.2.1 c.2.2.2.1 mX0_keeper c.2.2.2.2 0 [some (.ref a0), some (.int a1)] [] h k n
set_option maxHeartbeats 4000000 in
theorem s_X0_keeper_0 (c : cC) (a0 : Nat) (a1 : Int32) (h : eH) (k n : Nat) (H : ∃ fs8 : List Value, h.1 a0 = some (.inr (0, fs8)) ∧ ∃ (d4 k5 n6 : Nat) (Q7 : Int32 → eH → Prop), cI c.1 c.2.1 c.2.2.1 d4 mX0_isPlace [.ref a0, .int a1] h k5 n6 Q7 cX0 ∧ d4 + 1 ≤ c.2.2.2.1 ∧ k5 ≤ k ∧ n6 ≤ n ∧ (∀ (r1 : Int32) (h2 : eH), Q7 r1 h2 → ((r1 = 0 → c.2.2.2.2 (.inl (some (.int (-1 : Int32)))) h2) ∧ (¬ r1 = 0 → ∃ x9 : Nat, fV h2 a0 0 4 (.ref x9) ∧ (∃ x11 : Option Nat, fV h2 x9 1 2 (va_rf x11) ∧ (∃ o13 : Nat, x11 = some o13 ∧ ∃ fs8 : List Value, h2.1 o13 = some (.inr (3, fs8)) ∧ ∃ (d17 k18 n19 : Nat) (Q20 : Int32 → eH → Prop), cI c.1 c.2.1 c.2.2.1 d17 mX3_keeper [.ref o13, .int a1] h2 k18 n19 Q20 cX0 ∧ d17 + 1 ≤ c.2.2.2.1 ∧ k18 ≤ k - k5 ∧ n19 ≤ n - n6 ∧ (∀ (r14 : Int32) (h15 : eH), Q20 r14 h15 → (c.2.2.2.2 (.inl (some (.int r14))) h15)))))))) : h_X0_keeper_0 c a0 a1 h k n := by
  refine e_aload_n dX0_keeper_0 rfl ?_
  refine e_iload_n dX0_keeper_1 rfl ?_
  obtain ⟨fsg3, g3o, H⟩ := H
  obtain ⟨d4, k5, n6, Q7, g3, g3d, g3k, g3n, H⟩ := H
  refine e_callV (r := (RX0, TX0, 8)) (As := [.int a1]) g3 dX0_keeper_2 wX0_isPlace q2069 q2071 qs46 g3o rfl rfl g3d rfl (Nat.le_of_ble_eq_true rfl) (k1 := k - k5) (n1 := n - n6) (by omega) (by omega) ?_ ?_
  · rintro v h2 (⟨v9, e9, r1, e8, hq⟩ | ⟨ci9, q9, e9, -⟩)
    · cases e9
      subst e8
      replace H := H r1 h2 hq
      refine e_if_eq 22 dX0_keeper_5 (by decide) (fun g8 => ?_) (fun g8 => ?_)
      · replace H := H.1 g8
        refine e_iconst (-1) dX0_keeper_22 (by decide) ?_
        exact e_ireturn .int dX0_keeper_23 rfl rfl H
      · replace H := H.2 g8
        refine e_aload_n dX0_keeper_8 rfl ?_
        obtain ⟨x9, ⟨fsx9, g10, g10v⟩, H⟩ := H
        refine e_get dX0_keeper_9 fX0_4 q1239 g10 g10v ?_
        obtain ⟨x11, ⟨fsx11, g12, g12v⟩, H⟩ := H
        refine e_getN dX0_keeper_12 fX1_2 q238 g12 g12v ?_
        refine e_iload_n dX0_keeper_15 rfl ?_
        obtain ⟨o13, eo13, H⟩ := H
        subst eo13
        obtain ⟨fsg16, g16o, H⟩ := H
        obtain ⟨d17, k18, n19, Q20, g16, g16d, g16k, g16n, H⟩ := H
        refine e_callV (r := (RX3, TX3, 8)) (As := [.int a1]) g16 dX0_keeper_16 wX3_keeper q2073 q2074 q2075 g16o rfl rfl g16d rfl (Nat.le_of_ble_eq_true rfl) (k1 := k - k5 - k18) (n1 := n - n6 - n19) (by omega) (by omega) ?_ ?_
        · rintro v h15 (⟨v9, e9, r14, e8, hq⟩ | ⟨ci9, q9, e9, -⟩)
          · cases e9
            subst e8
            replace H := H r14 h15 hq
            refine e_goto 23 dX0_keeper_19 (by decide) ?_
            exact e_ireturn .int dX0_keeper_23 rfl rfl H
          · cases e9
        · rintro q9 h9 (⟨v9, e9, -⟩ | ⟨ci9, q8, e9, -, -, hx⟩)
          · cases e9
          · exact hx.elim
    · cases e9
  · rintro q9 h9 (⟨v9, e9, -⟩ | ⟨ci9, q8, e9, -, -, hx⟩)
    · cases e9
    · exact hx.elim
theorem en_X0_keeper {l : Launch} {lo : Nat} {G : eG} {d : Nat} {P : eO → eH → Prop} (a0 : Nat) (a1 : Int32) {h : eH} {k n : Nat} (H : h_X0_keeper_0 (l, lo, G, d, P) a0 a1 h k n) : Ct l lo G d mX0_keeper [.ref a0, .int a1] h k n P := 
  Ct_of (eArL mX0_keeper.2.2.2.1 [.ref a0, .int a1]) (by decide) rfl (Nat.le_of_ble_eq_true rfl) (fun j w q => eArL_mem j w q) (E.less2 H (eS_s (eS_s eS_0)))
/-! X0_isPlace TroupeSums.isPlace(I)Z -/
def h_X0_isPlace_0 (c : cC) (a0 : Nat) (a1 : Int32) (h : eH) (k n : Nat) : Prop := E c.1 c.2.1 c.2.2.1 c.2.2.2.1 mX0_isPlace c.2.2.2.2 0 [some (.ref a0), some (.int a1)] [] h k n
set_option maxHeartbeats 4000000 in
theorem s_X0_isPlace_0 (c : cC) (a0 : Nat) (a1 : Int32) (h : eH) (k n : Nat) (H : ∃ x1 : Nat, fV h a0 0 4 (.ref x1) ∧ (∃ x3 : Int32, fV h x1 1 0 (.int x3) ∧ (∃ (d8 k9 n10 : Nat) (Q11 : Int32 → eH → Prop), cI c.1 c.2.1 c.2.2.1 d8 mX0_isIn [.long a1.toInt64, .long (0 : Int64), .long ((x3 - (1 : Int32)).toInt64)] h k9 n10 Q11 cX0 ∧ d8 + 1 ≤ c.2.2.2.1 ∧ k9 ≤ k ∧ n10 ≤ n ∧ (∀ (r5 : Int32) (h6 : eH), Q11 r5 h6 → (narrow .boolean (.int r5) = .int r5 ∧ c.2.2.2.2 (.inl (some (.int r5))) h6))))) : h_X0_isPlace_0 c a0 a1 h k n := by
  refine e_iload_n dX0_isPlace_0 rfl ?_
  refine e_i2l dX0_isPlace_1 ?_
  refine e_lconst 0 dX0_isPlace_2 (by decide) ?_
  refine e_aload_n dX0_isPlace_3 rfl ?_
  obtain ⟨x1, ⟨fsx1, g2, g2v⟩, H⟩ := H
  refine e_get dX0_isPlace_4 fX0_4 q1239 g2 g2v ?_
  obtain ⟨x3, ⟨fsx3, g4, g4v⟩, H⟩ := H
  refine e_getN dX0_isPlace_7 fX1_0 q235 g4 g4v ?_
  refine e_iconst (1) dX0_isPlace_10 (by decide) ?_
  refine e_isub dX0_isPlace_11 ?_
  refine e_i2l dX0_isPlace_12 ?_
  obtain ⟨d8, k9, n10, Q11, g7, g7d, g7k, g7n, H⟩ := H
  refine e_callS (As := [.long a1.toInt64, .long (0 : Int64), .long ((x3 - (1 : Int32)).toInt64)]) g7 dX0_isPlace_13 wX0_isIn q1948 q1791 rfl g7d rfl (Nat.le_of_ble_eq_true rfl) (k1 := k - k9) (n1 := n - n10) (by omega) (by omega) ?_ ?_
  · rintro v h6 (⟨v9, e9, r5, e8, hq⟩ | ⟨ci9, q9, e9, -⟩)
    · cases e9
      subst e8
      replace H := H r5 h6 hq
      exact e_ireturn .boolean dX0_isPlace_16 rfl H.1 H.2
    · cases e9
  · rintro q9 h9 (⟨v9, e9, -⟩ | ⟨ci9, q8, e9, -, -, hx⟩)
    · cases e9
    · exact hx.elim
theorem en_X0_isPlace {l : Launch} {lo : Nat} {G : eG} {d : Nat} {P : eO → eH → Prop} (a0 : Nat) (a1 : Int32) {h : eH} {k n : Nat} (H : h_X0_isPlace_0 (l, lo, G, d, P) a0 a1 h k n) : Ct l lo G d mX0_isPlace [.ref a0, .int a1] h k n P := 
  Ct_of (eArL mX0_isPlace.2.2.2.1 [.ref a0, .int a1]) (by decide) rfl (Nat.le_of_ble_eq_true rfl) (fun j w q => eArL_mem j w q) (E.less2 H (eS_s (eS_s eS_0)))
/-! X0_orbit TroupeSums.orbit(I)I -/
def h_X0_orbit_0 (c : cC) (a0 : Nat) (a1 : Int32) (h : eH) (k n : Nat) : Prop := E c.1 c.2.1 c.2.2.1 c.2.2.2.1 mX0_orbit c.2.2.2.2 0 [some (.ref a0), some (.int a1)] [] h k n
set_option maxHeartbeats 4000000 in
theorem s_X0_orbit_0 (c : cC) (a0 : Nat) (a1 : Int32) (h : eH) (k n : Nat) (H : ∃ fs8 : List Value, h.1 a0 = some (.inr (0, fs8)) ∧ ∃ (d4 k5 n6 : Nat) (Q7 : Int32 → eH → Prop), cI c.1 c.2.1 c.2.2.1 d4 mX0_isPlace [.ref a0, .int a1] h k5 n6 Q7 cX0 ∧ d4 + 1 ≤ c.2.2.2.1 ∧ k5 ≤ k ∧ n6 ≤ n ∧ (∀ (r1 : Int32) (h2 : eH), Q7 r1 h2 → ((r1 = 0 → c.2.2.2.2 (.inl (some (.int (-1 : Int32)))) h2) ∧ (¬ r1 = 0 → ∃ x9 : Nat, fV h2 a0 0 4 (.ref x9) ∧ (∃ x11 : Option Nat, fV h2 x9 1 2 (va_rf x11) ∧ (∃ o13 : Nat, x11 = some o13 ∧ ∃ fs8 : List Value, h2.1 o13 = some (.inr (3, fs8)) ∧ ∃ (d17 k18 n19 : Nat) (Q20 : Int32 → eH → Prop), cI c.1 c.2.1 c.2.2.1 d17 mX3_orbit [.ref o13, .int a1] h2 k18 n19 Q20 cX0 ∧ d17 + 1 ≤ c.2.2.2.1 ∧ k18 ≤ k - k5 ∧ n19 ≤ n - n6 ∧ (∀ (r14 : Int32) (h15 : eH), Q20 r14 h15 → (c.2.2.2.2 (.inl (some (.int r14))) h15)))))))) : h_X0_orbit_0 c a0 a1 h k n := by
  refine e_aload_n dX0_orbit_0 rfl ?_
  refine e_iload_n dX0_orbit_1 rfl ?_
  obtain ⟨fsg3, g3o, H⟩ := H
  obtain ⟨d4, k5, n6, Q7, g3, g3d, g3k, g3n, H⟩ := H
  refine e_callV (r := (RX0, TX0, 8)) (As := [.int a1]) g3 dX0_orbit_2 wX0_isPlace q2069 q2071 qs46 g3o rfl rfl g3d rfl (Nat.le_of_ble_eq_true rfl) (k1 := k - k5) (n1 := n - n6) (by omega) (by omega) ?_ ?_
  · rintro v h2 (⟨v9, e9, r1, e8, hq⟩ | ⟨ci9, q9, e9, -⟩)
    · cases e9
      subst e8
      replace H := H r1 h2 hq
      refine e_if_eq 22 dX0_orbit_5 (by decide) (fun g8 => ?_) (fun g8 => ?_)
      · replace H := H.1 g8
        refine e_iconst (-1) dX0_orbit_22 (by decide) ?_
        exact e_ireturn .int dX0_orbit_23 rfl rfl H
      · replace H := H.2 g8
        refine e_aload_n dX0_orbit_8 rfl ?_
        obtain ⟨x9, ⟨fsx9, g10, g10v⟩, H⟩ := H
        refine e_get dX0_orbit_9 fX0_4 q1239 g10 g10v ?_
        obtain ⟨x11, ⟨fsx11, g12, g12v⟩, H⟩ := H
        refine e_getN dX0_orbit_12 fX1_2 q238 g12 g12v ?_
        refine e_iload_n dX0_orbit_15 rfl ?_
        obtain ⟨o13, eo13, H⟩ := H
        subst eo13
        obtain ⟨fsg16, g16o, H⟩ := H
        obtain ⟨d17, k18, n19, Q20, g16, g16d, g16k, g16n, H⟩ := H
        refine e_callV (r := (RX3, TX3, 8)) (As := [.int a1]) g16 dX0_orbit_16 wX3_orbit q2081 q2082 q2083 g16o rfl rfl g16d rfl (Nat.le_of_ble_eq_true rfl) (k1 := k - k5 - k18) (n1 := n - n6 - n19) (by omega) (by omega) ?_ ?_
        · rintro v h15 (⟨v9, e9, r14, e8, hq⟩ | ⟨ci9, q9, e9, -⟩)
          · cases e9
            subst e8
            replace H := H r14 h15 hq
            refine e_goto 23 dX0_orbit_19 (by decide) ?_
            exact e_ireturn .int dX0_orbit_23 rfl rfl H
          · cases e9
        · rintro q9 h9 (⟨v9, e9, -⟩ | ⟨ci9, q8, e9, -, -, hx⟩)
          · cases e9
          · exact hx.elim
    · cases e9
  · rintro q9 h9 (⟨v9, e9, -⟩ | ⟨ci9, q8, e9, -, -, hx⟩)
    · cases e9
    · exact hx.elim
theorem en_X0_orbit {l : Launch} {lo : Nat} {G : eG} {d : Nat} {P : eO → eH → Prop} (a0 : Nat) (a1 : Int32) {h : eH} {k n : Nat} (H : h_X0_orbit_0 (l, lo, G, d, P) a0 a1 h k n) : Ct l lo G d mX0_orbit [.ref a0, .int a1] h k n P := 
  Ct_of (eArL mX0_orbit.2.2.2.1 [.ref a0, .int a1]) (by decide) rfl (Nat.le_of_ble_eq_true rfl) (fun j w q => eArL_mem j w q) (E.less2 H (eS_s (eS_s eS_0)))
/-! X0_coset TroupeSums.coset(II)I -/
def h_X0_coset_0 (c : cC) (a0 : Nat) (a1 : Int32) (a2 : Int32) (h : eH) (k n : Nat) : Prop := E c.1 c.2.1 c.2.2.1 c.2.2.2.1 mX0_coset c.2.2.2.2 0 [some (.ref a0), some (.int a1), some (.int a2)] [] h k n
set_option maxHeartbeats 4000000 in
theorem s_X0_coset_0 (c : cC) (a0 : Nat) (a1 : Int32) (a2 : Int32) (h : eH) (k n : Nat) (H : ∃ fs8 : List Value, h.1 a0 = some (.inr (0, fs8)) ∧ ∃ (d4 k5 n6 : Nat) (Q7 : Int32 → eH → Prop), cI c.1 c.2.1 c.2.2.1 d4 mX0_isSort [.ref a0, .int a1] h k5 n6 Q7 cX0 ∧ d4 + 1 ≤ c.2.2.2.1 ∧ k5 ≤ k ∧ n6 ≤ n ∧ (∀ (r1 : Int32) (h2 : eH), Q7 r1 h2 → ((r1 = 0 → c.2.2.2.2 (.inl (some (.int (-1 : Int32)))) h2) ∧ (¬ r1 = 0 → ∃ fs8 : List Value, h2.1 a0 = some (.inr (0, fs8)) ∧ ∃ (d12 k13 n14 : Nat) (Q15 : Int32 → eH → Prop), cI c.1 c.2.1 c.2.2.1 d12 mX0_isMember [.ref a0, .int a2] h2 k13 n14 Q15 cX0 ∧ d12 + 1 ≤ c.2.2.2.1 ∧ k13 ≤ k - k5 ∧ n14 ≤ n - n6 ∧ (∀ (r9 : Int32) (h10 : eH), Q15 r9 h10 → ((r9 = 0 → c.2.2.2.2 (.inl (some (.int (-1 : Int32)))) h10) ∧ (¬ r9 = 0 → ∃ x17 : Nat, fV h10 a0 0 4 (.ref x17) ∧ (∃ x19 : Option Nat, fV h10 x17 1 2 (va_rf x19) ∧ (∃ o21 : Nat, x19 = some o21 ∧ ∃ fs8 : List Value, h10.1 o21 = some (.inr (3, fs8)) ∧ ∃ (d25 k26 n27 : Nat) (Q28 : Int32 → eH → Prop), cI c.1 c.2.1 c.2.2.1 d25 mX3_coset [.ref o21, .int a1, .int a2] h10 k26 n27 Q28 cX0 ∧ d25 + 1 ≤ c.2.2.2.1 ∧ k26 ≤ k - k5 - k13 ∧ n27 ≤ n - n6 - n14 ∧ (∀ (r22 : Int32) (h23 : eH), Q28 r22 h23 → (c.2.2.2.2 (.inl (some (.int r22))) h23))))))))))) : h_X0_coset_0 c a0 a1 a2 h k n := by
  refine e_aload_n dX0_coset_0 rfl ?_
  refine e_iload_n dX0_coset_1 rfl ?_
  obtain ⟨fsg3, g3o, H⟩ := H
  obtain ⟨d4, k5, n6, Q7, g3, g3d, g3k, g3n, H⟩ := H
  refine e_callV (r := (RX0, TX0, 8)) (As := [.int a1]) g3 dX0_coset_2 wX0_isSort q2015 q2017 qs45 g3o rfl rfl g3d rfl (Nat.le_of_ble_eq_true rfl) (k1 := k - k5) (n1 := n - n6) (by omega) (by omega) ?_ ?_
  · rintro v h2 (⟨v9, e9, r1, e8, hq⟩ | ⟨ci9, q9, e9, -⟩)
    · cases e9
      subst e8
      replace H := H r1 h2 hq
      refine e_if_eq 31 dX0_coset_5 (by decide) (fun g8 => ?_) (fun g8 => ?_)
      · replace H := H.1 g8
        refine e_iconst (-1) dX0_coset_31 (by decide) ?_
        exact e_ireturn .int dX0_coset_32 rfl rfl H
      · replace H := H.2 g8
        refine e_aload_n dX0_coset_8 rfl ?_
        refine e_iload_n dX0_coset_9 rfl ?_
        obtain ⟨fsg11, g11o, H⟩ := H
        obtain ⟨d12, k13, n14, Q15, g11, g11d, g11k, g11n, H⟩ := H
        refine e_callV (r := (RX0, TX0, 8)) (As := [.int a2]) g11 dX0_coset_10 wX0_isMember q1944 q1946 qs43 g11o rfl rfl g11d rfl (Nat.le_of_ble_eq_true rfl) (k1 := k - k5 - k13) (n1 := n - n6 - n14) (by omega) (by omega) ?_ ?_
        · rintro v h10 (⟨v9, e9, r9, e8, hq⟩ | ⟨ci9, q9, e9, -⟩)
          · cases e9
            subst e8
            replace H := H r9 h10 hq
            refine e_if_eq 31 dX0_coset_13 (by decide) (fun g16 => ?_) (fun g16 => ?_)
            · replace H := H.1 g16
              refine e_iconst (-1) dX0_coset_31 (by decide) ?_
              exact e_ireturn .int dX0_coset_32 rfl rfl H
            · replace H := H.2 g16
              refine e_aload_n dX0_coset_16 rfl ?_
              obtain ⟨x17, ⟨fsx17, g18, g18v⟩, H⟩ := H
              refine e_get dX0_coset_17 fX0_4 q1239 g18 g18v ?_
              obtain ⟨x19, ⟨fsx19, g20, g20v⟩, H⟩ := H
              refine e_getN dX0_coset_20 fX1_2 q238 g20 g20v ?_
              refine e_iload_n dX0_coset_23 rfl ?_
              refine e_iload_n dX0_coset_24 rfl ?_
              obtain ⟨o21, eo21, H⟩ := H
              subst eo21
              obtain ⟨fsg24, g24o, H⟩ := H
              obtain ⟨d25, k26, n27, Q28, g24, g24d, g24k, g24n, H⟩ := H
              refine e_callV (r := (RX3, TX3, 8)) (As := [.int a1, .int a2]) g24 dX0_coset_25 wX3_coset q2089 q2090 q2091 g24o rfl rfl g24d rfl (Nat.le_of_ble_eq_true rfl) (k1 := k - k5 - k13 - k26) (n1 := n - n6 - n14 - n27) (by omega) (by omega) ?_ ?_
              · rintro v h23 (⟨v9, e9, r22, e8, hq⟩ | ⟨ci9, q9, e9, -⟩)
                · cases e9
                  subst e8
                  replace H := H r22 h23 hq
                  refine e_goto 32 dX0_coset_28 (by decide) ?_
                  exact e_ireturn .int dX0_coset_32 rfl rfl H
                · cases e9
              · rintro q9 h9 (⟨v9, e9, -⟩ | ⟨ci9, q8, e9, -, -, hx⟩)
                · cases e9
                · exact hx.elim
          · cases e9
        · rintro q9 h9 (⟨v9, e9, -⟩ | ⟨ci9, q8, e9, -, -, hx⟩)
          · cases e9
          · exact hx.elim
    · cases e9
  · rintro q9 h9 (⟨v9, e9, -⟩ | ⟨ci9, q8, e9, -, -, hx⟩)
    · cases e9
    · exact hx.elim
theorem en_X0_coset {l : Launch} {lo : Nat} {G : eG} {d : Nat} {P : eO → eH → Prop} (a0 : Nat) (a1 : Int32) (a2 : Int32) {h : eH} {k n : Nat} (H : h_X0_coset_0 (l, lo, G, d, P) a0 a1 a2 h k n) : Ct l lo G d mX0_coset [.ref a0, .int a1, .int a2] h k n P := 
  Ct_of (eArL mX0_coset.2.2.2.1 [.ref a0, .int a1, .int a2]) (by decide) rfl (Nat.le_of_ble_eq_true rfl) (fun j w q => eArL_mem j w q) (E.less2 H (eS_s (eS_s (eS_s eS_0))))
/-! X0_takes TroupeSums.takes(III)I -/
def h_X0_takes_0 (c : cC) (a0 : Nat) (a1 : Int32) (a2 : Int32) (a3 : Int32) (h : eH) (k n : Nat) : Prop := E c.1 c.2.1 c.2.2.1 c.2.2.2.1 mX0_takes c.2.2.2.2 0 [some (.ref a0), some (.int a1), some (.int a2), some (.int a3)] [] h k n
set_option maxHeartbeats 4000000 in
theorem s_X0_takes_0 (c : cC) (a0 : Nat) (a1 : Int32) (a2 : Int32) (a3 : Int32) (h : eH) (k n : Nat) (H : ∃ fs8 : List Value, h.1 a0 = some (.inr (0, fs8)) ∧ ∃ (d4 k5 n6 : Nat) (Q7 : Int32 → eH → Prop), cI c.1 c.2.1 c.2.2.1 d4 mX0_isSort [.ref a0, .int a1] h k5 n6 Q7 cX0 ∧ d4 + 1 ≤ c.2.2.2.1 ∧ k5 ≤ k ∧ n6 ≤ n ∧ (∀ (r1 : Int32) (h2 : eH), Q7 r1 h2 → ((r1 = 0 → c.2.2.2.2 (.inl (some (.int (-1 : Int32)))) h2) ∧ (¬ r1 = 0 → ∃ fs8 : List Value, h2.1 a0 = some (.inr (0, fs8)) ∧ ∃ (d12 k13 n14 : Nat) (Q15 : Int32 → eH → Prop), cI c.1 c.2.1 c.2.2.1 d12 mX0_isMember [.ref a0, .int a2] h2 k13 n14 Q15 cX0 ∧ d12 + 1 ≤ c.2.2.2.1 ∧ k13 ≤ k - k5 ∧ n14 ≤ n - n6 ∧ (∀ (r9 : Int32) (h10 : eH), Q15 r9 h10 → ((r9 = 0 → c.2.2.2.2 (.inl (some (.int (-1 : Int32)))) h10) ∧ (¬ r9 = 0 → ∃ fs8 : List Value, h10.1 a0 = some (.inr (0, fs8)) ∧ ∃ (d20 k21 n22 : Nat) (Q23 : Int32 → eH → Prop), cI c.1 c.2.1 c.2.2.1 d20 mX0_isMember [.ref a0, .int a3] h10 k21 n22 Q23 cX0 ∧ d20 + 1 ≤ c.2.2.2.1 ∧ k21 ≤ k - k5 - k13 ∧ n22 ≤ n - n6 - n14 ∧ (∀ (r17 : Int32) (h18 : eH), Q23 r17 h18 → ((¬ r17 = 0 → ∃ x25 : Nat, fV h18 a0 0 4 (.ref x25) ∧ (∃ x27 : Option Nat, fV h18 x25 1 2 (va_rf x27) ∧ (∃ x29 : Nat, fV h18 a0 0 4 (.ref x29) ∧ (∃ x31 : Option Nat, fV h18 x29 1 2 (va_rf x31) ∧ (∃ o33 : Nat, x31 = some o33 ∧ ∃ x34 : Nat, fV h18 o33 3 2 (.ref x34) ∧ (∃ (N36 : Nat) (f37 : Nat → Option Nat), h18.1 x34 = some (.inl (c.2.2.1.2.1 4, N36, .inr (.inr (.inr (.inr f37))))) ∧ vp_in a2 N36 ∧ ∃ r39 : Nat, f37 a2.toNatClampNeg = some r39 ∧ (∃ (N40 : Nat) (f41 : Nat → Int32), h18.1 r39 = some (.inl (c.2.2.1.2.1 0, N40, .inl f41)) ∧ vp_in a3 N40 ∧ (∃ o43 : Nat, x27 = some o43 ∧ ∃ fs8 : List Value, h18.1 o43 = some (.inr (3, fs8)) ∧ ∃ (d47 k48 n49 : Nat) (Q50 : Int32 → eH → Prop), cI c.1 c.2.1 c.2.2.1 d47 mX3_coset [.ref o43, .int a1, .int (f41 a3.toNatClampNeg)] h18 k48 n49 Q50 cX0 ∧ d47 + 1 ≤ c.2.2.2.1 ∧ k48 ≤ k - k5 - k13 - k21 ∧ n49 ≤ n - n6 - n14 - n22 ∧ (∀ (r44 : Int32) (h45 : eH), Q50 r44 h45 → (c.2.2.2.2 (.inl (some (.int r44))) h45)))))))))) ∧ (r17 = 0 → c.2.2.2.2 (.inl (some (.int (-1 : Int32)))) h18)))))))))) : h_X0_takes_0 c a0 a1 a2 a3 h k n := by
  refine e_aload_n dX0_takes_0 rfl ?_
  refine e_iload_n dX0_takes_1 rfl ?_
  obtain ⟨fsg3, g3o, H⟩ := H
  obtain ⟨d4, k5, n6, Q7, g3, g3d, g3k, g3n, H⟩ := H
  refine e_callV (r := (RX0, TX0, 8)) (As := [.int a1]) g3 dX0_takes_2 wX0_isSort q2015 q2017 qs45 g3o rfl rfl g3d rfl (Nat.le_of_ble_eq_true rfl) (k1 := k - k5) (n1 := n - n6) (by omega) (by omega) ?_ ?_
  · rintro v h2 (⟨v9, e9, r1, e8, hq⟩ | ⟨ci9, q9, e9, -⟩)
    · cases e9
      subst e8
      replace H := H r1 h2 hq
      refine e_if_eq 24 dX0_takes_5 (by decide) (fun g8 => ?_) (fun g8 => ?_)
      · replace H := H.1 g8
        refine e_iconst (-1) dX0_takes_24 (by decide) ?_
        exact e_ireturn .int dX0_takes_25 rfl rfl H
      · replace H := H.2 g8
        refine e_aload_n dX0_takes_8 rfl ?_
        refine e_iload_n dX0_takes_9 rfl ?_
        obtain ⟨fsg11, g11o, H⟩ := H
        obtain ⟨d12, k13, n14, Q15, g11, g11d, g11k, g11n, H⟩ := H
        refine e_callV (r := (RX0, TX0, 8)) (As := [.int a2]) g11 dX0_takes_10 wX0_isMember q1944 q1946 qs43 g11o rfl rfl g11d rfl (Nat.le_of_ble_eq_true rfl) (k1 := k - k5 - k13) (n1 := n - n6 - n14) (by omega) (by omega) ?_ ?_
        · rintro v h10 (⟨v9, e9, r9, e8, hq⟩ | ⟨ci9, q9, e9, -⟩)
          · cases e9
            subst e8
            replace H := H r9 h10 hq
            refine e_if_eq 24 dX0_takes_13 (by decide) (fun g16 => ?_) (fun g16 => ?_)
            · replace H := H.1 g16
              refine e_iconst (-1) dX0_takes_24 (by decide) ?_
              exact e_ireturn .int dX0_takes_25 rfl rfl H
            · replace H := H.2 g16
              refine e_aload_n dX0_takes_16 rfl ?_
              refine e_iload_n dX0_takes_17 rfl ?_
              obtain ⟨fsg19, g19o, H⟩ := H
              obtain ⟨d20, k21, n22, Q23, g19, g19d, g19k, g19n, H⟩ := H
              refine e_callV (r := (RX0, TX0, 8)) (As := [.int a3]) g19 dX0_takes_18 wX0_isMember q1944 q1946 qs43 g19o rfl rfl g19d rfl (Nat.le_of_ble_eq_true rfl) (k1 := k - k5 - k13 - k21) (n1 := n - n6 - n14 - n22) (by omega) (by omega) ?_ ?_
              · rintro v h18 (⟨v9, e9, r17, e8, hq⟩ | ⟨ci9, q9, e9, -⟩)
                · cases e9
                  subst e8
                  replace H := H r17 h18 hq
                  refine e_if_ne 26 dX0_takes_21 (by decide) (fun g24 => ?_) (fun g24 => ?_)
                  · replace H := H.1 g24
                    refine e_aload_n dX0_takes_26 rfl ?_
                    obtain ⟨x25, ⟨fsx25, g26, g26v⟩, H⟩ := H
                    refine e_get dX0_takes_27 fX0_4 q1239 g26 g26v ?_
                    obtain ⟨x27, ⟨fsx27, g28, g28v⟩, H⟩ := H
                    refine e_getN dX0_takes_30 fX1_2 q238 g28 g28v ?_
                    refine e_iload_n dX0_takes_33 rfl ?_
                    refine e_aload_n dX0_takes_34 rfl ?_
                    obtain ⟨x29, ⟨fsx29, g30, g30v⟩, H⟩ := H
                    refine e_get dX0_takes_35 fX0_4 q1239 g30 g30v ?_
                    obtain ⟨x31, ⟨fsx31, g32, g32v⟩, H⟩ := H
                    refine e_getN dX0_takes_38 fX1_2 q238 g32 g32v ?_
                    obtain ⟨o33, eo33, H⟩ := H
                    subst eo33
                    obtain ⟨x34, ⟨fsx34, g35, g35v⟩, H⟩ := H
                    refine e_getN dX0_takes_41 fX3_2 q1187 g35 g35v ?_
                    refine e_iload_n dX0_takes_44 rfl ?_
                    obtain ⟨N36, f37, g38, g38i, r39, g38r, H⟩ := H
                    refine e_aaload 4 dX0_takes_45 (fun _ => rfl) rfl g38 g38i ?_
                    rw [g38r]
                    refine e_iload_n dX0_takes_46 rfl ?_
                    obtain ⟨N40, f41, g42, g42i, H⟩ := H
                    refine e_iaload dX0_takes_47 g42 g42i ?_
                    obtain ⟨o43, eo43, H⟩ := H
                    subst eo43
                    obtain ⟨fsg46, g46o, H⟩ := H
                    obtain ⟨d47, k48, n49, Q50, g46, g46d, g46k, g46n, H⟩ := H
                    refine e_callV (r := (RX3, TX3, 8)) (As := [.int a1, .int (f41 a3.toNatClampNeg)]) g46 dX0_takes_48 wX3_coset q2089 q2090 q2091 g46o rfl rfl g46d rfl (Nat.le_of_ble_eq_true rfl) (k1 := k - k5 - k13 - k21 - k48) (n1 := n - n6 - n14 - n22 - n49) (by omega) (by omega) ?_ ?_
                    · rintro v h45 (⟨v9, e9, r44, e8, hq⟩ | ⟨ci9, q9, e9, -⟩)
                      · cases e9
                        subst e8
                        replace H := H r44 h45 hq
                        exact e_ireturn .int dX0_takes_51 rfl rfl H
                      · cases e9
                    · rintro q9 h9 (⟨v9, e9, -⟩ | ⟨ci9, q8, e9, -, -, hx⟩)
                      · cases e9
                      · exact hx.elim
                  · replace H := H.2 g24
                    refine e_iconst (-1) dX0_takes_24 (by decide) ?_
                    exact e_ireturn .int dX0_takes_25 rfl rfl H
                · cases e9
              · rintro q9 h9 (⟨v9, e9, -⟩ | ⟨ci9, q8, e9, -, -, hx⟩)
                · cases e9
                · exact hx.elim
          · cases e9
        · rintro q9 h9 (⟨v9, e9, -⟩ | ⟨ci9, q8, e9, -, -, hx⟩)
          · cases e9
          · exact hx.elim
    · cases e9
  · rintro q9 h9 (⟨v9, e9, -⟩ | ⟨ci9, q8, e9, -, -, hx⟩)
    · cases e9
    · exact hx.elim
theorem en_X0_takes {l : Launch} {lo : Nat} {G : eG} {d : Nat} {P : eO → eH → Prop} (a0 : Nat) (a1 : Int32) (a2 : Int32) (a3 : Int32) {h : eH} {k n : Nat} (H : h_X0_takes_0 (l, lo, G, d, P) a0 a1 a2 a3 h k n) : Ct l lo G d mX0_takes [.ref a0, .int a1, .int a2, .int a3] h k n P := 
  Ct_of (eArL mX0_takes.2.2.2.1 [.ref a0, .int a1, .int a2, .int a3]) (by decide) rfl (Nat.le_of_ble_eq_true rfl) (fun j w q => eArL_mem j w q) (E.less2 H (eS_s (eS_s (eS_s (eS_s eS_0)))))
/-! X0_moebius TroupeSums.moebius(I)I -/
def h_X0_moebius_0 (c : cC) (a0 : Nat) (a1 : Int32) (h : eH) (k n : Nat) : Prop := E c.1 c.2.1 c.2.2.1 c.2.2.2.1 mX0_moebius c.2.2.2.2 0 [some (.ref a0), some (.int a1)] [] h k n
set_option maxHeartbeats 4000000 in
theorem s_X0_moebius_0 (c : cC) (a0 : Nat) (a1 : Int32) (h : eH) (k n : Nat) (H : ∃ fs8 : List Value, h.1 a0 = some (.inr (0, fs8)) ∧ ∃ (d4 k5 n6 : Nat) (Q7 : Int32 → eH → Prop), cI c.1 c.2.1 c.2.2.1 d4 mX0_isSort [.ref a0, .int a1] h k5 n6 Q7 cX0 ∧ d4 + 1 ≤ c.2.2.2.1 ∧ k5 ≤ k ∧ n6 ≤ n ∧ (∀ (r1 : Int32) (h2 : eH), Q7 r1 h2 → ((r1 = 0 → c.2.2.2.2 (.inl (some (.int (-1000000 : Int32)))) h2) ∧ (¬ r1 = 0 → ∃ x9 : Nat, fV h2 a0 0 4 (.ref x9) ∧ (∃ x11 : Option Nat, fV h2 x9 1 2 (va_rf x11) ∧ (∃ o13 : Nat, x11 = some o13 ∧ ∃ fs8 : List Value, h2.1 o13 = some (.inr (3, fs8)) ∧ ∃ (d17 k18 n19 : Nat) (Q20 : Int32 → eH → Prop), cI c.1 c.2.1 c.2.2.1 d17 mX3_moebius [.ref o13, .int a1] h2 k18 n19 Q20 cX0 ∧ d17 + 1 ≤ c.2.2.2.1 ∧ k18 ≤ k - k5 ∧ n19 ≤ n - n6 ∧ (∀ (r14 : Int32) (h15 : eH), Q20 r14 h15 → (c.2.2.2.2 (.inl (some (.int r14))) h15)))))))) : h_X0_moebius_0 c a0 a1 h k n := by
  refine e_aload_n dX0_moebius_0 rfl ?_
  refine e_iload_n dX0_moebius_1 rfl ?_
  obtain ⟨fsg3, g3o, H⟩ := H
  obtain ⟨d4, k5, n6, Q7, g3, g3d, g3k, g3n, H⟩ := H
  refine e_callV (r := (RX0, TX0, 8)) (As := [.int a1]) g3 dX0_moebius_2 wX0_isSort q2015 q2017 qs45 g3o rfl rfl g3d rfl (Nat.le_of_ble_eq_true rfl) (k1 := k - k5) (n1 := n - n6) (by omega) (by omega) ?_ ?_
  · rintro v h2 (⟨v9, e9, r1, e8, hq⟩ | ⟨ci9, q9, e9, -⟩)
    · cases e9
      subst e8
      replace H := H r1 h2 hq
      refine e_if_eq 22 dX0_moebius_5 (by decide) (fun g8 => ?_) (fun g8 => ?_)
      · replace H := H.1 g8
        refine e_ldc dX0_moebius_22 q2105 ?_
        exact e_ireturn .int dX0_moebius_24 rfl rfl H
      · replace H := H.2 g8
        refine e_aload_n dX0_moebius_8 rfl ?_
        obtain ⟨x9, ⟨fsx9, g10, g10v⟩, H⟩ := H
        refine e_get dX0_moebius_9 fX0_4 q1239 g10 g10v ?_
        obtain ⟨x11, ⟨fsx11, g12, g12v⟩, H⟩ := H
        refine e_getN dX0_moebius_12 fX1_2 q238 g12 g12v ?_
        refine e_iload_n dX0_moebius_15 rfl ?_
        obtain ⟨o13, eo13, H⟩ := H
        subst eo13
        obtain ⟨fsg16, g16o, H⟩ := H
        obtain ⟨d17, k18, n19, Q20, g16, g16d, g16k, g16n, H⟩ := H
        refine e_callV (r := (RX3, TX3, 8)) (As := [.int a1]) g16 dX0_moebius_16 wX3_moebius q2101 q2102 q2103 g16o rfl rfl g16d rfl (Nat.le_of_ble_eq_true rfl) (k1 := k - k5 - k18) (n1 := n - n6 - n19) (by omega) (by omega) ?_ ?_
        · rintro v h15 (⟨v9, e9, r14, e8, hq⟩ | ⟨ci9, q9, e9, -⟩)
          · cases e9
            subst e8
            replace H := H r14 h15 hq
            refine e_goto 24 dX0_moebius_19 (by decide) ?_
            exact e_ireturn .int dX0_moebius_24 rfl rfl H
          · cases e9
        · rintro q9 h9 (⟨v9, e9, -⟩ | ⟨ci9, q8, e9, -, -, hx⟩)
          · cases e9
          · exact hx.elim
    · cases e9
  · rintro q9 h9 (⟨v9, e9, -⟩ | ⟨ci9, q8, e9, -, -, hx⟩)
    · cases e9
    · exact hx.elim
theorem en_X0_moebius {l : Launch} {lo : Nat} {G : eG} {d : Nat} {P : eO → eH → Prop} (a0 : Nat) (a1 : Int32) {h : eH} {k n : Nat} (H : h_X0_moebius_0 (l, lo, G, d, P) a0 a1 h k n) : Ct l lo G d mX0_moebius [.ref a0, .int a1] h k n P := 
  Ct_of (eArL mX0_moebius.2.2.2.1 [.ref a0, .int a1]) (by decide) rfl (Nat.le_of_ble_eq_true rfl) (fun j w q => eArL_mem j w q) (E.less2 H (eS_s (eS_s eS_0)))
/-! X0_mixed TroupeSums.mixed(I)I -/
def h_X0_mixed_0 (c : cC) (a0 : Nat) (a1 : Int32) (h : eH) (k n : Nat) : Prop := E c.1 c.2.1 c.2.2.1 c.2.2.2.1 mX0_mixed c.2.2.2.2 0 [some (.ref a0), some (.int a1)] [] h k n
set_option maxHeartbeats 4000000 in
theorem s_X0_mixed_0 (c : cC) (a0 : Nat) (a1 : Int32) (h : eH) (k n : Nat) (H : ∃ fs8 : List Value, h.1 a0 = some (.inr (0, fs8)) ∧ ∃ (d4 k5 n6 : Nat) (Q7 : Int32 → eH → Prop), cI c.1 c.2.1 c.2.2.1 d4 mX0_isSort [.ref a0, .int a1] h k5 n6 Q7 cX0 ∧ d4 + 1 ≤ c.2.2.2.1 ∧ k5 ≤ k ∧ n6 ≤ n ∧ (∀ (r1 : Int32) (h2 : eH), Q7 r1 h2 → ((r1 = 0 → c.2.2.2.2 (.inl (some (.int (-1 : Int32)))) h2) ∧ (¬ r1 = 0 → ∃ x9 : Nat, fV h2 a0 0 4 (.ref x9) ∧ (∃ x11 : Option Nat, fV h2 x9 1 2 (va_rf x11) ∧ (∃ x13 : Nat, fV h2 a0 0 4 (.ref x13) ∧ (∃ x15 : Option Nat, fV h2 x13 1 2 (va_rf x15) ∧ (∃ fs8 : List Value, h2.1 a0 = some (.inr (0, fs8)) ∧ ∃ (d20 k21 n22 : Nat) (Q23 : Int32 → eH → Prop), cI c.1 c.2.1 c.2.2.1 d20 mX0_firstOf [.ref a0, .int a1] h2 k21 n22 Q23 cX0 ∧ d20 + 1 ≤ c.2.2.2.1 ∧ k21 ≤ k - k5 ∧ n22 ≤ n - n6 ∧ (∀ (r17 : Int32) (h18 : eH), Q23 r17 h18 → (∃ o24 : Nat, x15 = some o24 ∧ ∃ fs8 : List Value, h18.1 o24 = some (.inr (3, fs8)) ∧ ∃ (d28 k29 n30 : Nat) (Q31 : Int32 → eH → Prop), cI c.1 c.2.1 c.2.2.1 d28 mX3_mixed [.ref o24, .int r17] h18 k29 n30 Q31 cX0 ∧ d28 + 1 ≤ c.2.2.2.1 ∧ k29 ≤ k - k5 - k21 ∧ n30 ≤ n - n6 - n22 ∧ (∀ (r25 : Int32) (h26 : eH), Q31 r25 h26 → (∃ o32 : Nat, x11 = some o32 ∧ ∃ fs8 : List Value, h26.1 o32 = some (.inr (3, fs8)) ∧ ∃ (d36 k37 n38 : Nat) (Q39 : Int32 → eH → Prop), cI c.1 c.2.1 c.2.2.1 d36 mX3_sortOf [.ref o32, .int r25] h26 k37 n38 Q39 cX0 ∧ d36 + 1 ≤ c.2.2.2.1 ∧ k37 ≤ k - k5 - k21 - k29 ∧ n38 ≤ n - n6 - n22 - n30 ∧ (∀ (r33 : Int32) (h34 : eH), Q39 r33 h34 → (c.2.2.2.2 (.inl (some (.int r33))) h34)))))))))))))) : h_X0_mixed_0 c a0 a1 h k n := by
  refine e_aload_n dX0_mixed_0 rfl ?_
  refine e_iload_n dX0_mixed_1 rfl ?_
  obtain ⟨fsg3, g3o, H⟩ := H
  obtain ⟨d4, k5, n6, Q7, g3, g3d, g3k, g3n, H⟩ := H
  refine e_callV (r := (RX0, TX0, 8)) (As := [.int a1]) g3 dX0_mixed_2 wX0_isSort q2015 q2017 qs45 g3o rfl rfl g3d rfl (Nat.le_of_ble_eq_true rfl) (k1 := k - k5) (n1 := n - n6) (by omega) (by omega) ?_ ?_
  · rintro v h2 (⟨v9, e9, r1, e8, hq⟩ | ⟨ci9, q9, e9, -⟩)
    · cases e9
      subst e8
      replace H := H r1 h2 hq
      refine e_if_eq 36 dX0_mixed_5 (by decide) (fun g8 => ?_) (fun g8 => ?_)
      · replace H := H.1 g8
        refine e_iconst (-1) dX0_mixed_36 (by decide) ?_
        exact e_ireturn .int dX0_mixed_37 rfl rfl H
      · replace H := H.2 g8
        refine e_aload_n dX0_mixed_8 rfl ?_
        obtain ⟨x9, ⟨fsx9, g10, g10v⟩, H⟩ := H
        refine e_get dX0_mixed_9 fX0_4 q1239 g10 g10v ?_
        obtain ⟨x11, ⟨fsx11, g12, g12v⟩, H⟩ := H
        refine e_getN dX0_mixed_12 fX1_2 q238 g12 g12v ?_
        refine e_aload_n dX0_mixed_15 rfl ?_
        obtain ⟨x13, ⟨fsx13, g14, g14v⟩, H⟩ := H
        refine e_get dX0_mixed_16 fX0_4 q1239 g14 g14v ?_
        obtain ⟨x15, ⟨fsx15, g16, g16v⟩, H⟩ := H
        refine e_getN dX0_mixed_19 fX1_2 q238 g16 g16v ?_
        refine e_aload_n dX0_mixed_22 rfl ?_
        refine e_iload_n dX0_mixed_23 rfl ?_
        obtain ⟨fsg19, g19o, H⟩ := H
        obtain ⟨d20, k21, n22, Q23, g19, g19d, g19k, g19n, H⟩ := H
        refine e_callV (r := (RX0, TX0, 8)) (As := [.int a1]) g19 dX0_mixed_24 wX0_firstOf q2110 q2112 qs47 g19o rfl rfl g19d rfl (show ((([va_rf x15, va_rf x11] : List Value).map fun v => v.category).sum ≤ 8) from by simp only [List.map_cons, List.map_nil, List.sum_cons, List.sum_nil, eRfC, eCtI, eCtL, eCtR, eCtN]; decide) (k1 := k - k5 - k21) (n1 := n - n6 - n22) (by omega) (by omega) ?_ ?_
        · rintro v h18 (⟨v9, e9, r17, e8, hq⟩ | ⟨ci9, q9, e9, -⟩)
          · cases e9
            subst e8
            replace H := H r17 h18 hq
            obtain ⟨o24, eo24, H⟩ := H
            subst eo24
            obtain ⟨fsg27, g27o, H⟩ := H
            obtain ⟨d28, k29, n30, Q31, g27, g27d, g27k, g27n, H⟩ := H
            refine e_callV (r := (RX3, TX3, 8)) (As := [.int r17]) g27 dX0_mixed_27 wX3_mixed q2114 q2115 q2116 g27o rfl rfl g27d rfl (show ((([va_rf x11] : List Value).map fun v => v.category).sum ≤ 8) from by simp only [List.map_cons, List.map_nil, List.sum_cons, List.sum_nil, eRfC, eCtI, eCtL, eCtR, eCtN]; decide) (k1 := k - k5 - k21 - k29) (n1 := n - n6 - n22 - n30) (by omega) (by omega) ?_ ?_
            · rintro v h26 (⟨v9, e9, r25, e8, hq⟩ | ⟨ci9, q9, e9, -⟩)
              · cases e9
                subst e8
                replace H := H r25 h26 hq
                obtain ⟨o32, eo32, H⟩ := H
                subst eo32
                obtain ⟨fsg35, g35o, H⟩ := H
                obtain ⟨d36, k37, n38, Q39, g35, g35d, g35k, g35n, H⟩ := H
                refine e_callV (r := (RX3, TX3, 8)) (As := [.int r25]) g35 dX0_mixed_30 wX3_sortOf q2005 q2006 q2007 g35o rfl rfl g35d rfl (Nat.le_of_ble_eq_true rfl) (k1 := k - k5 - k21 - k29 - k37) (n1 := n - n6 - n22 - n30 - n38) (by omega) (by omega) ?_ ?_
                · rintro v h34 (⟨v9, e9, r33, e8, hq⟩ | ⟨ci9, q9, e9, -⟩)
                  · cases e9
                    subst e8
                    replace H := H r33 h34 hq
                    refine e_goto 37 dX0_mixed_33 (by decide) ?_
                    exact e_ireturn .int dX0_mixed_37 rfl rfl H
                  · cases e9
                · rintro q9 h9 (⟨v9, e9, -⟩ | ⟨ci9, q8, e9, -, -, hx⟩)
                  · cases e9
                  · exact hx.elim
              · cases e9
            · rintro q9 h9 (⟨v9, e9, -⟩ | ⟨ci9, q8, e9, -, -, hx⟩)
              · cases e9
              · exact hx.elim
          · cases e9
        · rintro q9 h9 (⟨v9, e9, -⟩ | ⟨ci9, q8, e9, -, -, hx⟩)
          · cases e9
          · exact hx.elim
    · cases e9
  · rintro q9 h9 (⟨v9, e9, -⟩ | ⟨ci9, q8, e9, -, -, hx⟩)
    · cases e9
    · exact hx.elim
theorem en_X0_mixed {l : Launch} {lo : Nat} {G : eG} {d : Nat} {P : eO → eH → Prop} (a0 : Nat) (a1 : Int32) {h : eH} {k n : Nat} (H : h_X0_mixed_0 (l, lo, G, d, P) a0 a1 h k n) : Ct l lo G d mX0_mixed [.ref a0, .int a1] h k n P := 
  Ct_of (eArL mX0_mixed.2.2.2.1 [.ref a0, .int a1]) (by decide) rfl (Nat.le_of_ble_eq_true rfl) (fun j w q => eArL_mem j w q) (E.less2 H (eS_s (eS_s eS_0)))
