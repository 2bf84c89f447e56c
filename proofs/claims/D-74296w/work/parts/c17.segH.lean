/-! segments: X7_init, X7_next, X7_at, X7_isBetween, X7_read, X7_line, X7_word, X7_need, X7_places, X7_number, X7_sign, X7_isSign, X7_move, X7_grows, X7_let, X7_closes, X7_isName, X7_whole, X7_any, X7_product, X7_factor, X7_unit, X7_none, X7_thing, X7_skips, X7_alone -/
/-! X7_init TroupeSums$Reader.<init>([BI)V -/
def h_X7_init_0 (c : cC) (a0 : Nat) (a1 : Nat) (a2 : Int32) (h : eH) (k n : Nat) : Prop := E c.1 c.2.1 c.2.2.1 c.2.2.2.1 mX7_init c.2.2.2.2 0 [some (.ref a0), some (.ref a1), some (.int a2)] [] h k n
set_option maxHeartbeats 4000000 in
theorem s_X7_init_0 (c : cC) (a0 : Nat) (a1 : Nat) (a2 : Int32) (h : eH) (k n : Nat) (H : 1 ≤ c.2.2.2.1 ∧ (1 ≤ k ∧ 5 ≤ n ∧ ∀ h2 : eH, h2 = eNw h (.inr (1, [.int 0, .int 0, .null, .null, .null])) → (∃ (d7 k8 n9 : Nat) (Q10 : eH → Prop), cV c.1 c.2.1 c.2.2.1 d7 mX1_init [.ref h.2] h2 k8 n9 Q10 cX0 ∧ d7 + 1 ≤ c.2.2.2.1 ∧ k8 ≤ k - 1 ∧ n9 ≤ n - 5 ∧ (∀ h5 : eH, Q10 h5 → (∃ fs11 : List Value, h5.1 a0 = some (.inr (7, fs11)) ∧ c.2.1 ≤ a0 ∧ 7 < fs11.length ∧ ∀ h13 : eH, h13 = eUp h5 a0 (.inr (7, fs11.set 7 (.ref h.2))) → (1 ≤ k - 1 - k8 ∧ 9 ≤ n - 5 - n9 ∧ ∀ h14 : eH, h14 = eNw h13 (.inr (16, [.null, .null, .null, .null, .int 0, .int 0, .null, .null, .null])) → (∃ (d19 k20 n21 : Nat) (Q22 : eH → Prop), cV c.1 c.2.1 c.2.2.1 d19 mJ4_init [.ref h13.2] h14 k20 n21 Q22 cX0 ∧ d19 + 1 ≤ c.2.2.2.1 ∧ k20 ≤ k - 1 - k8 - 1 ∧ n21 ≤ n - 5 - n9 - 9 ∧ (∀ h17 : eH, Q22 h17 → (∃ fs23 : List Value, h17.1 a0 = some (.inr (7, fs23)) ∧ c.2.1 ≤ a0 ∧ 8 < fs23.length ∧ ∀ h25 : eH, h25 = eUp h17 a0 (.inr (7, fs23.set 8 (.ref h13.2))) → (∃ fs26 : List Value, h25.1 a0 = some (.inr (7, fs26)) ∧ c.2.1 ≤ a0 ∧ 0 < fs26.length ∧ ∀ h28 : eH, h28 = eUp h25 a0 (.inr (7, fs26.set 0 (.ref a1))) → (∃ fs29 : List Value, h28.1 a0 = some (.inr (7, fs29)) ∧ c.2.1 ≤ a0 ∧ 1 < fs29.length ∧ ∀ h31 : eH, h31 = eUp h28 a0 (.inr (7, fs29.set 1 (.int a2))) → (∃ fs8 : List Value, h31.1 a0 = some (.inr (7, fs8)) ∧ ∃ (d35 k36 n37 : Nat) (Q38 : eH → Prop), cV c.1 c.2.1 c.2.2.1 d35 mX7_next [.ref a0] h31 k36 n37 Q38 cX0 ∧ d35 + 1 ≤ c.2.2.2.1 ∧ k36 ≤ k - 1 - k8 - 1 - k20 ∧ n37 ≤ n - 5 - n9 - 9 - n21 ∧ (∀ h33 : eH, Q38 h33 → (c.2.2.2.2 (.inl none) h33)))))))))))))) : h_X7_init_0 c a0 a1 a2 h k n := by
  refine e_aload_n dX7_init_0 rfl ?_
  obtain ⟨g1, H⟩ := H
  refine e_objInit dX7_init_1 q1286 q192 q193 g1 (Nat.le_of_ble_eq_true rfl) ?_
  refine e_aload_n dX7_init_4 rfl ?_
  obtain ⟨g3, g3n, H⟩ := H
  refine e_new (ci := 1) (N := 5) (C := RX1) (T := TX1) tyX1 (fs := [.int 0, .int 0, .null, .null, .null]) dX7_init_5 rfl in_X1 tyX1_ok q1287 q198 q135 (by decide) (k1 := k - 1) (n1 := n - 5) (by omega) (by omega) ?_
  replace H := H _ rfl
  generalize eNw h _ = h2 at H ⊢
  refine e_dup dX7_init_8 rfl ?_
  obtain ⟨d7, k8, n9, Q10, g6, g6d, g6k, g6n, H⟩ := H
  refine e_callIN (As := []) g6 dX7_init_9 wX1_init rfl rfl rfl q1288 q200 rfl g6d rfl (Nat.le_of_ble_eq_true rfl) (k1 := k - 1 - k8) (n1 := n - 5 - n9) (by omega) (by omega) ?_ ?_
  · rintro v h5 (⟨v9, e9, e8, hq⟩ | ⟨ci9, q9, e9, -⟩)
    · cases e9
      subst e8
      replace H := H h5 hq
      obtain ⟨fs11, g12, g12l, g12j, H⟩ := H
      refine e_put dX7_init_12 fX7_7 q1368 (eFit_or _ _) g12 g12l g12j ?_
      replace H := H _ rfl
      generalize eUp h5 a0 _ = h13 at H ⊢
      refine e_aload_n dX7_init_15 rfl ?_
      obtain ⟨g15, g15n, H⟩ := H
      refine e_new (ci := 16) (N := 9) (C := RJ4) (T := TJ4) tyJ4 (fs := [.null, .null, .null, .null, .int 0, .int 0, .null, .null, .null]) dX7_init_16 rfl in_J4 tyJ4_ok q1289 q258 q140 (by decide) (k1 := k - 1 - k8 - 1) (n1 := n - 5 - n9 - 9) (by omega) (by omega) ?_
      replace H := H _ rfl
      generalize eNw h13 _ = h14 at H ⊢
      refine e_dup dX7_init_19 rfl ?_
      obtain ⟨d19, k20, n21, Q22, g18, g18d, g18k, g18n, H⟩ := H
      refine e_callI (As := []) g18 dX7_init_20 wJ4_init rfl rfl rfl q1290 q260 rfl g18d rfl (Nat.le_of_ble_eq_true rfl) (k1 := k - 1 - k8 - 1 - k20) (n1 := n - 5 - n9 - 9 - n21) (by omega) (by omega) ?_ ?_
      · rintro v h17 (⟨v9, e9, e8, hq⟩ | ⟨ci9, q9, e9, -⟩)
        · cases e9
          subst e8
          replace H := H h17 hq
          obtain ⟨fs23, g24, g24l, g24j, H⟩ := H
          refine e_put dX7_init_23 fX7_8 q1369 (eFit_or _ _) g24 g24l g24j ?_
          replace H := H _ rfl
          generalize eUp h17 a0 _ = h25 at H ⊢
          refine e_aload_n dX7_init_26 rfl ?_
          refine e_aload_n dX7_init_27 rfl ?_
          obtain ⟨fs26, g27, g27l, g27j, H⟩ := H
          refine e_putF dX7_init_28 fX7_0 q1361 rfl rfl (eFit_ar _ _) g27 g27l g27j ?_
          replace H := H _ rfl
          generalize eUp h25 a0 _ = h28 at H ⊢
          refine e_aload_n dX7_init_31 rfl ?_
          refine e_iload_n dX7_init_32 rfl ?_
          obtain ⟨fs29, g30, g30l, g30j, H⟩ := H
          refine e_putF dX7_init_33 fX7_1 q1362 rfl rfl (eFit_i _) g30 g30l g30j ?_
          replace H := H _ rfl
          generalize eUp h28 a0 _ = h31 at H ⊢
          refine e_aload_n dX7_init_36 rfl ?_
          obtain ⟨fsg34, g34o, H⟩ := H
          obtain ⟨d35, k36, n37, Q38, g34, g34d, g34k, g34n, H⟩ := H
          refine e_callV (r := (RX7, TX7, 11)) (As := []) g34 dX7_init_37 wX7_next q1291 q1293 qs17 g34o rfl rfl g34d rfl (Nat.le_of_ble_eq_true rfl) (k1 := k - 1 - k8 - 1 - k20 - k36) (n1 := n - 5 - n9 - 9 - n21 - n37) (by omega) (by omega) ?_ ?_
          · rintro v h33 (⟨v9, e9, e8, hq⟩ | ⟨ci9, q9, e9, -⟩)
            · cases e9
              subst e8
              replace H := H h33 hq
              exact e_return dX7_init_40 rfl H
            · cases e9
          · rintro q9 h9 (⟨v9, e9, -⟩ | ⟨ci9, q8, e9, -, -, hx⟩)
            · cases e9
            · exact hx.elim
        · cases e9
      · rintro q9 h9 (⟨v9, e9, -⟩ | ⟨ci9, q8, e9, -, -, hx⟩)
        · cases e9
        · exact hx.elim
    · cases e9
  · rintro q9 h9 (⟨v9, e9, -⟩ | ⟨ci9, q8, e9, -, -, hx⟩)
    · cases e9
    · exact hx.elim
theorem en_X7_init {l : Launch} {lo : Nat} {G : eG} {d : Nat} {P : eO → eH → Prop} (a0 : Nat) (a1 : Nat) (a2 : Int32) {h : eH} {k n : Nat} (H : h_X7_init_0 (l, lo, G, d, P) a0 a1 a2 h k n) : Ct l lo G d mX7_init [.ref a0, .ref a1, .int a2] h k n P := 
  Ct_of (eArL mX7_init.2.2.2.1 [.ref a0, .ref a1, .int a2]) (by decide) rfl (Nat.le_of_ble_eq_true rfl) (fun j w q => eArL_mem j w q) (E.less2 H (eS_s (eS_s (eS_s eS_0))))
/-! X7_next TroupeSums$Reader.next()V -/
def h_X7_next_0 (c : cC) (a0 : Nat) (h : eH) (k n : Nat) : Prop := E c.1 c.2.1 c.2.2.1 c.2.2.2.1 mX7_next c.2.2.2.2 0 [some (.ref a0)] [] h k n
def h_X7_next_26 (c : cC) (a0 : Nat) (h : eH) (k n : Nat) : Prop := E c.1 c.2.1 c.2.2.1 c.2.2.2.1 mX7_next c.2.2.2.2 26 [some (.ref a0)] [] h k n
def h_X7_next_81 (c : cC) (a0 : Nat) (h : eH) (k n : Nat) : Prop := E c.1 c.2.1 c.2.2.1 c.2.2.2.1 mX7_next c.2.2.2.2 81 [some (.ref a0)] [] h k n
def h_X7_next_129 (c : cC) (b0 : Int32) (b1 : Nat) (h : eH) (k n : Nat) : Prop := E c.1 c.2.1 c.2.2.1 c.2.2.2.1 mX7_next c.2.2.2.2 129 [none] [.int b0, .ref b1] h k n
def h_X7_next_150 (c : cC) (a0 : Nat) (h : eH) (k n : Nat) : Prop := E c.1 c.2.1 c.2.2.1 c.2.2.2.1 mX7_next c.2.2.2.2 150 [some (.ref a0)] [] h k n
def h_X7_next_207 (c : cC) (b0 : Nat) (h : eH) (k n : Nat) : Prop := E c.1 c.2.1 c.2.2.1 c.2.2.2.1 mX7_next c.2.2.2.2 207 [none] [.ref b0] h k n
def h_X7_next_212 (c : cC) (b0 : Int32) (b1 : Nat) (h : eH) (k n : Nat) : Prop := E c.1 c.2.1 c.2.2.1 c.2.2.2.1 mX7_next c.2.2.2.2 212 [none] [.int b0, .ref b1] h k n
set_option maxHeartbeats 4000000 in
theorem s_X7_next_0 (c : cC) (a0 : Nat) (h : eH) (k n : Nat) (H : ∃ x1 : Int32, fV h a0 7 3 (.int x1) ∧ (∃ fs8 : List Value, h.1 a0 = some (.inr (7, fs8)) ∧ ∃ (d6 k7 n8 : Nat) (Q9 : Int32 → eH → Prop), cI c.1 c.2.1 c.2.2.1 d6 mX7_at [.ref a0, .int x1] h k7 n8 Q9 cX0 ∧ d6 + 1 ≤ c.2.2.2.1 ∧ k7 ≤ k ∧ n8 ≤ n ∧ (∀ (r3 : Int32) (h4 : eH), Q9 r3 h4 → ((r3 = (32 : Int32) → h_X7_next_26 c a0 h4 (k - k7) (n - n8)) ∧ (¬ r3 = (32 : Int32) → ∃ x11 : Int32, fV h4 a0 7 3 (.int x11) ∧ (∃ fs8 : List Value, h4.1 a0 = some (.inr (7, fs8)) ∧ ∃ (d16 k17 n18 : Nat) (Q19 : Int32 → eH → Prop), cI c.1 c.2.1 c.2.2.1 d16 mX7_at [.ref a0, .int x11] h4 k17 n18 Q19 cX0 ∧ d16 + 1 ≤ c.2.2.2.1 ∧ k17 ≤ k - k7 ∧ n18 ≤ n - n8 ∧ (∀ (r13 : Int32) (h14 : eH), Q19 r13 h14 → ((¬ r13 = (10 : Int32) → ∃ x21 : Int32, fV h14 a0 7 3 (.int x21) ∧ (∃ fs23 : List Value, h14.1 a0 = some (.inr (7, fs23)) ∧ c.2.1 ≤ a0 ∧ 2 < fs23.length ∧ ∀ h25 : eH, h25 = eUp h14 a0 (.inr (7, fs23.set 2 (.int x21))) → (∃ x26 : Int32, fV h25 a0 7 2 (.int x26) ∧ (∃ x28 : Int32, fV h25 a0 7 1 (.int x28) ∧ ((x26 < x28 → ∃ x31 : Int32, fV h25 a0 7 2 (.int x31) ∧ (∃ fs8 : List Value, h25.1 a0 = some (.inr (7, fs8)) ∧ ∃ (d36 k37 n38 : Nat) (Q39 : Int32 → eH → Prop), cI c.1 c.2.1 c.2.2.1 d36 mX7_isBetween [.ref a0, .int x31, .int (97 : Int32), .int (122 : Int32)] h25 k37 n38 Q39 cX0 ∧ d36 + 1 ≤ c.2.2.2.1 ∧ k37 ≤ k - k7 - k17 ∧ n38 ≤ n - n8 - n18 ∧ (∀ (r33 : Int32) (h34 : eH), Q39 r33 h34 → ((r33 = 0 → ∃ x41 : Int32, fV h34 a0 7 2 (.int x41) ∧ (∃ fs8 : List Value, h34.1 a0 = some (.inr (7, fs8)) ∧ ∃ (d46 k47 n48 : Nat) (Q49 : Int32 → eH → Prop), cI c.1 c.2.1 c.2.2.1 d46 mX7_isBetween [.ref a0, .int x41, .int (48 : Int32), .int (57 : Int32)] h34 k47 n48 Q49 cX0 ∧ d46 + 1 ≤ c.2.2.2.1 ∧ k47 ≤ k - k7 - k17 - k37 ∧ n48 ≤ n - n8 - n18 - n38 ∧ (∀ (r43 : Int32) (h44 : eH), Q49 r43 h44 → ((r43 = 0 → ∃ x51 : Int32, fV h44 a0 7 3 (.int x51) ∧ (∃ fs53 : List Value, h44.1 a0 = some (.inr (7, fs53)) ∧ c.2.1 ≤ a0 ∧ 3 < fs53.length ∧ ∀ h55 : eH, h55 = eUp h44 a0 (.inr (7, fs53.set 3 (.int (x51 + (1 : Int32))))) → (∃ x56 : Int32, fV h55 a0 7 2 (.int x56) ∧ (∃ fs8 : List Value, h55.1 a0 = some (.inr (7, fs8)) ∧ ∃ (d61 k62 n63 : Nat) (Q64 : Int32 → eH → Prop), cI c.1 c.2.1 c.2.2.1 d61 mX7_at [.ref a0, .int x56] h55 k62 n63 Q64 cX0 ∧ d61 + 1 ≤ c.2.2.2.1 ∧ k62 ≤ k - k7 - k17 - k37 - k47 ∧ n63 ≤ n - n8 - n18 - n38 - n48 ∧ (∀ (r58 : Int32) (h59 : eH), Q64 r58 h59 → (∃ fs8 : List Value, h59.1 (c.2.2.1.2.2.2 2) = some (.inr (18, fs8)) ∧ ∃ (d68 k69 n70 : Nat) (Q71 : Int32 → eH → Prop), cI c.1 c.2.1 c.2.2.1 d68 mJ7_indexOf [.ref (c.2.2.1.2.2.2 2), .int r58] h59 k69 n70 Q71 cX0 ∧ d68 + 1 ≤ c.2.2.2.1 ∧ k69 ≤ k - k7 - k17 - k37 - k47 - k62 ∧ n70 ≤ n - n8 - n18 - n38 - n48 - n63 ∧ (∀ (r65 : Int32) (h66 : eH), Q71 r65 h66 → ((r65 < 0 → ∃ fs73 : List Value, h66.1 a0 = some (.inr (7, fs73)) ∧ c.2.1 ≤ a0 ∧ 4 < fs73.length ∧ ∀ h75 : eH, h75 = eUp h66 a0 (.inr (7, fs73.set 4 (.int (4 : Int32)))) → (c.2.2.2.2 (.inl none) h75)) ∧ (¬ r65 < 0 → ∃ fs76 : List Value, h66.1 a0 = some (.inr (7, fs76)) ∧ c.2.1 ≤ a0 ∧ 4 < fs76.length ∧ ∀ h78 : eH, h78 = eUp h66 a0 (.inr (7, fs76.set 4 (.int (3 : Int32)))) → (c.2.2.2.2 (.inl none) h78)))))))))) ∧ (¬ r43 = 0 → h_X7_next_150 c a0 h44 (k - k7 - k17 - k37 - k47) (n - n8 - n18 - n38 - n48)))))) ∧ (¬ r33 = 0 → h_X7_next_81 c a0 h34 (k - k7 - k17 - k37) (n - n8 - n18 - n38)))))) ∧ (¬ x26 < x28 → ∃ fs79 : List Value, h25.1 a0 = some (.inr (7, fs79)) ∧ c.2.1 ≤ a0 ∧ 4 < fs79.length ∧ ∀ h81 : eH, h81 = eUp h25 a0 (.inr (7, fs79.set 4 (.int (0 : Int32)))) → (c.2.2.2.2 (.inl none) h81))))))) ∧ (r13 = (10 : Int32) → h_X7_next_26 c a0 h14 (k - k7 - k17) (n - n8 - n18)))))))))) : h_X7_next_0 c a0 h k n := by
  refine e_aload_n dX7_next_0 rfl ?_
  refine e_aload_n dX7_next_1 rfl ?_
  obtain ⟨x1, ⟨fsx1, g2, g2v⟩, H⟩ := H
  refine e_get dX7_next_2 fX7_3 q1364 g2 g2v ?_
  obtain ⟨fsg5, g5o, H⟩ := H
  obtain ⟨d6, k7, n8, Q9, g5, g5d, g5k, g5n, H⟩ := H
  refine e_callV (r := (RX7, TX7, 11)) (As := [.int x1]) g5 dX7_next_5 wX7_at q1295 q1297 qs18 g5o rfl rfl g5d rfl (Nat.le_of_ble_eq_true rfl) (k1 := k - k7) (n1 := n - n8) (by omega) (by omega) ?_ ?_
  · rintro v h4 (⟨v9, e9, r3, e8, hq⟩ | ⟨ci9, q9, e9, -⟩)
    · cases e9
      subst e8
      replace H := H r3 h4 hq
      refine e_bipush (32) dX7_next_8 (by decide) ?_
      refine e_icmp_eq 26 dX7_next_10 (by decide) (fun g10 => ?_) (fun g10 => ?_)
      · replace H := H.1 g10
        exact E.less2 H (eS_s eS_0)
      · replace H := H.2 g10
        refine e_aload_n dX7_next_13 rfl ?_
        refine e_aload_n dX7_next_14 rfl ?_
        obtain ⟨x11, ⟨fsx11, g12, g12v⟩, H⟩ := H
        refine e_get dX7_next_15 fX7_3 q1364 g12 g12v ?_
        obtain ⟨fsg15, g15o, H⟩ := H
        obtain ⟨d16, k17, n18, Q19, g15, g15d, g15k, g15n, H⟩ := H
        refine e_callV (r := (RX7, TX7, 11)) (As := [.int x11]) g15 dX7_next_18 wX7_at q1295 q1297 qs18 g15o rfl rfl g15d rfl (Nat.le_of_ble_eq_true rfl) (k1 := k - k7 - k17) (n1 := n - n8 - n18) (by omega) (by omega) ?_ ?_
        · rintro v h14 (⟨v9, e9, r13, e8, hq⟩ | ⟨ci9, q9, e9, -⟩)
          · cases e9
            subst e8
            replace H := H r13 h14 hq
            refine e_bipush (10) dX7_next_21 (by decide) ?_
            refine e_icmp_ne 39 dX7_next_23 (by decide) (fun g20 => ?_) (fun g20 => ?_)
            · replace H := H.1 g20
              refine e_aload_n dX7_next_39 rfl ?_
              refine e_aload_n dX7_next_40 rfl ?_
              obtain ⟨x21, ⟨fsx21, g22, g22v⟩, H⟩ := H
              refine e_get dX7_next_41 fX7_3 q1364 g22 g22v ?_
              obtain ⟨fs23, g24, g24l, g24j, H⟩ := H
              refine e_put dX7_next_44 fX7_2 q1363 (eFit_i _) g24 g24l g24j ?_
              replace H := H _ rfl
              generalize eUp h14 a0 _ = h25 at H ⊢
              refine e_aload_n dX7_next_47 rfl ?_
              obtain ⟨x26, ⟨fsx26, g27, g27v⟩, H⟩ := H
              refine e_get dX7_next_48 fX7_2 q1363 g27 g27v ?_
              refine e_aload_n dX7_next_51 rfl ?_
              obtain ⟨x28, ⟨fsx28, g29, g29v⟩, H⟩ := H
              refine e_get dX7_next_52 fX7_1 q1362 g29 g29v ?_
              refine e_icmp_lt 66 dX7_next_55 (by decide) (fun g30 => ?_) (fun g30 => ?_)
              · replace H := H.1 g30
                refine e_aload_n dX7_next_66 rfl ?_
                refine e_aload_n dX7_next_67 rfl ?_
                obtain ⟨x31, ⟨fsx31, g32, g32v⟩, H⟩ := H
                refine e_get dX7_next_68 fX7_2 q1363 g32 g32v ?_
                refine e_bipush (97) dX7_next_71 (by decide) ?_
                refine e_bipush (122) dX7_next_73 (by decide) ?_
                obtain ⟨fsg35, g35o, H⟩ := H
                obtain ⟨d36, k37, n38, Q39, g35, g35d, g35k, g35n, H⟩ := H
                refine e_callV (r := (RX7, TX7, 11)) (As := [.int x31, .int (97 : Int32), .int (122 : Int32)]) g35 dX7_next_75 wX7_isBetween q1299 q1301 qs19 g35o rfl rfl g35d rfl (Nat.le_of_ble_eq_true rfl) (k1 := k - k7 - k17 - k37) (n1 := n - n8 - n18 - n38) (by omega) (by omega) ?_ ?_
                · rintro v h34 (⟨v9, e9, r33, e8, hq⟩ | ⟨ci9, q9, e9, -⟩)
                  · cases e9
                    subst e8
                    replace H := H r33 h34 hq
                    refine e_if_eq 135 dX7_next_78 (by decide) (fun g40 => ?_) (fun g40 => ?_)
                    · replace H := H.1 g40
                      refine e_aload_n dX7_next_135 rfl ?_
                      refine e_aload_n dX7_next_136 rfl ?_
                      obtain ⟨x41, ⟨fsx41, g42, g42v⟩, H⟩ := H
                      refine e_get dX7_next_137 fX7_2 q1363 g42 g42v ?_
                      refine e_bipush (48) dX7_next_140 (by decide) ?_
                      refine e_bipush (57) dX7_next_142 (by decide) ?_
                      obtain ⟨fsg45, g45o, H⟩ := H
                      obtain ⟨d46, k47, n48, Q49, g45, g45d, g45k, g45n, H⟩ := H
                      refine e_callV (r := (RX7, TX7, 11)) (As := [.int x41, .int (48 : Int32), .int (57 : Int32)]) g45 dX7_next_144 wX7_isBetween q1299 q1301 qs19 g45o rfl rfl g45d rfl (Nat.le_of_ble_eq_true rfl) (k1 := k - k7 - k17 - k37 - k47) (n1 := n - n8 - n18 - n38 - n48) (by omega) (by omega) ?_ ?_
                      · rintro v h44 (⟨v9, e9, r43, e8, hq⟩ | ⟨ci9, q9, e9, -⟩)
                        · cases e9
                          subst e8
                          replace H := H r43 h44 hq
                          refine e_if_eq 218 dX7_next_147 (by decide) (fun g50 => ?_) (fun g50 => ?_)
                          · replace H := H.1 g50
                            refine e_aload_n dX7_next_218 rfl ?_
                            refine e_dup dX7_next_219 rfl ?_
                            obtain ⟨x51, ⟨fsx51, g52, g52v⟩, H⟩ := H
                            refine e_get dX7_next_220 fX7_3 q1364 g52 g52v ?_
                            refine e_iconst (1) dX7_next_223 (by decide) ?_
                            refine e_iadd dX7_next_224 ?_
                            obtain ⟨fs53, g54, g54l, g54j, H⟩ := H
                            refine e_put dX7_next_225 fX7_3 q1364 (eFit_i _) g54 g54l g54j ?_
                            replace H := H _ rfl
                            generalize eUp h44 a0 _ = h55 at H ⊢
                            refine e_aload_n dX7_next_228 rfl ?_
                            refine e_ldcS (i := 0) dX7_next_229 rfl ?_
                            refine e_aload_n dX7_next_231 rfl ?_
                            refine e_aload_n dX7_next_232 rfl ?_
                            obtain ⟨x56, ⟨fsx56, g57, g57v⟩, H⟩ := H
                            refine e_get dX7_next_233 fX7_2 q1363 g57 g57v ?_
                            obtain ⟨fsg60, g60o, H⟩ := H
                            obtain ⟨d61, k62, n63, Q64, g60, g60d, g60k, g60n, H⟩ := H
                            refine e_callV (r := (RX7, TX7, 11)) (As := [.int x56]) g60 dX7_next_236 wX7_at q1295 q1297 qs18 g60o rfl rfl g60d rfl (Nat.le_of_ble_eq_true rfl) (k1 := k - k7 - k17 - k37 - k47 - k62) (n1 := n - n8 - n18 - n38 - n48 - n63) (by omega) (by omega) ?_ ?_
                            · rintro v h59 (⟨v9, e9, r58, e8, hq⟩ | ⟨ci9, q9, e9, -⟩)
                              · cases e9
                                subst e8
                                replace H := H r58 h59 hq
                                obtain ⟨fsg67, g67o, H⟩ := H
                                obtain ⟨d68, k69, n70, Q71, g67, g67d, g67k, g67n, H⟩ := H
                                refine e_callV (r := (RJ7, TJ7, 4)) (As := [.int r58]) g67 dX7_next_239 wJ7_indexOf q1304 q1305 q1306 g67o rfl rfl g67d rfl (Nat.le_of_ble_eq_true rfl) (k1 := k - k7 - k17 - k37 - k47 - k62 - k69) (n1 := n - n8 - n18 - n38 - n48 - n63 - n70) (by omega) (by omega) ?_ ?_
                                · rintro v h66 (⟨v9, e9, r65, e8, hq⟩ | ⟨ci9, q9, e9, -⟩)
                                  · cases e9
                                    subst e8
                                    replace H := H r65 h66 hq
                                    refine e_if_lt 249 dX7_next_242 (by decide) (fun g72 => ?_) (fun g72 => ?_)
                                    · replace H := H.1 g72
                                      refine e_iconst (4) dX7_next_249 (by decide) ?_
                                      obtain ⟨fs73, g74, g74l, g74j, H⟩ := H
                                      refine e_put dX7_next_250 fX7_4 q1365 (eFit_i _) g74 g74l g74j ?_
                                      replace H := H _ rfl
                                      generalize eUp h66 a0 _ = h75 at H ⊢
                                      exact e_return dX7_next_253 rfl H
                                    · replace H := H.2 g72
                                      refine e_iconst (3) dX7_next_245 (by decide) ?_
                                      refine e_goto 250 dX7_next_246 (by decide) ?_
                                      obtain ⟨fs76, g77, g77l, g77j, H⟩ := H
                                      refine e_put dX7_next_250 fX7_4 q1365 (eFit_i _) g77 g77l g77j ?_
                                      replace H := H _ rfl
                                      generalize eUp h66 a0 _ = h78 at H ⊢
                                      exact e_return dX7_next_253 rfl H
                                  · cases e9
                                · rintro q9 h9 (⟨v9, e9, -⟩ | ⟨ci9, q8, e9, -, -, hx⟩)
                                  · cases e9
                                  · exact hx.elim
                              · cases e9
                            · rintro q9 h9 (⟨v9, e9, -⟩ | ⟨ci9, q8, e9, -, -, hx⟩)
                              · cases e9
                              · exact hx.elim
                          · replace H := H.2 g50
                            exact E.less2 H (eS_s eS_0)
                        · cases e9
                      · rintro q9 h9 (⟨v9, e9, -⟩ | ⟨ci9, q8, e9, -, -, hx⟩)
                        · cases e9
                        · exact hx.elim
                    · replace H := H.2 g40
                      exact E.less2 H (eS_s eS_0)
                  · cases e9
                · rintro q9 h9 (⟨v9, e9, -⟩ | ⟨ci9, q8, e9, -, -, hx⟩)
                  · cases e9
                  · exact hx.elim
              · replace H := H.2 g30
                refine e_aload_n dX7_next_58 rfl ?_
                refine e_iconst (0) dX7_next_59 (by decide) ?_
                obtain ⟨fs79, g80, g80l, g80j, H⟩ := H
                refine e_put dX7_next_60 fX7_4 q1365 (eFit_i _) g80 g80l g80j ?_
                replace H := H _ rfl
                generalize eUp h25 a0 _ = h81 at H ⊢
                refine e_goto 253 dX7_next_63 (by decide) ?_
                exact e_return dX7_next_253 rfl H
            · replace H := H.2 g20
              exact E.less2 H (eS_s eS_0)
          · cases e9
        · rintro q9 h9 (⟨v9, e9, -⟩ | ⟨ci9, q8, e9, -, -, hx⟩)
          · cases e9
          · exact hx.elim
    · cases e9
  · rintro q9 h9 (⟨v9, e9, -⟩ | ⟨ci9, q8, e9, -, -, hx⟩)
    · cases e9
    · exact hx.elim
set_option maxHeartbeats 4000000 in
theorem s_X7_next_26 (c : cC) (a0 : Nat) (h : eH) (k n : Nat) (H : ∃ x1 : Int32, fV h a0 7 3 (.int x1) ∧ (∃ fs3 : List Value, h.1 a0 = some (.inr (7, fs3)) ∧ c.2.1 ≤ a0 ∧ 3 < fs3.length ∧ ∀ h5 : eH, h5 = eUp h a0 (.inr (7, fs3.set 3 (.int (x1 + (1 : Int32))))) → (h_X7_next_0 c a0 h5 k n))) : h_X7_next_26 c a0 h k n := by
  refine e_aload_n dX7_next_26 rfl ?_
  refine e_dup dX7_next_27 rfl ?_
  obtain ⟨x1, ⟨fsx1, g2, g2v⟩, H⟩ := H
  refine e_get dX7_next_28 fX7_3 q1364 g2 g2v ?_
  refine e_iconst (1) dX7_next_31 (by decide) ?_
  refine e_iadd dX7_next_32 ?_
  obtain ⟨fs3, g4, g4l, g4j, H⟩ := H
  refine e_put dX7_next_33 fX7_3 q1364 (eFit_i _) g4 g4l g4j ?_
  replace H := H _ rfl
  generalize eUp h a0 _ = h5 at H ⊢
  refine e_goto 0 dX7_next_36 (by decide) ?_
  exact E.less2 H (eS_s eS_0)
set_option maxHeartbeats 4000000 in
theorem s_X7_next_81 (c : cC) (a0 : Nat) (h : eH) (k n : Nat) (H : ∃ x1 : Int32, fV h a0 7 3 (.int x1) ∧ (∃ fs8 : List Value, h.1 a0 = some (.inr (7, fs8)) ∧ ∃ (d6 k7 n8 : Nat) (Q9 : Int32 → eH → Prop), cI c.1 c.2.1 c.2.2.1 d6 mX7_isBetween [.ref a0, .int x1, .int (97 : Int32), .int (122 : Int32)] h k7 n8 Q9 cX0 ∧ d6 + 1 ≤ c.2.2.2.1 ∧ k7 ≤ k ∧ n8 ≤ n ∧ (∀ (r3 : Int32) (h4 : eH), Q9 r3 h4 → ((r3 = 0 → ∃ x11 : Int32, fV h4 a0 7 3 (.int x11) ∧ (∃ x13 : Int32, fV h4 a0 7 2 (.int x13) ∧ (((x11 - x13) ≤ (6 : Int32) → h_X7_next_129 c (1 : Int32) a0 h4 (k - k7) (n - n8)) ∧ (¬ (x11 - x13) ≤ (6 : Int32) → h_X7_next_129 c (4 : Int32) a0 h4 (k - k7) (n - n8))))) ∧ (¬ r3 = 0 → ∃ x16 : Int32, fV h4 a0 7 3 (.int x16) ∧ (∃ fs18 : List Value, h4.1 a0 = some (.inr (7, fs18)) ∧ c.2.1 ≤ a0 ∧ 3 < fs18.length ∧ ∀ h20 : eH, h20 = eUp h4 a0 (.inr (7, fs18.set 3 (.int (x16 + (1 : Int32))))) → (h_X7_next_81 c a0 h20 (k - k7) (n - n8)))))))) : h_X7_next_81 c a0 h k n := by
  refine e_aload_n dX7_next_81 rfl ?_
  refine e_aload_n dX7_next_82 rfl ?_
  obtain ⟨x1, ⟨fsx1, g2, g2v⟩, H⟩ := H
  refine e_get dX7_next_83 fX7_3 q1364 g2 g2v ?_
  refine e_bipush (97) dX7_next_86 (by decide) ?_
  refine e_bipush (122) dX7_next_88 (by decide) ?_
  obtain ⟨fsg5, g5o, H⟩ := H
  obtain ⟨d6, k7, n8, Q9, g5, g5d, g5k, g5n, H⟩ := H
  refine e_callV (r := (RX7, TX7, 11)) (As := [.int x1, .int (97 : Int32), .int (122 : Int32)]) g5 dX7_next_90 wX7_isBetween q1299 q1301 qs19 g5o rfl rfl g5d rfl (Nat.le_of_ble_eq_true rfl) (k1 := k - k7) (n1 := n - n8) (by omega) (by omega) ?_ ?_
  · rintro v h4 (⟨v9, e9, r3, e8, hq⟩ | ⟨ci9, q9, e9, -⟩)
    · cases e9
      subst e8
      replace H := H r3 h4 hq
      refine e_if_eq 109 dX7_next_93 (by decide) (fun g10 => ?_) (fun g10 => ?_)
      · replace H := H.1 g10
        refine e_aload_n dX7_next_109 rfl ?_
        refine e_aload_n dX7_next_110 rfl ?_
        obtain ⟨x11, ⟨fsx11, g12, g12v⟩, H⟩ := H
        refine e_get dX7_next_111 fX7_3 q1364 g12 g12v ?_
        refine e_aload_n dX7_next_114 rfl ?_
        obtain ⟨x13, ⟨fsx13, g14, g14v⟩, H⟩ := H
        refine e_get dX7_next_115 fX7_2 q1363 g14 g14v ?_
        refine e_isub dX7_next_118 ?_
        refine e_bipush (6) dX7_next_119 (by decide) ?_
        refine e_icmp_le 128 dX7_next_121 (by decide) (fun g15 => ?_) (fun g15 => ?_)
        · replace H := H.1 g15
          refine e_iconst (1) dX7_next_128 (by decide) ?_
          exact E.less2 H (eS_n eS_0)
        · replace H := H.2 g15
          refine e_iconst (4) dX7_next_124 (by decide) ?_
          refine e_goto 129 dX7_next_125 (by decide) ?_
          exact E.less2 H (eS_n eS_0)
      · replace H := H.2 g10
        refine e_aload_n dX7_next_96 rfl ?_
        refine e_dup dX7_next_97 rfl ?_
        obtain ⟨x16, ⟨fsx16, g17, g17v⟩, H⟩ := H
        refine e_get dX7_next_98 fX7_3 q1364 g17 g17v ?_
        refine e_iconst (1) dX7_next_101 (by decide) ?_
        refine e_iadd dX7_next_102 ?_
        obtain ⟨fs18, g19, g19l, g19j, H⟩ := H
        refine e_put dX7_next_103 fX7_3 q1364 (eFit_i _) g19 g19l g19j ?_
        replace H := H _ rfl
        generalize eUp h4 a0 _ = h20 at H ⊢
        refine e_goto 81 dX7_next_106 (by decide) ?_
        exact E.less2 H (eS_s eS_0)
    · cases e9
  · rintro q9 h9 (⟨v9, e9, -⟩ | ⟨ci9, q8, e9, -, -, hx⟩)
    · cases e9
    · exact hx.elim
set_option maxHeartbeats 4000000 in
theorem s_X7_next_129 (c : cC) (b0 : Int32) (b1 : Nat) (h : eH) (k n : Nat) (H : ∃ fs1 : List Value, h.1 b1 = some (.inr (7, fs1)) ∧ c.2.1 ≤ b1 ∧ 4 < fs1.length ∧ ∀ h3 : eH, h3 = eUp h b1 (.inr (7, fs1.set 4 (.int b0))) → (c.2.2.2.2 (.inl none) h3)) : h_X7_next_129 c b0 b1 h k n := by
  obtain ⟨fs1, g2, g2l, g2j, H⟩ := H
  refine e_put dX7_next_129 fX7_4 q1365 (eFit_i _) g2 g2l g2j ?_
  replace H := H _ rfl
  generalize eUp h b1 _ = h3 at H ⊢
  refine e_goto 253 dX7_next_132 (by decide) ?_
  exact e_return dX7_next_253 rfl H
set_option maxHeartbeats 4000000 in
theorem s_X7_next_150 (c : cC) (a0 : Nat) (h : eH) (k n : Nat) (H : ∃ x1 : Int32, fV h a0 7 3 (.int x1) ∧ (∃ fs8 : List Value, h.1 a0 = some (.inr (7, fs8)) ∧ ∃ (d6 k7 n8 : Nat) (Q9 : Int32 → eH → Prop), cI c.1 c.2.1 c.2.2.1 d6 mX7_isBetween [.ref a0, .int x1, .int (48 : Int32), .int (57 : Int32)] h k7 n8 Q9 cX0 ∧ d6 + 1 ≤ c.2.2.2.1 ∧ k7 ≤ k ∧ n8 ≤ n ∧ (∀ (r3 : Int32) (h4 : eH), Q9 r3 h4 → ((r3 = 0 → ∃ x11 : Int32, fV h4 a0 7 3 (.int x11) ∧ (∃ x13 : Int32, fV h4 a0 7 2 (.int x13) ∧ (((3 : Int32) < (x11 - x13) → h_X7_next_207 c a0 h4 (k - k7) (n - n8)) ∧ (¬ (3 : Int32) < (x11 - x13) → ∃ x16 : Int32, fV h4 a0 7 3 (.int x16) ∧ (∃ fs8 : List Value, h4.1 a0 = some (.inr (7, fs8)) ∧ ∃ (d21 k22 n23 : Nat) (Q24 : Int32 → eH → Prop), cI c.1 c.2.1 c.2.2.1 d21 mX7_isBetween [.ref a0, .int x16, .int (97 : Int32), .int (122 : Int32)] h4 k22 n23 Q24 cX0 ∧ d21 + 1 ≤ c.2.2.2.1 ∧ k22 ≤ k - k7 ∧ n23 ≤ n - n8 ∧ (∀ (r18 : Int32) (h19 : eH), Q24 r18 h19 → ((r18 = 0 → h_X7_next_212 c (2 : Int32) a0 h19 (k - k7 - k22) (n - n8 - n23)) ∧ (¬ r18 = 0 → h_X7_next_207 c a0 h19 (k - k7 - k22) (n - n8 - n23))))))))) ∧ (¬ r3 = 0 → ∃ x26 : Int32, fV h4 a0 7 3 (.int x26) ∧ (∃ fs28 : List Value, h4.1 a0 = some (.inr (7, fs28)) ∧ c.2.1 ≤ a0 ∧ 3 < fs28.length ∧ ∀ h30 : eH, h30 = eUp h4 a0 (.inr (7, fs28.set 3 (.int (x26 + (1 : Int32))))) → (h_X7_next_150 c a0 h30 (k - k7) (n - n8)))))))) : h_X7_next_150 c a0 h k n := by
  refine e_aload_n dX7_next_150 rfl ?_
  refine e_aload_n dX7_next_151 rfl ?_
  obtain ⟨x1, ⟨fsx1, g2, g2v⟩, H⟩ := H
  refine e_get dX7_next_152 fX7_3 q1364 g2 g2v ?_
  refine e_bipush (48) dX7_next_155 (by decide) ?_
  refine e_bipush (57) dX7_next_157 (by decide) ?_
  obtain ⟨fsg5, g5o, H⟩ := H
  obtain ⟨d6, k7, n8, Q9, g5, g5d, g5k, g5n, H⟩ := H
  refine e_callV (r := (RX7, TX7, 11)) (As := [.int x1, .int (48 : Int32), .int (57 : Int32)]) g5 dX7_next_159 wX7_isBetween q1299 q1301 qs19 g5o rfl rfl g5d rfl (Nat.le_of_ble_eq_true rfl) (k1 := k - k7) (n1 := n - n8) (by omega) (by omega) ?_ ?_
  · rintro v h4 (⟨v9, e9, r3, e8, hq⟩ | ⟨ci9, q9, e9, -⟩)
    · cases e9
      subst e8
      replace H := H r3 h4 hq
      refine e_if_eq 178 dX7_next_162 (by decide) (fun g10 => ?_) (fun g10 => ?_)
      · replace H := H.1 g10
        refine e_aload_n dX7_next_178 rfl ?_
        refine e_aload_n dX7_next_179 rfl ?_
        obtain ⟨x11, ⟨fsx11, g12, g12v⟩, H⟩ := H
        refine e_get dX7_next_180 fX7_3 q1364 g12 g12v ?_
        refine e_aload_n dX7_next_183 rfl ?_
        obtain ⟨x13, ⟨fsx13, g14, g14v⟩, H⟩ := H
        refine e_get dX7_next_184 fX7_2 q1363 g14 g14v ?_
        refine e_isub dX7_next_187 ?_
        refine e_iconst (3) dX7_next_188 (by decide) ?_
        refine e_icmp_gt 207 dX7_next_189 (by decide) (fun g15 => ?_) (fun g15 => ?_)
        · replace H := H.1 g15
          exact E.less2 H (eS_n eS_0)
        · replace H := H.2 g15
          refine e_aload_n dX7_next_192 rfl ?_
          refine e_aload_n dX7_next_193 rfl ?_
          obtain ⟨x16, ⟨fsx16, g17, g17v⟩, H⟩ := H
          refine e_get dX7_next_194 fX7_3 q1364 g17 g17v ?_
          refine e_bipush (97) dX7_next_197 (by decide) ?_
          refine e_bipush (122) dX7_next_199 (by decide) ?_
          obtain ⟨fsg20, g20o, H⟩ := H
          obtain ⟨d21, k22, n23, Q24, g20, g20d, g20k, g20n, H⟩ := H
          refine e_callV (r := (RX7, TX7, 11)) (As := [.int x16, .int (97 : Int32), .int (122 : Int32)]) g20 dX7_next_201 wX7_isBetween q1299 q1301 qs19 g20o rfl rfl g20d rfl (Nat.le_of_ble_eq_true rfl) (k1 := k - k7 - k22) (n1 := n - n8 - n23) (by omega) (by omega) ?_ ?_
          · rintro v h19 (⟨v9, e9, r18, e8, hq⟩ | ⟨ci9, q9, e9, -⟩)
            · cases e9
              subst e8
              replace H := H r18 h19 hq
              refine e_if_eq 211 dX7_next_204 (by decide) (fun g25 => ?_) (fun g25 => ?_)
              · replace H := H.1 g25
                refine e_iconst (2) dX7_next_211 (by decide) ?_
                exact E.less2 H (eS_n eS_0)
              · replace H := H.2 g25
                exact E.less2 H (eS_n eS_0)
            · cases e9
          · rintro q9 h9 (⟨v9, e9, -⟩ | ⟨ci9, q8, e9, -, -, hx⟩)
            · cases e9
            · exact hx.elim
      · replace H := H.2 g10
        refine e_aload_n dX7_next_165 rfl ?_
        refine e_dup dX7_next_166 rfl ?_
        obtain ⟨x26, ⟨fsx26, g27, g27v⟩, H⟩ := H
        refine e_get dX7_next_167 fX7_3 q1364 g27 g27v ?_
        refine e_iconst (1) dX7_next_170 (by decide) ?_
        refine e_iadd dX7_next_171 ?_
        obtain ⟨fs28, g29, g29l, g29j, H⟩ := H
        refine e_put dX7_next_172 fX7_3 q1364 (eFit_i _) g29 g29l g29j ?_
        replace H := H _ rfl
        generalize eUp h4 a0 _ = h30 at H ⊢
        refine e_goto 150 dX7_next_175 (by decide) ?_
        exact E.less2 H (eS_s eS_0)
    · cases e9
  · rintro q9 h9 (⟨v9, e9, -⟩ | ⟨ci9, q8, e9, -, -, hx⟩)
    · cases e9
    · exact hx.elim
set_option maxHeartbeats 4000000 in
theorem s_X7_next_207 (c : cC) (b0 : Nat) (h : eH) (k n : Nat) (H : h_X7_next_212 c (4 : Int32) b0 h k n) : h_X7_next_207 c b0 h k n := by
  refine e_iconst (4) dX7_next_207 (by decide) ?_
  refine e_goto 212 dX7_next_208 (by decide) ?_
  exact E.less2 H (eS_n eS_0)
set_option maxHeartbeats 4000000 in
theorem s_X7_next_212 (c : cC) (b0 : Int32) (b1 : Nat) (h : eH) (k n : Nat) (H : ∃ fs1 : List Value, h.1 b1 = some (.inr (7, fs1)) ∧ c.2.1 ≤ b1 ∧ 4 < fs1.length ∧ ∀ h3 : eH, h3 = eUp h b1 (.inr (7, fs1.set 4 (.int b0))) → (c.2.2.2.2 (.inl none) h3)) : h_X7_next_212 c b0 b1 h k n := by
  obtain ⟨fs1, g2, g2l, g2j, H⟩ := H
  refine e_put dX7_next_212 fX7_4 q1365 (eFit_i _) g2 g2l g2j ?_
  replace H := H _ rfl
  generalize eUp h b1 _ = h3 at H ⊢
  refine e_goto 253 dX7_next_215 (by decide) ?_
  exact e_return dX7_next_253 rfl H
theorem en_X7_next {l : Launch} {lo : Nat} {G : eG} {d : Nat} {P : eO → eH → Prop} (a0 : Nat) {h : eH} {k n : Nat} (H : h_X7_next_0 (l, lo, G, d, P) a0 h k n) : Ct l lo G d mX7_next [.ref a0] h k n P := 
  Ct_of (eArL mX7_next.2.2.2.1 [.ref a0]) (by decide) rfl (Nat.le_of_ble_eq_true rfl) (fun j w q => eArL_mem j w q) (E.less2 H (eS_s eS_0))
/-! X7_at TroupeSums$Reader.at(I)I -/
def h_X7_at_0 (c : cC) (a0 : Nat) (a1 : Int32) (h : eH) (k n : Nat) : Prop := E c.1 c.2.1 c.2.2.1 c.2.2.2.1 mX7_at c.2.2.2.2 0 [some (.ref a0), some (.int a1)] [] h k n
set_option maxHeartbeats 4000000 in
theorem s_X7_at_0 (c : cC) (a0 : Nat) (a1 : Int32) (h : eH) (k n : Nat) (H : ∃ x1 : Int32, fV h a0 7 1 (.int x1) ∧ ((x1 ≤ a1 → c.2.2.2.2 (.inl (some (.int (-1 : Int32)))) h) ∧ (¬ x1 ≤ a1 → ∃ x4 : Nat, fV h a0 7 0 (.ref x4) ∧ (∃ (N6 : Nat) (f7 : Nat → Int32), h.1 x4 = some (.inl (c.2.2.1.2.1 2, N6, .inl f7)) ∧ vp_in a1 N6 ∧ (c.2.2.2.2 (.inl (some (.int ((f7 a1.toNatClampNeg) &&& (255 : Int32))))) h))))) : h_X7_at_0 c a0 a1 h k n := by
  refine e_iload_n dX7_at_0 rfl ?_
  refine e_aload_n dX7_at_1 rfl ?_
  obtain ⟨x1, ⟨fsx1, g2, g2v⟩, H⟩ := H
  refine e_get dX7_at_2 fX7_1 q1362 g2 g2v ?_
  refine e_icmp_ge 21 dX7_at_5 (by decide) (fun g3 => ?_) (fun g3 => ?_)
  · replace H := H.1 g3
    refine e_iconst (-1) dX7_at_21 (by decide) ?_
    exact e_ireturn .int dX7_at_22 rfl rfl H
  · replace H := H.2 g3
    refine e_aload_n dX7_at_8 rfl ?_
    obtain ⟨x4, ⟨fsx4, g5, g5v⟩, H⟩ := H
    refine e_get dX7_at_9 fX7_0 q1361 g5 g5v ?_
    refine e_iload_n dX7_at_12 rfl ?_
    obtain ⟨N6, f7, g8, g8i, H⟩ := H
    refine e_baload dX7_at_13 g8 g8i ?_
    refine e_sipush (255) dX7_at_14 (by decide) ?_
    refine e_iand dX7_at_17 ?_
    refine e_goto 22 dX7_at_18 (by decide) ?_
    exact e_ireturn .int dX7_at_22 rfl rfl H
theorem en_X7_at {l : Launch} {lo : Nat} {G : eG} {d : Nat} {P : eO → eH → Prop} (a0 : Nat) (a1 : Int32) {h : eH} {k n : Nat} (H : h_X7_at_0 (l, lo, G, d, P) a0 a1 h k n) : Ct l lo G d mX7_at [.ref a0, .int a1] h k n P := 
  Ct_of (eArL mX7_at.2.2.2.1 [.ref a0, .int a1]) (by decide) rfl (Nat.le_of_ble_eq_true rfl) (fun j w q => eArL_mem j w q) (E.less2 H (eS_s (eS_s eS_0)))
/-! X7_isBetween TroupeSums$Reader.isBetween(ICC)Z -/
def h_X7_isBetween_0 (c : cC) (a0 : Nat) (a1 : Int32) (a2 : Int32) (a3 : Int32) (h : eH) (k n : Nat) : Prop := E c.1 c.2.1 c.2.2.1 c.2.2.2.1 mX7_isBetween c.2.2.2.2 0 [some (.ref a0), some (.int a1), some (.int a2), some (.int a3)] [] h k n
set_option maxHeartbeats 4000000 in
theorem s_X7_isBetween_0 (c : cC) (a0 : Nat) (a1 : Int32) (a2 : Int32) (a3 : Int32) (h : eH) (k n : Nat) (H : ∃ fs8 : List Value, h.1 a0 = some (.inr (7, fs8)) ∧ ∃ (d4 k5 n6 : Nat) (Q7 : Int32 → eH → Prop), cI c.1 c.2.1 c.2.2.1 d4 mX7_at [.ref a0, .int a1] h k5 n6 Q7 cX0 ∧ d4 + 1 ≤ c.2.2.2.1 ∧ k5 ≤ k ∧ n6 ≤ n ∧ (∀ (r1 : Int32) (h2 : eH), Q7 r1 h2 → ((r1 < a2 → c.2.2.2.2 (.inl (some (.int (0 : Int32)))) h2) ∧ (¬ r1 < a2 → ∃ fs8 : List Value, h2.1 a0 = some (.inr (7, fs8)) ∧ ∃ (d12 k13 n14 : Nat) (Q15 : Int32 → eH → Prop), cI c.1 c.2.1 c.2.2.1 d12 mX7_at [.ref a0, .int a1] h2 k13 n14 Q15 cX0 ∧ d12 + 1 ≤ c.2.2.2.1 ∧ k13 ≤ k - k5 ∧ n14 ≤ n - n6 ∧ (∀ (r9 : Int32) (h10 : eH), Q15 r9 h10 → ((a3 < r9 → c.2.2.2.2 (.inl (some (.int (0 : Int32)))) h10) ∧ (¬ a3 < r9 → c.2.2.2.2 (.inl (some (.int (1 : Int32)))) h10))))))) : h_X7_isBetween_0 c a0 a1 a2 a3 h k n := by
  refine e_aload_n dX7_isBetween_0 rfl ?_
  refine e_iload_n dX7_isBetween_1 rfl ?_
  obtain ⟨fsg3, g3o, H⟩ := H
  obtain ⟨d4, k5, n6, Q7, g3, g3d, g3k, g3n, H⟩ := H
  refine e_callV (r := (RX7, TX7, 11)) (As := [.int a1]) g3 dX7_isBetween_2 wX7_at q1295 q1297 qs18 g3o rfl rfl g3d rfl (Nat.le_of_ble_eq_true rfl) (k1 := k - k5) (n1 := n - n6) (by omega) (by omega) ?_ ?_
  · rintro v h2 (⟨v9, e9, r1, e8, hq⟩ | ⟨ci9, q9, e9, -⟩)
    · cases e9
      subst e8
      replace H := H r1 h2 hq
      refine e_iload_n dX7_isBetween_5 rfl ?_
      refine e_icmp_lt 22 dX7_isBetween_6 (by decide) (fun g8 => ?_) (fun g8 => ?_)
      · replace H := H.1 g8
        refine e_iconst (0) dX7_isBetween_22 (by decide) ?_
        exact e_ireturn .boolean dX7_isBetween_23 rfl (by decide) H
      · replace H := H.2 g8
        refine e_aload_n dX7_isBetween_9 rfl ?_
        refine e_iload_n dX7_isBetween_10 rfl ?_
        obtain ⟨fsg11, g11o, H⟩ := H
        obtain ⟨d12, k13, n14, Q15, g11, g11d, g11k, g11n, H⟩ := H
        refine e_callV (r := (RX7, TX7, 11)) (As := [.int a1]) g11 dX7_isBetween_11 wX7_at q1295 q1297 qs18 g11o rfl rfl g11d rfl (Nat.le_of_ble_eq_true rfl) (k1 := k - k5 - k13) (n1 := n - n6 - n14) (by omega) (by omega) ?_ ?_
        · rintro v h10 (⟨v9, e9, r9, e8, hq⟩ | ⟨ci9, q9, e9, -⟩)
          · cases e9
            subst e8
            replace H := H r9 h10 hq
            refine e_iload_n dX7_isBetween_14 rfl ?_
            refine e_icmp_gt 22 dX7_isBetween_15 (by decide) (fun g16 => ?_) (fun g16 => ?_)
            · replace H := H.1 g16
              refine e_iconst (0) dX7_isBetween_22 (by decide) ?_
              exact e_ireturn .boolean dX7_isBetween_23 rfl (by decide) H
            · replace H := H.2 g16
              refine e_iconst (1) dX7_isBetween_18 (by decide) ?_
              refine e_goto 23 dX7_isBetween_19 (by decide) ?_
              exact e_ireturn .boolean dX7_isBetween_23 rfl (by decide) H
          · cases e9
        · rintro q9 h9 (⟨v9, e9, -⟩ | ⟨ci9, q8, e9, -, -, hx⟩)
          · cases e9
          · exact hx.elim
    · cases e9
  · rintro q9 h9 (⟨v9, e9, -⟩ | ⟨ci9, q8, e9, -, -, hx⟩)
    · cases e9
    · exact hx.elim
theorem en_X7_isBetween {l : Launch} {lo : Nat} {G : eG} {d : Nat} {P : eO → eH → Prop} (a0 : Nat) (a1 : Int32) (a2 : Int32) (a3 : Int32) {h : eH} {k n : Nat} (H : h_X7_isBetween_0 (l, lo, G, d, P) a0 a1 a2 a3 h k n) : Ct l lo G d mX7_isBetween [.ref a0, .int a1, .int a2, .int a3] h k n P := 
  Ct_of (eArL mX7_isBetween.2.2.2.1 [.ref a0, .int a1, .int a2, .int a3]) (by decide) rfl (Nat.le_of_ble_eq_true rfl) (fun j w q => eArL_mem j w q) (E.less2 H (eS_s (eS_s (eS_s (eS_s eS_0)))))
/-! X7_read TroupeSums$Reader.read()LTroupeSums$Troupe; -/
def h_X7_read_0 (c : cC) (a0 : Nat) (h : eH) (k n : Nat) : Prop := E c.1 c.2.1 c.2.2.1 c.2.2.2.1 mX7_read c.2.2.2.2 0 [some (.ref a0), none] [] h k n
def h_X7_read_5 (c : cC) (a0 : Nat) (h : eH) (k n : Nat) : Prop := E c.1 c.2.1 c.2.2.1 c.2.2.2.1 mX7_read c.2.2.2.2 5 [some (.ref a0), none] [] h k n
def h_X7_read_29 (c : cC) (b0 : Nat) (h : eH) (k n : Nat) : Prop := E c.1 c.2.1 c.2.2.1 c.2.2.2.1 mX7_read c.2.2.2.2 29 [none, none] [.ref b0] h k n
set_option maxHeartbeats 4000000 in
theorem s_X7_read_0 (c : cC) (a0 : Nat) (h : eH) (k n : Nat) (H : ∃ fs8 : List Value, h.1 a0 = some (.inr (7, fs8)) ∧ ∃ (d4 k5 n6 : Nat) (Q7 : eH → Prop) (X8 : Nat → Nat → eH → Prop), cV c.1 c.2.1 c.2.2.1 d4 mX7_line [.ref a0, .int (0 : Int32)] h k5 n6 Q7 X8 ∧ d4 + 1 ≤ c.2.2.2.1 ∧ k5 ≤ k ∧ n6 ≤ n ∧ (∀ h2 : eH, Q7 h2 → (h_X7_read_5 c a0 h2 (k - k5) (n - n6))) ∧ (∀ (ci q : Nat) (h9 : eH), X8 ci q h9 → ci = 11) ∧ (∀ (q9 : Nat) (h10 : eH) (fs9 : List Value), X8 11 q9 h10 → h10.1 q9 = some (.inr (11, fs9)) → c.2.1 ≤ q9 → h_X7_read_29 c q9 h10 (k - k5) (n - n6))) : h_X7_read_0 c a0 h k n := by
  refine e_aload_n dX7_read_0 rfl ?_
  refine e_iconst (0) dX7_read_1 (by decide) ?_
  obtain ⟨fsg3, g3o, H⟩ := H
  obtain ⟨d4, k5, n6, Q7, X8, g3, g3d, g3k, g3n, H, Hx, Hx11⟩ := H
  refine e_callV (r := (RX7, TX7, 11)) (As := [.int (0 : Int32)]) g3 dX7_read_2 wX7_line q1400 q1402 qs20 g3o rfl rfl g3d rfl (Nat.le_of_ble_eq_true rfl) (k1 := k - k5) (n1 := n - n6) (by omega) (by omega) ?_ ?_
  · rintro v h2 (⟨v9, e9, e8, hq⟩ | ⟨ci9, q9, e9, -⟩)
    · cases e9
      subst e8
      replace H := H h2 hq
      exact E.less2 H (eS_s (eS_n eS_0))
    · cases e9
  · rintro q9 h9 (⟨v9, e9, -⟩ | ⟨ci9, q8, e9, gl, ⟨fs9, gq⟩, hx⟩)
    · cases e9
    · cases e9
      rcases Hx ci9 q9 h9 hx with rfl
      · have H := Hx11 q9 h9 fs9 hx gq gl
        refine ex_catch (r := (RX11, TX11, 6)) [] (0, 28, 29, 112) [] rfl (by decide) (by decide) (fun z hz => absurd hz List.not_mem_nil) q1399 q1869 gq rfl gl ?_
        exact E.less2 H (eS_n (eS_n eS_0))
set_option maxHeartbeats 4000000 in
theorem s_X7_read_5 (c : cC) (a0 : Nat) (h : eH) (k n : Nat) (H : ∃ x1 : Int32, fV h a0 7 4 (.int x1) ∧ ((x1 = 0 → ∃ fs8 : List Value, h.1 a0 = some (.inr (7, fs8)) ∧ ∃ (d7 k8 n9 : Nat) (Q10 : eH → Prop), cV c.1 c.2.1 c.2.2.1 d7 mX7_closes [.ref a0] h k8 n9 Q10 cX0 ∧ d7 + 1 ≤ c.2.2.2.1 ∧ k8 ≤ k ∧ n9 ≤ n ∧ (∀ h5 : eH, Q10 h5 → (∃ x11 : Nat, fV h5 a0 7 7 (.ref x11) ∧ (c.2.2.2.2 (.inl (some (.ref x11))) h5)))) ∧ (¬ x1 = 0 → ∃ fs8 : List Value, h.1 a0 = some (.inr (7, fs8)) ∧ ∃ (d16 k17 n18 : Nat) (Q19 : eH → Prop) (X20 : Nat → Nat → eH → Prop), cV c.1 c.2.1 c.2.2.1 d16 mX7_line [.ref a0, .int (1 : Int32)] h k17 n18 Q19 X20 ∧ d16 + 1 ≤ c.2.2.2.1 ∧ k17 ≤ k ∧ n18 ≤ n ∧ (∀ h14 : eH, Q19 h14 → (h_X7_read_5 c a0 h14 (k - k17) (n - n18))) ∧ (∀ (ci q : Nat) (h9 : eH), X20 ci q h9 → ci = 11) ∧ (∀ (q21 : Nat) (h22 : eH) (fs9 : List Value), X20 11 q21 h22 → h22.1 q21 = some (.inr (11, fs9)) → c.2.1 ≤ q21 → h_X7_read_29 c q21 h22 (k - k17) (n - n18))))) : h_X7_read_5 c a0 h k n := by
  refine e_aload_n dX7_read_5 rfl ?_
  obtain ⟨x1, ⟨fsx1, g2, g2v⟩, H⟩ := H
  refine e_get dX7_read_6 fX7_4 q1365 g2 g2v ?_
  refine e_if_eq 20 dX7_read_9 (by decide) (fun g3 => ?_) (fun g3 => ?_)
  · replace H := H.1 g3
    refine e_aload_n dX7_read_20 rfl ?_
    obtain ⟨fsg6, g6o, H⟩ := H
    obtain ⟨d7, k8, n9, Q10, g6, g6d, g6k, g6n, H⟩ := H
    refine e_callV (r := (RX7, TX7, 11)) (As := []) g6 dX7_read_21 wX7_closes q1687 q1689 qs31 g6o rfl rfl g6d rfl (Nat.le_of_ble_eq_true rfl) (k1 := k - k8) (n1 := n - n9) (by omega) (by omega) ?_ ?_
    · rintro v h5 (⟨v9, e9, e8, hq⟩ | ⟨ci9, q9, e9, -⟩)
      · cases e9
        subst e8
        replace H := H h5 hq
        refine e_aload_n dX7_read_24 rfl ?_
        obtain ⟨x11, ⟨fsx11, g12, g12v⟩, H⟩ := H
        refine e_get dX7_read_25 fX7_7 q1368 g12 g12v ?_
        exact e_areturn (r := some x11) _ dX7_read_28 rfl (Or.inl ⟨_, rfl⟩) H
      · cases e9
    · rintro q9 h9 (⟨v9, e9, -⟩ | ⟨ci9, q8, e9, -, -, hx⟩)
      · cases e9
      · exact hx.elim
  · replace H := H.2 g3
    refine e_aload_n dX7_read_12 rfl ?_
    refine e_iconst (1) dX7_read_13 (by decide) ?_
    obtain ⟨fsg15, g15o, H⟩ := H
    obtain ⟨d16, k17, n18, Q19, X20, g15, g15d, g15k, g15n, H, Hx, Hx11⟩ := H
    refine e_callV (r := (RX7, TX7, 11)) (As := [.int (1 : Int32)]) g15 dX7_read_14 wX7_line q1400 q1402 qs20 g15o rfl rfl g15d rfl (Nat.le_of_ble_eq_true rfl) (k1 := k - k17) (n1 := n - n18) (by omega) (by omega) ?_ ?_
    · rintro v h14 (⟨v9, e9, e8, hq⟩ | ⟨ci9, q9, e9, -⟩)
      · cases e9
        subst e8
        replace H := H h14 hq
        refine e_goto 5 dX7_read_17 (by decide) ?_
        exact E.less2 H (eS_s (eS_n eS_0))
      · cases e9
    · rintro q9 h9 (⟨v9, e9, -⟩ | ⟨ci9, q8, e9, gl, ⟨fs9, gq⟩, hx⟩)
      · cases e9
      · cases e9
        rcases Hx ci9 q9 h9 hx with rfl
        · have H := Hx11 q9 h9 fs9 hx gq gl
          refine ex_catch (r := (RX11, TX11, 6)) [] (0, 28, 29, 112) [] rfl (by decide) (by decide) (fun z hz => absurd hz List.not_mem_nil) q1399 q1869 gq rfl gl ?_
          exact E.less2 H (eS_n (eS_n eS_0))
set_option maxHeartbeats 4000000 in
theorem s_X7_read_29 (c : cC) (b0 : Nat) (h : eH) (k n : Nat) (H : 1 ≤ k ∧ 6 ≤ n ∧ ∀ h1 : eH, h1 = eNw h (.inr (12, [.null, .null, .null, .null, .null, .int 0])) → (∃ (d6 k7 n8 : Nat) (Q9 : eH → Prop), cV c.1 c.2.1 c.2.2.1 d6 mX12_init [.ref h.2, .ref b0] h1 k7 n8 Q9 cX0 ∧ d6 + 1 ≤ c.2.2.2.1 ∧ k7 ≤ k - 1 ∧ n8 ≤ n - 6 ∧ (∀ h4 : eH, Q9 h4 → (∃ fs9 : List Value, h4.1 h.2 = some (.inr (12, fs9)) ∧ c.2.1 ≤ h.2 ∧ (c.2.2.2.2 (.inr h.2) h4))))) : h_X7_read_29 c b0 h k n := by
  refine e_astore_n _ dX7_read_29 (by decide) trivial rfl ?_
  obtain ⟨g2, g2n, H⟩ := H
  refine e_new (ci := 12) (N := 6) (C := RX12) (T := TX12) tyX12 (fs := [.null, .null, .null, .null, .null, .int 0]) dX7_read_30 rfl in_X12 tyX12_ok q1882 q1883 q180 (by decide) (k1 := k - 1) (n1 := n - 6) (by omega) (by omega) ?_
  replace H := H _ rfl
  generalize eNw h _ = h1 at H ⊢
  refine e_dup dX7_read_33 rfl ?_
  refine e_aload_n dX7_read_34 rfl ?_
  obtain ⟨d6, k7, n8, Q9, g5, g5d, g5k, g5n, H⟩ := H
  refine e_callI (As := [.ref b0]) g5 dX7_read_35 wX12_init rfl rfl rfl q1891 q1892 rfl g5d rfl (Nat.le_of_ble_eq_true rfl) (k1 := k - 1 - k7) (n1 := n - 6 - n8) (by omega) (by omega) ?_ ?_
  · rintro v h4 (⟨v9, e9, e8, hq⟩ | ⟨ci9, q9, e9, -⟩)
    · cases e9
      subst e8
      replace H := H h4 hq
      obtain ⟨fs9, gq, gl, H⟩ := H
      refine e_athrow dX7_read_38 ?_
      exact ex_out (r := (RX12, TX12, 6)) (fun z hz => (List.mem_cons.mp hz).elim (fun q => by rw [q]; exact (Or.inl (by decide))) (fun hz => (fun z hz => absurd hz List.not_mem_nil) z hz)) gq rfl gl H
    · cases e9
  · rintro q9 h9 (⟨v9, e9, -⟩ | ⟨ci9, q8, e9, -, -, hx⟩)
    · cases e9
    · exact hx.elim
theorem en_X7_read {l : Launch} {lo : Nat} {G : eG} {d : Nat} {P : eO → eH → Prop} (a0 : Nat) {h : eH} {k n : Nat} (H : h_X7_read_0 (l, lo, G, d, P) a0 h k n) : Ct l lo G d mX7_read [.ref a0] h k n P := 
  Ct_of (eArL mX7_read.2.2.2.1 [.ref a0]) (by decide) rfl (Nat.le_of_ble_eq_true rfl) (fun j w q => eArL_mem j w q) (E.less2 H (eS_s (eS_n eS_0)))
/-! X7_line TroupeSums$Reader.line(I)V -/
def h_X7_line_0 (c : cC) (a0 : Nat) (a1 : Int32) (h : eH) (k n : Nat) : Prop := E c.1 c.2.1 c.2.2.1 c.2.2.2.1 mX7_line c.2.2.2.2 0 [some (.ref a0), some (.int a1), none, none, none] [] h k n
def h_X7_line_33 (c : cC) (a0 : Nat) (a1 : Int32) (a2 : Int32) (a3 : Nat) (h : eH) (k n : Nat) : Prop := E c.1 c.2.1 c.2.2.1 c.2.2.2.1 mX7_line c.2.2.2.2 33 [some (.ref a0), some (.int a1), some (.int a2), some (.ref a3), none] [] h k n
def h_X7_line_34 (c : cC) (a0 : Nat) (a1 : Int32) (a2 : Int32) (a3 : Nat) (b0 : Int32) (h : eH) (k n : Nat) : Prop := E c.1 c.2.1 c.2.2.1 c.2.2.2.1 mX7_line c.2.2.2.2 34 [some (.ref a0), some (.int a1), some (.int a2), some (.ref a3), none] [.int b0] h k n
def h_X7_line_64 (c : cC) (a0 : Nat) (a1 : Int32) (a2 : Int32) (a4 : Int32) (b0 : Nat) (h : eH) (k n : Nat) : Prop := E c.1 c.2.1 c.2.2.1 c.2.2.2.1 mX7_line c.2.2.2.2 64 [some (.ref a0), some (.int a1), some (.int a2), none, some (.int a4)] [.ref b0] h k n
def h_X7_line_69 (c : cC) (a0 : Nat) (a1 : Int32) (a2 : Int32) (a4 : Int32) (b0 : Int32) (b1 : Nat) (h : eH) (k n : Nat) : Prop := E c.1 c.2.1 c.2.2.1 c.2.2.2.1 mX7_line c.2.2.2.2 69 [some (.ref a0), some (.int a1), some (.int a2), none, some (.int a4)] [.int b0, .ref b1] h k n
def h_X7_line_104 (c : cC) (a2 : Int32) (b0 : Nat) (h : eH) (k n : Nat) : Prop := E c.1 c.2.1 c.2.2.1 c.2.2.2.1 mX7_line c.2.2.2.2 104 [none, none, some (.int a2), none, none] [.ref b0] h k n
def h_X7_line_123 (c : cC) (b0 : Nat) (h : eH) (k n : Nat) : Prop := E c.1 c.2.1 c.2.2.1 c.2.2.2.1 mX7_line c.2.2.2.2 123 [none, none, none, none, none] [.ref b0] h k n
set_option maxHeartbeats 4000000 in
theorem s_X7_line_0 (c : cC) (a0 : Nat) (a1 : Int32) (h : eH) (k n : Nat) (H : ∃ x1 : Int32, fV h a0 7 2 (.int x1) ∧ (∃ fs8 : List Value, h.1 a0 = some (.inr (7, fs8)) ∧ ∃ (d6 k7 n8 : Nat) (Q9 : Nat → eH → Prop), cR c.1 c.2.1 c.2.2.1 d6 mX7_word [.ref a0] h k7 n8 Q9 cX0 ∧ d6 + 1 ≤ c.2.2.2.1 ∧ k7 ≤ k ∧ n8 ≤ n ∧ (∀ (r3 : Nat) (h4 : eH), Q9 r3 h4 → (∃ fs8 : List Value, h4.1 r3 = some (.inr (18, fs8)) ∧ ∃ (d13 k14 n15 : Nat) (Q16 : Int32 → eH → Prop), cI c.1 c.2.1 c.2.2.1 d13 mJ7_equals [.ref r3, .ref (c.2.2.1.2.2.2 3)] h4 k14 n15 Q16 cX0 ∧ d13 + 1 ≤ c.2.2.2.1 ∧ k14 ≤ k - k7 ∧ n15 ≤ n - n8 ∧ (∀ (r10 : Int32) (h11 : eH), Q16 r10 h11 → ((r10 = 0 → h_X7_line_33 c a0 a1 x1 r3 h11 (k - k7 - k14) (n - n8 - n15)) ∧ (¬ r10 = 0 → ∃ x18 : Nat, fV h11 a0 7 7 (.ref x18) ∧ (∃ x20 : Option Nat, fV h11 x18 1 2 (va_rf x20) ∧ ((x20 = none → h_X7_line_34 c a0 a1 x1 r3 (1 : Int32) h11 (k - k7 - k14) (n - n8 - n15)) ∧ (∀ o22 : Nat, x20 = some o22 → h_X7_line_33 c a0 a1 x1 r3 h11 (k - k7 - k14) (n - n8 - n15))))))))))) : h_X7_line_0 c a0 a1 h k n := by
  refine e_aload_n dX7_line_0 rfl ?_
  obtain ⟨x1, ⟨fsx1, g2, g2v⟩, H⟩ := H
  refine e_get dX7_line_1 fX7_2 q1363 g2 g2v ?_
  refine e_istore_n _ dX7_line_4 (by decide) rfl rfl ?_
  refine e_aload_n dX7_line_5 rfl ?_
  obtain ⟨fsg5, g5o, H⟩ := H
  obtain ⟨d6, k7, n8, Q9, g5, g5d, g5k, g5n, H⟩ := H
  refine e_callV (r := (RX7, TX7, 11)) (As := []) g5 dX7_line_6 wX7_word q1406 q1408 qs21 g5o rfl rfl g5d rfl (Nat.le_of_ble_eq_true rfl) (k1 := k - k7) (n1 := n - n8) (by omega) (by omega) ?_ ?_
  · rintro v h4 (⟨v9, e9, r3, e8, hq⟩ | ⟨ci9, q9, e9, -⟩)
    · cases e9
      subst e8
      replace H := H r3 h4 hq
      refine e_astore_n _ dX7_line_9 (by decide) rfl rfl ?_
      refine e_aload_n dX7_line_10 rfl ?_
      refine e_ldcS (i := 1) dX7_line_11 rfl ?_
      obtain ⟨fsg12, g12o, H⟩ := H
      obtain ⟨d13, k14, n15, Q16, g12, g12d, g12k, g12n, H⟩ := H
      refine e_callV (r := (RJ7, TJ7, 4)) (As := [.ref (c.2.2.1.2.2.2 3)]) g12 dX7_line_13 wJ7_equals q1560 q981 q3170 g12o rfl rfl g12d rfl (Nat.le_of_ble_eq_true rfl) (k1 := k - k7 - k14) (n1 := n - n8 - n15) (by omega) (by omega) ?_ ?_
      · rintro v h11 (⟨v9, e9, r10, e8, hq⟩ | ⟨ci9, q9, e9, -⟩)
        · cases e9
          subst e8
          replace H := H r10 h11 hq
          refine e_if_eq 33 dX7_line_16 (by decide) (fun g17 => ?_) (fun g17 => ?_)
          · replace H := H.1 g17
            exact E.less2 H (eS_s (eS_s (eS_s (eS_s (eS_n eS_0)))))
          · replace H := H.2 g17
            refine e_aload_n dX7_line_19 rfl ?_
            obtain ⟨x18, ⟨fsx18, g19, g19v⟩, H⟩ := H
            refine e_get dX7_line_20 fX7_7 q1368 g19 g19v ?_
            obtain ⟨x20, ⟨fsx20, g21, g21v⟩, H⟩ := H
            refine e_getN dX7_line_23 fX1_2 q239 g21 g21v ?_
            refine e_ifnonnull (r := x20) 33 dX7_line_26 (by decide) (fun o22 g23 => ?_) (fun g23 => ?_)
            · subst g23
              replace H := H.2 o22 rfl
              exact E.less2 H (eS_s (eS_s (eS_s (eS_s (eS_n eS_0)))))
            · subst g23
              replace H := H.1 rfl
              refine e_iconst (1) dX7_line_29 (by decide) ?_
              refine e_goto 34 dX7_line_30 (by decide) ?_
              exact E.less2 H (eS_s (eS_s (eS_s (eS_s (eS_n eS_0)))))
        · cases e9
      · rintro q9 h9 (⟨v9, e9, -⟩ | ⟨ci9, q8, e9, -, -, hx⟩)
        · cases e9
        · exact hx.elim
    · cases e9
  · rintro q9 h9 (⟨v9, e9, -⟩ | ⟨ci9, q8, e9, -, -, hx⟩)
    · cases e9
    · exact hx.elim
set_option maxHeartbeats 4000000 in
theorem s_X7_line_33 (c : cC) (a0 : Nat) (a1 : Int32) (a2 : Int32) (a3 : Nat) (h : eH) (k n : Nat) (H : h_X7_line_34 c a0 a1 a2 a3 (0 : Int32) h k n) : h_X7_line_33 c a0 a1 a2 a3 h k n := by
  refine e_iconst (0) dX7_line_33 (by decide) ?_
  exact E.less2 H (eS_s (eS_s (eS_s (eS_s (eS_n eS_0)))))
set_option maxHeartbeats 4000000 in
theorem s_X7_line_34 (c : cC) (a0 : Nat) (a1 : Int32) (a2 : Int32) (a3 : Nat) (b0 : Int32) (h : eH) (k n : Nat) (H : (¬ a1 = 0 → (¬ b0 = 0 → h_X7_line_64 c a0 a1 a2 b0 a0 h k n) ∧ (b0 = 0 → ∃ fs8 : List Value, h.1 a3 = some (.inr (18, fs8)) ∧ ∃ (d6 k7 n8 : Nat) (Q9 : Int32 → eH → Prop), cI c.1 c.2.1 c.2.2.1 d6 mJ7_equals [.ref a3, .ref (c.2.2.1.2.2.2 5)] h k7 n8 Q9 cX0 ∧ d6 + 1 ≤ c.2.2.2.1 ∧ k7 ≤ k ∧ n8 ≤ n ∧ (∀ (r3 : Int32) (h4 : eH), Q9 r3 h4 → ((r3 = 0 → h_X7_line_69 c a0 a1 a2 b0 (0 : Int32) a0 h4 (k - k7) (n - n8)) ∧ (¬ r3 = 0 → h_X7_line_64 c a0 a1 a2 b0 a0 h4 (k - k7) (n - n8)))))) ∧ (a1 = 0 → ∃ fs8 : List Value, h.1 a3 = some (.inr (18, fs8)) ∧ ∃ (d14 k15 n16 : Nat) (Q17 : Int32 → eH → Prop), cI c.1 c.2.1 c.2.2.1 d14 mJ7_equals [.ref a3, .ref (c.2.2.1.2.2.2 4)] h k15 n16 Q17 cX0 ∧ d14 + 1 ≤ c.2.2.2.1 ∧ k15 ≤ k ∧ n16 ≤ n ∧ (∀ (r11 : Int32) (h12 : eH), Q17 r11 h12 → (h_X7_line_69 c a0 a1 a2 b0 r11 a0 h12 (k - k15) (n - n16))))) : h_X7_line_34 c a0 a1 a2 a3 b0 h k n := by
  refine e_istore _ dX7_line_34 (by decide) rfl rfl ?_
  refine e_aload_n dX7_line_36 rfl ?_
  refine e_iload_n dX7_line_37 rfl ?_
  refine e_if_ne 50 dX7_line_38 (by decide) (fun g1 => ?_) (fun g1 => ?_)
  · replace H := H.1 g1
    refine e_iload dX7_line_50 rfl ?_
    refine e_if_ne 64 dX7_line_52 (by decide) (fun g2 => ?_) (fun g2 => ?_)
    · replace H := H.1 g2
      exact E.less2 H (eS_s (eS_s (eS_s (eS_n (eS_s eS_0)))))
    · replace H := H.2 g2
      refine e_aload_n dX7_line_55 rfl ?_
      refine e_ldcS (i := 3) dX7_line_56 rfl ?_
      obtain ⟨fsg5, g5o, H⟩ := H
      obtain ⟨d6, k7, n8, Q9, g5, g5d, g5k, g5n, H⟩ := H
      refine e_callV (r := (RJ7, TJ7, 4)) (As := [.ref (c.2.2.1.2.2.2 5)]) g5 dX7_line_58 wJ7_equals q1560 q981 q3170 g5o rfl rfl g5d rfl (Nat.le_of_ble_eq_true rfl) (k1 := k - k7) (n1 := n - n8) (by omega) (by omega) ?_ ?_
      · rintro v h4 (⟨v9, e9, r3, e8, hq⟩ | ⟨ci9, q9, e9, -⟩)
        · cases e9
          subst e8
          replace H := H r3 h4 hq
          refine e_if_eq 68 dX7_line_61 (by decide) (fun g10 => ?_) (fun g10 => ?_)
          · replace H := H.1 g10
            refine e_iconst (0) dX7_line_68 (by decide) ?_
            exact E.less2 H (eS_s (eS_s (eS_s (eS_n (eS_s eS_0)))))
          · replace H := H.2 g10
            exact E.less2 H (eS_s (eS_s (eS_s (eS_n (eS_s eS_0)))))
        · cases e9
      · rintro q9 h9 (⟨v9, e9, -⟩ | ⟨ci9, q8, e9, -, -, hx⟩)
        · cases e9
        · exact hx.elim
  · replace H := H.2 g1
    refine e_aload_n dX7_line_41 rfl ?_
    refine e_ldcS (i := 2) dX7_line_42 rfl ?_
    obtain ⟨fsg13, g13o, H⟩ := H
    obtain ⟨d14, k15, n16, Q17, g13, g13d, g13k, g13n, H⟩ := H
    refine e_callV (r := (RJ7, TJ7, 4)) (As := [.ref (c.2.2.1.2.2.2 4)]) g13 dX7_line_44 wJ7_equals q1560 q981 q3170 g13o rfl rfl g13d rfl (Nat.le_of_ble_eq_true rfl) (k1 := k - k15) (n1 := n - n16) (by omega) (by omega) ?_ ?_
    · rintro v h12 (⟨v9, e9, r11, e8, hq⟩ | ⟨ci9, q9, e9, -⟩)
      · cases e9
        subst e8
        replace H := H r11 h12 hq
        refine e_goto 69 dX7_line_47 (by decide) ?_
        exact E.less2 H (eS_s (eS_s (eS_s (eS_n (eS_s eS_0)))))
      · cases e9
    · rintro q9 h9 (⟨v9, e9, -⟩ | ⟨ci9, q8, e9, -, -, hx⟩)
      · cases e9
      · exact hx.elim
set_option maxHeartbeats 4000000 in
theorem s_X7_line_64 (c : cC) (a0 : Nat) (a1 : Int32) (a2 : Int32) (a4 : Int32) (b0 : Nat) (h : eH) (k n : Nat) (H : h_X7_line_69 c a0 a1 a2 a4 (1 : Int32) b0 h k n) : h_X7_line_64 c a0 a1 a2 a4 b0 h k n := by
  refine e_iconst (1) dX7_line_64 (by decide) ?_
  refine e_goto 69 dX7_line_65 (by decide) ?_
  exact E.less2 H (eS_s (eS_s (eS_s (eS_n (eS_s eS_0)))))
set_option maxHeartbeats 4000000 in
theorem s_X7_line_69 (c : cC) (a0 : Nat) (a1 : Int32) (a2 : Int32) (a4 : Int32) (b0 : Int32) (b1 : Nat) (h : eH) (k n : Nat) (H : ∃ fs8 : List Value, h.1 b1 = some (.inr (7, fs8)) ∧ ∃ (d4 k5 n6 : Nat) (Q7 : eH → Prop) (X42 : Nat → Nat → eH → Prop), cV c.1 c.2.1 c.2.2.1 d4 mX7_need [.ref b1, .int b0, .int (2 : Int32)] h k5 n6 Q7 X42 ∧ d4 + 1 ≤ c.2.2.2.1 ∧ k5 ≤ k ∧ n6 ≤ n ∧ (∀ h2 : eH, Q7 h2 → ((¬ a1 = 0 → (a4 = 0 → ∃ fs8 : List Value, h2.1 a0 = some (.inr (7, fs8)) ∧ ∃ (d13 k14 n15 : Nat) (Q16 : eH → Prop) (X17 : Nat → Nat → eH → Prop), cV c.1 c.2.1 c.2.2.1 d13 mX7_let [.ref a0] h2 k14 n15 Q16 X17 ∧ d13 + 1 ≤ c.2.2.2.1 ∧ k14 ≤ k - k5 ∧ n15 ≤ n - n6 ∧ (∀ h11 : eH, Q16 h11 → (c.2.2.2.2 (.inl none) h11)) ∧ (∀ (ci q : Nat) (h9 : eH), X17 ci q h9 → ci = 8 ∨ ci = 10) ∧ (∀ (q18 : Nat) (h19 : eH) (fs9 : List Value), X17 8 q18 h19 → h19.1 q18 = some (.inr (8, fs9)) → c.2.1 ≤ q18 → h_X7_line_123 c q18 h19 (k - k5 - k14) (n - n6 - n15)) ∧ (∀ (q20 : Nat) (h21 : eH) (fs9 : List Value), X17 10 q20 h21 → h21.1 q20 = some (.inr (10, fs9)) → c.2.1 ≤ q20 → h_X7_line_104 c a2 q20 h21 (k - k5 - k14) (n - n6 - n15))) ∧ (¬ a4 = 0 → ∃ fs8 : List Value, h2.1 a0 = some (.inr (7, fs8)) ∧ ∃ (d25 k26 n27 : Nat) (Q28 : eH → Prop) (X29 : Nat → Nat → eH → Prop), cV c.1 c.2.1 c.2.2.1 d25 mX7_move [.ref a0, .int a2] h2 k26 n27 Q28 X29 ∧ d25 + 1 ≤ c.2.2.2.1 ∧ k26 ≤ k - k5 ∧ n27 ≤ n - n6 ∧ (∀ h23 : eH, Q28 h23 → (c.2.2.2.2 (.inl none) h23)) ∧ (∀ (ci q : Nat) (h9 : eH), X29 ci q h9 → ci = 8) ∧ (∀ (q30 : Nat) (h31 : eH) (fs9 : List Value), X29 8 q30 h31 → h31.1 q30 = some (.inr (8, fs9)) → c.2.1 ≤ q30 → h_X7_line_123 c q30 h31 (k - k5 - k26) (n - n6 - n27)))) ∧ (a1 = 0 → ∃ fs8 : List Value, h2.1 a0 = some (.inr (7, fs8)) ∧ ∃ (d35 k36 n37 : Nat) (Q38 : eH → Prop) (X39 : Nat → Nat → eH → Prop), cV c.1 c.2.1 c.2.2.1 d35 mX7_places [.ref a0] h2 k36 n37 Q38 X39 ∧ d35 + 1 ≤ c.2.2.2.1 ∧ k36 ≤ k - k5 ∧ n37 ≤ n - n6 ∧ (∀ h33 : eH, Q38 h33 → (c.2.2.2.2 (.inl none) h33)) ∧ (∀ (ci q : Nat) (h9 : eH), X39 ci q h9 → ci = 8) ∧ (∀ (q40 : Nat) (h41 : eH) (fs9 : List Value), X39 8 q40 h41 → h41.1 q40 = some (.inr (8, fs9)) → c.2.1 ≤ q40 → h_X7_line_123 c q40 h41 (k - k5 - k36) (n - n6 - n37))))) ∧ (∀ (ci q : Nat) (h9 : eH), X42 ci q h9 → ci = 8) ∧ (∀ (q43 : Nat) (h44 : eH) (fs9 : List Value), X42 8 q43 h44 → h44.1 q43 = some (.inr (8, fs9)) → c.2.1 ≤ q43 → h_X7_line_123 c q43 h44 (k - k5) (n - n6))) : h_X7_line_69 c a0 a1 a2 a4 b0 b1 h k n := by
  refine e_iconst (2) dX7_line_69 (by decide) ?_
  obtain ⟨fsg3, g3o, H⟩ := H
  obtain ⟨d4, k5, n6, Q7, X42, g3, g3d, g3k, g3n, H, Hx, Hx8⟩ := H
  refine e_callV (r := (RX7, TX7, 11)) (As := [.int b0, .int (2 : Int32)]) g3 dX7_line_70 wX7_need q1563 q1565 qs22 g3o rfl rfl g3d rfl (Nat.le_of_ble_eq_true rfl) (k1 := k - k5) (n1 := n - n6) (by omega) (by omega) ?_ ?_
  · rintro v h2 (⟨v9, e9, e8, hq⟩ | ⟨ci9, q9, e9, -⟩)
    · cases e9
      subst e8
      replace H := H h2 hq
      refine e_iload_n dX7_line_73 rfl ?_
      refine e_if_ne 84 dX7_line_74 (by decide) (fun g8 => ?_) (fun g8 => ?_)
      · replace H := H.1 g8
        refine e_iload dX7_line_84 rfl ?_
        refine e_if_eq 97 dX7_line_86 (by decide) (fun g9 => ?_) (fun g9 => ?_)
        · replace H := H.1 g9
          refine e_aload_n dX7_line_97 rfl ?_
          obtain ⟨fsg12, g12o, H⟩ := H
          obtain ⟨d13, k14, n15, Q16, X17, g12, g12d, g12k, g12n, H, Hx, Hx8, Hx10⟩ := H
          refine e_callV (r := (RX7, TX7, 11)) (As := []) g12 dX7_line_98 wX7_let q1681 q1683 qs30 g12o rfl rfl g12d rfl (Nat.le_of_ble_eq_true rfl) (k1 := k - k5 - k14) (n1 := n - n6 - n15) (by omega) (by omega) ?_ ?_
          · rintro v h11 (⟨v9, e9, e8, hq⟩ | ⟨ci9, q9, e9, -⟩)
            · cases e9
              subst e8
              replace H := H h11 hq
              refine e_goto 133 dX7_line_101 (by decide) ?_
              exact e_return dX7_line_133 rfl H
            · cases e9
          · rintro q9 h9 (⟨v9, e9, -⟩ | ⟨ci9, q8, e9, gl, ⟨fs9, gq⟩, hx⟩)
            · cases e9
            · cases e9
              rcases Hx ci9 q9 h9 hx with rfl | rfl
              · have H := Hx8 q9 h9 fs9 hx gq gl
                refine ex_catch (r := (RX8, TX8, 8)) [(5, 101, 104, 136)] (5, 101, 123, 60) [] rfl (by decide) (by decide) (fun z hz => (List.mem_cons.mp hz).elim (fun q => by rw [q]; exact (Or.inr ⟨by decide, q1404, rfl⟩)) (fun hz => (fun z hz => absurd hz List.not_mem_nil) z hz)) q1405 q1568 gq rfl gl ?_
                exact E.less2 H (eS_n (eS_n (eS_n (eS_n (eS_n eS_0)))))
              · have H := Hx10 q9 h9 fs9 hx gq gl
                refine ex_catch (r := (RX10, TX10, 6)) [] (5, 101, 104, 136) [(5, 101, 123, 60)] rfl (by decide) (by decide) (fun z hz => absurd hz List.not_mem_nil) q1404 q1795 gq rfl gl ?_
                exact E.less2 H (eS_n (eS_n (eS_s (eS_n (eS_n eS_0)))))
        · replace H := H.2 g9
          refine e_aload_n dX7_line_89 rfl ?_
          refine e_iload_n dX7_line_90 rfl ?_
          obtain ⟨fsg24, g24o, H⟩ := H
          obtain ⟨d25, k26, n27, Q28, X29, g24, g24d, g24k, g24n, H, Hx, Hx8⟩ := H
          refine e_callV (r := (RX7, TX7, 11)) (As := [.int a2]) g24 dX7_line_91 wX7_move q1657 q1659 qs28 g24o rfl rfl g24d rfl (Nat.le_of_ble_eq_true rfl) (k1 := k - k5 - k26) (n1 := n - n6 - n27) (by omega) (by omega) ?_ ?_
          · rintro v h23 (⟨v9, e9, e8, hq⟩ | ⟨ci9, q9, e9, -⟩)
            · cases e9
              subst e8
              replace H := H h23 hq
              refine e_goto 101 dX7_line_94 (by decide) ?_
              refine e_goto 133 dX7_line_101 (by decide) ?_
              exact e_return dX7_line_133 rfl H
            · cases e9
          · rintro q9 h9 (⟨v9, e9, -⟩ | ⟨ci9, q8, e9, gl, ⟨fs9, gq⟩, hx⟩)
            · cases e9
            · cases e9
              rcases Hx ci9 q9 h9 hx with rfl
              · have H := Hx8 q9 h9 fs9 hx gq gl
                refine ex_catch (r := (RX8, TX8, 8)) [(5, 101, 104, 136)] (5, 101, 123, 60) [] rfl (by decide) (by decide) (fun z hz => (List.mem_cons.mp hz).elim (fun q => by rw [q]; exact (Or.inr ⟨by decide, q1404, rfl⟩)) (fun hz => (fun z hz => absurd hz List.not_mem_nil) z hz)) q1405 q1568 gq rfl gl ?_
                exact E.less2 H (eS_n (eS_n (eS_n (eS_n (eS_n eS_0)))))
      · replace H := H.2 g8
        refine e_aload_n dX7_line_77 rfl ?_
        obtain ⟨fsg34, g34o, H⟩ := H
        obtain ⟨d35, k36, n37, Q38, X39, g34, g34d, g34k, g34n, H, Hx, Hx8⟩ := H
        refine e_callV (r := (RX7, TX7, 11)) (As := []) g34 dX7_line_78 wX7_places q1637 q1639 qs24 g34o rfl rfl g34d rfl (Nat.le_of_ble_eq_true rfl) (k1 := k - k5 - k36) (n1 := n - n6 - n37) (by omega) (by omega) ?_ ?_
        · rintro v h33 (⟨v9, e9, e8, hq⟩ | ⟨ci9, q9, e9, -⟩)
          · cases e9
            subst e8
            replace H := H h33 hq
            refine e_goto 101 dX7_line_81 (by decide) ?_
            refine e_goto 133 dX7_line_101 (by decide) ?_
            exact e_return dX7_line_133 rfl H
          · cases e9
        · rintro q9 h9 (⟨v9, e9, -⟩ | ⟨ci9, q8, e9, gl, ⟨fs9, gq⟩, hx⟩)
          · cases e9
          · cases e9
            rcases Hx ci9 q9 h9 hx with rfl
            · have H := Hx8 q9 h9 fs9 hx gq gl
              refine ex_catch (r := (RX8, TX8, 8)) [(5, 101, 104, 136)] (5, 101, 123, 60) [] rfl (by decide) (by decide) (fun z hz => (List.mem_cons.mp hz).elim (fun q => by rw [q]; exact (Or.inr ⟨by decide, q1404, rfl⟩)) (fun hz => (fun z hz => absurd hz List.not_mem_nil) z hz)) q1405 q1568 gq rfl gl ?_
              exact E.less2 H (eS_n (eS_n (eS_n (eS_n (eS_n eS_0)))))
    · cases e9
  · rintro q9 h9 (⟨v9, e9, -⟩ | ⟨ci9, q8, e9, gl, ⟨fs9, gq⟩, hx⟩)
    · cases e9
    · cases e9
      rcases Hx ci9 q9 h9 hx with rfl
      · have H := Hx8 q9 h9 fs9 hx gq gl
        refine ex_catch (r := (RX8, TX8, 8)) [(5, 101, 104, 136)] (5, 101, 123, 60) [] rfl (by decide) (by decide) (fun z hz => (List.mem_cons.mp hz).elim (fun q => by rw [q]; exact (Or.inr ⟨by decide, q1404, rfl⟩)) (fun hz => (fun z hz => absurd hz List.not_mem_nil) z hz)) q1405 q1568 gq rfl gl ?_
        exact E.less2 H (eS_n (eS_n (eS_n (eS_n (eS_n eS_0)))))
set_option maxHeartbeats 4000000 in
theorem s_X7_line_104 (c : cC) (a2 : Int32) (b0 : Nat) (h : eH) (k n : Nat) (H : 1 ≤ k ∧ 6 ≤ n ∧ ∀ h1 : eH, h1 = eNw h (.inr (11, [.null, .null, .null, .null, .null, .int 0])) → (1 ≤ k - 1 ∧ 8 ≤ n - 6 ∧ ∀ h3 : eH, h3 = eNw h1 (.inr (8, [.null, .null, .null, .null, .null, .int 0, .int 0, .int 0])) → (∃ (d8 k9 n10 : Nat) (Q11 : eH → Prop), cV c.1 c.2.1 c.2.2.1 d8 mX8_init [.ref h1.2, .int (6 : Int32), .int a2] h3 k9 n10 Q11 cX0 ∧ d8 + 1 ≤ c.2.2.2.1 ∧ k9 ≤ k - 1 - 1 ∧ n10 ≤ n - 6 - 8 ∧ (∀ h6 : eH, Q11 h6 → (∃ (d15 k16 n17 : Nat) (Q18 : eH → Prop), cV c.1 c.2.1 c.2.2.1 d15 mX11_init [.ref h.2, .ref h1.2] h6 k16 n17 Q18 cX0 ∧ d15 + 1 ≤ c.2.2.2.1 ∧ k16 ≤ k - 1 - 1 - k9 ∧ n17 ≤ n - 6 - 8 - n10 ∧ (∀ h13 : eH, Q18 h13 → (∃ fs9 : List Value, h13.1 h.2 = some (.inr (11, fs9)) ∧ c.2.1 ≤ h.2 ∧ (c.2.2.2.2 (.inr h.2) h13)))))))) : h_X7_line_104 c a2 b0 h k n := by
  refine e_astore_n _ dX7_line_104 (by decide) rfl rfl ?_
  obtain ⟨g2, g2n, H⟩ := H
  refine e_new (ci := 11) (N := 6) (C := RX11) (T := TX11) tyX11 (fs := [.null, .null, .null, .null, .null, .int 0]) dX7_line_105 rfl in_X11 tyX11_ok q1399 q1868 q179 (by decide) (k1 := k - 1) (n1 := n - 6) (by omega) (by omega) ?_
  replace H := H _ rfl
  generalize eNw h _ = h1 at H ⊢
  refine e_dup dX7_line_108 rfl ?_
  obtain ⟨g4, g4n, H⟩ := H
  refine e_new (ci := 8) (N := 8) (C := RX8) (T := TX8) tyX8 (fs := [.null, .null, .null, .null, .null, .int 0, .int 0, .int 0]) dX7_line_109 rfl in_X8 tyX8_ok q1405 q1567 q176 (by decide) (k1 := k - 1 - 1) (n1 := n - 6 - 8) (by omega) (by omega) ?_
  replace H := H _ rfl
  generalize eNw h1 _ = h3 at H ⊢
  refine e_dup dX7_line_112 rfl ?_
  refine e_bipush (6) dX7_line_113 (by decide) ?_
  refine e_iload_n dX7_line_115 rfl ?_
  obtain ⟨d8, k9, n10, Q11, g7, g7d, g7k, g7n, H⟩ := H
  refine e_callI (As := [.int (6 : Int32), .int a2]) g7 dX7_line_116 wX8_init rfl rfl rfl q1607 q1608 rfl g7d rfl (Nat.le_of_ble_eq_true rfl) (k1 := k - 1 - 1 - k9) (n1 := n - 6 - 8 - n10) (by omega) (by omega) ?_ ?_
  · rintro v h6 (⟨v9, e9, e8, hq⟩ | ⟨ci9, q9, e9, -⟩)
    · cases e9
      subst e8
      replace H := H h6 hq
      obtain ⟨d15, k16, n17, Q18, g14, g14d, g14k, g14n, H⟩ := H
      refine e_callI (As := [.ref h1.2]) g14 dX7_line_119 wX11_init rfl rfl rfl q1876 q1877 rfl g14d rfl (Nat.le_of_ble_eq_true rfl) (k1 := k - 1 - 1 - k9 - k16) (n1 := n - 6 - 8 - n10 - n17) (by omega) (by omega) ?_ ?_
      · rintro v h13 (⟨v9, e9, e8, hq⟩ | ⟨ci9, q9, e9, -⟩)
        · cases e9
          subst e8
          replace H := H h13 hq
          obtain ⟨fs9, gq, gl, H⟩ := H
          refine e_athrow dX7_line_122 ?_
          exact ex_out (r := (RX11, TX11, 6)) (fun z hz => (List.mem_cons.mp hz).elim (fun q => by rw [q]; exact (Or.inl (by decide))) (fun hz => (fun z hz => (List.mem_cons.mp hz).elim (fun q => by rw [q]; exact (Or.inl (by decide))) (fun hz => (fun z hz => absurd hz List.not_mem_nil) z hz)) z hz)) gq rfl gl H
        · cases e9
      · rintro q9 h9 (⟨v9, e9, -⟩ | ⟨ci9, q8, e9, -, -, hx⟩)
        · cases e9
        · exact hx.elim
    · cases e9
  · rintro q9 h9 (⟨v9, e9, -⟩ | ⟨ci9, q8, e9, -, -, hx⟩)
    · cases e9
    · exact hx.elim
set_option maxHeartbeats 4000000 in
theorem s_X7_line_123 (c : cC) (b0 : Nat) (h : eH) (k n : Nat) (H : 1 ≤ k ∧ 6 ≤ n ∧ ∀ h1 : eH, h1 = eNw h (.inr (11, [.null, .null, .null, .null, .null, .int 0])) → (∃ (d6 k7 n8 : Nat) (Q9 : eH → Prop), cV c.1 c.2.1 c.2.2.1 d6 mX11_init [.ref h.2, .ref b0] h1 k7 n8 Q9 cX0 ∧ d6 + 1 ≤ c.2.2.2.1 ∧ k7 ≤ k - 1 ∧ n8 ≤ n - 6 ∧ (∀ h4 : eH, Q9 h4 → (∃ fs9 : List Value, h4.1 h.2 = some (.inr (11, fs9)) ∧ c.2.1 ≤ h.2 ∧ (c.2.2.2.2 (.inr h.2) h4))))) : h_X7_line_123 c b0 h k n := by
  refine e_astore_n _ dX7_line_123 (by decide) trivial rfl ?_
  obtain ⟨g2, g2n, H⟩ := H
  refine e_new (ci := 11) (N := 6) (C := RX11) (T := TX11) tyX11 (fs := [.null, .null, .null, .null, .null, .int 0]) dX7_line_124 rfl in_X11 tyX11_ok q1399 q1868 q179 (by decide) (k1 := k - 1) (n1 := n - 6) (by omega) (by omega) ?_
  replace H := H _ rfl
  generalize eNw h _ = h1 at H ⊢
  refine e_dup dX7_line_127 rfl ?_
  refine e_aload_n dX7_line_128 rfl ?_
  obtain ⟨d6, k7, n8, Q9, g5, g5d, g5k, g5n, H⟩ := H
  refine e_callI (As := [.ref b0]) g5 dX7_line_129 wX11_init rfl rfl rfl q1876 q1877 rfl g5d rfl (Nat.le_of_ble_eq_true rfl) (k1 := k - 1 - k7) (n1 := n - 6 - n8) (by omega) (by omega) ?_ ?_
  · rintro v h4 (⟨v9, e9, e8, hq⟩ | ⟨ci9, q9, e9, -⟩)
    · cases e9
      subst e8
      replace H := H h4 hq
      obtain ⟨fs9, gq, gl, H⟩ := H
      refine e_athrow dX7_line_132 ?_
      exact ex_out (r := (RX11, TX11, 6)) (fun z hz => (List.mem_cons.mp hz).elim (fun q => by rw [q]; exact (Or.inl (by decide))) (fun hz => (fun z hz => (List.mem_cons.mp hz).elim (fun q => by rw [q]; exact (Or.inl (by decide))) (fun hz => (fun z hz => absurd hz List.not_mem_nil) z hz)) z hz)) gq rfl gl H
    · cases e9
  · rintro q9 h9 (⟨v9, e9, -⟩ | ⟨ci9, q8, e9, -, -, hx⟩)
    · cases e9
    · exact hx.elim
theorem en_X7_line {l : Launch} {lo : Nat} {G : eG} {d : Nat} {P : eO → eH → Prop} (a0 : Nat) (a1 : Int32) {h : eH} {k n : Nat} (H : h_X7_line_0 (l, lo, G, d, P) a0 a1 h k n) : Ct l lo G d mX7_line [.ref a0, .int a1] h k n P := 
  Ct_of (eArL mX7_line.2.2.2.1 [.ref a0, .int a1]) (by decide) rfl (Nat.le_of_ble_eq_true rfl) (fun j w q => eArL_mem j w q) (E.less2 H (eS_s (eS_s (eS_n (eS_n (eS_n eS_0))))))
/-! X7_word TroupeSums$Reader.word()Ljava/lang/String; -/
def h_X7_word_0 (c : cC) (a0 : Nat) (h : eH) (k n : Nat) : Prop := E c.1 c.2.1 c.2.2.1 c.2.2.2.1 mX7_word c.2.2.2.2 0 [some (.ref a0), none, none] [] h k n
def h_X7_word_13 (c : cC) (a0 : Nat) (a1 : Nat) (a2 : Int32) (h : eH) (k n : Nat) : Prop := E c.1 c.2.1 c.2.2.1 c.2.2.2.1 mX7_word c.2.2.2.2 13 [some (.ref a0), some (.ref a1), some (.int a2)] [] h k n
def h_X7_word_46 (c : cC) (a1 : Nat) (h : eH) (k n : Nat) : Prop := E c.1 c.2.1 c.2.2.1 c.2.2.2.1 mX7_word c.2.2.2.2 46 [none, some (.ref a1), none] [] h k n
set_option maxHeartbeats 4000000 in
theorem s_X7_word_0 (c : cC) (a0 : Nat) (h : eH) (k n : Nat) (H : 1 ≤ k ∧ 4 ≤ n ∧ ∀ h1 : eH, h1 = eNw h (.inr (25, [.null, .int 0, .int 0, .int 0])) → (∃ (d6 k7 n8 : Nat) (Q9 : eH → Prop), cV c.1 c.2.1 c.2.2.1 d6 mJ28_init [.ref h.2] h1 k7 n8 Q9 cX0 ∧ d6 + 1 ≤ c.2.2.2.1 ∧ k7 ≤ k - 1 ∧ n8 ≤ n - 4 ∧ (∀ h4 : eH, Q9 h4 → (∃ x10 : Int32, fV h4 a0 7 2 (.int x10) ∧ (h_X7_word_13 c a0 h.2 x10 h4 (k - 1 - k7) (n - 4 - n8)))))) : h_X7_word_0 c a0 h k n := by
  obtain ⟨g2, g2n, H⟩ := H
  refine e_new (ci := 25) (N := 4) (C := RJ28) (T := TJ28) tyJ28 (fs := [.null, .int 0, .int 0, .int 0]) dX7_word_0 rfl in_J28 tyJ28_ok q1410 q1411 q173 (by decide) (k1 := k - 1) (n1 := n - 4) (by omega) (by omega) ?_
  replace H := H _ rfl
  generalize eNw h _ = h1 at H ⊢
  refine e_dup dX7_word_3 rfl ?_
  obtain ⟨d6, k7, n8, Q9, g5, g5d, g5k, g5n, H⟩ := H
  refine e_callI (As := []) g5 dX7_word_4 wJ28_init rfl rfl rfl q1412 q1413 rfl g5d rfl (Nat.le_of_ble_eq_true rfl) (k1 := k - 1 - k7) (n1 := n - 4 - n8) (by omega) (by omega) ?_ ?_
  · rintro v h4 (⟨v9, e9, e8, hq⟩ | ⟨ci9, q9, e9, -⟩)
    · cases e9
      subst e8
      replace H := H h4 hq
      refine e_astore_n _ dX7_word_7 (by decide) rfl rfl ?_
      refine e_aload_n dX7_word_8 rfl ?_
      obtain ⟨x10, ⟨fsx10, g11, g11v⟩, H⟩ := H
      refine e_get dX7_word_9 fX7_2 q1363 g11 g11v ?_
      refine e_istore_n _ dX7_word_12 (by decide) rfl rfl ?_
      exact E.less2 H (eS_s (eS_s (eS_s eS_0)))
    · cases e9
  · rintro q9 h9 (⟨v9, e9, -⟩ | ⟨ci9, q8, e9, -, -, hx⟩)
    · cases e9
    · exact hx.elim
set_option maxHeartbeats 4000000 in
theorem s_X7_word_13 (c : cC) (a0 : Nat) (a1 : Nat) (a2 : Int32) (h : eH) (k n : Nat) (H : ∃ x1 : Int32, fV h a0 7 3 (.int x1) ∧ ((x1 ≤ a2 → h_X7_word_46 c a1 h k n) ∧ (¬ x1 ≤ a2 → ∃ x4 : Int32, fV h a0 7 4 (.int x4) ∧ ((¬ x4 = (1 : Int32) → h_X7_word_46 c a1 h k n) ∧ (x4 = (1 : Int32) → ∃ fs8 : List Value, h.1 a0 = some (.inr (7, fs8)) ∧ ∃ (d10 k11 n12 : Nat) (Q13 : Int32 → eH → Prop), cI c.1 c.2.1 c.2.2.1 d10 mX7_at [.ref a0, .int a2] h k11 n12 Q13 cX0 ∧ d10 + 1 ≤ c.2.2.2.1 ∧ k11 ≤ k ∧ n12 ≤ n ∧ (∀ (r7 : Int32) (h8 : eH), Q13 r7 h8 → (∃ fs8 : List Value, h8.1 a1 = some (.inr (25, fs8)) ∧ ∃ (d17 k18 n19 : Nat) (Q20 : Nat → eH → Prop), cR c.1 c.2.1 c.2.2.1 d17 mJ28_append [.ref a1, .int ((r7.toUInt32 % 65536).toInt32)] h8 k18 n19 Q20 cX0 ∧ d17 + 1 ≤ c.2.2.2.1 ∧ k18 ≤ k - k11 ∧ n19 ≤ n - n12 ∧ (∀ (r14 : Nat) (h15 : eH), Q20 r14 h15 → (h_X7_word_13 c a0 a1 (a2 + 1) h15 (k - k11 - k18) (n - n12 - n19)))))))))) : h_X7_word_13 c a0 a1 a2 h k n := by
  refine e_iload_n dX7_word_13 rfl ?_
  refine e_aload_n dX7_word_14 rfl ?_
  obtain ⟨x1, ⟨fsx1, g2, g2v⟩, H⟩ := H
  refine e_get dX7_word_15 fX7_3 q1364 g2 g2v ?_
  refine e_icmp_ge 46 dX7_word_18 (by decide) (fun g3 => ?_) (fun g3 => ?_)
  · replace H := H.1 g3
    exact E.less2 H (eS_n (eS_s (eS_n eS_0)))
  · replace H := H.2 g3
    refine e_aload_n dX7_word_21 rfl ?_
    obtain ⟨x4, ⟨fsx4, g5, g5v⟩, H⟩ := H
    refine e_get dX7_word_22 fX7_4 q1365 g5 g5v ?_
    refine e_iconst (1) dX7_word_25 (by decide) ?_
    refine e_icmp_ne 46 dX7_word_26 (by decide) (fun g6 => ?_) (fun g6 => ?_)
    · replace H := H.1 g6
      exact E.less2 H (eS_n (eS_s (eS_n eS_0)))
    · replace H := H.2 g6
      refine e_aload_n dX7_word_29 rfl ?_
      refine e_aload_n dX7_word_30 rfl ?_
      refine e_iload_n dX7_word_31 rfl ?_
      obtain ⟨fsg9, g9o, H⟩ := H
      obtain ⟨d10, k11, n12, Q13, g9, g9d, g9k, g9n, H⟩ := H
      refine e_callV (r := (RX7, TX7, 11)) (As := [.int a2]) g9 dX7_word_32 wX7_at q1295 q1297 qs18 g9o rfl rfl g9d rfl (Nat.le_of_ble_eq_true rfl) (k1 := k - k11) (n1 := n - n12) (by omega) (by omega) ?_ ?_
      · rintro v h8 (⟨v9, e9, r7, e8, hq⟩ | ⟨ci9, q9, e9, -⟩)
        · cases e9
          subst e8
          replace H := H r7 h8 hq
          refine e_i2c dX7_word_35 ?_
          obtain ⟨fsg16, g16o, H⟩ := H
          obtain ⟨d17, k18, n19, Q20, g16, g16d, g16k, g16n, H⟩ := H
          refine e_callV (r := (RJ28, TJ28, 4)) (As := [.int ((r7.toUInt32 % 65536).toInt32)]) g16 dX7_word_36 wJ28_append q1438 q1439 q1440 g16o rfl rfl g16d rfl (Nat.le_of_ble_eq_true rfl) (k1 := k - k11 - k18) (n1 := n - n12 - n19) (by omega) (by omega) ?_ ?_
          · rintro v h15 (⟨v9, e9, r14, e8, hq⟩ | ⟨ci9, q9, e9, -⟩)
            · cases e9
              subst e8
              replace H := H r14 h15 hq
              refine e_pop dX7_word_39 rfl ?_
              refine e_iinc (a2 + 1) _ dX7_word_40 rfl rfl (by decide) rfl rfl ?_
              refine e_goto 13 dX7_word_43 (by decide) ?_
              exact E.less2 H (eS_s (eS_s (eS_s eS_0)))
            · cases e9
          · rintro q9 h9 (⟨v9, e9, -⟩ | ⟨ci9, q8, e9, -, -, hx⟩)
            · cases e9
            · exact hx.elim
        · cases e9
      · rintro q9 h9 (⟨v9, e9, -⟩ | ⟨ci9, q8, e9, -, -, hx⟩)
        · cases e9
        · exact hx.elim
set_option maxHeartbeats 4000000 in
theorem s_X7_word_46 (c : cC) (a1 : Nat) (h : eH) (k n : Nat) (H : ∃ fs8 : List Value, h.1 a1 = some (.inr (25, fs8)) ∧ ∃ (d4 k5 n6 : Nat) (Q7 : Nat → eH → Prop), cR c.1 c.2.1 c.2.2.1 d4 mJ28_toString [.ref a1] h k5 n6 Q7 cX0 ∧ d4 + 1 ≤ c.2.2.2.1 ∧ k5 ≤ k ∧ n6 ≤ n ∧ (∀ (r1 : Nat) (h2 : eH), Q7 r1 h2 → (c.2.2.2.2 (.inl (some (.ref r1))) h2))) : h_X7_word_46 c a1 h k n := by
  refine e_aload_n dX7_word_46 rfl ?_
  obtain ⟨fsg3, g3o, H⟩ := H
  obtain ⟨d4, k5, n6, Q7, g3, g3d, g3k, g3n, H⟩ := H
  refine e_callV (r := (RJ28, TJ28, 4)) (As := []) g3 dX7_word_47 wJ28_toString q1500 q1501 q1502 g3o rfl rfl g3d rfl (Nat.le_of_ble_eq_true rfl) (k1 := k - k5) (n1 := n - n6) (by omega) (by omega) ?_ ?_
  · rintro v h2 (⟨v9, e9, r1, e8, hq⟩ | ⟨ci9, q9, e9, -⟩)
    · cases e9
      subst e8
      replace H := H r1 h2 hq
      exact e_areturn (r := some r1) _ dX7_word_50 rfl (Or.inl ⟨_, rfl⟩) H
    · cases e9
  · rintro q9 h9 (⟨v9, e9, -⟩ | ⟨ci9, q8, e9, -, -, hx⟩)
    · cases e9
    · exact hx.elim
theorem en_X7_word {l : Launch} {lo : Nat} {G : eG} {d : Nat} {P : eO → eH → Prop} (a0 : Nat) {h : eH} {k n : Nat} (H : h_X7_word_0 (l, lo, G, d, P) a0 h k n) : Ct l lo G d mX7_word [.ref a0] h k n P := 
  Ct_of (eArL mX7_word.2.2.2.1 [.ref a0]) (by decide) rfl (Nat.le_of_ble_eq_true rfl) (fun j w q => eArL_mem j w q) (E.less2 H (eS_s (eS_n (eS_n eS_0))))
/-! X7_need TroupeSums$Reader.need(ZI)V -/
def h_X7_need_0 (c : cC) (a0 : Nat) (a1 : Int32) (a2 : Int32) (h : eH) (k n : Nat) : Prop := E c.1 c.2.1 c.2.2.1 c.2.2.2.1 mX7_need c.2.2.2.2 0 [some (.ref a0), some (.int a1), some (.int a2)] [] h k n
def h_X7_need_21 (c : cC) (a0 : Nat) (b0 : Int32) (b1 : Nat) (b2 : Nat) (h : eH) (k n : Nat) : Prop := E c.1 c.2.1 c.2.2.1 c.2.2.2.1 mX7_need c.2.2.2.2 21 [some (.ref a0), none, none] [.int b0, .ref b1, .ref b2] h k n
set_option maxHeartbeats 4000000 in
theorem s_X7_need_0 (c : cC) (a0 : Nat) (a1 : Int32) (a2 : Int32) (h : eH) (k n : Nat) (H : (¬ a1 = 0 → c.2.2.2.2 (.inl none) h) ∧ (a1 = 0 → 1 ≤ k ∧ 8 ≤ n ∧ ∀ h2 : eH, h2 = eNw h (.inr (8, [.null, .null, .null, .null, .null, .int 0, .int 0, .int 0])) → (∃ x4 : Int32, fV h2 a0 7 4 (.int x4) ∧ ((¬ x4 = (4 : Int32) → h_X7_need_21 c a0 a2 h.2 h.2 h2 (k - 1) (n - 8)) ∧ (x4 = (4 : Int32) → h_X7_need_21 c a0 (1 : Int32) h.2 h.2 h2 (k - 1) (n - 8)))))) : h_X7_need_0 c a0 a1 a2 h k n := by
  refine e_iload_n dX7_need_0 rfl ?_
  refine e_if_ne 29 dX7_need_1 (by decide) (fun g1 => ?_) (fun g1 => ?_)
  · replace H := H.1 g1
    exact e_return dX7_need_29 rfl H
  · replace H := H.2 g1
    obtain ⟨g3, g3n, H⟩ := H
    refine e_new (ci := 8) (N := 8) (C := RX8) (T := TX8) tyX8 (fs := [.null, .null, .null, .null, .null, .int 0, .int 0, .int 0]) dX7_need_4 rfl in_X8 tyX8_ok q1405 q1567 q176 (by decide) (k1 := k - 1) (n1 := n - 8) (by omega) (by omega) ?_
    replace H := H _ rfl
    generalize eNw h _ = h2 at H ⊢
    refine e_dup dX7_need_7 rfl ?_
    refine e_aload_n dX7_need_8 rfl ?_
    obtain ⟨x4, ⟨fsx4, g5, g5v⟩, H⟩ := H
    refine e_get dX7_need_9 fX7_4 q1365 g5 g5v ?_
    refine e_iconst (4) dX7_need_12 (by decide) ?_
    refine e_icmp_ne 20 dX7_need_13 (by decide) (fun g6 => ?_) (fun g6 => ?_)
    · replace H := H.1 g6
      refine e_iload_n dX7_need_20 rfl ?_
      exact E.less2 H (eS_s (eS_n (eS_n eS_0)))
    · replace H := H.2 g6
      refine e_iconst (1) dX7_need_16 (by decide) ?_
      refine e_goto 21 dX7_need_17 (by decide) ?_
      exact E.less2 H (eS_s (eS_n (eS_n eS_0)))
set_option maxHeartbeats 4000000 in
theorem s_X7_need_21 (c : cC) (a0 : Nat) (b0 : Int32) (b1 : Nat) (b2 : Nat) (h : eH) (k n : Nat) (H : ∃ x1 : Int32, fV h a0 7 2 (.int x1) ∧ (∃ (d6 k7 n8 : Nat) (Q9 : eH → Prop), cV c.1 c.2.1 c.2.2.1 d6 mX8_init [.ref b1, .int b0, .int x1] h k7 n8 Q9 cX0 ∧ d6 + 1 ≤ c.2.2.2.1 ∧ k7 ≤ k ∧ n8 ≤ n ∧ (∀ h4 : eH, Q9 h4 → (∃ fs9 : List Value, h4.1 b2 = some (.inr (8, fs9)) ∧ c.2.1 ≤ b2 ∧ (c.2.2.2.2 (.inr b2) h4))))) : h_X7_need_21 c a0 b0 b1 b2 h k n := by
  refine e_aload_n dX7_need_21 rfl ?_
  obtain ⟨x1, ⟨fsx1, g2, g2v⟩, H⟩ := H
  refine e_get dX7_need_22 fX7_2 q1363 g2 g2v ?_
  obtain ⟨d6, k7, n8, Q9, g5, g5d, g5k, g5n, H⟩ := H
  refine e_callI (As := [.int b0, .int x1]) g5 dX7_need_25 wX8_init rfl rfl rfl q1607 q1608 rfl g5d rfl (Nat.le_of_ble_eq_true rfl) (k1 := k - k7) (n1 := n - n8) (by omega) (by omega) ?_ ?_
  · rintro v h4 (⟨v9, e9, e8, hq⟩ | ⟨ci9, q9, e9, -⟩)
    · cases e9
      subst e8
      replace H := H h4 hq
      obtain ⟨fs9, gq, gl, H⟩ := H
      refine e_athrow dX7_need_28 ?_
      exact ex_out (r := (RX8, TX8, 8)) (fun z hz => absurd hz List.not_mem_nil) gq rfl gl H
    · cases e9
  · rintro q9 h9 (⟨v9, e9, -⟩ | ⟨ci9, q8, e9, -, -, hx⟩)
    · cases e9
    · exact hx.elim
theorem en_X7_need {l : Launch} {lo : Nat} {G : eG} {d : Nat} {P : eO → eH → Prop} (a0 : Nat) (a1 : Int32) (a2 : Int32) {h : eH} {k n : Nat} (H : h_X7_need_0 (l, lo, G, d, P) a0 a1 a2 h k n) : Ct l lo G d mX7_need [.ref a0, .int a1, .int a2] h k n P := 
  Ct_of (eArL mX7_need.2.2.2.1 [.ref a0, .int a1, .int a2]) (by decide) rfl (Nat.le_of_ble_eq_true rfl) (fun j w q => eArL_mem j w q) (E.less2 H (eS_s (eS_s (eS_s eS_0))))
/-! X7_places TroupeSums$Reader.places()V -/
def h_X7_places_0 (c : cC) (a0 : Nat) (h : eH) (k n : Nat) : Prop := E c.1 c.2.1 c.2.2.1 c.2.2.2.1 mX7_places c.2.2.2.2 0 [some (.ref a0), none, none, none] [] h k n
def h_X7_places_21 (c : cC) (a0 : Nat) (a1 : Int32) (b0 : Int32) (b1 : Nat) (h : eH) (k n : Nat) : Prop := E c.1 c.2.1 c.2.2.1 c.2.2.2.1 mX7_places c.2.2.2.2 21 [some (.ref a0), some (.int a1), none, none] [.int b0, .ref b1] h k n
def h_X7_places_43 (c : cC) (a0 : Nat) (a1 : Int32) (a2 : Nat) (a3 : Int32) (h : eH) (k n : Nat) : Prop := E c.1 c.2.1 c.2.2.1 c.2.2.2.1 mX7_places c.2.2.2.2 43 [some (.ref a0), some (.int a1), some (.ref a2), some (.int a3)] [] h k n
set_option maxHeartbeats 4000000 in
theorem s_X7_places_0 (c : cC) (a0 : Nat) (h : eH) (k n : Nat) (H : ∃ fs8 : List Value, h.1 a0 = some (.inr (7, fs8)) ∧ ∃ (d4 k5 n6 : Nat) (Q7 : eH → Prop), cV c.1 c.2.1 c.2.2.1 d4 mX7_next [.ref a0] h k5 n6 Q7 cX0 ∧ d4 + 1 ≤ c.2.2.2.1 ∧ k5 ≤ k ∧ n6 ≤ n ∧ (∀ h2 : eH, Q7 h2 → (∃ fs8 : List Value, h2.1 a0 = some (.inr (7, fs8)) ∧ ∃ (d11 k12 n13 : Nat) (Q14 : Int32 → eH → Prop) (X16 : Nat → Nat → eH → Prop), cI c.1 c.2.1 c.2.2.1 d11 mX7_number [.ref a0, .int (6 : Int32)] h2 k12 n13 Q14 X16 ∧ d11 + 1 ≤ c.2.2.2.1 ∧ k12 ≤ k - k5 ∧ n13 ≤ n - n6 ∧ (∀ (r8 : Int32) (h9 : eH), Q14 r8 h9 → ((r8 ≤ 0 → h_X7_places_21 c a0 r8 (0 : Int32) a0 h9 (k - k5 - k12) (n - n6 - n13)) ∧ (¬ r8 ≤ 0 → h_X7_places_21 c a0 r8 (1 : Int32) a0 h9 (k - k5 - k12) (n - n6 - n13)))) ∧ (∀ (ci q : Nat) (h9 : eH), X16 ci q h9 → ci = 8) ∧ (∀ (q17 : Nat) (h18 : eH) (fs9 : List Value), X16 8 q17 h18 → h18.1 q17 = some (.inr (8, fs9)) → c.2.1 ≤ q17 → c.2.2.2.2 (.inr q17) h18)))) : h_X7_places_0 c a0 h k n := by
  refine e_aload_n dX7_places_0 rfl ?_
  obtain ⟨fsg3, g3o, H⟩ := H
  obtain ⟨d4, k5, n6, Q7, g3, g3d, g3k, g3n, H⟩ := H
  refine e_callV (r := (RX7, TX7, 11)) (As := []) g3 dX7_places_1 wX7_next q1291 q1293 qs17 g3o rfl rfl g3d rfl (Nat.le_of_ble_eq_true rfl) (k1 := k - k5) (n1 := n - n6) (by omega) (by omega) ?_ ?_
  · rintro v h2 (⟨v9, e9, e8, hq⟩ | ⟨ci9, q9, e9, -⟩)
    · cases e9
      subst e8
      replace H := H h2 hq
      refine e_aload_n dX7_places_4 rfl ?_
      refine e_bipush (6) dX7_places_5 (by decide) ?_
      obtain ⟨fsg10, g10o, H⟩ := H
      obtain ⟨d11, k12, n13, Q14, X16, g10, g10d, g10k, g10n, H, Hx, Hx8⟩ := H
      refine e_callV (r := (RX7, TX7, 11)) (As := [.int (6 : Int32)]) g10 dX7_places_7 wX7_number q1641 q1643 qs25 g10o rfl rfl g10d rfl (Nat.le_of_ble_eq_true rfl) (k1 := k - k5 - k12) (n1 := n - n6 - n13) (by omega) (by omega) ?_ ?_
      · rintro v h9 (⟨v9, e9, r8, e8, hq⟩ | ⟨ci9, q9, e9, -⟩)
        · cases e9
          subst e8
          replace H := H r8 h9 hq
          refine e_istore_n _ dX7_places_10 (by decide) rfl rfl ?_
          refine e_aload_n dX7_places_11 rfl ?_
          refine e_iload_n dX7_places_12 rfl ?_
          refine e_if_le 20 dX7_places_13 (by decide) (fun g15 => ?_) (fun g15 => ?_)
          · replace H := H.1 g15
            refine e_iconst (0) dX7_places_20 (by decide) ?_
            exact E.less2 H (eS_s (eS_s (eS_n (eS_n eS_0))))
          · replace H := H.2 g15
            refine e_iconst (1) dX7_places_16 (by decide) ?_
            refine e_goto 21 dX7_places_17 (by decide) ?_
            exact E.less2 H (eS_s (eS_s (eS_n (eS_n eS_0))))
        · cases e9
      · rintro q9 h9 (⟨v9, e9, -⟩ | ⟨ci9, q8, e9, gl, ⟨fs9, gq⟩, hx⟩)
        · cases e9
        · cases e9
          rcases Hx ci9 q9 h9 hx with rfl
          · have H := Hx8 q9 h9 fs9 hx gq gl
            exact ex_out (r := (RX8, TX8, 8)) (fun z hz => absurd hz List.not_mem_nil) gq rfl gl H
    · cases e9
  · rintro q9 h9 (⟨v9, e9, -⟩ | ⟨ci9, q8, e9, -, -, hx⟩)
    · cases e9
    · exact hx.elim
set_option maxHeartbeats 4000000 in
theorem s_X7_places_21 (c : cC) (a0 : Nat) (a1 : Int32) (b0 : Int32) (b1 : Nat) (h : eH) (k n : Nat) (H : ∃ fs8 : List Value, h.1 b1 = some (.inr (7, fs8)) ∧ ∃ (d4 k5 n6 : Nat) (Q7 : eH → Prop) (X23 : Nat → Nat → eH → Prop), cV c.1 c.2.1 c.2.2.1 d4 mX7_need [.ref b1, .int b0, .int (4 : Int32)] h k5 n6 Q7 X23 ∧ d4 + 1 ≤ c.2.2.2.1 ∧ k5 ≤ k ∧ n6 ≤ n ∧ (∀ h2 : eH, Q7 h2 → (∃ fs8 : List Value, h2.1 a0 = some (.inr (7, fs8)) ∧ ∃ (d11 k12 n13 : Nat) (Q14 : eH → Prop), cV c.1 c.2.1 c.2.2.1 d11 mX7_next [.ref a0] h2 k12 n13 Q14 cX0 ∧ d11 + 1 ≤ c.2.2.2.1 ∧ k12 ≤ k - k5 ∧ n13 ≤ n - n6 ∧ (∀ h9 : eH, Q14 h9 → (∃ x15 : Nat, fV h9 a0 7 7 (.ref x15) ∧ (∃ fs17 : List Value, h9.1 x15 = some (.inr (1, fs17)) ∧ c.2.1 ≤ x15 ∧ 0 < fs17.length ∧ ∀ h19 : eH, h19 = eUp h9 x15 (.inr (1, fs17.set 0 (.int a1))) → (∃ N22 : Nat, a1 = nI N22 ∧ N22 ≤ 10000000 ∧ 1 ≤ k - k5 - k12 ∧ N22 ≤ n - n6 - n13 ∧ ∀ h20 : eH, h20 = eNw h19 (.inl (c.2.2.1.2.1 0, N22, .inl (fun _ => 0))) → (h_X7_places_43 c a0 a1 h19.2 (0 : Int32) h20 (k - k5 - k12 - 1) (n - n6 - n13 - N22)))))))) ∧ (∀ (ci q : Nat) (h9 : eH), X23 ci q h9 → ci = 8) ∧ (∀ (q24 : Nat) (h25 : eH) (fs9 : List Value), X23 8 q24 h25 → h25.1 q24 = some (.inr (8, fs9)) → c.2.1 ≤ q24 → c.2.2.2.2 (.inr q24) h25)) : h_X7_places_21 c a0 a1 b0 b1 h k n := by
  refine e_iconst (4) dX7_places_21 (by decide) ?_
  obtain ⟨fsg3, g3o, H⟩ := H
  obtain ⟨d4, k5, n6, Q7, X23, g3, g3d, g3k, g3n, H, Hx, Hx8⟩ := H
  refine e_callV (r := (RX7, TX7, 11)) (As := [.int b0, .int (4 : Int32)]) g3 dX7_places_22 wX7_need q1563 q1565 qs22 g3o rfl rfl g3d rfl (Nat.le_of_ble_eq_true rfl) (k1 := k - k5) (n1 := n - n6) (by omega) (by omega) ?_ ?_
  · rintro v h2 (⟨v9, e9, e8, hq⟩ | ⟨ci9, q9, e9, -⟩)
    · cases e9
      subst e8
      replace H := H h2 hq
      refine e_aload_n dX7_places_25 rfl ?_
      obtain ⟨fsg10, g10o, H⟩ := H
      obtain ⟨d11, k12, n13, Q14, g10, g10d, g10k, g10n, H⟩ := H
      refine e_callV (r := (RX7, TX7, 11)) (As := []) g10 dX7_places_26 wX7_next q1291 q1293 qs17 g10o rfl rfl g10d rfl (Nat.le_of_ble_eq_true rfl) (k1 := k - k5 - k12) (n1 := n - n6 - n13) (by omega) (by omega) ?_ ?_
      · rintro v h9 (⟨v9, e9, e8, hq⟩ | ⟨ci9, q9, e9, -⟩)
        · cases e9
          subst e8
          replace H := H h9 hq
          refine e_aload_n dX7_places_29 rfl ?_
          obtain ⟨x15, ⟨fsx15, g16, g16v⟩, H⟩ := H
          refine e_get dX7_places_30 fX7_7 q1368 g16 g16v ?_
          refine e_iload_n dX7_places_33 rfl ?_
          obtain ⟨fs17, g18, g18l, g18j, H⟩ := H
          refine e_putN dX7_places_34 fX1_0 q234 (eFit_i _) g18 g18l g18j ?_
          replace H := H _ rfl
          generalize eUp h9 x15 _ = h19 at H ⊢
          refine e_iload_n dX7_places_37 rfl ?_
          obtain ⟨N22, g21i, g21b, g21, g21n, H⟩ := H
          refine c_newarrayI dX7_places_38 q303 g21i g21b g21 g21n ?_
          replace H := H _ rfl
          generalize eNw h19 _ = h20 at H ⊢
          refine e_astore_n _ dX7_places_40 (by decide) rfl rfl ?_
          refine e_iconst (0) dX7_places_41 (by decide) ?_
          refine e_istore_n _ dX7_places_42 (by decide) rfl rfl ?_
          exact E.less2 H (eS_s (eS_s (eS_s (eS_s eS_0))))
        · cases e9
      · rintro q9 h9 (⟨v9, e9, -⟩ | ⟨ci9, q8, e9, -, -, hx⟩)
        · cases e9
        · exact hx.elim
    · cases e9
  · rintro q9 h9 (⟨v9, e9, -⟩ | ⟨ci9, q8, e9, gl, ⟨fs9, gq⟩, hx⟩)
    · cases e9
    · cases e9
      rcases Hx ci9 q9 h9 hx with rfl
      · have H := Hx8 q9 h9 fs9 hx gq gl
        exact ex_out (r := (RX8, TX8, 8)) (fun z hz => absurd hz List.not_mem_nil) gq rfl gl H
set_option maxHeartbeats 4000000 in
theorem s_X7_places_43 (c : cC) (a0 : Nat) (a1 : Int32) (a2 : Nat) (a3 : Int32) (h : eH) (k n : Nat) (H : (a1 ≤ a3 → ∃ x2 : Nat, fV h a0 7 8 (.ref x2) ∧ (1 ≤ k ∧ 1 ≤ n ∧ ∀ h4 : eH, h4 = eNw h (.inr (2, [.null])) → (∃ (d9 k10 n11 : Nat) (Q12 : eH → Prop), cV c.1 c.2.1 c.2.2.1 d9 mX2_init [.ref h.2, .ref a2] h4 k10 n11 Q12 cX0 ∧ d9 + 1 ≤ c.2.2.2.1 ∧ k10 ≤ k - 1 ∧ n11 ≤ n - 1 ∧ (∀ h7 : eH, Q12 h7 → (∃ (d16 k17 n18 : Nat) (Q19 : Nat → eH → Prop), cR c.1 c.2.1 c.2.2.1 d16 mJ6_valueOf [.int (0 : Int32)] h7 k17 n18 Q19 cX0 ∧ d16 + 1 ≤ c.2.2.2.1 ∧ k17 ≤ k - 1 - k10 ∧ n18 ≤ n - 1 - n11 ∧ (∀ (r13 : Nat) (h14 : eH), Q19 r13 h14 → (∃ fs8 : List Value, h14.1 x2 = some (.inr (16, fs8)) ∧ ∃ (d23 k24 n25 : Nat) (Q26 : Option Nat → eH → Prop), cQ c.1 c.2.1 c.2.2.1 d23 mJ4_put [.ref x2, .ref h.2, .ref r13] h14 k24 n25 Q26 cX0 ∧ d23 + 1 ≤ c.2.2.2.1 ∧ k24 ≤ k - 1 - k10 - k17 ∧ n25 ≤ n - 1 - n11 - n18 ∧ (∀ (r20 : Option Nat) (h21 : eH), Q26 r20 h21 → (∃ fs8 : List Value, h21.1 a0 = some (.inr (7, fs8)) ∧ ∃ (d30 k31 n32 : Nat) (Q33 : eH → Prop) (X34 : Nat → Nat → eH → Prop), cV c.1 c.2.1 c.2.2.1 d30 mX7_sign [.ref a0, .int (59 : Int32)] h21 k31 n32 Q33 X34 ∧ d30 + 1 ≤ c.2.2.2.1 ∧ k31 ≤ k - 1 - k10 - k17 - k24 ∧ n32 ≤ n - 1 - n11 - n18 - n25 ∧ (∀ h28 : eH, Q33 h28 → (c.2.2.2.2 (.inl none) h28)) ∧ (∀ (ci q : Nat) (h9 : eH), X34 ci q h9 → ci = 8) ∧ (∀ (q35 : Nat) (h36 : eH) (fs9 : List Value), X34 8 q35 h36 → h36.1 q35 = some (.inr (8, fs9)) → c.2.1 ≤ q35 → c.2.2.2.2 (.inr q35) h36)))))))))) ∧ (¬ a1 ≤ a3 → ∃ (N37 : Nat) (f38 : Nat → Int32), h.1 a2 = some (.inl (c.2.2.1.2.1 0, N37, .inl f38)) ∧ c.2.1 ≤ a2 ∧ vp_in a3 N37 ∧ ∀ h40 : eH, h40 = eUp h a2 (.inl (c.2.2.1.2.1 0, N37, .inl (va_up f38 a3.toNatClampNeg a3))) → (h_X7_places_43 c a0 a1 a2 (a3 + 1) h40 k n))) : h_X7_places_43 c a0 a1 a2 a3 h k n := by
  refine e_iload_n dX7_places_43 rfl ?_
  refine e_iload_n dX7_places_44 rfl ?_
  refine e_icmp_ge 58 dX7_places_45 (by decide) (fun g1 => ?_) (fun g1 => ?_)
  · replace H := H.1 g1
    refine e_aload_n dX7_places_58 rfl ?_
    obtain ⟨x2, ⟨fsx2, g3, g3v⟩, H⟩ := H
    refine e_get dX7_places_59 fX7_8 q1369 g3 g3v ?_
    obtain ⟨g5, g5n, H⟩ := H
    refine e_new (ci := 2) (N := 1) (C := RX2) (T := TX2) tyX2 (fs := [.null]) dX7_places_62 rfl in_X2 tyX2_ok q1645 q292 q141 (by decide) (k1 := k - 1) (n1 := n - 1) (by omega) (by omega) ?_
    replace H := H _ rfl
    generalize eNw h _ = h4 at H ⊢
    refine e_dup dX7_places_65 rfl ?_
    refine e_aload_n dX7_places_66 rfl ?_
    obtain ⟨d9, k10, n11, Q12, g8, g8d, g8k, g8n, H⟩ := H
    refine e_callI (As := [.ref a2]) g8 dX7_places_67 wX2_init rfl rfl rfl q1646 q294 rfl g8d rfl (Nat.le_of_ble_eq_true rfl) (k1 := k - 1 - k10) (n1 := n - 1 - n11) (by omega) (by omega) ?_ ?_
    · rintro v h7 (⟨v9, e9, e8, hq⟩ | ⟨ci9, q9, e9, -⟩)
      · cases e9
        subst e8
        replace H := H h7 hq
        refine e_iconst (0) dX7_places_70 (by decide) ?_
        obtain ⟨d16, k17, n18, Q19, g15, g15d, g15k, g15n, H⟩ := H
        refine e_callS (As := [.int (0 : Int32)]) g15 dX7_places_71 wJ6_valueOf q1647 q305 rfl g15d rfl (Nat.le_of_ble_eq_true rfl) (k1 := k - 1 - k10 - k17) (n1 := n - 1 - n11 - n18) (by omega) (by omega) ?_ ?_
        · rintro v h14 (⟨v9, e9, r13, e8, hq⟩ | ⟨ci9, q9, e9, -⟩)
          · cases e9
            subst e8
            replace H := H r13 h14 hq
            obtain ⟨fsg22, g22o, H⟩ := H
            obtain ⟨d23, k24, n25, Q26, g22, g22d, g22k, g22n, H⟩ := H
            refine e_callV (r := (RJ4, TJ4, 9)) (As := [.ref h.2, .ref r13]) g22 dX7_places_74 wJ4_put q1648 q325 q326 g22o rfl rfl g22d rfl (Nat.le_of_ble_eq_true rfl) (k1 := k - 1 - k10 - k17 - k24) (n1 := n - 1 - n11 - n18 - n25) (by omega) (by omega) ?_ ?_
            · rintro v h21 (⟨v9, e9, r20, e8, hq⟩ | ⟨ci9, q9, e9, -⟩)
              · cases e9
                subst e8
                replace H := H r20 h21 hq
                refine e_pop dX7_places_77 (eRfC _) ?_
                refine e_aload_n dX7_places_78 rfl ?_
                refine e_bipush (59) dX7_places_79 (by decide) ?_
                obtain ⟨fsg29, g29o, H⟩ := H
                obtain ⟨d30, k31, n32, Q33, X34, g29, g29d, g29k, g29n, H, Hx, Hx8⟩ := H
                refine e_callV (r := (RX7, TX7, 11)) (As := [.int (59 : Int32)]) g29 dX7_places_81 wX7_sign q1649 q1651 qs26 g29o rfl rfl g29d rfl (Nat.le_of_ble_eq_true rfl) (k1 := k - 1 - k10 - k17 - k24 - k31) (n1 := n - 1 - n11 - n18 - n25 - n32) (by omega) (by omega) ?_ ?_
                · rintro v h28 (⟨v9, e9, e8, hq⟩ | ⟨ci9, q9, e9, -⟩)
                  · cases e9
                    subst e8
                    replace H := H h28 hq
                    exact e_return dX7_places_84 rfl H
                  · cases e9
                · rintro q9 h9 (⟨v9, e9, -⟩ | ⟨ci9, q8, e9, gl, ⟨fs9, gq⟩, hx⟩)
                  · cases e9
                  · cases e9
                    rcases Hx ci9 q9 h9 hx with rfl
                    · have H := Hx8 q9 h9 fs9 hx gq gl
                      exact ex_out (r := (RX8, TX8, 8)) (fun z hz => absurd hz List.not_mem_nil) gq rfl gl H
              · cases e9
            · rintro q9 h9 (⟨v9, e9, -⟩ | ⟨ci9, q8, e9, -, -, hx⟩)
              · cases e9
              · exact hx.elim
          · cases e9
        · rintro q9 h9 (⟨v9, e9, -⟩ | ⟨ci9, q8, e9, -, -, hx⟩)
          · cases e9
          · exact hx.elim
      · cases e9
    · rintro q9 h9 (⟨v9, e9, -⟩ | ⟨ci9, q8, e9, -, -, hx⟩)
      · cases e9
      · exact hx.elim
  · replace H := H.2 g1
    refine e_aload_n dX7_places_48 rfl ?_
    refine e_iload_n dX7_places_49 rfl ?_
    refine e_iload_n dX7_places_50 rfl ?_
    obtain ⟨N37, f38, g39, g39l, g39i, H⟩ := H
    refine e_iastore dX7_places_51 g39 g39l g39i ?_
    replace H := H _ rfl
    generalize eUp h a2 _ = h40 at H ⊢
    refine e_iinc (a3 + 1) _ dX7_places_52 rfl rfl (by decide) rfl rfl ?_
    refine e_goto 43 dX7_places_55 (by decide) ?_
    exact E.less2 H (eS_s (eS_s (eS_s (eS_s eS_0))))
theorem en_X7_places {l : Launch} {lo : Nat} {G : eG} {d : Nat} {P : eO → eH → Prop} (a0 : Nat) {h : eH} {k n : Nat} (H : h_X7_places_0 (l, lo, G, d, P) a0 h k n) : Ct l lo G d mX7_places [.ref a0] h k n P := 
  Ct_of (eArL mX7_places.2.2.2.1 [.ref a0]) (by decide) rfl (Nat.le_of_ble_eq_true rfl) (fun j w q => eArL_mem j w q) (E.less2 H (eS_s (eS_n (eS_n (eS_n eS_0)))))
/-! X7_number TroupeSums$Reader.number(I)I -/
def h_X7_number_0 (c : cC) (a0 : Nat) (a1 : Int32) (h : eH) (k n : Nat) : Prop := E c.1 c.2.1 c.2.2.1 c.2.2.2.1 mX7_number c.2.2.2.2 0 [some (.ref a0), some (.int a1), none, none] [] h k n
def h_X7_number_14 (c : cC) (a0 : Nat) (a1 : Int32) (b0 : Int32) (b1 : Nat) (h : eH) (k n : Nat) : Prop := E c.1 c.2.1 c.2.2.1 c.2.2.2.1 mX7_number c.2.2.2.2 14 [some (.ref a0), some (.int a1), none, none] [.int b0, .ref b1] h k n
def h_X7_number_25 (c : cC) (a0 : Nat) (a1 : Int32) (a2 : Int32) (a3 : Int32) (h : eH) (k n : Nat) : Prop := E c.1 c.2.1 c.2.2.1 c.2.2.2.1 mX7_number c.2.2.2.2 25 [some (.ref a0), some (.int a1), some (.int a2), some (.int a3)] [] h k n
def h_X7_number_64 (c : cC) (a2 : Int32) (b0 : Int32) (b1 : Nat) (h : eH) (k n : Nat) : Prop := E c.1 c.2.1 c.2.2.1 c.2.2.2.1 mX7_number c.2.2.2.2 64 [none, none, some (.int a2), none] [.int b0, .ref b1] h k n
set_option maxHeartbeats 4000000 in
theorem s_X7_number_0 (c : cC) (a0 : Nat) (a1 : Int32) (h : eH) (k n : Nat) (H : ∃ x1 : Int32, fV h a0 7 4 (.int x1) ∧ ((¬ x1 = (2 : Int32) → h_X7_number_14 c a0 a1 (0 : Int32) a0 h k n) ∧ (x1 = (2 : Int32) → h_X7_number_14 c a0 a1 (1 : Int32) a0 h k n))) : h_X7_number_0 c a0 a1 h k n := by
  refine e_aload_n dX7_number_0 rfl ?_
  refine e_aload_n dX7_number_1 rfl ?_
  obtain ⟨x1, ⟨fsx1, g2, g2v⟩, H⟩ := H
  refine e_get dX7_number_2 fX7_4 q1365 g2 g2v ?_
  refine e_iconst (2) dX7_number_5 (by decide) ?_
  refine e_icmp_ne 13 dX7_number_6 (by decide) (fun g3 => ?_) (fun g3 => ?_)
  · replace H := H.1 g3
    refine e_iconst (0) dX7_number_13 (by decide) ?_
    exact E.less2 H (eS_s (eS_s (eS_n (eS_n eS_0))))
  · replace H := H.2 g3
    refine e_iconst (1) dX7_number_9 (by decide) ?_
    refine e_goto 14 dX7_number_10 (by decide) ?_
    exact E.less2 H (eS_s (eS_s (eS_n (eS_n eS_0))))
set_option maxHeartbeats 4000000 in
theorem s_X7_number_14 (c : cC) (a0 : Nat) (a1 : Int32) (b0 : Int32) (b1 : Nat) (h : eH) (k n : Nat) (H : ∃ fs8 : List Value, h.1 b1 = some (.inr (7, fs8)) ∧ ∃ (d4 k5 n6 : Nat) (Q7 : eH → Prop) (X10 : Nat → Nat → eH → Prop), cV c.1 c.2.1 c.2.2.1 d4 mX7_need [.ref b1, .int b0, .int (2 : Int32)] h k5 n6 Q7 X10 ∧ d4 + 1 ≤ c.2.2.2.1 ∧ k5 ≤ k ∧ n6 ≤ n ∧ (∀ h2 : eH, Q7 h2 → (∃ x8 : Int32, fV h2 a0 7 2 (.int x8) ∧ (h_X7_number_25 c a0 a1 (0 : Int32) x8 h2 (k - k5) (n - n6)))) ∧ (∀ (ci q : Nat) (h9 : eH), X10 ci q h9 → ci = 8) ∧ (∀ (q11 : Nat) (h12 : eH) (fs9 : List Value), X10 8 q11 h12 → h12.1 q11 = some (.inr (8, fs9)) → c.2.1 ≤ q11 → c.2.2.2.2 (.inr q11) h12)) : h_X7_number_14 c a0 a1 b0 b1 h k n := by
  refine e_iconst (2) dX7_number_14 (by decide) ?_
  obtain ⟨fsg3, g3o, H⟩ := H
  obtain ⟨d4, k5, n6, Q7, X10, g3, g3d, g3k, g3n, H, Hx, Hx8⟩ := H
  refine e_callV (r := (RX7, TX7, 11)) (As := [.int b0, .int (2 : Int32)]) g3 dX7_number_15 wX7_need q1563 q1565 qs22 g3o rfl rfl g3d rfl (Nat.le_of_ble_eq_true rfl) (k1 := k - k5) (n1 := n - n6) (by omega) (by omega) ?_ ?_
  · rintro v h2 (⟨v9, e9, e8, hq⟩ | ⟨ci9, q9, e9, -⟩)
    · cases e9
      subst e8
      replace H := H h2 hq
      refine e_iconst (0) dX7_number_18 (by decide) ?_
      refine e_istore_n _ dX7_number_19 (by decide) rfl rfl ?_
      refine e_aload_n dX7_number_20 rfl ?_
      obtain ⟨x8, ⟨fsx8, g9, g9v⟩, H⟩ := H
      refine e_get dX7_number_21 fX7_2 q1363 g9 g9v ?_
      refine e_istore_n _ dX7_number_24 (by decide) rfl rfl ?_
      exact E.less2 H (eS_s (eS_s (eS_s (eS_s eS_0))))
    · cases e9
  · rintro q9 h9 (⟨v9, e9, -⟩ | ⟨ci9, q8, e9, gl, ⟨fs9, gq⟩, hx⟩)
    · cases e9
    · cases e9
      rcases Hx ci9 q9 h9 hx with rfl
      · have H := Hx8 q9 h9 fs9 hx gq gl
        exact ex_out (r := (RX8, TX8, 8)) (fun z hz => absurd hz List.not_mem_nil) gq rfl gl H
set_option maxHeartbeats 4000000 in
theorem s_X7_number_25 (c : cC) (a0 : Nat) (a1 : Int32) (a2 : Int32) (a3 : Int32) (h : eH) (k n : Nat) (H : ∃ x1 : Int32, fV h a0 7 3 (.int x1) ∧ ((x1 ≤ a3 → (a1 < a2 → h_X7_number_64 c a2 (0 : Int32) a0 h k n) ∧ (¬ a1 < a2 → h_X7_number_64 c a2 (1 : Int32) a0 h k n)) ∧ (¬ x1 ≤ a3 → ∃ fs8 : List Value, h.1 a0 = some (.inr (7, fs8)) ∧ ∃ (d8 k9 n10 : Nat) (Q11 : Int32 → eH → Prop), cI c.1 c.2.1 c.2.2.1 d8 mX7_at [.ref a0, .int a3] h k9 n10 Q11 cX0 ∧ d8 + 1 ≤ c.2.2.2.1 ∧ k9 ≤ k ∧ n10 ≤ n ∧ (∀ (r5 : Int32) (h6 : eH), Q11 r5 h6 → (h_X7_number_25 c a0 a1 ((((10 : Int32) * a2) + r5) - (48 : Int32)) (a3 + 1) h6 (k - k9) (n - n10)))))) : h_X7_number_25 c a0 a1 a2 a3 h k n := by
  refine e_iload_n dX7_number_25 rfl ?_
  refine e_aload_n dX7_number_26 rfl ?_
  obtain ⟨x1, ⟨fsx1, g2, g2v⟩, H⟩ := H
  refine e_get dX7_number_27 fX7_3 q1364 g2 g2v ?_
  refine e_icmp_ge 53 dX7_number_30 (by decide) (fun g3 => ?_) (fun g3 => ?_)
  · replace H := H.1 g3
    refine e_aload_n dX7_number_53 rfl ?_
    refine e_iload_n dX7_number_54 rfl ?_
    refine e_iload_n dX7_number_55 rfl ?_
    refine e_icmp_gt 63 dX7_number_56 (by decide) (fun g4 => ?_) (fun g4 => ?_)
    · replace H := H.1 g4
      refine e_iconst (0) dX7_number_63 (by decide) ?_
      exact E.less2 H (eS_n (eS_n (eS_s (eS_n eS_0))))
    · replace H := H.2 g4
      refine e_iconst (1) dX7_number_59 (by decide) ?_
      refine e_goto 64 dX7_number_60 (by decide) ?_
      exact E.less2 H (eS_n (eS_n (eS_s (eS_n eS_0))))
  · replace H := H.2 g3
    refine e_bipush (10) dX7_number_33 (by decide) ?_
    refine e_iload_n dX7_number_35 rfl ?_
    refine e_imul dX7_number_36 ?_
    refine e_aload_n dX7_number_37 rfl ?_
    refine e_iload_n dX7_number_38 rfl ?_
    obtain ⟨fsg7, g7o, H⟩ := H
    obtain ⟨d8, k9, n10, Q11, g7, g7d, g7k, g7n, H⟩ := H
    refine e_callV (r := (RX7, TX7, 11)) (As := [.int a3]) g7 dX7_number_39 wX7_at q1295 q1297 qs18 g7o rfl rfl g7d rfl (Nat.le_of_ble_eq_true rfl) (k1 := k - k9) (n1 := n - n10) (by omega) (by omega) ?_ ?_
    · rintro v h6 (⟨v9, e9, r5, e8, hq⟩ | ⟨ci9, q9, e9, -⟩)
      · cases e9
        subst e8
        replace H := H r5 h6 hq
        refine e_iadd dX7_number_42 ?_
        refine e_bipush (48) dX7_number_43 (by decide) ?_
        refine e_isub dX7_number_45 ?_
        refine e_istore_n _ dX7_number_46 (by decide) rfl rfl ?_
        refine e_iinc (a3 + 1) _ dX7_number_47 rfl rfl (by decide) rfl rfl ?_
        refine e_goto 25 dX7_number_50 (by decide) ?_
        exact E.less2 H (eS_s (eS_s (eS_s (eS_s eS_0))))
      · cases e9
    · rintro q9 h9 (⟨v9, e9, -⟩ | ⟨ci9, q8, e9, -, -, hx⟩)
      · cases e9
      · exact hx.elim
set_option maxHeartbeats 4000000 in
theorem s_X7_number_64 (c : cC) (a2 : Int32) (b0 : Int32) (b1 : Nat) (h : eH) (k n : Nat) (H : ∃ fs8 : List Value, h.1 b1 = some (.inr (7, fs8)) ∧ ∃ (d4 k5 n6 : Nat) (Q7 : eH → Prop) (X8 : Nat → Nat → eH → Prop), cV c.1 c.2.1 c.2.2.1 d4 mX7_need [.ref b1, .int b0, .int (4 : Int32)] h k5 n6 Q7 X8 ∧ d4 + 1 ≤ c.2.2.2.1 ∧ k5 ≤ k ∧ n6 ≤ n ∧ (∀ h2 : eH, Q7 h2 → (c.2.2.2.2 (.inl (some (.int a2))) h2)) ∧ (∀ (ci q : Nat) (h9 : eH), X8 ci q h9 → ci = 8) ∧ (∀ (q9 : Nat) (h10 : eH) (fs9 : List Value), X8 8 q9 h10 → h10.1 q9 = some (.inr (8, fs9)) → c.2.1 ≤ q9 → c.2.2.2.2 (.inr q9) h10)) : h_X7_number_64 c a2 b0 b1 h k n := by
  refine e_iconst (4) dX7_number_64 (by decide) ?_
  obtain ⟨fsg3, g3o, H⟩ := H
  obtain ⟨d4, k5, n6, Q7, X8, g3, g3d, g3k, g3n, H, Hx, Hx8⟩ := H
  refine e_callV (r := (RX7, TX7, 11)) (As := [.int b0, .int (4 : Int32)]) g3 dX7_number_65 wX7_need q1563 q1565 qs22 g3o rfl rfl g3d rfl (Nat.le_of_ble_eq_true rfl) (k1 := k - k5) (n1 := n - n6) (by omega) (by omega) ?_ ?_
  · rintro v h2 (⟨v9, e9, e8, hq⟩ | ⟨ci9, q9, e9, -⟩)
    · cases e9
      subst e8
      replace H := H h2 hq
      refine e_iload_n dX7_number_68 rfl ?_
      exact e_ireturn .int dX7_number_69 rfl rfl H
    · cases e9
  · rintro q9 h9 (⟨v9, e9, -⟩ | ⟨ci9, q8, e9, gl, ⟨fs9, gq⟩, hx⟩)
    · cases e9
    · cases e9
      rcases Hx ci9 q9 h9 hx with rfl
      · have H := Hx8 q9 h9 fs9 hx gq gl
        exact ex_out (r := (RX8, TX8, 8)) (fun z hz => absurd hz List.not_mem_nil) gq rfl gl H
theorem en_X7_number {l : Launch} {lo : Nat} {G : eG} {d : Nat} {P : eO → eH → Prop} (a0 : Nat) (a1 : Int32) {h : eH} {k n : Nat} (H : h_X7_number_0 (l, lo, G, d, P) a0 a1 h k n) : Ct l lo G d mX7_number [.ref a0, .int a1] h k n P := 
  Ct_of (eArL mX7_number.2.2.2.1 [.ref a0, .int a1]) (by decide) rfl (Nat.le_of_ble_eq_true rfl) (fun j w q => eArL_mem j w q) (E.less2 H (eS_s (eS_s (eS_n (eS_n eS_0)))))
/-! X7_sign TroupeSums$Reader.sign(C)V -/
def h_X7_sign_0 (c : cC) (a0 : Nat) (a1 : Int32) (h : eH) (k n : Nat) : Prop := E c.1 c.2.1 c.2.2.1 c.2.2.2.1 mX7_sign c.2.2.2.2 0 [some (.ref a0), some (.int a1)] [] h k n
set_option maxHeartbeats 4000000 in
theorem s_X7_sign_0 (c : cC) (a0 : Nat) (a1 : Int32) (h : eH) (k n : Nat) (H : ∃ fs8 : List Value, h.1 a0 = some (.inr (7, fs8)) ∧ ∃ (d4 k5 n6 : Nat) (Q7 : Int32 → eH → Prop), cI c.1 c.2.1 c.2.2.1 d4 mX7_isSign [.ref a0, .int a1] h k5 n6 Q7 cX0 ∧ d4 + 1 ≤ c.2.2.2.1 ∧ k5 ≤ k ∧ n6 ≤ n ∧ (∀ (r1 : Int32) (h2 : eH), Q7 r1 h2 → (∃ fs8 : List Value, h2.1 a0 = some (.inr (7, fs8)) ∧ ∃ (d11 k12 n13 : Nat) (Q14 : eH → Prop) (X22 : Nat → Nat → eH → Prop), cV c.1 c.2.1 c.2.2.1 d11 mX7_need [.ref a0, .int r1, .int (2 : Int32)] h2 k12 n13 Q14 X22 ∧ d11 + 1 ≤ c.2.2.2.1 ∧ k12 ≤ k - k5 ∧ n13 ≤ n - n6 ∧ (∀ h9 : eH, Q14 h9 → (∃ fs8 : List Value, h9.1 a0 = some (.inr (7, fs8)) ∧ ∃ (d18 k19 n20 : Nat) (Q21 : eH → Prop), cV c.1 c.2.1 c.2.2.1 d18 mX7_next [.ref a0] h9 k19 n20 Q21 cX0 ∧ d18 + 1 ≤ c.2.2.2.1 ∧ k19 ≤ k - k5 - k12 ∧ n20 ≤ n - n6 - n13 ∧ (∀ h16 : eH, Q21 h16 → (c.2.2.2.2 (.inl none) h16)))) ∧ (∀ (ci q : Nat) (h9 : eH), X22 ci q h9 → ci = 8) ∧ (∀ (q23 : Nat) (h24 : eH) (fs9 : List Value), X22 8 q23 h24 → h24.1 q23 = some (.inr (8, fs9)) → c.2.1 ≤ q23 → c.2.2.2.2 (.inr q23) h24)))) : h_X7_sign_0 c a0 a1 h k n := by
  refine e_aload_n dX7_sign_0 rfl ?_
  refine e_aload_n dX7_sign_1 rfl ?_
  refine e_iload_n dX7_sign_2 rfl ?_
  obtain ⟨fsg3, g3o, H⟩ := H
  obtain ⟨d4, k5, n6, Q7, g3, g3d, g3k, g3n, H⟩ := H
  refine e_callV (r := (RX7, TX7, 11)) (As := [.int a1]) g3 dX7_sign_3 wX7_isSign q1653 q1655 qs27 g3o rfl rfl g3d rfl (Nat.le_of_ble_eq_true rfl) (k1 := k - k5) (n1 := n - n6) (by omega) (by omega) ?_ ?_
  · rintro v h2 (⟨v9, e9, r1, e8, hq⟩ | ⟨ci9, q9, e9, -⟩)
    · cases e9
      subst e8
      replace H := H r1 h2 hq
      refine e_iconst (2) dX7_sign_6 (by decide) ?_
      obtain ⟨fsg10, g10o, H⟩ := H
      obtain ⟨d11, k12, n13, Q14, X22, g10, g10d, g10k, g10n, H, Hx, Hx8⟩ := H
      refine e_callV (r := (RX7, TX7, 11)) (As := [.int r1, .int (2 : Int32)]) g10 dX7_sign_7 wX7_need q1563 q1565 qs22 g10o rfl rfl g10d rfl (Nat.le_of_ble_eq_true rfl) (k1 := k - k5 - k12) (n1 := n - n6 - n13) (by omega) (by omega) ?_ ?_
      · rintro v h9 (⟨v9, e9, e8, hq⟩ | ⟨ci9, q9, e9, -⟩)
        · cases e9
          subst e8
          replace H := H h9 hq
          refine e_aload_n dX7_sign_10 rfl ?_
          obtain ⟨fsg17, g17o, H⟩ := H
          obtain ⟨d18, k19, n20, Q21, g17, g17d, g17k, g17n, H⟩ := H
          refine e_callV (r := (RX7, TX7, 11)) (As := []) g17 dX7_sign_11 wX7_next q1291 q1293 qs17 g17o rfl rfl g17d rfl (Nat.le_of_ble_eq_true rfl) (k1 := k - k5 - k12 - k19) (n1 := n - n6 - n13 - n20) (by omega) (by omega) ?_ ?_
          · rintro v h16 (⟨v9, e9, e8, hq⟩ | ⟨ci9, q9, e9, -⟩)
            · cases e9
              subst e8
              replace H := H h16 hq
              exact e_return dX7_sign_14 rfl H
            · cases e9
          · rintro q9 h9 (⟨v9, e9, -⟩ | ⟨ci9, q8, e9, -, -, hx⟩)
            · cases e9
            · exact hx.elim
        · cases e9
      · rintro q9 h9 (⟨v9, e9, -⟩ | ⟨ci9, q8, e9, gl, ⟨fs9, gq⟩, hx⟩)
        · cases e9
        · cases e9
          rcases Hx ci9 q9 h9 hx with rfl
          · have H := Hx8 q9 h9 fs9 hx gq gl
            exact ex_out (r := (RX8, TX8, 8)) (fun z hz => absurd hz List.not_mem_nil) gq rfl gl H
    · cases e9
  · rintro q9 h9 (⟨v9, e9, -⟩ | ⟨ci9, q8, e9, -, -, hx⟩)
    · cases e9
    · exact hx.elim
theorem en_X7_sign {l : Launch} {lo : Nat} {G : eG} {d : Nat} {P : eO → eH → Prop} (a0 : Nat) (a1 : Int32) {h : eH} {k n : Nat} (H : h_X7_sign_0 (l, lo, G, d, P) a0 a1 h k n) : Ct l lo G d mX7_sign [.ref a0, .int a1] h k n P := 
  Ct_of (eArL mX7_sign.2.2.2.1 [.ref a0, .int a1]) (by decide) rfl (Nat.le_of_ble_eq_true rfl) (fun j w q => eArL_mem j w q) (E.less2 H (eS_s (eS_s eS_0)))
/-! X7_isSign TroupeSums$Reader.isSign(C)Z -/
def h_X7_isSign_0 (c : cC) (a0 : Nat) (a1 : Int32) (h : eH) (k n : Nat) : Prop := E c.1 c.2.1 c.2.2.1 c.2.2.2.1 mX7_isSign c.2.2.2.2 0 [some (.ref a0), some (.int a1)] [] h k n
set_option maxHeartbeats 4000000 in
theorem s_X7_isSign_0 (c : cC) (a0 : Nat) (a1 : Int32) (h : eH) (k n : Nat) (H : ∃ x1 : Int32, fV h a0 7 4 (.int x1) ∧ ((¬ x1 = (3 : Int32) → c.2.2.2.2 (.inl (some (.int (0 : Int32)))) h) ∧ (x1 = (3 : Int32) → ∃ x4 : Int32, fV h a0 7 2 (.int x4) ∧ (∃ fs8 : List Value, h.1 a0 = some (.inr (7, fs8)) ∧ ∃ (d9 k10 n11 : Nat) (Q12 : Int32 → eH → Prop), cI c.1 c.2.1 c.2.2.1 d9 mX7_at [.ref a0, .int x4] h k10 n11 Q12 cX0 ∧ d9 + 1 ≤ c.2.2.2.1 ∧ k10 ≤ k ∧ n11 ≤ n ∧ (∀ (r6 : Int32) (h7 : eH), Q12 r6 h7 → ((¬ r6 = a1 → c.2.2.2.2 (.inl (some (.int (0 : Int32)))) h7) ∧ (r6 = a1 → c.2.2.2.2 (.inl (some (.int (1 : Int32)))) h7))))))) : h_X7_isSign_0 c a0 a1 h k n := by
  refine e_aload_n dX7_isSign_0 rfl ?_
  obtain ⟨x1, ⟨fsx1, g2, g2v⟩, H⟩ := H
  refine e_get dX7_isSign_1 fX7_4 q1365 g2 g2v ?_
  refine e_iconst (3) dX7_isSign_4 (by decide) ?_
  refine e_icmp_ne 24 dX7_isSign_5 (by decide) (fun g3 => ?_) (fun g3 => ?_)
  · replace H := H.1 g3
    refine e_iconst (0) dX7_isSign_24 (by decide) ?_
    exact e_ireturn .boolean dX7_isSign_25 rfl (by decide) H
  · replace H := H.2 g3
    refine e_aload_n dX7_isSign_8 rfl ?_
    refine e_aload_n dX7_isSign_9 rfl ?_
    obtain ⟨x4, ⟨fsx4, g5, g5v⟩, H⟩ := H
    refine e_get dX7_isSign_10 fX7_2 q1363 g5 g5v ?_
    obtain ⟨fsg8, g8o, H⟩ := H
    obtain ⟨d9, k10, n11, Q12, g8, g8d, g8k, g8n, H⟩ := H
    refine e_callV (r := (RX7, TX7, 11)) (As := [.int x4]) g8 dX7_isSign_13 wX7_at q1295 q1297 qs18 g8o rfl rfl g8d rfl (Nat.le_of_ble_eq_true rfl) (k1 := k - k10) (n1 := n - n11) (by omega) (by omega) ?_ ?_
    · rintro v h7 (⟨v9, e9, r6, e8, hq⟩ | ⟨ci9, q9, e9, -⟩)
      · cases e9
        subst e8
        replace H := H r6 h7 hq
        refine e_iload_n dX7_isSign_16 rfl ?_
        refine e_icmp_ne 24 dX7_isSign_17 (by decide) (fun g13 => ?_) (fun g13 => ?_)
        · replace H := H.1 g13
          refine e_iconst (0) dX7_isSign_24 (by decide) ?_
          exact e_ireturn .boolean dX7_isSign_25 rfl (by decide) H
        · replace H := H.2 g13
          refine e_iconst (1) dX7_isSign_20 (by decide) ?_
          refine e_goto 25 dX7_isSign_21 (by decide) ?_
          exact e_ireturn .boolean dX7_isSign_25 rfl (by decide) H
      · cases e9
    · rintro q9 h9 (⟨v9, e9, -⟩ | ⟨ci9, q8, e9, -, -, hx⟩)
      · cases e9
      · exact hx.elim
theorem en_X7_isSign {l : Launch} {lo : Nat} {G : eG} {d : Nat} {P : eO → eH → Prop} (a0 : Nat) (a1 : Int32) {h : eH} {k n : Nat} (H : h_X7_isSign_0 (l, lo, G, d, P) a0 a1 h k n) : Ct l lo G d mX7_isSign [.ref a0, .int a1] h k n P := 
  Ct_of (eArL mX7_isSign.2.2.2.1 [.ref a0, .int a1]) (by decide) rfl (Nat.le_of_ble_eq_true rfl) (fun j w q => eArL_mem j w q) (E.less2 H (eS_s (eS_s eS_0)))
/-! X7_move TroupeSums$Reader.move(I)V -/
def h_X7_move_0 (c : cC) (a0 : Nat) (a1 : Int32) (h : eH) (k n : Nat) : Prop := E c.1 c.2.1 c.2.2.1 c.2.2.2.1 mX7_move c.2.2.2.2 0 [some (.ref a0), some (.int a1), none, none, none] [] h k n
def h_X7_move_17 (c : cC) (a0 : Nat) (a1 : Int32) (b0 : Int32) (b1 : Nat) (h : eH) (k n : Nat) : Prop := E c.1 c.2.1 c.2.2.1 c.2.2.2.1 mX7_move c.2.2.2.2 17 [some (.ref a0), some (.int a1), none, none, none] [.int b0, .ref b1] h k n
def h_X7_move_40 (c : cC) (a0 : Nat) (a1 : Int32) (a2 : Nat) (a3 : Int32) (a4 : Int32) (h : eH) (k n : Nat) : Prop := E c.1 c.2.1 c.2.2.1 c.2.2.2.1 mX7_move c.2.2.2.2 40 [some (.ref a0), some (.int a1), some (.ref a2), some (.int a3), some (.int a4)] [] h k n
def h_X7_move_77 (c : cC) (a0 : Nat) (a1 : Int32) (a2 : Nat) (a3 : Int32) (a4 : Int32) (b0 : Int32) (b1 : Nat) (h : eH) (k n : Nat) : Prop := E c.1 c.2.1 c.2.2.1 c.2.2.2.1 mX7_move c.2.2.2.2 77 [some (.ref a0), some (.int a1), some (.ref a2), some (.int a3), some (.int a4)] [.int b0, .ref b1] h k n
set_option maxHeartbeats 4000000 in
theorem s_X7_move_0 (c : cC) (a0 : Nat) (a1 : Int32) (h : eH) (k n : Nat) (H : ∃ x1 : Nat, fV h a0 7 7 (.ref x1) ∧ (∃ x3 : Int32, fV h x1 1 1 (.int x3) ∧ (((4 : Int32) ≤ x3 → h_X7_move_17 c a0 a1 (0 : Int32) a0 h k n) ∧ (¬ (4 : Int32) ≤ x3 → h_X7_move_17 c a0 a1 (1 : Int32) a0 h k n)))) : h_X7_move_0 c a0 a1 h k n := by
  refine e_aload_n dX7_move_0 rfl ?_
  refine e_aload_n dX7_move_1 rfl ?_
  obtain ⟨x1, ⟨fsx1, g2, g2v⟩, H⟩ := H
  refine e_get dX7_move_2 fX7_7 q1368 g2 g2v ?_
  obtain ⟨x3, ⟨fsx3, g4, g4v⟩, H⟩ := H
  refine e_getN dX7_move_5 fX1_1 q236 g4 g4v ?_
  refine e_iconst (4) dX7_move_8 (by decide) ?_
  refine e_icmp_ge 16 dX7_move_9 (by decide) (fun g5 => ?_) (fun g5 => ?_)
  · replace H := H.1 g5
    refine e_iconst (0) dX7_move_16 (by decide) ?_
    exact E.less2 H (eS_s (eS_s (eS_n (eS_n (eS_n eS_0)))))
  · replace H := H.2 g5
    refine e_iconst (1) dX7_move_12 (by decide) ?_
    refine e_goto 17 dX7_move_13 (by decide) ?_
    exact E.less2 H (eS_s (eS_s (eS_n (eS_n (eS_n eS_0)))))
set_option maxHeartbeats 4000000 in
theorem s_X7_move_17 (c : cC) (a0 : Nat) (a1 : Int32) (b0 : Int32) (b1 : Nat) (h : eH) (k n : Nat) (H : ∃ fs8 : List Value, h.1 b1 = some (.inr (7, fs8)) ∧ ∃ (d4 k5 n6 : Nat) (Q7 : eH → Prop) (X22 : Nat → Nat → eH → Prop), cV c.1 c.2.1 c.2.2.1 d4 mX7_need [.ref b1, .int b0, .int (5 : Int32)] h k5 n6 Q7 X22 ∧ d4 + 1 ≤ c.2.2.2.1 ∧ k5 ≤ k ∧ n6 ≤ n ∧ (∀ h2 : eH, Q7 h2 → (∃ fs8 : List Value, h2.1 a0 = some (.inr (7, fs8)) ∧ ∃ (d11 k12 n13 : Nat) (Q14 : eH → Prop), cV c.1 c.2.1 c.2.2.1 d11 mX7_next [.ref a0] h2 k12 n13 Q14 cX0 ∧ d11 + 1 ≤ c.2.2.2.1 ∧ k12 ≤ k - k5 ∧ n13 ≤ n - n6 ∧ (∀ h9 : eH, Q14 h9 → (∃ x15 : Nat, fV h9 a0 7 7 (.ref x15) ∧ (∃ x17 : Int32, fV h9 x15 1 0 (.int x17) ∧ (∃ N21 : Nat, x17 = nI N21 ∧ N21 ≤ 10000000 ∧ 1 ≤ k - k5 - k12 ∧ N21 ≤ n - n6 - n13 ∧ ∀ h19 : eH, h19 = eNw h9 (.inl (c.2.2.1.2.1 0, N21, .inl (fun _ => 0))) → (h_X7_move_40 c a0 a1 h9.2 (0 : Int32) (0 : Int32) h19 (k - k5 - k12 - 1) (n - n6 - n13 - N21)))))))) ∧ (∀ (ci q : Nat) (h9 : eH), X22 ci q h9 → ci = 8) ∧ (∀ (q23 : Nat) (h24 : eH) (fs9 : List Value), X22 8 q23 h24 → h24.1 q23 = some (.inr (8, fs9)) → c.2.1 ≤ q23 → c.2.2.2.2 (.inr q23) h24)) : h_X7_move_17 c a0 a1 b0 b1 h k n := by
  refine e_iconst (5) dX7_move_17 (by decide) ?_
  obtain ⟨fsg3, g3o, H⟩ := H
  obtain ⟨d4, k5, n6, Q7, X22, g3, g3d, g3k, g3n, H, Hx, Hx8⟩ := H
  refine e_callV (r := (RX7, TX7, 11)) (As := [.int b0, .int (5 : Int32)]) g3 dX7_move_18 wX7_need q1563 q1565 qs22 g3o rfl rfl g3d rfl (Nat.le_of_ble_eq_true rfl) (k1 := k - k5) (n1 := n - n6) (by omega) (by omega) ?_ ?_
  · rintro v h2 (⟨v9, e9, e8, hq⟩ | ⟨ci9, q9, e9, -⟩)
    · cases e9
      subst e8
      replace H := H h2 hq
      refine e_aload_n dX7_move_21 rfl ?_
      obtain ⟨fsg10, g10o, H⟩ := H
      obtain ⟨d11, k12, n13, Q14, g10, g10d, g10k, g10n, H⟩ := H
      refine e_callV (r := (RX7, TX7, 11)) (As := []) g10 dX7_move_22 wX7_next q1291 q1293 qs17 g10o rfl rfl g10d rfl (Nat.le_of_ble_eq_true rfl) (k1 := k - k5 - k12) (n1 := n - n6 - n13) (by omega) (by omega) ?_ ?_
      · rintro v h9 (⟨v9, e9, e8, hq⟩ | ⟨ci9, q9, e9, -⟩)
        · cases e9
          subst e8
          replace H := H h9 hq
          refine e_aload_n dX7_move_25 rfl ?_
          obtain ⟨x15, ⟨fsx15, g16, g16v⟩, H⟩ := H
          refine e_get dX7_move_26 fX7_7 q1368 g16 g16v ?_
          obtain ⟨x17, ⟨fsx17, g18, g18v⟩, H⟩ := H
          refine e_getN dX7_move_29 fX1_0 q234 g18 g18v ?_
          obtain ⟨N21, g20i, g20b, g20, g20n, H⟩ := H
          refine c_newarrayI dX7_move_32 q303 g20i g20b g20 g20n ?_
          replace H := H _ rfl
          generalize eNw h9 _ = h19 at H ⊢
          refine e_astore_n _ dX7_move_34 (by decide) rfl rfl ?_
          refine e_iconst (0) dX7_move_35 (by decide) ?_
          refine e_istore_n _ dX7_move_36 (by decide) rfl rfl ?_
          refine e_iconst (0) dX7_move_37 (by decide) ?_
          refine e_istore _ dX7_move_38 (by decide) rfl rfl ?_
          exact E.less2 H (eS_s (eS_s (eS_s (eS_s (eS_s eS_0)))))
        · cases e9
      · rintro q9 h9 (⟨v9, e9, -⟩ | ⟨ci9, q8, e9, -, -, hx⟩)
        · cases e9
        · exact hx.elim
    · cases e9
  · rintro q9 h9 (⟨v9, e9, -⟩ | ⟨ci9, q8, e9, gl, ⟨fs9, gq⟩, hx⟩)
    · cases e9
    · cases e9
      rcases Hx ci9 q9 h9 hx with rfl
      · have H := Hx8 q9 h9 fs9 hx gq gl
        exact ex_out (r := (RX8, TX8, 8)) (fun z hz => absurd hz List.not_mem_nil) gq rfl gl H
set_option maxHeartbeats 4000000 in
theorem s_X7_move_40 (c : cC) (a0 : Nat) (a1 : Int32) (a2 : Nat) (a3 : Int32) (a4 : Int32) (h : eH) (k n : Nat) (H : ∃ v1 : vp_A, h.1 a2 = some (.inl (c.2.2.1.2.1 0, v1)) ∧ (((nI v1.1) ≤ a4 → ∃ fs8 : List Value, h.1 a0 = some (.inr (7, fs8)) ∧ ∃ (d7 k8 n9 : Nat) (Q10 : eH → Prop) (X44 : Nat → Nat → eH → Prop), cV c.1 c.2.1 c.2.2.1 d7 mX7_sign [.ref a0, .int (59 : Int32)] h k8 n9 Q10 X44 ∧ d7 + 1 ≤ c.2.2.2.1 ∧ k8 ≤ k ∧ n9 ≤ n ∧ (∀ h5 : eH, Q10 h5 → (∃ x11 : Nat, fV h5 a0 7 7 (.ref x11) ∧ (∃ x13 : Int32, fV h5 x11 1 1 (.int x13) ∧ (∃ fs15 : List Value, h5.1 x11 = some (.inr (1, fs15)) ∧ c.2.1 ≤ x11 ∧ 1 < fs15.length ∧ ∀ h17 : eH, h17 = eUp h5 x11 (.inr (1, fs15.set 1 (.int (x13 + (1 : Int32))))) → (1 ≤ k - k8 ∧ 1 ≤ n - n9 ∧ ∀ h18 : eH, h18 = eNw h17 (.inr (2, [.null])) → (∃ (d23 k24 n25 : Nat) (Q26 : eH → Prop), cV c.1 c.2.1 c.2.2.1 d23 mX2_init [.ref h17.2, .ref a2] h18 k24 n25 Q26 cX0 ∧ d23 + 1 ≤ c.2.2.2.1 ∧ k24 ≤ k - k8 - 1 ∧ n25 ≤ n - n9 - 1 ∧ (∀ h21 : eH, Q26 h21 → (∃ fs8 : List Value, h21.1 a0 = some (.inr (7, fs8)) ∧ ∃ (d30 k31 n32 : Nat) (Q33 : Int32 → eH → Prop), cI c.1 c.2.1 c.2.2.1 d30 mX7_grows [.ref a0, .ref h17.2] h21 k31 n32 Q33 cX0 ∧ d30 + 1 ≤ c.2.2.2.1 ∧ k31 ≤ k - k8 - 1 - k24 ∧ n32 ≤ n - n9 - 1 - n25 ∧ (∀ (r27 : Int32) (h28 : eH), Q33 r27 h28 → ((¬ r27 = 0 → c.2.2.2.2 (.inl none) h28) ∧ (r27 = 0 → 1 ≤ k - k8 - 1 - k24 - k31 ∧ 8 ≤ n - n9 - 1 - n25 - n32 ∧ ∀ h35 : eH, h35 = eNw h28 (.inr (8, [.null, .null, .null, .null, .null, .int 0, .int 0, .int 0])) → (∃ (d40 k41 n42 : Nat) (Q43 : eH → Prop), cV c.1 c.2.1 c.2.2.1 d40 mX8_init [.ref h28.2, .int (5 : Int32), .int a1] h35 k41 n42 Q43 cX0 ∧ d40 + 1 ≤ c.2.2.2.1 ∧ k41 ≤ k - k8 - 1 - k24 - k31 - 1 ∧ n42 ≤ n - n9 - 1 - n25 - n32 - 8 ∧ (∀ h38 : eH, Q43 h38 → (∃ fs9 : List Value, h38.1 h28.2 = some (.inr (8, fs9)) ∧ c.2.1 ≤ h28.2 ∧ (c.2.2.2.2 (.inr h28.2) h38))))))))))))))) ∧ (∀ (ci q : Nat) (h9 : eH), X44 ci q h9 → ci = 8) ∧ (∀ (q45 : Nat) (h46 : eH) (fs9 : List Value), X44 8 q45 h46 → h46.1 q45 = some (.inr (8, fs9)) → c.2.1 ≤ q45 → c.2.2.2.2 (.inr q45) h46)) ∧ (¬ (nI v1.1) ≤ a4 → ∃ v47 : vp_A, h.1 a2 = some (.inl (c.2.2.1.2.1 0, v47)) ∧ (∃ fs8 : List Value, h.1 a0 = some (.inr (7, fs8)) ∧ ∃ (d52 k53 n54 : Nat) (Q55 : Int32 → eH → Prop) (X71 : Nat → Nat → eH → Prop), cI c.1 c.2.1 c.2.2.1 d52 mX7_number [.ref a0, .int ((nI v47.1) - (1 : Int32))] h k53 n54 Q55 X71 ∧ d52 + 1 ≤ c.2.2.2.1 ∧ k53 ≤ k ∧ n54 ≤ n ∧ (∀ (r49 : Int32) (h50 : eH), Q55 r49 h50 → (∃ (N56 : Nat) (f57 : Nat → Int32), h50.1 a2 = some (.inl (c.2.2.1.2.1 0, N56, .inl f57)) ∧ c.2.1 ≤ a2 ∧ vp_in a4 N56 ∧ ∀ h59 : eH, h59 = eUp h50 a2 (.inl (c.2.2.1.2.1 0, N56, .inl (va_up f57 a4.toNatClampNeg r49))) → (∃ (N60 : Nat) (f61 : Nat → Int32), h59.1 a2 = some (.inl (c.2.2.1.2.1 0, N60, .inl f61)) ∧ vp_in a4 N60 ∧ (∃ (d66 k67 n68 : Nat) (Q69 : Int32 → eH → Prop), cI c.1 c.2.1 c.2.2.1 d66 mX0_isOf [.long a3.toInt64, .int (f61 a4.toNatClampNeg)] h59 k67 n68 Q69 cX0 ∧ d66 + 1 ≤ c.2.2.2.1 ∧ k67 ≤ k - k53 ∧ n68 ≤ n - n54 ∧ (∀ (r63 : Int32) (h64 : eH), Q69 r63 h64 → ((¬ r63 = 0 → h_X7_move_77 c a0 a1 a2 a3 a4 (0 : Int32) a0 h64 (k - k53 - k67) (n - n54 - n68)) ∧ (r63 = 0 → h_X7_move_77 c a0 a1 a2 a3 a4 (1 : Int32) a0 h64 (k - k53 - k67) (n - n54 - n68)))))))) ∧ (∀ (ci q : Nat) (h9 : eH), X71 ci q h9 → ci = 8) ∧ (∀ (q72 : Nat) (h73 : eH) (fs9 : List Value), X71 8 q72 h73 → h73.1 q72 = some (.inr (8, fs9)) → c.2.1 ≤ q72 → c.2.2.2.2 (.inr q72) h73))))) : h_X7_move_40 c a0 a1 a2 a3 a4 h k n := by
  refine e_iload dX7_move_40 rfl ?_
  refine e_aload_n dX7_move_42 rfl ?_
  obtain ⟨v1, g2, H⟩ := H
  refine e_alen (t := 0) dX7_move_43 (fun _ => rfl) g2 ?_
  refine e_icmp_ge 100 dX7_move_44 (by decide) (fun g3 => ?_) (fun g3 => ?_)
  · replace H := H.1 g3
    refine e_aload_n dX7_move_100 rfl ?_
    refine e_bipush (59) dX7_move_101 (by decide) ?_
    obtain ⟨fsg6, g6o, H⟩ := H
    obtain ⟨d7, k8, n9, Q10, X44, g6, g6d, g6k, g6n, H, Hx, Hx8⟩ := H
    refine e_callV (r := (RX7, TX7, 11)) (As := [.int (59 : Int32)]) g6 dX7_move_103 wX7_sign q1649 q1651 qs26 g6o rfl rfl g6d rfl (Nat.le_of_ble_eq_true rfl) (k1 := k - k8) (n1 := n - n9) (by omega) (by omega) ?_ ?_
    · rintro v h5 (⟨v9, e9, e8, hq⟩ | ⟨ci9, q9, e9, -⟩)
      · cases e9
        subst e8
        replace H := H h5 hq
        refine e_aload_n dX7_move_106 rfl ?_
        obtain ⟨x11, ⟨fsx11, g12, g12v⟩, H⟩ := H
        refine e_get dX7_move_107 fX7_7 q1368 g12 g12v ?_
        refine e_dup dX7_move_110 rfl ?_
        obtain ⟨x13, ⟨fsx13, g14, g14v⟩, H⟩ := H
        refine e_getN dX7_move_111 fX1_1 q236 g14 g14v ?_
        refine e_iconst (1) dX7_move_114 (by decide) ?_
        refine e_iadd dX7_move_115 ?_
        obtain ⟨fs15, g16, g16l, g16j, H⟩ := H
        refine e_putN dX7_move_116 fX1_1 q236 (eFit_i _) g16 g16l g16j ?_
        replace H := H _ rfl
        generalize eUp h5 x11 _ = h17 at H ⊢
        refine e_aload_n dX7_move_119 rfl ?_
        obtain ⟨g19, g19n, H⟩ := H
        refine e_new (ci := 2) (N := 1) (C := RX2) (T := TX2) tyX2 (fs := [.null]) dX7_move_120 rfl in_X2 tyX2_ok q1645 q292 q141 (by decide) (k1 := k - k8 - 1) (n1 := n - n9 - 1) (by omega) (by omega) ?_
        replace H := H _ rfl
        generalize eNw h17 _ = h18 at H ⊢
        refine e_dup dX7_move_123 rfl ?_
        refine e_aload_n dX7_move_124 rfl ?_
        obtain ⟨d23, k24, n25, Q26, g22, g22d, g22k, g22n, H⟩ := H
        refine e_callI (As := [.ref a2]) g22 dX7_move_125 wX2_init rfl rfl rfl q1646 q294 rfl g22d rfl (Nat.le_of_ble_eq_true rfl) (k1 := k - k8 - 1 - k24) (n1 := n - n9 - 1 - n25) (by omega) (by omega) ?_ ?_
        · rintro v h21 (⟨v9, e9, e8, hq⟩ | ⟨ci9, q9, e9, -⟩)
          · cases e9
            subst e8
            replace H := H h21 hq
            obtain ⟨fsg29, g29o, H⟩ := H
            obtain ⟨d30, k31, n32, Q33, g29, g29d, g29k, g29n, H⟩ := H
            refine e_callV (r := (RX7, TX7, 11)) (As := [.ref h17.2]) g29 dX7_move_128 wX7_grows q1662 q1664 qs29 g29o rfl rfl g29d rfl (Nat.le_of_ble_eq_true rfl) (k1 := k - k8 - 1 - k24 - k31) (n1 := n - n9 - 1 - n25 - n32) (by omega) (by omega) ?_ ?_
            · rintro v h28 (⟨v9, e9, r27, e8, hq⟩ | ⟨ci9, q9, e9, -⟩)
              · cases e9
                subst e8
                replace H := H r27 h28 hq
                refine e_if_ne 144 dX7_move_131 (by decide) (fun g34 => ?_) (fun g34 => ?_)
                · replace H := H.1 g34
                  exact e_return dX7_move_144 rfl H
                · replace H := H.2 g34
                  obtain ⟨g36, g36n, H⟩ := H
                  refine e_new (ci := 8) (N := 8) (C := RX8) (T := TX8) tyX8 (fs := [.null, .null, .null, .null, .null, .int 0, .int 0, .int 0]) dX7_move_134 rfl in_X8 tyX8_ok q1405 q1567 q176 (by decide) (k1 := k - k8 - 1 - k24 - k31 - 1) (n1 := n - n9 - 1 - n25 - n32 - 8) (by omega) (by omega) ?_
                  replace H := H _ rfl
                  generalize eNw h28 _ = h35 at H ⊢
                  refine e_dup dX7_move_137 rfl ?_
                  refine e_iconst (5) dX7_move_138 (by decide) ?_
                  refine e_iload_n dX7_move_139 rfl ?_
                  obtain ⟨d40, k41, n42, Q43, g39, g39d, g39k, g39n, H⟩ := H
                  refine e_callI (As := [.int (5 : Int32), .int a1]) g39 dX7_move_140 wX8_init rfl rfl rfl q1607 q1608 rfl g39d rfl (Nat.le_of_ble_eq_true rfl) (k1 := k - k8 - 1 - k24 - k31 - 1 - k41) (n1 := n - n9 - 1 - n25 - n32 - 8 - n42) (by omega) (by omega) ?_ ?_
                  · rintro v h38 (⟨v9, e9, e8, hq⟩ | ⟨ci9, q9, e9, -⟩)
                    · cases e9
                      subst e8
                      replace H := H h38 hq
                      obtain ⟨fs9, gq, gl, H⟩ := H
                      refine e_athrow dX7_move_143 ?_
                      exact ex_out (r := (RX8, TX8, 8)) (fun z hz => absurd hz List.not_mem_nil) gq rfl gl H
                    · cases e9
                  · rintro q9 h9 (⟨v9, e9, -⟩ | ⟨ci9, q8, e9, -, -, hx⟩)
                    · cases e9
                    · exact hx.elim
              · cases e9
            · rintro q9 h9 (⟨v9, e9, -⟩ | ⟨ci9, q8, e9, -, -, hx⟩)
              · cases e9
              · exact hx.elim
          · cases e9
        · rintro q9 h9 (⟨v9, e9, -⟩ | ⟨ci9, q8, e9, -, -, hx⟩)
          · cases e9
          · exact hx.elim
      · cases e9
    · rintro q9 h9 (⟨v9, e9, -⟩ | ⟨ci9, q8, e9, gl, ⟨fs9, gq⟩, hx⟩)
      · cases e9
      · cases e9
        rcases Hx ci9 q9 h9 hx with rfl
        · have H := Hx8 q9 h9 fs9 hx gq gl
          exact ex_out (r := (RX8, TX8, 8)) (fun z hz => absurd hz List.not_mem_nil) gq rfl gl H
  · replace H := H.2 g3
    refine e_aload_n dX7_move_47 rfl ?_
    refine e_iload dX7_move_48 rfl ?_
    refine e_aload_n dX7_move_50 rfl ?_
    refine e_aload_n dX7_move_51 rfl ?_
    obtain ⟨v47, g48, H⟩ := H
    refine e_alen (t := 0) dX7_move_52 (fun _ => rfl) g48 ?_
    refine e_iconst (1) dX7_move_53 (by decide) ?_
    refine e_isub dX7_move_54 ?_
    obtain ⟨fsg51, g51o, H⟩ := H
    obtain ⟨d52, k53, n54, Q55, X71, g51, g51d, g51k, g51n, H, Hx, Hx8⟩ := H
    refine e_callV (r := (RX7, TX7, 11)) (As := [.int ((nI v47.1) - (1 : Int32))]) g51 dX7_move_55 wX7_number q1641 q1643 qs25 g51o rfl rfl g51d rfl (Nat.le_of_ble_eq_true rfl) (k1 := k - k53) (n1 := n - n54) (by omega) (by omega) ?_ ?_
    · rintro v h50 (⟨v9, e9, r49, e8, hq⟩ | ⟨ci9, q9, e9, -⟩)
      · cases e9
        subst e8
        replace H := H r49 h50 hq
        obtain ⟨N56, f57, g58, g58l, g58i, H⟩ := H
        refine e_iastore dX7_move_58 g58 g58l g58i ?_
        replace H := H _ rfl
        generalize eUp h50 a2 _ = h59 at H ⊢
        refine e_aload_n dX7_move_59 rfl ?_
        refine e_iload_n dX7_move_60 rfl ?_
        refine e_i2l dX7_move_61 ?_
        refine e_aload_n dX7_move_62 rfl ?_
        refine e_iload dX7_move_63 rfl ?_
        obtain ⟨N60, f61, g62, g62i, H⟩ := H
        refine e_iaload dX7_move_65 g62 g62i ?_
        obtain ⟨d66, k67, n68, Q69, g65, g65d, g65k, g65n, H⟩ := H
        refine e_callSN (As := [.long a3.toInt64, .int (f61 a4.toNatClampNeg)]) g65 dX7_move_66 wX0_isOf rfl q1661 q937 rfl g65d rfl (Nat.le_of_ble_eq_true rfl) (k1 := k - k53 - k67) (n1 := n - n54 - n68) (by omega) (by omega) ?_ ?_
        · rintro v h64 (⟨v9, e9, r63, e8, hq⟩ | ⟨ci9, q9, e9, -⟩)
          · cases e9
            subst e8
            replace H := H r63 h64 hq
            refine e_if_ne 76 dX7_move_69 (by decide) (fun g70 => ?_) (fun g70 => ?_)
            · replace H := H.1 g70
              refine e_iconst (0) dX7_move_76 (by decide) ?_
              exact E.less2 H (eS_s (eS_s (eS_s (eS_s (eS_s eS_0)))))
            · replace H := H.2 g70
              refine e_iconst (1) dX7_move_72 (by decide) ?_
              refine e_goto 77 dX7_move_73 (by decide) ?_
              exact E.less2 H (eS_s (eS_s (eS_s (eS_s (eS_s eS_0)))))
          · cases e9
        · rintro q9 h9 (⟨v9, e9, -⟩ | ⟨ci9, q8, e9, -, -, hx⟩)
          · cases e9
          · exact hx.elim
      · cases e9
    · rintro q9 h9 (⟨v9, e9, -⟩ | ⟨ci9, q8, e9, gl, ⟨fs9, gq⟩, hx⟩)
      · cases e9
      · cases e9
        rcases Hx ci9 q9 h9 hx with rfl
        · have H := Hx8 q9 h9 fs9 hx gq gl
          exact ex_out (r := (RX8, TX8, 8)) (fun z hz => absurd hz List.not_mem_nil) gq rfl gl H
set_option maxHeartbeats 4000000 in
theorem s_X7_move_77 (c : cC) (a0 : Nat) (a1 : Int32) (a2 : Nat) (a3 : Int32) (a4 : Int32) (b0 : Int32) (b1 : Nat) (h : eH) (k n : Nat) (H : ∃ fs8 : List Value, h.1 b1 = some (.inr (7, fs8)) ∧ ∃ (d4 k5 n6 : Nat) (Q7 : eH → Prop) (X18 : Nat → Nat → eH → Prop), cV c.1 c.2.1 c.2.2.1 d4 mX7_need [.ref b1, .int b0, .int (4 : Int32)] h k5 n6 Q7 X18 ∧ d4 + 1 ≤ c.2.2.2.1 ∧ k5 ≤ k ∧ n6 ≤ n ∧ (∀ h2 : eH, Q7 h2 → (∃ (N8 : Nat) (f9 : Nat → Int32), h2.1 a2 = some (.inl (c.2.2.1.2.1 0, N8, .inl f9)) ∧ vp_in a4 N8 ∧ (∃ fs8 : List Value, h2.1 a0 = some (.inr (7, fs8)) ∧ ∃ (d14 k15 n16 : Nat) (Q17 : eH → Prop), cV c.1 c.2.1 c.2.2.1 d14 mX7_next [.ref a0] h2 k15 n16 Q17 cX0 ∧ d14 + 1 ≤ c.2.2.2.1 ∧ k15 ≤ k - k5 ∧ n16 ≤ n - n6 ∧ (∀ h12 : eH, Q17 h12 → (h_X7_move_40 c a0 a1 a2 (a3 ||| ((1 : Int32) <<< ((f9 a4.toNatClampNeg) &&& 31))) (a4 + 1) h12 (k - k5 - k15) (n - n6 - n16)))))) ∧ (∀ (ci q : Nat) (h9 : eH), X18 ci q h9 → ci = 8) ∧ (∀ (q19 : Nat) (h20 : eH) (fs9 : List Value), X18 8 q19 h20 → h20.1 q19 = some (.inr (8, fs9)) → c.2.1 ≤ q19 → c.2.2.2.2 (.inr q19) h20)) : h_X7_move_77 c a0 a1 a2 a3 a4 b0 b1 h k n := by
  refine e_iconst (4) dX7_move_77 (by decide) ?_
  obtain ⟨fsg3, g3o, H⟩ := H
  obtain ⟨d4, k5, n6, Q7, X18, g3, g3d, g3k, g3n, H, Hx, Hx8⟩ := H
  refine e_callV (r := (RX7, TX7, 11)) (As := [.int b0, .int (4 : Int32)]) g3 dX7_move_78 wX7_need q1563 q1565 qs22 g3o rfl rfl g3d rfl (Nat.le_of_ble_eq_true rfl) (k1 := k - k5) (n1 := n - n6) (by omega) (by omega) ?_ ?_
  · rintro v h2 (⟨v9, e9, e8, hq⟩ | ⟨ci9, q9, e9, -⟩)
    · cases e9
      subst e8
      replace H := H h2 hq
      refine e_iload_n dX7_move_81 rfl ?_
      refine e_iconst (1) dX7_move_82 (by decide) ?_
      refine e_aload_n dX7_move_83 rfl ?_
      refine e_iload dX7_move_84 rfl ?_
      obtain ⟨N8, f9, g10, g10i, H⟩ := H
      refine e_iaload dX7_move_86 g10 g10i ?_
      refine e_ishl dX7_move_87 ?_
      refine e_ior dX7_move_88 ?_
      refine e_istore_n _ dX7_move_89 (by decide) rfl rfl ?_
      refine e_aload_n dX7_move_90 rfl ?_
      obtain ⟨fsg13, g13o, H⟩ := H
      obtain ⟨d14, k15, n16, Q17, g13, g13d, g13k, g13n, H⟩ := H
      refine e_callV (r := (RX7, TX7, 11)) (As := []) g13 dX7_move_91 wX7_next q1291 q1293 qs17 g13o rfl rfl g13d rfl (Nat.le_of_ble_eq_true rfl) (k1 := k - k5 - k15) (n1 := n - n6 - n16) (by omega) (by omega) ?_ ?_
      · rintro v h12 (⟨v9, e9, e8, hq⟩ | ⟨ci9, q9, e9, -⟩)
        · cases e9
          subst e8
          replace H := H h12 hq
          refine e_iinc (a4 + 1) _ dX7_move_94 rfl rfl (by decide) rfl rfl ?_
          refine e_goto 40 dX7_move_97 (by decide) ?_
          exact E.less2 H (eS_s (eS_s (eS_s (eS_s (eS_s eS_0)))))
        · cases e9
      · rintro q9 h9 (⟨v9, e9, -⟩ | ⟨ci9, q8, e9, -, -, hx⟩)
        · cases e9
        · exact hx.elim
    · cases e9
  · rintro q9 h9 (⟨v9, e9, -⟩ | ⟨ci9, q8, e9, gl, ⟨fs9, gq⟩, hx⟩)
    · cases e9
    · cases e9
      rcases Hx ci9 q9 h9 hx with rfl
      · have H := Hx8 q9 h9 fs9 hx gq gl
        exact ex_out (r := (RX8, TX8, 8)) (fun z hz => absurd hz List.not_mem_nil) gq rfl gl H
theorem en_X7_move {l : Launch} {lo : Nat} {G : eG} {d : Nat} {P : eO → eH → Prop} (a0 : Nat) (a1 : Int32) {h : eH} {k n : Nat} (H : h_X7_move_0 (l, lo, G, d, P) a0 a1 h k n) : Ct l lo G d mX7_move [.ref a0, .int a1] h k n P := 
  Ct_of (eArL mX7_move.2.2.2.1 [.ref a0, .int a1]) (by decide) rfl (Nat.le_of_ble_eq_true rfl) (fun j w q => eArL_mem j w q) (E.less2 H (eS_s (eS_s (eS_n (eS_n (eS_n eS_0))))))
/-! X7_grows TroupeSums$Reader.grows(LTroupeSums$Row;)Z -/
def h_X7_grows_0 (c : cC) (a0 : Nat) (a1 : Nat) (h : eH) (k n : Nat) : Prop := E c.1 c.2.1 c.2.2.1 c.2.2.2.1 mX7_grows c.2.2.2.2 0 [some (.ref a0), some (.ref a1), none, none, none, none, none, none, none] [] h k n
def h_X7_grows_21 (c : cC) (a0 : Nat) (a1 : Nat) (a2 : Nat) (a3 : Nat) (h : eH) (k n : Nat) : Prop := E c.1 c.2.1 c.2.2.1 c.2.2.2.1 mX7_grows c.2.2.2.2 21 [some (.ref a0), some (.ref a1), some (.ref a2), some (.ref a3), none, none, none, none, none] [] h k n
def h_X7_grows_67 (c : cC) (a0 : Nat) (a2 : Nat) (a3 : Int32) (h : eH) (k n : Nat) : Prop := E c.1 c.2.1 c.2.2.1 c.2.2.2.1 mX7_grows c.2.2.2.2 67 [some (.ref a0), none, some (.ref a2), some (.int a3), none, none, none, none, none] [] h k n
def h_X7_grows_109 (c : cC) (a0 : Nat) (a2 : Nat) (a3 : Int32) (a4 : Nat) (a5 : Nat) (h : eH) (k n : Nat) : Prop := E c.1 c.2.1 c.2.2.1 c.2.2.2.1 mX7_grows c.2.2.2.2 109 [some (.ref a0), none, some (.ref a2), some (.int a3), some (.ref a4), some (.ref a5), none, none, none] [] h k n
def h_X7_grows_153 (c : cC) (a0 : Nat) (a2 : Nat) (a3 : Int32) (a4 : Nat) (a5 : Nat) (h : eH) (k n : Nat) : Prop := E c.1 c.2.1 c.2.2.1 c.2.2.2.1 mX7_grows c.2.2.2.2 153 [some (.ref a0), none, some (.ref a2), some (.int a3), some (.ref a4), some (.ref a5), none, none, none] [] h k n
def h_X7_grows_184 (c : cC) (a0 : Nat) (a2 : Nat) (a3 : Int32) (a4 : Nat) (a5 : Nat) (a6 : Nat) (a7 : Nat) (h : eH) (k n : Nat) : Prop := E c.1 c.2.1 c.2.2.1 c.2.2.2.1 mX7_grows c.2.2.2.2 184 [some (.ref a0), none, some (.ref a2), some (.int a3), some (.ref a4), some (.ref a5), some (.ref a6), some (.ref a7), none] [] h k n
def h_X7_grows_231 (c : cC) (a0 : Nat) (a2 : Nat) (h : eH) (k n : Nat) : Prop := E c.1 c.2.1 c.2.2.1 c.2.2.2.1 mX7_grows c.2.2.2.2 231 [some (.ref a0), none, some (.ref a2), none, none, none, none, none, none] [] h k n
set_option maxHeartbeats 4000000 in
theorem s_X7_grows_0 (c : cC) (a0 : Nat) (a1 : Nat) (h : eH) (k n : Nat) (H : 1 ≤ k ∧ 9 ≤ n ∧ ∀ h1 : eH, h1 = eNw h (.inr (16, [.null, .null, .null, .null, .int 0, .int 0, .null, .null, .null])) → (∃ (d6 k7 n8 : Nat) (Q9 : eH → Prop), cV c.1 c.2.1 c.2.2.1 d6 mJ4_init [.ref h.2] h1 k7 n8 Q9 cX0 ∧ d6 + 1 ≤ c.2.2.2.1 ∧ k7 ≤ k - 1 ∧ n8 ≤ n - 9 ∧ (∀ h4 : eH, Q9 h4 → (∃ x10 : Nat, fV h4 a0 7 8 (.ref x10) ∧ (∃ fs8 : List Value, h4.1 x10 = some (.inr (16, fs8)) ∧ ∃ (d15 k16 n17 : Nat) (Q18 : Nat → eH → Prop), cR c.1 c.2.1 c.2.2.1 d15 mJ4_keySet [.ref x10] h4 k16 n17 Q18 cX0 ∧ d15 + 1 ≤ c.2.2.2.1 ∧ k16 ≤ k - 1 - k7 ∧ n17 ≤ n - 9 - n8 ∧ (∀ (r12 : Nat) (h13 : eH), Q18 r12 h13 → (∃ fs8 : List Value, h13.1 r12 = some (.inr (20, fs8)) ∧ ∃ (d22 k23 n24 : Nat) (Q25 : Nat → eH → Prop), cR c.1 c.2.1 c.2.2.1 d22 mJ18_iterator [.ref r12] h13 k23 n24 Q25 cX0 ∧ d22 + 1 ≤ c.2.2.2.1 ∧ k23 ≤ k - 1 - k7 - k16 ∧ n24 ≤ n - 9 - n8 - n17 ∧ (∀ (r19 : Nat) (h20 : eH), Q25 r19 h20 → (h_X7_grows_21 c a0 a1 h.2 r19 h20 (k - 1 - k7 - k16 - k23) (n - 9 - n8 - n17 - n24)))))))))) : h_X7_grows_0 c a0 a1 h k n := by
  obtain ⟨g2, g2n, H⟩ := H
  refine e_new (ci := 16) (N := 9) (C := RJ4) (T := TJ4) tyJ4 (fs := [.null, .null, .null, .null, .int 0, .int 0, .null, .null, .null]) dX7_grows_0 rfl in_J4 tyJ4_ok q1289 q258 q140 (by decide) (k1 := k - 1) (n1 := n - 9) (by omega) (by omega) ?_
  replace H := H _ rfl
  generalize eNw h _ = h1 at H ⊢
  refine e_dup dX7_grows_3 rfl ?_
  obtain ⟨d6, k7, n8, Q9, g5, g5d, g5k, g5n, H⟩ := H
  refine e_callI (As := []) g5 dX7_grows_4 wJ4_init rfl rfl rfl q1290 q260 rfl g5d rfl (Nat.le_of_ble_eq_true rfl) (k1 := k - 1 - k7) (n1 := n - 9 - n8) (by omega) (by omega) ?_ ?_
  · rintro v h4 (⟨v9, e9, e8, hq⟩ | ⟨ci9, q9, e9, -⟩)
    · cases e9
      subst e8
      replace H := H h4 hq
      refine e_astore_n _ dX7_grows_7 (by decide) rfl rfl ?_
      refine e_aload_n dX7_grows_8 rfl ?_
      obtain ⟨x10, ⟨fsx10, g11, g11v⟩, H⟩ := H
      refine e_get dX7_grows_9 fX7_8 q1369 g11 g11v ?_
      obtain ⟨fsg14, g14o, H⟩ := H
      obtain ⟨d15, k16, n17, Q18, g14, g14d, g14k, g14n, H⟩ := H
      refine e_callV (r := (RJ4, TJ4, 9)) (As := []) g14 dX7_grows_12 wJ4_keySet q1666 q681 q682 g14o rfl rfl g14d rfl (Nat.le_of_ble_eq_true rfl) (k1 := k - 1 - k7 - k16) (n1 := n - 9 - n8 - n17) (by omega) (by omega) ?_ ?_
      · rintro v h13 (⟨v9, e9, r12, e8, hq⟩ | ⟨ci9, q9, e9, -⟩)
        · cases e9
          subst e8
          replace H := H r12 h13 hq
          obtain ⟨fsg21, g21o, H⟩ := H
          obtain ⟨d22, k23, n24, Q25, g21, g21d, g21k, g21n, H⟩ := H
          refine e_callF (i := 9) (r := (RJ18, TJ18, 1)) (As := []) g21 dX7_grows_15 wJ18_iterator rfl rfl q1668 q708 q706 g21o rfl rfl g21d rfl (Nat.le_of_ble_eq_true rfl) (k1 := k - 1 - k7 - k16 - k23) (n1 := n - 9 - n8 - n17 - n24) (by omega) (by omega) ?_ ?_
          · rintro v h20 (⟨v9, e9, r19, e8, hq⟩ | ⟨ci9, q9, e9, -⟩)
            · cases e9
              subst e8
              replace H := H r19 h20 hq
              refine e_astore_n _ dX7_grows_20 (by decide) rfl rfl ?_
              exact E.less2 H (eS_s (eS_s (eS_s (eS_s (eS_n (eS_n (eS_n (eS_n (eS_n eS_0)))))))))
            · cases e9
          · rintro q9 h9 (⟨v9, e9, -⟩ | ⟨ci9, q8, e9, -, -, hx⟩)
            · cases e9
            · exact hx.elim
        · cases e9
      · rintro q9 h9 (⟨v9, e9, -⟩ | ⟨ci9, q8, e9, -, -, hx⟩)
        · cases e9
        · exact hx.elim
    · cases e9
  · rintro q9 h9 (⟨v9, e9, -⟩ | ⟨ci9, q8, e9, -, -, hx⟩)
    · cases e9
    · exact hx.elim
set_option maxHeartbeats 4000000 in
theorem s_X7_grows_21 (c : cC) (a0 : Nat) (a1 : Nat) (a2 : Nat) (a3 : Nat) (h : eH) (k n : Nat) (H : ∃ fs8 : List Value, h.1 a3 = some (.inr (21, fs8)) ∧ ∃ (d4 k5 n6 : Nat) (Q7 : Int32 → eH → Prop), cI c.1 c.2.1 c.2.2.1 d4 mJ19_hasNext [.ref a3] h k5 n6 Q7 cX0 ∧ d4 + 1 ≤ c.2.2.2.1 ∧ k5 ≤ k ∧ n6 ≤ n ∧ (∀ (r1 : Int32) (h2 : eH), Q7 r1 h2 → ((r1 = 0 → ∃ (d12 k13 n14 : Nat) (Q15 : Nat → eH → Prop), cR c.1 c.2.1 c.2.2.1 d12 mJ6_valueOf [.int (0 : Int32)] h2 k13 n14 Q15 cX0 ∧ d12 + 1 ≤ c.2.2.2.1 ∧ k13 ≤ k - k5 ∧ n14 ≤ n - n6 ∧ (∀ (r9 : Nat) (h10 : eH), Q15 r9 h10 → (∃ fs8 : List Value, h10.1 a2 = some (.inr (16, fs8)) ∧ ∃ (d19 k20 n21 : Nat) (Q22 : Option Nat → eH → Prop), cQ c.1 c.2.1 c.2.2.1 d19 mJ4_put [.ref a2, .ref a1, .ref r9] h10 k20 n21 Q22 cX0 ∧ d19 + 1 ≤ c.2.2.2.1 ∧ k20 ≤ k - k5 - k13 ∧ n21 ≤ n - n6 - n14 ∧ (∀ (r16 : Option Nat) (h17 : eH), Q22 r16 h17 → (h_X7_grows_67 c a0 a2 (0 : Int32) h17 (k - k5 - k13 - k20) (n - n6 - n14 - n21)))))) ∧ (¬ r1 = 0 → ∃ fs8 : List Value, h2.1 a3 = some (.inr (21, fs8)) ∧ ∃ (d26 k27 n28 : Nat) (Q29 : Nat → eH → Prop), cR c.1 c.2.1 c.2.2.1 d26 mJ20_next [.ref a3] h2 k27 n28 Q29 cX0 ∧ d26 + 1 ≤ c.2.2.2.1 ∧ k27 ≤ k - k5 ∧ n28 ≤ n - n6 ∧ (∀ (r23 : Nat) (h24 : eH), Q29 r23 h24 → (eCs c.2.2.1 h24 r23 "TroupeSums$Row" ∧ (∃ (d34 k35 n36 : Nat) (Q37 : Nat → eH → Prop), cR c.1 c.2.1 c.2.2.1 d34 mJ6_valueOf [.int (0 : Int32)] h24 k35 n36 Q37 cX0 ∧ d34 + 1 ≤ c.2.2.2.1 ∧ k35 ≤ k - k5 - k27 ∧ n36 ≤ n - n6 - n28 ∧ (∀ (r31 : Nat) (h32 : eH), Q37 r31 h32 → (∃ fs8 : List Value, h32.1 a2 = some (.inr (16, fs8)) ∧ ∃ (d41 k42 n43 : Nat) (Q44 : Option Nat → eH → Prop), cQ c.1 c.2.1 c.2.2.1 d41 mJ4_put [.ref a2, .ref r23, .ref r31] h32 k42 n43 Q44 cX0 ∧ d41 + 1 ≤ c.2.2.2.1 ∧ k42 ≤ k - k5 - k27 - k35 ∧ n43 ≤ n - n6 - n28 - n36 ∧ (∀ (r38 : Option Nat) (h39 : eH), Q44 r38 h39 → (h_X7_grows_21 c a0 a1 a2 a3 h39 (k - k5 - k27 - k35 - k42) (n - n6 - n28 - n36 - n43)))))))))))) : h_X7_grows_21 c a0 a1 a2 a3 h k n := by
  refine e_aload_n dX7_grows_21 rfl ?_
  obtain ⟨fsg3, g3o, H⟩ := H
  obtain ⟨d4, k5, n6, Q7, g3, g3d, g3k, g3n, H⟩ := H
  refine e_callF (i := 10) (r := (RJ20, TJ20, 4)) (As := []) g3 dX7_grows_22 wJ19_hasNext rfl rfl q1670 q759 q757 g3o rfl rfl g3d rfl (Nat.le_of_ble_eq_true rfl) (k1 := k - k5) (n1 := n - n6) (by omega) (by omega) ?_ ?_
  · rintro v h2 (⟨v9, e9, r1, e8, hq⟩ | ⟨ci9, q9, e9, -⟩)
    · cases e9
      subst e8
      replace H := H r1 h2 hq
      refine e_if_eq 55 dX7_grows_27 (by decide) (fun g8 => ?_) (fun g8 => ?_)
      · replace H := H.1 g8
        refine e_aload_n dX7_grows_55 rfl ?_
        refine e_aload_n dX7_grows_56 rfl ?_
        refine e_iconst (0) dX7_grows_57 (by decide) ?_
        obtain ⟨d12, k13, n14, Q15, g11, g11d, g11k, g11n, H⟩ := H
        refine e_callS (As := [.int (0 : Int32)]) g11 dX7_grows_58 wJ6_valueOf q1647 q305 rfl g11d rfl (Nat.le_of_ble_eq_true rfl) (k1 := k - k5 - k13) (n1 := n - n6 - n14) (by omega) (by omega) ?_ ?_
        · rintro v h10 (⟨v9, e9, r9, e8, hq⟩ | ⟨ci9, q9, e9, -⟩)
          · cases e9
            subst e8
            replace H := H r9 h10 hq
            obtain ⟨fsg18, g18o, H⟩ := H
            obtain ⟨d19, k20, n21, Q22, g18, g18d, g18k, g18n, H⟩ := H
            refine e_callV (r := (RJ4, TJ4, 9)) (As := [.ref a1, .ref r9]) g18 dX7_grows_61 wJ4_put q1648 q325 q326 g18o rfl rfl g18d rfl (Nat.le_of_ble_eq_true rfl) (k1 := k - k5 - k13 - k20) (n1 := n - n6 - n14 - n21) (by omega) (by omega) ?_ ?_
            · rintro v h17 (⟨v9, e9, r16, e8, hq⟩ | ⟨ci9, q9, e9, -⟩)
              · cases e9
                subst e8
                replace H := H r16 h17 hq
                refine e_pop dX7_grows_64 (eRfC _) ?_
                refine e_iconst (0) dX7_grows_65 (by decide) ?_
                refine e_istore_n _ dX7_grows_66 (by decide) rfl rfl ?_
                exact E.less2 H (eS_s (eS_n (eS_s (eS_s (eS_n (eS_n (eS_n (eS_n (eS_n eS_0)))))))))
              · cases e9
            · rintro q9 h9 (⟨v9, e9, -⟩ | ⟨ci9, q8, e9, -, -, hx⟩)
              · cases e9
              · exact hx.elim
          · cases e9
        · rintro q9 h9 (⟨v9, e9, -⟩ | ⟨ci9, q8, e9, -, -, hx⟩)
          · cases e9
          · exact hx.elim
      · replace H := H.2 g8
        refine e_aload_n dX7_grows_30 rfl ?_
        obtain ⟨fsg25, g25o, H⟩ := H
        obtain ⟨d26, k27, n28, Q29, g25, g25d, g25k, g25n, H⟩ := H
        refine e_callF (i := 11) (r := (RJ20, TJ20, 4)) (As := []) g25 dX7_grows_31 wJ20_next rfl rfl q1672 q777 q775 g25o rfl rfl g25d rfl (Nat.le_of_ble_eq_true rfl) (k1 := k - k5 - k27) (n1 := n - n6 - n28) (by omega) (by omega) ?_ ?_
        · rintro v h24 (⟨v9, e9, r23, e8, hq⟩ | ⟨ci9, q9, e9, -⟩)
          · cases e9
            subst e8
            replace H := H r23 h24 hq
            obtain ⟨g30, H⟩ := H
            refine c_castR dX7_grows_36 q1645 g30 ?_
            refine e_astore _ dX7_grows_39 (by decide) rfl rfl ?_
            refine e_aload_n dX7_grows_41 rfl ?_
            refine e_aload dX7_grows_42 rfl ?_
            refine e_iconst (0) dX7_grows_44 (by decide) ?_
            obtain ⟨d34, k35, n36, Q37, g33, g33d, g33k, g33n, H⟩ := H
            refine e_callS (As := [.int (0 : Int32)]) g33 dX7_grows_45 wJ6_valueOf q1647 q305 rfl g33d rfl (Nat.le_of_ble_eq_true rfl) (k1 := k - k5 - k27 - k35) (n1 := n - n6 - n28 - n36) (by omega) (by omega) ?_ ?_
            · rintro v h32 (⟨v9, e9, r31, e8, hq⟩ | ⟨ci9, q9, e9, -⟩)
              · cases e9
                subst e8
                replace H := H r31 h32 hq
                obtain ⟨fsg40, g40o, H⟩ := H
                obtain ⟨d41, k42, n43, Q44, g40, g40d, g40k, g40n, H⟩ := H
                refine e_callV (r := (RJ4, TJ4, 9)) (As := [.ref r23, .ref r31]) g40 dX7_grows_48 wJ4_put q1648 q325 q326 g40o rfl rfl g40d rfl (Nat.le_of_ble_eq_true rfl) (k1 := k - k5 - k27 - k35 - k42) (n1 := n - n6 - n28 - n36 - n43) (by omega) (by omega) ?_ ?_
                · rintro v h39 (⟨v9, e9, r38, e8, hq⟩ | ⟨ci9, q9, e9, -⟩)
                  · cases e9
                    subst e8
                    replace H := H r38 h39 hq
                    refine e_pop dX7_grows_51 (eRfC _) ?_
                    refine e_goto 21 dX7_grows_52 (by decide) ?_
                    exact E.less2 H (eS_s (eS_s (eS_s (eS_s (eS_n (eS_n (eS_n (eS_n (eS_n eS_0)))))))))
                  · cases e9
                · rintro q9 h9 (⟨v9, e9, -⟩ | ⟨ci9, q8, e9, -, -, hx⟩)
                  · cases e9
                  · exact hx.elim
              · cases e9
            · rintro q9 h9 (⟨v9, e9, -⟩ | ⟨ci9, q8, e9, -, -, hx⟩)
              · cases e9
              · exact hx.elim
          · cases e9
        · rintro q9 h9 (⟨v9, e9, -⟩ | ⟨ci9, q8, e9, -, -, hx⟩)
          · cases e9
          · exact hx.elim
    · cases e9
  · rintro q9 h9 (⟨v9, e9, -⟩ | ⟨ci9, q8, e9, -, -, hx⟩)
    · cases e9
    · exact hx.elim
set_option maxHeartbeats 4000000 in
theorem s_X7_grows_67 (c : cC) (a0 : Nat) (a2 : Nat) (a3 : Int32) (h : eH) (k n : Nat) (H : ∃ fs8 : List Value, h.1 a2 = some (.inr (16, fs8)) ∧ ∃ (d4 k5 n6 : Nat) (Q7 : Int32 → eH → Prop), cI c.1 c.2.1 c.2.2.1 d4 mJ4_size [.ref a2] h k5 n6 Q7 cX0 ∧ d4 + 1 ≤ c.2.2.2.1 ∧ k5 ≤ k ∧ n6 ≤ n ∧ (∀ (r1 : Int32) (h2 : eH), Q7 r1 h2 → ((r1 = a3 → h_X7_grows_231 c a0 a2 h2 (k - k5) (n - n6)) ∧ (¬ r1 = a3 → ∃ fs8 : List Value, h2.1 a2 = some (.inr (16, fs8)) ∧ ∃ (d12 k13 n14 : Nat) (Q15 : Int32 → eH → Prop), cI c.1 c.2.1 c.2.2.1 d12 mJ4_size [.ref a2] h2 k13 n14 Q15 cX0 ∧ d12 + 1 ≤ c.2.2.2.1 ∧ k13 ≤ k - k5 ∧ n14 ≤ n - n6 ∧ (∀ (r9 : Int32) (h10 : eH), Q15 r9 h10 → (((24 : Int32) < r9 → h_X7_grows_231 c a0 a2 h10 (k - k5 - k13) (n - n6 - n14)) ∧ (¬ (24 : Int32) < r9 → ∃ fs8 : List Value, h10.1 a2 = some (.inr (16, fs8)) ∧ ∃ (d20 k21 n22 : Nat) (Q23 : Int32 → eH → Prop), cI c.1 c.2.1 c.2.2.1 d20 mJ4_size [.ref a2] h10 k21 n22 Q23 cX0 ∧ d20 + 1 ≤ c.2.2.2.1 ∧ k21 ≤ k - k5 - k13 ∧ n22 ≤ n - n6 - n14 ∧ (∀ (r17 : Int32) (h18 : eH), Q23 r17 h18 → (1 ≤ k - k5 - k13 - k21 ∧ 3 ≤ n - n6 - n14 - n22 ∧ ∀ h24 : eH, h24 = eNw h18 (.inr (15, [.int 0, .null, .int 0])) → (∃ (d29 k30 n31 : Nat) (Q32 : eH → Prop), cV c.1 c.2.1 c.2.2.1 d29 mJ2_init [.ref h18.2] h24 k30 n31 Q32 cX0 ∧ d29 + 1 ≤ c.2.2.2.1 ∧ k30 ≤ k - k5 - k13 - k21 - 1 ∧ n31 ≤ n - n6 - n14 - n22 - 3 ∧ (∀ h27 : eH, Q32 h27 → (∃ fs8 : List Value, h27.1 a2 = some (.inr (16, fs8)) ∧ ∃ (d36 k37 n38 : Nat) (Q39 : Nat → eH → Prop), cR c.1 c.2.1 c.2.2.1 d36 mJ4_keySet [.ref a2] h27 k37 n38 Q39 cX0 ∧ d36 + 1 ≤ c.2.2.2.1 ∧ k37 ≤ k - k5 - k13 - k21 - 1 - k30 ∧ n38 ≤ n - n6 - n14 - n22 - 3 - n31 ∧ (∀ (r33 : Nat) (h34 : eH), Q39 r33 h34 → (∃ fs8 : List Value, h34.1 r33 = some (.inr (20, fs8)) ∧ ∃ (d43 k44 n45 : Nat) (Q46 : Nat → eH → Prop), cR c.1 c.2.1 c.2.2.1 d43 mJ18_iterator [.ref r33] h34 k44 n45 Q46 cX0 ∧ d43 + 1 ≤ c.2.2.2.1 ∧ k44 ≤ k - k5 - k13 - k21 - 1 - k30 - k37 ∧ n45 ≤ n - n6 - n14 - n22 - 3 - n31 - n38 ∧ (∀ (r40 : Nat) (h41 : eH), Q46 r40 h41 → (h_X7_grows_109 c a0 a2 r17 h18.2 r40 h41 (k - k5 - k13 - k21 - 1 - k30 - k37 - k44) (n - n6 - n14 - n22 - 3 - n31 - n38 - n45))))))))))))))))) : h_X7_grows_67 c a0 a2 a3 h k n := by
  refine e_aload_n dX7_grows_67 rfl ?_
  obtain ⟨fsg3, g3o, H⟩ := H
  obtain ⟨d4, k5, n6, Q7, g3, g3d, g3k, g3n, H⟩ := H
  refine e_callV (r := (RJ4, TJ4, 9)) (As := []) g3 dX7_grows_68 wJ4_size q1673 q1154 q3172 g3o rfl rfl g3d rfl (Nat.le_of_ble_eq_true rfl) (k1 := k - k5) (n1 := n - n6) (by omega) (by omega) ?_ ?_
  · rintro v h2 (⟨v9, e9, r1, e8, hq⟩ | ⟨ci9, q9, e9, -⟩)
    · cases e9
      subst e8
      replace H := H r1 h2 hq
      refine e_iload_n dX7_grows_71 rfl ?_
      refine e_icmp_eq 231 dX7_grows_72 (by decide) (fun g8 => ?_) (fun g8 => ?_)
      · replace H := H.1 g8
        exact E.less2 H (eS_s (eS_n (eS_s (eS_n (eS_n (eS_n (eS_n (eS_n (eS_n eS_0)))))))))
      · replace H := H.2 g8
        refine e_aload_n dX7_grows_75 rfl ?_
        obtain ⟨fsg11, g11o, H⟩ := H
        obtain ⟨d12, k13, n14, Q15, g11, g11d, g11k, g11n, H⟩ := H
        refine e_callV (r := (RJ4, TJ4, 9)) (As := []) g11 dX7_grows_76 wJ4_size q1673 q1154 q3172 g11o rfl rfl g11d rfl (Nat.le_of_ble_eq_true rfl) (k1 := k - k5 - k13) (n1 := n - n6 - n14) (by omega) (by omega) ?_ ?_
        · rintro v h10 (⟨v9, e9, r9, e8, hq⟩ | ⟨ci9, q9, e9, -⟩)
          · cases e9
            subst e8
            replace H := H r9 h10 hq
            refine e_bipush (24) dX7_grows_79 (by decide) ?_
            refine e_icmp_gt 231 dX7_grows_81 (by decide) (fun g16 => ?_) (fun g16 => ?_)
            · replace H := H.1 g16
              exact E.less2 H (eS_s (eS_n (eS_s (eS_n (eS_n (eS_n (eS_n (eS_n (eS_n eS_0)))))))))
            · replace H := H.2 g16
              refine e_aload_n dX7_grows_84 rfl ?_
              obtain ⟨fsg19, g19o, H⟩ := H
              obtain ⟨d20, k21, n22, Q23, g19, g19d, g19k, g19n, H⟩ := H
              refine e_callV (r := (RJ4, TJ4, 9)) (As := []) g19 dX7_grows_85 wJ4_size q1673 q1154 q3172 g19o rfl rfl g19d rfl (Nat.le_of_ble_eq_true rfl) (k1 := k - k5 - k13 - k21) (n1 := n - n6 - n14 - n22) (by omega) (by omega) ?_ ?_
              · rintro v h18 (⟨v9, e9, r17, e8, hq⟩ | ⟨ci9, q9, e9, -⟩)
                · cases e9
                  subst e8
                  replace H := H r17 h18 hq
                  refine e_istore_n _ dX7_grows_88 (by decide) rfl rfl ?_
                  obtain ⟨g25, g25n, H⟩ := H
                  refine e_new (ci := 15) (N := 3) (C := RJ2) (T := TJ2) tyJ2 (fs := [.int 0, .null, .int 0]) dX7_grows_89 rfl in_J2 tyJ2_ok q1674 q204 q138 (by decide) (k1 := k - k5 - k13 - k21 - 1) (n1 := n - n6 - n14 - n22 - 3) (by omega) (by omega) ?_
                  replace H := H _ rfl
                  generalize eNw h18 _ = h24 at H ⊢
                  refine e_dup dX7_grows_92 rfl ?_
                  obtain ⟨d29, k30, n31, Q32, g28, g28d, g28k, g28n, H⟩ := H
                  refine e_callI (As := []) g28 dX7_grows_93 wJ2_init rfl rfl rfl q1675 q206 rfl g28d rfl (Nat.le_of_ble_eq_true rfl) (k1 := k - k5 - k13 - k21 - 1 - k30) (n1 := n - n6 - n14 - n22 - 3 - n31) (by omega) (by omega) ?_ ?_
                  · rintro v h27 (⟨v9, e9, e8, hq⟩ | ⟨ci9, q9, e9, -⟩)
                    · cases e9
                      subst e8
                      replace H := H h27 hq
                      refine e_astore _ dX7_grows_96 (by decide) rfl rfl ?_
                      refine e_aload_n dX7_grows_98 rfl ?_
                      obtain ⟨fsg35, g35o, H⟩ := H
                      obtain ⟨d36, k37, n38, Q39, g35, g35d, g35k, g35n, H⟩ := H
                      refine e_callV (r := (RJ4, TJ4, 9)) (As := []) g35 dX7_grows_99 wJ4_keySet q1666 q681 q682 g35o rfl rfl g35d rfl (Nat.le_of_ble_eq_true rfl) (k1 := k - k5 - k13 - k21 - 1 - k30 - k37) (n1 := n - n6 - n14 - n22 - 3 - n31 - n38) (by omega) (by omega) ?_ ?_
                      · rintro v h34 (⟨v9, e9, r33, e8, hq⟩ | ⟨ci9, q9, e9, -⟩)
                        · cases e9
                          subst e8
                          replace H := H r33 h34 hq
                          obtain ⟨fsg42, g42o, H⟩ := H
                          obtain ⟨d43, k44, n45, Q46, g42, g42d, g42k, g42n, H⟩ := H
                          refine e_callF (i := 9) (r := (RJ18, TJ18, 1)) (As := []) g42 dX7_grows_102 wJ18_iterator rfl rfl q1668 q708 q706 g42o rfl rfl g42d rfl (Nat.le_of_ble_eq_true rfl) (k1 := k - k5 - k13 - k21 - 1 - k30 - k37 - k44) (n1 := n - n6 - n14 - n22 - 3 - n31 - n38 - n45) (by omega) (by omega) ?_ ?_
                          · rintro v h41 (⟨v9, e9, r40, e8, hq⟩ | ⟨ci9, q9, e9, -⟩)
                            · cases e9
                              subst e8
                              replace H := H r40 h41 hq
                              refine e_astore _ dX7_grows_107 (by decide) rfl rfl ?_
                              exact E.less2 H (eS_s (eS_n (eS_s (eS_s (eS_s (eS_s (eS_n (eS_n (eS_n eS_0)))))))))
                            · cases e9
                          · rintro q9 h9 (⟨v9, e9, -⟩ | ⟨ci9, q8, e9, -, -, hx⟩)
                            · cases e9
                            · exact hx.elim
                        · cases e9
                      · rintro q9 h9 (⟨v9, e9, -⟩ | ⟨ci9, q8, e9, -, -, hx⟩)
                        · cases e9
                        · exact hx.elim
                    · cases e9
                  · rintro q9 h9 (⟨v9, e9, -⟩ | ⟨ci9, q8, e9, -, -, hx⟩)
                    · cases e9
                    · exact hx.elim
                · cases e9
              · rintro q9 h9 (⟨v9, e9, -⟩ | ⟨ci9, q8, e9, -, -, hx⟩)
                · cases e9
                · exact hx.elim
          · cases e9
        · rintro q9 h9 (⟨v9, e9, -⟩ | ⟨ci9, q8, e9, -, -, hx⟩)
          · cases e9
          · exact hx.elim
    · cases e9
  · rintro q9 h9 (⟨v9, e9, -⟩ | ⟨ci9, q8, e9, -, -, hx⟩)
    · cases e9
    · exact hx.elim
set_option maxHeartbeats 4000000 in
theorem s_X7_grows_109 (c : cC) (a0 : Nat) (a2 : Nat) (a3 : Int32) (a4 : Nat) (a5 : Nat) (h : eH) (k n : Nat) (H : ∃ fs8 : List Value, h.1 a5 = some (.inr (21, fs8)) ∧ ∃ (d4 k5 n6 : Nat) (Q7 : Int32 → eH → Prop), cI c.1 c.2.1 c.2.2.1 d4 mJ19_hasNext [.ref a5] h k5 n6 Q7 cX0 ∧ d4 + 1 ≤ c.2.2.2.1 ∧ k5 ≤ k ∧ n6 ≤ n ∧ (∀ (r1 : Int32) (h2 : eH), Q7 r1 h2 → ((r1 = 0 → ∃ fs8 : List Value, h2.1 a4 = some (.inr (15, fs8)) ∧ ∃ (d12 k13 n14 : Nat) (Q15 : Nat → eH → Prop), cR c.1 c.2.1 c.2.2.1 d12 mJ2_iterator [.ref a4] h2 k13 n14 Q15 cX0 ∧ d12 + 1 ≤ c.2.2.2.1 ∧ k13 ≤ k - k5 ∧ n14 ≤ n - n6 ∧ (∀ (r9 : Nat) (h10 : eH), Q15 r9 h10 → (h_X7_grows_153 c a0 a2 a3 a4 r9 h10 (k - k5 - k13) (n - n6 - n14)))) ∧ (¬ r1 = 0 → ∃ fs8 : List Value, h2.1 a5 = some (.inr (21, fs8)) ∧ ∃ (d19 k20 n21 : Nat) (Q22 : Nat → eH → Prop), cR c.1 c.2.1 c.2.2.1 d19 mJ20_next [.ref a5] h2 k20 n21 Q22 cX0 ∧ d19 + 1 ≤ c.2.2.2.1 ∧ k20 ≤ k - k5 ∧ n21 ≤ n - n6 ∧ (∀ (r16 : Nat) (h17 : eH), Q22 r16 h17 → (eCs c.2.2.1 h17 r16 "TroupeSums$Row" ∧ (∃ fs8 : List Value, h17.1 a4 = some (.inr (15, fs8)) ∧ ∃ (d27 k28 n29 : Nat) (Q30 : Int32 → eH → Prop), cI c.1 c.2.1 c.2.2.1 d27 mJ2_add [.ref a4, .ref r16] h17 k28 n29 Q30 cX0 ∧ d27 + 1 ≤ c.2.2.2.1 ∧ k28 ≤ k - k5 - k20 ∧ n29 ≤ n - n6 - n21 ∧ (∀ (r24 : Int32) (h25 : eH), Q30 r24 h25 → (h_X7_grows_109 c a0 a2 a3 a4 a5 h25 (k - k5 - k20 - k28) (n - n6 - n21 - n29)))))))))) : h_X7_grows_109 c a0 a2 a3 a4 a5 h k n := by
  refine e_aload dX7_grows_109 rfl ?_
  obtain ⟨fsg3, g3o, H⟩ := H
  obtain ⟨d4, k5, n6, Q7, g3, g3d, g3k, g3n, H⟩ := H
  refine e_callF (i := 10) (r := (RJ20, TJ20, 4)) (As := []) g3 dX7_grows_111 wJ19_hasNext rfl rfl q1670 q759 q757 g3o rfl rfl g3d rfl (Nat.le_of_ble_eq_true rfl) (k1 := k - k5) (n1 := n - n6) (by omega) (by omega) ?_ ?_
  · rintro v h2 (⟨v9, e9, r1, e8, hq⟩ | ⟨ci9, q9, e9, -⟩)
    · cases e9
      subst e8
      replace H := H r1 h2 hq
      refine e_if_eq 144 dX7_grows_116 (by decide) (fun g8 => ?_) (fun g8 => ?_)
      · replace H := H.1 g8
        refine e_aload dX7_grows_144 rfl ?_
        obtain ⟨fsg11, g11o, H⟩ := H
        obtain ⟨d12, k13, n14, Q15, g11, g11d, g11k, g11n, H⟩ := H
        refine e_callF (i := 7) (r := (RJ2, TJ2, 3)) (As := []) g11 dX7_grows_146 wJ2_iterator rfl rfl q1679 q1033 q1031 g11o rfl rfl g11d rfl (Nat.le_of_ble_eq_true rfl) (k1 := k - k5 - k13) (n1 := n - n6 - n14) (by omega) (by omega) ?_ ?_
        · rintro v h10 (⟨v9, e9, r9, e8, hq⟩ | ⟨ci9, q9, e9, -⟩)
          · cases e9
            subst e8
            replace H := H r9 h10 hq
            refine e_astore _ dX7_grows_151 (by decide) rfl rfl ?_
            exact E.less2 H (eS_s (eS_n (eS_s (eS_s (eS_s (eS_s (eS_n (eS_n (eS_n eS_0)))))))))
          · cases e9
        · rintro q9 h9 (⟨v9, e9, -⟩ | ⟨ci9, q8, e9, -, -, hx⟩)
          · cases e9
          · exact hx.elim
      · replace H := H.2 g8
        refine e_aload dX7_grows_119 rfl ?_
        obtain ⟨fsg18, g18o, H⟩ := H
        obtain ⟨d19, k20, n21, Q22, g18, g18d, g18k, g18n, H⟩ := H
        refine e_callF (i := 11) (r := (RJ20, TJ20, 4)) (As := []) g18 dX7_grows_121 wJ20_next rfl rfl q1672 q777 q775 g18o rfl rfl g18d rfl (Nat.le_of_ble_eq_true rfl) (k1 := k - k5 - k20) (n1 := n - n6 - n21) (by omega) (by omega) ?_ ?_
        · rintro v h17 (⟨v9, e9, r16, e8, hq⟩ | ⟨ci9, q9, e9, -⟩)
          · cases e9
            subst e8
            replace H := H r16 h17 hq
            obtain ⟨g23, H⟩ := H
            refine c_castR dX7_grows_126 q1645 g23 ?_
            refine e_astore _ dX7_grows_129 (by decide) rfl rfl ?_
            refine e_aload dX7_grows_131 rfl ?_
            refine e_aload dX7_grows_133 rfl ?_
            obtain ⟨fsg26, g26o, H⟩ := H
            obtain ⟨d27, k28, n29, Q30, g26, g26d, g26k, g26n, H⟩ := H
            refine e_callF (i := 5) (r := (RJ2, TJ2, 3)) (As := [.ref r16]) g26 dX7_grows_135 wJ2_add rfl rfl q1677 q797 q795 g26o rfl rfl g26d rfl (Nat.le_of_ble_eq_true rfl) (k1 := k - k5 - k20 - k28) (n1 := n - n6 - n21 - n29) (by omega) (by omega) ?_ ?_
            · rintro v h25 (⟨v9, e9, r24, e8, hq⟩ | ⟨ci9, q9, e9, -⟩)
              · cases e9
                subst e8
                replace H := H r24 h25 hq
                refine e_pop dX7_grows_140 rfl ?_
                refine e_goto 109 dX7_grows_141 (by decide) ?_
                exact E.less2 H (eS_s (eS_n (eS_s (eS_s (eS_s (eS_s (eS_n (eS_n (eS_n eS_0)))))))))
              · cases e9
            · rintro q9 h9 (⟨v9, e9, -⟩ | ⟨ci9, q8, e9, -, -, hx⟩)
              · cases e9
              · exact hx.elim
          · cases e9
        · rintro q9 h9 (⟨v9, e9, -⟩ | ⟨ci9, q8, e9, -, -, hx⟩)
          · cases e9
          · exact hx.elim
    · cases e9
  · rintro q9 h9 (⟨v9, e9, -⟩ | ⟨ci9, q8, e9, -, -, hx⟩)
    · cases e9
    · exact hx.elim
set_option maxHeartbeats 4000000 in
theorem s_X7_grows_153 (c : cC) (a0 : Nat) (a2 : Nat) (a3 : Int32) (a4 : Nat) (a5 : Nat) (h : eH) (k n : Nat) (H : ∃ fs8 : List Value, h.1 a5 = some (.inr (23, fs8)) ∧ ∃ (d4 k5 n6 : Nat) (Q7 : Int32 → eH → Prop), cI c.1 c.2.1 c.2.2.1 d4 mJ24_hasNext [.ref a5] h k5 n6 Q7 cX0 ∧ d4 + 1 ≤ c.2.2.2.1 ∧ k5 ≤ k ∧ n6 ≤ n ∧ (∀ (r1 : Int32) (h2 : eH), Q7 r1 h2 → ((r1 = 0 → h_X7_grows_67 c a0 a2 a3 h2 (k - k5) (n - n6)) ∧ (¬ r1 = 0 → ∃ fs8 : List Value, h2.1 a5 = some (.inr (23, fs8)) ∧ ∃ (d12 k13 n14 : Nat) (Q15 : Nat → eH → Prop), cR c.1 c.2.1 c.2.2.1 d12 mJ24_next [.ref a5] h2 k13 n14 Q15 cX0 ∧ d12 + 1 ≤ c.2.2.2.1 ∧ k13 ≤ k - k5 ∧ n14 ≤ n - n6 ∧ (∀ (r9 : Nat) (h10 : eH), Q15 r9 h10 → (eCs c.2.2.1 h10 r9 "TroupeSums$Row" ∧ (∃ fs8 : List Value, h10.1 a4 = some (.inr (15, fs8)) ∧ ∃ (d20 k21 n22 : Nat) (Q23 : Nat → eH → Prop), cR c.1 c.2.1 c.2.2.1 d20 mJ2_iterator [.ref a4] h10 k21 n22 Q23 cX0 ∧ d20 + 1 ≤ c.2.2.2.1 ∧ k21 ≤ k - k5 - k13 ∧ n22 ≤ n - n6 - n14 ∧ (∀ (r17 : Nat) (h18 : eH), Q23 r17 h18 → (h_X7_grows_184 c a0 a2 a3 a4 a5 r9 r17 h18 (k - k5 - k13 - k21) (n - n6 - n14 - n22)))))))))) : h_X7_grows_153 c a0 a2 a3 a4 a5 h k n := by
  refine e_aload dX7_grows_153 rfl ?_
  obtain ⟨fsg3, g3o, H⟩ := H
  obtain ⟨d4, k5, n6, Q7, g3, g3d, g3k, g3n, H⟩ := H
  refine e_callF (i := 12) (r := (RJ24, TJ24, 4)) (As := []) g3 dX7_grows_155 wJ24_hasNext rfl rfl q1670 q753 q751 g3o rfl rfl g3d rfl (Nat.le_of_ble_eq_true rfl) (k1 := k - k5) (n1 := n - n6) (by omega) (by omega) ?_ ?_
  · rintro v h2 (⟨v9, e9, r1, e8, hq⟩ | ⟨ci9, q9, e9, -⟩)
    · cases e9
      subst e8
      replace H := H r1 h2 hq
      refine e_if_eq 228 dX7_grows_160 (by decide) (fun g8 => ?_) (fun g8 => ?_)
      · replace H := H.1 g8
        refine e_goto 67 dX7_grows_228 (by decide) ?_
        exact E.less2 H (eS_s (eS_n (eS_s (eS_s (eS_n (eS_n (eS_n (eS_n (eS_n eS_0)))))))))
      · replace H := H.2 g8
        refine e_aload dX7_grows_163 rfl ?_
        obtain ⟨fsg11, g11o, H⟩ := H
        obtain ⟨d12, k13, n14, Q15, g11, g11d, g11k, g11n, H⟩ := H
        refine e_callF (i := 13) (r := (RJ24, TJ24, 4)) (As := []) g11 dX7_grows_165 wJ24_next rfl rfl q1672 q768 q766 g11o rfl rfl g11d rfl (Nat.le_of_ble_eq_true rfl) (k1 := k - k5 - k13) (n1 := n - n6 - n14) (by omega) (by omega) ?_ ?_
        · rintro v h10 (⟨v9, e9, r9, e8, hq⟩ | ⟨ci9, q9, e9, -⟩)
          · cases e9
            subst e8
            replace H := H r9 h10 hq
            obtain ⟨g16, H⟩ := H
            refine c_castR dX7_grows_170 q1645 g16 ?_
            refine e_astore _ dX7_grows_173 (by decide) rfl rfl ?_
            refine e_aload dX7_grows_175 rfl ?_
            obtain ⟨fsg19, g19o, H⟩ := H
            obtain ⟨d20, k21, n22, Q23, g19, g19d, g19k, g19n, H⟩ := H
            refine e_callF (i := 7) (r := (RJ2, TJ2, 3)) (As := []) g19 dX7_grows_177 wJ2_iterator rfl rfl q1679 q1033 q1031 g19o rfl rfl g19d rfl (Nat.le_of_ble_eq_true rfl) (k1 := k - k5 - k13 - k21) (n1 := n - n6 - n14 - n22) (by omega) (by omega) ?_ ?_
            · rintro v h18 (⟨v9, e9, r17, e8, hq⟩ | ⟨ci9, q9, e9, -⟩)
              · cases e9
                subst e8
                replace H := H r17 h18 hq
                refine e_astore _ dX7_grows_182 (by decide) rfl rfl ?_
                exact E.less2 H (eS_s (eS_n (eS_s (eS_s (eS_s (eS_s (eS_s (eS_s (eS_n eS_0)))))))))
              · cases e9
            · rintro q9 h9 (⟨v9, e9, -⟩ | ⟨ci9, q8, e9, -, -, hx⟩)
              · cases e9
              · exact hx.elim
          · cases e9
        · rintro q9 h9 (⟨v9, e9, -⟩ | ⟨ci9, q8, e9, -, -, hx⟩)
          · cases e9
          · exact hx.elim
    · cases e9
  · rintro q9 h9 (⟨v9, e9, -⟩ | ⟨ci9, q8, e9, -, -, hx⟩)
    · cases e9
    · exact hx.elim
set_option maxHeartbeats 4000000 in
theorem s_X7_grows_184 (c : cC) (a0 : Nat) (a2 : Nat) (a3 : Int32) (a4 : Nat) (a5 : Nat) (a6 : Nat) (a7 : Nat) (h : eH) (k n : Nat) (H : ∃ fs8 : List Value, h.1 a7 = some (.inr (23, fs8)) ∧ ∃ (d4 k5 n6 : Nat) (Q7 : Int32 → eH → Prop), cI c.1 c.2.1 c.2.2.1 d4 mJ24_hasNext [.ref a7] h k5 n6 Q7 cX0 ∧ d4 + 1 ≤ c.2.2.2.1 ∧ k5 ≤ k ∧ n6 ≤ n ∧ (∀ (r1 : Int32) (h2 : eH), Q7 r1 h2 → ((r1 = 0 → h_X7_grows_153 c a0 a2 a3 a4 a5 h2 (k - k5) (n - n6)) ∧ (¬ r1 = 0 → ∃ fs8 : List Value, h2.1 a7 = some (.inr (23, fs8)) ∧ ∃ (d12 k13 n14 : Nat) (Q15 : Nat → eH → Prop), cR c.1 c.2.1 c.2.2.1 d12 mJ24_next [.ref a7] h2 k13 n14 Q15 cX0 ∧ d12 + 1 ≤ c.2.2.2.1 ∧ k13 ≤ k - k5 ∧ n14 ≤ n - n6 ∧ (∀ (r9 : Nat) (h10 : eH), Q15 r9 h10 → (eCs c.2.2.1 h10 r9 "TroupeSums$Row" ∧ (∃ fs8 : List Value, h10.1 a6 = some (.inr (2, fs8)) ∧ ∃ (d20 k21 n22 : Nat) (Q23 : Nat → eH → Prop), cR c.1 c.2.1 c.2.2.1 d20 mX2_then [.ref a6, .ref r9] h10 k21 n22 Q23 cX0 ∧ d20 + 1 ≤ c.2.2.2.1 ∧ k21 ≤ k - k5 - k13 ∧ n22 ≤ n - n6 - n14 ∧ (∀ (r17 : Nat) (h18 : eH), Q23 r17 h18 → (∃ (d27 k28 n29 : Nat) (Q30 : Nat → eH → Prop), cR c.1 c.2.1 c.2.2.1 d27 mJ6_valueOf [.int (0 : Int32)] h18 k28 n29 Q30 cX0 ∧ d27 + 1 ≤ c.2.2.2.1 ∧ k28 ≤ k - k5 - k13 - k21 ∧ n29 ≤ n - n6 - n14 - n22 ∧ (∀ (r24 : Nat) (h25 : eH), Q30 r24 h25 → (∃ fs8 : List Value, h25.1 a2 = some (.inr (16, fs8)) ∧ ∃ (d34 k35 n36 : Nat) (Q37 : Option Nat → eH → Prop), cQ c.1 c.2.1 c.2.2.1 d34 mJ4_put [.ref a2, .ref r17, .ref r24] h25 k35 n36 Q37 cX0 ∧ d34 + 1 ≤ c.2.2.2.1 ∧ k35 ≤ k - k5 - k13 - k21 - k28 ∧ n36 ≤ n - n6 - n14 - n22 - n29 ∧ (∀ (r31 : Option Nat) (h32 : eH), Q37 r31 h32 → (h_X7_grows_184 c a0 a2 a3 a4 a5 a6 a7 h32 (k - k5 - k13 - k21 - k28 - k35) (n - n6 - n14 - n22 - n29 - n36)))))))))))))) : h_X7_grows_184 c a0 a2 a3 a4 a5 a6 a7 h k n := by
  refine e_aload dX7_grows_184 rfl ?_
  obtain ⟨fsg3, g3o, H⟩ := H
  obtain ⟨d4, k5, n6, Q7, g3, g3d, g3k, g3n, H⟩ := H
  refine e_callF (i := 12) (r := (RJ24, TJ24, 4)) (As := []) g3 dX7_grows_186 wJ24_hasNext rfl rfl q1670 q753 q751 g3o rfl rfl g3d rfl (Nat.le_of_ble_eq_true rfl) (k1 := k - k5) (n1 := n - n6) (by omega) (by omega) ?_ ?_
  · rintro v h2 (⟨v9, e9, r1, e8, hq⟩ | ⟨ci9, q9, e9, -⟩)
    · cases e9
      subst e8
      replace H := H r1 h2 hq
      refine e_if_eq 225 dX7_grows_191 (by decide) (fun g8 => ?_) (fun g8 => ?_)
      · replace H := H.1 g8
        refine e_goto 153 dX7_grows_225 (by decide) ?_
        exact E.less2 H (eS_s (eS_n (eS_s (eS_s (eS_s (eS_s (eS_n (eS_n (eS_n eS_0)))))))))
      · replace H := H.2 g8
        refine e_aload dX7_grows_194 rfl ?_
        obtain ⟨fsg11, g11o, H⟩ := H
        obtain ⟨d12, k13, n14, Q15, g11, g11d, g11k, g11n, H⟩ := H
        refine e_callF (i := 13) (r := (RJ24, TJ24, 4)) (As := []) g11 dX7_grows_196 wJ24_next rfl rfl q1672 q768 q766 g11o rfl rfl g11d rfl (Nat.le_of_ble_eq_true rfl) (k1 := k - k5 - k13) (n1 := n - n6 - n14) (by omega) (by omega) ?_ ?_
        · rintro v h10 (⟨v9, e9, r9, e8, hq⟩ | ⟨ci9, q9, e9, -⟩)
          · cases e9
            subst e8
            replace H := H r9 h10 hq
            obtain ⟨g16, H⟩ := H
            refine c_castR dX7_grows_201 q1645 g16 ?_
            refine e_astore _ dX7_grows_204 (by decide) rfl rfl ?_
            refine e_aload_n dX7_grows_206 rfl ?_
            refine e_aload dX7_grows_207 rfl ?_
            refine e_aload dX7_grows_209 rfl ?_
            obtain ⟨fsg19, g19o, H⟩ := H
            obtain ⟨d20, k21, n22, Q23, g19, g19d, g19k, g19n, H⟩ := H
            refine e_callV (r := (RX2, TX2, 1)) (As := [.ref r9]) g19 dX7_grows_211 wX2_then q1680 q903 q904 g19o rfl rfl g19d rfl (Nat.le_of_ble_eq_true rfl) (k1 := k - k5 - k13 - k21) (n1 := n - n6 - n14 - n22) (by omega) (by omega) ?_ ?_
            · rintro v h18 (⟨v9, e9, r17, e8, hq⟩ | ⟨ci9, q9, e9, -⟩)
              · cases e9
                subst e8
                replace H := H r17 h18 hq
                refine e_iconst (0) dX7_grows_214 (by decide) ?_
                obtain ⟨d27, k28, n29, Q30, g26, g26d, g26k, g26n, H⟩ := H
                refine e_callS (As := [.int (0 : Int32)]) g26 dX7_grows_215 wJ6_valueOf q1647 q305 rfl g26d rfl (Nat.le_of_ble_eq_true rfl) (k1 := k - k5 - k13 - k21 - k28) (n1 := n - n6 - n14 - n22 - n29) (by omega) (by omega) ?_ ?_
                · rintro v h25 (⟨v9, e9, r24, e8, hq⟩ | ⟨ci9, q9, e9, -⟩)
                  · cases e9
                    subst e8
                    replace H := H r24 h25 hq
                    obtain ⟨fsg33, g33o, H⟩ := H
                    obtain ⟨d34, k35, n36, Q37, g33, g33d, g33k, g33n, H⟩ := H
                    refine e_callV (r := (RJ4, TJ4, 9)) (As := [.ref r17, .ref r24]) g33 dX7_grows_218 wJ4_put q1648 q325 q326 g33o rfl rfl g33d rfl (Nat.le_of_ble_eq_true rfl) (k1 := k - k5 - k13 - k21 - k28 - k35) (n1 := n - n6 - n14 - n22 - n29 - n36) (by omega) (by omega) ?_ ?_
                    · rintro v h32 (⟨v9, e9, r31, e8, hq⟩ | ⟨ci9, q9, e9, -⟩)
                      · cases e9
                        subst e8
                        replace H := H r31 h32 hq
                        refine e_pop dX7_grows_221 (eRfC _) ?_
                        refine e_goto 184 dX7_grows_222 (by decide) ?_
                        exact E.less2 H (eS_s (eS_n (eS_s (eS_s (eS_s (eS_s (eS_s (eS_s (eS_n eS_0)))))))))
                      · cases e9
                    · rintro q9 h9 (⟨v9, e9, -⟩ | ⟨ci9, q8, e9, -, -, hx⟩)
                      · cases e9
                      · exact hx.elim
                  · cases e9
                · rintro q9 h9 (⟨v9, e9, -⟩ | ⟨ci9, q8, e9, -, -, hx⟩)
                  · cases e9
                  · exact hx.elim
              · cases e9
            · rintro q9 h9 (⟨v9, e9, -⟩ | ⟨ci9, q8, e9, -, -, hx⟩)
              · cases e9
              · exact hx.elim
          · cases e9
        · rintro q9 h9 (⟨v9, e9, -⟩ | ⟨ci9, q8, e9, -, -, hx⟩)
          · cases e9
          · exact hx.elim
    · cases e9
  · rintro q9 h9 (⟨v9, e9, -⟩ | ⟨ci9, q8, e9, -, -, hx⟩)
    · cases e9
    · exact hx.elim
set_option maxHeartbeats 4000000 in
theorem s_X7_grows_231 (c : cC) (a0 : Nat) (a2 : Nat) (h : eH) (k n : Nat) (H : ∃ fs1 : List Value, h.1 a0 = some (.inr (7, fs1)) ∧ c.2.1 ≤ a0 ∧ 8 < fs1.length ∧ ∀ h3 : eH, h3 = eUp h a0 (.inr (7, fs1.set 8 (.ref a2))) → (∃ fs8 : List Value, h3.1 a2 = some (.inr (16, fs8)) ∧ ∃ (d7 k8 n9 : Nat) (Q10 : Int32 → eH → Prop), cI c.1 c.2.1 c.2.2.1 d7 mJ4_size [.ref a2] h3 k8 n9 Q10 cX0 ∧ d7 + 1 ≤ c.2.2.2.1 ∧ k8 ≤ k ∧ n9 ≤ n ∧ (∀ (r4 : Int32) (h5 : eH), Q10 r4 h5 → (((24 : Int32) < r4 → c.2.2.2.2 (.inl (some (.int (0 : Int32)))) h5) ∧ (¬ (24 : Int32) < r4 → c.2.2.2.2 (.inl (some (.int (1 : Int32)))) h5))))) : h_X7_grows_231 c a0 a2 h k n := by
  refine e_aload_n dX7_grows_231 rfl ?_
  refine e_aload_n dX7_grows_232 rfl ?_
  obtain ⟨fs1, g2, g2l, g2j, H⟩ := H
  refine e_put dX7_grows_233 fX7_8 q1369 (eFit_or _ _) g2 g2l g2j ?_
  replace H := H _ rfl
  generalize eUp h a0 _ = h3 at H ⊢
  refine e_aload_n dX7_grows_236 rfl ?_
  obtain ⟨fsg6, g6o, H⟩ := H
  obtain ⟨d7, k8, n9, Q10, g6, g6d, g6k, g6n, H⟩ := H
  refine e_callV (r := (RJ4, TJ4, 9)) (As := []) g6 dX7_grows_237 wJ4_size q1673 q1154 q3172 g6o rfl rfl g6d rfl (Nat.le_of_ble_eq_true rfl) (k1 := k - k8) (n1 := n - n9) (by omega) (by omega) ?_ ?_
  · rintro v h5 (⟨v9, e9, r4, e8, hq⟩ | ⟨ci9, q9, e9, -⟩)
    · cases e9
      subst e8
      replace H := H r4 h5 hq
      refine e_bipush (24) dX7_grows_240 (by decide) ?_
      refine e_icmp_gt 249 dX7_grows_242 (by decide) (fun g11 => ?_) (fun g11 => ?_)
      · replace H := H.1 g11
        refine e_iconst (0) dX7_grows_249 (by decide) ?_
        exact e_ireturn .boolean dX7_grows_250 rfl (by decide) H
      · replace H := H.2 g11
        refine e_iconst (1) dX7_grows_245 (by decide) ?_
        refine e_goto 250 dX7_grows_246 (by decide) ?_
        exact e_ireturn .boolean dX7_grows_250 rfl (by decide) H
    · cases e9
  · rintro q9 h9 (⟨v9, e9, -⟩ | ⟨ci9, q8, e9, -, -, hx⟩)
    · cases e9
    · exact hx.elim
theorem en_X7_grows {l : Launch} {lo : Nat} {G : eG} {d : Nat} {P : eO → eH → Prop} (a0 : Nat) (a1 : Nat) {h : eH} {k n : Nat} (H : h_X7_grows_0 (l, lo, G, d, P) a0 a1 h k n) : Ct l lo G d mX7_grows [.ref a0, .ref a1] h k n P := 
  Ct_of (eArL mX7_grows.2.2.2.1 [.ref a0, .ref a1]) (by decide) rfl (Nat.le_of_ble_eq_true rfl) (fun j w q => eArL_mem j w q) (E.less2 H (eS_s (eS_s (eS_n (eS_n (eS_n (eS_n (eS_n (eS_n (eS_n eS_0))))))))))
/-! X7_let TroupeSums$Reader.let()V -/
def h_X7_let_0 (c : cC) (a0 : Nat) (h : eH) (k n : Nat) : Prop := E c.1 c.2.1 c.2.2.1 c.2.2.2.1 mX7_let c.2.2.2.2 0 [some (.ref a0), none, none, none, none] [] h k n
def h_X7_let_23 (c : cC) (a0 : Nat) (b0 : Int32) (b1 : Nat) (h : eH) (k n : Nat) : Prop := E c.1 c.2.1 c.2.2.1 c.2.2.2.1 mX7_let c.2.2.2.2 23 [some (.ref a0), none, none, none, none] [.int b0, .ref b1] h k n
def h_X7_let_71 (c : cC) (a0 : Nat) (a1 : Nat) (b0 : Int32) (b1 : Nat) (h : eH) (k n : Nat) : Prop := E c.1 c.2.1 c.2.2.1 c.2.2.2.1 mX7_let c.2.2.2.2 71 [some (.ref a0), some (.ref a1), none, none, none] [.int b0, .ref b1] h k n
def h_X7_let_97 (c : cC) (a0 : Nat) (a1 : Nat) (a2 : Option Nat) (b0 : Nat) (h : eH) (k n : Nat) : Prop := E c.1 c.2.1 c.2.2.1 c.2.2.2.1 mX7_let c.2.2.2.2 97 [some (.ref a0), some (.ref a1), some (va_rf a2), none, none] [.ref b0] h k n
def h_X7_let_106 (c : cC) (a0 : Nat) (a1 : Nat) (a2 : Option Nat) (a3 : Option Nat) (h : eH) (k n : Nat) : Prop := E c.1 c.2.1 c.2.2.1 c.2.2.2.1 mX7_let c.2.2.2.2 106 [some (.ref a0), some (.ref a1), some (va_rf a2), some (va_rf a3), none] [] h k n
set_option maxHeartbeats 4000000 in
theorem s_X7_let_0 (c : cC) (a0 : Nat) (h : eH) (k n : Nat) (H : ∃ x1 : Nat, fV h a0 7 7 (.ref x1) ∧ (∃ x3 : Nat, fV h x1 1 3 (.ref x3) ∧ (∃ fs8 : List Value, h.1 x3 = some (.inr (15, fs8)) ∧ ∃ (d8 k9 n10 : Nat) (Q11 : Int32 → eH → Prop), cI c.1 c.2.1 c.2.2.1 d8 mJ2_size [.ref x3] h k9 n10 Q11 cX0 ∧ d8 + 1 ≤ c.2.2.2.1 ∧ k9 ≤ k ∧ n10 ≤ n ∧ (∀ (r5 : Int32) (h6 : eH), Q11 r5 h6 → (((8 : Int32) ≤ r5 → h_X7_let_23 c a0 (0 : Int32) a0 h6 (k - k9) (n - n10)) ∧ (¬ (8 : Int32) ≤ r5 → h_X7_let_23 c a0 (1 : Int32) a0 h6 (k - k9) (n - n10))))))) : h_X7_let_0 c a0 h k n := by
  refine e_aload_n dX7_let_0 rfl ?_
  refine e_aload_n dX7_let_1 rfl ?_
  obtain ⟨x1, ⟨fsx1, g2, g2v⟩, H⟩ := H
  refine e_get dX7_let_2 fX7_7 q1368 g2 g2v ?_
  obtain ⟨x3, ⟨fsx3, g4, g4v⟩, H⟩ := H
  refine e_getN dX7_let_5 fX1_3 q241 g4 g4v ?_
  obtain ⟨fsg7, g7o, H⟩ := H
  obtain ⟨d8, k9, n10, Q11, g7, g7d, g7k, g7n, H⟩ := H
  refine e_callF (i := 3) (r := (RJ2, TJ2, 3)) (As := []) g7 dX7_let_8 wJ2_size rfl rfl q1686 q876 q874 g7o rfl rfl g7d rfl (Nat.le_of_ble_eq_true rfl) (k1 := k - k9) (n1 := n - n10) (by omega) (by omega) ?_ ?_
  · rintro v h6 (⟨v9, e9, r5, e8, hq⟩ | ⟨ci9, q9, e9, -⟩)
    · cases e9
      subst e8
      replace H := H r5 h6 hq
      refine e_bipush (8) dX7_let_13 (by decide) ?_
      refine e_icmp_ge 22 dX7_let_15 (by decide) (fun g12 => ?_) (fun g12 => ?_)
      · replace H := H.1 g12
        refine e_iconst (0) dX7_let_22 (by decide) ?_
        exact E.less2 H (eS_s (eS_n (eS_n (eS_n (eS_n eS_0)))))
      · replace H := H.2 g12
        refine e_iconst (1) dX7_let_18 (by decide) ?_
        refine e_goto 23 dX7_let_19 (by decide) ?_
        exact E.less2 H (eS_s (eS_n (eS_n (eS_n (eS_n eS_0)))))
    · cases e9
  · rintro q9 h9 (⟨v9, e9, -⟩ | ⟨ci9, q8, e9, -, -, hx⟩)
    · cases e9
    · exact hx.elim
set_option maxHeartbeats 4000000 in
theorem s_X7_let_23 (c : cC) (a0 : Nat) (b0 : Int32) (b1 : Nat) (h : eH) (k n : Nat) (H : ∃ fs8 : List Value, h.1 b1 = some (.inr (7, fs8)) ∧ ∃ (d4 k5 n6 : Nat) (Q7 : eH → Prop) (X58 : Nat → Nat → eH → Prop), cV c.1 c.2.1 c.2.2.1 d4 mX7_need [.ref b1, .int b0, .int (5 : Int32)] h k5 n6 Q7 X58 ∧ d4 + 1 ≤ c.2.2.2.1 ∧ k5 ≤ k ∧ n6 ≤ n ∧ (∀ h2 : eH, Q7 h2 → (∃ fs8 : List Value, h2.1 a0 = some (.inr (7, fs8)) ∧ ∃ (d11 k12 n13 : Nat) (Q14 : eH → Prop), cV c.1 c.2.1 c.2.2.1 d11 mX7_closes [.ref a0] h2 k12 n13 Q14 cX0 ∧ d11 + 1 ≤ c.2.2.2.1 ∧ k12 ≤ k - k5 ∧ n13 ≤ n - n6 ∧ (∀ h9 : eH, Q14 h9 → (∃ fs8 : List Value, h9.1 a0 = some (.inr (7, fs8)) ∧ ∃ (d18 k19 n20 : Nat) (Q21 : eH → Prop), cV c.1 c.2.1 c.2.2.1 d18 mX7_next [.ref a0] h9 k19 n20 Q21 cX0 ∧ d18 + 1 ≤ c.2.2.2.1 ∧ k19 ≤ k - k5 - k12 ∧ n20 ≤ n - n6 - n13 ∧ (∀ h16 : eH, Q21 h16 → (∃ fs8 : List Value, h16.1 a0 = some (.inr (7, fs8)) ∧ ∃ (d25 k26 n27 : Nat) (Q28 : Int32 → eH → Prop), cI c.1 c.2.1 c.2.2.1 d25 mX7_isName [.ref a0] h16 k26 n27 Q28 cX0 ∧ d25 + 1 ≤ c.2.2.2.1 ∧ k26 ≤ k - k5 - k12 - k19 ∧ n27 ≤ n - n6 - n13 - n20 ∧ (∀ (r22 : Int32) (h23 : eH), Q28 r22 h23 → (∃ fs8 : List Value, h23.1 a0 = some (.inr (7, fs8)) ∧ ∃ (d32 k33 n34 : Nat) (Q35 : eH → Prop) (X55 : Nat → Nat → eH → Prop), cV c.1 c.2.1 c.2.2.1 d32 mX7_need [.ref a0, .int r22, .int (2 : Int32)] h23 k33 n34 Q35 X55 ∧ d32 + 1 ≤ c.2.2.2.1 ∧ k33 ≤ k - k5 - k12 - k19 - k26 ∧ n34 ≤ n - n6 - n13 - n20 - n27 ∧ (∀ h30 : eH, Q35 h30 → (∃ fs8 : List Value, h30.1 a0 = some (.inr (7, fs8)) ∧ ∃ (d39 k40 n41 : Nat) (Q42 : Nat → eH → Prop), cR c.1 c.2.1 c.2.2.1 d39 mX7_word [.ref a0] h30 k40 n41 Q42 cX0 ∧ d39 + 1 ≤ c.2.2.2.1 ∧ k40 ≤ k - k5 - k12 - k19 - k26 - k33 ∧ n41 ≤ n - n6 - n13 - n20 - n27 - n34 ∧ (∀ (r36 : Nat) (h37 : eH), Q42 r36 h37 → (∃ x43 : Nat, fV h37 a0 7 7 (.ref x43) ∧ (∃ x45 : Nat, fV h37 x43 1 3 (.ref x45) ∧ (∃ fs8 : List Value, h37.1 x45 = some (.inr (15, fs8)) ∧ ∃ (d50 k51 n52 : Nat) (Q53 : Int32 → eH → Prop), cI c.1 c.2.1 c.2.2.1 d50 mJ2_contains [.ref x45, .ref r36] h37 k51 n52 Q53 cX0 ∧ d50 + 1 ≤ c.2.2.2.1 ∧ k51 ≤ k - k5 - k12 - k19 - k26 - k33 - k40 ∧ n52 ≤ n - n6 - n13 - n20 - n27 - n34 - n41 ∧ (∀ (r47 : Int32) (h48 : eH), Q53 r47 h48 → ((¬ r47 = 0 → h_X7_let_71 c a0 r36 (0 : Int32) a0 h48 (k - k5 - k12 - k19 - k26 - k33 - k40 - k51) (n - n6 - n13 - n20 - n27 - n34 - n41 - n52)) ∧ (r47 = 0 → h_X7_let_71 c a0 r36 (1 : Int32) a0 h48 (k - k5 - k12 - k19 - k26 - k33 - k40 - k51) (n - n6 - n13 - n20 - n27 - n34 - n41 - n52)))))))))) ∧ (∀ (ci q : Nat) (h9 : eH), X55 ci q h9 → ci = 8) ∧ (∀ (q56 : Nat) (h57 : eH) (fs9 : List Value), X55 8 q56 h57 → h57.1 q56 = some (.inr (8, fs9)) → c.2.1 ≤ q56 → c.2.2.2.2 (.inr q56) h57))))))))) ∧ (∀ (ci q : Nat) (h9 : eH), X58 ci q h9 → ci = 8) ∧ (∀ (q59 : Nat) (h60 : eH) (fs9 : List Value), X58 8 q59 h60 → h60.1 q59 = some (.inr (8, fs9)) → c.2.1 ≤ q59 → c.2.2.2.2 (.inr q59) h60)) : h_X7_let_23 c a0 b0 b1 h k n := by
  refine e_iconst (5) dX7_let_23 (by decide) ?_
  obtain ⟨fsg3, g3o, H⟩ := H
  obtain ⟨d4, k5, n6, Q7, X58, g3, g3d, g3k, g3n, H, Hx, Hx8⟩ := H
  refine e_callV (r := (RX7, TX7, 11)) (As := [.int b0, .int (5 : Int32)]) g3 dX7_let_24 wX7_need q1563 q1565 qs22 g3o rfl rfl g3d rfl (Nat.le_of_ble_eq_true rfl) (k1 := k - k5) (n1 := n - n6) (by omega) (by omega) ?_ ?_
  · rintro v h2 (⟨v9, e9, e8, hq⟩ | ⟨ci9, q9, e9, -⟩)
    · cases e9
      subst e8
      replace H := H h2 hq
      refine e_aload_n dX7_let_27 rfl ?_
      obtain ⟨fsg10, g10o, H⟩ := H
      obtain ⟨d11, k12, n13, Q14, g10, g10d, g10k, g10n, H⟩ := H
      refine e_callV (r := (RX7, TX7, 11)) (As := []) g10 dX7_let_28 wX7_closes q1687 q1689 qs31 g10o rfl rfl g10d rfl (Nat.le_of_ble_eq_true rfl) (k1 := k - k5 - k12) (n1 := n - n6 - n13) (by omega) (by omega) ?_ ?_
      · rintro v h9 (⟨v9, e9, e8, hq⟩ | ⟨ci9, q9, e9, -⟩)
        · cases e9
          subst e8
          replace H := H h9 hq
          refine e_aload_n dX7_let_31 rfl ?_
          obtain ⟨fsg17, g17o, H⟩ := H
          obtain ⟨d18, k19, n20, Q21, g17, g17d, g17k, g17n, H⟩ := H
          refine e_callV (r := (RX7, TX7, 11)) (As := []) g17 dX7_let_32 wX7_next q1291 q1293 qs17 g17o rfl rfl g17d rfl (Nat.le_of_ble_eq_true rfl) (k1 := k - k5 - k12 - k19) (n1 := n - n6 - n13 - n20) (by omega) (by omega) ?_ ?_
          · rintro v h16 (⟨v9, e9, e8, hq⟩ | ⟨ci9, q9, e9, -⟩)
            · cases e9
              subst e8
              replace H := H h16 hq
              refine e_aload_n dX7_let_35 rfl ?_
              refine e_aload_n dX7_let_36 rfl ?_
              obtain ⟨fsg24, g24o, H⟩ := H
              obtain ⟨d25, k26, n27, Q28, g24, g24d, g24k, g24n, H⟩ := H
              refine e_callV (r := (RX7, TX7, 11)) (As := []) g24 dX7_let_37 wX7_isName q1693 q1695 qs32 g24o rfl rfl g24d rfl (Nat.le_of_ble_eq_true rfl) (k1 := k - k5 - k12 - k19 - k26) (n1 := n - n6 - n13 - n20 - n27) (by omega) (by omega) ?_ ?_
              · rintro v h23 (⟨v9, e9, r22, e8, hq⟩ | ⟨ci9, q9, e9, -⟩)
                · cases e9
                  subst e8
                  replace H := H r22 h23 hq
                  refine e_iconst (2) dX7_let_40 (by decide) ?_
                  obtain ⟨fsg31, g31o, H⟩ := H
                  obtain ⟨d32, k33, n34, Q35, X55, g31, g31d, g31k, g31n, H, Hx, Hx8⟩ := H
                  refine e_callV (r := (RX7, TX7, 11)) (As := [.int r22, .int (2 : Int32)]) g31 dX7_let_41 wX7_need q1563 q1565 qs22 g31o rfl rfl g31d rfl (Nat.le_of_ble_eq_true rfl) (k1 := k - k5 - k12 - k19 - k26 - k33) (n1 := n - n6 - n13 - n20 - n27 - n34) (by omega) (by omega) ?_ ?_
                  · rintro v h30 (⟨v9, e9, e8, hq⟩ | ⟨ci9, q9, e9, -⟩)
                    · cases e9
                      subst e8
                      replace H := H h30 hq
                      refine e_aload_n dX7_let_44 rfl ?_
                      obtain ⟨fsg38, g38o, H⟩ := H
                      obtain ⟨d39, k40, n41, Q42, g38, g38d, g38k, g38n, H⟩ := H
                      refine e_callV (r := (RX7, TX7, 11)) (As := []) g38 dX7_let_45 wX7_word q1406 q1408 qs21 g38o rfl rfl g38d rfl (Nat.le_of_ble_eq_true rfl) (k1 := k - k5 - k12 - k19 - k26 - k33 - k40) (n1 := n - n6 - n13 - n20 - n27 - n34 - n41) (by omega) (by omega) ?_ ?_
                      · rintro v h37 (⟨v9, e9, r36, e8, hq⟩ | ⟨ci9, q9, e9, -⟩)
                        · cases e9
                          subst e8
                          replace H := H r36 h37 hq
                          refine e_astore_n _ dX7_let_48 (by decide) rfl rfl ?_
                          refine e_aload_n dX7_let_49 rfl ?_
                          refine e_aload_n dX7_let_50 rfl ?_
                          obtain ⟨x43, ⟨fsx43, g44, g44v⟩, H⟩ := H
                          refine e_get dX7_let_51 fX7_7 q1368 g44 g44v ?_
                          obtain ⟨x45, ⟨fsx45, g46, g46v⟩, H⟩ := H
                          refine e_getN dX7_let_54 fX1_3 q241 g46 g46v ?_
                          refine e_aload_n dX7_let_57 rfl ?_
                          obtain ⟨fsg49, g49o, H⟩ := H
                          obtain ⟨d50, k51, n52, Q53, g49, g49d, g49k, g49n, H⟩ := H
                          refine e_callF (i := 6) (r := (RJ2, TJ2, 3)) (As := [.ref r36]) g49 dX7_let_58 wJ2_contains rfl rfl q1749 q945 q943 g49o rfl rfl g49d rfl (Nat.le_of_ble_eq_true rfl) (k1 := k - k5 - k12 - k19 - k26 - k33 - k40 - k51) (n1 := n - n6 - n13 - n20 - n27 - n34 - n41 - n52) (by omega) (by omega) ?_ ?_
                          · rintro v h48 (⟨v9, e9, r47, e8, hq⟩ | ⟨ci9, q9, e9, -⟩)
                            · cases e9
                              subst e8
                              replace H := H r47 h48 hq
                              refine e_if_ne 70 dX7_let_63 (by decide) (fun g54 => ?_) (fun g54 => ?_)
                              · replace H := H.1 g54
                                refine e_iconst (0) dX7_let_70 (by decide) ?_
                                exact E.less2 H (eS_s (eS_s (eS_n (eS_n (eS_n eS_0)))))
                              · replace H := H.2 g54
                                refine e_iconst (1) dX7_let_66 (by decide) ?_
                                refine e_goto 71 dX7_let_67 (by decide) ?_
                                exact E.less2 H (eS_s (eS_s (eS_n (eS_n (eS_n eS_0)))))
                            · cases e9
                          · rintro q9 h9 (⟨v9, e9, -⟩ | ⟨ci9, q8, e9, -, -, hx⟩)
                            · cases e9
                            · exact hx.elim
                        · cases e9
                      · rintro q9 h9 (⟨v9, e9, -⟩ | ⟨ci9, q8, e9, -, -, hx⟩)
                        · cases e9
                        · exact hx.elim
                    · cases e9
                  · rintro q9 h9 (⟨v9, e9, -⟩ | ⟨ci9, q8, e9, gl, ⟨fs9, gq⟩, hx⟩)
                    · cases e9
                    · cases e9
                      rcases Hx ci9 q9 h9 hx with rfl
                      · have H := Hx8 q9 h9 fs9 hx gq gl
                        exact ex_out (r := (RX8, TX8, 8)) (fun z hz => (List.mem_cons.mp hz).elim (fun q => by rw [q]; exact (Or.inl (by decide))) (fun hz => (fun z hz => absurd hz List.not_mem_nil) z hz)) gq rfl gl H
                · cases e9
              · rintro q9 h9 (⟨v9, e9, -⟩ | ⟨ci9, q8, e9, -, -, hx⟩)
                · cases e9
                · exact hx.elim
            · cases e9
          · rintro q9 h9 (⟨v9, e9, -⟩ | ⟨ci9, q8, e9, -, -, hx⟩)
            · cases e9
            · exact hx.elim
        · cases e9
      · rintro q9 h9 (⟨v9, e9, -⟩ | ⟨ci9, q8, e9, -, -, hx⟩)
        · cases e9
        · exact hx.elim
    · cases e9
  · rintro q9 h9 (⟨v9, e9, -⟩ | ⟨ci9, q8, e9, gl, ⟨fs9, gq⟩, hx⟩)
    · cases e9
    · cases e9
      rcases Hx ci9 q9 h9 hx with rfl
      · have H := Hx8 q9 h9 fs9 hx gq gl
        exact ex_out (r := (RX8, TX8, 8)) (fun z hz => (List.mem_cons.mp hz).elim (fun q => by rw [q]; exact (Or.inl (by decide))) (fun hz => (fun z hz => absurd hz List.not_mem_nil) z hz)) gq rfl gl H
set_option maxHeartbeats 4000000 in
theorem s_X7_let_71 (c : cC) (a0 : Nat) (a1 : Nat) (b0 : Int32) (b1 : Nat) (h : eH) (k n : Nat) (H : ∃ fs8 : List Value, h.1 b1 = some (.inr (7, fs8)) ∧ ∃ (d4 k5 n6 : Nat) (Q7 : eH → Prop) (X37 : Nat → Nat → eH → Prop), cV c.1 c.2.1 c.2.2.1 d4 mX7_need [.ref b1, .int b0, .int (3 : Int32)] h k5 n6 Q7 X37 ∧ d4 + 1 ≤ c.2.2.2.1 ∧ k5 ≤ k ∧ n6 ≤ n ∧ (∀ h2 : eH, Q7 h2 → (∃ fs8 : List Value, h2.1 a0 = some (.inr (7, fs8)) ∧ ∃ (d11 k12 n13 : Nat) (Q14 : eH → Prop), cV c.1 c.2.1 c.2.2.1 d11 mX7_next [.ref a0] h2 k12 n13 Q14 cX0 ∧ d11 + 1 ≤ c.2.2.2.1 ∧ k12 ≤ k - k5 ∧ n13 ≤ n - n6 ∧ (∀ h9 : eH, Q14 h9 → (∃ fs8 : List Value, h9.1 a0 = some (.inr (7, fs8)) ∧ ∃ (d18 k19 n20 : Nat) (Q21 : eH → Prop) (X34 : Nat → Nat → eH → Prop), cV c.1 c.2.1 c.2.2.1 d18 mX7_sign [.ref a0, .int (61 : Int32)] h9 k19 n20 Q21 X34 ∧ d18 + 1 ≤ c.2.2.2.1 ∧ k19 ≤ k - k5 - k12 ∧ n20 ≤ n - n6 - n13 ∧ (∀ h16 : eH, Q21 h16 → (∃ fs8 : List Value, h16.1 a0 = some (.inr (7, fs8)) ∧ ∃ (d25 k26 n27 : Nat) (Q28 : Nat → eH → Prop) (X29 : Nat → Nat → eH → Prop), cR c.1 c.2.1 c.2.2.1 d25 mX7_whole [.ref a0] h16 k26 n27 Q28 X29 ∧ d25 + 1 ≤ c.2.2.2.1 ∧ k26 ≤ k - k5 - k12 - k19 ∧ n27 ≤ n - n6 - n13 - n20 ∧ (∀ (r22 : Nat) (h23 : eH), Q28 r22 h23 → (h_X7_let_106 c a0 a1 (some r22) none h23 (k - k5 - k12 - k19 - k26) (n - n6 - n13 - n20 - n27))) ∧ (∀ (ci q : Nat) (h9 : eH), X29 ci q h9 → ci = 8 ∨ ci = 10) ∧ (∀ (q30 : Nat) (h31 : eH) (fs9 : List Value), X29 8 q30 h31 → h31.1 q30 = some (.inr (8, fs9)) → c.2.1 ≤ q30 → c.2.2.2.2 (.inr q30) h31) ∧ (∀ (q32 : Nat) (h33 : eH) (fs9 : List Value), X29 10 q32 h33 → h33.1 q32 = some (.inr (10, fs9)) → c.2.1 ≤ q32 → h_X7_let_97 c a0 a1 none q32 h33 (k - k5 - k12 - k19 - k26) (n - n6 - n13 - n20 - n27)))) ∧ (∀ (ci q : Nat) (h9 : eH), X34 ci q h9 → ci = 8) ∧ (∀ (q35 : Nat) (h36 : eH) (fs9 : List Value), X34 8 q35 h36 → h36.1 q35 = some (.inr (8, fs9)) → c.2.1 ≤ q35 → c.2.2.2.2 (.inr q35) h36))))) ∧ (∀ (ci q : Nat) (h9 : eH), X37 ci q h9 → ci = 8) ∧ (∀ (q38 : Nat) (h39 : eH) (fs9 : List Value), X37 8 q38 h39 → h39.1 q38 = some (.inr (8, fs9)) → c.2.1 ≤ q38 → c.2.2.2.2 (.inr q38) h39)) : h_X7_let_71 c a0 a1 b0 b1 h k n := by
  refine e_iconst (3) dX7_let_71 (by decide) ?_
  obtain ⟨fsg3, g3o, H⟩ := H
  obtain ⟨d4, k5, n6, Q7, X37, g3, g3d, g3k, g3n, H, Hx, Hx8⟩ := H
  refine e_callV (r := (RX7, TX7, 11)) (As := [.int b0, .int (3 : Int32)]) g3 dX7_let_72 wX7_need q1563 q1565 qs22 g3o rfl rfl g3d rfl (Nat.le_of_ble_eq_true rfl) (k1 := k - k5) (n1 := n - n6) (by omega) (by omega) ?_ ?_
  · rintro v h2 (⟨v9, e9, e8, hq⟩ | ⟨ci9, q9, e9, -⟩)
    · cases e9
      subst e8
      replace H := H h2 hq
      refine e_aload_n dX7_let_75 rfl ?_
      obtain ⟨fsg10, g10o, H⟩ := H
      obtain ⟨d11, k12, n13, Q14, g10, g10d, g10k, g10n, H⟩ := H
      refine e_callV (r := (RX7, TX7, 11)) (As := []) g10 dX7_let_76 wX7_next q1291 q1293 qs17 g10o rfl rfl g10d rfl (Nat.le_of_ble_eq_true rfl) (k1 := k - k5 - k12) (n1 := n - n6 - n13) (by omega) (by omega) ?_ ?_
      · rintro v h9 (⟨v9, e9, e8, hq⟩ | ⟨ci9, q9, e9, -⟩)
        · cases e9
          subst e8
          replace H := H h9 hq
          refine e_aload_n dX7_let_79 rfl ?_
          refine e_bipush (61) dX7_let_80 (by decide) ?_
          obtain ⟨fsg17, g17o, H⟩ := H
          obtain ⟨d18, k19, n20, Q21, X34, g17, g17d, g17k, g17n, H, Hx, Hx8⟩ := H
          refine e_callV (r := (RX7, TX7, 11)) (As := [.int (61 : Int32)]) g17 dX7_let_82 wX7_sign q1649 q1651 qs26 g17o rfl rfl g17d rfl (Nat.le_of_ble_eq_true rfl) (k1 := k - k5 - k12 - k19) (n1 := n - n6 - n13 - n20) (by omega) (by omega) ?_ ?_
          · rintro v h16 (⟨v9, e9, e8, hq⟩ | ⟨ci9, q9, e9, -⟩)
            · cases e9
              subst e8
              replace H := H h16 hq
              refine e_null dX7_let_85 ?_
              refine e_astoreR_n (r := none) _ dX7_let_86 (by decide) rfl rfl ?_
              refine e_null dX7_let_87 ?_
              refine e_astoreR_n (r := none) _ dX7_let_88 (by decide) (eRfC _) rfl ?_
              refine e_aload_n dX7_let_89 rfl ?_
              obtain ⟨fsg24, g24o, H⟩ := H
              obtain ⟨d25, k26, n27, Q28, X29, g24, g24d, g24k, g24n, H, Hx, Hx8, Hx10⟩ := H
              refine e_callV (r := (RX7, TX7, 11)) (As := []) g24 dX7_let_90 wX7_whole q1750 q1752 qs33 g24o rfl rfl g24d rfl (Nat.le_of_ble_eq_true rfl) (k1 := k - k5 - k12 - k19 - k26) (n1 := n - n6 - n13 - n20 - n27) (by omega) (by omega) ?_ ?_
              · rintro v h23 (⟨v9, e9, r22, e8, hq⟩ | ⟨ci9, q9, e9, -⟩)
                · cases e9
                  subst e8
                  replace H := H r22 h23 hq
                  refine e_astore_n _ dX7_let_93 (by decide) rfl rfl ?_
                  refine e_goto 106 dX7_let_94 (by decide) ?_
                  exact E.less2 H (eS_s (eS_s (eS_s (eS_s (eS_n eS_0)))))
                · cases e9
              · rintro q9 h9 (⟨v9, e9, -⟩ | ⟨ci9, q8, e9, gl, ⟨fs9, gq⟩, hx⟩)
                · cases e9
                · cases e9
                  rcases Hx ci9 q9 h9 hx with rfl | rfl
                  · have H := Hx8 q9 h9 fs9 hx gq gl
                    exact ex_out (r := (RX8, TX8, 8)) (fun z hz => (List.mem_cons.mp hz).elim (fun q => by rw [q]; exact (Or.inr ⟨by decide, q1404, rfl⟩)) (fun hz => (fun z hz => absurd hz List.not_mem_nil) z hz)) gq rfl gl H
                  · have H := Hx10 q9 h9 fs9 hx gq gl
                    refine ex_catch (r := (RX10, TX10, 6)) [] (89, 94, 97, 136) [] rfl (by decide) (by decide) (fun z hz => absurd hz List.not_mem_nil) q1404 q1795 gq rfl gl ?_
                    exact E.less2 H (eS_s (eS_s (eS_s (eS_n (eS_n eS_0)))))
            · cases e9
          · rintro q9 h9 (⟨v9, e9, -⟩ | ⟨ci9, q8, e9, gl, ⟨fs9, gq⟩, hx⟩)
            · cases e9
            · cases e9
              rcases Hx ci9 q9 h9 hx with rfl
              · have H := Hx8 q9 h9 fs9 hx gq gl
                exact ex_out (r := (RX8, TX8, 8)) (fun z hz => (List.mem_cons.mp hz).elim (fun q => by rw [q]; exact (Or.inl (by decide))) (fun hz => (fun z hz => absurd hz List.not_mem_nil) z hz)) gq rfl gl H
        · cases e9
      · rintro q9 h9 (⟨v9, e9, -⟩ | ⟨ci9, q8, e9, -, -, hx⟩)
        · cases e9
        · exact hx.elim
    · cases e9
  · rintro q9 h9 (⟨v9, e9, -⟩ | ⟨ci9, q8, e9, gl, ⟨fs9, gq⟩, hx⟩)
    · cases e9
    · cases e9
      rcases Hx ci9 q9 h9 hx with rfl
      · have H := Hx8 q9 h9 fs9 hx gq gl
        exact ex_out (r := (RX8, TX8, 8)) (fun z hz => (List.mem_cons.mp hz).elim (fun q => by rw [q]; exact (Or.inl (by decide))) (fun hz => (fun z hz => absurd hz List.not_mem_nil) z hz)) gq rfl gl H
set_option maxHeartbeats 4000000 in
theorem s_X7_let_97 (c : cC) (a0 : Nat) (a1 : Nat) (a2 : Option Nat) (b0 : Nat) (h : eH) (k n : Nat) (H : ∃ fs8 : List Value, h.1 a0 = some (.inr (7, fs8)) ∧ ∃ (d4 k5 n6 : Nat) (Q7 : eH → Prop) (X8 : Nat → Nat → eH → Prop), cV c.1 c.2.1 c.2.2.1 d4 mX7_skips [.ref a0] h k5 n6 Q7 X8 ∧ d4 + 1 ≤ c.2.2.2.1 ∧ k5 ≤ k ∧ n6 ≤ n ∧ (∀ h2 : eH, Q7 h2 → (h_X7_let_106 c a0 a1 a2 (some b0) h2 (k - k5) (n - n6))) ∧ (∀ (ci q : Nat) (h9 : eH), X8 ci q h9 → ci = 8 ∨ ci = 10) ∧ (∀ (q9 : Nat) (h10 : eH) (fs9 : List Value), X8 8 q9 h10 → h10.1 q9 = some (.inr (8, fs9)) → c.2.1 ≤ q9 → c.2.2.2.2 (.inr q9) h10) ∧ (∀ (q11 : Nat) (h12 : eH) (fs9 : List Value), X8 10 q11 h12 → h12.1 q11 = some (.inr (10, fs9)) → c.2.1 ≤ q11 → c.2.2.2.2 (.inr q11) h12)) : h_X7_let_97 c a0 a1 a2 b0 h k n := by
  refine e_astore _ dX7_let_97 (by decide) trivial rfl ?_
  refine e_aload dX7_let_99 rfl ?_
  refine e_astore_n _ dX7_let_101 (by decide) (eRfC _) rfl ?_
  refine e_aload_n dX7_let_102 rfl ?_
  obtain ⟨fsg3, g3o, H⟩ := H
  obtain ⟨d4, k5, n6, Q7, X8, g3, g3d, g3k, g3n, H, Hx, Hx8, Hx10⟩ := H
  refine e_callV (r := (RX7, TX7, 11)) (As := []) g3 dX7_let_103 wX7_skips q1864 q1866 qs40 g3o rfl rfl g3d rfl (Nat.le_of_ble_eq_true rfl) (k1 := k - k5) (n1 := n - n6) (by omega) (by omega) ?_ ?_
  · rintro v h2 (⟨v9, e9, e8, hq⟩ | ⟨ci9, q9, e9, -⟩)
    · cases e9
      subst e8
      replace H := H h2 hq
      exact E.less2 H (eS_s (eS_s (eS_s (eS_s (eS_n eS_0)))))
    · cases e9
  · rintro q9 h9 (⟨v9, e9, -⟩ | ⟨ci9, q8, e9, gl, ⟨fs9, gq⟩, hx⟩)
    · cases e9
    · cases e9
      rcases Hx ci9 q9 h9 hx with rfl | rfl
      · have H := Hx8 q9 h9 fs9 hx gq gl
        exact ex_out (r := (RX8, TX8, 8)) (fun z hz => (List.mem_cons.mp hz).elim (fun q => by rw [q]; exact (Or.inl (by decide))) (fun hz => (fun z hz => absurd hz List.not_mem_nil) z hz)) gq rfl gl H
      · have H := Hx10 q9 h9 fs9 hx gq gl
        exact ex_out (r := (RX10, TX10, 6)) (fun z hz => (List.mem_cons.mp hz).elim (fun q => by rw [q]; exact (Or.inl (by decide))) (fun hz => (fun z hz => absurd hz List.not_mem_nil) z hz)) gq rfl gl H
set_option maxHeartbeats 4000000 in
theorem s_X7_let_106 (c : cC) (a0 : Nat) (a1 : Nat) (a2 : Option Nat) (a3 : Option Nat) (h : eH) (k n : Nat) (H : ∃ fs8 : List Value, h.1 a0 = some (.inr (7, fs8)) ∧ ∃ (d4 k5 n6 : Nat) (Q7 : eH → Prop) (X32 : Nat → Nat → eH → Prop), cV c.1 c.2.1 c.2.2.1 d4 mX7_sign [.ref a0, .int (59 : Int32)] h k5 n6 Q7 X32 ∧ d4 + 1 ≤ c.2.2.2.1 ∧ k5 ≤ k ∧ n6 ≤ n ∧ (∀ h2 : eH, Q7 h2 → ((a3 = none → ∃ x10 : Nat, fV h2 a0 7 7 (.ref x10) ∧ (∃ x12 : Nat, fV h2 x10 1 3 (.ref x12) ∧ (∃ fs8 : List Value, h2.1 x12 = some (.inr (15, fs8)) ∧ ∃ (d17 k18 n19 : Nat) (Q20 : Int32 → eH → Prop), cI c.1 c.2.1 c.2.2.1 d17 mJ2_add [.ref x12, .ref a1] h2 k18 n19 Q20 cX0 ∧ d17 + 1 ≤ c.2.2.2.1 ∧ k18 ≤ k - k5 ∧ n19 ≤ n - n6 ∧ (∀ (r14 : Int32) (h15 : eH), Q20 r14 h15 → (∃ x21 : Nat, fV h15 a0 7 7 (.ref x21) ∧ (∃ x23 : Nat, fV h15 x21 1 4 (.ref x23) ∧ (∃ fs8 : List Value, h15.1 x23 = some (.inr (15, fs8)) ∧ ∃ (d28 k29 n30 : Nat) (Q31 : Int32 → eH → Prop), cI c.1 c.2.1 c.2.2.1 d28 mJ2_add [.ref x23, va_rf a2] h15 k29 n30 Q31 cX0 ∧ d28 + 1 ≤ c.2.2.2.1 ∧ k29 ≤ k - k5 - k18 ∧ n30 ≤ n - n6 - n19 ∧ (∀ (r25 : Int32) (h26 : eH), Q31 r25 h26 → (c.2.2.2.2 (.inl none) h26))))))))) ∧ (∀ o8 : Nat, a3 = some o8 → ∃ fs9 : List Value, h2.1 o8 = some (.inr (10, fs9)) ∧ c.2.1 ≤ o8 ∧ (c.2.2.2.2 (.inr o8) h2)))) ∧ (∀ (ci q : Nat) (h9 : eH), X32 ci q h9 → ci = 8) ∧ (∀ (q33 : Nat) (h34 : eH) (fs9 : List Value), X32 8 q33 h34 → h34.1 q33 = some (.inr (8, fs9)) → c.2.1 ≤ q33 → c.2.2.2.2 (.inr q33) h34)) : h_X7_let_106 c a0 a1 a2 a3 h k n := by
  refine e_aload_n dX7_let_106 rfl ?_
  refine e_bipush (59) dX7_let_107 (by decide) ?_
  obtain ⟨fsg3, g3o, H⟩ := H
  obtain ⟨d4, k5, n6, Q7, X32, g3, g3d, g3k, g3n, H, Hx, Hx8⟩ := H
  refine e_callV (r := (RX7, TX7, 11)) (As := [.int (59 : Int32)]) g3 dX7_let_109 wX7_sign q1649 q1651 qs26 g3o rfl rfl g3d rfl (Nat.le_of_ble_eq_true rfl) (k1 := k - k5) (n1 := n - n6) (by omega) (by omega) ?_ ?_
  · rintro v h2 (⟨v9, e9, e8, hq⟩ | ⟨ci9, q9, e9, -⟩)
    · cases e9
      subst e8
      replace H := H h2 hq
      refine e_aloadR_n (r := a3) dX7_let_112 rfl ?_
      refine e_ifnull (r := a3) 118 dX7_let_113 (by decide) (fun g9 => ?_) (fun o8 g9 => ?_)
      · subst g9
        replace H := H.1 rfl
        refine e_aload_n dX7_let_118 rfl ?_
        obtain ⟨x10, ⟨fsx10, g11, g11v⟩, H⟩ := H
        refine e_get dX7_let_119 fX7_7 q1368 g11 g11v ?_
        obtain ⟨x12, ⟨fsx12, g13, g13v⟩, H⟩ := H
        refine e_getN dX7_let_122 fX1_3 q241 g13 g13v ?_
        refine e_aload_n dX7_let_125 rfl ?_
        obtain ⟨fsg16, g16o, H⟩ := H
        obtain ⟨d17, k18, n19, Q20, g16, g16d, g16k, g16n, H⟩ := H
        refine e_callF (i := 5) (r := (RJ2, TJ2, 3)) (As := [.ref a1]) g16 dX7_let_126 wJ2_add rfl rfl q1677 q797 q795 g16o rfl rfl g16d rfl (Nat.le_of_ble_eq_true rfl) (k1 := k - k5 - k18) (n1 := n - n6 - n19) (by omega) (by omega) ?_ ?_
        · rintro v h15 (⟨v9, e9, r14, e8, hq⟩ | ⟨ci9, q9, e9, -⟩)
          · cases e9
            subst e8
            replace H := H r14 h15 hq
            refine e_pop dX7_let_131 rfl ?_
            refine e_aload_n dX7_let_132 rfl ?_
            obtain ⟨x21, ⟨fsx21, g22, g22v⟩, H⟩ := H
            refine e_get dX7_let_133 fX7_7 q1368 g22 g22v ?_
            obtain ⟨x23, ⟨fsx23, g24, g24v⟩, H⟩ := H
            refine e_getN dX7_let_136 fX1_4 q244 g24 g24v ?_
            refine e_aloadR_n (r := a2) dX7_let_139 rfl ?_
            obtain ⟨fsg27, g27o, H⟩ := H
            obtain ⟨d28, k29, n30, Q31, g27, g27d, g27k, g27n, H⟩ := H
            refine e_callF (i := 5) (r := (RJ2, TJ2, 3)) (As := [va_rf a2]) g27 dX7_let_140 wJ2_add rfl rfl q1677 q797 q795 g27o rfl rfl g27d rfl (Nat.le_of_ble_eq_true rfl) (k1 := k - k5 - k18 - k29) (n1 := n - n6 - n19 - n30) (by omega) (by omega) ?_ ?_
            · rintro v h26 (⟨v9, e9, r25, e8, hq⟩ | ⟨ci9, q9, e9, -⟩)
              · cases e9
                subst e8
                replace H := H r25 h26 hq
                refine e_pop dX7_let_145 rfl ?_
                exact e_return dX7_let_146 rfl H
              · cases e9
            · rintro q9 h9 (⟨v9, e9, -⟩ | ⟨ci9, q8, e9, -, -, hx⟩)
              · cases e9
              · exact hx.elim
          · cases e9
        · rintro q9 h9 (⟨v9, e9, -⟩ | ⟨ci9, q8, e9, -, -, hx⟩)
          · cases e9
          · exact hx.elim
      · subst g9
        replace H := H.2 o8 rfl
        refine e_aload_n dX7_let_116 rfl ?_
        obtain ⟨fs9, gq, gl, H⟩ := H
        refine e_athrow dX7_let_117 ?_
        exact ex_out (r := (RX10, TX10, 6)) (fun z hz => (List.mem_cons.mp hz).elim (fun q => by rw [q]; exact (Or.inl (by decide))) (fun hz => (fun z hz => absurd hz List.not_mem_nil) z hz)) gq rfl gl H
    · cases e9
  · rintro q9 h9 (⟨v9, e9, -⟩ | ⟨ci9, q8, e9, gl, ⟨fs9, gq⟩, hx⟩)
    · cases e9
    · cases e9
      rcases Hx ci9 q9 h9 hx with rfl
      · have H := Hx8 q9 h9 fs9 hx gq gl
        exact ex_out (r := (RX8, TX8, 8)) (fun z hz => (List.mem_cons.mp hz).elim (fun q => by rw [q]; exact (Or.inl (by decide))) (fun hz => (fun z hz => absurd hz List.not_mem_nil) z hz)) gq rfl gl H
theorem en_X7_let {l : Launch} {lo : Nat} {G : eG} {d : Nat} {P : eO → eH → Prop} (a0 : Nat) {h : eH} {k n : Nat} (H : h_X7_let_0 (l, lo, G, d, P) a0 h k n) : Ct l lo G d mX7_let [.ref a0] h k n P := 
  Ct_of (eArL mX7_let.2.2.2.1 [.ref a0]) (by decide) rfl (Nat.le_of_ble_eq_true rfl) (fun j w q => eArL_mem j w q) (E.less2 H (eS_s (eS_n (eS_n (eS_n (eS_n eS_0))))))
/-! X7_closes TroupeSums$Reader.closes()V -/
def h_X7_closes_0 (c : cC) (a0 : Nat) (h : eH) (k n : Nat) : Prop := E c.1 c.2.1 c.2.2.1 c.2.2.2.1 mX7_closes c.2.2.2.2 0 [some (.ref a0)] [] h k n
set_option maxHeartbeats 4000000 in
theorem s_X7_closes_0 (c : cC) (a0 : Nat) (h : eH) (k n : Nat) (H : ∃ x1 : Nat, fV h a0 7 7 (.ref x1) ∧ (∃ x3 : Option Nat, fV h x1 1 2 (va_rf x3) ∧ ((x3 = none → ∃ x7 : Nat, fV h a0 7 7 (.ref x7) ∧ (1 ≤ k ∧ 8 ≤ n ∧ ∀ h9 : eH, h9 = eNw h (.inr (3, [.int 0, .null, .null, .null, .null, .null, .null, .null])) → (∃ x11 : Nat, fV h9 a0 7 7 (.ref x11) ∧ (∃ x13 : Int32, fV h9 x11 1 0 (.int x13) ∧ (∃ x15 : Nat, fV h9 a0 7 8 (.ref x15) ∧ (∃ (d20 k21 n22 : Nat) (Q23 : eH → Prop), cV c.1 c.2.1 c.2.2.1 d20 mX3_init [.ref h.2, .int x13, .ref x15] h9 k21 n22 Q23 cX0 ∧ d20 + 1 ≤ c.2.2.2.1 ∧ k21 ≤ k - 1 ∧ n22 ≤ n - 8 ∧ (∀ h18 : eH, Q23 h18 → (∃ fs24 : List Value, h18.1 x7 = some (.inr (1, fs24)) ∧ c.2.1 ≤ x7 ∧ 2 < fs24.length ∧ ∀ h26 : eH, h26 = eUp h18 x7 (.inr (1, fs24.set 2 (.ref h.2))) → (c.2.2.2.2 (.inl none) h26))))))))) ∧ (∀ o5 : Nat, x3 = some o5 → c.2.2.2.2 (.inl none) h)))) : h_X7_closes_0 c a0 h k n := by
  refine e_aload_n dX7_closes_0 rfl ?_
  obtain ⟨x1, ⟨fsx1, g2, g2v⟩, H⟩ := H
  refine e_get dX7_closes_1 fX7_7 q1368 g2 g2v ?_
  obtain ⟨x3, ⟨fsx3, g4, g4v⟩, H⟩ := H
  refine e_getN dX7_closes_4 fX1_2 q239 g4 g4v ?_
  refine e_ifnonnull (r := x3) 35 dX7_closes_7 (by decide) (fun o5 g6 => ?_) (fun g6 => ?_)
  · subst g6
    replace H := H.2 o5 rfl
    exact e_return dX7_closes_35 rfl H
  · subst g6
    replace H := H.1 rfl
    refine e_aload_n dX7_closes_10 rfl ?_
    obtain ⟨x7, ⟨fsx7, g8, g8v⟩, H⟩ := H
    refine e_get dX7_closes_11 fX7_7 q1368 g8 g8v ?_
    obtain ⟨g10, g10n, H⟩ := H
    refine e_new (ci := 3) (N := 8) (C := RX3) (T := TX3) tyX3 (fs := [.int 0, .null, .null, .null, .null, .null, .null, .null]) dX7_closes_14 rfl in_X3 tyX3_ok q1691 q673 q156 (by decide) (k1 := k - 1) (n1 := n - 8) (by omega) (by omega) ?_
    replace H := H _ rfl
    generalize eNw h _ = h9 at H ⊢
    refine e_dup dX7_closes_17 rfl ?_
    refine e_aload_n dX7_closes_18 rfl ?_
    obtain ⟨x11, ⟨fsx11, g12, g12v⟩, H⟩ := H
    refine e_get dX7_closes_19 fX7_7 q1368 g12 g12v ?_
    obtain ⟨x13, ⟨fsx13, g14, g14v⟩, H⟩ := H
    refine e_getN dX7_closes_22 fX1_0 q234 g14 g14v ?_
    refine e_aload_n dX7_closes_25 rfl ?_
    obtain ⟨x15, ⟨fsx15, g16, g16v⟩, H⟩ := H
    refine e_get dX7_closes_26 fX7_8 q1369 g16 g16v ?_
    obtain ⟨d20, k21, n22, Q23, g19, g19d, g19k, g19n, H⟩ := H
    refine e_callI (As := [.int x13, .ref x15]) g19 dX7_closes_29 wX3_init rfl rfl rfl q1692 q675 rfl g19d rfl (Nat.le_of_ble_eq_true rfl) (k1 := k - 1 - k21) (n1 := n - 8 - n22) (by omega) (by omega) ?_ ?_
    · rintro v h18 (⟨v9, e9, e8, hq⟩ | ⟨ci9, q9, e9, -⟩)
      · cases e9
        subst e8
        replace H := H h18 hq
        obtain ⟨fs24, g25, g25l, g25j, H⟩ := H
        refine e_putN dX7_closes_32 fX1_2 q239 (eFit_or _ _) g25 g25l g25j ?_
        replace H := H _ rfl
        generalize eUp h18 x7 _ = h26 at H ⊢
        exact e_return dX7_closes_35 rfl H
      · cases e9
    · rintro q9 h9 (⟨v9, e9, -⟩ | ⟨ci9, q8, e9, -, -, hx⟩)
      · cases e9
      · exact hx.elim
theorem en_X7_closes {l : Launch} {lo : Nat} {G : eG} {d : Nat} {P : eO → eH → Prop} (a0 : Nat) {h : eH} {k n : Nat} (H : h_X7_closes_0 (l, lo, G, d, P) a0 h k n) : Ct l lo G d mX7_closes [.ref a0] h k n P := 
  Ct_of (eArL mX7_closes.2.2.2.1 [.ref a0]) (by decide) rfl (Nat.le_of_ble_eq_true rfl) (fun j w q => eArL_mem j w q) (E.less2 H (eS_s eS_0))
/-! X7_isName TroupeSums$Reader.isName()Z -/
def h_X7_isName_0 (c : cC) (a0 : Nat) (h : eH) (k n : Nat) : Prop := E c.1 c.2.1 c.2.2.1 c.2.2.2.1 mX7_isName c.2.2.2.2 0 [some (.ref a0), none, none] [] h k n
def h_X7_isName_127 (c : cC) (a2 : Int32) (h : eH) (k n : Nat) : Prop := E c.1 c.2.1 c.2.2.1 c.2.2.2.1 mX7_isName c.2.2.2.2 127 [none, none, some (.int a2)] [] h k n
def h_X7_isName_164 (c : cC) (h : eH) (k n : Nat) : Prop := E c.1 c.2.1 c.2.2.1 c.2.2.2.1 mX7_isName c.2.2.2.2 164 [none, none, none] [] h k n
set_option maxHeartbeats 4000000 in
theorem s_X7_isName_0 (c : cC) (a0 : Nat) (h : eH) (k n : Nat) (H : ∃ fs8 : List Value, h.1 a0 = some (.inr (7, fs8)) ∧ ∃ (d4 k5 n6 : Nat) (Q7 : Nat → eH → Prop), cR c.1 c.2.1 c.2.2.1 d4 mX7_word [.ref a0] h k5 n6 Q7 cX0 ∧ d4 + 1 ≤ c.2.2.2.1 ∧ k5 ≤ k ∧ n6 ≤ n ∧ (∀ (r1 : Nat) (h2 : eH), Q7 r1 h2 → (∃ fs8 : List Value, h2.1 r1 = some (.inr (18, fs8)) ∧ ∃ (d11 k12 n13 : Nat) (Q14 : Int32 → eH → Prop), cI c.1 c.2.1 c.2.2.1 d11 mJ7_hashCode [.ref r1] h2 k12 n13 Q14 cX0 ∧ d11 + 1 ≤ c.2.2.2.1 ∧ k12 ≤ k - k5 ∧ n13 ≤ n - n6 ∧ (∀ (r8 : Int32) (h9 : eH), Q14 r8 h9 → ((r8 = (-985774004 : Int32) → ∃ fs8 : List Value, h9.1 r1 = some (.inr (18, fs8)) ∧ ∃ (d23 k24 n25 : Nat) (Q26 : Int32 → eH → Prop), cI c.1 c.2.1 c.2.2.1 d23 mJ7_equals [.ref r1, .ref (c.2.2.1.2.2.2 4)] h9 k24 n25 Q26 cX0 ∧ d23 + 1 ≤ c.2.2.2.1 ∧ k24 ≤ k - k5 - k12 ∧ n25 ≤ n - n6 - n13 ∧ (∀ (r20 : Int32) (h21 : eH), Q26 r20 h21 → ((r20 = 0 → h_X7_isName_127 c (-1 : Int32) h21 (k - k5 - k12 - k24) (n - n6 - n13 - n25)) ∧ (¬ r20 = 0 → h_X7_isName_127 c (1 : Int32) h21 (k - k5 - k12 - k24) (n - n6 - n13 - n25))))) ∧ (r8 = (0 : Int32) → ∃ fs8 : List Value, h9.1 r1 = some (.inr (18, fs8)) ∧ ∃ (d31 k32 n33 : Nat) (Q34 : Int32 → eH → Prop), cI c.1 c.2.1 c.2.2.1 d31 mJ7_equals [.ref r1, .ref (c.2.2.1.2.2.2 6)] h9 k32 n33 Q34 cX0 ∧ d31 + 1 ≤ c.2.2.2.1 ∧ k32 ≤ k - k5 - k12 ∧ n33 ≤ n - n6 - n13 ∧ (∀ (r28 : Int32) (h29 : eH), Q34 r28 h29 → ((r28 = 0 → h_X7_isName_127 c (-1 : Int32) h29 (k - k5 - k12 - k32) (n - n6 - n13 - n33)) ∧ (¬ r28 = 0 → h_X7_isName_127 c (0 : Int32) h29 (k - k5 - k12 - k32) (n - n6 - n13 - n33))))) ∧ (r8 = (107035 : Int32) → ∃ fs8 : List Value, h9.1 r1 = some (.inr (18, fs8)) ∧ ∃ (d39 k40 n41 : Nat) (Q42 : Int32 → eH → Prop), cI c.1 c.2.1 c.2.2.1 d39 mJ7_equals [.ref r1, .ref (c.2.2.1.2.2.2 5)] h9 k40 n41 Q42 cX0 ∧ d39 + 1 ≤ c.2.2.2.1 ∧ k40 ≤ k - k5 - k12 ∧ n41 ≤ n - n6 - n13 ∧ (∀ (r36 : Int32) (h37 : eH), Q42 r36 h37 → ((r36 = 0 → h_X7_isName_127 c (-1 : Int32) h37 (k - k5 - k12 - k40) (n - n6 - n13 - n41)) ∧ (¬ r36 = 0 → h_X7_isName_127 c (3 : Int32) h37 (k - k5 - k12 - k40) (n - n6 - n13 - n41))))) ∧ (r8 = (3357649 : Int32) → ∃ fs8 : List Value, h9.1 r1 = some (.inr (18, fs8)) ∧ ∃ (d47 k48 n49 : Nat) (Q50 : Int32 → eH → Prop), cI c.1 c.2.1 c.2.2.1 d47 mJ7_equals [.ref r1, .ref (c.2.2.1.2.2.2 3)] h9 k48 n49 Q50 cX0 ∧ d47 + 1 ≤ c.2.2.2.1 ∧ k48 ≤ k - k5 - k12 ∧ n49 ≤ n - n6 - n13 ∧ (∀ (r44 : Int32) (h45 : eH), Q50 r44 h45 → ((r44 = 0 → h_X7_isName_127 c (-1 : Int32) h45 (k - k5 - k12 - k48) (n - n6 - n13 - n49)) ∧ (¬ r44 = 0 → h_X7_isName_127 c (2 : Int32) h45 (k - k5 - k12 - k48) (n - n6 - n13 - n49))))) ∧ (r8 = (3536286 : Int32) → ∃ fs8 : List Value, h9.1 r1 = some (.inr (18, fs8)) ∧ ∃ (d55 k56 n57 : Nat) (Q58 : Int32 → eH → Prop), cI c.1 c.2.1 c.2.2.1 d55 mJ7_equals [.ref r1, .ref (c.2.2.1.2.2.2 7)] h9 k56 n57 Q58 cX0 ∧ d55 + 1 ≤ c.2.2.2.1 ∧ k56 ≤ k - k5 - k12 ∧ n57 ≤ n - n6 - n13 ∧ (∀ (r52 : Int32) (h53 : eH), Q58 r52 h53 → ((r52 = 0 → h_X7_isName_127 c (-1 : Int32) h53 (k - k5 - k12 - k56) (n - n6 - n13 - n57)) ∧ (¬ r52 = 0 → h_X7_isName_127 c (4 : Int32) h53 (k - k5 - k12 - k56) (n - n6 - n13 - n57))))) ∧ (¬ r8 = (-985774004 : Int32) → ¬ r8 = (0 : Int32) → ¬ r8 = (107035 : Int32) → ¬ r8 = (3357649 : Int32) → ¬ r8 = (3536286 : Int32) → h_X7_isName_127 c (-1 : Int32) h9 (k - k5 - k12) (n - n6 - n13))))))) : h_X7_isName_0 c a0 h k n := by
  refine e_aload_n dX7_isName_0 rfl ?_
  obtain ⟨fsg3, g3o, H⟩ := H
  obtain ⟨d4, k5, n6, Q7, g3, g3d, g3k, g3n, H⟩ := H
  refine e_callV (r := (RX7, TX7, 11)) (As := []) g3 dX7_isName_1 wX7_word q1406 q1408 qs21 g3o rfl rfl g3d rfl (Nat.le_of_ble_eq_true rfl) (k1 := k - k5) (n1 := n - n6) (by omega) (by omega) ?_ ?_
  · rintro v h2 (⟨v9, e9, r1, e8, hq⟩ | ⟨ci9, q9, e9, -⟩)
    · cases e9
      subst e8
      replace H := H r1 h2 hq
      refine e_astore_n _ dX7_isName_4 (by decide) rfl rfl ?_
      refine e_iconst (-1) dX7_isName_5 (by decide) ?_
      refine e_istore_n _ dX7_isName_6 (by decide) rfl rfl ?_
      refine e_aload_n dX7_isName_7 rfl ?_
      obtain ⟨fsg10, g10o, H⟩ := H
      obtain ⟨d11, k12, n13, Q14, g10, g10d, g10k, g10n, H⟩ := H
      refine e_callV (r := (RJ7, TJ7, 4)) (As := []) g10 dX7_isName_8 wJ7_hashCode q1697 q1698 q1699 g10o rfl rfl g10d rfl (Nat.le_of_ble_eq_true rfl) (k1 := k - k5 - k12) (n1 := n - n6 - n13) (by omega) (by omega) ?_ ?_
      · rintro v h9 (⟨v9, e9, r8, e8, hq⟩ | ⟨ci9, q9, e9, -⟩)
        · cases e9
          subst e8
          replace H := H r8 h9 hq
          by_cases g15 : r8 = (-985774004 : Int32)
          · replace H := H.1 g15
            refine e_lookup (off := 63) 74 dX7_isName_11 (by decide) (by rw [g15]; decide) (by decide) ?_
            refine e_aload_n dX7_isName_74 rfl ?_
            refine e_ldcS (i := 2) dX7_isName_75 rfl ?_
            obtain ⟨fsg22, g22o, H⟩ := H
            obtain ⟨d23, k24, n25, Q26, g22, g22d, g22k, g22n, H⟩ := H
            refine e_callV (r := (RJ7, TJ7, 4)) (As := [.ref (c.2.2.1.2.2.2 4)]) g22 dX7_isName_77 wJ7_equals q1560 q981 q3170 g22o rfl rfl g22d rfl (Nat.le_of_ble_eq_true rfl) (k1 := k - k5 - k12 - k24) (n1 := n - n6 - n13 - n25) (by omega) (by omega) ?_ ?_
            · rintro v h21 (⟨v9, e9, r20, e8, hq⟩ | ⟨ci9, q9, e9, -⟩)
              · cases e9
                subst e8
                replace H := H r20 h21 hq
                refine e_if_eq 127 dX7_isName_80 (by decide) (fun g27 => ?_) (fun g27 => ?_)
                · replace H := H.1 g27
                  exact E.less2 H (eS_n (eS_n (eS_s eS_0)))
                · replace H := H.2 g27
                  refine e_iconst (1) dX7_isName_83 (by decide) ?_
                  refine e_istore_n _ dX7_isName_84 (by decide) rfl rfl ?_
                  refine e_goto 127 dX7_isName_85 (by decide) ?_
                  exact E.less2 H (eS_n (eS_n (eS_s eS_0)))
              · cases e9
            · rintro q9 h9 (⟨v9, e9, -⟩ | ⟨ci9, q8, e9, -, -, hx⟩)
              · cases e9
              · exact hx.elim
          · replace H := H.2
            by_cases g16 : r8 = (0 : Int32)
            · replace H := H.1 g16
              refine e_lookup (off := 49) 60 dX7_isName_11 (by decide) (by rw [g16]; decide) (by decide) ?_
              refine e_aload_n dX7_isName_60 rfl ?_
              refine e_ldcS (i := 4) dX7_isName_61 rfl ?_
              obtain ⟨fsg30, g30o, H⟩ := H
              obtain ⟨d31, k32, n33, Q34, g30, g30d, g30k, g30n, H⟩ := H
              refine e_callV (r := (RJ7, TJ7, 4)) (As := [.ref (c.2.2.1.2.2.2 6)]) g30 dX7_isName_63 wJ7_equals q1560 q981 q3170 g30o rfl rfl g30d rfl (Nat.le_of_ble_eq_true rfl) (k1 := k - k5 - k12 - k32) (n1 := n - n6 - n13 - n33) (by omega) (by omega) ?_ ?_
              · rintro v h29 (⟨v9, e9, r28, e8, hq⟩ | ⟨ci9, q9, e9, -⟩)
                · cases e9
                  subst e8
                  replace H := H r28 h29 hq
                  refine e_if_eq 127 dX7_isName_66 (by decide) (fun g35 => ?_) (fun g35 => ?_)
                  · replace H := H.1 g35
                    exact E.less2 H (eS_n (eS_n (eS_s eS_0)))
                  · replace H := H.2 g35
                    refine e_iconst (0) dX7_isName_69 (by decide) ?_
                    refine e_istore_n _ dX7_isName_70 (by decide) rfl rfl ?_
                    refine e_goto 127 dX7_isName_71 (by decide) ?_
                    exact E.less2 H (eS_n (eS_n (eS_s eS_0)))
                · cases e9
              · rintro q9 h9 (⟨v9, e9, -⟩ | ⟨ci9, q8, e9, -, -, hx⟩)
                · cases e9
                · exact hx.elim
            · replace H := H.2
              by_cases g17 : r8 = (107035 : Int32)
              · replace H := H.1 g17
                refine e_lookup (off := 91) 102 dX7_isName_11 (by decide) (by rw [g17]; decide) (by decide) ?_
                refine e_aload_n dX7_isName_102 rfl ?_
                refine e_ldcS (i := 3) dX7_isName_103 rfl ?_
                obtain ⟨fsg38, g38o, H⟩ := H
                obtain ⟨d39, k40, n41, Q42, g38, g38d, g38k, g38n, H⟩ := H
                refine e_callV (r := (RJ7, TJ7, 4)) (As := [.ref (c.2.2.1.2.2.2 5)]) g38 dX7_isName_105 wJ7_equals q1560 q981 q3170 g38o rfl rfl g38d rfl (Nat.le_of_ble_eq_true rfl) (k1 := k - k5 - k12 - k40) (n1 := n - n6 - n13 - n41) (by omega) (by omega) ?_ ?_
                · rintro v h37 (⟨v9, e9, r36, e8, hq⟩ | ⟨ci9, q9, e9, -⟩)
                  · cases e9
                    subst e8
                    replace H := H r36 h37 hq
                    refine e_if_eq 127 dX7_isName_108 (by decide) (fun g43 => ?_) (fun g43 => ?_)
                    · replace H := H.1 g43
                      exact E.less2 H (eS_n (eS_n (eS_s eS_0)))
                    · replace H := H.2 g43
                      refine e_iconst (3) dX7_isName_111 (by decide) ?_
                      refine e_istore_n _ dX7_isName_112 (by decide) rfl rfl ?_
                      refine e_goto 127 dX7_isName_113 (by decide) ?_
                      exact E.less2 H (eS_n (eS_n (eS_s eS_0)))
                  · cases e9
                · rintro q9 h9 (⟨v9, e9, -⟩ | ⟨ci9, q8, e9, -, -, hx⟩)
                  · cases e9
                  · exact hx.elim
              · replace H := H.2
                by_cases g18 : r8 = (3357649 : Int32)
                · replace H := H.1 g18
                  refine e_lookup (off := 77) 88 dX7_isName_11 (by decide) (by rw [g18]; decide) (by decide) ?_
                  refine e_aload_n dX7_isName_88 rfl ?_
                  refine e_ldcS (i := 1) dX7_isName_89 rfl ?_
                  obtain ⟨fsg46, g46o, H⟩ := H
                  obtain ⟨d47, k48, n49, Q50, g46, g46d, g46k, g46n, H⟩ := H
                  refine e_callV (r := (RJ7, TJ7, 4)) (As := [.ref (c.2.2.1.2.2.2 3)]) g46 dX7_isName_91 wJ7_equals q1560 q981 q3170 g46o rfl rfl g46d rfl (Nat.le_of_ble_eq_true rfl) (k1 := k - k5 - k12 - k48) (n1 := n - n6 - n13 - n49) (by omega) (by omega) ?_ ?_
                  · rintro v h45 (⟨v9, e9, r44, e8, hq⟩ | ⟨ci9, q9, e9, -⟩)
                    · cases e9
                      subst e8
                      replace H := H r44 h45 hq
                      refine e_if_eq 127 dX7_isName_94 (by decide) (fun g51 => ?_) (fun g51 => ?_)
                      · replace H := H.1 g51
                        exact E.less2 H (eS_n (eS_n (eS_s eS_0)))
                      · replace H := H.2 g51
                        refine e_iconst (2) dX7_isName_97 (by decide) ?_
                        refine e_istore_n _ dX7_isName_98 (by decide) rfl rfl ?_
                        refine e_goto 127 dX7_isName_99 (by decide) ?_
                        exact E.less2 H (eS_n (eS_n (eS_s eS_0)))
                    · cases e9
                  · rintro q9 h9 (⟨v9, e9, -⟩ | ⟨ci9, q8, e9, -, -, hx⟩)
                    · cases e9
                    · exact hx.elim
                · replace H := H.2
                  by_cases g19 : r8 = (3536286 : Int32)
                  · replace H := H.1 g19
                    refine e_lookup (off := 105) 116 dX7_isName_11 (by decide) (by rw [g19]; decide) (by decide) ?_
                    refine e_aload_n dX7_isName_116 rfl ?_
                    refine e_ldcS (i := 5) dX7_isName_117 rfl ?_
                    obtain ⟨fsg54, g54o, H⟩ := H
                    obtain ⟨d55, k56, n57, Q58, g54, g54d, g54k, g54n, H⟩ := H
                    refine e_callV (r := (RJ7, TJ7, 4)) (As := [.ref (c.2.2.1.2.2.2 7)]) g54 dX7_isName_119 wJ7_equals q1560 q981 q3170 g54o rfl rfl g54d rfl (Nat.le_of_ble_eq_true rfl) (k1 := k - k5 - k12 - k56) (n1 := n - n6 - n13 - n57) (by omega) (by omega) ?_ ?_
                    · rintro v h53 (⟨v9, e9, r52, e8, hq⟩ | ⟨ci9, q9, e9, -⟩)
                      · cases e9
                        subst e8
                        replace H := H r52 h53 hq
                        refine e_if_eq 127 dX7_isName_122 (by decide) (fun g59 => ?_) (fun g59 => ?_)
                        · replace H := H.1 g59
                          exact E.less2 H (eS_n (eS_n (eS_s eS_0)))
                        · replace H := H.2 g59
                          refine e_iconst (4) dX7_isName_125 (by decide) ?_
                          refine e_istore_n _ dX7_isName_126 (by decide) rfl rfl ?_
                          exact E.less2 H (eS_n (eS_n (eS_s eS_0)))
                      · cases e9
                    · rintro q9 h9 (⟨v9, e9, -⟩ | ⟨ci9, q8, e9, -, -, hx⟩)
                      · cases e9
                      · exact hx.elim
                  · replace H := H.2
                    replace H := H g15
                    replace H := H g16
                    replace H := H g17
                    replace H := H g18
                    replace H := H g19
                    refine e_lookup (off := 116) 127 dX7_isName_11 (by decide) ((lv_osw g15 (by decide)).trans ((lv_osw g16 (by decide)).trans ((lv_osw g17 (by decide)).trans ((lv_osw g18 (by decide)).trans ((lv_osw g19 (by decide)).trans rfl))))) (by decide) ?_
                    exact E.less2 H (eS_n (eS_n (eS_s eS_0)))
        · cases e9
      · rintro q9 h9 (⟨v9, e9, -⟩ | ⟨ci9, q8, e9, -, -, hx⟩)
        · cases e9
        · exact hx.elim
    · cases e9
  · rintro q9 h9 (⟨v9, e9, -⟩ | ⟨ci9, q8, e9, -, -, hx⟩)
    · cases e9
    · exact hx.elim
set_option maxHeartbeats 4000000 in
theorem s_X7_isName_127 (c : cC) (a2 : Int32) (h : eH) (k n : Nat) (H : ((a2.toInt < 0 ∨ 4 < a2.toInt) → c.2.2.2.2 (.inl (some (.int (1 : Int32)))) h) ∧ (a2 = nI 0 → h_X7_isName_164 c h k n) ∧ (a2 = nI 1 → h_X7_isName_164 c h k n) ∧ (a2 = nI 2 → h_X7_isName_164 c h k n) ∧ (a2 = nI 3 → h_X7_isName_164 c h k n) ∧ (a2 = nI 4 → h_X7_isName_164 c h k n)) : h_X7_isName_127 c a2 h k n := by
  refine e_iload_n dX7_isName_127 rfl ?_
  rcases eSwitch 4 a2 with g1 | ⟨k2, g1, rfl⟩
  · replace H := H.1 g1
    refine e_switchOut 168 dX7_isName_128 g1 (by decide) ?_
    refine e_iconst (1) dX7_isName_168 (by decide) ?_
    exact e_ireturn .boolean dX7_isName_169 rfl (by decide) H
  · replace H := H.2
    rcases (show k2 = 0 ∨ k2 = 1 ∨ k2 = 2 ∨ k2 = 3 ∨ k2 = 4 by omega) with rfl | rfl | rfl | rfl | rfl
    · replace H := H.1 rfl
      refine e_switchIn (off := 36) 164 dX7_isName_128 (by decide) (by decide) (by decide) (by decide) ?_
      exact E.less2 H (eS_n (eS_n (eS_n eS_0)))
    · replace H := H.2.1 rfl
      refine e_switchIn (off := 36) 164 dX7_isName_128 (by decide) (by decide) (by decide) (by decide) ?_
      exact E.less2 H (eS_n (eS_n (eS_n eS_0)))
    · replace H := H.2.2.1 rfl
      refine e_switchIn (off := 36) 164 dX7_isName_128 (by decide) (by decide) (by decide) (by decide) ?_
      exact E.less2 H (eS_n (eS_n (eS_n eS_0)))
    · replace H := H.2.2.2.1 rfl
      refine e_switchIn (off := 36) 164 dX7_isName_128 (by decide) (by decide) (by decide) (by decide) ?_
      exact E.less2 H (eS_n (eS_n (eS_n eS_0)))
    · replace H := H.2.2.2.2 rfl
      refine e_switchIn (off := 36) 164 dX7_isName_128 (by decide) (by decide) (by decide) (by decide) ?_
      exact E.less2 H (eS_n (eS_n (eS_n eS_0)))
set_option maxHeartbeats 4000000 in
theorem s_X7_isName_164 (c : cC) (h : eH) (k n : Nat) (H : c.2.2.2.2 (.inl (some (.int (0 : Int32)))) h) : h_X7_isName_164 c h k n := by
  refine e_iconst (0) dX7_isName_164 (by decide) ?_
  refine e_goto 169 dX7_isName_165 (by decide) ?_
  exact e_ireturn .boolean dX7_isName_169 rfl (by decide) H
theorem en_X7_isName {l : Launch} {lo : Nat} {G : eG} {d : Nat} {P : eO → eH → Prop} (a0 : Nat) {h : eH} {k n : Nat} (H : h_X7_isName_0 (l, lo, G, d, P) a0 h k n) : Ct l lo G d mX7_isName [.ref a0] h k n P := 
  Ct_of (eArL mX7_isName.2.2.2.1 [.ref a0]) (by decide) rfl (Nat.le_of_ble_eq_true rfl) (fun j w q => eArL_mem j w q) (E.less2 H (eS_s (eS_n (eS_n eS_0))))
/-! X7_whole TroupeSums$Reader.whole()LTroupeSums$Sum; -/
def h_X7_whole_0 (c : cC) (a0 : Nat) (h : eH) (k n : Nat) : Prop := E c.1 c.2.1 c.2.2.1 c.2.2.2.1 mX7_whole c.2.2.2.2 0 [some (.ref a0)] [] h k n
set_option maxHeartbeats 4000000 in
theorem s_X7_whole_0 (c : cC) (a0 : Nat) (h : eH) (k n : Nat) (H : ∃ fs1 : List Value, h.1 a0 = some (.inr (7, fs1)) ∧ c.2.1 ≤ a0 ∧ 5 < fs1.length ∧ ∀ h3 : eH, h3 = eUp h a0 (.inr (7, fs1.set 5 (.int (0 : Int32)))) → (∃ fs4 : List Value, h3.1 a0 = some (.inr (7, fs4)) ∧ c.2.1 ≤ a0 ∧ 6 < fs4.length ∧ ∀ h6 : eH, h6 = eUp h3 a0 (.inr (7, fs4.set 6 (.int (0 : Int32)))) → (∃ x7 : Int32, fV h6 a0 7 2 (.int x7) ∧ (∃ fs9 : List Value, h6.1 a0 = some (.inr (7, fs9)) ∧ c.2.1 ≤ a0 ∧ 10 < fs9.length ∧ ∀ h11 : eH, h11 = eUp h6 a0 (.inr (7, fs9.set 10 (.int x7))) → (∃ fs12 : List Value, h11.1 a0 = some (.inr (7, fs12)) ∧ c.2.1 ≤ a0 ∧ 9 < fs12.length ∧ ∀ h14 : eH, h14 = eUp h11 a0 (.inr (7, fs12.set 9 (.int (0 : Int32)))) → (∃ fs8 : List Value, h14.1 a0 = some (.inr (7, fs8)) ∧ ∃ (d18 k19 n20 : Nat) (Q21 : Nat → eH → Prop) (X22 : Nat → Nat → eH → Prop), cR c.1 c.2.1 c.2.2.1 d18 mX7_any [.ref a0] h14 k19 n20 Q21 X22 ∧ d18 + 1 ≤ c.2.2.2.1 ∧ k19 ≤ k ∧ n20 ≤ n ∧ (∀ (r15 : Nat) (h16 : eH), Q21 r15 h16 → (c.2.2.2.2 (.inl (some (.ref r15))) h16)) ∧ (∀ (ci q : Nat) (h9 : eH), X22 ci q h9 → ci = 8 ∨ ci = 10) ∧ (∀ (q23 : Nat) (h24 : eH) (fs9 : List Value), X22 8 q23 h24 → h24.1 q23 = some (.inr (8, fs9)) → c.2.1 ≤ q23 → c.2.2.2.2 (.inr q23) h24) ∧ (∀ (q25 : Nat) (h26 : eH) (fs9 : List Value), X22 10 q25 h26 → h26.1 q25 = some (.inr (10, fs9)) → c.2.1 ≤ q25 → c.2.2.2.2 (.inr q25) h26))))))) : h_X7_whole_0 c a0 h k n := by
  refine e_aload_n dX7_whole_0 rfl ?_
  refine e_iconst (0) dX7_whole_1 (by decide) ?_
  obtain ⟨fs1, g2, g2l, g2j, H⟩ := H
  refine e_put dX7_whole_2 fX7_5 q1366 (eFit_i _) g2 g2l g2j ?_
  replace H := H _ rfl
  generalize eUp h a0 _ = h3 at H ⊢
  refine e_aload_n dX7_whole_5 rfl ?_
  refine e_iconst (0) dX7_whole_6 (by decide) ?_
  obtain ⟨fs4, g5, g5l, g5j, H⟩ := H
  refine e_put dX7_whole_7 fX7_6 q1367 (eFit_i _) g5 g5l g5j ?_
  replace H := H _ rfl
  generalize eUp h3 a0 _ = h6 at H ⊢
  refine e_aload_n dX7_whole_10 rfl ?_
  refine e_aload_n dX7_whole_11 rfl ?_
  obtain ⟨x7, ⟨fsx7, g8, g8v⟩, H⟩ := H
  refine e_get dX7_whole_12 fX7_2 q1363 g8 g8v ?_
  obtain ⟨fs9, g10, g10l, g10j, H⟩ := H
  refine e_put dX7_whole_15 fX7_10 q1371 (eFit_i _) g10 g10l g10j ?_
  replace H := H _ rfl
  generalize eUp h6 a0 _ = h11 at H ⊢
  refine e_aload_n dX7_whole_18 rfl ?_
  refine e_iconst (0) dX7_whole_19 (by decide) ?_
  obtain ⟨fs12, g13, g13l, g13j, H⟩ := H
  refine e_put dX7_whole_20 fX7_9 q1370 eFit_z0 g13 g13l g13j ?_
  replace H := H _ rfl
  generalize eUp h11 a0 _ = h14 at H ⊢
  refine e_aload_n dX7_whole_23 rfl ?_
  obtain ⟨fsg17, g17o, H⟩ := H
  obtain ⟨d18, k19, n20, Q21, X22, g17, g17d, g17k, g17n, H, Hx, Hx8, Hx10⟩ := H
  refine e_callV (r := (RX7, TX7, 11)) (As := []) g17 dX7_whole_24 wX7_any q1754 q1756 qs34 g17o rfl rfl g17d rfl (Nat.le_of_ble_eq_true rfl) (k1 := k - k19) (n1 := n - n20) (by omega) (by omega) ?_ ?_
  · rintro v h16 (⟨v9, e9, r15, e8, hq⟩ | ⟨ci9, q9, e9, -⟩)
    · cases e9
      subst e8
      replace H := H r15 h16 hq
      exact e_areturn (r := some r15) _ dX7_whole_27 rfl (Or.inl ⟨_, rfl⟩) H
    · cases e9
  · rintro q9 h9 (⟨v9, e9, -⟩ | ⟨ci9, q8, e9, gl, ⟨fs9, gq⟩, hx⟩)
    · cases e9
    · cases e9
      rcases Hx ci9 q9 h9 hx with rfl | rfl
      · have H := Hx8 q9 h9 fs9 hx gq gl
        exact ex_out (r := (RX8, TX8, 8)) (fun z hz => absurd hz List.not_mem_nil) gq rfl gl H
      · have H := Hx10 q9 h9 fs9 hx gq gl
        exact ex_out (r := (RX10, TX10, 6)) (fun z hz => absurd hz List.not_mem_nil) gq rfl gl H
theorem en_X7_whole {l : Launch} {lo : Nat} {G : eG} {d : Nat} {P : eO → eH → Prop} (a0 : Nat) {h : eH} {k n : Nat} (H : h_X7_whole_0 (l, lo, G, d, P) a0 h k n) : Ct l lo G d mX7_whole [.ref a0] h k n P := 
  Ct_of (eArL mX7_whole.2.2.2.1 [.ref a0]) (by decide) rfl (Nat.le_of_ble_eq_true rfl) (fun j w q => eArL_mem j w q) (E.less2 H (eS_s eS_0))
/-! X7_any TroupeSums$Reader.any()LTroupeSums$Sum; -/
def h_X7_any_0 (c : cC) (a0 : Nat) (h : eH) (k n : Nat) : Prop := E c.1 c.2.1 c.2.2.1 c.2.2.2.1 mX7_any c.2.2.2.2 0 [some (.ref a0), none, none, none] [] h k n
def h_X7_any_5 (c : cC) (a0 : Nat) (a1 : Nat) (h : eH) (k n : Nat) : Prop := E c.1 c.2.1 c.2.2.1 c.2.2.2.1 mX7_any c.2.2.2.2 5 [some (.ref a0), some (.ref a1), none, none] [] h k n
def h_X7_any_23 (c : cC) (a0 : Nat) (a1 : Nat) (h : eH) (k n : Nat) : Prop := E c.1 c.2.1 c.2.2.1 c.2.2.2.1 mX7_any c.2.2.2.2 23 [some (.ref a0), some (.ref a1), none, none] [] h k n
def h_X7_any_37 (c : cC) (a0 : Nat) (a1 : Nat) (b0 : Int32) (h : eH) (k n : Nat) : Prop := E c.1 c.2.1 c.2.2.1 c.2.2.2.1 mX7_any c.2.2.2.2 37 [some (.ref a0), some (.ref a1), none, none] [.int b0] h k n
def h_X7_any_64 (c : cC) (a0 : Nat) (b0 : Nat) (h : eH) (k n : Nat) : Prop := E c.1 c.2.1 c.2.2.1 c.2.2.2.1 mX7_any c.2.2.2.2 64 [some (.ref a0), none, none, none] [.ref b0] h k n
set_option maxHeartbeats 4000000 in
theorem s_X7_any_0 (c : cC) (a0 : Nat) (h : eH) (k n : Nat) (H : ∃ fs8 : List Value, h.1 a0 = some (.inr (7, fs8)) ∧ ∃ (d4 k5 n6 : Nat) (Q7 : Nat → eH → Prop) (X8 : Nat → Nat → eH → Prop), cR c.1 c.2.1 c.2.2.1 d4 mX7_product [.ref a0] h k5 n6 Q7 X8 ∧ d4 + 1 ≤ c.2.2.2.1 ∧ k5 ≤ k ∧ n6 ≤ n ∧ (∀ (r1 : Nat) (h2 : eH), Q7 r1 h2 → (h_X7_any_5 c a0 r1 h2 (k - k5) (n - n6))) ∧ (∀ (ci q : Nat) (h9 : eH), X8 ci q h9 → ci = 8 ∨ ci = 10) ∧ (∀ (q9 : Nat) (h10 : eH) (fs9 : List Value), X8 8 q9 h10 → h10.1 q9 = some (.inr (8, fs9)) → c.2.1 ≤ q9 → c.2.2.2.2 (.inr q9) h10) ∧ (∀ (q11 : Nat) (h12 : eH) (fs9 : List Value), X8 10 q11 h12 → h12.1 q11 = some (.inr (10, fs9)) → c.2.1 ≤ q11 → c.2.2.2.2 (.inr q11) h12)) : h_X7_any_0 c a0 h k n := by
  refine e_aload_n dX7_any_0 rfl ?_
  obtain ⟨fsg3, g3o, H⟩ := H
  obtain ⟨d4, k5, n6, Q7, X8, g3, g3d, g3k, g3n, H, Hx, Hx8, Hx10⟩ := H
  refine e_callV (r := (RX7, TX7, 11)) (As := []) g3 dX7_any_1 wX7_product q1758 q1760 qs35 g3o rfl rfl g3d rfl (Nat.le_of_ble_eq_true rfl) (k1 := k - k5) (n1 := n - n6) (by omega) (by omega) ?_ ?_
  · rintro v h2 (⟨v9, e9, r1, e8, hq⟩ | ⟨ci9, q9, e9, -⟩)
    · cases e9
      subst e8
      replace H := H r1 h2 hq
      refine e_astore_n _ dX7_any_4 (by decide) rfl rfl ?_
      exact E.less2 H (eS_s (eS_s (eS_n (eS_n eS_0))))
    · cases e9
  · rintro q9 h9 (⟨v9, e9, -⟩ | ⟨ci9, q8, e9, gl, ⟨fs9, gq⟩, hx⟩)
    · cases e9
    · cases e9
      rcases Hx ci9 q9 h9 hx with rfl | rfl
      · have H := Hx8 q9 h9 fs9 hx gq gl
        exact ex_out (r := (RX8, TX8, 8)) (fun z hz => absurd hz List.not_mem_nil) gq rfl gl H
      · have H := Hx10 q9 h9 fs9 hx gq gl
        exact ex_out (r := (RX10, TX10, 6)) (fun z hz => absurd hz List.not_mem_nil) gq rfl gl H
set_option maxHeartbeats 4000000 in
theorem s_X7_any_5 (c : cC) (a0 : Nat) (a1 : Nat) (h : eH) (k n : Nat) (H : ∃ fs8 : List Value, h.1 a0 = some (.inr (7, fs8)) ∧ ∃ (d4 k5 n6 : Nat) (Q7 : Int32 → eH → Prop), cI c.1 c.2.1 c.2.2.1 d4 mX7_isSign [.ref a0, .int (43 : Int32)] h k5 n6 Q7 cX0 ∧ d4 + 1 ≤ c.2.2.2.1 ∧ k5 ≤ k ∧ n6 ≤ n ∧ (∀ (r1 : Int32) (h2 : eH), Q7 r1 h2 → ((¬ r1 = 0 → h_X7_any_23 c a0 a1 h2 (k - k5) (n - n6)) ∧ (r1 = 0 → ∃ fs8 : List Value, h2.1 a0 = some (.inr (7, fs8)) ∧ ∃ (d12 k13 n14 : Nat) (Q15 : Int32 → eH → Prop), cI c.1 c.2.1 c.2.2.1 d12 mX7_isSign [.ref a0, .int (45 : Int32)] h2 k13 n14 Q15 cX0 ∧ d12 + 1 ≤ c.2.2.2.1 ∧ k13 ≤ k - k5 ∧ n14 ≤ n - n6 ∧ (∀ (r9 : Int32) (h10 : eH), Q15 r9 h10 → ((r9 = 0 → c.2.2.2.2 (.inl (some (.ref a1))) h10) ∧ (¬ r9 = 0 → h_X7_any_23 c a0 a1 h10 (k - k5 - k13) (n - n6 - n14)))))))) : h_X7_any_5 c a0 a1 h k n := by
  refine e_aload_n dX7_any_5 rfl ?_
  refine e_bipush (43) dX7_any_6 (by decide) ?_
  obtain ⟨fsg3, g3o, H⟩ := H
  obtain ⟨d4, k5, n6, Q7, g3, g3d, g3k, g3n, H⟩ := H
  refine e_callV (r := (RX7, TX7, 11)) (As := [.int (43 : Int32)]) g3 dX7_any_8 wX7_isSign q1653 q1655 qs27 g3o rfl rfl g3d rfl (Nat.le_of_ble_eq_true rfl) (k1 := k - k5) (n1 := n - n6) (by omega) (by omega) ?_ ?_
  · rintro v h2 (⟨v9, e9, r1, e8, hq⟩ | ⟨ci9, q9, e9, -⟩)
    · cases e9
      subst e8
      replace H := H r1 h2 hq
      refine e_if_ne 23 dX7_any_11 (by decide) (fun g8 => ?_) (fun g8 => ?_)
      · replace H := H.1 g8
        exact E.less2 H (eS_s (eS_s (eS_n (eS_n eS_0))))
      · replace H := H.2 g8
        refine e_aload_n dX7_any_14 rfl ?_
        refine e_bipush (45) dX7_any_15 (by decide) ?_
        obtain ⟨fsg11, g11o, H⟩ := H
        obtain ⟨d12, k13, n14, Q15, g11, g11d, g11k, g11n, H⟩ := H
        refine e_callV (r := (RX7, TX7, 11)) (As := [.int (45 : Int32)]) g11 dX7_any_17 wX7_isSign q1653 q1655 qs27 g11o rfl rfl g11d rfl (Nat.le_of_ble_eq_true rfl) (k1 := k - k5 - k13) (n1 := n - n6 - n14) (by omega) (by omega) ?_ ?_
        · rintro v h10 (⟨v9, e9, r9, e8, hq⟩ | ⟨ci9, q9, e9, -⟩)
          · cases e9
            subst e8
            replace H := H r9 h10 hq
            refine e_if_eq 68 dX7_any_20 (by decide) (fun g16 => ?_) (fun g16 => ?_)
            · replace H := H.1 g16
              refine e_aload_n dX7_any_68 rfl ?_
              exact e_areturn (r := some a1) _ dX7_any_69 rfl (Or.inl ⟨_, rfl⟩) H
            · replace H := H.2 g16
              exact E.less2 H (eS_s (eS_s (eS_n (eS_n eS_0))))
          · cases e9
        · rintro q9 h9 (⟨v9, e9, -⟩ | ⟨ci9, q8, e9, -, -, hx⟩)
          · cases e9
          · exact hx.elim
    · cases e9
  · rintro q9 h9 (⟨v9, e9, -⟩ | ⟨ci9, q8, e9, -, -, hx⟩)
    · cases e9
    · exact hx.elim
set_option maxHeartbeats 4000000 in
theorem s_X7_any_23 (c : cC) (a0 : Nat) (a1 : Nat) (h : eH) (k n : Nat) (H : ∃ fs8 : List Value, h.1 a0 = some (.inr (7, fs8)) ∧ ∃ (d4 k5 n6 : Nat) (Q7 : Int32 → eH → Prop), cI c.1 c.2.1 c.2.2.1 d4 mX7_isSign [.ref a0, .int (43 : Int32)] h k5 n6 Q7 cX0 ∧ d4 + 1 ≤ c.2.2.2.1 ∧ k5 ≤ k ∧ n6 ≤ n ∧ (∀ (r1 : Int32) (h2 : eH), Q7 r1 h2 → ((r1 = 0 → h_X7_any_37 c a0 a1 (-1 : Int32) h2 (k - k5) (n - n6)) ∧ (¬ r1 = 0 → h_X7_any_37 c a0 a1 (1 : Int32) h2 (k - k5) (n - n6))))) : h_X7_any_23 c a0 a1 h k n := by
  refine e_aload_n dX7_any_23 rfl ?_
  refine e_bipush (43) dX7_any_24 (by decide) ?_
  obtain ⟨fsg3, g3o, H⟩ := H
  obtain ⟨d4, k5, n6, Q7, g3, g3d, g3k, g3n, H⟩ := H
  refine e_callV (r := (RX7, TX7, 11)) (As := [.int (43 : Int32)]) g3 dX7_any_26 wX7_isSign q1653 q1655 qs27 g3o rfl rfl g3d rfl (Nat.le_of_ble_eq_true rfl) (k1 := k - k5) (n1 := n - n6) (by omega) (by omega) ?_ ?_
  · rintro v h2 (⟨v9, e9, r1, e8, hq⟩ | ⟨ci9, q9, e9, -⟩)
    · cases e9
      subst e8
      replace H := H r1 h2 hq
      refine e_if_eq 36 dX7_any_29 (by decide) (fun g8 => ?_) (fun g8 => ?_)
      · replace H := H.1 g8
        refine e_iconst (-1) dX7_any_36 (by decide) ?_
        exact E.less2 H (eS_s (eS_s (eS_n (eS_n eS_0))))
      · replace H := H.2 g8
        refine e_iconst (1) dX7_any_32 (by decide) ?_
        refine e_goto 37 dX7_any_33 (by decide) ?_
        exact E.less2 H (eS_s (eS_s (eS_n (eS_n eS_0))))
    · cases e9
  · rintro q9 h9 (⟨v9, e9, -⟩ | ⟨ci9, q8, e9, -, -, hx⟩)
    · cases e9
    · exact hx.elim
set_option maxHeartbeats 4000000 in
theorem s_X7_any_37 (c : cC) (a0 : Nat) (a1 : Nat) (b0 : Int32) (h : eH) (k n : Nat) (H : ∃ fs8 : List Value, h.1 a0 = some (.inr (7, fs8)) ∧ ∃ (d4 k5 n6 : Nat) (Q7 : eH → Prop), cV c.1 c.2.1 c.2.2.1 d4 mX7_next [.ref a0] h k5 n6 Q7 cX0 ∧ d4 + 1 ≤ c.2.2.2.1 ∧ k5 ≤ k ∧ n6 ≤ n ∧ (∀ h2 : eH, Q7 h2 → (∃ fs8 : List Value, h2.1 a0 = some (.inr (7, fs8)) ∧ ∃ (d11 k12 n13 : Nat) (Q14 : Nat → eH → Prop) (X28 : Nat → Nat → eH → Prop), cR c.1 c.2.1 c.2.2.1 d11 mX7_product [.ref a0] h2 k12 n13 Q14 X28 ∧ d11 + 1 ≤ c.2.2.2.1 ∧ k12 ≤ k - k5 ∧ n13 ≤ n - n6 ∧ (∀ (r8 : Nat) (h9 : eH), Q14 r8 h9 → (∃ x15 : Int32, fV h9 a0 7 9 (.int x15) ∧ ((x15 = 0 → ∃ fs8 : List Value, h9.1 a1 = some (.inr (9, fs8)) ∧ ∃ (d21 k22 n23 : Nat) (Q24 : Nat → eH → Prop) (X25 : Nat → Nat → eH → Prop), cR c.1 c.2.1 c.2.2.1 d21 mX9_plus [.ref a1, .ref r8, .int b0] h9 k22 n23 Q24 X25 ∧ d21 + 1 ≤ c.2.2.2.1 ∧ k22 ≤ k - k5 - k12 ∧ n23 ≤ n - n6 - n13 ∧ (∀ (r18 : Nat) (h19 : eH), Q24 r18 h19 → (h_X7_any_64 c a0 r18 h19 (k - k5 - k12 - k22) (n - n6 - n13 - n23))) ∧ (∀ (ci q : Nat) (h9 : eH), X25 ci q h9 → ci = 10) ∧ (∀ (q26 : Nat) (h27 : eH) (fs9 : List Value), X25 10 q26 h27 → h27.1 q26 = some (.inr (10, fs9)) → c.2.1 ≤ q26 → c.2.2.2.2 (.inr q26) h27)) ∧ (¬ x15 = 0 → h_X7_any_64 c a0 a1 h9 (k - k5 - k12) (n - n6 - n13))))) ∧ (∀ (ci q : Nat) (h9 : eH), X28 ci q h9 → ci = 8 ∨ ci = 10) ∧ (∀ (q29 : Nat) (h30 : eH) (fs9 : List Value), X28 8 q29 h30 → h30.1 q29 = some (.inr (8, fs9)) → c.2.1 ≤ q29 → c.2.2.2.2 (.inr q29) h30) ∧ (∀ (q31 : Nat) (h32 : eH) (fs9 : List Value), X28 10 q31 h32 → h32.1 q31 = some (.inr (10, fs9)) → c.2.1 ≤ q31 → c.2.2.2.2 (.inr q31) h32)))) : h_X7_any_37 c a0 a1 b0 h k n := by
  refine e_istore_n _ dX7_any_37 (by decide) rfl rfl ?_
  refine e_aload_n dX7_any_38 rfl ?_
  obtain ⟨fsg3, g3o, H⟩ := H
  obtain ⟨d4, k5, n6, Q7, g3, g3d, g3k, g3n, H⟩ := H
  refine e_callV (r := (RX7, TX7, 11)) (As := []) g3 dX7_any_39 wX7_next q1291 q1293 qs17 g3o rfl rfl g3d rfl (Nat.le_of_ble_eq_true rfl) (k1 := k - k5) (n1 := n - n6) (by omega) (by omega) ?_ ?_
  · rintro v h2 (⟨v9, e9, e8, hq⟩ | ⟨ci9, q9, e9, -⟩)
    · cases e9
      subst e8
      replace H := H h2 hq
      refine e_aload_n dX7_any_42 rfl ?_
      obtain ⟨fsg10, g10o, H⟩ := H
      obtain ⟨d11, k12, n13, Q14, X28, g10, g10d, g10k, g10n, H, Hx, Hx8, Hx10⟩ := H
      refine e_callV (r := (RX7, TX7, 11)) (As := []) g10 dX7_any_43 wX7_product q1758 q1760 qs35 g10o rfl rfl g10d rfl (Nat.le_of_ble_eq_true rfl) (k1 := k - k5 - k12) (n1 := n - n6 - n13) (by omega) (by omega) ?_ ?_
      · rintro v h9 (⟨v9, e9, r8, e8, hq⟩ | ⟨ci9, q9, e9, -⟩)
        · cases e9
          subst e8
          replace H := H r8 h9 hq
          refine e_astore_n _ dX7_any_46 (by decide) rfl rfl ?_
          refine e_aload_n dX7_any_47 rfl ?_
          obtain ⟨x15, ⟨fsx15, g16, g16v⟩, H⟩ := H
          refine e_get dX7_any_48 fX7_9 q1370 g16 g16v ?_
          refine e_if_eq 58 dX7_any_51 (by decide) (fun g17 => ?_) (fun g17 => ?_)
          · replace H := H.1 g17
            refine e_aload_n dX7_any_58 rfl ?_
            refine e_aload_n dX7_any_59 rfl ?_
            refine e_iload_n dX7_any_60 rfl ?_
            obtain ⟨fsg20, g20o, H⟩ := H
            obtain ⟨d21, k22, n23, Q24, X25, g20, g20d, g20k, g20n, H, Hx, Hx10⟩ := H
            refine e_callV (r := (RX9, TX9, 2)) (As := [.ref r8, .int b0]) g20 dX7_any_61 wX9_plus q1824 q1825 q1826 g20o rfl rfl g20d rfl (Nat.le_of_ble_eq_true rfl) (k1 := k - k5 - k12 - k22) (n1 := n - n6 - n13 - n23) (by omega) (by omega) ?_ ?_
            · rintro v h19 (⟨v9, e9, r18, e8, hq⟩ | ⟨ci9, q9, e9, -⟩)
              · cases e9
                subst e8
                replace H := H r18 h19 hq
                exact E.less2 H (eS_s (eS_n (eS_n (eS_n eS_0))))
              · cases e9
            · rintro q9 h9 (⟨v9, e9, -⟩ | ⟨ci9, q8, e9, gl, ⟨fs9, gq⟩, hx⟩)
              · cases e9
              · cases e9
                rcases Hx ci9 q9 h9 hx with rfl
                · have H := Hx10 q9 h9 fs9 hx gq gl
                  exact ex_out (r := (RX10, TX10, 6)) (fun z hz => absurd hz List.not_mem_nil) gq rfl gl H
          · replace H := H.2 g17
            refine e_aload_n dX7_any_54 rfl ?_
            refine e_goto 64 dX7_any_55 (by decide) ?_
            exact E.less2 H (eS_s (eS_n (eS_n (eS_n eS_0))))
        · cases e9
      · rintro q9 h9 (⟨v9, e9, -⟩ | ⟨ci9, q8, e9, gl, ⟨fs9, gq⟩, hx⟩)
        · cases e9
        · cases e9
          rcases Hx ci9 q9 h9 hx with rfl | rfl
          · have H := Hx8 q9 h9 fs9 hx gq gl
            exact ex_out (r := (RX8, TX8, 8)) (fun z hz => absurd hz List.not_mem_nil) gq rfl gl H
          · have H := Hx10 q9 h9 fs9 hx gq gl
            exact ex_out (r := (RX10, TX10, 6)) (fun z hz => absurd hz List.not_mem_nil) gq rfl gl H
    · cases e9
  · rintro q9 h9 (⟨v9, e9, -⟩ | ⟨ci9, q8, e9, -, -, hx⟩)
    · cases e9
    · exact hx.elim
set_option maxHeartbeats 4000000 in
theorem s_X7_any_64 (c : cC) (a0 : Nat) (b0 : Nat) (h : eH) (k n : Nat) (H : h_X7_any_5 c a0 b0 h k n) : h_X7_any_64 c a0 b0 h k n := by
  refine e_astore_n _ dX7_any_64 (by decide) rfl rfl ?_
  refine e_goto 5 dX7_any_65 (by decide) ?_
  exact E.less2 H (eS_s (eS_s (eS_n (eS_n eS_0))))
theorem en_X7_any {l : Launch} {lo : Nat} {G : eG} {d : Nat} {P : eO → eH → Prop} (a0 : Nat) {h : eH} {k n : Nat} (H : h_X7_any_0 (l, lo, G, d, P) a0 h k n) : Ct l lo G d mX7_any [.ref a0] h k n P := 
  Ct_of (eArL mX7_any.2.2.2.1 [.ref a0]) (by decide) rfl (Nat.le_of_ble_eq_true rfl) (fun j w q => eArL_mem j w q) (E.less2 H (eS_s (eS_n (eS_n (eS_n eS_0)))))
/-! X7_product TroupeSums$Reader.product()LTroupeSums$Sum; -/
def h_X7_product_0 (c : cC) (a0 : Nat) (h : eH) (k n : Nat) : Prop := E c.1 c.2.1 c.2.2.1 c.2.2.2.1 mX7_product c.2.2.2.2 0 [some (.ref a0), none, none] [] h k n
def h_X7_product_5 (c : cC) (a0 : Nat) (a1 : Nat) (h : eH) (k n : Nat) : Prop := E c.1 c.2.1 c.2.2.1 c.2.2.2.1 mX7_product c.2.2.2.2 5 [some (.ref a0), some (.ref a1), none] [] h k n
def h_X7_product_39 (c : cC) (a0 : Nat) (b0 : Nat) (h : eH) (k n : Nat) : Prop := E c.1 c.2.1 c.2.2.1 c.2.2.2.1 mX7_product c.2.2.2.2 39 [some (.ref a0), none, none] [.ref b0] h k n
set_option maxHeartbeats 4000000 in
theorem s_X7_product_0 (c : cC) (a0 : Nat) (h : eH) (k n : Nat) (H : ∃ fs8 : List Value, h.1 a0 = some (.inr (7, fs8)) ∧ ∃ (d4 k5 n6 : Nat) (Q7 : Nat → eH → Prop) (X8 : Nat → Nat → eH → Prop), cR c.1 c.2.1 c.2.2.1 d4 mX7_factor [.ref a0] h k5 n6 Q7 X8 ∧ d4 + 1 ≤ c.2.2.2.1 ∧ k5 ≤ k ∧ n6 ≤ n ∧ (∀ (r1 : Nat) (h2 : eH), Q7 r1 h2 → (h_X7_product_5 c a0 r1 h2 (k - k5) (n - n6))) ∧ (∀ (ci q : Nat) (h9 : eH), X8 ci q h9 → ci = 8 ∨ ci = 10) ∧ (∀ (q9 : Nat) (h10 : eH) (fs9 : List Value), X8 8 q9 h10 → h10.1 q9 = some (.inr (8, fs9)) → c.2.1 ≤ q9 → c.2.2.2.2 (.inr q9) h10) ∧ (∀ (q11 : Nat) (h12 : eH) (fs9 : List Value), X8 10 q11 h12 → h12.1 q11 = some (.inr (10, fs9)) → c.2.1 ≤ q11 → c.2.2.2.2 (.inr q11) h12)) : h_X7_product_0 c a0 h k n := by
  refine e_aload_n dX7_product_0 rfl ?_
  obtain ⟨fsg3, g3o, H⟩ := H
  obtain ⟨d4, k5, n6, Q7, X8, g3, g3d, g3k, g3n, H, Hx, Hx8, Hx10⟩ := H
  refine e_callV (r := (RX7, TX7, 11)) (As := []) g3 dX7_product_1 wX7_factor q1762 q1764 qs36 g3o rfl rfl g3d rfl (Nat.le_of_ble_eq_true rfl) (k1 := k - k5) (n1 := n - n6) (by omega) (by omega) ?_ ?_
  · rintro v h2 (⟨v9, e9, r1, e8, hq⟩ | ⟨ci9, q9, e9, -⟩)
    · cases e9
      subst e8
      replace H := H r1 h2 hq
      refine e_astore_n _ dX7_product_4 (by decide) rfl rfl ?_
      exact E.less2 H (eS_s (eS_s (eS_n eS_0)))
    · cases e9
  · rintro q9 h9 (⟨v9, e9, -⟩ | ⟨ci9, q8, e9, gl, ⟨fs9, gq⟩, hx⟩)
    · cases e9
    · cases e9
      rcases Hx ci9 q9 h9 hx with rfl | rfl
      · have H := Hx8 q9 h9 fs9 hx gq gl
        exact ex_out (r := (RX8, TX8, 8)) (fun z hz => absurd hz List.not_mem_nil) gq rfl gl H
      · have H := Hx10 q9 h9 fs9 hx gq gl
        exact ex_out (r := (RX10, TX10, 6)) (fun z hz => absurd hz List.not_mem_nil) gq rfl gl H
set_option maxHeartbeats 4000000 in
theorem s_X7_product_5 (c : cC) (a0 : Nat) (a1 : Nat) (h : eH) (k n : Nat) (H : ∃ fs8 : List Value, h.1 a0 = some (.inr (7, fs8)) ∧ ∃ (d4 k5 n6 : Nat) (Q7 : Int32 → eH → Prop), cI c.1 c.2.1 c.2.2.1 d4 mX7_isSign [.ref a0, .int (42 : Int32)] h k5 n6 Q7 cX0 ∧ d4 + 1 ≤ c.2.2.2.1 ∧ k5 ≤ k ∧ n6 ≤ n ∧ (∀ (r1 : Int32) (h2 : eH), Q7 r1 h2 → ((r1 = 0 → c.2.2.2.2 (.inl (some (.ref a1))) h2) ∧ (¬ r1 = 0 → ∃ fs8 : List Value, h2.1 a0 = some (.inr (7, fs8)) ∧ ∃ (d12 k13 n14 : Nat) (Q15 : eH → Prop), cV c.1 c.2.1 c.2.2.1 d12 mX7_next [.ref a0] h2 k13 n14 Q15 cX0 ∧ d12 + 1 ≤ c.2.2.2.1 ∧ k13 ≤ k - k5 ∧ n14 ≤ n - n6 ∧ (∀ h10 : eH, Q15 h10 → (∃ fs8 : List Value, h10.1 a0 = some (.inr (7, fs8)) ∧ ∃ (d19 k20 n21 : Nat) (Q22 : Nat → eH → Prop) (X36 : Nat → Nat → eH → Prop), cR c.1 c.2.1 c.2.2.1 d19 mX7_factor [.ref a0] h10 k20 n21 Q22 X36 ∧ d19 + 1 ≤ c.2.2.2.1 ∧ k20 ≤ k - k5 - k13 ∧ n21 ≤ n - n6 - n14 ∧ (∀ (r16 : Nat) (h17 : eH), Q22 r16 h17 → (∃ x23 : Int32, fV h17 a0 7 9 (.int x23) ∧ ((x23 = 0 → ∃ fs8 : List Value, h17.1 a1 = some (.inr (9, fs8)) ∧ ∃ (d29 k30 n31 : Nat) (Q32 : Nat → eH → Prop) (X33 : Nat → Nat → eH → Prop), cR c.1 c.2.1 c.2.2.1 d29 mX9_times [.ref a1, .ref r16] h17 k30 n31 Q32 X33 ∧ d29 + 1 ≤ c.2.2.2.1 ∧ k30 ≤ k - k5 - k13 - k20 ∧ n31 ≤ n - n6 - n14 - n21 ∧ (∀ (r26 : Nat) (h27 : eH), Q32 r26 h27 → (h_X7_product_39 c a0 r26 h27 (k - k5 - k13 - k20 - k30) (n - n6 - n14 - n21 - n31))) ∧ (∀ (ci q : Nat) (h9 : eH), X33 ci q h9 → ci = 10) ∧ (∀ (q34 : Nat) (h35 : eH) (fs9 : List Value), X33 10 q34 h35 → h35.1 q34 = some (.inr (10, fs9)) → c.2.1 ≤ q34 → c.2.2.2.2 (.inr q34) h35)) ∧ (¬ x23 = 0 → h_X7_product_39 c a0 a1 h17 (k - k5 - k13 - k20) (n - n6 - n14 - n21))))) ∧ (∀ (ci q : Nat) (h9 : eH), X36 ci q h9 → ci = 8 ∨ ci = 10) ∧ (∀ (q37 : Nat) (h38 : eH) (fs9 : List Value), X36 8 q37 h38 → h38.1 q37 = some (.inr (8, fs9)) → c.2.1 ≤ q37 → c.2.2.2.2 (.inr q37) h38) ∧ (∀ (q39 : Nat) (h40 : eH) (fs9 : List Value), X36 10 q39 h40 → h40.1 q39 = some (.inr (10, fs9)) → c.2.1 ≤ q39 → c.2.2.2.2 (.inr q39) h40))))))) : h_X7_product_5 c a0 a1 h k n := by
  refine e_aload_n dX7_product_5 rfl ?_
  refine e_bipush (42) dX7_product_6 (by decide) ?_
  obtain ⟨fsg3, g3o, H⟩ := H
  obtain ⟨d4, k5, n6, Q7, g3, g3d, g3k, g3n, H⟩ := H
  refine e_callV (r := (RX7, TX7, 11)) (As := [.int (42 : Int32)]) g3 dX7_product_8 wX7_isSign q1653 q1655 qs27 g3o rfl rfl g3d rfl (Nat.le_of_ble_eq_true rfl) (k1 := k - k5) (n1 := n - n6) (by omega) (by omega) ?_ ?_
  · rintro v h2 (⟨v9, e9, r1, e8, hq⟩ | ⟨ci9, q9, e9, -⟩)
    · cases e9
      subst e8
      replace H := H r1 h2 hq
      refine e_if_eq 43 dX7_product_11 (by decide) (fun g8 => ?_) (fun g8 => ?_)
      · replace H := H.1 g8
        refine e_aload_n dX7_product_43 rfl ?_
        exact e_areturn (r := some a1) _ dX7_product_44 rfl (Or.inl ⟨_, rfl⟩) H
      · replace H := H.2 g8
        refine e_aload_n dX7_product_14 rfl ?_
        obtain ⟨fsg11, g11o, H⟩ := H
        obtain ⟨d12, k13, n14, Q15, g11, g11d, g11k, g11n, H⟩ := H
        refine e_callV (r := (RX7, TX7, 11)) (As := []) g11 dX7_product_15 wX7_next q1291 q1293 qs17 g11o rfl rfl g11d rfl (Nat.le_of_ble_eq_true rfl) (k1 := k - k5 - k13) (n1 := n - n6 - n14) (by omega) (by omega) ?_ ?_
        · rintro v h10 (⟨v9, e9, e8, hq⟩ | ⟨ci9, q9, e9, -⟩)
          · cases e9
            subst e8
            replace H := H h10 hq
            refine e_aload_n dX7_product_18 rfl ?_
            obtain ⟨fsg18, g18o, H⟩ := H
            obtain ⟨d19, k20, n21, Q22, X36, g18, g18d, g18k, g18n, H, Hx, Hx8, Hx10⟩ := H
            refine e_callV (r := (RX7, TX7, 11)) (As := []) g18 dX7_product_19 wX7_factor q1762 q1764 qs36 g18o rfl rfl g18d rfl (Nat.le_of_ble_eq_true rfl) (k1 := k - k5 - k13 - k20) (n1 := n - n6 - n14 - n21) (by omega) (by omega) ?_ ?_
            · rintro v h17 (⟨v9, e9, r16, e8, hq⟩ | ⟨ci9, q9, e9, -⟩)
              · cases e9
                subst e8
                replace H := H r16 h17 hq
                refine e_astore_n _ dX7_product_22 (by decide) rfl rfl ?_
                refine e_aload_n dX7_product_23 rfl ?_
                obtain ⟨x23, ⟨fsx23, g24, g24v⟩, H⟩ := H
                refine e_get dX7_product_24 fX7_9 q1370 g24 g24v ?_
                refine e_if_eq 34 dX7_product_27 (by decide) (fun g25 => ?_) (fun g25 => ?_)
                · replace H := H.1 g25
                  refine e_aload_n dX7_product_34 rfl ?_
                  refine e_aload_n dX7_product_35 rfl ?_
                  obtain ⟨fsg28, g28o, H⟩ := H
                  obtain ⟨d29, k30, n31, Q32, X33, g28, g28d, g28k, g28n, H, Hx, Hx10⟩ := H
                  refine e_callV (r := (RX9, TX9, 2)) (As := [.ref r16]) g28 dX7_product_36 wX9_times q1863 q1853 q1854 g28o rfl rfl g28d rfl (Nat.le_of_ble_eq_true rfl) (k1 := k - k5 - k13 - k20 - k30) (n1 := n - n6 - n14 - n21 - n31) (by omega) (by omega) ?_ ?_
                  · rintro v h27 (⟨v9, e9, r26, e8, hq⟩ | ⟨ci9, q9, e9, -⟩)
                    · cases e9
                      subst e8
                      replace H := H r26 h27 hq
                      exact E.less2 H (eS_s (eS_n (eS_n eS_0)))
                    · cases e9
                  · rintro q9 h9 (⟨v9, e9, -⟩ | ⟨ci9, q8, e9, gl, ⟨fs9, gq⟩, hx⟩)
                    · cases e9
                    · cases e9
                      rcases Hx ci9 q9 h9 hx with rfl
                      · have H := Hx10 q9 h9 fs9 hx gq gl
                        exact ex_out (r := (RX10, TX10, 6)) (fun z hz => absurd hz List.not_mem_nil) gq rfl gl H
                · replace H := H.2 g25
                  refine e_aload_n dX7_product_30 rfl ?_
                  refine e_goto 39 dX7_product_31 (by decide) ?_
                  exact E.less2 H (eS_s (eS_n (eS_n eS_0)))
              · cases e9
            · rintro q9 h9 (⟨v9, e9, -⟩ | ⟨ci9, q8, e9, gl, ⟨fs9, gq⟩, hx⟩)
              · cases e9
              · cases e9
                rcases Hx ci9 q9 h9 hx with rfl | rfl
                · have H := Hx8 q9 h9 fs9 hx gq gl
                  exact ex_out (r := (RX8, TX8, 8)) (fun z hz => absurd hz List.not_mem_nil) gq rfl gl H
                · have H := Hx10 q9 h9 fs9 hx gq gl
                  exact ex_out (r := (RX10, TX10, 6)) (fun z hz => absurd hz List.not_mem_nil) gq rfl gl H
          · cases e9
        · rintro q9 h9 (⟨v9, e9, -⟩ | ⟨ci9, q8, e9, -, -, hx⟩)
          · cases e9
          · exact hx.elim
    · cases e9
  · rintro q9 h9 (⟨v9, e9, -⟩ | ⟨ci9, q8, e9, -, -, hx⟩)
    · cases e9
    · exact hx.elim
set_option maxHeartbeats 4000000 in
theorem s_X7_product_39 (c : cC) (a0 : Nat) (b0 : Nat) (h : eH) (k n : Nat) (H : h_X7_product_5 c a0 b0 h k n) : h_X7_product_39 c a0 b0 h k n := by
  refine e_astore_n _ dX7_product_39 (by decide) rfl rfl ?_
  refine e_goto 5 dX7_product_40 (by decide) ?_
  exact E.less2 H (eS_s (eS_s (eS_n eS_0)))
theorem en_X7_product {l : Launch} {lo : Nat} {G : eG} {d : Nat} {P : eO → eH → Prop} (a0 : Nat) {h : eH} {k n : Nat} (H : h_X7_product_0 (l, lo, G, d, P) a0 h k n) : Ct l lo G d mX7_product [.ref a0] h k n P := 
  Ct_of (eArL mX7_product.2.2.2.1 [.ref a0]) (by decide) rfl (Nat.le_of_ble_eq_true rfl) (fun j w q => eArL_mem j w q) (E.less2 H (eS_s (eS_n (eS_n eS_0))))
/-! X7_factor TroupeSums$Reader.factor()LTroupeSums$Sum; -/
def h_X7_factor_0 (c : cC) (a0 : Nat) (h : eH) (k n : Nat) : Prop := E c.1 c.2.1 c.2.2.1 c.2.2.2.1 mX7_factor c.2.2.2.2 0 [some (.ref a0), none, none] [] h k n
set_option maxHeartbeats 4000000 in
theorem s_X7_factor_0 (c : cC) (a0 : Nat) (h : eH) (k n : Nat) (H : ∃ fs8 : List Value, h.1 a0 = some (.inr (7, fs8)) ∧ ∃ (d4 k5 n6 : Nat) (Q7 : eH → Prop) (X125 : Nat → Nat → eH → Prop), cV c.1 c.2.1 c.2.2.1 d4 mX7_unit [.ref a0] h k5 n6 Q7 X125 ∧ d4 + 1 ≤ c.2.2.2.1 ∧ k5 ≤ k ∧ n6 ≤ n ∧ (∀ h2 : eH, Q7 h2 → (∃ fs8 : List Value, h2.1 a0 = some (.inr (7, fs8)) ∧ ∃ (d11 k12 n13 : Nat) (Q14 : Int32 → eH → Prop), cI c.1 c.2.1 c.2.2.1 d11 mX7_isSign [.ref a0, .int (45 : Int32)] h2 k12 n13 Q14 cX0 ∧ d11 + 1 ≤ c.2.2.2.1 ∧ k12 ≤ k - k5 ∧ n13 ≤ n - n6 ∧ (∀ (r8 : Int32) (h9 : eH), Q14 r8 h9 → ((r8 = 0 → ∃ fs8 : List Value, h9.1 a0 = some (.inr (7, fs8)) ∧ ∃ (d19 k20 n21 : Nat) (Q22 : Nat → eH → Prop) (X68 : Nat → Nat → eH → Prop), cR c.1 c.2.1 c.2.2.1 d19 mX7_thing [.ref a0] h9 k20 n21 Q22 X68 ∧ d19 + 1 ≤ c.2.2.2.1 ∧ k20 ≤ k - k5 - k12 ∧ n21 ≤ n - n6 - n13 ∧ (∀ (r16 : Nat) (h17 : eH), Q22 r16 h17 → (∃ fs8 : List Value, h17.1 a0 = some (.inr (7, fs8)) ∧ ∃ (d26 k27 n28 : Nat) (Q29 : Int32 → eH → Prop), cI c.1 c.2.1 c.2.2.1 d26 mX7_isSign [.ref a0, .int (94 : Int32)] h17 k27 n28 Q29 cX0 ∧ d26 + 1 ≤ c.2.2.2.1 ∧ k27 ≤ k - k5 - k12 - k20 ∧ n28 ≤ n - n6 - n13 - n21 ∧ (∀ (r23 : Int32) (h24 : eH), Q29 r23 h24 → ((¬ r23 = 0 → ∃ fs8 : List Value, h24.1 a0 = some (.inr (7, fs8)) ∧ ∃ (d34 k35 n36 : Nat) (Q37 : eH → Prop), cV c.1 c.2.1 c.2.2.1 d34 mX7_next [.ref a0] h24 k35 n36 Q37 cX0 ∧ d34 + 1 ≤ c.2.2.2.1 ∧ k35 ≤ k - k5 - k12 - k20 - k27 ∧ n36 ≤ n - n6 - n13 - n21 - n28 ∧ (∀ h32 : eH, Q37 h32 → (∃ fs8 : List Value, h32.1 a0 = some (.inr (7, fs8)) ∧ ∃ (d41 k42 n43 : Nat) (Q44 : Int32 → eH → Prop) (X65 : Nat → Nat → eH → Prop), cI c.1 c.2.1 c.2.2.1 d41 mX7_number [.ref a0, .int (9 : Int32)] h32 k42 n43 Q44 X65 ∧ d41 + 1 ≤ c.2.2.2.1 ∧ k42 ≤ k - k5 - k12 - k20 - k27 - k35 ∧ n43 ≤ n - n6 - n13 - n21 - n28 - n36 ∧ (∀ (r38 : Int32) (h39 : eH), Q44 r38 h39 → (∃ fs8 : List Value, h39.1 a0 = some (.inr (7, fs8)) ∧ ∃ (d48 k49 n50 : Nat) (Q51 : eH → Prop), cV c.1 c.2.1 c.2.2.1 d48 mX7_next [.ref a0] h39 k49 n50 Q51 cX0 ∧ d48 + 1 ≤ c.2.2.2.1 ∧ k49 ≤ k - k5 - k12 - k20 - k27 - k35 - k42 ∧ n50 ≤ n - n6 - n13 - n21 - n28 - n36 - n43 ∧ (∀ h46 : eH, Q51 h46 → (∃ x52 : Int32, fV h46 a0 7 9 (.int x52) ∧ ((x52 = 0 → ∃ fs8 : List Value, h46.1 r16 = some (.inr (9, fs8)) ∧ ∃ (d58 k59 n60 : Nat) (Q61 : Nat → eH → Prop) (X62 : Nat → Nat → eH → Prop), cR c.1 c.2.1 c.2.2.1 d58 mX9_power [.ref r16, .int r38] h46 k59 n60 Q61 X62 ∧ d58 + 1 ≤ c.2.2.2.1 ∧ k59 ≤ k - k5 - k12 - k20 - k27 - k35 - k42 - k49 ∧ n60 ≤ n - n6 - n13 - n21 - n28 - n36 - n43 - n50 ∧ (∀ (r55 : Nat) (h56 : eH), Q61 r55 h56 → (c.2.2.2.2 (.inl (some (.ref r55))) h56)) ∧ (∀ (ci q : Nat) (h9 : eH), X62 ci q h9 → ci = 10) ∧ (∀ (q63 : Nat) (h64 : eH) (fs9 : List Value), X62 10 q63 h64 → h64.1 q63 = some (.inr (10, fs9)) → c.2.1 ≤ q63 → c.2.2.2.2 (.inr q63) h64)) ∧ (¬ x52 = 0 → c.2.2.2.2 (.inl (some (.ref r16))) h46)))))) ∧ (∀ (ci q : Nat) (h9 : eH), X65 ci q h9 → ci = 8) ∧ (∀ (q66 : Nat) (h67 : eH) (fs9 : List Value), X65 8 q66 h67 → h67.1 q66 = some (.inr (8, fs9)) → c.2.1 ≤ q66 → c.2.2.2.2 (.inr q66) h67)))) ∧ (r23 = 0 → c.2.2.2.2 (.inl (some (.ref r16))) h24))))) ∧ (∀ (ci q : Nat) (h9 : eH), X68 ci q h9 → ci = 8 ∨ ci = 10) ∧ (∀ (q69 : Nat) (h70 : eH) (fs9 : List Value), X68 8 q69 h70 → h70.1 q69 = some (.inr (8, fs9)) → c.2.1 ≤ q69 → c.2.2.2.2 (.inr q69) h70) ∧ (∀ (q71 : Nat) (h72 : eH) (fs9 : List Value), X68 10 q71 h72 → h72.1 q71 = some (.inr (10, fs9)) → c.2.1 ≤ q71 → c.2.2.2.2 (.inr q71) h72)) ∧ (¬ r8 = 0 → ∃ fs8 : List Value, h9.1 a0 = some (.inr (7, fs8)) ∧ ∃ (d76 k77 n78 : Nat) (Q79 : eH → Prop), cV c.1 c.2.1 c.2.2.1 d76 mX7_next [.ref a0] h9 k77 n78 Q79 cX0 ∧ d76 + 1 ≤ c.2.2.2.1 ∧ k77 ≤ k - k5 - k12 ∧ n78 ≤ n - n6 - n13 ∧ (∀ h74 : eH, Q79 h74 → (∃ x80 : Int32, fV h74 a0 7 6 (.int x80) ∧ (∃ fs82 : List Value, h74.1 a0 = some (.inr (7, fs82)) ∧ c.2.1 ≤ a0 ∧ 6 < fs82.length ∧ ∀ h84 : eH, h84 = eUp h74 a0 (.inr (7, fs82.set 6 (.int (x80 + (1 : Int32))))) → (∃ fs8 : List Value, h84.1 a0 = some (.inr (7, fs8)) ∧ ∃ (d88 k89 n90 : Nat) (Q91 : Nat → eH → Prop) (X120 : Nat → Nat → eH → Prop), cR c.1 c.2.1 c.2.2.1 d88 mX7_factor [.ref a0] h84 k89 n90 Q91 X120 ∧ d88 + 1 ≤ c.2.2.2.1 ∧ k89 ≤ k - k5 - k12 - k77 ∧ n90 ≤ n - n6 - n13 - n78 ∧ (∀ (r85 : Nat) (h86 : eH), Q91 r85 h86 → (∃ x92 : Int32, fV h86 a0 7 6 (.int x92) ∧ (∃ fs94 : List Value, h86.1 a0 = some (.inr (7, fs94)) ∧ c.2.1 ≤ a0 ∧ 6 < fs94.length ∧ ∀ h96 : eH, h96 = eUp h86 a0 (.inr (7, fs94.set 6 (.int (x92 - (1 : Int32))))) → (∃ x97 : Int32, fV h96 a0 7 9 (.int x97) ∧ ((x97 = 0 → ∃ fs8 : List Value, h96.1 a0 = some (.inr (7, fs8)) ∧ ∃ (d103 k104 n105 : Nat) (Q106 : Nat → eH → Prop) (X117 : Nat → Nat → eH → Prop), cR c.1 c.2.1 c.2.2.1 d103 mX7_none [.ref a0] h96 k104 n105 Q106 X117 ∧ d103 + 1 ≤ c.2.2.2.1 ∧ k104 ≤ k - k5 - k12 - k77 - k89 ∧ n105 ≤ n - n6 - n13 - n78 - n90 ∧ (∀ (r100 : Nat) (h101 : eH), Q106 r100 h101 → (∃ fs8 : List Value, h101.1 r100 = some (.inr (9, fs8)) ∧ ∃ (d110 k111 n112 : Nat) (Q113 : Nat → eH → Prop) (X114 : Nat → Nat → eH → Prop), cR c.1 c.2.1 c.2.2.1 d110 mX9_plus [.ref r100, .ref r85, .int (-1 : Int32)] h101 k111 n112 Q113 X114 ∧ d110 + 1 ≤ c.2.2.2.1 ∧ k111 ≤ k - k5 - k12 - k77 - k89 - k104 ∧ n112 ≤ n - n6 - n13 - n78 - n90 - n105 ∧ (∀ (r107 : Nat) (h108 : eH), Q113 r107 h108 → (c.2.2.2.2 (.inl (some (.ref r107))) h108)) ∧ (∀ (ci q : Nat) (h9 : eH), X114 ci q h9 → ci = 10) ∧ (∀ (q115 : Nat) (h116 : eH) (fs9 : List Value), X114 10 q115 h116 → h116.1 q115 = some (.inr (10, fs9)) → c.2.1 ≤ q115 → c.2.2.2.2 (.inr q115) h116))) ∧ (∀ (ci q : Nat) (h9 : eH), X117 ci q h9 → ci = 10) ∧ (∀ (q118 : Nat) (h119 : eH) (fs9 : List Value), X117 10 q118 h119 → h119.1 q118 = some (.inr (10, fs9)) → c.2.1 ≤ q118 → c.2.2.2.2 (.inr q118) h119)) ∧ (¬ x97 = 0 → c.2.2.2.2 (.inl (some (.ref r85))) h96)))))) ∧ (∀ (ci q : Nat) (h9 : eH), X120 ci q h9 → ci = 8 ∨ ci = 10) ∧ (∀ (q121 : Nat) (h122 : eH) (fs9 : List Value), X120 8 q121 h122 → h122.1 q121 = some (.inr (8, fs9)) → c.2.1 ≤ q121 → c.2.2.2.2 (.inr q121) h122) ∧ (∀ (q123 : Nat) (h124 : eH) (fs9 : List Value), X120 10 q123 h124 → h124.1 q123 = some (.inr (10, fs9)) → c.2.1 ≤ q123 → c.2.2.2.2 (.inr q123) h124)))))))))) ∧ (∀ (ci q : Nat) (h9 : eH), X125 ci q h9 → ci = 8) ∧ (∀ (q126 : Nat) (h127 : eH) (fs9 : List Value), X125 8 q126 h127 → h127.1 q126 = some (.inr (8, fs9)) → c.2.1 ≤ q126 → c.2.2.2.2 (.inr q126) h127)) : h_X7_factor_0 c a0 h k n := by
  refine e_aload_n dX7_factor_0 rfl ?_
  obtain ⟨fsg3, g3o, H⟩ := H
  obtain ⟨d4, k5, n6, Q7, X125, g3, g3d, g3k, g3n, H, Hx, Hx8⟩ := H
  refine e_callV (r := (RX7, TX7, 11)) (As := []) g3 dX7_factor_1 wX7_unit q1766 q1768 qs37 g3o rfl rfl g3d rfl (Nat.le_of_ble_eq_true rfl) (k1 := k - k5) (n1 := n - n6) (by omega) (by omega) ?_ ?_
  · rintro v h2 (⟨v9, e9, e8, hq⟩ | ⟨ci9, q9, e9, -⟩)
    · cases e9
      subst e8
      replace H := H h2 hq
      refine e_aload_n dX7_factor_4 rfl ?_
      refine e_bipush (45) dX7_factor_5 (by decide) ?_
      obtain ⟨fsg10, g10o, H⟩ := H
      obtain ⟨d11, k12, n13, Q14, g10, g10d, g10k, g10n, H⟩ := H
      refine e_callV (r := (RX7, TX7, 11)) (As := [.int (45 : Int32)]) g10 dX7_factor_7 wX7_isSign q1653 q1655 qs27 g10o rfl rfl g10d rfl (Nat.le_of_ble_eq_true rfl) (k1 := k - k5 - k12) (n1 := n - n6 - n13) (by omega) (by omega) ?_ ?_
      · rintro v h9 (⟨v9, e9, r8, e8, hq⟩ | ⟨ci9, q9, e9, -⟩)
        · cases e9
          subst e8
          replace H := H r8 h9 hq
          refine e_if_eq 63 dX7_factor_10 (by decide) (fun g15 => ?_) (fun g15 => ?_)
          · replace H := H.1 g15
            refine e_aload_n dX7_factor_63 rfl ?_
            obtain ⟨fsg18, g18o, H⟩ := H
            obtain ⟨d19, k20, n21, Q22, X68, g18, g18d, g18k, g18n, H, Hx, Hx8, Hx10⟩ := H
            refine e_callV (r := (RX7, TX7, 11)) (As := []) g18 dX7_factor_64 wX7_thing q1833 q1835 qs39 g18o rfl rfl g18d rfl (Nat.le_of_ble_eq_true rfl) (k1 := k - k5 - k12 - k20) (n1 := n - n6 - n13 - n21) (by omega) (by omega) ?_ ?_
            · rintro v h17 (⟨v9, e9, r16, e8, hq⟩ | ⟨ci9, q9, e9, -⟩)
              · cases e9
                subst e8
                replace H := H r16 h17 hq
                refine e_astore_n _ dX7_factor_67 (by decide) rfl rfl ?_
                refine e_aload_n dX7_factor_68 rfl ?_
                refine e_bipush (94) dX7_factor_69 (by decide) ?_
                obtain ⟨fsg25, g25o, H⟩ := H
                obtain ⟨d26, k27, n28, Q29, g25, g25d, g25k, g25n, H⟩ := H
                refine e_callV (r := (RX7, TX7, 11)) (As := [.int (94 : Int32)]) g25 dX7_factor_71 wX7_isSign q1653 q1655 qs27 g25o rfl rfl g25d rfl (Nat.le_of_ble_eq_true rfl) (k1 := k - k5 - k12 - k20 - k27) (n1 := n - n6 - n13 - n21 - n28) (by omega) (by omega) ?_ ?_
                · rintro v h24 (⟨v9, e9, r23, e8, hq⟩ | ⟨ci9, q9, e9, -⟩)
                  · cases e9
                    subst e8
                    replace H := H r23 h24 hq
                    refine e_if_ne 79 dX7_factor_74 (by decide) (fun g30 => ?_) (fun g30 => ?_)
                    · replace H := H.1 g30
                      refine e_aload_n dX7_factor_79 rfl ?_
                      obtain ⟨fsg33, g33o, H⟩ := H
                      obtain ⟨d34, k35, n36, Q37, g33, g33d, g33k, g33n, H⟩ := H
                      refine e_callV (r := (RX7, TX7, 11)) (As := []) g33 dX7_factor_80 wX7_next q1291 q1293 qs17 g33o rfl rfl g33d rfl (Nat.le_of_ble_eq_true rfl) (k1 := k - k5 - k12 - k20 - k27 - k35) (n1 := n - n6 - n13 - n21 - n28 - n36) (by omega) (by omega) ?_ ?_
                      · rintro v h32 (⟨v9, e9, e8, hq⟩ | ⟨ci9, q9, e9, -⟩)
                        · cases e9
                          subst e8
                          replace H := H h32 hq
                          refine e_aload_n dX7_factor_83 rfl ?_
                          refine e_bipush (9) dX7_factor_84 (by decide) ?_
                          obtain ⟨fsg40, g40o, H⟩ := H
                          obtain ⟨d41, k42, n43, Q44, X65, g40, g40d, g40k, g40n, H, Hx, Hx8⟩ := H
                          refine e_callV (r := (RX7, TX7, 11)) (As := [.int (9 : Int32)]) g40 dX7_factor_86 wX7_number q1641 q1643 qs25 g40o rfl rfl g40d rfl (Nat.le_of_ble_eq_true rfl) (k1 := k - k5 - k12 - k20 - k27 - k35 - k42) (n1 := n - n6 - n13 - n21 - n28 - n36 - n43) (by omega) (by omega) ?_ ?_
                          · rintro v h39 (⟨v9, e9, r38, e8, hq⟩ | ⟨ci9, q9, e9, -⟩)
                            · cases e9
                              subst e8
                              replace H := H r38 h39 hq
                              refine e_istore_n _ dX7_factor_89 (by decide) rfl rfl ?_
                              refine e_aload_n dX7_factor_90 rfl ?_
                              obtain ⟨fsg47, g47o, H⟩ := H
                              obtain ⟨d48, k49, n50, Q51, g47, g47d, g47k, g47n, H⟩ := H
                              refine e_callV (r := (RX7, TX7, 11)) (As := []) g47 dX7_factor_91 wX7_next q1291 q1293 qs17 g47o rfl rfl g47d rfl (Nat.le_of_ble_eq_true rfl) (k1 := k - k5 - k12 - k20 - k27 - k35 - k42 - k49) (n1 := n - n6 - n13 - n21 - n28 - n36 - n43 - n50) (by omega) (by omega) ?_ ?_
                              · rintro v h46 (⟨v9, e9, e8, hq⟩ | ⟨ci9, q9, e9, -⟩)
                                · cases e9
                                  subst e8
                                  replace H := H h46 hq
                                  refine e_aload_n dX7_factor_94 rfl ?_
                                  obtain ⟨x52, ⟨fsx52, g53, g53v⟩, H⟩ := H
                                  refine e_get dX7_factor_95 fX7_9 q1370 g53 g53v ?_
                                  refine e_if_eq 105 dX7_factor_98 (by decide) (fun g54 => ?_) (fun g54 => ?_)
                                  · replace H := H.1 g54
                                    refine e_aload_n dX7_factor_105 rfl ?_
                                    refine e_iload_n dX7_factor_106 rfl ?_
                                    obtain ⟨fsg57, g57o, H⟩ := H
                                    obtain ⟨d58, k59, n60, Q61, X62, g57, g57d, g57k, g57n, H, Hx, Hx10⟩ := H
                                    refine e_callV (r := (RX9, TX9, 2)) (As := [.int r38]) g57 dX7_factor_107 wX9_power q1847 q1848 q1849 g57o rfl rfl g57d rfl (Nat.le_of_ble_eq_true rfl) (k1 := k - k5 - k12 - k20 - k27 - k35 - k42 - k49 - k59) (n1 := n - n6 - n13 - n21 - n28 - n36 - n43 - n50 - n60) (by omega) (by omega) ?_ ?_
                                    · rintro v h56 (⟨v9, e9, r55, e8, hq⟩ | ⟨ci9, q9, e9, -⟩)
                                      · cases e9
                                        subst e8
                                        replace H := H r55 h56 hq
                                        exact e_areturn (r := some r55) _ dX7_factor_110 rfl (Or.inl ⟨_, rfl⟩) H
                                      · cases e9
                                    · rintro q9 h9 (⟨v9, e9, -⟩ | ⟨ci9, q8, e9, gl, ⟨fs9, gq⟩, hx⟩)
                                      · cases e9
                                      · cases e9
                                        rcases Hx ci9 q9 h9 hx with rfl
                                        · have H := Hx10 q9 h9 fs9 hx gq gl
                                          exact ex_out (r := (RX10, TX10, 6)) (fun z hz => absurd hz List.not_mem_nil) gq rfl gl H
                                  · replace H := H.2 g54
                                    refine e_aload_n dX7_factor_101 rfl ?_
                                    refine e_goto 110 dX7_factor_102 (by decide) ?_
                                    exact e_areturn (r := some r16) _ dX7_factor_110 rfl (Or.inl ⟨_, rfl⟩) H
                                · cases e9
                              · rintro q9 h9 (⟨v9, e9, -⟩ | ⟨ci9, q8, e9, -, -, hx⟩)
                                · cases e9
                                · exact hx.elim
                            · cases e9
                          · rintro q9 h9 (⟨v9, e9, -⟩ | ⟨ci9, q8, e9, gl, ⟨fs9, gq⟩, hx⟩)
                            · cases e9
                            · cases e9
                              rcases Hx ci9 q9 h9 hx with rfl
                              · have H := Hx8 q9 h9 fs9 hx gq gl
                                exact ex_out (r := (RX8, TX8, 8)) (fun z hz => absurd hz List.not_mem_nil) gq rfl gl H
                        · cases e9
                      · rintro q9 h9 (⟨v9, e9, -⟩ | ⟨ci9, q8, e9, -, -, hx⟩)
                        · cases e9
                        · exact hx.elim
                    · replace H := H.2 g30
                      refine e_aload_n dX7_factor_77 rfl ?_
                      exact e_areturn (r := some r16) _ dX7_factor_78 rfl (Or.inl ⟨_, rfl⟩) H
                  · cases e9
                · rintro q9 h9 (⟨v9, e9, -⟩ | ⟨ci9, q8, e9, -, -, hx⟩)
                  · cases e9
                  · exact hx.elim
              · cases e9
            · rintro q9 h9 (⟨v9, e9, -⟩ | ⟨ci9, q8, e9, gl, ⟨fs9, gq⟩, hx⟩)
              · cases e9
              · cases e9
                rcases Hx ci9 q9 h9 hx with rfl | rfl
                · have H := Hx8 q9 h9 fs9 hx gq gl
                  exact ex_out (r := (RX8, TX8, 8)) (fun z hz => absurd hz List.not_mem_nil) gq rfl gl H
                · have H := Hx10 q9 h9 fs9 hx gq gl
                  exact ex_out (r := (RX10, TX10, 6)) (fun z hz => absurd hz List.not_mem_nil) gq rfl gl H
          · replace H := H.2 g15
            refine e_aload_n dX7_factor_13 rfl ?_
            obtain ⟨fsg75, g75o, H⟩ := H
            obtain ⟨d76, k77, n78, Q79, g75, g75d, g75k, g75n, H⟩ := H
            refine e_callV (r := (RX7, TX7, 11)) (As := []) g75 dX7_factor_14 wX7_next q1291 q1293 qs17 g75o rfl rfl g75d rfl (Nat.le_of_ble_eq_true rfl) (k1 := k - k5 - k12 - k77) (n1 := n - n6 - n13 - n78) (by omega) (by omega) ?_ ?_
            · rintro v h74 (⟨v9, e9, e8, hq⟩ | ⟨ci9, q9, e9, -⟩)
              · cases e9
                subst e8
                replace H := H h74 hq
                refine e_aload_n dX7_factor_17 rfl ?_
                refine e_dup dX7_factor_18 rfl ?_
                obtain ⟨x80, ⟨fsx80, g81, g81v⟩, H⟩ := H
                refine e_get dX7_factor_19 fX7_6 q1367 g81 g81v ?_
                refine e_iconst (1) dX7_factor_22 (by decide) ?_
                refine e_iadd dX7_factor_23 ?_
                obtain ⟨fs82, g83, g83l, g83j, H⟩ := H
                refine e_put dX7_factor_24 fX7_6 q1367 (eFit_i _) g83 g83l g83j ?_
                replace H := H _ rfl
                generalize eUp h74 a0 _ = h84 at H ⊢
                refine e_aload_n dX7_factor_27 rfl ?_
                obtain ⟨fsg87, g87o, H⟩ := H
                obtain ⟨d88, k89, n90, Q91, X120, g87, g87d, g87k, g87n, H, Hx, Hx8, Hx10⟩ := H
                refine e_callV (r := (RX7, TX7, 11)) (As := []) g87 dX7_factor_28 wX7_factor q1762 q1764 qs36 g87o rfl rfl g87d rfl (Nat.le_of_ble_eq_true rfl) (k1 := k - k5 - k12 - k77 - k89) (n1 := n - n6 - n13 - n78 - n90) (by omega) (by omega) ?_ ?_
                · rintro v h86 (⟨v9, e9, r85, e8, hq⟩ | ⟨ci9, q9, e9, -⟩)
                  · cases e9
                    subst e8
                    replace H := H r85 h86 hq
                    refine e_astore_n _ dX7_factor_31 (by decide) rfl rfl ?_
                    refine e_aload_n dX7_factor_32 rfl ?_
                    refine e_dup dX7_factor_33 rfl ?_
                    obtain ⟨x92, ⟨fsx92, g93, g93v⟩, H⟩ := H
                    refine e_get dX7_factor_34 fX7_6 q1367 g93 g93v ?_
                    refine e_iconst (1) dX7_factor_37 (by decide) ?_
                    refine e_isub dX7_factor_38 ?_
                    obtain ⟨fs94, g95, g95l, g95j, H⟩ := H
                    refine e_put dX7_factor_39 fX7_6 q1367 (eFit_i _) g95 g95l g95j ?_
                    replace H := H _ rfl
                    generalize eUp h86 a0 _ = h96 at H ⊢
                    refine e_aload_n dX7_factor_42 rfl ?_
                    obtain ⟨x97, ⟨fsx97, g98, g98v⟩, H⟩ := H
                    refine e_get dX7_factor_43 fX7_9 q1370 g98 g98v ?_
                    refine e_if_eq 53 dX7_factor_46 (by decide) (fun g99 => ?_) (fun g99 => ?_)
                    · replace H := H.1 g99
                      refine e_aload_n dX7_factor_53 rfl ?_
                      obtain ⟨fsg102, g102o, H⟩ := H
                      obtain ⟨d103, k104, n105, Q106, X117, g102, g102d, g102k, g102n, H, Hx, Hx10⟩ := H
                      refine e_callV (r := (RX7, TX7, 11)) (As := []) g102 dX7_factor_54 wX7_none q1770 q1772 qs38 g102o rfl rfl g102d rfl (Nat.le_of_ble_eq_true rfl) (k1 := k - k5 - k12 - k77 - k89 - k104) (n1 := n - n6 - n13 - n78 - n90 - n105) (by omega) (by omega) ?_ ?_
                      · rintro v h101 (⟨v9, e9, r100, e8, hq⟩ | ⟨ci9, q9, e9, -⟩)
                        · cases e9
                          subst e8
                          replace H := H r100 h101 hq
                          refine e_aload_n dX7_factor_57 rfl ?_
                          refine e_iconst (-1) dX7_factor_58 (by decide) ?_
                          obtain ⟨fsg109, g109o, H⟩ := H
                          obtain ⟨d110, k111, n112, Q113, X114, g109, g109d, g109k, g109n, H, Hx, Hx10⟩ := H
                          refine e_callV (r := (RX9, TX9, 2)) (As := [.ref r85, .int (-1 : Int32)]) g109 dX7_factor_59 wX9_plus q1824 q1825 q1826 g109o rfl rfl g109d rfl (Nat.le_of_ble_eq_true rfl) (k1 := k - k5 - k12 - k77 - k89 - k104 - k111) (n1 := n - n6 - n13 - n78 - n90 - n105 - n112) (by omega) (by omega) ?_ ?_
                          · rintro v h108 (⟨v9, e9, r107, e8, hq⟩ | ⟨ci9, q9, e9, -⟩)
                            · cases e9
                              subst e8
                              replace H := H r107 h108 hq
                              exact e_areturn (r := some r107) _ dX7_factor_62 rfl (Or.inl ⟨_, rfl⟩) H
                            · cases e9
                          · rintro q9 h9 (⟨v9, e9, -⟩ | ⟨ci9, q8, e9, gl, ⟨fs9, gq⟩, hx⟩)
                            · cases e9
                            · cases e9
                              rcases Hx ci9 q9 h9 hx with rfl
                              · have H := Hx10 q9 h9 fs9 hx gq gl
                                exact ex_out (r := (RX10, TX10, 6)) (fun z hz => absurd hz List.not_mem_nil) gq rfl gl H
                        · cases e9
                      · rintro q9 h9 (⟨v9, e9, -⟩ | ⟨ci9, q8, e9, gl, ⟨fs9, gq⟩, hx⟩)
                        · cases e9
                        · cases e9
                          rcases Hx ci9 q9 h9 hx with rfl
                          · have H := Hx10 q9 h9 fs9 hx gq gl
                            exact ex_out (r := (RX10, TX10, 6)) (fun z hz => absurd hz List.not_mem_nil) gq rfl gl H
                    · replace H := H.2 g99
                      refine e_aload_n dX7_factor_49 rfl ?_
                      refine e_goto 62 dX7_factor_50 (by decide) ?_
                      exact e_areturn (r := some r85) _ dX7_factor_62 rfl (Or.inl ⟨_, rfl⟩) H
                  · cases e9
                · rintro q9 h9 (⟨v9, e9, -⟩ | ⟨ci9, q8, e9, gl, ⟨fs9, gq⟩, hx⟩)
                  · cases e9
                  · cases e9
                    rcases Hx ci9 q9 h9 hx with rfl | rfl
                    · have H := Hx8 q9 h9 fs9 hx gq gl
                      exact ex_out (r := (RX8, TX8, 8)) (fun z hz => absurd hz List.not_mem_nil) gq rfl gl H
                    · have H := Hx10 q9 h9 fs9 hx gq gl
                      exact ex_out (r := (RX10, TX10, 6)) (fun z hz => absurd hz List.not_mem_nil) gq rfl gl H
              · cases e9
            · rintro q9 h9 (⟨v9, e9, -⟩ | ⟨ci9, q8, e9, -, -, hx⟩)
              · cases e9
              · exact hx.elim
        · cases e9
      · rintro q9 h9 (⟨v9, e9, -⟩ | ⟨ci9, q8, e9, -, -, hx⟩)
        · cases e9
        · exact hx.elim
    · cases e9
  · rintro q9 h9 (⟨v9, e9, -⟩ | ⟨ci9, q8, e9, gl, ⟨fs9, gq⟩, hx⟩)
    · cases e9
    · cases e9
      rcases Hx ci9 q9 h9 hx with rfl
      · have H := Hx8 q9 h9 fs9 hx gq gl
        exact ex_out (r := (RX8, TX8, 8)) (fun z hz => absurd hz List.not_mem_nil) gq rfl gl H
theorem en_X7_factor {l : Launch} {lo : Nat} {G : eG} {d : Nat} {P : eO → eH → Prop} (a0 : Nat) {h : eH} {k n : Nat} (H : h_X7_factor_0 (l, lo, G, d, P) a0 h k n) : Ct l lo G d mX7_factor [.ref a0] h k n P := 
  Ct_of (eArL mX7_factor.2.2.2.1 [.ref a0]) (by decide) rfl (Nat.le_of_ble_eq_true rfl) (fun j w q => eArL_mem j w q) (E.less2 H (eS_s (eS_n (eS_n eS_0))))
/-! X7_unit TroupeSums$Reader.unit()V -/
def h_X7_unit_0 (c : cC) (a0 : Nat) (h : eH) (k n : Nat) : Prop := E c.1 c.2.1 c.2.2.1 c.2.2.2.1 mX7_unit c.2.2.2.2 0 [some (.ref a0), none] [] h k n
def h_X7_unit_45 (c : cC) (a0 : Nat) (h : eH) (k n : Nat) : Prop := E c.1 c.2.1 c.2.2.1 c.2.2.2.1 mX7_unit c.2.2.2.2 45 [some (.ref a0), none] [] h k n
def h_X7_unit_50 (c : cC) (a0 : Nat) (b0 : Int32) (h : eH) (k n : Nat) : Prop := E c.1 c.2.1 c.2.2.1 c.2.2.2.1 mX7_unit c.2.2.2.2 50 [some (.ref a0), none] [.int b0] h k n
def h_X7_unit_84 (c : cC) (a0 : Nat) (b0 : Nat) (h : eH) (k n : Nat) : Prop := E c.1 c.2.1 c.2.2.1 c.2.2.2.1 mX7_unit c.2.2.2.2 84 [some (.ref a0), none] [.ref b0] h k n
def h_X7_unit_89 (c : cC) (a0 : Nat) (b0 : Int32) (b1 : Nat) (h : eH) (k n : Nat) : Prop := E c.1 c.2.1 c.2.2.1 c.2.2.2.1 mX7_unit c.2.2.2.2 89 [some (.ref a0), none] [.int b0, .ref b1] h k n
def h_X7_unit_116 (c : cC) (a0 : Nat) (b0 : Nat) (h : eH) (k n : Nat) : Prop := E c.1 c.2.1 c.2.2.1 c.2.2.2.1 mX7_unit c.2.2.2.2 116 [some (.ref a0), none] [.ref b0] h k n
def h_X7_unit_117 (c : cC) (a0 : Nat) (b0 : Int32) (b1 : Nat) (h : eH) (k n : Nat) : Prop := E c.1 c.2.1 c.2.2.1 c.2.2.2.1 mX7_unit c.2.2.2.2 117 [some (.ref a0), none] [.int b0, .ref b1] h k n
set_option maxHeartbeats 4000000 in
theorem s_X7_unit_0 (c : cC) (a0 : Nat) (h : eH) (k n : Nat) (H : ∃ x1 : Int32, fV h a0 7 4 (.int x1) ∧ ((x1 = (2 : Int32) → h_X7_unit_45 c a0 h k n) ∧ (¬ x1 = (2 : Int32) → ∃ fs8 : List Value, h.1 a0 = some (.inr (7, fs8)) ∧ ∃ (d7 k8 n9 : Nat) (Q10 : Int32 → eH → Prop), cI c.1 c.2.1 c.2.2.1 d7 mX7_isSign [.ref a0, .int (45 : Int32)] h k8 n9 Q10 cX0 ∧ d7 + 1 ≤ c.2.2.2.1 ∧ k8 ≤ k ∧ n9 ≤ n ∧ (∀ (r4 : Int32) (h5 : eH), Q10 r4 h5 → ((¬ r4 = 0 → h_X7_unit_45 c a0 h5 (k - k8) (n - n9)) ∧ (r4 = 0 → ∃ fs8 : List Value, h5.1 a0 = some (.inr (7, fs8)) ∧ ∃ (d15 k16 n17 : Nat) (Q18 : Int32 → eH → Prop), cI c.1 c.2.1 c.2.2.1 d15 mX7_isSign [.ref a0, .int (40 : Int32)] h5 k16 n17 Q18 cX0 ∧ d15 + 1 ≤ c.2.2.2.1 ∧ k16 ≤ k - k8 ∧ n17 ≤ n - n9 ∧ (∀ (r12 : Int32) (h13 : eH), Q18 r12 h13 → ((¬ r12 = 0 → h_X7_unit_45 c a0 h13 (k - k8 - k16) (n - n9 - n17)) ∧ (r12 = 0 → ∃ fs8 : List Value, h13.1 a0 = some (.inr (7, fs8)) ∧ ∃ (d23 k24 n25 : Nat) (Q26 : Nat → eH → Prop), cR c.1 c.2.1 c.2.2.1 d23 mX7_word [.ref a0] h13 k24 n25 Q26 cX0 ∧ d23 + 1 ≤ c.2.2.2.1 ∧ k24 ≤ k - k8 - k16 ∧ n25 ≤ n - n9 - n17 ∧ (∀ (r20 : Nat) (h21 : eH), Q26 r20 h21 → (∃ fs8 : List Value, h21.1 r20 = some (.inr (18, fs8)) ∧ ∃ (d30 k31 n32 : Nat) (Q33 : Int32 → eH → Prop), cI c.1 c.2.1 c.2.2.1 d30 mJ7_equals [.ref r20, .ref (c.2.2.1.2.2.2 7)] h21 k31 n32 Q33 cX0 ∧ d30 + 1 ≤ c.2.2.2.1 ∧ k31 ≤ k - k8 - k16 - k24 ∧ n32 ≤ n - n9 - n17 - n25 ∧ (∀ (r27 : Int32) (h28 : eH), Q33 r27 h28 → ((¬ r27 = 0 → h_X7_unit_45 c a0 h28 (k - k8 - k16 - k24 - k31) (n - n9 - n17 - n25 - n32)) ∧ (r27 = 0 → ∃ fs8 : List Value, h28.1 a0 = some (.inr (7, fs8)) ∧ ∃ (d38 k39 n40 : Nat) (Q41 : Int32 → eH → Prop), cI c.1 c.2.1 c.2.2.1 d38 mX7_isName [.ref a0] h28 k39 n40 Q41 cX0 ∧ d38 + 1 ≤ c.2.2.2.1 ∧ k39 ≤ k - k8 - k16 - k24 - k31 ∧ n40 ≤ n - n9 - n17 - n25 - n32 ∧ (∀ (r35 : Int32) (h36 : eH), Q41 r35 h36 → ((r35 = 0 → h_X7_unit_50 c a0 (0 : Int32) h36 (k - k8 - k16 - k24 - k31 - k39) (n - n9 - n17 - n25 - n32 - n40)) ∧ (¬ r35 = 0 → h_X7_unit_45 c a0 h36 (k - k8 - k16 - k24 - k31 - k39) (n - n9 - n17 - n25 - n32 - n40)))))))))))))))))) : h_X7_unit_0 c a0 h k n := by
  refine e_aload_n dX7_unit_0 rfl ?_
  obtain ⟨x1, ⟨fsx1, g2, g2v⟩, H⟩ := H
  refine e_get dX7_unit_1 fX7_4 q1365 g2 g2v ?_
  refine e_iconst (2) dX7_unit_4 (by decide) ?_
  refine e_icmp_eq 45 dX7_unit_5 (by decide) (fun g3 => ?_) (fun g3 => ?_)
  · replace H := H.1 g3
    exact E.less2 H (eS_s (eS_n eS_0))
  · replace H := H.2 g3
    refine e_aload_n dX7_unit_8 rfl ?_
    refine e_bipush (45) dX7_unit_9 (by decide) ?_
    obtain ⟨fsg6, g6o, H⟩ := H
    obtain ⟨d7, k8, n9, Q10, g6, g6d, g6k, g6n, H⟩ := H
    refine e_callV (r := (RX7, TX7, 11)) (As := [.int (45 : Int32)]) g6 dX7_unit_11 wX7_isSign q1653 q1655 qs27 g6o rfl rfl g6d rfl (Nat.le_of_ble_eq_true rfl) (k1 := k - k8) (n1 := n - n9) (by omega) (by omega) ?_ ?_
    · rintro v h5 (⟨v9, e9, r4, e8, hq⟩ | ⟨ci9, q9, e9, -⟩)
      · cases e9
        subst e8
        replace H := H r4 h5 hq
        refine e_if_ne 45 dX7_unit_14 (by decide) (fun g11 => ?_) (fun g11 => ?_)
        · replace H := H.1 g11
          exact E.less2 H (eS_s (eS_n eS_0))
        · replace H := H.2 g11
          refine e_aload_n dX7_unit_17 rfl ?_
          refine e_bipush (40) dX7_unit_18 (by decide) ?_
          obtain ⟨fsg14, g14o, H⟩ := H
          obtain ⟨d15, k16, n17, Q18, g14, g14d, g14k, g14n, H⟩ := H
          refine e_callV (r := (RX7, TX7, 11)) (As := [.int (40 : Int32)]) g14 dX7_unit_20 wX7_isSign q1653 q1655 qs27 g14o rfl rfl g14d rfl (Nat.le_of_ble_eq_true rfl) (k1 := k - k8 - k16) (n1 := n - n9 - n17) (by omega) (by omega) ?_ ?_
          · rintro v h13 (⟨v9, e9, r12, e8, hq⟩ | ⟨ci9, q9, e9, -⟩)
            · cases e9
              subst e8
              replace H := H r12 h13 hq
              refine e_if_ne 45 dX7_unit_23 (by decide) (fun g19 => ?_) (fun g19 => ?_)
              · replace H := H.1 g19
                exact E.less2 H (eS_s (eS_n eS_0))
              · replace H := H.2 g19
                refine e_aload_n dX7_unit_26 rfl ?_
                obtain ⟨fsg22, g22o, H⟩ := H
                obtain ⟨d23, k24, n25, Q26, g22, g22d, g22k, g22n, H⟩ := H
                refine e_callV (r := (RX7, TX7, 11)) (As := []) g22 dX7_unit_27 wX7_word q1406 q1408 qs21 g22o rfl rfl g22d rfl (Nat.le_of_ble_eq_true rfl) (k1 := k - k8 - k16 - k24) (n1 := n - n9 - n17 - n25) (by omega) (by omega) ?_ ?_
                · rintro v h21 (⟨v9, e9, r20, e8, hq⟩ | ⟨ci9, q9, e9, -⟩)
                  · cases e9
                    subst e8
                    replace H := H r20 h21 hq
                    refine e_ldcS (i := 5) dX7_unit_30 rfl ?_
                    obtain ⟨fsg29, g29o, H⟩ := H
                    obtain ⟨d30, k31, n32, Q33, g29, g29d, g29k, g29n, H⟩ := H
                    refine e_callV (r := (RJ7, TJ7, 4)) (As := [.ref (c.2.2.1.2.2.2 7)]) g29 dX7_unit_32 wJ7_equals q1560 q981 q3170 g29o rfl rfl g29d rfl (Nat.le_of_ble_eq_true rfl) (k1 := k - k8 - k16 - k24 - k31) (n1 := n - n9 - n17 - n25 - n32) (by omega) (by omega) ?_ ?_
                    · rintro v h28 (⟨v9, e9, r27, e8, hq⟩ | ⟨ci9, q9, e9, -⟩)
                      · cases e9
                        subst e8
                        replace H := H r27 h28 hq
                        refine e_if_ne 45 dX7_unit_35 (by decide) (fun g34 => ?_) (fun g34 => ?_)
                        · replace H := H.1 g34
                          exact E.less2 H (eS_s (eS_n eS_0))
                        · replace H := H.2 g34
                          refine e_aload_n dX7_unit_38 rfl ?_
                          obtain ⟨fsg37, g37o, H⟩ := H
                          obtain ⟨d38, k39, n40, Q41, g37, g37d, g37k, g37n, H⟩ := H
                          refine e_callV (r := (RX7, TX7, 11)) (As := []) g37 dX7_unit_39 wX7_isName q1693 q1695 qs32 g37o rfl rfl g37d rfl (Nat.le_of_ble_eq_true rfl) (k1 := k - k8 - k16 - k24 - k31 - k39) (n1 := n - n9 - n17 - n25 - n32 - n40) (by omega) (by omega) ?_ ?_
                          · rintro v h36 (⟨v9, e9, r35, e8, hq⟩ | ⟨ci9, q9, e9, -⟩)
                            · cases e9
                              subst e8
                              replace H := H r35 h36 hq
                              refine e_if_eq 49 dX7_unit_42 (by decide) (fun g42 => ?_) (fun g42 => ?_)
                              · replace H := H.1 g42
                                refine e_iconst (0) dX7_unit_49 (by decide) ?_
                                exact E.less2 H (eS_s (eS_n eS_0))
                              · replace H := H.2 g42
                                exact E.less2 H (eS_s (eS_n eS_0))
                            · cases e9
                          · rintro q9 h9 (⟨v9, e9, -⟩ | ⟨ci9, q8, e9, -, -, hx⟩)
                            · cases e9
                            · exact hx.elim
                      · cases e9
                    · rintro q9 h9 (⟨v9, e9, -⟩ | ⟨ci9, q8, e9, -, -, hx⟩)
                      · cases e9
                      · exact hx.elim
                  · cases e9
                · rintro q9 h9 (⟨v9, e9, -⟩ | ⟨ci9, q8, e9, -, -, hx⟩)
                  · cases e9
                  · exact hx.elim
            · cases e9
          · rintro q9 h9 (⟨v9, e9, -⟩ | ⟨ci9, q8, e9, -, -, hx⟩)
            · cases e9
            · exact hx.elim
      · cases e9
    · rintro q9 h9 (⟨v9, e9, -⟩ | ⟨ci9, q8, e9, -, -, hx⟩)
      · cases e9
      · exact hx.elim
set_option maxHeartbeats 4000000 in
theorem s_X7_unit_45 (c : cC) (a0 : Nat) (h : eH) (k n : Nat) (H : h_X7_unit_50 c a0 (1 : Int32) h k n) : h_X7_unit_45 c a0 h k n := by
  refine e_iconst (1) dX7_unit_45 (by decide) ?_
  refine e_goto 50 dX7_unit_46 (by decide) ?_
  exact E.less2 H (eS_s (eS_n eS_0))
set_option maxHeartbeats 4000000 in
theorem s_X7_unit_50 (c : cC) (a0 : Nat) (b0 : Int32) (h : eH) (k n : Nat) (H : ∃ fs8 : List Value, h.1 a0 = some (.inr (7, fs8)) ∧ ∃ (d4 k5 n6 : Nat) (Q7 : eH → Prop) (X35 : Nat → Nat → eH → Prop), cV c.1 c.2.1 c.2.2.1 d4 mX7_need [.ref a0, .int b0, .int (2 : Int32)] h k5 n6 Q7 X35 ∧ d4 + 1 ≤ c.2.2.2.1 ∧ k5 ≤ k ∧ n6 ≤ n ∧ (∀ h2 : eH, Q7 h2 → (∃ fs8 : List Value, h2.1 a0 = some (.inr (7, fs8)) ∧ ∃ (d11 k12 n13 : Nat) (Q14 : Int32 → eH → Prop), cI c.1 c.2.1 c.2.2.1 d11 mX7_isName [.ref a0] h2 k12 n13 Q14 cX0 ∧ d11 + 1 ≤ c.2.2.2.1 ∧ k12 ≤ k - k5 ∧ n13 ≤ n - n6 ∧ (∀ (r8 : Int32) (h9 : eH), Q14 r8 h9 → ((r8 = 0 → h_X7_unit_84 c a0 a0 h9 (k - k5 - k12) (n - n6 - n13)) ∧ (¬ r8 = 0 → ∃ x16 : Nat, fV h9 a0 7 7 (.ref x16) ∧ (∃ x18 : Nat, fV h9 x16 1 3 (.ref x18) ∧ (∃ fs8 : List Value, h9.1 a0 = some (.inr (7, fs8)) ∧ ∃ (d23 k24 n25 : Nat) (Q26 : Nat → eH → Prop), cR c.1 c.2.1 c.2.2.1 d23 mX7_word [.ref a0] h9 k24 n25 Q26 cX0 ∧ d23 + 1 ≤ c.2.2.2.1 ∧ k24 ≤ k - k5 - k12 ∧ n25 ≤ n - n6 - n13 ∧ (∀ (r20 : Nat) (h21 : eH), Q26 r20 h21 → (∃ fs8 : List Value, h21.1 x18 = some (.inr (15, fs8)) ∧ ∃ (d30 k31 n32 : Nat) (Q33 : Int32 → eH → Prop), cI c.1 c.2.1 c.2.2.1 d30 mJ2_contains [.ref x18, .ref r20] h21 k31 n32 Q33 cX0 ∧ d30 + 1 ≤ c.2.2.2.1 ∧ k31 ≤ k - k5 - k12 - k24 ∧ n32 ≤ n - n6 - n13 - n25 ∧ (∀ (r27 : Int32) (h28 : eH), Q33 r27 h28 → ((r27 = 0 → h_X7_unit_89 c a0 (0 : Int32) a0 h28 (k - k5 - k12 - k24 - k31) (n - n6 - n13 - n25 - n32)) ∧ (¬ r27 = 0 → h_X7_unit_84 c a0 a0 h28 (k - k5 - k12 - k24 - k31) (n - n6 - n13 - n25 - n32))))))))))))) ∧ (∀ (ci q : Nat) (h9 : eH), X35 ci q h9 → ci = 8) ∧ (∀ (q36 : Nat) (h37 : eH) (fs9 : List Value), X35 8 q36 h37 → h37.1 q36 = some (.inr (8, fs9)) → c.2.1 ≤ q36 → c.2.2.2.2 (.inr q36) h37)) : h_X7_unit_50 c a0 b0 h k n := by
  refine e_istore_n _ dX7_unit_50 (by decide) rfl rfl ?_
  refine e_aload_n dX7_unit_51 rfl ?_
  refine e_iload_n dX7_unit_52 rfl ?_
  refine e_iconst (2) dX7_unit_53 (by decide) ?_
  obtain ⟨fsg3, g3o, H⟩ := H
  obtain ⟨d4, k5, n6, Q7, X35, g3, g3d, g3k, g3n, H, Hx, Hx8⟩ := H
  refine e_callV (r := (RX7, TX7, 11)) (As := [.int b0, .int (2 : Int32)]) g3 dX7_unit_54 wX7_need q1563 q1565 qs22 g3o rfl rfl g3d rfl (Nat.le_of_ble_eq_true rfl) (k1 := k - k5) (n1 := n - n6) (by omega) (by omega) ?_ ?_
  · rintro v h2 (⟨v9, e9, e8, hq⟩ | ⟨ci9, q9, e9, -⟩)
    · cases e9
      subst e8
      replace H := H h2 hq
      refine e_aload_n dX7_unit_57 rfl ?_
      refine e_aload_n dX7_unit_58 rfl ?_
      obtain ⟨fsg10, g10o, H⟩ := H
      obtain ⟨d11, k12, n13, Q14, g10, g10d, g10k, g10n, H⟩ := H
      refine e_callV (r := (RX7, TX7, 11)) (As := []) g10 dX7_unit_59 wX7_isName q1693 q1695 qs32 g10o rfl rfl g10d rfl (Nat.le_of_ble_eq_true rfl) (k1 := k - k5 - k12) (n1 := n - n6 - n13) (by omega) (by omega) ?_ ?_
      · rintro v h9 (⟨v9, e9, r8, e8, hq⟩ | ⟨ci9, q9, e9, -⟩)
        · cases e9
          subst e8
          replace H := H r8 h9 hq
          refine e_if_eq 84 dX7_unit_62 (by decide) (fun g15 => ?_) (fun g15 => ?_)
          · replace H := H.1 g15
            exact E.less2 H (eS_s (eS_n eS_0))
          · replace H := H.2 g15
            refine e_aload_n dX7_unit_65 rfl ?_
            obtain ⟨x16, ⟨fsx16, g17, g17v⟩, H⟩ := H
            refine e_get dX7_unit_66 fX7_7 q1368 g17 g17v ?_
            obtain ⟨x18, ⟨fsx18, g19, g19v⟩, H⟩ := H
            refine e_getN dX7_unit_69 fX1_3 q241 g19 g19v ?_
            refine e_aload_n dX7_unit_72 rfl ?_
            obtain ⟨fsg22, g22o, H⟩ := H
            obtain ⟨d23, k24, n25, Q26, g22, g22d, g22k, g22n, H⟩ := H
            refine e_callV (r := (RX7, TX7, 11)) (As := []) g22 dX7_unit_73 wX7_word q1406 q1408 qs21 g22o rfl rfl g22d rfl (Nat.le_of_ble_eq_true rfl) (k1 := k - k5 - k12 - k24) (n1 := n - n6 - n13 - n25) (by omega) (by omega) ?_ ?_
            · rintro v h21 (⟨v9, e9, r20, e8, hq⟩ | ⟨ci9, q9, e9, -⟩)
              · cases e9
                subst e8
                replace H := H r20 h21 hq
                obtain ⟨fsg29, g29o, H⟩ := H
                obtain ⟨d30, k31, n32, Q33, g29, g29d, g29k, g29n, H⟩ := H
                refine e_callF (i := 6) (r := (RJ2, TJ2, 3)) (As := [.ref r20]) g29 dX7_unit_76 wJ2_contains rfl rfl q1749 q945 q943 g29o rfl rfl g29d rfl (Nat.le_of_ble_eq_true rfl) (k1 := k - k5 - k12 - k24 - k31) (n1 := n - n6 - n13 - n25 - n32) (by omega) (by omega) ?_ ?_
                · rintro v h28 (⟨v9, e9, r27, e8, hq⟩ | ⟨ci9, q9, e9, -⟩)
                  · cases e9
                    subst e8
                    replace H := H r27 h28 hq
                    refine e_if_eq 88 dX7_unit_81 (by decide) (fun g34 => ?_) (fun g34 => ?_)
                    · replace H := H.1 g34
                      refine e_iconst (0) dX7_unit_88 (by decide) ?_
                      exact E.less2 H (eS_s (eS_n eS_0))
                    · replace H := H.2 g34
                      exact E.less2 H (eS_s (eS_n eS_0))
                  · cases e9
                · rintro q9 h9 (⟨v9, e9, -⟩ | ⟨ci9, q8, e9, -, -, hx⟩)
                  · cases e9
                  · exact hx.elim
              · cases e9
            · rintro q9 h9 (⟨v9, e9, -⟩ | ⟨ci9, q8, e9, -, -, hx⟩)
              · cases e9
              · exact hx.elim
        · cases e9
      · rintro q9 h9 (⟨v9, e9, -⟩ | ⟨ci9, q8, e9, -, -, hx⟩)
        · cases e9
        · exact hx.elim
    · cases e9
  · rintro q9 h9 (⟨v9, e9, -⟩ | ⟨ci9, q8, e9, gl, ⟨fs9, gq⟩, hx⟩)
    · cases e9
    · cases e9
      rcases Hx ci9 q9 h9 hx with rfl
      · have H := Hx8 q9 h9 fs9 hx gq gl
        exact ex_out (r := (RX8, TX8, 8)) (fun z hz => absurd hz List.not_mem_nil) gq rfl gl H
set_option maxHeartbeats 4000000 in
theorem s_X7_unit_84 (c : cC) (a0 : Nat) (b0 : Nat) (h : eH) (k n : Nat) (H : h_X7_unit_89 c a0 (1 : Int32) b0 h k n) : h_X7_unit_84 c a0 b0 h k n := by
  refine e_iconst (1) dX7_unit_84 (by decide) ?_
  refine e_goto 89 dX7_unit_85 (by decide) ?_
  exact E.less2 H (eS_s (eS_n eS_0))
set_option maxHeartbeats 4000000 in
theorem s_X7_unit_89 (c : cC) (a0 : Nat) (b0 : Int32) (b1 : Nat) (h : eH) (k n : Nat) (H : ∃ fs8 : List Value, h.1 b1 = some (.inr (7, fs8)) ∧ ∃ (d4 k5 n6 : Nat) (Q7 : eH → Prop) (X14 : Nat → Nat → eH → Prop), cV c.1 c.2.1 c.2.2.1 d4 mX7_need [.ref b1, .int b0, .int (3 : Int32)] h k5 n6 Q7 X14 ∧ d4 + 1 ≤ c.2.2.2.1 ∧ k5 ≤ k ∧ n6 ≤ n ∧ (∀ h2 : eH, Q7 h2 → (∃ x8 : Int32, fV h2 a0 7 5 (.int x8) ∧ (((30 : Int32) ≤ x8 → h_X7_unit_116 c a0 a0 h2 (k - k5) (n - n6)) ∧ (¬ (30 : Int32) ≤ x8 → ∃ x11 : Int32, fV h2 a0 7 6 (.int x11) ∧ (((6 : Int32) < x11 → h_X7_unit_116 c a0 a0 h2 (k - k5) (n - n6)) ∧ (¬ (6 : Int32) < x11 → h_X7_unit_117 c a0 (1 : Int32) a0 h2 (k - k5) (n - n6))))))) ∧ (∀ (ci q : Nat) (h9 : eH), X14 ci q h9 → ci = 8) ∧ (∀ (q15 : Nat) (h16 : eH) (fs9 : List Value), X14 8 q15 h16 → h16.1 q15 = some (.inr (8, fs9)) → c.2.1 ≤ q15 → c.2.2.2.2 (.inr q15) h16)) : h_X7_unit_89 c a0 b0 b1 h k n := by
  refine e_iconst (3) dX7_unit_89 (by decide) ?_
  obtain ⟨fsg3, g3o, H⟩ := H
  obtain ⟨d4, k5, n6, Q7, X14, g3, g3d, g3k, g3n, H, Hx, Hx8⟩ := H
  refine e_callV (r := (RX7, TX7, 11)) (As := [.int b0, .int (3 : Int32)]) g3 dX7_unit_90 wX7_need q1563 q1565 qs22 g3o rfl rfl g3d rfl (Nat.le_of_ble_eq_true rfl) (k1 := k - k5) (n1 := n - n6) (by omega) (by omega) ?_ ?_
  · rintro v h2 (⟨v9, e9, e8, hq⟩ | ⟨ci9, q9, e9, -⟩)
    · cases e9
      subst e8
      replace H := H h2 hq
      refine e_aload_n dX7_unit_93 rfl ?_
      refine e_aload_n dX7_unit_94 rfl ?_
      obtain ⟨x8, ⟨fsx8, g9, g9v⟩, H⟩ := H
      refine e_get dX7_unit_95 fX7_5 q1366 g9 g9v ?_
      refine e_bipush (30) dX7_unit_98 (by decide) ?_
      refine e_icmp_ge 116 dX7_unit_100 (by decide) (fun g10 => ?_) (fun g10 => ?_)
      · replace H := H.1 g10
        exact E.less2 H (eS_s (eS_n eS_0))
      · replace H := H.2 g10
        refine e_aload_n dX7_unit_103 rfl ?_
        obtain ⟨x11, ⟨fsx11, g12, g12v⟩, H⟩ := H
        refine e_get dX7_unit_104 fX7_6 q1367 g12 g12v ?_
        refine e_bipush (6) dX7_unit_107 (by decide) ?_
        refine e_icmp_gt 116 dX7_unit_109 (by decide) (fun g13 => ?_) (fun g13 => ?_)
        · replace H := H.1 g13
          exact E.less2 H (eS_s (eS_n eS_0))
        · replace H := H.2 g13
          refine e_iconst (1) dX7_unit_112 (by decide) ?_
          refine e_goto 117 dX7_unit_113 (by decide) ?_
          exact E.less2 H (eS_s (eS_n eS_0))
    · cases e9
  · rintro q9 h9 (⟨v9, e9, -⟩ | ⟨ci9, q8, e9, gl, ⟨fs9, gq⟩, hx⟩)
    · cases e9
    · cases e9
      rcases Hx ci9 q9 h9 hx with rfl
      · have H := Hx8 q9 h9 fs9 hx gq gl
        exact ex_out (r := (RX8, TX8, 8)) (fun z hz => absurd hz List.not_mem_nil) gq rfl gl H
set_option maxHeartbeats 4000000 in
theorem s_X7_unit_116 (c : cC) (a0 : Nat) (b0 : Nat) (h : eH) (k n : Nat) (H : h_X7_unit_117 c a0 (0 : Int32) b0 h k n) : h_X7_unit_116 c a0 b0 h k n := by
  refine e_iconst (0) dX7_unit_116 (by decide) ?_
  exact E.less2 H (eS_s (eS_n eS_0))
set_option maxHeartbeats 4000000 in
theorem s_X7_unit_117 (c : cC) (a0 : Nat) (b0 : Int32) (b1 : Nat) (h : eH) (k n : Nat) (H : ∃ fs8 : List Value, h.1 b1 = some (.inr (7, fs8)) ∧ ∃ (d4 k5 n6 : Nat) (Q7 : eH → Prop) (X13 : Nat → Nat → eH → Prop), cV c.1 c.2.1 c.2.2.1 d4 mX7_need [.ref b1, .int b0, .int (5 : Int32)] h k5 n6 Q7 X13 ∧ d4 + 1 ≤ c.2.2.2.1 ∧ k5 ≤ k ∧ n6 ≤ n ∧ (∀ h2 : eH, Q7 h2 → (∃ x8 : Int32, fV h2 a0 7 5 (.int x8) ∧ (∃ fs10 : List Value, h2.1 a0 = some (.inr (7, fs10)) ∧ c.2.1 ≤ a0 ∧ 5 < fs10.length ∧ ∀ h12 : eH, h12 = eUp h2 a0 (.inr (7, fs10.set 5 (.int (x8 + (1 : Int32))))) → (c.2.2.2.2 (.inl none) h12)))) ∧ (∀ (ci q : Nat) (h9 : eH), X13 ci q h9 → ci = 8) ∧ (∀ (q14 : Nat) (h15 : eH) (fs9 : List Value), X13 8 q14 h15 → h15.1 q14 = some (.inr (8, fs9)) → c.2.1 ≤ q14 → c.2.2.2.2 (.inr q14) h15)) : h_X7_unit_117 c a0 b0 b1 h k n := by
  refine e_iconst (5) dX7_unit_117 (by decide) ?_
  obtain ⟨fsg3, g3o, H⟩ := H
  obtain ⟨d4, k5, n6, Q7, X13, g3, g3d, g3k, g3n, H, Hx, Hx8⟩ := H
  refine e_callV (r := (RX7, TX7, 11)) (As := [.int b0, .int (5 : Int32)]) g3 dX7_unit_118 wX7_need q1563 q1565 qs22 g3o rfl rfl g3d rfl (Nat.le_of_ble_eq_true rfl) (k1 := k - k5) (n1 := n - n6) (by omega) (by omega) ?_ ?_
  · rintro v h2 (⟨v9, e9, e8, hq⟩ | ⟨ci9, q9, e9, -⟩)
    · cases e9
      subst e8
      replace H := H h2 hq
      refine e_aload_n dX7_unit_121 rfl ?_
      refine e_dup dX7_unit_122 rfl ?_
      obtain ⟨x8, ⟨fsx8, g9, g9v⟩, H⟩ := H
      refine e_get dX7_unit_123 fX7_5 q1366 g9 g9v ?_
      refine e_iconst (1) dX7_unit_126 (by decide) ?_
      refine e_iadd dX7_unit_127 ?_
      obtain ⟨fs10, g11, g11l, g11j, H⟩ := H
      refine e_put dX7_unit_128 fX7_5 q1366 (eFit_i _) g11 g11l g11j ?_
      replace H := H _ rfl
      generalize eUp h2 a0 _ = h12 at H ⊢
      exact e_return dX7_unit_131 rfl H
    · cases e9
  · rintro q9 h9 (⟨v9, e9, -⟩ | ⟨ci9, q8, e9, gl, ⟨fs9, gq⟩, hx⟩)
    · cases e9
    · cases e9
      rcases Hx ci9 q9 h9 hx with rfl
      · have H := Hx8 q9 h9 fs9 hx gq gl
        exact ex_out (r := (RX8, TX8, 8)) (fun z hz => absurd hz List.not_mem_nil) gq rfl gl H
theorem en_X7_unit {l : Launch} {lo : Nat} {G : eG} {d : Nat} {P : eO → eH → Prop} (a0 : Nat) {h : eH} {k n : Nat} (H : h_X7_unit_0 (l, lo, G, d, P) a0 h k n) : Ct l lo G d mX7_unit [.ref a0] h k n P := 
  Ct_of (eArL mX7_unit.2.2.2.1 [.ref a0]) (by decide) rfl (Nat.le_of_ble_eq_true rfl) (fun j w q => eArL_mem j w q) (E.less2 H (eS_s (eS_n eS_0)))
/-! X7_none TroupeSums$Reader.none()LTroupeSums$Sum; -/
def h_X7_none_0 (c : cC) (a0 : Nat) (h : eH) (k n : Nat) : Prop := E c.1 c.2.1 c.2.2.1 c.2.2.2.1 mX7_none c.2.2.2.2 0 [some (.ref a0)] [] h k n
set_option maxHeartbeats 4000000 in
theorem s_X7_none_0 (c : cC) (a0 : Nat) (h : eH) (k n : Nat) (H : ∃ x1 : Nat, fV h a0 7 7 (.ref x1) ∧ (∃ x3 : Option Nat, fV h x1 1 2 (va_rf x3) ∧ (∃ (d8 k9 n10 : Nat) (Q11 : Nat → eH → Prop) (X12 : Nat → Nat → eH → Prop), cR c.1 c.2.1 c.2.2.1 d8 mX9_of [va_rf x3, .int (0 : Int32), .long (0 : Int64)] h k9 n10 Q11 X12 ∧ d8 + 1 ≤ c.2.2.2.1 ∧ k9 ≤ k ∧ n10 ≤ n ∧ (∀ (r5 : Nat) (h6 : eH), Q11 r5 h6 → (c.2.2.2.2 (.inl (some (.ref r5))) h6)) ∧ (∀ (ci q : Nat) (h9 : eH), X12 ci q h9 → ci = 10) ∧ (∀ (q13 : Nat) (h14 : eH) (fs9 : List Value), X12 10 q13 h14 → h14.1 q13 = some (.inr (10, fs9)) → c.2.1 ≤ q13 → c.2.2.2.2 (.inr q13) h14)))) : h_X7_none_0 c a0 h k n := by
  refine e_aload_n dX7_none_0 rfl ?_
  obtain ⟨x1, ⟨fsx1, g2, g2v⟩, H⟩ := H
  refine e_get dX7_none_1 fX7_7 q1368 g2 g2v ?_
  obtain ⟨x3, ⟨fsx3, g4, g4v⟩, H⟩ := H
  refine e_getN dX7_none_4 fX1_2 q239 g4 g4v ?_
  refine e_iconst (0) dX7_none_7 (by decide) ?_
  refine e_lconst 0 dX7_none_8 (by decide) ?_
  obtain ⟨d8, k9, n10, Q11, X12, g7, g7d, g7k, g7n, H, Hx, Hx10⟩ := H
  refine e_callS (As := [va_rf x3, .int (0 : Int32), .long (0 : Int64)]) g7 dX7_none_9 wX9_of q1774 q1775 rfl g7d rfl (Nat.le_of_ble_eq_true rfl) (k1 := k - k9) (n1 := n - n10) (by omega) (by omega) ?_ ?_
  · rintro v h6 (⟨v9, e9, r5, e8, hq⟩ | ⟨ci9, q9, e9, -⟩)
    · cases e9
      subst e8
      replace H := H r5 h6 hq
      exact e_areturn (r := some r5) _ dX7_none_12 rfl (Or.inl ⟨_, rfl⟩) H
    · cases e9
  · rintro q9 h9 (⟨v9, e9, -⟩ | ⟨ci9, q8, e9, gl, ⟨fs9, gq⟩, hx⟩)
    · cases e9
    · cases e9
      rcases Hx ci9 q9 h9 hx with rfl
      · have H := Hx10 q9 h9 fs9 hx gq gl
        exact ex_out (r := (RX10, TX10, 6)) (fun z hz => absurd hz List.not_mem_nil) gq rfl gl H
theorem en_X7_none {l : Launch} {lo : Nat} {G : eG} {d : Nat} {P : eO → eH → Prop} (a0 : Nat) {h : eH} {k n : Nat} (H : h_X7_none_0 (l, lo, G, d, P) a0 h k n) : Ct l lo G d mX7_none [.ref a0] h k n P := 
  Ct_of (eArL mX7_none.2.2.2.1 [.ref a0]) (by decide) rfl (Nat.le_of_ble_eq_true rfl) (fun j w q => eArL_mem j w q) (E.less2 H (eS_s eS_0))
/-! X7_thing TroupeSums$Reader.thing()LTroupeSums$Sum; -/
def h_X7_thing_0 (c : cC) (a0 : Nat) (h : eH) (k n : Nat) : Prop := E c.1 c.2.1 c.2.2.1 c.2.2.2.1 mX7_thing c.2.2.2.2 0 [some (.ref a0), none] [] h k n
def h_X7_thing_172 (c : cC) (a0 : Nat) (a1 : Nat) (h : eH) (k n : Nat) : Prop := E c.1 c.2.1 c.2.2.1 c.2.2.2.1 mX7_thing c.2.2.2.2 172 [some (.ref a0), some (.ref a1)] [] h k n
set_option maxHeartbeats 4000000 in
theorem s_X7_thing_0 (c : cC) (a0 : Nat) (h : eH) (k n : Nat) (H : ∃ fs8 : List Value, h.1 a0 = some (.inr (7, fs8)) ∧ ∃ (d4 k5 n6 : Nat) (Q7 : Int32 → eH → Prop), cI c.1 c.2.1 c.2.2.1 d4 mX7_isSign [.ref a0, .int (40 : Int32)] h k5 n6 Q7 cX0 ∧ d4 + 1 ≤ c.2.2.2.1 ∧ k5 ≤ k ∧ n6 ≤ n ∧ (∀ (r1 : Int32) (h2 : eH), Q7 r1 h2 → ((r1 = 0 → ∃ x9 : Int32, fV h2 a0 7 4 (.int x9) ∧ ((¬ x9 = (2 : Int32) → ∃ fs8 : List Value, h2.1 a0 = some (.inr (7, fs8)) ∧ ∃ (d15 k16 n17 : Nat) (Q18 : Int32 → eH → Prop), cI c.1 c.2.1 c.2.2.1 d15 mX7_isName [.ref a0] h2 k16 n17 Q18 cX0 ∧ d15 + 1 ≤ c.2.2.2.1 ∧ k16 ≤ k - k5 ∧ n17 ≤ n - n6 ∧ (∀ (r12 : Int32) (h13 : eH), Q18 r12 h13 → ((r12 = 0 → ∃ fs8 : List Value, h13.1 a0 = some (.inr (7, fs8)) ∧ ∃ (d23 k24 n25 : Nat) (Q26 : eH → Prop), cV c.1 c.2.1 c.2.2.1 d23 mX7_next [.ref a0] h13 k24 n25 Q26 cX0 ∧ d23 + 1 ≤ c.2.2.2.1 ∧ k24 ≤ k - k5 - k16 ∧ n25 ≤ n - n6 - n17 ∧ (∀ h21 : eH, Q26 h21 → (∃ x27 : Nat, fV h21 a0 7 7 (.ref x27) ∧ (∃ x29 : Option Nat, fV h21 x27 1 2 (va_rf x29) ∧ (∃ x31 : Nat, fV h21 a0 7 7 (.ref x31) ∧ (∃ x33 : Option Nat, fV h21 x31 1 2 (va_rf x33) ∧ (∃ o35 : Nat, x33 = some o35 ∧ ∃ x36 : Nat, fV h21 o35 3 5 (.ref x36) ∧ (∃ fs8 : List Value, h21.1 x36 = some (.inr (15, fs8)) ∧ ∃ (d41 k42 n43 : Nat) (Q44 : Int32 → eH → Prop), cI c.1 c.2.1 c.2.2.1 d41 mJ2_size [.ref x36] h21 k42 n43 Q44 cX0 ∧ d41 + 1 ≤ c.2.2.2.1 ∧ k42 ≤ k - k5 - k16 - k24 ∧ n43 ≤ n - n6 - n17 - n25 ∧ (∀ (r38 : Int32) (h39 : eH), Q44 r38 h39 → (∃ fs8 : List Value, h39.1 a0 = some (.inr (7, fs8)) ∧ ∃ (d48 k49 n50 : Nat) (Q51 : Int32 → eH → Prop) (X62 : Nat → Nat → eH → Prop), cI c.1 c.2.1 c.2.2.1 d48 mX7_number [.ref a0, .int (r38 - (1 : Int32))] h39 k49 n50 Q51 X62 ∧ d48 + 1 ≤ c.2.2.2.1 ∧ k49 ≤ k - k5 - k16 - k24 - k42 ∧ n50 ≤ n - n6 - n17 - n25 - n43 ∧ (∀ (r45 : Int32) (h46 : eH), Q51 r45 h46 → (∃ (d55 k56 n57 : Nat) (Q58 : Nat → eH → Prop) (X59 : Nat → Nat → eH → Prop), cR c.1 c.2.1 c.2.2.1 d55 mX9_of [va_rf x29, .int r45, .long (1 : Int64)] h46 k56 n57 Q58 X59 ∧ d55 + 1 ≤ c.2.2.2.1 ∧ k56 ≤ k - k5 - k16 - k24 - k42 - k49 ∧ n57 ≤ n - n6 - n17 - n25 - n43 - n50 ∧ (∀ (r52 : Nat) (h53 : eH), Q58 r52 h53 → (h_X7_thing_172 c a0 r52 h53 (k - k5 - k16 - k24 - k42 - k49 - k56) (n - n6 - n17 - n25 - n43 - n50 - n57))) ∧ (∀ (ci q : Nat) (h9 : eH), X59 ci q h9 → ci = 10) ∧ (∀ (q60 : Nat) (h61 : eH) (fs9 : List Value), X59 10 q60 h61 → h61.1 q60 = some (.inr (10, fs9)) → c.2.1 ≤ q60 → c.2.2.2.2 (.inr q60) h61))) ∧ (∀ (ci q : Nat) (h9 : eH), X62 ci q h9 → ci = 8) ∧ (∀ (q63 : Nat) (h64 : eH) (fs9 : List Value), X62 8 q63 h64 → h64.1 q63 = some (.inr (8, fs9)) → c.2.1 ≤ q63 → c.2.2.2.2 (.inr q63) h64))))))))))) ∧ (¬ r12 = 0 → ∃ x65 : Nat, fV h13 a0 7 7 (.ref x65) ∧ (∃ x67 : Nat, fV h13 x65 1 4 (.ref x67) ∧ (∃ x69 : Nat, fV h13 a0 7 7 (.ref x69) ∧ (∃ x71 : Nat, fV h13 x69 1 3 (.ref x71) ∧ (∃ fs8 : List Value, h13.1 a0 = some (.inr (7, fs8)) ∧ ∃ (d76 k77 n78 : Nat) (Q79 : Nat → eH → Prop), cR c.1 c.2.1 c.2.2.1 d76 mX7_word [.ref a0] h13 k77 n78 Q79 cX0 ∧ d76 + 1 ≤ c.2.2.2.1 ∧ k77 ≤ k - k5 - k16 ∧ n78 ≤ n - n6 - n17 ∧ (∀ (r73 : Nat) (h74 : eH), Q79 r73 h74 → (∃ fs8 : List Value, h74.1 x71 = some (.inr (15, fs8)) ∧ ∃ (d83 k84 n85 : Nat) (Q86 : Int32 → eH → Prop), cI c.1 c.2.1 c.2.2.1 d83 mJ2_indexOf [.ref x71, .ref r73] h74 k84 n85 Q86 cX0 ∧ d83 + 1 ≤ c.2.2.2.1 ∧ k84 ≤ k - k5 - k16 - k77 ∧ n85 ≤ n - n6 - n17 - n78 ∧ (∀ (r80 : Int32) (h81 : eH), Q86 r80 h81 → (∃ fs8 : List Value, h81.1 x67 = some (.inr (15, fs8)) ∧ ∃ (d90 k91 n92 : Nat) (Q93 : Nat → eH → Prop), cR c.1 c.2.1 c.2.2.1 d90 mJ2_get [.ref x67, .int r80] h81 k91 n92 Q93 cX0 ∧ d90 + 1 ≤ c.2.2.2.1 ∧ k91 ≤ k - k5 - k16 - k77 - k84 ∧ n92 ≤ n - n6 - n17 - n78 - n85 ∧ (∀ (r87 : Nat) (h88 : eH), Q93 r87 h88 → (eCs c.2.2.1 h88 r87 "TroupeSums$Sum" ∧ (h_X7_thing_172 c a0 r87 h88 (k - k5 - k16 - k77 - k84 - k91) (n - n6 - n17 - n78 - n85 - n92)))))))))))))))) ∧ (x9 = (2 : Int32) → ∃ x95 : Nat, fV h2 a0 7 7 (.ref x95) ∧ (∃ x97 : Option Nat, fV h2 x95 1 2 (va_rf x97) ∧ (∃ x99 : Nat, fV h2 a0 7 7 (.ref x99) ∧ (∃ x101 : Option Nat, fV h2 x99 1 2 (va_rf x101) ∧ (∃ o103 : Nat, x101 = some o103 ∧ ∃ x104 : Nat, fV h2 o103 3 5 (.ref x104) ∧ (∃ fs8 : List Value, h2.1 x104 = some (.inr (15, fs8)) ∧ ∃ (d109 k110 n111 : Nat) (Q112 : Int32 → eH → Prop), cI c.1 c.2.1 c.2.2.1 d109 mJ2_size [.ref x104] h2 k110 n111 Q112 cX0 ∧ d109 + 1 ≤ c.2.2.2.1 ∧ k110 ≤ k - k5 ∧ n111 ≤ n - n6 ∧ (∀ (r106 : Int32) (h107 : eH), Q112 r106 h107 → (∃ fs8 : List Value, h107.1 a0 = some (.inr (7, fs8)) ∧ ∃ (d116 k117 n118 : Nat) (Q119 : Int32 → eH → Prop) (X130 : Nat → Nat → eH → Prop), cI c.1 c.2.1 c.2.2.1 d116 mX7_number [.ref a0, .int (999 : Int32)] h107 k117 n118 Q119 X130 ∧ d116 + 1 ≤ c.2.2.2.1 ∧ k117 ≤ k - k5 - k110 ∧ n118 ≤ n - n6 - n111 ∧ (∀ (r113 : Int32) (h114 : eH), Q119 r113 h114 → (∃ (d123 k124 n125 : Nat) (Q126 : Nat → eH → Prop) (X127 : Nat → Nat → eH → Prop), cR c.1 c.2.1 c.2.2.1 d123 mX9_of [va_rf x97, .int (r106 - (1 : Int32)), .long r113.toInt64] h114 k124 n125 Q126 X127 ∧ d123 + 1 ≤ c.2.2.2.1 ∧ k124 ≤ k - k5 - k110 - k117 ∧ n125 ≤ n - n6 - n111 - n118 ∧ (∀ (r120 : Nat) (h121 : eH), Q126 r120 h121 → (h_X7_thing_172 c a0 r120 h121 (k - k5 - k110 - k117 - k124) (n - n6 - n111 - n118 - n125))) ∧ (∀ (ci q : Nat) (h9 : eH), X127 ci q h9 → ci = 10) ∧ (∀ (q128 : Nat) (h129 : eH) (fs9 : List Value), X127 10 q128 h129 → h129.1 q128 = some (.inr (10, fs9)) → c.2.1 ≤ q128 → c.2.2.2.2 (.inr q128) h129))) ∧ (∀ (ci q : Nat) (h9 : eH), X130 ci q h9 → ci = 8) ∧ (∀ (q131 : Nat) (h132 : eH) (fs9 : List Value), X130 8 q131 h132 → h132.1 q131 = some (.inr (8, fs9)) → c.2.1 ≤ q131 → c.2.2.2.2 (.inr q131) h132))))))))))) ∧ (¬ r1 = 0 → ∃ fs8 : List Value, h2.1 a0 = some (.inr (7, fs8)) ∧ ∃ (d136 k137 n138 : Nat) (Q139 : eH → Prop), cV c.1 c.2.1 c.2.2.1 d136 mX7_next [.ref a0] h2 k137 n138 Q139 cX0 ∧ d136 + 1 ≤ c.2.2.2.1 ∧ k137 ≤ k - k5 ∧ n138 ≤ n - n6 ∧ (∀ h134 : eH, Q139 h134 → (∃ x140 : Int32, fV h134 a0 7 6 (.int x140) ∧ (∃ fs142 : List Value, h134.1 a0 = some (.inr (7, fs142)) ∧ c.2.1 ≤ a0 ∧ 6 < fs142.length ∧ ∀ h144 : eH, h144 = eUp h134 a0 (.inr (7, fs142.set 6 (.int (x140 + (1 : Int32))))) → (∃ fs8 : List Value, h144.1 a0 = some (.inr (7, fs8)) ∧ ∃ (d148 k149 n150 : Nat) (Q151 : Nat → eH → Prop) (X167 : Nat → Nat → eH → Prop), cR c.1 c.2.1 c.2.2.1 d148 mX7_any [.ref a0] h144 k149 n150 Q151 X167 ∧ d148 + 1 ≤ c.2.2.2.1 ∧ k149 ≤ k - k5 - k137 ∧ n150 ≤ n - n6 - n138 ∧ (∀ (r145 : Nat) (h146 : eH), Q151 r145 h146 → (∃ x152 : Int32, fV h146 a0 7 6 (.int x152) ∧ (∃ fs154 : List Value, h146.1 a0 = some (.inr (7, fs154)) ∧ c.2.1 ≤ a0 ∧ 6 < fs154.length ∧ ∀ h156 : eH, h156 = eUp h146 a0 (.inr (7, fs154.set 6 (.int (x152 - (1 : Int32))))) → (∃ fs8 : List Value, h156.1 a0 = some (.inr (7, fs8)) ∧ ∃ (d160 k161 n162 : Nat) (Q163 : eH → Prop) (X164 : Nat → Nat → eH → Prop), cV c.1 c.2.1 c.2.2.1 d160 mX7_sign [.ref a0, .int (41 : Int32)] h156 k161 n162 Q163 X164 ∧ d160 + 1 ≤ c.2.2.2.1 ∧ k161 ≤ k - k5 - k137 - k149 ∧ n162 ≤ n - n6 - n138 - n150 ∧ (∀ h158 : eH, Q163 h158 → (c.2.2.2.2 (.inl (some (.ref r145))) h158)) ∧ (∀ (ci q : Nat) (h9 : eH), X164 ci q h9 → ci = 8) ∧ (∀ (q165 : Nat) (h166 : eH) (fs9 : List Value), X164 8 q165 h166 → h166.1 q165 = some (.inr (8, fs9)) → c.2.1 ≤ q165 → c.2.2.2.2 (.inr q165) h166))))) ∧ (∀ (ci q : Nat) (h9 : eH), X167 ci q h9 → ci = 8 ∨ ci = 10) ∧ (∀ (q168 : Nat) (h169 : eH) (fs9 : List Value), X167 8 q168 h169 → h169.1 q168 = some (.inr (8, fs9)) → c.2.1 ≤ q168 → c.2.2.2.2 (.inr q168) h169) ∧ (∀ (q170 : Nat) (h171 : eH) (fs9 : List Value), X167 10 q170 h171 → h171.1 q170 = some (.inr (10, fs9)) → c.2.1 ≤ q170 → c.2.2.2.2 (.inr q170) h171))))))))) : h_X7_thing_0 c a0 h k n := by
  refine e_aload_n dX7_thing_0 rfl ?_
  refine e_bipush (40) dX7_thing_1 (by decide) ?_
  obtain ⟨fsg3, g3o, H⟩ := H
  obtain ⟨d4, k5, n6, Q7, g3, g3d, g3k, g3n, H⟩ := H
  refine e_callV (r := (RX7, TX7, 11)) (As := [.int (40 : Int32)]) g3 dX7_thing_3 wX7_isSign q1653 q1655 qs27 g3o rfl rfl g3d rfl (Nat.le_of_ble_eq_true rfl) (k1 := k - k5) (n1 := n - n6) (by omega) (by omega) ?_ ?_
  · rintro v h2 (⟨v9, e9, r1, e8, hq⟩ | ⟨ci9, q9, e9, -⟩)
    · cases e9
      subst e8
      replace H := H r1 h2 hq
      refine e_if_eq 46 dX7_thing_6 (by decide) (fun g8 => ?_) (fun g8 => ?_)
      · replace H := H.1 g8
        refine e_aload_n dX7_thing_46 rfl ?_
        obtain ⟨x9, ⟨fsx9, g10, g10v⟩, H⟩ := H
        refine e_get dX7_thing_47 fX7_4 q1365 g10 g10v ?_
        refine e_iconst (2) dX7_thing_50 (by decide) ?_
        refine e_icmp_ne 93 dX7_thing_51 (by decide) (fun g11 => ?_) (fun g11 => ?_)
        · replace H := H.1 g11
          refine e_aload_n dX7_thing_93 rfl ?_
          obtain ⟨fsg14, g14o, H⟩ := H
          obtain ⟨d15, k16, n17, Q18, g14, g14d, g14k, g14n, H⟩ := H
          refine e_callV (r := (RX7, TX7, 11)) (As := []) g14 dX7_thing_94 wX7_isName q1693 q1695 qs32 g14o rfl rfl g14d rfl (Nat.le_of_ble_eq_true rfl) (k1 := k - k5 - k16) (n1 := n - n6 - n17) (by omega) (by omega) ?_ ?_
          · rintro v h13 (⟨v9, e9, r12, e8, hq⟩ | ⟨ci9, q9, e9, -⟩)
            · cases e9
              subst e8
              replace H := H r12 h13 hq
              refine e_if_eq 135 dX7_thing_97 (by decide) (fun g19 => ?_) (fun g19 => ?_)
              · replace H := H.1 g19
                refine e_aload_n dX7_thing_135 rfl ?_
                obtain ⟨fsg22, g22o, H⟩ := H
                obtain ⟨d23, k24, n25, Q26, g22, g22d, g22k, g22n, H⟩ := H
                refine e_callV (r := (RX7, TX7, 11)) (As := []) g22 dX7_thing_136 wX7_next q1291 q1293 qs17 g22o rfl rfl g22d rfl (Nat.le_of_ble_eq_true rfl) (k1 := k - k5 - k16 - k24) (n1 := n - n6 - n17 - n25) (by omega) (by omega) ?_ ?_
                · rintro v h21 (⟨v9, e9, e8, hq⟩ | ⟨ci9, q9, e9, -⟩)
                  · cases e9
                    subst e8
                    replace H := H h21 hq
                    refine e_aload_n dX7_thing_139 rfl ?_
                    obtain ⟨x27, ⟨fsx27, g28, g28v⟩, H⟩ := H
                    refine e_get dX7_thing_140 fX7_7 q1368 g28 g28v ?_
                    obtain ⟨x29, ⟨fsx29, g30, g30v⟩, H⟩ := H
                    refine e_getN dX7_thing_143 fX1_2 q239 g30 g30v ?_
                    refine e_aload_n dX7_thing_146 rfl ?_
                    refine e_aload_n dX7_thing_147 rfl ?_
                    obtain ⟨x31, ⟨fsx31, g32, g32v⟩, H⟩ := H
                    refine e_get dX7_thing_148 fX7_7 q1368 g32 g32v ?_
                    obtain ⟨x33, ⟨fsx33, g34, g34v⟩, H⟩ := H
                    refine e_getN dX7_thing_151 fX1_2 q239 g34 g34v ?_
                    obtain ⟨o35, eo35, H⟩ := H
                    subst eo35
                    obtain ⟨x36, ⟨fsx36, g37, g37v⟩, H⟩ := H
                    refine e_getN dX7_thing_154 fX3_5 q1195 g37 g37v ?_
                    obtain ⟨fsg40, g40o, H⟩ := H
                    obtain ⟨d41, k42, n43, Q44, g40, g40d, g40k, g40n, H⟩ := H
                    refine e_callF (i := 3) (r := (RJ2, TJ2, 3)) (As := []) g40 dX7_thing_157 wJ2_size rfl rfl q1686 q876 q874 g40o rfl rfl g40d rfl (show ((([.ref a0, va_rf x29] : List Value).map fun v => v.category).sum ≤ 8) from by simp only [List.map_cons, List.map_nil, List.sum_cons, List.sum_nil, eRfC, eCtI, eCtL, eCtR, eCtN]; decide) (k1 := k - k5 - k16 - k24 - k42) (n1 := n - n6 - n17 - n25 - n43) (by omega) (by omega) ?_ ?_
                    · rintro v h39 (⟨v9, e9, r38, e8, hq⟩ | ⟨ci9, q9, e9, -⟩)
                      · cases e9
                        subst e8
                        replace H := H r38 h39 hq
                        refine e_iconst (1) dX7_thing_162 (by decide) ?_
                        refine e_isub dX7_thing_163 ?_
                        obtain ⟨fsg47, g47o, H⟩ := H
                        obtain ⟨d48, k49, n50, Q51, X62, g47, g47d, g47k, g47n, H, Hx, Hx8⟩ := H
                        refine e_callV (r := (RX7, TX7, 11)) (As := [.int (r38 - (1 : Int32))]) g47 dX7_thing_164 wX7_number q1641 q1643 qs25 g47o rfl rfl g47d rfl (show ((([va_rf x29] : List Value).map fun v => v.category).sum ≤ 8) from by simp only [List.map_cons, List.map_nil, List.sum_cons, List.sum_nil, eRfC, eCtI, eCtL, eCtR, eCtN]; decide) (k1 := k - k5 - k16 - k24 - k42 - k49) (n1 := n - n6 - n17 - n25 - n43 - n50) (by omega) (by omega) ?_ ?_
                        · rintro v h46 (⟨v9, e9, r45, e8, hq⟩ | ⟨ci9, q9, e9, -⟩)
                          · cases e9
                            subst e8
                            replace H := H r45 h46 hq
                            refine e_lconst 1 dX7_thing_167 (by decide) ?_
                            obtain ⟨d55, k56, n57, Q58, X59, g54, g54d, g54k, g54n, H, Hx, Hx10⟩ := H
                            refine e_callS (As := [va_rf x29, .int r45, .long (1 : Int64)]) g54 dX7_thing_168 wX9_of q1774 q1775 rfl g54d rfl (Nat.le_of_ble_eq_true rfl) (k1 := k - k5 - k16 - k24 - k42 - k49 - k56) (n1 := n - n6 - n17 - n25 - n43 - n50 - n57) (by omega) (by omega) ?_ ?_
                            · rintro v h53 (⟨v9, e9, r52, e8, hq⟩ | ⟨ci9, q9, e9, -⟩)
                              · cases e9
                                subst e8
                                replace H := H r52 h53 hq
                                refine e_astore_n _ dX7_thing_171 (by decide) rfl rfl ?_
                                exact E.less2 H (eS_s (eS_s eS_0))
                              · cases e9
                            · rintro q9 h9 (⟨v9, e9, -⟩ | ⟨ci9, q8, e9, gl, ⟨fs9, gq⟩, hx⟩)
                              · cases e9
                              · cases e9
                                rcases Hx ci9 q9 h9 hx with rfl
                                · have H := Hx10 q9 h9 fs9 hx gq gl
                                  exact ex_out (r := (RX10, TX10, 6)) (fun z hz => absurd hz List.not_mem_nil) gq rfl gl H
                          · cases e9
                        · rintro q9 h9 (⟨v9, e9, -⟩ | ⟨ci9, q8, e9, gl, ⟨fs9, gq⟩, hx⟩)
                          · cases e9
                          · cases e9
                            rcases Hx ci9 q9 h9 hx with rfl
                            · have H := Hx8 q9 h9 fs9 hx gq gl
                              exact ex_out (r := (RX8, TX8, 8)) (fun z hz => absurd hz List.not_mem_nil) gq rfl gl H
                      · cases e9
                    · rintro q9 h9 (⟨v9, e9, -⟩ | ⟨ci9, q8, e9, -, -, hx⟩)
                      · cases e9
                      · exact hx.elim
                  · cases e9
                · rintro q9 h9 (⟨v9, e9, -⟩ | ⟨ci9, q8, e9, -, -, hx⟩)
                  · cases e9
                  · exact hx.elim
              · replace H := H.2 g19
                refine e_aload_n dX7_thing_100 rfl ?_
                obtain ⟨x65, ⟨fsx65, g66, g66v⟩, H⟩ := H
                refine e_get dX7_thing_101 fX7_7 q1368 g66 g66v ?_
                obtain ⟨x67, ⟨fsx67, g68, g68v⟩, H⟩ := H
                refine e_getN dX7_thing_104 fX1_4 q244 g68 g68v ?_
                refine e_aload_n dX7_thing_107 rfl ?_
                obtain ⟨x69, ⟨fsx69, g70, g70v⟩, H⟩ := H
                refine e_get dX7_thing_108 fX7_7 q1368 g70 g70v ?_
                obtain ⟨x71, ⟨fsx71, g72, g72v⟩, H⟩ := H
                refine e_getN dX7_thing_111 fX1_3 q241 g72 g72v ?_
                refine e_aload_n dX7_thing_114 rfl ?_
                obtain ⟨fsg75, g75o, H⟩ := H
                obtain ⟨d76, k77, n78, Q79, g75, g75d, g75k, g75n, H⟩ := H
                refine e_callV (r := (RX7, TX7, 11)) (As := []) g75 dX7_thing_115 wX7_word q1406 q1408 qs21 g75o rfl rfl g75d rfl (Nat.le_of_ble_eq_true rfl) (k1 := k - k5 - k16 - k77) (n1 := n - n6 - n17 - n78) (by omega) (by omega) ?_ ?_
                · rintro v h74 (⟨v9, e9, r73, e8, hq⟩ | ⟨ci9, q9, e9, -⟩)
                  · cases e9
                    subst e8
                    replace H := H r73 h74 hq
                    obtain ⟨fsg82, g82o, H⟩ := H
                    obtain ⟨d83, k84, n85, Q86, g82, g82d, g82k, g82n, H⟩ := H
                    refine e_callF (i := 8) (r := (RJ2, TJ2, 3)) (As := [.ref r73]) g82 dX7_thing_118 wJ2_indexOf rfl rfl q1838 q949 q1841 g82o rfl rfl g82d rfl (Nat.le_of_ble_eq_true rfl) (k1 := k - k5 - k16 - k77 - k84) (n1 := n - n6 - n17 - n78 - n85) (by omega) (by omega) ?_ ?_
                    · rintro v h81 (⟨v9, e9, r80, e8, hq⟩ | ⟨ci9, q9, e9, -⟩)
                      · cases e9
                        subst e8
                        replace H := H r80 h81 hq
                        obtain ⟨fsg89, g89o, H⟩ := H
                        obtain ⟨d90, k91, n92, Q93, g89, g89d, g89k, g89n, H⟩ := H
                        refine e_callF (i := 4) (r := (RJ2, TJ2, 3)) (As := [.int r80]) g89 dX7_thing_123 wJ2_get rfl rfl q1845 q887 q885 g89o rfl rfl g89d rfl (Nat.le_of_ble_eq_true rfl) (k1 := k - k5 - k16 - k77 - k84 - k91) (n1 := n - n6 - n17 - n78 - n85 - n92) (by omega) (by omega) ?_ ?_
                        · rintro v h88 (⟨v9, e9, r87, e8, hq⟩ | ⟨ci9, q9, e9, -⟩)
                          · cases e9
                            subst e8
                            replace H := H r87 h88 hq
                            obtain ⟨g94, H⟩ := H
                            refine c_castR dX7_thing_128 q1846 g94 ?_
                            refine e_astore_n _ dX7_thing_131 (by decide) rfl rfl ?_
                            refine e_goto 172 dX7_thing_132 (by decide) ?_
                            exact E.less2 H (eS_s (eS_s eS_0))
                          · cases e9
                        · rintro q9 h9 (⟨v9, e9, -⟩ | ⟨ci9, q8, e9, -, -, hx⟩)
                          · cases e9
                          · exact hx.elim
                      · cases e9
                    · rintro q9 h9 (⟨v9, e9, -⟩ | ⟨ci9, q8, e9, -, -, hx⟩)
                      · cases e9
                      · exact hx.elim
                  · cases e9
                · rintro q9 h9 (⟨v9, e9, -⟩ | ⟨ci9, q8, e9, -, -, hx⟩)
                  · cases e9
                  · exact hx.elim
            · cases e9
          · rintro q9 h9 (⟨v9, e9, -⟩ | ⟨ci9, q8, e9, -, -, hx⟩)
            · cases e9
            · exact hx.elim
        · replace H := H.2 g11
          refine e_aload_n dX7_thing_54 rfl ?_
          obtain ⟨x95, ⟨fsx95, g96, g96v⟩, H⟩ := H
          refine e_get dX7_thing_55 fX7_7 q1368 g96 g96v ?_
          obtain ⟨x97, ⟨fsx97, g98, g98v⟩, H⟩ := H
          refine e_getN dX7_thing_58 fX1_2 q239 g98 g98v ?_
          refine e_aload_n dX7_thing_61 rfl ?_
          obtain ⟨x99, ⟨fsx99, g100, g100v⟩, H⟩ := H
          refine e_get dX7_thing_62 fX7_7 q1368 g100 g100v ?_
          obtain ⟨x101, ⟨fsx101, g102, g102v⟩, H⟩ := H
          refine e_getN dX7_thing_65 fX1_2 q239 g102 g102v ?_
          obtain ⟨o103, eo103, H⟩ := H
          subst eo103
          obtain ⟨x104, ⟨fsx104, g105, g105v⟩, H⟩ := H
          refine e_getN dX7_thing_68 fX3_5 q1195 g105 g105v ?_
          obtain ⟨fsg108, g108o, H⟩ := H
          obtain ⟨d109, k110, n111, Q112, g108, g108d, g108k, g108n, H⟩ := H
          refine e_callF (i := 3) (r := (RJ2, TJ2, 3)) (As := []) g108 dX7_thing_71 wJ2_size rfl rfl q1686 q876 q874 g108o rfl rfl g108d rfl (show ((([va_rf x97] : List Value).map fun v => v.category).sum ≤ 8) from by simp only [List.map_cons, List.map_nil, List.sum_cons, List.sum_nil, eRfC, eCtI, eCtL, eCtR, eCtN]; decide) (k1 := k - k5 - k110) (n1 := n - n6 - n111) (by omega) (by omega) ?_ ?_
          · rintro v h107 (⟨v9, e9, r106, e8, hq⟩ | ⟨ci9, q9, e9, -⟩)
            · cases e9
              subst e8
              replace H := H r106 h107 hq
              refine e_iconst (1) dX7_thing_76 (by decide) ?_
              refine e_isub dX7_thing_77 ?_
              refine e_aload_n dX7_thing_78 rfl ?_
              refine e_sipush (999) dX7_thing_79 (by decide) ?_
              obtain ⟨fsg115, g115o, H⟩ := H
              obtain ⟨d116, k117, n118, Q119, X130, g115, g115d, g115k, g115n, H, Hx, Hx8⟩ := H
              refine e_callV (r := (RX7, TX7, 11)) (As := [.int (999 : Int32)]) g115 dX7_thing_82 wX7_number q1641 q1643 qs25 g115o rfl rfl g115d rfl (show ((([.int (r106 - (1 : Int32)), va_rf x97] : List Value).map fun v => v.category).sum ≤ 8) from by simp only [List.map_cons, List.map_nil, List.sum_cons, List.sum_nil, eRfC, eCtI, eCtL, eCtR, eCtN]; decide) (k1 := k - k5 - k110 - k117) (n1 := n - n6 - n111 - n118) (by omega) (by omega) ?_ ?_
              · rintro v h114 (⟨v9, e9, r113, e8, hq⟩ | ⟨ci9, q9, e9, -⟩)
                · cases e9
                  subst e8
                  replace H := H r113 h114 hq
                  refine e_i2l dX7_thing_85 ?_
                  obtain ⟨d123, k124, n125, Q126, X127, g122, g122d, g122k, g122n, H, Hx, Hx10⟩ := H
                  refine e_callS (As := [va_rf x97, .int (r106 - (1 : Int32)), .long r113.toInt64]) g122 dX7_thing_86 wX9_of q1774 q1775 rfl g122d rfl (Nat.le_of_ble_eq_true rfl) (k1 := k - k5 - k110 - k117 - k124) (n1 := n - n6 - n111 - n118 - n125) (by omega) (by omega) ?_ ?_
                  · rintro v h121 (⟨v9, e9, r120, e8, hq⟩ | ⟨ci9, q9, e9, -⟩)
                    · cases e9
                      subst e8
                      replace H := H r120 h121 hq
                      refine e_astore_n _ dX7_thing_89 (by decide) rfl rfl ?_
                      refine e_goto 172 dX7_thing_90 (by decide) ?_
                      exact E.less2 H (eS_s (eS_s eS_0))
                    · cases e9
                  · rintro q9 h9 (⟨v9, e9, -⟩ | ⟨ci9, q8, e9, gl, ⟨fs9, gq⟩, hx⟩)
                    · cases e9
                    · cases e9
                      rcases Hx ci9 q9 h9 hx with rfl
                      · have H := Hx10 q9 h9 fs9 hx gq gl
                        exact ex_out (r := (RX10, TX10, 6)) (fun z hz => absurd hz List.not_mem_nil) gq rfl gl H
                · cases e9
              · rintro q9 h9 (⟨v9, e9, -⟩ | ⟨ci9, q8, e9, gl, ⟨fs9, gq⟩, hx⟩)
                · cases e9
                · cases e9
                  rcases Hx ci9 q9 h9 hx with rfl
                  · have H := Hx8 q9 h9 fs9 hx gq gl
                    exact ex_out (r := (RX8, TX8, 8)) (fun z hz => absurd hz List.not_mem_nil) gq rfl gl H
            · cases e9
          · rintro q9 h9 (⟨v9, e9, -⟩ | ⟨ci9, q8, e9, -, -, hx⟩)
            · cases e9
            · exact hx.elim
      · replace H := H.2 g8
        refine e_aload_n dX7_thing_9 rfl ?_
        obtain ⟨fsg135, g135o, H⟩ := H
        obtain ⟨d136, k137, n138, Q139, g135, g135d, g135k, g135n, H⟩ := H
        refine e_callV (r := (RX7, TX7, 11)) (As := []) g135 dX7_thing_10 wX7_next q1291 q1293 qs17 g135o rfl rfl g135d rfl (Nat.le_of_ble_eq_true rfl) (k1 := k - k5 - k137) (n1 := n - n6 - n138) (by omega) (by omega) ?_ ?_
        · rintro v h134 (⟨v9, e9, e8, hq⟩ | ⟨ci9, q9, e9, -⟩)
          · cases e9
            subst e8
            replace H := H h134 hq
            refine e_aload_n dX7_thing_13 rfl ?_
            refine e_dup dX7_thing_14 rfl ?_
            obtain ⟨x140, ⟨fsx140, g141, g141v⟩, H⟩ := H
            refine e_get dX7_thing_15 fX7_6 q1367 g141 g141v ?_
            refine e_iconst (1) dX7_thing_18 (by decide) ?_
            refine e_iadd dX7_thing_19 ?_
            obtain ⟨fs142, g143, g143l, g143j, H⟩ := H
            refine e_put dX7_thing_20 fX7_6 q1367 (eFit_i _) g143 g143l g143j ?_
            replace H := H _ rfl
            generalize eUp h134 a0 _ = h144 at H ⊢
            refine e_aload_n dX7_thing_23 rfl ?_
            obtain ⟨fsg147, g147o, H⟩ := H
            obtain ⟨d148, k149, n150, Q151, X167, g147, g147d, g147k, g147n, H, Hx, Hx8, Hx10⟩ := H
            refine e_callV (r := (RX7, TX7, 11)) (As := []) g147 dX7_thing_24 wX7_any q1754 q1756 qs34 g147o rfl rfl g147d rfl (Nat.le_of_ble_eq_true rfl) (k1 := k - k5 - k137 - k149) (n1 := n - n6 - n138 - n150) (by omega) (by omega) ?_ ?_
            · rintro v h146 (⟨v9, e9, r145, e8, hq⟩ | ⟨ci9, q9, e9, -⟩)
              · cases e9
                subst e8
                replace H := H r145 h146 hq
                refine e_astore_n _ dX7_thing_27 (by decide) rfl rfl ?_
                refine e_aload_n dX7_thing_28 rfl ?_
                refine e_dup dX7_thing_29 rfl ?_
                obtain ⟨x152, ⟨fsx152, g153, g153v⟩, H⟩ := H
                refine e_get dX7_thing_30 fX7_6 q1367 g153 g153v ?_
                refine e_iconst (1) dX7_thing_33 (by decide) ?_
                refine e_isub dX7_thing_34 ?_
                obtain ⟨fs154, g155, g155l, g155j, H⟩ := H
                refine e_put dX7_thing_35 fX7_6 q1367 (eFit_i _) g155 g155l g155j ?_
                replace H := H _ rfl
                generalize eUp h146 a0 _ = h156 at H ⊢
                refine e_aload_n dX7_thing_38 rfl ?_
                refine e_bipush (41) dX7_thing_39 (by decide) ?_
                obtain ⟨fsg159, g159o, H⟩ := H
                obtain ⟨d160, k161, n162, Q163, X164, g159, g159d, g159k, g159n, H, Hx, Hx8⟩ := H
                refine e_callV (r := (RX7, TX7, 11)) (As := [.int (41 : Int32)]) g159 dX7_thing_41 wX7_sign q1649 q1651 qs26 g159o rfl rfl g159d rfl (Nat.le_of_ble_eq_true rfl) (k1 := k - k5 - k137 - k149 - k161) (n1 := n - n6 - n138 - n150 - n162) (by omega) (by omega) ?_ ?_
                · rintro v h158 (⟨v9, e9, e8, hq⟩ | ⟨ci9, q9, e9, -⟩)
                  · cases e9
                    subst e8
                    replace H := H h158 hq
                    refine e_aload_n dX7_thing_44 rfl ?_
                    exact e_areturn (r := some r145) _ dX7_thing_45 rfl (Or.inl ⟨_, rfl⟩) H
                  · cases e9
                · rintro q9 h9 (⟨v9, e9, -⟩ | ⟨ci9, q8, e9, gl, ⟨fs9, gq⟩, hx⟩)
                  · cases e9
                  · cases e9
                    rcases Hx ci9 q9 h9 hx with rfl
                    · have H := Hx8 q9 h9 fs9 hx gq gl
                      exact ex_out (r := (RX8, TX8, 8)) (fun z hz => absurd hz List.not_mem_nil) gq rfl gl H
              · cases e9
            · rintro q9 h9 (⟨v9, e9, -⟩ | ⟨ci9, q8, e9, gl, ⟨fs9, gq⟩, hx⟩)
              · cases e9
              · cases e9
                rcases Hx ci9 q9 h9 hx with rfl | rfl
                · have H := Hx8 q9 h9 fs9 hx gq gl
                  exact ex_out (r := (RX8, TX8, 8)) (fun z hz => absurd hz List.not_mem_nil) gq rfl gl H
                · have H := Hx10 q9 h9 fs9 hx gq gl
                  exact ex_out (r := (RX10, TX10, 6)) (fun z hz => absurd hz List.not_mem_nil) gq rfl gl H
          · cases e9
        · rintro q9 h9 (⟨v9, e9, -⟩ | ⟨ci9, q8, e9, -, -, hx⟩)
          · cases e9
          · exact hx.elim
    · cases e9
  · rintro q9 h9 (⟨v9, e9, -⟩ | ⟨ci9, q8, e9, -, -, hx⟩)
    · cases e9
    · exact hx.elim
set_option maxHeartbeats 4000000 in
theorem s_X7_thing_172 (c : cC) (a0 : Nat) (a1 : Nat) (h : eH) (k n : Nat) (H : ∃ fs8 : List Value, h.1 a0 = some (.inr (7, fs8)) ∧ ∃ (d4 k5 n6 : Nat) (Q7 : eH → Prop), cV c.1 c.2.1 c.2.2.1 d4 mX7_next [.ref a0] h k5 n6 Q7 cX0 ∧ d4 + 1 ≤ c.2.2.2.1 ∧ k5 ≤ k ∧ n6 ≤ n ∧ (∀ h2 : eH, Q7 h2 → (c.2.2.2.2 (.inl (some (.ref a1))) h2))) : h_X7_thing_172 c a0 a1 h k n := by
  refine e_aload_n dX7_thing_172 rfl ?_
  obtain ⟨fsg3, g3o, H⟩ := H
  obtain ⟨d4, k5, n6, Q7, g3, g3d, g3k, g3n, H⟩ := H
  refine e_callV (r := (RX7, TX7, 11)) (As := []) g3 dX7_thing_173 wX7_next q1291 q1293 qs17 g3o rfl rfl g3d rfl (Nat.le_of_ble_eq_true rfl) (k1 := k - k5) (n1 := n - n6) (by omega) (by omega) ?_ ?_
  · rintro v h2 (⟨v9, e9, e8, hq⟩ | ⟨ci9, q9, e9, -⟩)
    · cases e9
      subst e8
      replace H := H h2 hq
      refine e_aload_n dX7_thing_176 rfl ?_
      exact e_areturn (r := some a1) _ dX7_thing_177 rfl (Or.inl ⟨_, rfl⟩) H
    · cases e9
  · rintro q9 h9 (⟨v9, e9, -⟩ | ⟨ci9, q8, e9, -, -, hx⟩)
    · cases e9
    · exact hx.elim
theorem en_X7_thing {l : Launch} {lo : Nat} {G : eG} {d : Nat} {P : eO → eH → Prop} (a0 : Nat) {h : eH} {k n : Nat} (H : h_X7_thing_0 (l, lo, G, d, P) a0 h k n) : Ct l lo G d mX7_thing [.ref a0] h k n P := 
  Ct_of (eArL mX7_thing.2.2.2.1 [.ref a0]) (by decide) rfl (Nat.le_of_ble_eq_true rfl) (fun j w q => eArL_mem j w q) (E.less2 H (eS_s (eS_n eS_0)))
/-! X7_skips TroupeSums$Reader.skips()V -/
def h_X7_skips_0 (c : cC) (a0 : Nat) (h : eH) (k n : Nat) : Prop := E c.1 c.2.1 c.2.2.1 c.2.2.2.1 mX7_skips c.2.2.2.2 0 [some (.ref a0), none] [] h k n
set_option maxHeartbeats 4000000 in
theorem s_X7_skips_0 (c : cC) (a0 : Nat) (h : eH) (k n : Nat) (H : ∃ x1 : Int32, fV h a0 7 10 (.int x1) ∧ (∃ fs3 : List Value, h.1 a0 = some (.inr (7, fs3)) ∧ c.2.1 ≤ a0 ∧ 3 < fs3.length ∧ ∀ h5 : eH, h5 = eUp h a0 (.inr (7, fs3.set 3 (.int x1))) → (∃ fs8 : List Value, h5.1 a0 = some (.inr (7, fs8)) ∧ ∃ (d9 k10 n11 : Nat) (Q12 : eH → Prop), cV c.1 c.2.1 c.2.2.1 d9 mX7_next [.ref a0] h5 k10 n11 Q12 cX0 ∧ d9 + 1 ≤ c.2.2.2.1 ∧ k10 ≤ k ∧ n11 ≤ n ∧ (∀ h7 : eH, Q12 h7 → (∃ fs13 : List Value, h7.1 a0 = some (.inr (7, fs13)) ∧ c.2.1 ≤ a0 ∧ 5 < fs13.length ∧ ∀ h15 : eH, h15 = eUp h7 a0 (.inr (7, fs13.set 5 (.int (0 : Int32)))) → (∃ fs16 : List Value, h15.1 a0 = some (.inr (7, fs16)) ∧ c.2.1 ≤ a0 ∧ 6 < fs16.length ∧ ∀ h18 : eH, h18 = eUp h15 a0 (.inr (7, fs16.set 6 (.int (0 : Int32)))) → (∃ fs19 : List Value, h18.1 a0 = some (.inr (7, fs19)) ∧ c.2.1 ≤ a0 ∧ 9 < fs19.length ∧ ∀ h21 : eH, h21 = eUp h18 a0 (.inr (7, fs19.set 9 (.int (1 : Int32)))) → (∃ fs8 : List Value, h21.1 a0 = some (.inr (7, fs8)) ∧ ∃ (d25 k26 n27 : Nat) (Q28 : Nat → eH → Prop) (X29 : Nat → Nat → eH → Prop), cR c.1 c.2.1 c.2.2.1 d25 mX7_any [.ref a0] h21 k26 n27 Q28 X29 ∧ d25 + 1 ≤ c.2.2.2.1 ∧ k26 ≤ k - k10 ∧ n27 ≤ n - n11 ∧ (∀ (r22 : Nat) (h23 : eH), Q28 r22 h23 → (c.2.2.2.2 (.inl none) h23)) ∧ (∀ (ci q : Nat) (h9 : eH), X29 ci q h9 → ci = 8 ∨ ci = 10) ∧ (∀ (q30 : Nat) (h31 : eH) (fs9 : List Value), X29 8 q30 h31 → h31.1 q30 = some (.inr (8, fs9)) → c.2.1 ≤ q30 → c.2.2.2.2 (.inr q30) h31) ∧ (∀ (q32 : Nat) (h33 : eH) (fs9 : List Value), X29 10 q32 h33 → h33.1 q32 = some (.inr (10, fs9)) → c.2.1 ≤ q32 → c.2.2.2.2 (.inr q32) h33))))))))) : h_X7_skips_0 c a0 h k n := by
  refine e_aload_n dX7_skips_0 rfl ?_
  refine e_aload_n dX7_skips_1 rfl ?_
  obtain ⟨x1, ⟨fsx1, g2, g2v⟩, H⟩ := H
  refine e_get dX7_skips_2 fX7_10 q1371 g2 g2v ?_
  obtain ⟨fs3, g4, g4l, g4j, H⟩ := H
  refine e_put dX7_skips_5 fX7_3 q1364 (eFit_i _) g4 g4l g4j ?_
  replace H := H _ rfl
  generalize eUp h a0 _ = h5 at H ⊢
  refine e_aload_n dX7_skips_8 rfl ?_
  obtain ⟨fsg8, g8o, H⟩ := H
  obtain ⟨d9, k10, n11, Q12, g8, g8d, g8k, g8n, H⟩ := H
  refine e_callV (r := (RX7, TX7, 11)) (As := []) g8 dX7_skips_9 wX7_next q1291 q1293 qs17 g8o rfl rfl g8d rfl (Nat.le_of_ble_eq_true rfl) (k1 := k - k10) (n1 := n - n11) (by omega) (by omega) ?_ ?_
  · rintro v h7 (⟨v9, e9, e8, hq⟩ | ⟨ci9, q9, e9, -⟩)
    · cases e9
      subst e8
      replace H := H h7 hq
      refine e_aload_n dX7_skips_12 rfl ?_
      refine e_iconst (0) dX7_skips_13 (by decide) ?_
      obtain ⟨fs13, g14, g14l, g14j, H⟩ := H
      refine e_put dX7_skips_14 fX7_5 q1366 (eFit_i _) g14 g14l g14j ?_
      replace H := H _ rfl
      generalize eUp h7 a0 _ = h15 at H ⊢
      refine e_aload_n dX7_skips_17 rfl ?_
      refine e_iconst (0) dX7_skips_18 (by decide) ?_
      obtain ⟨fs16, g17, g17l, g17j, H⟩ := H
      refine e_put dX7_skips_19 fX7_6 q1367 (eFit_i _) g17 g17l g17j ?_
      replace H := H _ rfl
      generalize eUp h15 a0 _ = h18 at H ⊢
      refine e_aload_n dX7_skips_22 rfl ?_
      refine e_iconst (1) dX7_skips_23 (by decide) ?_
      obtain ⟨fs19, g20, g20l, g20j, H⟩ := H
      refine e_put dX7_skips_24 fX7_9 q1370 eFit_z1 g20 g20l g20j ?_
      replace H := H _ rfl
      generalize eUp h18 a0 _ = h21 at H ⊢
      refine e_aload_n dX7_skips_27 rfl ?_
      obtain ⟨fsg24, g24o, H⟩ := H
      obtain ⟨d25, k26, n27, Q28, X29, g24, g24d, g24k, g24n, H, Hx, Hx8, Hx10⟩ := H
      refine e_callV (r := (RX7, TX7, 11)) (As := []) g24 dX7_skips_28 wX7_any q1754 q1756 qs34 g24o rfl rfl g24d rfl (Nat.le_of_ble_eq_true rfl) (k1 := k - k10 - k26) (n1 := n - n11 - n27) (by omega) (by omega) ?_ ?_
      · rintro v h23 (⟨v9, e9, r22, e8, hq⟩ | ⟨ci9, q9, e9, -⟩)
        · cases e9
          subst e8
          replace H := H r22 h23 hq
          refine e_astore_n _ dX7_skips_31 (by decide) rfl rfl ?_
          exact e_return dX7_skips_32 rfl H
        · cases e9
      · rintro q9 h9 (⟨v9, e9, -⟩ | ⟨ci9, q8, e9, gl, ⟨fs9, gq⟩, hx⟩)
        · cases e9
        · cases e9
          rcases Hx ci9 q9 h9 hx with rfl | rfl
          · have H := Hx8 q9 h9 fs9 hx gq gl
            exact ex_out (r := (RX8, TX8, 8)) (fun z hz => absurd hz List.not_mem_nil) gq rfl gl H
          · have H := Hx10 q9 h9 fs9 hx gq gl
            exact ex_out (r := (RX10, TX10, 6)) (fun z hz => absurd hz List.not_mem_nil) gq rfl gl H
    · cases e9
  · rintro q9 h9 (⟨v9, e9, -⟩ | ⟨ci9, q8, e9, -, -, hx⟩)
    · cases e9
    · exact hx.elim
theorem en_X7_skips {l : Launch} {lo : Nat} {G : eG} {d : Nat} {P : eO → eH → Prop} (a0 : Nat) {h : eH} {k n : Nat} (H : h_X7_skips_0 (l, lo, G, d, P) a0 h k n) : Ct l lo G d mX7_skips [.ref a0] h k n P := 
  Ct_of (eArL mX7_skips.2.2.2.1 [.ref a0]) (by decide) rfl (Nat.le_of_ble_eq_true rfl) (fun j w q => eArL_mem j w q) (E.less2 H (eS_s (eS_n eS_0)))
/-! X7_alone TroupeSums$Reader.alone(LTroupeSums$Troupe;)LTroupeSums$Sum; -/
def h_X7_alone_0 (c : cC) (a0 : Nat) (a1 : Nat) (h : eH) (k n : Nat) : Prop := E c.1 c.2.1 c.2.2.1 c.2.2.2.1 mX7_alone c.2.2.2.2 0 [some (.ref a0), some (.ref a1), none, none, none] [] h k n
def h_X7_alone_17 (c : cC) (a0 : Nat) (a2 : Option Nat) (b0 : Nat) (h : eH) (k n : Nat) : Prop := E c.1 c.2.1 c.2.2.1 c.2.2.2.1 mX7_alone c.2.2.2.2 17 [some (.ref a0), none, some (va_rf a2), none, none] [.ref b0] h k n
def h_X7_alone_26 (c : cC) (a0 : Nat) (a2 : Option Nat) (a3 : Option Nat) (h : eH) (k n : Nat) : Prop := E c.1 c.2.1 c.2.2.1 c.2.2.2.1 mX7_alone c.2.2.2.2 26 [some (.ref a0), none, some (va_rf a2), some (va_rf a3), none] [] h k n
def h_X7_alone_39 (c : cC) (a2 : Option Nat) (a3 : Option Nat) (b0 : Int32) (b1 : Nat) (h : eH) (k n : Nat) : Prop := E c.1 c.2.1 c.2.2.1 c.2.2.2.1 mX7_alone c.2.2.2.2 39 [none, none, some (va_rf a2), some (va_rf a3), none] [.int b0, .ref b1] h k n
def h_X7_alone_51 (c : cC) (b0 : Nat) (h : eH) (k n : Nat) : Prop := E c.1 c.2.1 c.2.2.1 c.2.2.2.1 mX7_alone c.2.2.2.2 51 [none, none, none, none, none] [.ref b0] h k n
def h_X7_alone_70 (c : cC) (b0 : Nat) (h : eH) (k n : Nat) : Prop := E c.1 c.2.1 c.2.2.1 c.2.2.2.1 mX7_alone c.2.2.2.2 70 [none, none, none, none, none] [.ref b0] h k n
set_option maxHeartbeats 4000000 in
theorem s_X7_alone_0 (c : cC) (a0 : Nat) (a1 : Nat) (h : eH) (k n : Nat) (H : ∃ fs1 : List Value, h.1 a0 = some (.inr (7, fs1)) ∧ c.2.1 ≤ a0 ∧ 7 < fs1.length ∧ ∀ h3 : eH, h3 = eUp h a0 (.inr (7, fs1.set 7 (.ref a1))) → (∃ fs8 : List Value, h3.1 a0 = some (.inr (7, fs8)) ∧ ∃ (d7 k8 n9 : Nat) (Q10 : Nat → eH → Prop) (X11 : Nat → Nat → eH → Prop), cR c.1 c.2.1 c.2.2.1 d7 mX7_whole [.ref a0] h3 k8 n9 Q10 X11 ∧ d7 + 1 ≤ c.2.2.2.1 ∧ k8 ≤ k ∧ n9 ≤ n ∧ (∀ (r4 : Nat) (h5 : eH), Q10 r4 h5 → (h_X7_alone_26 c a0 (some r4) none h5 (k - k8) (n - n9))) ∧ (∀ (ci q : Nat) (h9 : eH), X11 ci q h9 → ci = 8 ∨ ci = 10) ∧ (∀ (q12 : Nat) (h13 : eH) (fs9 : List Value), X11 8 q12 h13 → h13.1 q12 = some (.inr (8, fs9)) → c.2.1 ≤ q12 → h_X7_alone_70 c q12 h13 (k - k8) (n - n9)) ∧ (∀ (q14 : Nat) (h15 : eH) (fs9 : List Value), X11 10 q14 h15 → h15.1 q14 = some (.inr (10, fs9)) → c.2.1 ≤ q14 → h_X7_alone_17 c a0 none q14 h15 (k - k8) (n - n9)))) : h_X7_alone_0 c a0 a1 h k n := by
  refine e_aload_n dX7_alone_0 rfl ?_
  refine e_aload_n dX7_alone_1 rfl ?_
  obtain ⟨fs1, g2, g2l, g2j, H⟩ := H
  refine e_put dX7_alone_2 fX7_7 q1368 (eFit_or _ _) g2 g2l g2j ?_
  replace H := H _ rfl
  generalize eUp h a0 _ = h3 at H ⊢
  refine e_null dX7_alone_5 ?_
  refine e_astoreR_n (r := none) _ dX7_alone_6 (by decide) rfl rfl ?_
  refine e_null dX7_alone_7 ?_
  refine e_astoreR_n (r := none) _ dX7_alone_8 (by decide) (eRfC _) rfl ?_
  refine e_aload_n dX7_alone_9 rfl ?_
  obtain ⟨fsg6, g6o, H⟩ := H
  obtain ⟨d7, k8, n9, Q10, X11, g6, g6d, g6k, g6n, H, Hx, Hx8, Hx10⟩ := H
  refine e_callV (r := (RX7, TX7, 11)) (As := []) g6 dX7_alone_10 wX7_whole q1750 q1752 qs33 g6o rfl rfl g6d rfl (Nat.le_of_ble_eq_true rfl) (k1 := k - k8) (n1 := n - n9) (by omega) (by omega) ?_ ?_
  · rintro v h5 (⟨v9, e9, r4, e8, hq⟩ | ⟨ci9, q9, e9, -⟩)
    · cases e9
      subst e8
      replace H := H r4 h5 hq
      refine e_astore_n _ dX7_alone_13 (by decide) rfl rfl ?_
      refine e_goto 26 dX7_alone_14 (by decide) ?_
      exact E.less2 H (eS_s (eS_n (eS_s (eS_s (eS_n eS_0)))))
    · cases e9
  · rintro q9 h9 (⟨v9, e9, -⟩ | ⟨ci9, q8, e9, gl, ⟨fs9, gq⟩, hx⟩)
    · cases e9
    · cases e9
      rcases Hx ci9 q9 h9 hx with rfl | rfl
      · have H := Hx8 q9 h9 fs9 hx gq gl
        refine ex_catch (r := (RX8, TX8, 8)) [(9, 14, 17, 136), (5, 50, 51, 136)] (5, 50, 70, 60) [] rfl (by decide) (by decide) (fun z hz => (List.mem_cons.mp hz).elim (fun q => by rw [q]; exact (Or.inr ⟨by decide, q1404, rfl⟩)) (fun hz => (fun z hz => (List.mem_cons.mp hz).elim (fun q => by rw [q]; exact (Or.inr ⟨by decide, q1404, rfl⟩)) (fun hz => (fun z hz => absurd hz List.not_mem_nil) z hz)) z hz)) q1405 q1568 gq rfl gl ?_
        exact E.less2 H (eS_n (eS_n (eS_n (eS_n (eS_n eS_0)))))
      · have H := Hx10 q9 h9 fs9 hx gq gl
        refine ex_catch (r := (RX10, TX10, 6)) [] (9, 14, 17, 136) [(5, 50, 51, 136), (5, 50, 70, 60)] rfl (by decide) (by decide) (fun z hz => absurd hz List.not_mem_nil) q1404 q1795 gq rfl gl ?_
        exact E.less2 H (eS_s (eS_n (eS_s (eS_n (eS_n eS_0)))))
set_option maxHeartbeats 4000000 in
theorem s_X7_alone_17 (c : cC) (a0 : Nat) (a2 : Option Nat) (b0 : Nat) (h : eH) (k n : Nat) (H : ∃ fs8 : List Value, h.1 a0 = some (.inr (7, fs8)) ∧ ∃ (d4 k5 n6 : Nat) (Q7 : eH → Prop) (X8 : Nat → Nat → eH → Prop), cV c.1 c.2.1 c.2.2.1 d4 mX7_skips [.ref a0] h k5 n6 Q7 X8 ∧ d4 + 1 ≤ c.2.2.2.1 ∧ k5 ≤ k ∧ n6 ≤ n ∧ (∀ h2 : eH, Q7 h2 → (h_X7_alone_26 c a0 a2 (some b0) h2 (k - k5) (n - n6))) ∧ (∀ (ci q : Nat) (h9 : eH), X8 ci q h9 → ci = 8 ∨ ci = 10) ∧ (∀ (q9 : Nat) (h10 : eH) (fs9 : List Value), X8 8 q9 h10 → h10.1 q9 = some (.inr (8, fs9)) → c.2.1 ≤ q9 → h_X7_alone_70 c q9 h10 (k - k5) (n - n6)) ∧ (∀ (q11 : Nat) (h12 : eH) (fs9 : List Value), X8 10 q11 h12 → h12.1 q11 = some (.inr (10, fs9)) → c.2.1 ≤ q11 → h_X7_alone_51 c q11 h12 (k - k5) (n - n6))) : h_X7_alone_17 c a0 a2 b0 h k n := by
  refine e_astore _ dX7_alone_17 (by decide) trivial rfl ?_
  refine e_aload dX7_alone_19 rfl ?_
  refine e_astore_n _ dX7_alone_21 (by decide) (eRfC _) rfl ?_
  refine e_aload_n dX7_alone_22 rfl ?_
  obtain ⟨fsg3, g3o, H⟩ := H
  obtain ⟨d4, k5, n6, Q7, X8, g3, g3d, g3k, g3n, H, Hx, Hx8, Hx10⟩ := H
  refine e_callV (r := (RX7, TX7, 11)) (As := []) g3 dX7_alone_23 wX7_skips q1864 q1866 qs40 g3o rfl rfl g3d rfl (Nat.le_of_ble_eq_true rfl) (k1 := k - k5) (n1 := n - n6) (by omega) (by omega) ?_ ?_
  · rintro v h2 (⟨v9, e9, e8, hq⟩ | ⟨ci9, q9, e9, -⟩)
    · cases e9
      subst e8
      replace H := H h2 hq
      exact E.less2 H (eS_s (eS_n (eS_s (eS_s (eS_n eS_0)))))
    · cases e9
  · rintro q9 h9 (⟨v9, e9, -⟩ | ⟨ci9, q8, e9, gl, ⟨fs9, gq⟩, hx⟩)
    · cases e9
    · cases e9
      rcases Hx ci9 q9 h9 hx with rfl | rfl
      · have H := Hx8 q9 h9 fs9 hx gq gl
        refine ex_catch (r := (RX8, TX8, 8)) [(9, 14, 17, 136), (5, 50, 51, 136)] (5, 50, 70, 60) [] rfl (by decide) (by decide) (fun z hz => (List.mem_cons.mp hz).elim (fun q => by rw [q]; exact (Or.inl (by decide))) (fun hz => (fun z hz => (List.mem_cons.mp hz).elim (fun q => by rw [q]; exact (Or.inr ⟨by decide, q1404, rfl⟩)) (fun hz => (fun z hz => absurd hz List.not_mem_nil) z hz)) z hz)) q1405 q1568 gq rfl gl ?_
        exact E.less2 H (eS_n (eS_n (eS_n (eS_n (eS_n eS_0)))))
      · have H := Hx10 q9 h9 fs9 hx gq gl
        refine ex_catch (r := (RX10, TX10, 6)) [(9, 14, 17, 136)] (5, 50, 51, 136) [(5, 50, 70, 60)] rfl (by decide) (by decide) (fun z hz => (List.mem_cons.mp hz).elim (fun q => by rw [q]; exact (Or.inl (by decide))) (fun hz => (fun z hz => absurd hz List.not_mem_nil) z hz)) q1404 q1795 gq rfl gl ?_
        exact E.less2 H (eS_n (eS_n (eS_n (eS_n (eS_n eS_0)))))
set_option maxHeartbeats 4000000 in
theorem s_X7_alone_26 (c : cC) (a0 : Nat) (a2 : Option Nat) (a3 : Option Nat) (h : eH) (k n : Nat) (H : ∃ x1 : Int32, fV h a0 7 4 (.int x1) ∧ ((¬ x1 = 0 → h_X7_alone_39 c a2 a3 (0 : Int32) a0 h k n) ∧ (x1 = 0 → h_X7_alone_39 c a2 a3 (1 : Int32) a0 h k n))) : h_X7_alone_26 c a0 a2 a3 h k n := by
  refine e_aload_n dX7_alone_26 rfl ?_
  refine e_aload_n dX7_alone_27 rfl ?_
  obtain ⟨x1, ⟨fsx1, g2, g2v⟩, H⟩ := H
  refine e_get dX7_alone_28 fX7_4 q1365 g2 g2v ?_
  refine e_if_ne 38 dX7_alone_31 (by decide) (fun g3 => ?_) (fun g3 => ?_)
  · replace H := H.1 g3
    refine e_iconst (0) dX7_alone_38 (by decide) ?_
    exact E.less2 H (eS_n (eS_n (eS_s (eS_s (eS_n eS_0)))))
  · replace H := H.2 g3
    refine e_iconst (1) dX7_alone_34 (by decide) ?_
    refine e_goto 39 dX7_alone_35 (by decide) ?_
    exact E.less2 H (eS_n (eS_n (eS_s (eS_s (eS_n eS_0)))))
set_option maxHeartbeats 4000000 in
theorem s_X7_alone_39 (c : cC) (a2 : Option Nat) (a3 : Option Nat) (b0 : Int32) (b1 : Nat) (h : eH) (k n : Nat) (H : ∃ fs8 : List Value, h.1 b1 = some (.inr (7, fs8)) ∧ ∃ (d4 k5 n6 : Nat) (Q7 : eH → Prop) (X10 : Nat → Nat → eH → Prop), cV c.1 c.2.1 c.2.2.1 d4 mX7_need [.ref b1, .int b0, .int (2 : Int32)] h k5 n6 Q7 X10 ∧ d4 + 1 ≤ c.2.2.2.1 ∧ k5 ≤ k ∧ n6 ≤ n ∧ (∀ h2 : eH, Q7 h2 → ((a3 = none → c.2.2.2.2 (.inl (some (va_rf a2))) h2) ∧ (∀ o8 : Nat, a3 = some o8 → ∃ fs9 : List Value, h2.1 o8 = some (.inr (10, fs9)) ∧ c.2.1 ≤ o8 ∧ (h_X7_alone_51 c o8 h2 (k - k5) (n - n6))))) ∧ (∀ (ci q : Nat) (h9 : eH), X10 ci q h9 → ci = 8) ∧ (∀ (q11 : Nat) (h12 : eH) (fs9 : List Value), X10 8 q11 h12 → h12.1 q11 = some (.inr (8, fs9)) → c.2.1 ≤ q11 → h_X7_alone_70 c q11 h12 (k - k5) (n - n6))) : h_X7_alone_39 c a2 a3 b0 b1 h k n := by
  refine e_iconst (2) dX7_alone_39 (by decide) ?_
  obtain ⟨fsg3, g3o, H⟩ := H
  obtain ⟨d4, k5, n6, Q7, X10, g3, g3d, g3k, g3n, H, Hx, Hx8⟩ := H
  refine e_callV (r := (RX7, TX7, 11)) (As := [.int b0, .int (2 : Int32)]) g3 dX7_alone_40 wX7_need q1563 q1565 qs22 g3o rfl rfl g3d rfl (Nat.le_of_ble_eq_true rfl) (k1 := k - k5) (n1 := n - n6) (by omega) (by omega) ?_ ?_
  · rintro v h2 (⟨v9, e9, e8, hq⟩ | ⟨ci9, q9, e9, -⟩)
    · cases e9
      subst e8
      replace H := H h2 hq
      refine e_aloadR_n (r := a3) dX7_alone_43 rfl ?_
      refine e_ifnull (r := a3) 49 dX7_alone_44 (by decide) (fun g9 => ?_) (fun o8 g9 => ?_)
      · subst g9
        replace H := H.1 rfl
        refine e_aloadR_n (r := a2) dX7_alone_49 rfl ?_
        exact e_areturn (r := a2) _ dX7_alone_50 rfl (Or.inl ⟨_, rfl⟩) H
      · subst g9
        replace H := H.2 o8 rfl
        refine e_aload_n dX7_alone_47 rfl ?_
        obtain ⟨fs9, gq, gl, H⟩ := H
        refine e_athrow dX7_alone_48 ?_
        refine ex_catch (r := (RX10, TX10, 6)) [(9, 14, 17, 136)] (5, 50, 51, 136) [(5, 50, 70, 60)] rfl (by decide) (by decide) (fun z hz => (List.mem_cons.mp hz).elim (fun q => by rw [q]; exact (Or.inl (by decide))) (fun hz => (fun z hz => absurd hz List.not_mem_nil) z hz)) q1404 q1795 gq rfl gl ?_
        exact E.less2 H (eS_n (eS_n (eS_n (eS_n (eS_n eS_0)))))
    · cases e9
  · rintro q9 h9 (⟨v9, e9, -⟩ | ⟨ci9, q8, e9, gl, ⟨fs9, gq⟩, hx⟩)
    · cases e9
    · cases e9
      rcases Hx ci9 q9 h9 hx with rfl
      · have H := Hx8 q9 h9 fs9 hx gq gl
        refine ex_catch (r := (RX8, TX8, 8)) [(9, 14, 17, 136), (5, 50, 51, 136)] (5, 50, 70, 60) [] rfl (by decide) (by decide) (fun z hz => (List.mem_cons.mp hz).elim (fun q => by rw [q]; exact (Or.inl (by decide))) (fun hz => (fun z hz => (List.mem_cons.mp hz).elim (fun q => by rw [q]; exact (Or.inr ⟨by decide, q1404, rfl⟩)) (fun hz => (fun z hz => absurd hz List.not_mem_nil) z hz)) z hz)) q1405 q1568 gq rfl gl ?_
        exact E.less2 H (eS_n (eS_n (eS_n (eS_n (eS_n eS_0)))))
set_option maxHeartbeats 4000000 in
theorem s_X7_alone_51 (c : cC) (b0 : Nat) (h : eH) (k n : Nat) (H : 1 ≤ k ∧ 6 ≤ n ∧ ∀ h1 : eH, h1 = eNw h (.inr (11, [.null, .null, .null, .null, .null, .int 0])) → (1 ≤ k - 1 ∧ 8 ≤ n - 6 ∧ ∀ h3 : eH, h3 = eNw h1 (.inr (8, [.null, .null, .null, .null, .null, .int 0, .int 0, .int 0])) → (∃ (d8 k9 n10 : Nat) (Q11 : eH → Prop), cV c.1 c.2.1 c.2.2.1 d8 mX8_init [.ref h1.2, .int (6 : Int32), .int (0 : Int32)] h3 k9 n10 Q11 cX0 ∧ d8 + 1 ≤ c.2.2.2.1 ∧ k9 ≤ k - 1 - 1 ∧ n10 ≤ n - 6 - 8 ∧ (∀ h6 : eH, Q11 h6 → (∃ (d15 k16 n17 : Nat) (Q18 : eH → Prop), cV c.1 c.2.1 c.2.2.1 d15 mX11_init [.ref h.2, .ref h1.2] h6 k16 n17 Q18 cX0 ∧ d15 + 1 ≤ c.2.2.2.1 ∧ k16 ≤ k - 1 - 1 - k9 ∧ n17 ≤ n - 6 - 8 - n10 ∧ (∀ h13 : eH, Q18 h13 → (∃ fs9 : List Value, h13.1 h.2 = some (.inr (11, fs9)) ∧ c.2.1 ≤ h.2 ∧ (c.2.2.2.2 (.inr h.2) h13)))))))) : h_X7_alone_51 c b0 h k n := by
  refine e_astore_n _ dX7_alone_51 (by decide) trivial rfl ?_
  obtain ⟨g2, g2n, H⟩ := H
  refine e_new (ci := 11) (N := 6) (C := RX11) (T := TX11) tyX11 (fs := [.null, .null, .null, .null, .null, .int 0]) dX7_alone_52 rfl in_X11 tyX11_ok q1399 q1868 q179 (by decide) (k1 := k - 1) (n1 := n - 6) (by omega) (by omega) ?_
  replace H := H _ rfl
  generalize eNw h _ = h1 at H ⊢
  refine e_dup dX7_alone_55 rfl ?_
  obtain ⟨g4, g4n, H⟩ := H
  refine e_new (ci := 8) (N := 8) (C := RX8) (T := TX8) tyX8 (fs := [.null, .null, .null, .null, .null, .int 0, .int 0, .int 0]) dX7_alone_56 rfl in_X8 tyX8_ok q1405 q1567 q176 (by decide) (k1 := k - 1 - 1) (n1 := n - 6 - 8) (by omega) (by omega) ?_
  replace H := H _ rfl
  generalize eNw h1 _ = h3 at H ⊢
  refine e_dup dX7_alone_59 rfl ?_
  refine e_bipush (6) dX7_alone_60 (by decide) ?_
  refine e_iconst (0) dX7_alone_62 (by decide) ?_
  obtain ⟨d8, k9, n10, Q11, g7, g7d, g7k, g7n, H⟩ := H
  refine e_callI (As := [.int (6 : Int32), .int (0 : Int32)]) g7 dX7_alone_63 wX8_init rfl rfl rfl q1607 q1608 rfl g7d rfl (Nat.le_of_ble_eq_true rfl) (k1 := k - 1 - 1 - k9) (n1 := n - 6 - 8 - n10) (by omega) (by omega) ?_ ?_
  · rintro v h6 (⟨v9, e9, e8, hq⟩ | ⟨ci9, q9, e9, -⟩)
    · cases e9
      subst e8
      replace H := H h6 hq
      obtain ⟨d15, k16, n17, Q18, g14, g14d, g14k, g14n, H⟩ := H
      refine e_callI (As := [.ref h1.2]) g14 dX7_alone_66 wX11_init rfl rfl rfl q1876 q1877 rfl g14d rfl (Nat.le_of_ble_eq_true rfl) (k1 := k - 1 - 1 - k9 - k16) (n1 := n - 6 - 8 - n10 - n17) (by omega) (by omega) ?_ ?_
      · rintro v h13 (⟨v9, e9, e8, hq⟩ | ⟨ci9, q9, e9, -⟩)
        · cases e9
          subst e8
          replace H := H h13 hq
          obtain ⟨fs9, gq, gl, H⟩ := H
          refine e_athrow dX7_alone_69 ?_
          exact ex_out (r := (RX11, TX11, 6)) (fun z hz => (List.mem_cons.mp hz).elim (fun q => by rw [q]; exact (Or.inl (by decide))) (fun hz => (fun z hz => (List.mem_cons.mp hz).elim (fun q => by rw [q]; exact (Or.inl (by decide))) (fun hz => (fun z hz => (List.mem_cons.mp hz).elim (fun q => by rw [q]; exact (Or.inl (by decide))) (fun hz => (fun z hz => absurd hz List.not_mem_nil) z hz)) z hz)) z hz)) gq rfl gl H
        · cases e9
      · rintro q9 h9 (⟨v9, e9, -⟩ | ⟨ci9, q8, e9, -, -, hx⟩)
        · cases e9
        · exact hx.elim
    · cases e9
  · rintro q9 h9 (⟨v9, e9, -⟩ | ⟨ci9, q8, e9, -, -, hx⟩)
    · cases e9
    · exact hx.elim
set_option maxHeartbeats 4000000 in
theorem s_X7_alone_70 (c : cC) (b0 : Nat) (h : eH) (k n : Nat) (H : 1 ≤ k ∧ 6 ≤ n ∧ ∀ h1 : eH, h1 = eNw h (.inr (11, [.null, .null, .null, .null, .null, .int 0])) → (∃ (d6 k7 n8 : Nat) (Q9 : eH → Prop), cV c.1 c.2.1 c.2.2.1 d6 mX11_init [.ref h.2, .ref b0] h1 k7 n8 Q9 cX0 ∧ d6 + 1 ≤ c.2.2.2.1 ∧ k7 ≤ k - 1 ∧ n8 ≤ n - 6 ∧ (∀ h4 : eH, Q9 h4 → (∃ fs9 : List Value, h4.1 h.2 = some (.inr (11, fs9)) ∧ c.2.1 ≤ h.2 ∧ (c.2.2.2.2 (.inr h.2) h4))))) : h_X7_alone_70 c b0 h k n := by
  refine e_astore_n _ dX7_alone_70 (by decide) trivial rfl ?_
  obtain ⟨g2, g2n, H⟩ := H
  refine e_new (ci := 11) (N := 6) (C := RX11) (T := TX11) tyX11 (fs := [.null, .null, .null, .null, .null, .int 0]) dX7_alone_71 rfl in_X11 tyX11_ok q1399 q1868 q179 (by decide) (k1 := k - 1) (n1 := n - 6) (by omega) (by omega) ?_
  replace H := H _ rfl
  generalize eNw h _ = h1 at H ⊢
  refine e_dup dX7_alone_74 rfl ?_
  refine e_aload_n dX7_alone_75 rfl ?_
  obtain ⟨d6, k7, n8, Q9, g5, g5d, g5k, g5n, H⟩ := H
  refine e_callI (As := [.ref b0]) g5 dX7_alone_76 wX11_init rfl rfl rfl q1876 q1877 rfl g5d rfl (Nat.le_of_ble_eq_true rfl) (k1 := k - 1 - k7) (n1 := n - 6 - n8) (by omega) (by omega) ?_ ?_
  · rintro v h4 (⟨v9, e9, e8, hq⟩ | ⟨ci9, q9, e9, -⟩)
    · cases e9
      subst e8
      replace H := H h4 hq
      obtain ⟨fs9, gq, gl, H⟩ := H
      refine e_athrow dX7_alone_79 ?_
      exact ex_out (r := (RX11, TX11, 6)) (fun z hz => (List.mem_cons.mp hz).elim (fun q => by rw [q]; exact (Or.inl (by decide))) (fun hz => (fun z hz => (List.mem_cons.mp hz).elim (fun q => by rw [q]; exact (Or.inl (by decide))) (fun hz => (fun z hz => (List.mem_cons.mp hz).elim (fun q => by rw [q]; exact (Or.inl (by decide))) (fun hz => (fun z hz => absurd hz List.not_mem_nil) z hz)) z hz)) z hz)) gq rfl gl H
    · cases e9
  · rintro q9 h9 (⟨v9, e9, -⟩ | ⟨ci9, q8, e9, -, -, hx⟩)
    · cases e9
    · exact hx.elim
theorem en_X7_alone {l : Launch} {lo : Nat} {G : eG} {d : Nat} {P : eO → eH → Prop} (a0 : Nat) (a1 : Nat) {h : eH} {k n : Nat} (H : h_X7_alone_0 (l, lo, G, d, P) a0 a1 h k n) : Ct l lo G d mX7_alone [.ref a0, .ref a1] h k n P := 
  Ct_of (eArL mX7_alone.2.2.2.1 [.ref a0, .ref a1]) (by decide) rfl (Nat.le_of_ble_eq_true rfl) (fun j w q => eArL_mem j w q) (E.less2 H (eS_s (eS_s (eS_n (eS_n (eS_n eS_0))))))
