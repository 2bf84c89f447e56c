/-! segments: X0_firstOf, X0_centre, X0_pairs, X0_alike, X0_meet, X0_join, X0_orders, X0_likes, X0_peak, X0_part, X0_common, X0_local, X0_units, X0_allUnits, X0_unit, X0_named, X0_numberOf, X0_has, X0_marked, X0_marksNow, X0_character, X0_parts, X0_congruence, X0_is, X0_makes, X0_becomes, X0_take, X0_orbits, X0_setsOf, X0_power, X0_marks, X0_uses, X0_grows, X0_undo -/
/-! X0_firstOf TroupeSums.firstOf(I)I -/
def h_X0_firstOf_0 (c : cC) (a0 : Nat) (a1 : Int32) (h : eH) (k n : Nat) : Prop := E c.1 c.2.1 c.2.2.1 c.2.2.2.1 mX0_firstOf c.2.2.2.2 0 [some (.ref a0), some (.int a1)] [] h k n
set_option maxHeartbeats 4000000 in
theorem s_X0_firstOf_0 (c : cC) (a0 : Nat) (a1 : Int32) (h : eH) (k n : Nat) (H : ∃ x1 : Nat, fV h a0 0 4 (.ref x1) ∧ (∃ x3 : Option Nat, fV h x1 1 2 (va_rf x3) ∧ (∃ o5 : Nat, x3 = some o5 ∧ ∃ x6 : Nat, fV h o5 3 5 (.ref x6) ∧ (∃ fs8 : List Value, h.1 x6 = some (.inr (15, fs8)) ∧ ∃ (d11 k12 n13 : Nat) (Q14 : Nat → eH → Prop), cR c.1 c.2.1 c.2.2.1 d11 mJ2_get [.ref x6, .int a1] h k12 n13 Q14 cX0 ∧ d11 + 1 ≤ c.2.2.2.1 ∧ k12 ≤ k ∧ n13 ≤ n ∧ (∀ (r8 : Nat) (h9 : eH), Q14 r8 h9 → (eCs c.2.2.1 h9 r8 "TroupeSums$Sort" ∧ (∃ x16 : Int32, fV h9 r8 5 1 (.int x16) ∧ (c.2.2.2.2 (.inl (some (.int x16))) h9)))))))) : h_X0_firstOf_0 c a0 a1 h k n := by
  refine e_aload_n dX0_firstOf_0 rfl ?_
  obtain ⟨x1, ⟨fsx1, g2, g2v⟩, H⟩ := H
  refine e_get dX0_firstOf_1 fX0_4 q1239 g2 g2v ?_
  obtain ⟨x3, ⟨fsx3, g4, g4v⟩, H⟩ := H
  refine e_getN dX0_firstOf_4 fX1_2 q238 g4 g4v ?_
  obtain ⟨o5, eo5, H⟩ := H
  subst eo5
  obtain ⟨x6, ⟨fsx6, g7, g7v⟩, H⟩ := H
  refine e_getN dX0_firstOf_7 fX3_5 q1194 g7 g7v ?_
  refine e_iload_n dX0_firstOf_10 rfl ?_
  obtain ⟨fsg10, g10o, H⟩ := H
  obtain ⟨d11, k12, n13, Q14, g10, g10d, g10k, g10n, H⟩ := H
  refine e_callF (i := 4) (r := (RJ2, TJ2, 3)) (As := [.int a1]) g10 dX0_firstOf_11 wJ2_get rfl rfl q1950 q887 q885 g10o rfl rfl g10d rfl (Nat.le_of_ble_eq_true rfl) (k1 := k - k12) (n1 := n - n13) (by omega) (by omega) ?_ ?_
  · rintro v h9 (⟨v9, e9, r8, e8, hq⟩ | ⟨ci9, q9, e9, -⟩)
    · cases e9
      subst e8
      replace H := H r8 h9 hq
      obtain ⟨g15, H⟩ := H
      refine c_castR dX0_firstOf_16 q2019 g15 ?_
      obtain ⟨x16, ⟨fsx16, g17, g17v⟩, H⟩ := H
      refine e_getN dX0_firstOf_19 fX5_1 q1083 g17 g17v ?_
      exact e_ireturn .int dX0_firstOf_22 rfl rfl H
    · cases e9
  · rintro q9 h9 (⟨v9, e9, -⟩ | ⟨ci9, q8, e9, -, -, hx⟩)
    · cases e9
    · exact hx.elim
theorem en_X0_firstOf {l : Launch} {lo : Nat} {G : eG} {d : Nat} {P : eO → eH → Prop} (a0 : Nat) (a1 : Int32) {h : eH} {k n : Nat} (H : h_X0_firstOf_0 (l, lo, G, d, P) a0 a1 h k n) : Ct l lo G d mX0_firstOf [.ref a0, .int a1] h k n P := 
  Ct_of (eArL mX0_firstOf.2.2.2.1 [.ref a0, .int a1]) (by decide) rfl (Nat.le_of_ble_eq_true rfl) (fun j w q => eArL_mem j w q) (E.less2 H (eS_s (eS_s eS_0)))
/-! X0_centre TroupeSums.centre(I)I -/
def h_X0_centre_0 (c : cC) (a0 : Nat) (a1 : Int32) (h : eH) (k n : Nat) : Prop := E c.1 c.2.1 c.2.2.1 c.2.2.2.1 mX0_centre c.2.2.2.2 0 [some (.ref a0), some (.int a1)] [] h k n
set_option maxHeartbeats 4000000 in
theorem s_X0_centre_0 (c : cC) (a0 : Nat) (a1 : Int32) (h : eH) (k n : Nat) (H : ∃ fs8 : List Value, h.1 a0 = some (.inr (0, fs8)) ∧ ∃ (d4 k5 n6 : Nat) (Q7 : Int32 → eH → Prop), cI c.1 c.2.1 c.2.2.1 d4 mX0_isSort [.ref a0, .int a1] h k5 n6 Q7 cX0 ∧ d4 + 1 ≤ c.2.2.2.1 ∧ k5 ≤ k ∧ n6 ≤ n ∧ (∀ (r1 : Int32) (h2 : eH), Q7 r1 h2 → ((r1 = 0 → c.2.2.2.2 (.inl (some (.int (-1 : Int32)))) h2) ∧ (¬ r1 = 0 → ∃ x9 : Nat, fV h2 a0 0 4 (.ref x9) ∧ (∃ x11 : Option Nat, fV h2 x9 1 2 (va_rf x11) ∧ (∃ fs8 : List Value, h2.1 a0 = some (.inr (0, fs8)) ∧ ∃ (d16 k17 n18 : Nat) (Q19 : Int32 → eH → Prop), cI c.1 c.2.1 c.2.2.1 d16 mX0_firstOf [.ref a0, .int a1] h2 k17 n18 Q19 cX0 ∧ d16 + 1 ≤ c.2.2.2.1 ∧ k17 ≤ k - k5 ∧ n18 ≤ n - n6 ∧ (∀ (r13 : Int32) (h14 : eH), Q19 r13 h14 → (∃ o20 : Nat, x11 = some o20 ∧ ∃ fs8 : List Value, h14.1 o20 = some (.inr (3, fs8)) ∧ ∃ (d24 k25 n26 : Nat) (Q27 : Int32 → eH → Prop), cI c.1 c.2.1 c.2.2.1 d24 mX3_centre [.ref o20, .int r13] h14 k25 n26 Q27 cX0 ∧ d24 + 1 ≤ c.2.2.2.1 ∧ k25 ≤ k - k5 - k17 ∧ n26 ≤ n - n6 - n18 ∧ (∀ (r21 : Int32) (h22 : eH), Q27 r21 h22 → (c.2.2.2.2 (.inl (some (.int r21))) h22)))))))))) : h_X0_centre_0 c a0 a1 h k n := by
  refine e_aload_n dX0_centre_0 rfl ?_
  refine e_iload_n dX0_centre_1 rfl ?_
  obtain ⟨fsg3, g3o, H⟩ := H
  obtain ⟨d4, k5, n6, Q7, g3, g3d, g3k, g3n, H⟩ := H
  refine e_callV (r := (RX0, TX0, 8)) (As := [.int a1]) g3 dX0_centre_2 wX0_isSort q2015 q2017 qs45 g3o rfl rfl g3d rfl (Nat.le_of_ble_eq_true rfl) (k1 := k - k5) (n1 := n - n6) (by omega) (by omega) ?_ ?_
  · rintro v h2 (⟨v9, e9, r1, e8, hq⟩ | ⟨ci9, q9, e9, -⟩)
    · cases e9
      subst e8
      replace H := H r1 h2 hq
      refine e_if_eq 26 dX0_centre_5 (by decide) (fun g8 => ?_) (fun g8 => ?_)
      · replace H := H.1 g8
        refine e_iconst (-1) dX0_centre_26 (by decide) ?_
        exact e_ireturn .int dX0_centre_27 rfl rfl H
      · replace H := H.2 g8
        refine e_aload_n dX0_centre_8 rfl ?_
        obtain ⟨x9, ⟨fsx9, g10, g10v⟩, H⟩ := H
        refine e_get dX0_centre_9 fX0_4 q1239 g10 g10v ?_
        obtain ⟨x11, ⟨fsx11, g12, g12v⟩, H⟩ := H
        refine e_getN dX0_centre_12 fX1_2 q238 g12 g12v ?_
        refine e_aload_n dX0_centre_15 rfl ?_
        refine e_iload_n dX0_centre_16 rfl ?_
        obtain ⟨fsg15, g15o, H⟩ := H
        obtain ⟨d16, k17, n18, Q19, g15, g15d, g15k, g15n, H⟩ := H
        refine e_callV (r := (RX0, TX0, 8)) (As := [.int a1]) g15 dX0_centre_17 wX0_firstOf q2110 q2112 qs47 g15o rfl rfl g15d rfl (show ((([va_rf x11] : List Value).map fun v => v.category).sum ≤ 8) from by simp only [List.map_cons, List.map_nil, List.sum_cons, List.sum_nil, eRfC, eCtI, eCtL, eCtR, eCtN]; decide) (k1 := k - k5 - k17) (n1 := n - n6 - n18) (by omega) (by omega) ?_ ?_
        · rintro v h14 (⟨v9, e9, r13, e8, hq⟩ | ⟨ci9, q9, e9, -⟩)
          · cases e9
            subst e8
            replace H := H r13 h14 hq
            obtain ⟨o20, eo20, H⟩ := H
            subst eo20
            obtain ⟨fsg23, g23o, H⟩ := H
            obtain ⟨d24, k25, n26, Q27, g23, g23d, g23k, g23n, H⟩ := H
            refine e_callV (r := (RX3, TX3, 8)) (As := [.int r13]) g23 dX0_centre_20 wX3_centre q2122 q2123 q2124 g23o rfl rfl g23d rfl (Nat.le_of_ble_eq_true rfl) (k1 := k - k5 - k17 - k25) (n1 := n - n6 - n18 - n26) (by omega) (by omega) ?_ ?_
            · rintro v h22 (⟨v9, e9, r21, e8, hq⟩ | ⟨ci9, q9, e9, -⟩)
              · cases e9
                subst e8
                replace H := H r21 h22 hq
                refine e_goto 27 dX0_centre_23 (by decide) ?_
                exact e_ireturn .int dX0_centre_27 rfl rfl H
              · cases e9
            · rintro q9 h9 (⟨v9, e9, -⟩ | ⟨ci9, q8, e9, -, -, hx⟩)
              · cases e9
              · exact hx.elim
          · cases e9
        · rintro q9 h9 (⟨v9, e9, -⟩ | ⟨ci9, q8, e9, -, -, hx⟩)
          · cases e9
          · exact hx.elim
    · cases e9
  · rintro q9 h9 (⟨v9, e9, -⟩ | ⟨ci9, q8, e9, -, -, hx⟩)
    · cases e9
    · exact hx.elim
theorem en_X0_centre {l : Launch} {lo : Nat} {G : eG} {d : Nat} {P : eO → eH → Prop} (a0 : Nat) (a1 : Int32) {h : eH} {k n : Nat} (H : h_X0_centre_0 (l, lo, G, d, P) a0 a1 h k n) : Ct l lo G d mX0_centre [.ref a0, .int a1] h k n P := 
  Ct_of (eArL mX0_centre.2.2.2.1 [.ref a0, .int a1]) (by decide) rfl (Nat.le_of_ble_eq_true rfl) (fun j w q => eArL_mem j w q) (E.less2 H (eS_s (eS_s eS_0)))
/-! X0_pairs TroupeSums.pairs(II)I -/
def h_X0_pairs_0 (c : cC) (a0 : Nat) (a1 : Int32) (a2 : Int32) (h : eH) (k n : Nat) : Prop := E c.1 c.2.1 c.2.2.1 c.2.2.2.1 mX0_pairs c.2.2.2.2 0 [some (.ref a0), some (.int a1), some (.int a2), none, none] [] h k n
def h_X0_pairs_23 (c : cC) (a0 : Nat) (a1 : Int32) (a2 : Int32) (a3 : Int32) (a4 : Int32) (h : eH) (k n : Nat) : Prop := E c.1 c.2.1 c.2.2.1 c.2.2.2.1 mX0_pairs c.2.2.2.2 23 [some (.ref a0), some (.int a1), some (.int a2), some (.int a3), some (.int a4)] [] h k n
set_option maxHeartbeats 4000000 in
theorem s_X0_pairs_0 (c : cC) (a0 : Nat) (a1 : Int32) (a2 : Int32) (h : eH) (k n : Nat) (H : ∃ fs8 : List Value, h.1 a0 = some (.inr (0, fs8)) ∧ ∃ (d4 k5 n6 : Nat) (Q7 : Int32 → eH → Prop), cI c.1 c.2.1 c.2.2.1 d4 mX0_isSort [.ref a0, .int a1] h k5 n6 Q7 cX0 ∧ d4 + 1 ≤ c.2.2.2.1 ∧ k5 ≤ k ∧ n6 ≤ n ∧ (∀ (r1 : Int32) (h2 : eH), Q7 r1 h2 → ((r1 = 0 → c.2.2.2.2 (.inl (some (.int (-1 : Int32)))) h2) ∧ (¬ r1 = 0 → ∃ fs8 : List Value, h2.1 a0 = some (.inr (0, fs8)) ∧ ∃ (d12 k13 n14 : Nat) (Q15 : Int32 → eH → Prop), cI c.1 c.2.1 c.2.2.1 d12 mX0_isSort [.ref a0, .int a2] h2 k13 n14 Q15 cX0 ∧ d12 + 1 ≤ c.2.2.2.1 ∧ k13 ≤ k - k5 ∧ n14 ≤ n - n6 ∧ (∀ (r9 : Int32) (h10 : eH), Q15 r9 h10 → ((¬ r9 = 0 → h_X0_pairs_23 c a0 a1 a2 (0 : Int32) (0 : Int32) h10 (k - k5 - k13) (n - n6 - n14)) ∧ (r9 = 0 → c.2.2.2.2 (.inl (some (.int (-1 : Int32)))) h10))))))) : h_X0_pairs_0 c a0 a1 a2 h k n := by
  refine e_aload_n dX0_pairs_0 rfl ?_
  refine e_iload_n dX0_pairs_1 rfl ?_
  obtain ⟨fsg3, g3o, H⟩ := H
  obtain ⟨d4, k5, n6, Q7, g3, g3d, g3k, g3n, H⟩ := H
  refine e_callV (r := (RX0, TX0, 8)) (As := [.int a1]) g3 dX0_pairs_2 wX0_isSort q2015 q2017 qs45 g3o rfl rfl g3d rfl (Nat.le_of_ble_eq_true rfl) (k1 := k - k5) (n1 := n - n6) (by omega) (by omega) ?_ ?_
  · rintro v h2 (⟨v9, e9, r1, e8, hq⟩ | ⟨ci9, q9, e9, -⟩)
    · cases e9
      subst e8
      replace H := H r1 h2 hq
      refine e_if_eq 16 dX0_pairs_5 (by decide) (fun g8 => ?_) (fun g8 => ?_)
      · replace H := H.1 g8
        refine e_iconst (-1) dX0_pairs_16 (by decide) ?_
        exact e_ireturn .int dX0_pairs_17 rfl rfl H
      · replace H := H.2 g8
        refine e_aload_n dX0_pairs_8 rfl ?_
        refine e_iload_n dX0_pairs_9 rfl ?_
        obtain ⟨fsg11, g11o, H⟩ := H
        obtain ⟨d12, k13, n14, Q15, g11, g11d, g11k, g11n, H⟩ := H
        refine e_callV (r := (RX0, TX0, 8)) (As := [.int a2]) g11 dX0_pairs_10 wX0_isSort q2015 q2017 qs45 g11o rfl rfl g11d rfl (Nat.le_of_ble_eq_true rfl) (k1 := k - k5 - k13) (n1 := n - n6 - n14) (by omega) (by omega) ?_ ?_
        · rintro v h10 (⟨v9, e9, r9, e8, hq⟩ | ⟨ci9, q9, e9, -⟩)
          · cases e9
            subst e8
            replace H := H r9 h10 hq
            refine e_if_ne 18 dX0_pairs_13 (by decide) (fun g16 => ?_) (fun g16 => ?_)
            · replace H := H.1 g16
              refine e_iconst (0) dX0_pairs_18 (by decide) ?_
              refine e_istore_n _ dX0_pairs_19 (by decide) rfl rfl ?_
              refine e_iconst (0) dX0_pairs_20 (by decide) ?_
              refine e_istore _ dX0_pairs_21 (by decide) rfl rfl ?_
              exact E.less2 H (eS_s (eS_s (eS_s (eS_s (eS_s eS_0)))))
            · replace H := H.2 g16
              refine e_iconst (-1) dX0_pairs_16 (by decide) ?_
              exact e_ireturn .int dX0_pairs_17 rfl rfl H
          · cases e9
        · rintro q9 h9 (⟨v9, e9, -⟩ | ⟨ci9, q8, e9, -, -, hx⟩)
          · cases e9
          · exact hx.elim
    · cases e9
  · rintro q9 h9 (⟨v9, e9, -⟩ | ⟨ci9, q8, e9, -, -, hx⟩)
    · cases e9
    · exact hx.elim
set_option maxHeartbeats 4000000 in
theorem s_X0_pairs_23 (c : cC) (a0 : Nat) (a1 : Int32) (a2 : Int32) (a3 : Int32) (a4 : Int32) (h : eH) (k n : Nat) (H : ∃ fs8 : List Value, h.1 a0 = some (.inr (0, fs8)) ∧ ∃ (d4 k5 n6 : Nat) (Q7 : Int32 → eH → Prop), cI c.1 c.2.1 c.2.2.1 d4 mX0_sorts [.ref a0] h k5 n6 Q7 cX0 ∧ d4 + 1 ≤ c.2.2.2.1 ∧ k5 ≤ k ∧ n6 ≤ n ∧ (∀ (r1 : Int32) (h2 : eH), Q7 r1 h2 → ((r1 ≤ a4 → c.2.2.2.2 (.inl (some (.int a3))) h2) ∧ (¬ r1 ≤ a4 → ∃ fs8 : List Value, h2.1 a0 = some (.inr (0, fs8)) ∧ ∃ (d12 k13 n14 : Nat) (Q15 : Int32 → eH → Prop), cI c.1 c.2.1 c.2.2.1 d12 mX0_product [.ref a0, .int a1, .int a2, .int a4] h2 k13 n14 Q15 cX0 ∧ d12 + 1 ≤ c.2.2.2.1 ∧ k13 ≤ k - k5 ∧ n14 ≤ n - n6 ∧ (∀ (r9 : Int32) (h10 : eH), Q15 r9 h10 → (h_X0_pairs_23 c a0 a1 a2 (a3 + r9) (a4 + 1) h10 (k - k5 - k13) (n - n6 - n14))))))) : h_X0_pairs_23 c a0 a1 a2 a3 a4 h k n := by
  refine e_iload dX0_pairs_23 rfl ?_
  refine e_aload_n dX0_pairs_25 rfl ?_
  obtain ⟨fsg3, g3o, H⟩ := H
  obtain ⟨d4, k5, n6, Q7, g3, g3d, g3k, g3n, H⟩ := H
  refine e_callV (r := (RX0, TX0, 8)) (As := []) g3 dX0_pairs_26 wX0_sorts q1913 q1915 qs42 g3o rfl rfl g3d rfl (Nat.le_of_ble_eq_true rfl) (k1 := k - k5) (n1 := n - n6) (by omega) (by omega) ?_ ?_
  · rintro v h2 (⟨v9, e9, r1, e8, hq⟩ | ⟨ci9, q9, e9, -⟩)
    · cases e9
      subst e8
      replace H := H r1 h2 hq
      refine e_icmp_ge 49 dX0_pairs_29 (by decide) (fun g8 => ?_) (fun g8 => ?_)
      · replace H := H.1 g8
        refine e_iload_n dX0_pairs_49 rfl ?_
        exact e_ireturn .int dX0_pairs_50 rfl rfl H
      · replace H := H.2 g8
        refine e_iload_n dX0_pairs_32 rfl ?_
        refine e_aload_n dX0_pairs_33 rfl ?_
        refine e_iload_n dX0_pairs_34 rfl ?_
        refine e_iload_n dX0_pairs_35 rfl ?_
        refine e_iload dX0_pairs_36 rfl ?_
        obtain ⟨fsg11, g11o, H⟩ := H
        obtain ⟨d12, k13, n14, Q15, g11, g11d, g11k, g11n, H⟩ := H
        refine e_callV (r := (RX0, TX0, 8)) (As := [.int a1, .int a2, .int a4]) g11 dX0_pairs_38 wX0_product q2130 q2038 q2039 g11o rfl rfl g11d rfl (Nat.le_of_ble_eq_true rfl) (k1 := k - k5 - k13) (n1 := n - n6 - n14) (by omega) (by omega) ?_ ?_
        · rintro v h10 (⟨v9, e9, r9, e8, hq⟩ | ⟨ci9, q9, e9, -⟩)
          · cases e9
            subst e8
            replace H := H r9 h10 hq
            refine e_iadd dX0_pairs_41 ?_
            refine e_istore_n _ dX0_pairs_42 (by decide) rfl rfl ?_
            refine e_iinc (a4 + 1) _ dX0_pairs_43 rfl rfl (by decide) rfl rfl ?_
            refine e_goto 23 dX0_pairs_46 (by decide) ?_
            exact E.less2 H (eS_s (eS_s (eS_s (eS_s (eS_s eS_0)))))
          · cases e9
        · rintro q9 h9 (⟨v9, e9, -⟩ | ⟨ci9, q8, e9, -, -, hx⟩)
          · cases e9
          · exact hx.elim
    · cases e9
  · rintro q9 h9 (⟨v9, e9, -⟩ | ⟨ci9, q8, e9, -, -, hx⟩)
    · cases e9
    · exact hx.elim
theorem en_X0_pairs {l : Launch} {lo : Nat} {G : eG} {d : Nat} {P : eO → eH → Prop} (a0 : Nat) (a1 : Int32) (a2 : Int32) {h : eH} {k n : Nat} (H : h_X0_pairs_0 (l, lo, G, d, P) a0 a1 a2 h k n) : Ct l lo G d mX0_pairs [.ref a0, .int a1, .int a2] h k n P := 
  Ct_of (eArL mX0_pairs.2.2.2.1 [.ref a0, .int a1, .int a2]) (by decide) rfl (Nat.le_of_ble_eq_true rfl) (fun j w q => eArL_mem j w q) (E.less2 H (eS_s (eS_s (eS_s (eS_n (eS_n eS_0))))))
/-! X0_alike TroupeSums.alike()I -/
def h_X0_alike_0 (c : cC) (a0 : Nat) (h : eH) (k n : Nat) : Prop := E c.1 c.2.1 c.2.2.1 c.2.2.2.1 mX0_alike c.2.2.2.2 0 [some (.ref a0), none, none, none] [] h k n
def h_X0_alike_4 (c : cC) (a0 : Nat) (a1 : Int32) (a2 : Int32) (h : eH) (k n : Nat) : Prop := E c.1 c.2.1 c.2.2.1 c.2.2.2.1 mX0_alike c.2.2.2.2 4 [some (.ref a0), some (.int a1), some (.int a2), none] [] h k n
def h_X0_alike_20 (c : cC) (a0 : Nat) (a1 : Int32) (a2 : Int32) (a3 : Int32) (h : eH) (k n : Nat) : Prop := E c.1 c.2.1 c.2.2.1 c.2.2.2.1 mX0_alike c.2.2.2.2 20 [some (.ref a0), some (.int a1), some (.int a2), some (.int a3)] [] h k n
set_option maxHeartbeats 4000000 in
theorem s_X0_alike_0 (c : cC) (a0 : Nat) (h : eH) (k n : Nat) (H : h_X0_alike_4 c a0 (0 : Int32) (0 : Int32) h k n) : h_X0_alike_0 c a0 h k n := by
  refine e_iconst (0) dX0_alike_0 (by decide) ?_
  refine e_istore_n _ dX0_alike_1 (by decide) rfl rfl ?_
  refine e_iconst (0) dX0_alike_2 (by decide) ?_
  refine e_istore_n _ dX0_alike_3 (by decide) rfl rfl ?_
  exact E.less2 H (eS_s (eS_s (eS_s (eS_n eS_0))))
set_option maxHeartbeats 4000000 in
theorem s_X0_alike_4 (c : cC) (a0 : Nat) (a1 : Int32) (a2 : Int32) (h : eH) (k n : Nat) (H : ∃ x1 : Nat, fV h a0 0 4 (.ref x1) ∧ (∃ x3 : Option Nat, fV h x1 1 2 (va_rf x3) ∧ (∃ o5 : Nat, x3 = some o5 ∧ ∃ fs8 : List Value, h.1 o5 = some (.inr (3, fs8)) ∧ ∃ (d9 k10 n11 : Nat) (Q12 : Int32 → eH → Prop), cI c.1 c.2.1 c.2.2.1 d9 mX3_size [.ref o5] h k10 n11 Q12 cX0 ∧ d9 + 1 ≤ c.2.2.2.1 ∧ k10 ≤ k ∧ n11 ≤ n ∧ (∀ (r6 : Int32) (h7 : eH), Q12 r6 h7 → ((r6 ≤ a2 → c.2.2.2.2 (.inl (some (.int a1))) h7) ∧ (¬ r6 ≤ a2 → h_X0_alike_20 c a0 a1 a2 (0 : Int32) h7 (k - k10) (n - n11))))))) : h_X0_alike_4 c a0 a1 a2 h k n := by
  refine e_iload_n dX0_alike_4 rfl ?_
  refine e_aload_n dX0_alike_5 rfl ?_
  obtain ⟨x1, ⟨fsx1, g2, g2v⟩, H⟩ := H
  refine e_get dX0_alike_6 fX0_4 q1239 g2 g2v ?_
  obtain ⟨x3, ⟨fsx3, g4, g4v⟩, H⟩ := H
  refine e_getN dX0_alike_9 fX1_2 q238 g4 g4v ?_
  obtain ⟨o5, eo5, H⟩ := H
  subst eo5
  obtain ⟨fsg8, g8o, H⟩ := H
  obtain ⟨d9, k10, n11, Q12, g8, g8d, g8k, g8n, H⟩ := H
  refine e_callV (r := (RX3, TX3, 8)) (As := []) g8 dX0_alike_12 wX3_size q1926 q929 q930 g8o rfl rfl g8d rfl (Nat.le_of_ble_eq_true rfl) (k1 := k - k10) (n1 := n - n11) (by omega) (by omega) ?_ ?_
  · rintro v h7 (⟨v9, e9, r6, e8, hq⟩ | ⟨ci9, q9, e9, -⟩)
    · cases e9
      subst e8
      replace H := H r6 h7 hq
      refine e_icmp_ge 69 dX0_alike_15 (by decide) (fun g13 => ?_) (fun g13 => ?_)
      · replace H := H.1 g13
        refine e_iload_n dX0_alike_69 rfl ?_
        exact e_ireturn .int dX0_alike_70 rfl rfl H
      · replace H := H.2 g13
        refine e_iconst (0) dX0_alike_18 (by decide) ?_
        refine e_istore_n _ dX0_alike_19 (by decide) rfl rfl ?_
        exact E.less2 H (eS_s (eS_s (eS_s (eS_s eS_0))))
    · cases e9
  · rintro q9 h9 (⟨v9, e9, -⟩ | ⟨ci9, q8, e9, -, -, hx⟩)
    · cases e9
    · exact hx.elim
set_option maxHeartbeats 4000000 in
theorem s_X0_alike_20 (c : cC) (a0 : Nat) (a1 : Int32) (a2 : Int32) (a3 : Int32) (h : eH) (k n : Nat) (H : ∃ x1 : Nat, fV h a0 0 4 (.ref x1) ∧ (∃ x3 : Option Nat, fV h x1 1 2 (va_rf x3) ∧ (∃ o5 : Nat, x3 = some o5 ∧ ∃ fs8 : List Value, h.1 o5 = some (.inr (3, fs8)) ∧ ∃ (d9 k10 n11 : Nat) (Q12 : Int32 → eH → Prop), cI c.1 c.2.1 c.2.2.1 d9 mX3_size [.ref o5] h k10 n11 Q12 cX0 ∧ d9 + 1 ≤ c.2.2.2.1 ∧ k10 ≤ k ∧ n11 ≤ n ∧ (∀ (r6 : Int32) (h7 : eH), Q12 r6 h7 → ((r6 ≤ a3 → h_X0_alike_4 c a0 a1 (a2 + 1) h7 (k - k10) (n - n11)) ∧ (¬ r6 ≤ a3 → ∃ fs8 : List Value, h7.1 a0 = some (.inr (0, fs8)) ∧ ∃ (d17 k18 n19 : Nat) (Q20 : Int32 → eH → Prop), cI c.1 c.2.1 c.2.2.1 d17 mX0_times [.ref a0, .int a2, .int a3] h7 k18 n19 Q20 cX0 ∧ d17 + 1 ≤ c.2.2.2.1 ∧ k18 ≤ k - k10 ∧ n19 ≤ n - n11 ∧ (∀ (r14 : Int32) (h15 : eH), Q20 r14 h15 → (∃ fs8 : List Value, h15.1 a0 = some (.inr (0, fs8)) ∧ ∃ (d24 k25 n26 : Nat) (Q27 : Int32 → eH → Prop), cI c.1 c.2.1 c.2.2.1 d24 mX0_times [.ref a0, .int a3, .int a2] h15 k25 n26 Q27 cX0 ∧ d24 + 1 ≤ c.2.2.2.1 ∧ k25 ≤ k - k10 - k18 ∧ n26 ≤ n - n11 - n19 ∧ (∀ (r21 : Int32) (h22 : eH), Q27 r21 h22 → ((¬ r14 = r21 → h_X0_alike_20 c a0 (a1 + (0 : Int32)) a2 (a3 + 1) h22 (k - k10 - k18 - k25) (n - n11 - n19 - n26)) ∧ (r14 = r21 → h_X0_alike_20 c a0 (a1 + (1 : Int32)) a2 (a3 + 1) h22 (k - k10 - k18 - k25) (n - n11 - n19 - n26)))))))))))) : h_X0_alike_20 c a0 a1 a2 a3 h k n := by
  refine e_iload_n dX0_alike_20 rfl ?_
  refine e_aload_n dX0_alike_21 rfl ?_
  obtain ⟨x1, ⟨fsx1, g2, g2v⟩, H⟩ := H
  refine e_get dX0_alike_22 fX0_4 q1239 g2 g2v ?_
  obtain ⟨x3, ⟨fsx3, g4, g4v⟩, H⟩ := H
  refine e_getN dX0_alike_25 fX1_2 q238 g4 g4v ?_
  obtain ⟨o5, eo5, H⟩ := H
  subst eo5
  obtain ⟨fsg8, g8o, H⟩ := H
  obtain ⟨d9, k10, n11, Q12, g8, g8d, g8k, g8n, H⟩ := H
  refine e_callV (r := (RX3, TX3, 8)) (As := []) g8 dX0_alike_28 wX3_size q1926 q929 q930 g8o rfl rfl g8d rfl (Nat.le_of_ble_eq_true rfl) (k1 := k - k10) (n1 := n - n11) (by omega) (by omega) ?_ ?_
  · rintro v h7 (⟨v9, e9, r6, e8, hq⟩ | ⟨ci9, q9, e9, -⟩)
    · cases e9
      subst e8
      replace H := H r6 h7 hq
      refine e_icmp_ge 63 dX0_alike_31 (by decide) (fun g13 => ?_) (fun g13 => ?_)
      · replace H := H.1 g13
        refine e_iinc (a2 + 1) _ dX0_alike_63 rfl rfl (by decide) rfl rfl ?_
        refine e_goto 4 dX0_alike_66 (by decide) ?_
        exact E.less2 H (eS_s (eS_s (eS_s (eS_n eS_0))))
      · replace H := H.2 g13
        refine e_iload_n dX0_alike_34 rfl ?_
        refine e_aload_n dX0_alike_35 rfl ?_
        refine e_iload_n dX0_alike_36 rfl ?_
        refine e_iload_n dX0_alike_37 rfl ?_
        obtain ⟨fsg16, g16o, H⟩ := H
        obtain ⟨d17, k18, n19, Q20, g16, g16d, g16k, g16n, H⟩ := H
        refine e_callV (r := (RX0, TX0, 8)) (As := [.int a2, .int a3]) g16 dX0_alike_38 wX0_times q2135 q1952 q1953 g16o rfl rfl g16d rfl (Nat.le_of_ble_eq_true rfl) (k1 := k - k10 - k18) (n1 := n - n11 - n19) (by omega) (by omega) ?_ ?_
        · rintro v h15 (⟨v9, e9, r14, e8, hq⟩ | ⟨ci9, q9, e9, -⟩)
          · cases e9
            subst e8
            replace H := H r14 h15 hq
            refine e_aload_n dX0_alike_41 rfl ?_
            refine e_iload_n dX0_alike_42 rfl ?_
            refine e_iload_n dX0_alike_43 rfl ?_
            obtain ⟨fsg23, g23o, H⟩ := H
            obtain ⟨d24, k25, n26, Q27, g23, g23d, g23k, g23n, H⟩ := H
            refine e_callV (r := (RX0, TX0, 8)) (As := [.int a3, .int a2]) g23 dX0_alike_44 wX0_times q2135 q1952 q1953 g23o rfl rfl g23d rfl (Nat.le_of_ble_eq_true rfl) (k1 := k - k10 - k18 - k25) (n1 := n - n11 - n19 - n26) (by omega) (by omega) ?_ ?_
            · rintro v h22 (⟨v9, e9, r21, e8, hq⟩ | ⟨ci9, q9, e9, -⟩)
              · cases e9
                subst e8
                replace H := H r21 h22 hq
                refine e_icmp_ne 54 dX0_alike_47 (by decide) (fun g28 => ?_) (fun g28 => ?_)
                · replace H := H.1 g28
                  refine e_iconst (0) dX0_alike_54 (by decide) ?_
                  refine e_iadd dX0_alike_55 ?_
                  refine e_istore_n _ dX0_alike_56 (by decide) rfl rfl ?_
                  refine e_iinc (a3 + 1) _ dX0_alike_57 rfl rfl (by decide) rfl rfl ?_
                  refine e_goto 20 dX0_alike_60 (by decide) ?_
                  exact E.less2 H (eS_s (eS_s (eS_s (eS_s eS_0))))
                · replace H := H.2 g28
                  refine e_iconst (1) dX0_alike_50 (by decide) ?_
                  refine e_goto 55 dX0_alike_51 (by decide) ?_
                  refine e_iadd dX0_alike_55 ?_
                  refine e_istore_n _ dX0_alike_56 (by decide) rfl rfl ?_
                  refine e_iinc (a3 + 1) _ dX0_alike_57 rfl rfl (by decide) rfl rfl ?_
                  refine e_goto 20 dX0_alike_60 (by decide) ?_
                  exact E.less2 H (eS_s (eS_s (eS_s (eS_s eS_0))))
              · cases e9
            · rintro q9 h9 (⟨v9, e9, -⟩ | ⟨ci9, q8, e9, -, -, hx⟩)
              · cases e9
              · exact hx.elim
          · cases e9
        · rintro q9 h9 (⟨v9, e9, -⟩ | ⟨ci9, q8, e9, -, -, hx⟩)
          · cases e9
          · exact hx.elim
    · cases e9
  · rintro q9 h9 (⟨v9, e9, -⟩ | ⟨ci9, q8, e9, -, -, hx⟩)
    · cases e9
    · exact hx.elim
theorem en_X0_alike {l : Launch} {lo : Nat} {G : eG} {d : Nat} {P : eO → eH → Prop} (a0 : Nat) {h : eH} {k n : Nat} (H : h_X0_alike_0 (l, lo, G, d, P) a0 h k n) : Ct l lo G d mX0_alike [.ref a0] h k n P := 
  Ct_of (eArL mX0_alike.2.2.2.1 [.ref a0]) (by decide) rfl (Nat.le_of_ble_eq_true rfl) (fun j w q => eArL_mem j w q) (E.less2 H (eS_s (eS_n (eS_n (eS_n eS_0)))))
/-! X0_meet TroupeSums.meet(II)I -/
def h_X0_meet_0 (c : cC) (a0 : Nat) (a1 : Int32) (a2 : Int32) (h : eH) (k n : Nat) : Prop := E c.1 c.2.1 c.2.2.1 c.2.2.2.1 mX0_meet c.2.2.2.2 0 [some (.ref a0), some (.int a1), some (.int a2)] [] h k n
set_option maxHeartbeats 4000000 in
theorem s_X0_meet_0 (c : cC) (a0 : Nat) (a1 : Int32) (a2 : Int32) (h : eH) (k n : Nat) (H : ∃ fs8 : List Value, h.1 a0 = some (.inr (0, fs8)) ∧ ∃ (d4 k5 n6 : Nat) (Q7 : Int32 → eH → Prop), cI c.1 c.2.1 c.2.2.1 d4 mX0_isSort [.ref a0, .int a1] h k5 n6 Q7 cX0 ∧ d4 + 1 ≤ c.2.2.2.1 ∧ k5 ≤ k ∧ n6 ≤ n ∧ (∀ (r1 : Int32) (h2 : eH), Q7 r1 h2 → ((r1 = 0 → c.2.2.2.2 (.inl (some (.int (-1 : Int32)))) h2) ∧ (¬ r1 = 0 → ∃ fs8 : List Value, h2.1 a0 = some (.inr (0, fs8)) ∧ ∃ (d12 k13 n14 : Nat) (Q15 : Int32 → eH → Prop), cI c.1 c.2.1 c.2.2.1 d12 mX0_isSort [.ref a0, .int a2] h2 k13 n14 Q15 cX0 ∧ d12 + 1 ≤ c.2.2.2.1 ∧ k13 ≤ k - k5 ∧ n14 ≤ n - n6 ∧ (∀ (r9 : Int32) (h10 : eH), Q15 r9 h10 → ((r9 = 0 → c.2.2.2.2 (.inl (some (.int (-1 : Int32)))) h10) ∧ (¬ r9 = 0 → ∃ x17 : Nat, fV h10 a0 0 4 (.ref x17) ∧ (∃ x19 : Option Nat, fV h10 x17 1 2 (va_rf x19) ∧ (∃ fs8 : List Value, h10.1 a0 = some (.inr (0, fs8)) ∧ ∃ (d24 k25 n26 : Nat) (Q27 : Int32 → eH → Prop), cI c.1 c.2.1 c.2.2.1 d24 mX0_firstOf [.ref a0, .int a1] h10 k25 n26 Q27 cX0 ∧ d24 + 1 ≤ c.2.2.2.1 ∧ k25 ≤ k - k5 - k13 ∧ n26 ≤ n - n6 - n14 ∧ (∀ (r21 : Int32) (h22 : eH), Q27 r21 h22 → (∃ fs8 : List Value, h22.1 a0 = some (.inr (0, fs8)) ∧ ∃ (d31 k32 n33 : Nat) (Q34 : Int32 → eH → Prop), cI c.1 c.2.1 c.2.2.1 d31 mX0_firstOf [.ref a0, .int a2] h22 k32 n33 Q34 cX0 ∧ d31 + 1 ≤ c.2.2.2.1 ∧ k32 ≤ k - k5 - k13 - k25 ∧ n33 ≤ n - n6 - n14 - n26 ∧ (∀ (r28 : Int32) (h29 : eH), Q34 r28 h29 → (∃ o35 : Nat, x19 = some o35 ∧ ∃ fs8 : List Value, h29.1 o35 = some (.inr (3, fs8)) ∧ ∃ (d39 k40 n41 : Nat) (Q42 : Int32 → eH → Prop), cI c.1 c.2.1 c.2.2.1 d39 mX3_sortOf [.ref o35, .int (r21 &&& r28)] h29 k40 n41 Q42 cX0 ∧ d39 + 1 ≤ c.2.2.2.1 ∧ k40 ≤ k - k5 - k13 - k25 - k32 ∧ n41 ≤ n - n6 - n14 - n26 - n33 ∧ (∀ (r36 : Int32) (h37 : eH), Q42 r36 h37 → (c.2.2.2.2 (.inl (some (.int r36))) h37))))))))))))))) : h_X0_meet_0 c a0 a1 a2 h k n := by
  refine e_aload_n dX0_meet_0 rfl ?_
  refine e_iload_n dX0_meet_1 rfl ?_
  obtain ⟨fsg3, g3o, H⟩ := H
  obtain ⟨d4, k5, n6, Q7, g3, g3d, g3k, g3n, H⟩ := H
  refine e_callV (r := (RX0, TX0, 8)) (As := [.int a1]) g3 dX0_meet_2 wX0_isSort q2015 q2017 qs45 g3o rfl rfl g3d rfl (Nat.le_of_ble_eq_true rfl) (k1 := k - k5) (n1 := n - n6) (by omega) (by omega) ?_ ?_
  · rintro v h2 (⟨v9, e9, r1, e8, hq⟩ | ⟨ci9, q9, e9, -⟩)
    · cases e9
      subst e8
      replace H := H r1 h2 hq
      refine e_if_eq 40 dX0_meet_5 (by decide) (fun g8 => ?_) (fun g8 => ?_)
      · replace H := H.1 g8
        refine e_iconst (-1) dX0_meet_40 (by decide) ?_
        exact e_ireturn .int dX0_meet_41 rfl rfl H
      · replace H := H.2 g8
        refine e_aload_n dX0_meet_8 rfl ?_
        refine e_iload_n dX0_meet_9 rfl ?_
        obtain ⟨fsg11, g11o, H⟩ := H
        obtain ⟨d12, k13, n14, Q15, g11, g11d, g11k, g11n, H⟩ := H
        refine e_callV (r := (RX0, TX0, 8)) (As := [.int a2]) g11 dX0_meet_10 wX0_isSort q2015 q2017 qs45 g11o rfl rfl g11d rfl (Nat.le_of_ble_eq_true rfl) (k1 := k - k5 - k13) (n1 := n - n6 - n14) (by omega) (by omega) ?_ ?_
        · rintro v h10 (⟨v9, e9, r9, e8, hq⟩ | ⟨ci9, q9, e9, -⟩)
          · cases e9
            subst e8
            replace H := H r9 h10 hq
            refine e_if_eq 40 dX0_meet_13 (by decide) (fun g16 => ?_) (fun g16 => ?_)
            · replace H := H.1 g16
              refine e_iconst (-1) dX0_meet_40 (by decide) ?_
              exact e_ireturn .int dX0_meet_41 rfl rfl H
            · replace H := H.2 g16
              refine e_aload_n dX0_meet_16 rfl ?_
              obtain ⟨x17, ⟨fsx17, g18, g18v⟩, H⟩ := H
              refine e_get dX0_meet_17 fX0_4 q1239 g18 g18v ?_
              obtain ⟨x19, ⟨fsx19, g20, g20v⟩, H⟩ := H
              refine e_getN dX0_meet_20 fX1_2 q238 g20 g20v ?_
              refine e_aload_n dX0_meet_23 rfl ?_
              refine e_iload_n dX0_meet_24 rfl ?_
              obtain ⟨fsg23, g23o, H⟩ := H
              obtain ⟨d24, k25, n26, Q27, g23, g23d, g23k, g23n, H⟩ := H
              refine e_callV (r := (RX0, TX0, 8)) (As := [.int a1]) g23 dX0_meet_25 wX0_firstOf q2110 q2112 qs47 g23o rfl rfl g23d rfl (show ((([va_rf x19] : List Value).map fun v => v.category).sum ≤ 8) from by simp only [List.map_cons, List.map_nil, List.sum_cons, List.sum_nil, eRfC, eCtI, eCtL, eCtR, eCtN]; decide) (k1 := k - k5 - k13 - k25) (n1 := n - n6 - n14 - n26) (by omega) (by omega) ?_ ?_
              · rintro v h22 (⟨v9, e9, r21, e8, hq⟩ | ⟨ci9, q9, e9, -⟩)
                · cases e9
                  subst e8
                  replace H := H r21 h22 hq
                  refine e_aload_n dX0_meet_28 rfl ?_
                  refine e_iload_n dX0_meet_29 rfl ?_
                  obtain ⟨fsg30, g30o, H⟩ := H
                  obtain ⟨d31, k32, n33, Q34, g30, g30d, g30k, g30n, H⟩ := H
                  refine e_callV (r := (RX0, TX0, 8)) (As := [.int a2]) g30 dX0_meet_30 wX0_firstOf q2110 q2112 qs47 g30o rfl rfl g30d rfl (show ((([.int r21, va_rf x19] : List Value).map fun v => v.category).sum ≤ 8) from by simp only [List.map_cons, List.map_nil, List.sum_cons, List.sum_nil, eRfC, eCtI, eCtL, eCtR, eCtN]; decide) (k1 := k - k5 - k13 - k25 - k32) (n1 := n - n6 - n14 - n26 - n33) (by omega) (by omega) ?_ ?_
                  · rintro v h29 (⟨v9, e9, r28, e8, hq⟩ | ⟨ci9, q9, e9, -⟩)
                    · cases e9
                      subst e8
                      replace H := H r28 h29 hq
                      refine e_iand dX0_meet_33 ?_
                      obtain ⟨o35, eo35, H⟩ := H
                      subst eo35
                      obtain ⟨fsg38, g38o, H⟩ := H
                      obtain ⟨d39, k40, n41, Q42, g38, g38d, g38k, g38n, H⟩ := H
                      refine e_callV (r := (RX3, TX3, 8)) (As := [.int (r21 &&& r28)]) g38 dX0_meet_34 wX3_sortOf q2005 q2006 q2007 g38o rfl rfl g38d rfl (Nat.le_of_ble_eq_true rfl) (k1 := k - k5 - k13 - k25 - k32 - k40) (n1 := n - n6 - n14 - n26 - n33 - n41) (by omega) (by omega) ?_ ?_
                      · rintro v h37 (⟨v9, e9, r36, e8, hq⟩ | ⟨ci9, q9, e9, -⟩)
                        · cases e9
                          subst e8
                          replace H := H r36 h37 hq
                          refine e_goto 41 dX0_meet_37 (by decide) ?_
                          exact e_ireturn .int dX0_meet_41 rfl rfl H
                        · cases e9
                      · rintro q9 h9 (⟨v9, e9, -⟩ | ⟨ci9, q8, e9, -, -, hx⟩)
                        · cases e9
                        · exact hx.elim
                    · cases e9
                  · rintro q9 h9 (⟨v9, e9, -⟩ | ⟨ci9, q8, e9, -, -, hx⟩)
                    · cases e9
                    · exact hx.elim
                · cases e9
              · rintro q9 h9 (⟨v9, e9, -⟩ | ⟨ci9, q8, e9, -, -, hx⟩)
                · cases e9
                · exact hx.elim
          · cases e9
        · rintro q9 h9 (⟨v9, e9, -⟩ | ⟨ci9, q8, e9, -, -, hx⟩)
          · cases e9
          · exact hx.elim
    · cases e9
  · rintro q9 h9 (⟨v9, e9, -⟩ | ⟨ci9, q8, e9, -, -, hx⟩)
    · cases e9
    · exact hx.elim
theorem en_X0_meet {l : Launch} {lo : Nat} {G : eG} {d : Nat} {P : eO → eH → Prop} (a0 : Nat) (a1 : Int32) (a2 : Int32) {h : eH} {k n : Nat} (H : h_X0_meet_0 (l, lo, G, d, P) a0 a1 a2 h k n) : Ct l lo G d mX0_meet [.ref a0, .int a1, .int a2] h k n P := 
  Ct_of (eArL mX0_meet.2.2.2.1 [.ref a0, .int a1, .int a2]) (by decide) rfl (Nat.le_of_ble_eq_true rfl) (fun j w q => eArL_mem j w q) (E.less2 H (eS_s (eS_s (eS_s eS_0))))
/-! X0_join TroupeSums.join(II)I -/
def h_X0_join_0 (c : cC) (a0 : Nat) (a1 : Int32) (a2 : Int32) (h : eH) (k n : Nat) : Prop := E c.1 c.2.1 c.2.2.1 c.2.2.2.1 mX0_join c.2.2.2.2 0 [some (.ref a0), some (.int a1), some (.int a2)] [] h k n
set_option maxHeartbeats 4000000 in
theorem s_X0_join_0 (c : cC) (a0 : Nat) (a1 : Int32) (a2 : Int32) (h : eH) (k n : Nat) (H : ∃ fs8 : List Value, h.1 a0 = some (.inr (0, fs8)) ∧ ∃ (d4 k5 n6 : Nat) (Q7 : Int32 → eH → Prop), cI c.1 c.2.1 c.2.2.1 d4 mX0_isSort [.ref a0, .int a1] h k5 n6 Q7 cX0 ∧ d4 + 1 ≤ c.2.2.2.1 ∧ k5 ≤ k ∧ n6 ≤ n ∧ (∀ (r1 : Int32) (h2 : eH), Q7 r1 h2 → ((r1 = 0 → c.2.2.2.2 (.inl (some (.int (-1 : Int32)))) h2) ∧ (¬ r1 = 0 → ∃ fs8 : List Value, h2.1 a0 = some (.inr (0, fs8)) ∧ ∃ (d12 k13 n14 : Nat) (Q15 : Int32 → eH → Prop), cI c.1 c.2.1 c.2.2.1 d12 mX0_isSort [.ref a0, .int a2] h2 k13 n14 Q15 cX0 ∧ d12 + 1 ≤ c.2.2.2.1 ∧ k13 ≤ k - k5 ∧ n14 ≤ n - n6 ∧ (∀ (r9 : Int32) (h10 : eH), Q15 r9 h10 → ((r9 = 0 → c.2.2.2.2 (.inl (some (.int (-1 : Int32)))) h10) ∧ (¬ r9 = 0 → ∃ fs8 : List Value, h10.1 a0 = some (.inr (0, fs8)) ∧ ∃ (d20 k21 n22 : Nat) (Q23 : Int32 → eH → Prop), cI c.1 c.2.1 c.2.2.1 d20 mX0_firstOf [.ref a0, .int a1] h10 k21 n22 Q23 cX0 ∧ d20 + 1 ≤ c.2.2.2.1 ∧ k21 ≤ k - k5 - k13 ∧ n22 ≤ n - n6 - n14 ∧ (∀ (r17 : Int32) (h18 : eH), Q23 r17 h18 → (∃ fs8 : List Value, h18.1 a0 = some (.inr (0, fs8)) ∧ ∃ (d27 k28 n29 : Nat) (Q30 : Int32 → eH → Prop), cI c.1 c.2.1 c.2.2.1 d27 mX0_firstOf [.ref a0, .int a2] h18 k28 n29 Q30 cX0 ∧ d27 + 1 ≤ c.2.2.2.1 ∧ k28 ≤ k - k5 - k13 - k21 ∧ n29 ≤ n - n6 - n14 - n22 ∧ (∀ (r24 : Int32) (h25 : eH), Q30 r24 h25 → (∃ fs8 : List Value, h25.1 a0 = some (.inr (0, fs8)) ∧ ∃ (d34 k35 n36 : Nat) (Q37 : Int32 → eH → Prop), cI c.1 c.2.1 c.2.2.1 d34 mX0_sortOf [.ref a0, .int (r17 ||| r24)] h25 k35 n36 Q37 cX0 ∧ d34 + 1 ≤ c.2.2.2.1 ∧ k35 ≤ k - k5 - k13 - k21 - k28 ∧ n36 ≤ n - n6 - n14 - n22 - n29 ∧ (∀ (r31 : Int32) (h32 : eH), Q37 r31 h32 → (c.2.2.2.2 (.inl (some (.int r31))) h32))))))))))))) : h_X0_join_0 c a0 a1 a2 h k n := by
  refine e_aload_n dX0_join_0 rfl ?_
  refine e_iload_n dX0_join_1 rfl ?_
  obtain ⟨fsg3, g3o, H⟩ := H
  obtain ⟨d4, k5, n6, Q7, g3, g3d, g3k, g3n, H⟩ := H
  refine e_callV (r := (RX0, TX0, 8)) (As := [.int a1]) g3 dX0_join_2 wX0_isSort q2015 q2017 qs45 g3o rfl rfl g3d rfl (Nat.le_of_ble_eq_true rfl) (k1 := k - k5) (n1 := n - n6) (by omega) (by omega) ?_ ?_
  · rintro v h2 (⟨v9, e9, r1, e8, hq⟩ | ⟨ci9, q9, e9, -⟩)
    · cases e9
      subst e8
      replace H := H r1 h2 hq
      refine e_if_eq 34 dX0_join_5 (by decide) (fun g8 => ?_) (fun g8 => ?_)
      · replace H := H.1 g8
        refine e_iconst (-1) dX0_join_34 (by decide) ?_
        exact e_ireturn .int dX0_join_35 rfl rfl H
      · replace H := H.2 g8
        refine e_aload_n dX0_join_8 rfl ?_
        refine e_iload_n dX0_join_9 rfl ?_
        obtain ⟨fsg11, g11o, H⟩ := H
        obtain ⟨d12, k13, n14, Q15, g11, g11d, g11k, g11n, H⟩ := H
        refine e_callV (r := (RX0, TX0, 8)) (As := [.int a2]) g11 dX0_join_10 wX0_isSort q2015 q2017 qs45 g11o rfl rfl g11d rfl (Nat.le_of_ble_eq_true rfl) (k1 := k - k5 - k13) (n1 := n - n6 - n14) (by omega) (by omega) ?_ ?_
        · rintro v h10 (⟨v9, e9, r9, e8, hq⟩ | ⟨ci9, q9, e9, -⟩)
          · cases e9
            subst e8
            replace H := H r9 h10 hq
            refine e_if_eq 34 dX0_join_13 (by decide) (fun g16 => ?_) (fun g16 => ?_)
            · replace H := H.1 g16
              refine e_iconst (-1) dX0_join_34 (by decide) ?_
              exact e_ireturn .int dX0_join_35 rfl rfl H
            · replace H := H.2 g16
              refine e_aload_n dX0_join_16 rfl ?_
              refine e_aload_n dX0_join_17 rfl ?_
              refine e_iload_n dX0_join_18 rfl ?_
              obtain ⟨fsg19, g19o, H⟩ := H
              obtain ⟨d20, k21, n22, Q23, g19, g19d, g19k, g19n, H⟩ := H
              refine e_callV (r := (RX0, TX0, 8)) (As := [.int a1]) g19 dX0_join_19 wX0_firstOf q2110 q2112 qs47 g19o rfl rfl g19d rfl (Nat.le_of_ble_eq_true rfl) (k1 := k - k5 - k13 - k21) (n1 := n - n6 - n14 - n22) (by omega) (by omega) ?_ ?_
              · rintro v h18 (⟨v9, e9, r17, e8, hq⟩ | ⟨ci9, q9, e9, -⟩)
                · cases e9
                  subst e8
                  replace H := H r17 h18 hq
                  refine e_aload_n dX0_join_22 rfl ?_
                  refine e_iload_n dX0_join_23 rfl ?_
                  obtain ⟨fsg26, g26o, H⟩ := H
                  obtain ⟨d27, k28, n29, Q30, g26, g26d, g26k, g26n, H⟩ := H
                  refine e_callV (r := (RX0, TX0, 8)) (As := [.int a2]) g26 dX0_join_24 wX0_firstOf q2110 q2112 qs47 g26o rfl rfl g26d rfl (Nat.le_of_ble_eq_true rfl) (k1 := k - k5 - k13 - k21 - k28) (n1 := n - n6 - n14 - n22 - n29) (by omega) (by omega) ?_ ?_
                  · rintro v h25 (⟨v9, e9, r24, e8, hq⟩ | ⟨ci9, q9, e9, -⟩)
                    · cases e9
                      subst e8
                      replace H := H r24 h25 hq
                      refine e_ior dX0_join_27 ?_
                      obtain ⟨fsg33, g33o, H⟩ := H
                      obtain ⟨d34, k35, n36, Q37, g33, g33d, g33k, g33n, H⟩ := H
                      refine e_callV (r := (RX0, TX0, 8)) (As := [.int (r17 ||| r24)]) g33 dX0_join_28 wX0_sortOf q2144 q2002 q2003 g33o rfl rfl g33d rfl (Nat.le_of_ble_eq_true rfl) (k1 := k - k5 - k13 - k21 - k28 - k35) (n1 := n - n6 - n14 - n22 - n29 - n36) (by omega) (by omega) ?_ ?_
                      · rintro v h32 (⟨v9, e9, r31, e8, hq⟩ | ⟨ci9, q9, e9, -⟩)
                        · cases e9
                          subst e8
                          replace H := H r31 h32 hq
                          refine e_goto 35 dX0_join_31 (by decide) ?_
                          exact e_ireturn .int dX0_join_35 rfl rfl H
                        · cases e9
                      · rintro q9 h9 (⟨v9, e9, -⟩ | ⟨ci9, q8, e9, -, -, hx⟩)
                        · cases e9
                        · exact hx.elim
                    · cases e9
                  · rintro q9 h9 (⟨v9, e9, -⟩ | ⟨ci9, q8, e9, -, -, hx⟩)
                    · cases e9
                    · exact hx.elim
                · cases e9
              · rintro q9 h9 (⟨v9, e9, -⟩ | ⟨ci9, q8, e9, -, -, hx⟩)
                · cases e9
                · exact hx.elim
          · cases e9
        · rintro q9 h9 (⟨v9, e9, -⟩ | ⟨ci9, q8, e9, -, -, hx⟩)
          · cases e9
          · exact hx.elim
    · cases e9
  · rintro q9 h9 (⟨v9, e9, -⟩ | ⟨ci9, q8, e9, -, -, hx⟩)
    · cases e9
    · exact hx.elim
theorem en_X0_join {l : Launch} {lo : Nat} {G : eG} {d : Nat} {P : eO → eH → Prop} (a0 : Nat) (a1 : Int32) (a2 : Int32) {h : eH} {k n : Nat} (H : h_X0_join_0 (l, lo, G, d, P) a0 a1 a2 h k n) : Ct l lo G d mX0_join [.ref a0, .int a1, .int a2] h k n P := 
  Ct_of (eArL mX0_join.2.2.2.1 [.ref a0, .int a1, .int a2]) (by decide) rfl (Nat.le_of_ble_eq_true rfl) (fun j w q => eArL_mem j w q) (E.less2 H (eS_s (eS_s (eS_s eS_0))))
/-! X0_orders TroupeSums.orders(I)I -/
def h_X0_orders_0 (c : cC) (a0 : Nat) (a1 : Int32) (h : eH) (k n : Nat) : Prop := E c.1 c.2.1 c.2.2.1 c.2.2.2.1 mX0_orders c.2.2.2.2 0 [some (.ref a0), some (.int a1), none, none] [] h k n
def h_X0_orders_18 (c : cC) (a0 : Nat) (a1 : Int32) (a2 : Int32) (a3 : Int32) (h : eH) (k n : Nat) : Prop := E c.1 c.2.1 c.2.2.1 c.2.2.2.1 mX0_orders c.2.2.2.2 18 [some (.ref a0), some (.int a1), some (.int a2), some (.int a3)] [] h k n
set_option maxHeartbeats 4000000 in
theorem s_X0_orders_0 (c : cC) (a0 : Nat) (a1 : Int32) (h : eH) (k n : Nat) (H : ∃ (d4 k5 n6 : Nat) (Q7 : Int32 → eH → Prop), cI c.1 c.2.1 c.2.2.1 d4 mX0_isIn [.long a1.toInt64, .long (1 : Int64), .long (24 : Int64)] h k5 n6 Q7 cX0 ∧ d4 + 1 ≤ c.2.2.2.1 ∧ k5 ≤ k ∧ n6 ≤ n ∧ (∀ (r1 : Int32) (h2 : eH), Q7 r1 h2 → ((¬ r1 = 0 → h_X0_orders_18 c a0 a1 (0 : Int32) (0 : Int32) h2 (k - k5) (n - n6)) ∧ (r1 = 0 → c.2.2.2.2 (.inl (some (.int (-1 : Int32)))) h2)))) : h_X0_orders_0 c a0 a1 h k n := by
  refine e_iload_n dX0_orders_0 rfl ?_
  refine e_i2l dX0_orders_1 ?_
  refine e_lconst 1 dX0_orders_2 (by decide) ?_
  refine e_ldc2 dX0_orders_3 q2149 ?_
  obtain ⟨d4, k5, n6, Q7, g3, g3d, g3k, g3n, H⟩ := H
  refine e_callS (As := [.long a1.toInt64, .long (1 : Int64), .long (24 : Int64)]) g3 dX0_orders_6 wX0_isIn q1948 q1791 rfl g3d rfl (Nat.le_of_ble_eq_true rfl) (k1 := k - k5) (n1 := n - n6) (by omega) (by omega) ?_ ?_
  · rintro v h2 (⟨v9, e9, r1, e8, hq⟩ | ⟨ci9, q9, e9, -⟩)
    · cases e9
      subst e8
      replace H := H r1 h2 hq
      refine e_if_ne 14 dX0_orders_9 (by decide) (fun g8 => ?_) (fun g8 => ?_)
      · replace H := H.1 g8
        refine e_iconst (0) dX0_orders_14 (by decide) ?_
        refine e_istore_n _ dX0_orders_15 (by decide) rfl rfl ?_
        refine e_iconst (0) dX0_orders_16 (by decide) ?_
        refine e_istore_n _ dX0_orders_17 (by decide) rfl rfl ?_
        exact E.less2 H (eS_s (eS_s (eS_s (eS_s eS_0))))
      · replace H := H.2 g8
        refine e_iconst (-1) dX0_orders_12 (by decide) ?_
        exact e_ireturn .int dX0_orders_13 rfl rfl H
    · cases e9
  · rintro q9 h9 (⟨v9, e9, -⟩ | ⟨ci9, q8, e9, -, -, hx⟩)
    · cases e9
    · exact hx.elim
set_option maxHeartbeats 4000000 in
theorem s_X0_orders_18 (c : cC) (a0 : Nat) (a1 : Int32) (a2 : Int32) (a3 : Int32) (h : eH) (k n : Nat) (H : ∃ x1 : Nat, fV h a0 0 4 (.ref x1) ∧ (∃ x3 : Option Nat, fV h x1 1 2 (va_rf x3) ∧ (∃ o5 : Nat, x3 = some o5 ∧ ∃ fs8 : List Value, h.1 o5 = some (.inr (3, fs8)) ∧ ∃ (d9 k10 n11 : Nat) (Q12 : Int32 → eH → Prop), cI c.1 c.2.1 c.2.2.1 d9 mX3_size [.ref o5] h k10 n11 Q12 cX0 ∧ d9 + 1 ≤ c.2.2.2.1 ∧ k10 ≤ k ∧ n11 ≤ n ∧ (∀ (r6 : Int32) (h7 : eH), Q12 r6 h7 → ((r6 ≤ a3 → c.2.2.2.2 (.inl (some (.int a2))) h7) ∧ (¬ r6 ≤ a3 → ∃ fs8 : List Value, h7.1 a0 = some (.inr (0, fs8)) ∧ ∃ (d17 k18 n19 : Nat) (Q20 : Int32 → eH → Prop), cI c.1 c.2.1 c.2.2.1 d17 mX0_order [.ref a0, .int a3] h7 k18 n19 Q20 cX0 ∧ d17 + 1 ≤ c.2.2.2.1 ∧ k18 ≤ k - k10 ∧ n19 ≤ n - n11 ∧ (∀ (r14 : Int32) (h15 : eH), Q20 r14 h15 → ((¬ r14 = a1 → h_X0_orders_18 c a0 a1 (a2 + (0 : Int32)) (a3 + 1) h15 (k - k10 - k18) (n - n11 - n19)) ∧ (r14 = a1 → h_X0_orders_18 c a0 a1 (a2 + (1 : Int32)) (a3 + 1) h15 (k - k10 - k18) (n - n11 - n19)))))))))) : h_X0_orders_18 c a0 a1 a2 a3 h k n := by
  refine e_iload_n dX0_orders_18 rfl ?_
  refine e_aload_n dX0_orders_19 rfl ?_
  obtain ⟨x1, ⟨fsx1, g2, g2v⟩, H⟩ := H
  refine e_get dX0_orders_20 fX0_4 q1239 g2 g2v ?_
  obtain ⟨x3, ⟨fsx3, g4, g4v⟩, H⟩ := H
  refine e_getN dX0_orders_23 fX1_2 q238 g4 g4v ?_
  obtain ⟨o5, eo5, H⟩ := H
  subst eo5
  obtain ⟨fsg8, g8o, H⟩ := H
  obtain ⟨d9, k10, n11, Q12, g8, g8d, g8k, g8n, H⟩ := H
  refine e_callV (r := (RX3, TX3, 8)) (As := []) g8 dX0_orders_26 wX3_size q1926 q929 q930 g8o rfl rfl g8d rfl (Nat.le_of_ble_eq_true rfl) (k1 := k - k10) (n1 := n - n11) (by omega) (by omega) ?_ ?_
  · rintro v h7 (⟨v9, e9, r6, e8, hq⟩ | ⟨ci9, q9, e9, -⟩)
    · cases e9
      subst e8
      replace H := H r6 h7 hq
      refine e_icmp_ge 55 dX0_orders_29 (by decide) (fun g13 => ?_) (fun g13 => ?_)
      · replace H := H.1 g13
        refine e_iload_n dX0_orders_55 rfl ?_
        exact e_ireturn .int dX0_orders_56 rfl rfl H
      · replace H := H.2 g13
        refine e_iload_n dX0_orders_32 rfl ?_
        refine e_aload_n dX0_orders_33 rfl ?_
        refine e_iload_n dX0_orders_34 rfl ?_
        obtain ⟨fsg16, g16o, H⟩ := H
        obtain ⟨d17, k18, n19, Q20, g16, g16d, g16k, g16n, H⟩ := H
        refine e_callV (r := (RX0, TX0, 8)) (As := [.int a3]) g16 dX0_orders_35 wX0_order q2150 q1985 q1986 g16o rfl rfl g16d rfl (Nat.le_of_ble_eq_true rfl) (k1 := k - k10 - k18) (n1 := n - n11 - n19) (by omega) (by omega) ?_ ?_
        · rintro v h15 (⟨v9, e9, r14, e8, hq⟩ | ⟨ci9, q9, e9, -⟩)
          · cases e9
            subst e8
            replace H := H r14 h15 hq
            refine e_iload_n dX0_orders_38 rfl ?_
            refine e_icmp_ne 46 dX0_orders_39 (by decide) (fun g21 => ?_) (fun g21 => ?_)
            · replace H := H.1 g21
              refine e_iconst (0) dX0_orders_46 (by decide) ?_
              refine e_iadd dX0_orders_47 ?_
              refine e_istore_n _ dX0_orders_48 (by decide) rfl rfl ?_
              refine e_iinc (a3 + 1) _ dX0_orders_49 rfl rfl (by decide) rfl rfl ?_
              refine e_goto 18 dX0_orders_52 (by decide) ?_
              exact E.less2 H (eS_s (eS_s (eS_s (eS_s eS_0))))
            · replace H := H.2 g21
              refine e_iconst (1) dX0_orders_42 (by decide) ?_
              refine e_goto 47 dX0_orders_43 (by decide) ?_
              refine e_iadd dX0_orders_47 ?_
              refine e_istore_n _ dX0_orders_48 (by decide) rfl rfl ?_
              refine e_iinc (a3 + 1) _ dX0_orders_49 rfl rfl (by decide) rfl rfl ?_
              refine e_goto 18 dX0_orders_52 (by decide) ?_
              exact E.less2 H (eS_s (eS_s (eS_s (eS_s eS_0))))
          · cases e9
        · rintro q9 h9 (⟨v9, e9, -⟩ | ⟨ci9, q8, e9, -, -, hx⟩)
          · cases e9
          · exact hx.elim
    · cases e9
  · rintro q9 h9 (⟨v9, e9, -⟩ | ⟨ci9, q8, e9, -, -, hx⟩)
    · cases e9
    · exact hx.elim
theorem en_X0_orders {l : Launch} {lo : Nat} {G : eG} {d : Nat} {P : eO → eH → Prop} (a0 : Nat) (a1 : Int32) {h : eH} {k n : Nat} (H : h_X0_orders_0 (l, lo, G, d, P) a0 a1 h k n) : Ct l lo G d mX0_orders [.ref a0, .int a1] h k n P := 
  Ct_of (eArL mX0_orders.2.2.2.1 [.ref a0, .int a1]) (by decide) rfl (Nat.le_of_ble_eq_true rfl) (fun j w q => eArL_mem j w q) (E.less2 H (eS_s (eS_s (eS_n (eS_n eS_0)))))
/-! X0_likes TroupeSums.likes(I)I -/
def h_X0_likes_0 (c : cC) (a0 : Nat) (a1 : Int32) (h : eH) (k n : Nat) : Prop := E c.1 c.2.1 c.2.2.1 c.2.2.2.1 mX0_likes c.2.2.2.2 0 [some (.ref a0), some (.int a1)] [] h k n
set_option maxHeartbeats 4000000 in
theorem s_X0_likes_0 (c : cC) (a0 : Nat) (a1 : Int32) (h : eH) (k n : Nat) (H : ∃ fs8 : List Value, h.1 a0 = some (.inr (0, fs8)) ∧ ∃ (d4 k5 n6 : Nat) (Q7 : Int32 → eH → Prop), cI c.1 c.2.1 c.2.2.1 d4 mX0_isMember [.ref a0, .int a1] h k5 n6 Q7 cX0 ∧ d4 + 1 ≤ c.2.2.2.1 ∧ k5 ≤ k ∧ n6 ≤ n ∧ (∀ (r1 : Int32) (h2 : eH), Q7 r1 h2 → ((r1 = 0 → c.2.2.2.2 (.inl (some (.int (-1 : Int32)))) h2) ∧ (¬ r1 = 0 → ∃ x9 : Nat, fV h2 a0 0 4 (.ref x9) ∧ (∃ x11 : Option Nat, fV h2 x9 1 2 (va_rf x11) ∧ (∃ o13 : Nat, x11 = some o13 ∧ ∃ fs8 : List Value, h2.1 o13 = some (.inr (3, fs8)) ∧ ∃ (d17 k18 n19 : Nat) (Q20 : Int32 → eH → Prop), cI c.1 c.2.1 c.2.2.1 d17 mX3_likes [.ref o13, .int a1] h2 k18 n19 Q20 cX0 ∧ d17 + 1 ≤ c.2.2.2.1 ∧ k18 ≤ k - k5 ∧ n19 ≤ n - n6 ∧ (∀ (r14 : Int32) (h15 : eH), Q20 r14 h15 → (c.2.2.2.2 (.inl (some (.int r14))) h15)))))))) : h_X0_likes_0 c a0 a1 h k n := by
  refine e_aload_n dX0_likes_0 rfl ?_
  refine e_iload_n dX0_likes_1 rfl ?_
  obtain ⟨fsg3, g3o, H⟩ := H
  obtain ⟨d4, k5, n6, Q7, g3, g3d, g3k, g3n, H⟩ := H
  refine e_callV (r := (RX0, TX0, 8)) (As := [.int a1]) g3 dX0_likes_2 wX0_isMember q1944 q1946 qs43 g3o rfl rfl g3d rfl (Nat.le_of_ble_eq_true rfl) (k1 := k - k5) (n1 := n - n6) (by omega) (by omega) ?_ ?_
  · rintro v h2 (⟨v9, e9, r1, e8, hq⟩ | ⟨ci9, q9, e9, -⟩)
    · cases e9
      subst e8
      replace H := H r1 h2 hq
      refine e_if_eq 22 dX0_likes_5 (by decide) (fun g8 => ?_) (fun g8 => ?_)
      · replace H := H.1 g8
        refine e_iconst (-1) dX0_likes_22 (by decide) ?_
        exact e_ireturn .int dX0_likes_23 rfl rfl H
      · replace H := H.2 g8
        refine e_aload_n dX0_likes_8 rfl ?_
        obtain ⟨x9, ⟨fsx9, g10, g10v⟩, H⟩ := H
        refine e_get dX0_likes_9 fX0_4 q1239 g10 g10v ?_
        obtain ⟨x11, ⟨fsx11, g12, g12v⟩, H⟩ := H
        refine e_getN dX0_likes_12 fX1_2 q238 g12 g12v ?_
        refine e_iload_n dX0_likes_15 rfl ?_
        obtain ⟨o13, eo13, H⟩ := H
        subst eo13
        obtain ⟨fsg16, g16o, H⟩ := H
        obtain ⟨d17, k18, n19, Q20, g16, g16d, g16k, g16n, H⟩ := H
        refine e_callV (r := (RX3, TX3, 8)) (As := [.int a1]) g16 dX0_likes_16 wX3_likes q2155 q2156 q2157 g16o rfl rfl g16d rfl (Nat.le_of_ble_eq_true rfl) (k1 := k - k5 - k18) (n1 := n - n6 - n19) (by omega) (by omega) ?_ ?_
        · rintro v h15 (⟨v9, e9, r14, e8, hq⟩ | ⟨ci9, q9, e9, -⟩)
          · cases e9
            subst e8
            replace H := H r14 h15 hq
            refine e_goto 23 dX0_likes_19 (by decide) ?_
            exact e_ireturn .int dX0_likes_23 rfl rfl H
          · cases e9
        · rintro q9 h9 (⟨v9, e9, -⟩ | ⟨ci9, q8, e9, -, -, hx⟩)
          · cases e9
          · exact hx.elim
    · cases e9
  · rintro q9 h9 (⟨v9, e9, -⟩ | ⟨ci9, q8, e9, -, -, hx⟩)
    · cases e9
    · exact hx.elim
theorem en_X0_likes {l : Launch} {lo : Nat} {G : eG} {d : Nat} {P : eO → eH → Prop} (a0 : Nat) (a1 : Int32) {h : eH} {k n : Nat} (H : h_X0_likes_0 (l, lo, G, d, P) a0 a1 h k n) : Ct l lo G d mX0_likes [.ref a0, .int a1] h k n P := 
  Ct_of (eArL mX0_likes.2.2.2.1 [.ref a0, .int a1]) (by decide) rfl (Nat.le_of_ble_eq_true rfl) (fun j w q => eArL_mem j w q) (E.less2 H (eS_s (eS_s eS_0)))
/-! X0_peak TroupeSums.peak(III)I -/
def h_X0_peak_0 (c : cC) (a0 : Nat) (a1 : Int32) (a2 : Int32) (a3 : Int32) (h : eH) (k n : Nat) : Prop := E c.1 c.2.1 c.2.2.1 c.2.2.2.1 mX0_peak c.2.2.2.2 0 [some (.ref a0), some (.int a1), some (.int a2), some (.int a3)] [] h k n
set_option maxHeartbeats 4000000 in
theorem s_X0_peak_0 (c : cC) (a0 : Nat) (a1 : Int32) (a2 : Int32) (a3 : Int32) (h : eH) (k n : Nat) (H : ∃ fs8 : List Value, h.1 a0 = some (.inr (0, fs8)) ∧ ∃ (d4 k5 n6 : Nat) (Q7 : Int32 → eH → Prop), cI c.1 c.2.1 c.2.2.1 d4 mX0_isSort [.ref a0, .int a1] h k5 n6 Q7 cX0 ∧ d4 + 1 ≤ c.2.2.2.1 ∧ k5 ≤ k ∧ n6 ≤ n ∧ (∀ (r1 : Int32) (h2 : eH), Q7 r1 h2 → ((r1 = 0 → c.2.2.2.2 (.inl (some (.int (-1000000 : Int32)))) h2) ∧ (¬ r1 = 0 → ∃ fs8 : List Value, h2.1 a0 = some (.inr (0, fs8)) ∧ ∃ (d12 k13 n14 : Nat) (Q15 : Int32 → eH → Prop), cI c.1 c.2.1 c.2.2.1 d12 mX0_part [.ref a0, .int ((1 : Int32) <<< (a1 &&& 31)), .int a2, .int a3] h2 k13 n14 Q15 cX0 ∧ d12 + 1 ≤ c.2.2.2.1 ∧ k13 ≤ k - k5 ∧ n14 ≤ n - n6 ∧ (∀ (r9 : Int32) (h10 : eH), Q15 r9 h10 → (c.2.2.2.2 (.inl (some (.int r9))) h10)))))) : h_X0_peak_0 c a0 a1 a2 a3 h k n := by
  refine e_aload_n dX0_peak_0 rfl ?_
  refine e_iload_n dX0_peak_1 rfl ?_
  obtain ⟨fsg3, g3o, H⟩ := H
  obtain ⟨d4, k5, n6, Q7, g3, g3d, g3k, g3n, H⟩ := H
  refine e_callV (r := (RX0, TX0, 8)) (As := [.int a1]) g3 dX0_peak_2 wX0_isSort q2015 q2017 qs45 g3o rfl rfl g3d rfl (Nat.le_of_ble_eq_true rfl) (k1 := k - k5) (n1 := n - n6) (by omega) (by omega) ?_ ?_
  · rintro v h2 (⟨v9, e9, r1, e8, hq⟩ | ⟨ci9, q9, e9, -⟩)
    · cases e9
      subst e8
      replace H := H r1 h2 hq
      refine e_if_eq 20 dX0_peak_5 (by decide) (fun g8 => ?_) (fun g8 => ?_)
      · replace H := H.1 g8
        refine e_ldc dX0_peak_20 q2105 ?_
        exact e_ireturn .int dX0_peak_22 rfl rfl H
      · replace H := H.2 g8
        refine e_aload_n dX0_peak_8 rfl ?_
        refine e_iconst (1) dX0_peak_9 (by decide) ?_
        refine e_iload_n dX0_peak_10 rfl ?_
        refine e_ishl dX0_peak_11 ?_
        refine e_iload_n dX0_peak_12 rfl ?_
        refine e_iload_n dX0_peak_13 rfl ?_
        obtain ⟨fsg11, g11o, H⟩ := H
        obtain ⟨d12, k13, n14, Q15, g11, g11d, g11k, g11n, H⟩ := H
        refine e_callV (r := (RX0, TX0, 8)) (As := [.int ((1 : Int32) <<< (a1 &&& 31)), .int a2, .int a3]) g11 dX0_peak_14 wX0_part q2163 q2165 qs48 g11o rfl rfl g11d rfl (Nat.le_of_ble_eq_true rfl) (k1 := k - k5 - k13) (n1 := n - n6 - n14) (by omega) (by omega) ?_ ?_
        · rintro v h10 (⟨v9, e9, r9, e8, hq⟩ | ⟨ci9, q9, e9, -⟩)
          · cases e9
            subst e8
            replace H := H r9 h10 hq
            refine e_goto 22 dX0_peak_17 (by decide) ?_
            exact e_ireturn .int dX0_peak_22 rfl rfl H
          · cases e9
        · rintro q9 h9 (⟨v9, e9, -⟩ | ⟨ci9, q8, e9, -, -, hx⟩)
          · cases e9
          · exact hx.elim
    · cases e9
  · rintro q9 h9 (⟨v9, e9, -⟩ | ⟨ci9, q8, e9, -, -, hx⟩)
    · cases e9
    · exact hx.elim
theorem en_X0_peak {l : Launch} {lo : Nat} {G : eG} {d : Nat} {P : eO → eH → Prop} (a0 : Nat) (a1 : Int32) (a2 : Int32) (a3 : Int32) {h : eH} {k n : Nat} (H : h_X0_peak_0 (l, lo, G, d, P) a0 a1 a2 a3 h k n) : Ct l lo G d mX0_peak [.ref a0, .int a1, .int a2, .int a3] h k n P := 
  Ct_of (eArL mX0_peak.2.2.2.1 [.ref a0, .int a1, .int a2, .int a3]) (by decide) rfl (Nat.le_of_ble_eq_true rfl) (fun j w q => eArL_mem j w q) (E.less2 H (eS_s (eS_s (eS_s (eS_s eS_0)))))
/-! X0_part TroupeSums.part(III)I -/
def h_X0_part_0 (c : cC) (a0 : Nat) (a1 : Int32) (a2 : Int32) (a3 : Int32) (h : eH) (k n : Nat) : Prop := E c.1 c.2.1 c.2.2.1 c.2.2.2.1 mX0_part c.2.2.2.2 0 [some (.ref a0), some (.int a1), some (.int a2), some (.int a3)] [] h k n
set_option maxHeartbeats 4000000 in
theorem s_X0_part_0 (c : cC) (a0 : Nat) (a1 : Int32) (a2 : Int32) (a3 : Int32) (h : eH) (k n : Nat) (H : ∃ fs8 : List Value, h.1 a0 = some (.inr (0, fs8)) ∧ ∃ (d4 k5 n6 : Nat) (Q7 : Int32 → eH → Prop), cI c.1 c.2.1 c.2.2.1 d4 mX0_isSort [.ref a0, .int a2] h k5 n6 Q7 cX0 ∧ d4 + 1 ≤ c.2.2.2.1 ∧ k5 ≤ k ∧ n6 ≤ n ∧ (∀ (r1 : Int32) (h2 : eH), Q7 r1 h2 → ((r1 = 0 → c.2.2.2.2 (.inl (some (.int (-1000000 : Int32)))) h2) ∧ (¬ r1 = 0 → ∃ (d12 k13 n14 : Nat) (Q15 : Int32 → eH → Prop), cI c.1 c.2.1 c.2.2.1 d12 mX0_isIn [.long a3.toInt64, .long (0 : Int64), .long (1 : Int64)] h2 k13 n14 Q15 cX0 ∧ d12 + 1 ≤ c.2.2.2.1 ∧ k13 ≤ k - k5 ∧ n14 ≤ n - n6 ∧ (∀ (r9 : Int32) (h10 : eH), Q15 r9 h10 → ((¬ r9 = 0 → ∃ x17 : Nat, fV h10 a0 0 4 (.ref x17) ∧ (∃ x19 : Option Nat, fV h10 x17 1 2 (va_rf x19) ∧ (∃ o21 : Nat, x19 = some o21 ∧ ∃ fs8 : List Value, h10.1 o21 = some (.inr (3, fs8)) ∧ ∃ (d25 k26 n27 : Nat) (Q28 : Nat → eH → Prop), cR c.1 c.2.1 c.2.2.1 d25 mX3_peak [.ref o21, .int a1] h10 k26 n27 Q28 cX0 ∧ d25 + 1 ≤ c.2.2.2.1 ∧ k26 ≤ k - k5 - k13 ∧ n27 ≤ n - n6 - n14 ∧ (∀ (r22 : Nat) (h23 : eH), Q28 r22 h23 → (∃ (N29 : Nat) (f30 : Nat → Option Nat), h23.1 r22 = some (.inl (c.2.2.1.2.1 5, N29, .inr (.inr (.inr (.inr f30))))) ∧ vp_in a2 N29 ∧ ∃ r32 : Nat, f30 a2.toNatClampNeg = some r32 ∧ (∃ (N33 : Nat) (f34 : Nat → Int64), h23.1 r32 = some (.inl (c.2.2.1.2.1 1, N33, .inr (.inl f34))) ∧ vp_in a3 N33 ∧ (c.2.2.2.2 (.inl (some (.int ((f34 a3.toNatClampNeg).toInt32)))) h23))))))) ∧ (r9 = 0 → c.2.2.2.2 (.inl (some (.int (-1000000 : Int32)))) h10))))))) : h_X0_part_0 c a0 a1 a2 a3 h k n := by
  refine e_aload_n dX0_part_0 rfl ?_
  refine e_iload_n dX0_part_1 rfl ?_
  obtain ⟨fsg3, g3o, H⟩ := H
  obtain ⟨d4, k5, n6, Q7, g3, g3d, g3k, g3n, H⟩ := H
  refine e_callV (r := (RX0, TX0, 8)) (As := [.int a2]) g3 dX0_part_2 wX0_isSort q2015 q2017 qs45 g3o rfl rfl g3d rfl (Nat.le_of_ble_eq_true rfl) (k1 := k - k5) (n1 := n - n6) (by omega) (by omega) ?_ ?_
  · rintro v h2 (⟨v9, e9, r1, e8, hq⟩ | ⟨ci9, q9, e9, -⟩)
    · cases e9
      subst e8
      replace H := H r1 h2 hq
      refine e_if_eq 18 dX0_part_5 (by decide) (fun g8 => ?_) (fun g8 => ?_)
      · replace H := H.1 g8
        refine e_ldc dX0_part_18 q2105 ?_
        exact e_ireturn .int dX0_part_20 rfl rfl H
      · replace H := H.2 g8
        refine e_iload_n dX0_part_8 rfl ?_
        refine e_i2l dX0_part_9 ?_
        refine e_lconst 0 dX0_part_10 (by decide) ?_
        refine e_lconst 1 dX0_part_11 (by decide) ?_
        obtain ⟨d12, k13, n14, Q15, g11, g11d, g11k, g11n, H⟩ := H
        refine e_callS (As := [.long a3.toInt64, .long (0 : Int64), .long (1 : Int64)]) g11 dX0_part_12 wX0_isIn q1948 q1791 rfl g11d rfl (Nat.le_of_ble_eq_true rfl) (k1 := k - k5 - k13) (n1 := n - n6 - n14) (by omega) (by omega) ?_ ?_
        · rintro v h10 (⟨v9, e9, r9, e8, hq⟩ | ⟨ci9, q9, e9, -⟩)
          · cases e9
            subst e8
            replace H := H r9 h10 hq
            refine e_if_ne 21 dX0_part_15 (by decide) (fun g16 => ?_) (fun g16 => ?_)
            · replace H := H.1 g16
              refine e_aload_n dX0_part_21 rfl ?_
              obtain ⟨x17, ⟨fsx17, g18, g18v⟩, H⟩ := H
              refine e_get dX0_part_22 fX0_4 q1239 g18 g18v ?_
              obtain ⟨x19, ⟨fsx19, g20, g20v⟩, H⟩ := H
              refine e_getN dX0_part_25 fX1_2 q238 g20 g20v ?_
              refine e_iload_n dX0_part_28 rfl ?_
              obtain ⟨o21, eo21, H⟩ := H
              subst eo21
              obtain ⟨fsg24, g24o, H⟩ := H
              obtain ⟨d25, k26, n27, Q28, g24, g24d, g24k, g24n, H⟩ := H
              refine e_callV (r := (RX3, TX3, 8)) (As := [.int a1]) g24 dX0_part_29 wX3_peak q2167 q2168 q2169 g24o rfl rfl g24d rfl (Nat.le_of_ble_eq_true rfl) (k1 := k - k5 - k13 - k26) (n1 := n - n6 - n14 - n27) (by omega) (by omega) ?_ ?_
              · rintro v h23 (⟨v9, e9, r22, e8, hq⟩ | ⟨ci9, q9, e9, -⟩)
                · cases e9
                  subst e8
                  replace H := H r22 h23 hq
                  refine e_iload_n dX0_part_32 rfl ?_
                  obtain ⟨N29, f30, g31, g31i, r32, g31r, H⟩ := H
                  refine e_aaload 5 dX0_part_33 (fun _ => rfl) rfl g31 g31i ?_
                  rw [g31r]
                  refine e_iload_n dX0_part_34 rfl ?_
                  obtain ⟨N33, f34, g35, g35i, H⟩ := H
                  refine e_laload dX0_part_35 g35 g35i ?_
                  refine e_l2i dX0_part_36 ?_
                  exact e_ireturn .int dX0_part_37 rfl rfl H
                · cases e9
              · rintro q9 h9 (⟨v9, e9, -⟩ | ⟨ci9, q8, e9, -, -, hx⟩)
                · cases e9
                · exact hx.elim
            · replace H := H.2 g16
              refine e_ldc dX0_part_18 q2105 ?_
              exact e_ireturn .int dX0_part_20 rfl rfl H
          · cases e9
        · rintro q9 h9 (⟨v9, e9, -⟩ | ⟨ci9, q8, e9, -, -, hx⟩)
          · cases e9
          · exact hx.elim
    · cases e9
  · rintro q9 h9 (⟨v9, e9, -⟩ | ⟨ci9, q8, e9, -, -, hx⟩)
    · cases e9
    · exact hx.elim
theorem en_X0_part {l : Launch} {lo : Nat} {G : eG} {d : Nat} {P : eO → eH → Prop} (a0 : Nat) (a1 : Int32) (a2 : Int32) (a3 : Int32) {h : eH} {k n : Nat} (H : h_X0_part_0 (l, lo, G, d, P) a0 a1 a2 a3 h k n) : Ct l lo G d mX0_part [.ref a0, .int a1, .int a2, .int a3] h k n P := 
  Ct_of (eArL mX0_part.2.2.2.1 [.ref a0, .int a1, .int a2, .int a3]) (by decide) rfl (Nat.le_of_ble_eq_true rfl) (fun j w q => eArL_mem j w q) (E.less2 H (eS_s (eS_s (eS_s (eS_s eS_0)))))
/-! X0_common TroupeSums.common(JJ)J -/
def h_X0_common_0 (c : cC) (a0 : Int64) (a2 : Int64) (h : eH) (k n : Nat) : Prop := E c.1 c.2.1 c.2.2.1 c.2.2.2.1 mX0_common c.2.2.2.2 0 [some (.long a0), none, some (.long a2), none, none, none, none, none, none, none] [] h k n
def h_X0_common_9 (c : cC) (a4 : Int64) (a6 : Int64) (h : eH) (k n : Nat) : Prop := E c.1 c.2.1 c.2.2.1 c.2.2.2.1 mX0_common c.2.2.2.2 9 [none, none, none, none, some (.long a4), none, some (.long a6), none, none, none] [] h k n
set_option maxHeartbeats 4000000 in
theorem s_X0_common_0 (c : cC) (a0 : Int64) (a2 : Int64) (h : eH) (k n : Nat) (H : 1 ≤ c.2.2.2.1 ∧ (h_X0_common_9 c (if 0 < a0 then a0 else -a0) a2 h k n)) : h_X0_common_0 c a0 a2 h k n := by
  refine e_lload_n dX0_common_0 rfl ?_
  obtain ⟨g1, H⟩ := H
  refine e_mabs dX0_common_1 q2182 g1 (Nat.le_of_ble_eq_true rfl) ?_
  refine e_lstore _ dX0_common_4 (by decide) trivial rfl ?_
  refine e_lload_n dX0_common_6 rfl ?_
  refine e_lstore _ dX0_common_7 (by decide) trivial rfl ?_
  exact E.less2 H (eS_n (eS_n (eS_n (eS_n (eS_s (eS_n (eS_s (eS_n (eS_n (eS_n eS_0))))))))))
set_option maxHeartbeats 4000000 in
theorem s_X0_common_9 (c : cC) (a4 : Int64) (a6 : Int64) (h : eH) (k n : Nat) (H : ((lg_cmp a6 (0 : Int64)) = 0 → c.2.2.2.2 (.inl (some (.long a4))) h) ∧ (¬ (lg_cmp a6 (0 : Int64)) = 0 → ¬ a6 = 0 ∧ (h_X0_common_9 c a6 (a4 - a4 / a6 * a6) h k n))) : h_X0_common_9 c a4 a6 h k n := by
  refine e_lload dX0_common_9 rfl ?_
  refine e_lconst 0 dX0_common_11 (by decide) ?_
  refine e_lcmp dX0_common_12 ?_
  refine e_if_eq 34 dX0_common_13 (by decide) (fun g1 => ?_) (fun g1 => ?_)
  · replace H := H.1 g1
    refine e_lload dX0_common_34 rfl ?_
    exact e_lreturn dX0_common_36 rfl H
  · replace H := H.2 g1
    refine e_lload dX0_common_16 rfl ?_
    refine e_lload dX0_common_18 rfl ?_
    obtain ⟨g2, H⟩ := H
    refine e_lrem dX0_common_20 g2 ?_
    refine e_lstore _ dX0_common_21 (by decide) trivial rfl ?_
    refine e_lload dX0_common_23 rfl ?_
    refine e_lstore _ dX0_common_25 (by decide) trivial rfl ?_
    refine e_lload dX0_common_27 rfl ?_
    refine e_lstore _ dX0_common_29 (by decide) trivial rfl ?_
    refine e_goto 9 dX0_common_31 (by decide) ?_
    exact E.less2 H (eS_n (eS_n (eS_n (eS_n (eS_s (eS_n (eS_s (eS_n (eS_n (eS_n eS_0))))))))))
theorem en_X0_common {l : Launch} {lo : Nat} {G : eG} {d : Nat} {P : eO → eH → Prop} (a0 : Int64) (a2 : Int64) {h : eH} {k n : Nat} (H : h_X0_common_0 (l, lo, G, d, P) a0 a2 h k n) : Ct l lo G d mX0_common [.long a0, .long a2] h k n P := 
  Ct_of (eArL mX0_common.2.2.2.1 [.long a0, .long a2]) (by decide) rfl (Nat.le_of_ble_eq_true rfl) (fun j w q => eArL_mem j w q) (E.less2 H (eS_s (eS_n (eS_s (eS_n (eS_n (eS_n (eS_n (eS_n (eS_n (eS_n eS_0)))))))))))
/-! X0_local TroupeSums.local(IIII)I -/
def h_X0_local_0 (c : cC) (a0 : Nat) (a1 : Int32) (a2 : Int32) (a3 : Int32) (a4 : Int32) (h : eH) (k n : Nat) : Prop := E c.1 c.2.1 c.2.2.1 c.2.2.2.1 mX0_local c.2.2.2.2 0 [some (.ref a0), some (.int a1), some (.int a2), some (.int a3), some (.int a4)] [] h k n
set_option maxHeartbeats 4000000 in
theorem s_X0_local_0 (c : cC) (a0 : Nat) (a1 : Int32) (a2 : Int32) (a3 : Int32) (a4 : Int32) (h : eH) (k n : Nat) (H : ∃ fs8 : List Value, h.1 a0 = some (.inr (0, fs8)) ∧ ∃ (d4 k5 n6 : Nat) (Q7 : Int32 → eH → Prop), cI c.1 c.2.1 c.2.2.1 d4 mX0_isSort [.ref a0, .int a2] h k5 n6 Q7 cX0 ∧ d4 + 1 ≤ c.2.2.2.1 ∧ k5 ≤ k ∧ n6 ≤ n ∧ (∀ (r1 : Int32) (h2 : eH), Q7 r1 h2 → ((r1 = 0 → c.2.2.2.2 (.inl (some (.int (-1000000 : Int32)))) h2) ∧ (¬ r1 = 0 → ∃ (d12 k13 n14 : Nat) (Q15 : Int32 → eH → Prop), cI c.1 c.2.1 c.2.2.1 d12 mX0_isPrime [.int a1] h2 k13 n14 Q15 cX0 ∧ d12 + 1 ≤ c.2.2.2.1 ∧ k13 ≤ k - k5 ∧ n14 ≤ n - n6 ∧ (∀ (r9 : Int32) (h10 : eH), Q15 r9 h10 → ((r9 = 0 → c.2.2.2.2 (.inl (some (.int (-1000000 : Int32)))) h10) ∧ (¬ r9 = 0 → ∃ x17 : Nat, fV h10 a0 0 4 (.ref x17) ∧ (∃ x19 : Option Nat, fV h10 x17 1 2 (va_rf x19) ∧ (∃ o21 : Nat, x19 = some o21 ∧ ∃ fs8 : List Value, h10.1 o21 = some (.inr (3, fs8)) ∧ ∃ (d25 k26 n27 : Nat) (Q28 : Int32 → eH → Prop), cI c.1 c.2.1 c.2.2.1 d25 mX3_block [.ref o21, .int a2, .int a1] h10 k26 n27 Q28 cX0 ∧ d25 + 1 ≤ c.2.2.2.1 ∧ k26 ≤ k - k5 - k13 ∧ n27 ≤ n - n6 - n14 ∧ (∀ (r22 : Int32) (h23 : eH), Q28 r22 h23 → (∃ fs8 : List Value, h23.1 a0 = some (.inr (0, fs8)) ∧ ∃ (d32 k33 n34 : Nat) (Q35 : Int32 → eH → Prop), cI c.1 c.2.1 c.2.2.1 d32 mX0_part [.ref a0, .int r22, .int a3, .int a4] h23 k33 n34 Q35 cX0 ∧ d32 + 1 ≤ c.2.2.2.1 ∧ k33 ≤ k - k5 - k13 - k26 ∧ n34 ≤ n - n6 - n14 - n27 ∧ (∀ (r29 : Int32) (h30 : eH), Q35 r29 h30 → (c.2.2.2.2 (.inl (some (.int r29))) h30))))))))))))) : h_X0_local_0 c a0 a1 a2 a3 a4 h k n := by
  refine e_aload_n dX0_local_0 rfl ?_
  refine e_iload_n dX0_local_1 rfl ?_
  obtain ⟨fsg3, g3o, H⟩ := H
  obtain ⟨d4, k5, n6, Q7, g3, g3d, g3k, g3n, H⟩ := H
  refine e_callV (r := (RX0, TX0, 8)) (As := [.int a2]) g3 dX0_local_2 wX0_isSort q2015 q2017 qs45 g3o rfl rfl g3d rfl (Nat.le_of_ble_eq_true rfl) (k1 := k - k5) (n1 := n - n6) (by omega) (by omega) ?_ ?_
  · rintro v h2 (⟨v9, e9, r1, e8, hq⟩ | ⟨ci9, q9, e9, -⟩)
    · cases e9
      subst e8
      replace H := H r1 h2 hq
      refine e_if_eq 37 dX0_local_5 (by decide) (fun g8 => ?_) (fun g8 => ?_)
      · replace H := H.1 g8
        refine e_ldc dX0_local_37 q2105 ?_
        exact e_ireturn .int dX0_local_39 rfl rfl H
      · replace H := H.2 g8
        refine e_iload_n dX0_local_8 rfl ?_
        obtain ⟨d12, k13, n14, Q15, g11, g11d, g11k, g11n, H⟩ := H
        refine e_callS (As := [.int a1]) g11 dX0_local_9 wX0_isPrime q2048 q2049 rfl g11d rfl (Nat.le_of_ble_eq_true rfl) (k1 := k - k5 - k13) (n1 := n - n6 - n14) (by omega) (by omega) ?_ ?_
        · rintro v h10 (⟨v9, e9, r9, e8, hq⟩ | ⟨ci9, q9, e9, -⟩)
          · cases e9
            subst e8
            replace H := H r9 h10 hq
            refine e_if_eq 37 dX0_local_12 (by decide) (fun g16 => ?_) (fun g16 => ?_)
            · replace H := H.1 g16
              refine e_ldc dX0_local_37 q2105 ?_
              exact e_ireturn .int dX0_local_39 rfl rfl H
            · replace H := H.2 g16
              refine e_aload_n dX0_local_15 rfl ?_
              refine e_aload_n dX0_local_16 rfl ?_
              obtain ⟨x17, ⟨fsx17, g18, g18v⟩, H⟩ := H
              refine e_get dX0_local_17 fX0_4 q1239 g18 g18v ?_
              obtain ⟨x19, ⟨fsx19, g20, g20v⟩, H⟩ := H
              refine e_getN dX0_local_20 fX1_2 q238 g20 g20v ?_
              refine e_iload_n dX0_local_23 rfl ?_
              refine e_iload_n dX0_local_24 rfl ?_
              obtain ⟨o21, eo21, H⟩ := H
              subst eo21
              obtain ⟨fsg24, g24o, H⟩ := H
              obtain ⟨d25, k26, n27, Q28, g24, g24d, g24k, g24n, H⟩ := H
              refine e_callV (r := (RX3, TX3, 8)) (As := [.int a2, .int a1]) g24 dX0_local_25 wX3_block q2060 q2061 q2062 g24o rfl rfl g24d rfl (Nat.le_of_ble_eq_true rfl) (k1 := k - k5 - k13 - k26) (n1 := n - n6 - n14 - n27) (by omega) (by omega) ?_ ?_
              · rintro v h23 (⟨v9, e9, r22, e8, hq⟩ | ⟨ci9, q9, e9, -⟩)
                · cases e9
                  subst e8
                  replace H := H r22 h23 hq
                  refine e_iload_n dX0_local_28 rfl ?_
                  refine e_iload dX0_local_29 rfl ?_
                  obtain ⟨fsg31, g31o, H⟩ := H
                  obtain ⟨d32, k33, n34, Q35, g31, g31d, g31k, g31n, H⟩ := H
                  refine e_callV (r := (RX0, TX0, 8)) (As := [.int r22, .int a3, .int a4]) g31 dX0_local_31 wX0_part q2163 q2165 qs48 g31o rfl rfl g31d rfl (Nat.le_of_ble_eq_true rfl) (k1 := k - k5 - k13 - k26 - k33) (n1 := n - n6 - n14 - n27 - n34) (by omega) (by omega) ?_ ?_
                  · rintro v h30 (⟨v9, e9, r29, e8, hq⟩ | ⟨ci9, q9, e9, -⟩)
                    · cases e9
                      subst e8
                      replace H := H r29 h30 hq
                      refine e_goto 39 dX0_local_34 (by decide) ?_
                      exact e_ireturn .int dX0_local_39 rfl rfl H
                    · cases e9
                  · rintro q9 h9 (⟨v9, e9, -⟩ | ⟨ci9, q8, e9, -, -, hx⟩)
                    · cases e9
                    · exact hx.elim
                · cases e9
              · rintro q9 h9 (⟨v9, e9, -⟩ | ⟨ci9, q8, e9, -, -, hx⟩)
                · cases e9
                · exact hx.elim
          · cases e9
        · rintro q9 h9 (⟨v9, e9, -⟩ | ⟨ci9, q8, e9, -, -, hx⟩)
          · cases e9
          · exact hx.elim
    · cases e9
  · rintro q9 h9 (⟨v9, e9, -⟩ | ⟨ci9, q8, e9, -, -, hx⟩)
    · cases e9
    · exact hx.elim
theorem en_X0_local {l : Launch} {lo : Nat} {G : eG} {d : Nat} {P : eO → eH → Prop} (a0 : Nat) (a1 : Int32) (a2 : Int32) (a3 : Int32) (a4 : Int32) {h : eH} {k n : Nat} (H : h_X0_local_0 (l, lo, G, d, P) a0 a1 a2 a3 a4 h k n) : Ct l lo G d mX0_local [.ref a0, .int a1, .int a2, .int a3, .int a4] h k n P := 
  Ct_of (eArL mX0_local.2.2.2.1 [.ref a0, .int a1, .int a2, .int a3, .int a4]) (by decide) rfl (Nat.le_of_ble_eq_true rfl) (fun j w q => eArL_mem j w q) (E.less2 H (eS_s (eS_s (eS_s (eS_s (eS_s eS_0))))))
/-! X0_units TroupeSums.units()I -/
def h_X0_units_0 (c : cC) (a0 : Nat) (h : eH) (k n : Nat) : Prop := E c.1 c.2.1 c.2.2.1 c.2.2.2.1 mX0_units c.2.2.2.2 0 [some (.ref a0)] [] h k n
set_option maxHeartbeats 4000000 in
theorem s_X0_units_0 (c : cC) (a0 : Nat) (h : eH) (k n : Nat) (H : ∃ fs8 : List Value, h.1 a0 = some (.inr (0, fs8)) ∧ ∃ (d4 k5 n6 : Nat) (Q7 : Nat → eH → Prop), cR c.1 c.2.1 c.2.2.1 d4 mX0_allUnits [.ref a0] h k5 n6 Q7 cX0 ∧ d4 + 1 ≤ c.2.2.2.1 ∧ k5 ≤ k ∧ n6 ≤ n ∧ (∀ (r1 : Nat) (h2 : eH), Q7 r1 h2 → (∃ fs8 : List Value, h2.1 r1 = some (.inr (15, fs8)) ∧ ∃ (d11 k12 n13 : Nat) (Q14 : Int32 → eH → Prop), cI c.1 c.2.1 c.2.2.1 d11 mJ2_size [.ref r1] h2 k12 n13 Q14 cX0 ∧ d11 + 1 ≤ c.2.2.2.1 ∧ k12 ≤ k - k5 ∧ n13 ≤ n - n6 ∧ (∀ (r8 : Int32) (h9 : eH), Q14 r8 h9 → (c.2.2.2.2 (.inl (some (.int r8))) h9))))) : h_X0_units_0 c a0 h k n := by
  refine e_aload_n dX0_units_0 rfl ?_
  obtain ⟨fsg3, g3o, H⟩ := H
  obtain ⟨d4, k5, n6, Q7, g3, g3d, g3k, g3n, H⟩ := H
  refine e_callV (r := (RX0, TX0, 8)) (As := []) g3 dX0_units_1 wX0_allUnits q2191 q2193 qs49 g3o rfl rfl g3d rfl (Nat.le_of_ble_eq_true rfl) (k1 := k - k5) (n1 := n - n6) (by omega) (by omega) ?_ ?_
  · rintro v h2 (⟨v9, e9, r1, e8, hq⟩ | ⟨ci9, q9, e9, -⟩)
    · cases e9
      subst e8
      replace H := H r1 h2 hq
      obtain ⟨fsg10, g10o, H⟩ := H
      obtain ⟨d11, k12, n13, Q14, g10, g10d, g10k, g10n, H⟩ := H
      refine e_callF (i := 3) (r := (RJ2, TJ2, 3)) (As := []) g10 dX0_units_4 wJ2_size rfl rfl q1918 q876 q874 g10o rfl rfl g10d rfl (Nat.le_of_ble_eq_true rfl) (k1 := k - k5 - k12) (n1 := n - n6 - n13) (by omega) (by omega) ?_ ?_
      · rintro v h9 (⟨v9, e9, r8, e8, hq⟩ | ⟨ci9, q9, e9, -⟩)
        · cases e9
          subst e8
          replace H := H r8 h9 hq
          exact e_ireturn .int dX0_units_9 rfl rfl H
        · cases e9
      · rintro q9 h9 (⟨v9, e9, -⟩ | ⟨ci9, q8, e9, -, -, hx⟩)
        · cases e9
        · exact hx.elim
    · cases e9
  · rintro q9 h9 (⟨v9, e9, -⟩ | ⟨ci9, q8, e9, -, -, hx⟩)
    · cases e9
    · exact hx.elim
theorem en_X0_units {l : Launch} {lo : Nat} {G : eG} {d : Nat} {P : eO → eH → Prop} (a0 : Nat) {h : eH} {k n : Nat} (H : h_X0_units_0 (l, lo, G, d, P) a0 h k n) : Ct l lo G d mX0_units [.ref a0] h k n P := 
  Ct_of (eArL mX0_units.2.2.2.1 [.ref a0]) (by decide) rfl (Nat.le_of_ble_eq_true rfl) (fun j w q => eArL_mem j w q) (E.less2 H (eS_s eS_0))
/-! X0_allUnits TroupeSums.allUnits()Ljava/util/List; -/
def h_X0_allUnits_0 (c : cC) (a0 : Nat) (h : eH) (k n : Nat) : Prop := E c.1 c.2.1 c.2.2.1 c.2.2.2.1 mX0_allUnits c.2.2.2.2 0 [some (.ref a0)] [] h k n
set_option maxHeartbeats 4000000 in
theorem s_X0_allUnits_0 (c : cC) (a0 : Nat) (h : eH) (k n : Nat) (H : ∃ x1 : Option Nat, fV h a0 0 6 (va_rf x1) ∧ ((x1 = none → 1 ≤ k ∧ 4 ≤ n ∧ ∀ h5 : eH, h5 = eNw h (.inr (13, [.null, .null, .null, .null])) → (∃ x7 : Nat, fV h5 a0 0 4 (.ref x7) ∧ (∃ x9 : Option Nat, fV h5 x7 1 2 (va_rf x9) ∧ (∃ (d14 k15 n16 : Nat) (Q17 : eH → Prop), cV c.1 c.2.1 c.2.2.1 d14 mX13_init [.ref h.2, va_rf x9] h5 k15 n16 Q17 cX0 ∧ d14 + 1 ≤ c.2.2.2.1 ∧ k15 ≤ k - 1 ∧ n16 ≤ n - 4 ∧ (∀ h12 : eH, Q17 h12 → (∃ fs8 : List Value, h12.1 h.2 = some (.inr (13, fs8)) ∧ ∃ (d21 k22 n23 : Nat) (Q24 : Nat → eH → Prop), cR c.1 c.2.1 c.2.2.1 d21 mX13_all [.ref h.2] h12 k22 n23 Q24 cX0 ∧ d21 + 1 ≤ c.2.2.2.1 ∧ k22 ≤ k - 1 - k15 ∧ n23 ≤ n - 4 - n16 ∧ (∀ (r18 : Nat) (h19 : eH), Q24 r18 h19 → (∃ fs25 : List Value, h19.1 a0 = some (.inr (0, fs25)) ∧ c.2.1 ≤ a0 ∧ 6 < fs25.length ∧ ∀ h27 : eH, h27 = eUp h19 a0 (.inr (0, fs25.set 6 (.ref r18))) → (∃ x28 : Option Nat, fV h27 a0 0 6 (va_rf x28) ∧ (c.2.2.2.2 (.inl (some (va_rf x28))) h27)))))))))) ∧ (∀ o3 : Nat, x1 = some o3 → ∃ x30 : Option Nat, fV h a0 0 6 (va_rf x30) ∧ (c.2.2.2.2 (.inl (some (va_rf x30))) h)))) : h_X0_allUnits_0 c a0 h k n := by
  refine e_aload_n dX0_allUnits_0 rfl ?_
  obtain ⟨x1, ⟨fsx1, g2, g2v⟩, H⟩ := H
  refine e_get dX0_allUnits_1 fX0_6 q1241 g2 g2v ?_
  refine e_ifnonnull (r := x1) 28 dX0_allUnits_4 (by decide) (fun o3 g4 => ?_) (fun g4 => ?_)
  · subst g4
    replace H := H.2 o3 rfl
    refine e_aload_n dX0_allUnits_28 rfl ?_
    obtain ⟨x30, ⟨fsx30, g31, g31v⟩, H⟩ := H
    refine e_get dX0_allUnits_29 fX0_6 q1241 g31 g31v ?_
    exact e_areturn (r := x30) _ dX0_allUnits_32 rfl (Or.inl ⟨_, rfl⟩) H
  · subst g4
    replace H := H.1 rfl
    refine e_aload_n dX0_allUnits_7 rfl ?_
    obtain ⟨g6, g6n, H⟩ := H
    refine e_new (ci := 13) (N := 4) (C := RX13) (T := TX13) tyX13 (fs := [.null, .null, .null, .null]) dX0_allUnits_8 rfl in_X13 tyX13_ok q2195 q2196 q184 (by decide) (k1 := k - 1) (n1 := n - 4) (by omega) (by omega) ?_
    replace H := H _ rfl
    generalize eNw h _ = h5 at H ⊢
    refine e_dup dX0_allUnits_11 rfl ?_
    refine e_aload_n dX0_allUnits_12 rfl ?_
    obtain ⟨x7, ⟨fsx7, g8, g8v⟩, H⟩ := H
    refine e_get dX0_allUnits_13 fX0_4 q1239 g8 g8v ?_
    obtain ⟨x9, ⟨fsx9, g10, g10v⟩, H⟩ := H
    refine e_getN dX0_allUnits_16 fX1_2 q238 g10 g10v ?_
    obtain ⟨d14, k15, n16, Q17, g13, g13d, g13k, g13n, H⟩ := H
    refine e_callI (As := [va_rf x9]) g13 dX0_allUnits_19 wX13_init rfl rfl rfl q2197 q2198 rfl g13d rfl (Nat.le_of_ble_eq_true rfl) (k1 := k - 1 - k15) (n1 := n - 4 - n16) (by omega) (by omega) ?_ ?_
    · rintro v h12 (⟨v9, e9, e8, hq⟩ | ⟨ci9, q9, e9, -⟩)
      · cases e9
        subst e8
        replace H := H h12 hq
        obtain ⟨fsg20, g20o, H⟩ := H
        obtain ⟨d21, k22, n23, Q24, g20, g20d, g20k, g20n, H⟩ := H
        refine e_callV (r := (RX13, TX13, 4)) (As := []) g20 dX0_allUnits_22 wX13_all q2220 q2221 q2222 g20o rfl rfl g20d rfl (Nat.le_of_ble_eq_true rfl) (k1 := k - 1 - k15 - k22) (n1 := n - 4 - n16 - n23) (by omega) (by omega) ?_ ?_
        · rintro v h19 (⟨v9, e9, r18, e8, hq⟩ | ⟨ci9, q9, e9, -⟩)
          · cases e9
            subst e8
            replace H := H r18 h19 hq
            obtain ⟨fs25, g26, g26l, g26j, H⟩ := H
            refine e_put dX0_allUnits_25 fX0_6 q1241 (eFit_or _ _) g26 g26l g26j ?_
            replace H := H _ rfl
            generalize eUp h19 a0 _ = h27 at H ⊢
            refine e_aload_n dX0_allUnits_28 rfl ?_
            obtain ⟨x28, ⟨fsx28, g29, g29v⟩, H⟩ := H
            refine e_get dX0_allUnits_29 fX0_6 q1241 g29 g29v ?_
            exact e_areturn (r := x28) _ dX0_allUnits_32 rfl (Or.inl ⟨_, rfl⟩) H
          · cases e9
        · rintro q9 h9 (⟨v9, e9, -⟩ | ⟨ci9, q8, e9, -, -, hx⟩)
          · cases e9
          · exact hx.elim
      · cases e9
    · rintro q9 h9 (⟨v9, e9, -⟩ | ⟨ci9, q8, e9, -, -, hx⟩)
      · cases e9
      · exact hx.elim
theorem en_X0_allUnits {l : Launch} {lo : Nat} {G : eG} {d : Nat} {P : eO → eH → Prop} (a0 : Nat) {h : eH} {k n : Nat} (H : h_X0_allUnits_0 (l, lo, G, d, P) a0 h k n) : Ct l lo G d mX0_allUnits [.ref a0] h k n P := 
  Ct_of (eArL mX0_allUnits.2.2.2.1 [.ref a0]) (by decide) rfl (Nat.le_of_ble_eq_true rfl) (fun j w q => eArL_mem j w q) (E.less2 H (eS_s eS_0))
/-! X0_unit TroupeSums.unit(II)I -/
def h_X0_unit_0 (c : cC) (a0 : Nat) (a1 : Int32) (a2 : Int32) (h : eH) (k n : Nat) : Prop := E c.1 c.2.1 c.2.2.1 c.2.2.2.1 mX0_unit c.2.2.2.2 0 [some (.ref a0), some (.int a1), some (.int a2), none, none] [] h k n
def h_X0_unit_37 (c : cC) (a0 : Nat) (a1 : Int32) (a2 : Int32) (a3 : Nat) (a4 : Int32) (h : eH) (k n : Nat) : Prop := E c.1 c.2.1 c.2.2.1 c.2.2.2.1 mX0_unit c.2.2.2.2 37 [some (.ref a0), some (.int a1), some (.int a2), some (.ref a3), some (.int a4)] [] h k n
set_option maxHeartbeats 4000000 in
theorem s_X0_unit_0 (c : cC) (a0 : Nat) (a1 : Int32) (a2 : Int32) (h : eH) (k n : Nat) (H : ∃ fs8 : List Value, h.1 a0 = some (.inr (0, fs8)) ∧ ∃ (d4 k5 n6 : Nat) (Q7 : Int32 → eH → Prop), cI c.1 c.2.1 c.2.2.1 d4 mX0_isSort [.ref a0, .int a2] h k5 n6 Q7 cX0 ∧ d4 + 1 ≤ c.2.2.2.1 ∧ k5 ≤ k ∧ n6 ≤ n ∧ (∀ (r1 : Int32) (h2 : eH), Q7 r1 h2 → ((r1 = 0 → c.2.2.2.2 (.inl (some (.int (-1000000 : Int32)))) h2) ∧ (¬ r1 = 0 → ∃ fs8 : List Value, h2.1 a0 = some (.inr (0, fs8)) ∧ ∃ (d12 k13 n14 : Nat) (Q15 : Int32 → eH → Prop), cI c.1 c.2.1 c.2.2.1 d12 mX0_units [.ref a0] h2 k13 n14 Q15 cX0 ∧ d12 + 1 ≤ c.2.2.2.1 ∧ k13 ≤ k - k5 ∧ n14 ≤ n - n6 ∧ (∀ (r9 : Int32) (h10 : eH), Q15 r9 h10 → (∃ (d19 k20 n21 : Nat) (Q22 : Int32 → eH → Prop), cI c.1 c.2.1 c.2.2.1 d19 mX0_isIn [.long a1.toInt64, .long (0 : Int64), .long ((r9 - (1 : Int32)).toInt64)] h10 k20 n21 Q22 cX0 ∧ d19 + 1 ≤ c.2.2.2.1 ∧ k20 ≤ k - k5 - k13 ∧ n21 ≤ n - n6 - n14 ∧ (∀ (r16 : Int32) (h17 : eH), Q22 r16 h17 → ((¬ r16 = 0 → ∃ fs8 : List Value, h17.1 a0 = some (.inr (0, fs8)) ∧ ∃ (d27 k28 n29 : Nat) (Q30 : Int32 → eH → Prop), cI c.1 c.2.1 c.2.2.1 d27 mX0_sorts [.ref a0] h17 k28 n29 Q30 cX0 ∧ d27 + 1 ≤ c.2.2.2.1 ∧ k28 ≤ k - k5 - k13 - k20 ∧ n29 ≤ n - n6 - n14 - n21 ∧ (∀ (r24 : Int32) (h25 : eH), Q30 r24 h25 → (∃ N33 : Nat, r24 = nI N33 ∧ N33 ≤ 10000000 ∧ 1 ≤ k - k5 - k13 - k20 - k28 ∧ N33 ≤ n - n6 - n14 - n21 - n29 ∧ ∀ h31 : eH, h31 = eNw h25 (.inl (c.2.2.1.2.1 1, N33, .inr (.inl (fun _ => 0)))) → (h_X0_unit_37 c a0 a1 a2 h25.2 (0 : Int32) h31 (k - k5 - k13 - k20 - k28 - 1) (n - n6 - n14 - n21 - n29 - N33))))) ∧ (r16 = 0 → c.2.2.2.2 (.inl (some (.int (-1000000 : Int32)))) h17))))))))) : h_X0_unit_0 c a0 a1 a2 h k n := by
  refine e_aload_n dX0_unit_0 rfl ?_
  refine e_iload_n dX0_unit_1 rfl ?_
  obtain ⟨fsg3, g3o, H⟩ := H
  obtain ⟨d4, k5, n6, Q7, g3, g3d, g3k, g3n, H⟩ := H
  refine e_callV (r := (RX0, TX0, 8)) (As := [.int a2]) g3 dX0_unit_2 wX0_isSort q2015 q2017 qs45 g3o rfl rfl g3d rfl (Nat.le_of_ble_eq_true rfl) (k1 := k - k5) (n1 := n - n6) (by omega) (by omega) ?_ ?_
  · rintro v h2 (⟨v9, e9, r1, e8, hq⟩ | ⟨ci9, q9, e9, -⟩)
    · cases e9
      subst e8
      replace H := H r1 h2 hq
      refine e_if_eq 24 dX0_unit_5 (by decide) (fun g8 => ?_) (fun g8 => ?_)
      · replace H := H.1 g8
        refine e_ldc dX0_unit_24 q2105 ?_
        exact e_ireturn .int dX0_unit_26 rfl rfl H
      · replace H := H.2 g8
        refine e_iload_n dX0_unit_8 rfl ?_
        refine e_i2l dX0_unit_9 ?_
        refine e_lconst 0 dX0_unit_10 (by decide) ?_
        refine e_aload_n dX0_unit_11 rfl ?_
        obtain ⟨fsg11, g11o, H⟩ := H
        obtain ⟨d12, k13, n14, Q15, g11, g11d, g11k, g11n, H⟩ := H
        refine e_callV (r := (RX0, TX0, 8)) (As := []) g11 dX0_unit_12 wX0_units q2251 q2188 q2189 g11o rfl rfl g11d rfl (Nat.le_of_ble_eq_true rfl) (k1 := k - k5 - k13) (n1 := n - n6 - n14) (by omega) (by omega) ?_ ?_
        · rintro v h10 (⟨v9, e9, r9, e8, hq⟩ | ⟨ci9, q9, e9, -⟩)
          · cases e9
            subst e8
            replace H := H r9 h10 hq
            refine e_iconst (1) dX0_unit_15 (by decide) ?_
            refine e_isub dX0_unit_16 ?_
            refine e_i2l dX0_unit_17 ?_
            obtain ⟨d19, k20, n21, Q22, g18, g18d, g18k, g18n, H⟩ := H
            refine e_callS (As := [.long a1.toInt64, .long (0 : Int64), .long ((r9 - (1 : Int32)).toInt64)]) g18 dX0_unit_18 wX0_isIn q1948 q1791 rfl g18d rfl (Nat.le_of_ble_eq_true rfl) (k1 := k - k5 - k13 - k20) (n1 := n - n6 - n14 - n21) (by omega) (by omega) ?_ ?_
            · rintro v h17 (⟨v9, e9, r16, e8, hq⟩ | ⟨ci9, q9, e9, -⟩)
              · cases e9
                subst e8
                replace H := H r16 h17 hq
                refine e_if_ne 27 dX0_unit_21 (by decide) (fun g23 => ?_) (fun g23 => ?_)
                · replace H := H.1 g23
                  refine e_aload_n dX0_unit_27 rfl ?_
                  obtain ⟨fsg26, g26o, H⟩ := H
                  obtain ⟨d27, k28, n29, Q30, g26, g26d, g26k, g26n, H⟩ := H
                  refine e_callV (r := (RX0, TX0, 8)) (As := []) g26 dX0_unit_28 wX0_sorts q1913 q1915 qs42 g26o rfl rfl g26d rfl (Nat.le_of_ble_eq_true rfl) (k1 := k - k5 - k13 - k20 - k28) (n1 := n - n6 - n14 - n21 - n29) (by omega) (by omega) ?_ ?_
                  · rintro v h25 (⟨v9, e9, r24, e8, hq⟩ | ⟨ci9, q9, e9, -⟩)
                    · cases e9
                      subst e8
                      replace H := H r24 h25 hq
                      obtain ⟨N33, g32i, g32b, g32, g32n, H⟩ := H
                      refine c_newarrayJ dX0_unit_31 q1234 g32i g32b g32 g32n ?_
                      replace H := H _ rfl
                      generalize eNw h25 _ = h31 at H ⊢
                      refine e_astore_n _ dX0_unit_33 (by decide) rfl rfl ?_
                      refine e_iconst (0) dX0_unit_34 (by decide) ?_
                      refine e_istore _ dX0_unit_35 (by decide) rfl rfl ?_
                      exact E.less2 H (eS_s (eS_s (eS_s (eS_s (eS_s eS_0)))))
                    · cases e9
                  · rintro q9 h9 (⟨v9, e9, -⟩ | ⟨ci9, q8, e9, -, -, hx⟩)
                    · cases e9
                    · exact hx.elim
                · replace H := H.2 g23
                  refine e_ldc dX0_unit_24 q2105 ?_
                  exact e_ireturn .int dX0_unit_26 rfl rfl H
              · cases e9
            · rintro q9 h9 (⟨v9, e9, -⟩ | ⟨ci9, q8, e9, -, -, hx⟩)
              · cases e9
              · exact hx.elim
          · cases e9
        · rintro q9 h9 (⟨v9, e9, -⟩ | ⟨ci9, q8, e9, -, -, hx⟩)
          · cases e9
          · exact hx.elim
    · cases e9
  · rintro q9 h9 (⟨v9, e9, -⟩ | ⟨ci9, q8, e9, -, -, hx⟩)
    · cases e9
    · exact hx.elim
set_option maxHeartbeats 4000000 in
theorem s_X0_unit_37 (c : cC) (a0 : Nat) (a1 : Int32) (a2 : Int32) (a3 : Nat) (a4 : Int32) (h : eH) (k n : Nat) (H : ∃ v1 : vp_A, h.1 a3 = some (.inl (c.2.2.1.2.1 1, v1)) ∧ (((nI v1.1) ≤ a4 → ∃ x4 : Nat, fV h a0 0 4 (.ref x4) ∧ (∃ x6 : Option Nat, fV h x4 1 2 (va_rf x6) ∧ (∃ o8 : Nat, x6 = some o8 ∧ ∃ fs8 : List Value, h.1 o8 = some (.inr (3, fs8)) ∧ ∃ (d12 k13 n14 : Nat) (Q15 : Nat → eH → Prop), cR c.1 c.2.1 c.2.2.1 d12 mX3_solved [.ref o8, .ref a3] h k13 n14 Q15 cX0 ∧ d12 + 1 ≤ c.2.2.2.1 ∧ k13 ≤ k ∧ n14 ≤ n ∧ (∀ (r9 : Nat) (h10 : eH), Q15 r9 h10 → (∃ (N16 : Nat) (f17 : Nat → Int64), h10.1 r9 = some (.inl (c.2.2.1.2.1 1, N16, .inr (.inl f17))) ∧ vp_in a2 N16 ∧ (c.2.2.2.2 (.inl (some (.int ((f17 a2.toNatClampNeg).toInt32)))) h10)))))) ∧ (¬ (nI v1.1) ≤ a4 → ∃ fs8 : List Value, h.1 a0 = some (.inr (0, fs8)) ∧ ∃ (d22 k23 n24 : Nat) (Q25 : Nat → eH → Prop), cR c.1 c.2.1 c.2.2.1 d22 mX0_allUnits [.ref a0] h k23 n24 Q25 cX0 ∧ d22 + 1 ≤ c.2.2.2.1 ∧ k23 ≤ k ∧ n24 ≤ n ∧ (∀ (r19 : Nat) (h20 : eH), Q25 r19 h20 → (∃ fs8 : List Value, h20.1 r19 = some (.inr (15, fs8)) ∧ ∃ (d29 k30 n31 : Nat) (Q32 : Nat → eH → Prop), cR c.1 c.2.1 c.2.2.1 d29 mJ2_get [.ref r19, .int a1] h20 k30 n31 Q32 cX0 ∧ d29 + 1 ≤ c.2.2.2.1 ∧ k30 ≤ k - k23 ∧ n31 ≤ n - n24 ∧ (∀ (r26 : Nat) (h27 : eH), Q32 r26 h27 → (eCs c.2.2.1 h27 r26 "TroupeSums$Signs" ∧ (∃ x34 : Int32, fV h27 r26 14 0 (.int x34) ∧ (∃ v36 : vp_A, h27.1 a3 = some (.inl (c.2.2.1.2.1 1, v36)) ∧ (∃ (d41 k42 n43 : Nat) (Q44 : Int32 → eH → Prop), cI c.1 c.2.1 c.2.2.1 d41 mX0_isOf [.long x34.toInt64, .int (((nI v36.1) - (1 : Int32)) - a4)] h27 k42 n43 Q44 cX0 ∧ d41 + 1 ≤ c.2.2.2.1 ∧ k42 ≤ k - k23 - k30 ∧ n43 ≤ n - n24 - n31 ∧ (∀ (r38 : Int32) (h39 : eH), Q44 r38 h39 → ((r38 = 0 → ∃ (N46 : Nat) (f47 : Nat → Int64), h39.1 a3 = some (.inl (c.2.2.1.2.1 1, N46, .inr (.inl f47))) ∧ c.2.1 ≤ a3 ∧ vp_in a4 N46 ∧ ∀ h49 : eH, h49 = eUp h39 a3 (.inl (c.2.2.1.2.1 1, N46, .inr (.inl (va_up f47 a4.toNatClampNeg (1 : Int64))))) → (h_X0_unit_37 c a0 a1 a2 a3 (a4 + 1) h49 (k - k23 - k30 - k42) (n - n24 - n31 - n43))) ∧ (¬ r38 = 0 → ∃ (N50 : Nat) (f51 : Nat → Int64), h39.1 a3 = some (.inl (c.2.2.1.2.1 1, N50, .inr (.inl f51))) ∧ c.2.1 ≤ a3 ∧ vp_in a4 N50 ∧ ∀ h53 : eH, h53 = eUp h39 a3 (.inl (c.2.2.1.2.1 1, N50, .inr (.inl (va_up f51 a4.toNatClampNeg (-1 : Int64))))) → (h_X0_unit_37 c a0 a1 a2 a3 (a4 + 1) h53 (k - k23 - k30 - k42) (n - n24 - n31 - n43))))))))))))))) : h_X0_unit_37 c a0 a1 a2 a3 a4 h k n := by
  refine e_iload dX0_unit_37 rfl ?_
  refine e_aload_n dX0_unit_39 rfl ?_
  obtain ⟨v1, g2, H⟩ := H
  refine e_alen (t := 1) dX0_unit_40 (fun _ => rfl) g2 ?_
  refine e_icmp_ge 91 dX0_unit_41 (by decide) (fun g3 => ?_) (fun g3 => ?_)
  · replace H := H.1 g3
    refine e_aload_n dX0_unit_91 rfl ?_
    obtain ⟨x4, ⟨fsx4, g5, g5v⟩, H⟩ := H
    refine e_get dX0_unit_92 fX0_4 q1239 g5 g5v ?_
    obtain ⟨x6, ⟨fsx6, g7, g7v⟩, H⟩ := H
    refine e_getN dX0_unit_95 fX1_2 q238 g7 g7v ?_
    refine e_aload_n dX0_unit_98 rfl ?_
    obtain ⟨o8, eo8, H⟩ := H
    subst eo8
    obtain ⟨fsg11, g11o, H⟩ := H
    obtain ⟨d12, k13, n14, Q15, g11, g11d, g11k, g11n, H⟩ := H
    refine e_callV (r := (RX3, TX3, 8)) (As := [.ref a3]) g11 dX0_unit_99 wX3_solved q2255 q1860 q1861 g11o rfl rfl g11d rfl (Nat.le_of_ble_eq_true rfl) (k1 := k - k13) (n1 := n - n14) (by omega) (by omega) ?_ ?_
    · rintro v h10 (⟨v9, e9, r9, e8, hq⟩ | ⟨ci9, q9, e9, -⟩)
      · cases e9
        subst e8
        replace H := H r9 h10 hq
        refine e_iload_n dX0_unit_102 rfl ?_
        obtain ⟨N16, f17, g18, g18i, H⟩ := H
        refine e_laload dX0_unit_103 g18 g18i ?_
        refine e_l2i dX0_unit_104 ?_
        exact e_ireturn .int dX0_unit_105 rfl rfl H
      · cases e9
    · rintro q9 h9 (⟨v9, e9, -⟩ | ⟨ci9, q8, e9, -, -, hx⟩)
      · cases e9
      · exact hx.elim
  · replace H := H.2 g3
    refine e_aload_n dX0_unit_44 rfl ?_
    refine e_iload dX0_unit_45 rfl ?_
    refine e_aload_n dX0_unit_47 rfl ?_
    obtain ⟨fsg21, g21o, H⟩ := H
    obtain ⟨d22, k23, n24, Q25, g21, g21d, g21k, g21n, H⟩ := H
    refine e_callV (r := (RX0, TX0, 8)) (As := []) g21 dX0_unit_48 wX0_allUnits q2191 q2193 qs49 g21o rfl rfl g21d rfl (Nat.le_of_ble_eq_true rfl) (k1 := k - k23) (n1 := n - n24) (by omega) (by omega) ?_ ?_
    · rintro v h20 (⟨v9, e9, r19, e8, hq⟩ | ⟨ci9, q9, e9, -⟩)
      · cases e9
        subst e8
        replace H := H r19 h20 hq
        refine e_iload_n dX0_unit_51 rfl ?_
        obtain ⟨fsg28, g28o, H⟩ := H
        obtain ⟨d29, k30, n31, Q32, g28, g28d, g28k, g28n, H⟩ := H
        refine e_callF (i := 4) (r := (RJ2, TJ2, 3)) (As := [.int a1]) g28 dX0_unit_52 wJ2_get rfl rfl q1950 q887 q885 g28o rfl rfl g28d rfl (Nat.le_of_ble_eq_true rfl) (k1 := k - k23 - k30) (n1 := n - n24 - n31) (by omega) (by omega) ?_ ?_
        · rintro v h27 (⟨v9, e9, r26, e8, hq⟩ | ⟨ci9, q9, e9, -⟩)
          · cases e9
            subst e8
            replace H := H r26 h27 hq
            obtain ⟨g33, H⟩ := H
            refine c_castR dX0_unit_57 q2252 g33 ?_
            obtain ⟨x34, ⟨fsx34, g35, g35v⟩, H⟩ := H
            refine e_getN dX0_unit_60 fX14_0 q2235 g35 g35v ?_
            refine e_i2l dX0_unit_63 ?_
            refine e_aload_n dX0_unit_64 rfl ?_
            obtain ⟨v36, g37, H⟩ := H
            refine e_alen (t := 1) dX0_unit_65 (fun _ => rfl) g37 ?_
            refine e_iconst (1) dX0_unit_66 (by decide) ?_
            refine e_isub dX0_unit_67 ?_
            refine e_iload dX0_unit_68 rfl ?_
            refine e_isub dX0_unit_70 ?_
            obtain ⟨d41, k42, n43, Q44, g40, g40d, g40k, g40n, H⟩ := H
            refine e_callS (As := [.long x34.toInt64, .int (((nI v36.1) - (1 : Int32)) - a4)]) g40 dX0_unit_71 wX0_isOf q2253 q937 rfl g40d rfl (Nat.le_of_ble_eq_true rfl) (k1 := k - k23 - k30 - k42) (n1 := n - n24 - n31 - n43) (by omega) (by omega) ?_ ?_
            · rintro v h39 (⟨v9, e9, r38, e8, hq⟩ | ⟨ci9, q9, e9, -⟩)
              · cases e9
                subst e8
                replace H := H r38 h39 hq
                refine e_if_eq 83 dX0_unit_74 (by decide) (fun g45 => ?_) (fun g45 => ?_)
                · replace H := H.1 g45
                  refine e_lconst 1 dX0_unit_83 (by decide) ?_
                  obtain ⟨N46, f47, g48, g48l, g48i, H⟩ := H
                  refine e_lastore dX0_unit_84 g48 g48l g48i ?_
                  replace H := H _ rfl
                  generalize eUp h39 a3 _ = h49 at H ⊢
                  refine e_iinc (a4 + 1) _ dX0_unit_85 rfl rfl (by decide) rfl rfl ?_
                  refine e_goto 37 dX0_unit_88 (by decide) ?_
                  exact E.less2 H (eS_s (eS_s (eS_s (eS_s (eS_s eS_0)))))
                · replace H := H.2 g45
                  refine e_ldc2 dX0_unit_77 q2254 ?_
                  refine e_goto 84 dX0_unit_80 (by decide) ?_
                  obtain ⟨N50, f51, g52, g52l, g52i, H⟩ := H
                  refine e_lastore dX0_unit_84 g52 g52l g52i ?_
                  replace H := H _ rfl
                  generalize eUp h39 a3 _ = h53 at H ⊢
                  refine e_iinc (a4 + 1) _ dX0_unit_85 rfl rfl (by decide) rfl rfl ?_
                  refine e_goto 37 dX0_unit_88 (by decide) ?_
                  exact E.less2 H (eS_s (eS_s (eS_s (eS_s (eS_s eS_0)))))
              · cases e9
            · rintro q9 h9 (⟨v9, e9, -⟩ | ⟨ci9, q8, e9, -, -, hx⟩)
              · cases e9
              · exact hx.elim
          · cases e9
        · rintro q9 h9 (⟨v9, e9, -⟩ | ⟨ci9, q8, e9, -, -, hx⟩)
          · cases e9
          · exact hx.elim
      · cases e9
    · rintro q9 h9 (⟨v9, e9, -⟩ | ⟨ci9, q8, e9, -, -, hx⟩)
      · cases e9
      · exact hx.elim
theorem en_X0_unit {l : Launch} {lo : Nat} {G : eG} {d : Nat} {P : eO → eH → Prop} (a0 : Nat) (a1 : Int32) (a2 : Int32) {h : eH} {k n : Nat} (H : h_X0_unit_0 (l, lo, G, d, P) a0 a1 a2 h k n) : Ct l lo G d mX0_unit [.ref a0, .int a1, .int a2] h k n P := 
  Ct_of (eArL mX0_unit.2.2.2.1 [.ref a0, .int a1, .int a2]) (by decide) rfl (Nat.le_of_ble_eq_true rfl) (fun j w q => eArL_mem j w q) (E.less2 H (eS_s (eS_s (eS_s (eS_n (eS_n eS_0))))))
/-! X0_named TroupeSums.named(II)J -/
def h_X0_named_0 (c : cC) (a0 : Nat) (a1 : Int32) (a2 : Int32) (h : eH) (k n : Nat) : Prop := E c.1 c.2.1 c.2.2.1 c.2.2.2.1 mX0_named c.2.2.2.2 0 [some (.ref a0), some (.int a1), some (.int a2)] [] h k n
set_option maxHeartbeats 4000000 in
theorem s_X0_named_0 (c : cC) (a0 : Nat) (a1 : Int32) (a2 : Int32) (h : eH) (k n : Nat) (H : ∃ x1 : Nat, fV h a0 0 4 (.ref x1) ∧ (∃ x3 : Nat, fV h x1 1 4 (.ref x3) ∧ (∃ fs8 : List Value, h.1 x3 = some (.inr (15, fs8)) ∧ ∃ (d8 k9 n10 : Nat) (Q11 : Int32 → eH → Prop), cI c.1 c.2.1 c.2.2.1 d8 mJ2_size [.ref x3] h k9 n10 Q11 cX0 ∧ d8 + 1 ≤ c.2.2.2.1 ∧ k9 ≤ k ∧ n10 ≤ n ∧ (∀ (r5 : Int32) (h6 : eH), Q11 r5 h6 → (∃ (d15 k16 n17 : Nat) (Q18 : Int32 → eH → Prop), cI c.1 c.2.1 c.2.2.1 d15 mX0_isIn [.long a1.toInt64, .long (0 : Int64), .long ((r5 - (1 : Int32)).toInt64)] h6 k16 n17 Q18 cX0 ∧ d15 + 1 ≤ c.2.2.2.1 ∧ k16 ≤ k - k9 ∧ n17 ≤ n - n10 ∧ (∀ (r12 : Int32) (h13 : eH), Q18 r12 h13 → ((r12 = 0 → c.2.2.2.2 (.inl (some (.long (-9223372036854775808 : Int64)))) h13) ∧ (¬ r12 = 0 → ∃ x20 : Nat, fV h13 a0 0 4 (.ref x20) ∧ (∃ x22 : Nat, fV h13 x20 1 4 (.ref x22) ∧ (∃ fs8 : List Value, h13.1 x22 = some (.inr (15, fs8)) ∧ ∃ (d27 k28 n29 : Nat) (Q30 : Nat → eH → Prop), cR c.1 c.2.1 c.2.2.1 d27 mJ2_get [.ref x22, .int a1] h13 k28 n29 Q30 cX0 ∧ d27 + 1 ≤ c.2.2.2.1 ∧ k28 ≤ k - k9 - k16 ∧ n29 ≤ n - n10 - n17 ∧ (∀ (r24 : Nat) (h25 : eH), Q30 r24 h25 → (eCs c.2.2.1 h25 r24 "TroupeSums$Sum" ∧ (∃ x32 : Nat, fV h25 r24 9 1 (.ref x32) ∧ (∃ (d37 k38 n39 : Nat) (Q40 : Int64 → eH → Prop), cL c.1 c.2.1 c.2.2.1 d37 mX0_numberOf [.ref x32, .int a2] h25 k38 n39 Q40 cX0 ∧ d37 + 1 ≤ c.2.2.2.1 ∧ k38 ≤ k - k9 - k16 - k28 ∧ n39 ≤ n - n10 - n17 - n29 ∧ (∀ (r34 : Int64) (h35 : eH), Q40 r34 h35 → (c.2.2.2.2 (.inl (some (.long r34))) h35)))))))))))))))) : h_X0_named_0 c a0 a1 a2 h k n := by
  refine e_iload_n dX0_named_0 rfl ?_
  refine e_i2l dX0_named_1 ?_
  refine e_lconst 0 dX0_named_2 (by decide) ?_
  refine e_aload_n dX0_named_3 rfl ?_
  obtain ⟨x1, ⟨fsx1, g2, g2v⟩, H⟩ := H
  refine e_get dX0_named_4 fX0_4 q1239 g2 g2v ?_
  obtain ⟨x3, ⟨fsx3, g4, g4v⟩, H⟩ := H
  refine e_getN dX0_named_7 fX1_4 q245 g4 g4v ?_
  obtain ⟨fsg7, g7o, H⟩ := H
  obtain ⟨d8, k9, n10, Q11, g7, g7d, g7k, g7n, H⟩ := H
  refine e_callF (i := 3) (r := (RJ2, TJ2, 3)) (As := []) g7 dX0_named_10 wJ2_size rfl rfl q1918 q876 q874 g7o rfl rfl g7d rfl (Nat.le_of_ble_eq_true rfl) (k1 := k - k9) (n1 := n - n10) (by omega) (by omega) ?_ ?_
  · rintro v h6 (⟨v9, e9, r5, e8, hq⟩ | ⟨ci9, q9, e9, -⟩)
    · cases e9
      subst e8
      replace H := H r5 h6 hq
      refine e_iconst (1) dX0_named_15 (by decide) ?_
      refine e_isub dX0_named_16 ?_
      refine e_i2l dX0_named_17 ?_
      obtain ⟨d15, k16, n17, Q18, g14, g14d, g14k, g14n, H⟩ := H
      refine e_callS (As := [.long a1.toInt64, .long (0 : Int64), .long ((r5 - (1 : Int32)).toInt64)]) g14 dX0_named_18 wX0_isIn q1948 q1791 rfl g14d rfl (Nat.le_of_ble_eq_true rfl) (k1 := k - k9 - k16) (n1 := n - n10 - n17) (by omega) (by omega) ?_ ?_
      · rintro v h13 (⟨v9, e9, r12, e8, hq⟩ | ⟨ci9, q9, e9, -⟩)
        · cases e9
          subst e8
          replace H := H r12 h13 hq
          refine e_if_eq 50 dX0_named_21 (by decide) (fun g19 => ?_) (fun g19 => ?_)
          · replace H := H.1 g19
            refine e_ldc2 dX0_named_50 q2266 ?_
            exact e_lreturn dX0_named_53 rfl H
          · replace H := H.2 g19
            refine e_aload_n dX0_named_24 rfl ?_
            obtain ⟨x20, ⟨fsx20, g21, g21v⟩, H⟩ := H
            refine e_get dX0_named_25 fX0_4 q1239 g21 g21v ?_
            obtain ⟨x22, ⟨fsx22, g23, g23v⟩, H⟩ := H
            refine e_getN dX0_named_28 fX1_4 q245 g23 g23v ?_
            refine e_iload_n dX0_named_31 rfl ?_
            obtain ⟨fsg26, g26o, H⟩ := H
            obtain ⟨d27, k28, n29, Q30, g26, g26d, g26k, g26n, H⟩ := H
            refine e_callF (i := 4) (r := (RJ2, TJ2, 3)) (As := [.int a1]) g26 dX0_named_32 wJ2_get rfl rfl q1950 q887 q885 g26o rfl rfl g26d rfl (Nat.le_of_ble_eq_true rfl) (k1 := k - k9 - k16 - k28) (n1 := n - n10 - n17 - n29) (by omega) (by omega) ?_ ?_
            · rintro v h25 (⟨v9, e9, r24, e8, hq⟩ | ⟨ci9, q9, e9, -⟩)
              · cases e9
                subst e8
                replace H := H r24 h25 hq
                obtain ⟨g31, H⟩ := H
                refine c_castR dX0_named_37 q2260 g31 ?_
                obtain ⟨x32, ⟨fsx32, g33, g33v⟩, H⟩ := H
                refine e_getN dX0_named_40 fX9_1 q1818 g33 g33v ?_
                refine e_iload_n dX0_named_43 rfl ?_
                obtain ⟨d37, k38, n39, Q40, g36, g36d, g36k, g36n, H⟩ := H
                refine e_callS (As := [.ref x32, .int a2]) g36 dX0_named_44 wX0_numberOf q2261 q2262 rfl g36d rfl (Nat.le_of_ble_eq_true rfl) (k1 := k - k9 - k16 - k28 - k38) (n1 := n - n10 - n17 - n29 - n39) (by omega) (by omega) ?_ ?_
                · rintro v h35 (⟨v9, e9, r34, e8, hq⟩ | ⟨ci9, q9, e9, -⟩)
                  · cases e9
                    subst e8
                    replace H := H r34 h35 hq
                    refine e_goto 53 dX0_named_47 (by decide) ?_
                    exact e_lreturn dX0_named_53 rfl H
                  · cases e9
                · rintro q9 h9 (⟨v9, e9, -⟩ | ⟨ci9, q8, e9, -, -, hx⟩)
                  · cases e9
                  · exact hx.elim
              · cases e9
            · rintro q9 h9 (⟨v9, e9, -⟩ | ⟨ci9, q8, e9, -, -, hx⟩)
              · cases e9
              · exact hx.elim
        · cases e9
      · rintro q9 h9 (⟨v9, e9, -⟩ | ⟨ci9, q8, e9, -, -, hx⟩)
        · cases e9
        · exact hx.elim
    · cases e9
  · rintro q9 h9 (⟨v9, e9, -⟩ | ⟨ci9, q8, e9, -, -, hx⟩)
    · cases e9
    · exact hx.elim
theorem en_X0_named {l : Launch} {lo : Nat} {G : eG} {d : Nat} {P : eO → eH → Prop} (a0 : Nat) (a1 : Int32) (a2 : Int32) {h : eH} {k n : Nat} (H : h_X0_named_0 (l, lo, G, d, P) a0 a1 a2 h k n) : Ct l lo G d mX0_named [.ref a0, .int a1, .int a2] h k n P := 
  Ct_of (eArL mX0_named.2.2.2.1 [.ref a0, .int a1, .int a2]) (by decide) rfl (Nat.le_of_ble_eq_true rfl) (fun j w q => eArL_mem j w q) (E.less2 H (eS_s (eS_s (eS_s eS_0))))
/-! X0_numberOf TroupeSums.numberOf([JI)J -/
def h_X0_numberOf_0 (c : cC) (a0 : Nat) (a1 : Int32) (h : eH) (k n : Nat) : Prop := E c.1 c.2.1 c.2.2.1 c.2.2.2.1 mX0_numberOf c.2.2.2.2 0 [some (.ref a0), some (.int a1), none, none] [] h k n
def h_X0_numberOf_15 (c : cC) (b0 : Nat) (h : eH) (k n : Nat) : Prop := E c.1 c.2.1 c.2.2.1 c.2.2.2.1 mX0_numberOf c.2.2.2.2 15 [none, none, none, none] [.ref b0] h k n
set_option maxHeartbeats 4000000 in
theorem s_X0_numberOf_0 (c : cC) (a0 : Nat) (a1 : Int32) (h : eH) (k n : Nat) (H : ∃ N3 : Nat, (1 : Int32) = nI N3 ∧ N3 ≤ 10000000 ∧ 1 ≤ k ∧ N3 ≤ n ∧ ∀ h1 : eH, h1 = eNw h (.inl (c.2.2.1.2.1 1, N3, .inr (.inl (fun _ => 0)))) → (∃ (N9 M9 : Nat) (f9 g9 : Nat → Int64), h1.1 a0 = some (.inl (c.2.2.1.2.1 1, N9, .inr (.inl f9))) ∧ h1.1 h.2 = some (.inl (c.2.2.1.2.1 1, M9, .inr (.inl g9))) ∧ c.2.1 ≤ a0 ∧ c.2.1 ≤ h.2 ∧ ¬ a1 < 0 ∧ ¬ (0 : Int32) < 0 ∧ ¬ (1 : Int32) < 0 ∧ a1.toNatClampNeg + (1 : Int32).toNatClampNeg ≤ N9 ∧ (0 : Int32).toNatClampNeg + (1 : Int32).toNatClampNeg ≤ M9 ∧ 1 ≤ c.2.2.2.1 ∧ ∀ h4 : eH, h4 = eUp h1 h.2 (.inl (c.2.2.1.2.1 1, M9, .inr (.inl (va_cpy f9 g9 a1.toNatClampNeg (0 : Int32).toNatClampNeg (1 : Int32).toNatClampNeg)))) → (∃ (N6 : Nat) (f7 : Nat → Int64), h4.1 h.2 = some (.inl (c.2.2.1.2.1 1, N6, .inr (.inl f7))) ∧ vp_in (0 : Int32) N6 ∧ (c.2.2.2.2 (.inl (some (.long (f7 (0 : Int32).toNatClampNeg)))) h4)))) : h_X0_numberOf_0 c a0 a1 h k n := by
  refine e_iconst (1) dX0_numberOf_0 (by decide) ?_
  obtain ⟨N3, g2i, g2b, g2, g2n, H⟩ := H
  refine c_newarrayJ dX0_numberOf_1 q1234 g2i g2b g2 g2n ?_
  replace H := H _ rfl
  generalize eNw h _ = h1 at H ⊢
  refine e_astore_n _ dX0_numberOf_3 (by decide) rfl rfl ?_
  refine e_aload_n dX0_numberOf_4 rfl ?_
  refine e_iload_n dX0_numberOf_5 rfl ?_
  refine e_aload_n dX0_numberOf_6 rfl ?_
  refine e_iconst (0) dX0_numberOf_7 (by decide) ?_
  refine e_iconst (1) dX0_numberOf_8 (by decide) ?_
  obtain ⟨N9, M9, f9, g9, g5a, g5b, g5c, g5d, g51, g52, g53, g54, g55, g5h, H⟩ := H
  refine e_copyL dX0_numberOf_9 q2265 q867 q866 q162 g5a g5b g5c g5d g51 g52 g53 g54 g55 g5h (Nat.le_of_ble_eq_true rfl) ?_
  replace H := H _ rfl
  generalize eUp h1 _ _ = h4 at H ⊢
  refine e_goto 20 dX0_numberOf_12 (by decide) ?_
  refine e_aload_n dX0_numberOf_20 rfl ?_
  refine e_iconst (0) dX0_numberOf_21 (by decide) ?_
  obtain ⟨N6, f7, g8, g8i, H⟩ := H
  refine e_laload dX0_numberOf_22 g8 g8i ?_
  exact e_lreturn dX0_numberOf_23 rfl H
set_option maxHeartbeats 4000000 in
theorem s_X0_numberOf_15 (c : cC) (b0 : Nat) (h : eH) (k n : Nat) (H : c.2.2.2.2 (.inl (some (.long (-9223372036854775808 : Int64)))) h) : h_X0_numberOf_15 c b0 h k n := by
  refine e_astore_n _ dX0_numberOf_15 (by decide) trivial rfl ?_
  refine e_ldc2 dX0_numberOf_16 q2266 ?_
  exact e_lreturn dX0_numberOf_19 rfl H
theorem en_X0_numberOf {l : Launch} {lo : Nat} {G : eG} {d : Nat} {P : eO → eH → Prop} (a0 : Nat) (a1 : Int32) {h : eH} {k n : Nat} (H : h_X0_numberOf_0 (l, lo, G, d, P) a0 a1 h k n) : Ct l lo G d mX0_numberOf [.ref a0, .int a1] h k n P := 
  Ct_of (eArL mX0_numberOf.2.2.2.1 [.ref a0, .int a1]) (by decide) rfl (Nat.le_of_ble_eq_true rfl) (fun j w q => eArL_mem j w q) (E.less2 H (eS_s (eS_s (eS_n (eS_n eS_0)))))
/-! X0_has TroupeSums.has(I)J -/
def h_X0_has_0 (c : cC) (a0 : Nat) (a1 : Int32) (h : eH) (k n : Nat) : Prop := E c.1 c.2.1 c.2.2.1 c.2.2.2.1 mX0_has c.2.2.2.2 0 [some (.ref a0), some (.int a1)] [] h k n
set_option maxHeartbeats 4000000 in
theorem s_X0_has_0 (c : cC) (a0 : Nat) (a1 : Int32) (h : eH) (k n : Nat) (H : ∃ x1 : Nat, fV h a0 0 5 (.ref x1) ∧ (∃ (d6 k7 n8 : Nat) (Q9 : Int64 → eH → Prop), cL c.1 c.2.1 c.2.2.1 d6 mX0_numberOf [.ref x1, .int a1] h k7 n8 Q9 cX0 ∧ d6 + 1 ≤ c.2.2.2.1 ∧ k7 ≤ k ∧ n8 ≤ n ∧ (∀ (r3 : Int64) (h4 : eH), Q9 r3 h4 → (c.2.2.2.2 (.inl (some (.long r3))) h4)))) : h_X0_has_0 c a0 a1 h k n := by
  refine e_aload_n dX0_has_0 rfl ?_
  obtain ⟨x1, ⟨fsx1, g2, g2v⟩, H⟩ := H
  refine e_get dX0_has_1 fX0_5 q1240 g2 g2v ?_
  refine e_iload_n dX0_has_4 rfl ?_
  obtain ⟨d6, k7, n8, Q9, g5, g5d, g5k, g5n, H⟩ := H
  refine e_callS (As := [.ref x1, .int a1]) g5 dX0_has_5 wX0_numberOf q2261 q2262 rfl g5d rfl (Nat.le_of_ble_eq_true rfl) (k1 := k - k7) (n1 := n - n8) (by omega) (by omega) ?_ ?_
  · rintro v h4 (⟨v9, e9, r3, e8, hq⟩ | ⟨ci9, q9, e9, -⟩)
    · cases e9
      subst e8
      replace H := H r3 h4 hq
      exact e_lreturn dX0_has_8 rfl H
    · cases e9
  · rintro q9 h9 (⟨v9, e9, -⟩ | ⟨ci9, q8, e9, -, -, hx⟩)
    · cases e9
    · exact hx.elim
theorem en_X0_has {l : Launch} {lo : Nat} {G : eG} {d : Nat} {P : eO → eH → Prop} (a0 : Nat) (a1 : Int32) {h : eH} {k n : Nat} (H : h_X0_has_0 (l, lo, G, d, P) a0 a1 h k n) : Ct l lo G d mX0_has [.ref a0, .int a1] h k n P := 
  Ct_of (eArL mX0_has.2.2.2.1 [.ref a0, .int a1]) (by decide) rfl (Nat.le_of_ble_eq_true rfl) (fun j w q => eArL_mem j w q) (E.less2 H (eS_s (eS_s eS_0)))
/-! X0_marked TroupeSums.marked(I)J -/
def h_X0_marked_0 (c : cC) (a0 : Nat) (a1 : Int32) (h : eH) (k n : Nat) : Prop := E c.1 c.2.1 c.2.2.1 c.2.2.2.1 mX0_marked c.2.2.2.2 0 [some (.ref a0), some (.int a1)] [] h k n
set_option maxHeartbeats 4000000 in
theorem s_X0_marked_0 (c : cC) (a0 : Nat) (a1 : Int32) (h : eH) (k n : Nat) (H : ∃ fs8 : List Value, h.1 a0 = some (.inr (0, fs8)) ∧ ∃ (d4 k5 n6 : Nat) (Q7 : Nat → eH → Prop), cR c.1 c.2.1 c.2.2.1 d4 mX0_marksNow [.ref a0] h k5 n6 Q7 cX0 ∧ d4 + 1 ≤ c.2.2.2.1 ∧ k5 ≤ k ∧ n6 ≤ n ∧ (∀ (r1 : Nat) (h2 : eH), Q7 r1 h2 → (∃ (d11 k12 n13 : Nat) (Q14 : Int64 → eH → Prop), cL c.1 c.2.1 c.2.2.1 d11 mX0_numberOf [.ref r1, .int a1] h2 k12 n13 Q14 cX0 ∧ d11 + 1 ≤ c.2.2.2.1 ∧ k12 ≤ k - k5 ∧ n13 ≤ n - n6 ∧ (∀ (r8 : Int64) (h9 : eH), Q14 r8 h9 → (c.2.2.2.2 (.inl (some (.long r8))) h9))))) : h_X0_marked_0 c a0 a1 h k n := by
  refine e_aload_n dX0_marked_0 rfl ?_
  obtain ⟨fsg3, g3o, H⟩ := H
  obtain ⟨d4, k5, n6, Q7, g3, g3d, g3k, g3n, H⟩ := H
  refine e_callV (r := (RX0, TX0, 8)) (As := []) g3 dX0_marked_1 wX0_marksNow q2275 q2277 qs50 g3o rfl rfl g3d rfl (Nat.le_of_ble_eq_true rfl) (k1 := k - k5) (n1 := n - n6) (by omega) (by omega) ?_ ?_
  · rintro v h2 (⟨v9, e9, r1, e8, hq⟩ | ⟨ci9, q9, e9, -⟩)
    · cases e9
      subst e8
      replace H := H r1 h2 hq
      refine e_iload_n dX0_marked_4 rfl ?_
      obtain ⟨d11, k12, n13, Q14, g10, g10d, g10k, g10n, H⟩ := H
      refine e_callS (As := [.ref r1, .int a1]) g10 dX0_marked_5 wX0_numberOf q2261 q2262 rfl g10d rfl (Nat.le_of_ble_eq_true rfl) (k1 := k - k5 - k12) (n1 := n - n6 - n13) (by omega) (by omega) ?_ ?_
      · rintro v h9 (⟨v9, e9, r8, e8, hq⟩ | ⟨ci9, q9, e9, -⟩)
        · cases e9
          subst e8
          replace H := H r8 h9 hq
          exact e_lreturn dX0_marked_8 rfl H
        · cases e9
      · rintro q9 h9 (⟨v9, e9, -⟩ | ⟨ci9, q8, e9, -, -, hx⟩)
        · cases e9
        · exact hx.elim
    · cases e9
  · rintro q9 h9 (⟨v9, e9, -⟩ | ⟨ci9, q8, e9, -, -, hx⟩)
    · cases e9
    · exact hx.elim
theorem en_X0_marked {l : Launch} {lo : Nat} {G : eG} {d : Nat} {P : eO → eH → Prop} (a0 : Nat) (a1 : Int32) {h : eH} {k n : Nat} (H : h_X0_marked_0 (l, lo, G, d, P) a0 a1 h k n) : Ct l lo G d mX0_marked [.ref a0, .int a1] h k n P := 
  Ct_of (eArL mX0_marked.2.2.2.1 [.ref a0, .int a1]) (by decide) rfl (Nat.le_of_ble_eq_true rfl) (fun j w q => eArL_mem j w q) (E.less2 H (eS_s (eS_s eS_0)))
/-! X0_marksNow TroupeSums.marksNow()[J -/
def h_X0_marksNow_0 (c : cC) (a0 : Nat) (h : eH) (k n : Nat) : Prop := E c.1 c.2.1 c.2.2.1 c.2.2.2.1 mX0_marksNow c.2.2.2.2 0 [some (.ref a0)] [] h k n
set_option maxHeartbeats 4000000 in
theorem s_X0_marksNow_0 (c : cC) (a0 : Nat) (h : eH) (k n : Nat) (H : ∃ x1 : Nat, fV h a0 0 4 (.ref x1) ∧ (∃ x3 : Option Nat, fV h x1 1 2 (va_rf x3) ∧ (∃ x5 : Nat, fV h a0 0 5 (.ref x5) ∧ (∃ o7 : Nat, x3 = some o7 ∧ ∃ fs8 : List Value, h.1 o7 = some (.inr (3, fs8)) ∧ ∃ (d11 k12 n13 : Nat) (Q14 : Nat → eH → Prop), cR c.1 c.2.1 c.2.2.1 d11 mX3_marksOf [.ref o7, .ref x5] h k12 n13 Q14 cX0 ∧ d11 + 1 ≤ c.2.2.2.1 ∧ k12 ≤ k ∧ n13 ≤ n ∧ (∀ (r8 : Nat) (h9 : eH), Q14 r8 h9 → (c.2.2.2.2 (.inl (some (.ref r8))) h9)))))) : h_X0_marksNow_0 c a0 h k n := by
  refine e_aload_n dX0_marksNow_0 rfl ?_
  obtain ⟨x1, ⟨fsx1, g2, g2v⟩, H⟩ := H
  refine e_get dX0_marksNow_1 fX0_4 q1239 g2 g2v ?_
  obtain ⟨x3, ⟨fsx3, g4, g4v⟩, H⟩ := H
  refine e_getN dX0_marksNow_4 fX1_2 q238 g4 g4v ?_
  refine e_aload_n dX0_marksNow_7 rfl ?_
  obtain ⟨x5, ⟨fsx5, g6, g6v⟩, H⟩ := H
  refine e_get dX0_marksNow_8 fX0_5 q1240 g6 g6v ?_
  obtain ⟨o7, eo7, H⟩ := H
  subst eo7
  obtain ⟨fsg10, g10o, H⟩ := H
  obtain ⟨d11, k12, n13, Q14, g10, g10d, g10k, g10n, H⟩ := H
  refine e_callV (r := (RX3, TX3, 8)) (As := [.ref x5]) g10 dX0_marksNow_11 wX3_marksOf q2279 q1813 q1814 g10o rfl rfl g10d rfl (Nat.le_of_ble_eq_true rfl) (k1 := k - k12) (n1 := n - n13) (by omega) (by omega) ?_ ?_
  · rintro v h9 (⟨v9, e9, r8, e8, hq⟩ | ⟨ci9, q9, e9, -⟩)
    · cases e9
      subst e8
      replace H := H r8 h9 hq
      exact e_areturn (r := some r8) _ dX0_marksNow_14 rfl (Or.inr ⟨_, rfl⟩) H
    · cases e9
  · rintro q9 h9 (⟨v9, e9, -⟩ | ⟨ci9, q8, e9, -, -, hx⟩)
    · cases e9
    · exact hx.elim
theorem en_X0_marksNow {l : Launch} {lo : Nat} {G : eG} {d : Nat} {P : eO → eH → Prop} (a0 : Nat) {h : eH} {k n : Nat} (H : h_X0_marksNow_0 (l, lo, G, d, P) a0 h k n) : Ct l lo G d mX0_marksNow [.ref a0] h k n P := 
  Ct_of (eArL mX0_marksNow.2.2.2.1 [.ref a0]) (by decide) rfl (Nat.le_of_ble_eq_true rfl) (fun j w q => eArL_mem j w q) (E.less2 H (eS_s eS_0))
/-! X0_character TroupeSums.character(I)J -/
def h_X0_character_0 (c : cC) (a0 : Nat) (a1 : Int32) (h : eH) (k n : Nat) : Prop := E c.1 c.2.1 c.2.2.1 c.2.2.2.1 mX0_character c.2.2.2.2 0 [some (.ref a0), some (.int a1)] [] h k n
set_option maxHeartbeats 4000000 in
theorem s_X0_character_0 (c : cC) (a0 : Nat) (a1 : Int32) (h : eH) (k n : Nat) (H : ∃ fs8 : List Value, h.1 a0 = some (.inr (0, fs8)) ∧ ∃ (d4 k5 n6 : Nat) (Q7 : Int32 → eH → Prop), cI c.1 c.2.1 c.2.2.1 d4 mX0_isMember [.ref a0, .int a1] h k5 n6 Q7 cX0 ∧ d4 + 1 ≤ c.2.2.2.1 ∧ k5 ≤ k ∧ n6 ≤ n ∧ (∀ (r1 : Int32) (h2 : eH), Q7 r1 h2 → ((r1 = 0 → c.2.2.2.2 (.inl (some (.long (-9223372036854775808 : Int64)))) h2) ∧ (¬ r1 = 0 → ∃ fs8 : List Value, h2.1 a0 = some (.inr (0, fs8)) ∧ ∃ (d12 k13 n14 : Nat) (Q15 : Int32 → eH → Prop), cI c.1 c.2.1 c.2.2.1 d12 mX0_sortOf [.ref a0, .int ((1 : Int32) <<< (a1 &&& 31))] h2 k13 n14 Q15 cX0 ∧ d12 + 1 ≤ c.2.2.2.1 ∧ k13 ≤ k - k5 ∧ n14 ≤ n - n6 ∧ (∀ (r9 : Int32) (h10 : eH), Q15 r9 h10 → (∃ fs8 : List Value, h10.1 a0 = some (.inr (0, fs8)) ∧ ∃ (d19 k20 n21 : Nat) (Q22 : Int64 → eH → Prop), cL c.1 c.2.1 c.2.2.1 d19 mX0_marked [.ref a0, .int r9] h10 k20 n21 Q22 cX0 ∧ d19 + 1 ≤ c.2.2.2.1 ∧ k20 ≤ k - k5 - k13 ∧ n21 ≤ n - n6 - n14 ∧ (∀ (r16 : Int64) (h17 : eH), Q22 r16 h17 → (c.2.2.2.2 (.inl (some (.long r16))) h17)))))))) : h_X0_character_0 c a0 a1 h k n := by
  refine e_aload_n dX0_character_0 rfl ?_
  refine e_iload_n dX0_character_1 rfl ?_
  obtain ⟨fsg3, g3o, H⟩ := H
  obtain ⟨d4, k5, n6, Q7, g3, g3d, g3k, g3n, H⟩ := H
  refine e_callV (r := (RX0, TX0, 8)) (As := [.int a1]) g3 dX0_character_2 wX0_isMember q1944 q1946 qs43 g3o rfl rfl g3d rfl (Nat.le_of_ble_eq_true rfl) (k1 := k - k5) (n1 := n - n6) (by omega) (by omega) ?_ ?_
  · rintro v h2 (⟨v9, e9, r1, e8, hq⟩ | ⟨ci9, q9, e9, -⟩)
    · cases e9
      subst e8
      replace H := H r1 h2 hq
      refine e_if_eq 22 dX0_character_5 (by decide) (fun g8 => ?_) (fun g8 => ?_)
      · replace H := H.1 g8
        refine e_ldc2 dX0_character_22 q2266 ?_
        exact e_lreturn dX0_character_25 rfl H
      · replace H := H.2 g8
        refine e_aload_n dX0_character_8 rfl ?_
        refine e_aload_n dX0_character_9 rfl ?_
        refine e_iconst (1) dX0_character_10 (by decide) ?_
        refine e_iload_n dX0_character_11 rfl ?_
        refine e_ishl dX0_character_12 ?_
        obtain ⟨fsg11, g11o, H⟩ := H
        obtain ⟨d12, k13, n14, Q15, g11, g11d, g11k, g11n, H⟩ := H
        refine e_callV (r := (RX0, TX0, 8)) (As := [.int ((1 : Int32) <<< (a1 &&& 31))]) g11 dX0_character_13 wX0_sortOf q2144 q2002 q2003 g11o rfl rfl g11d rfl (Nat.le_of_ble_eq_true rfl) (k1 := k - k5 - k13) (n1 := n - n6 - n14) (by omega) (by omega) ?_ ?_
        · rintro v h10 (⟨v9, e9, r9, e8, hq⟩ | ⟨ci9, q9, e9, -⟩)
          · cases e9
            subst e8
            replace H := H r9 h10 hq
            obtain ⟨fsg18, g18o, H⟩ := H
            obtain ⟨d19, k20, n21, Q22, g18, g18d, g18k, g18n, H⟩ := H
            refine e_callV (r := (RX0, TX0, 8)) (As := [.int r9]) g18 dX0_character_16 wX0_marked q2284 q2272 q2273 g18o rfl rfl g18d rfl (Nat.le_of_ble_eq_true rfl) (k1 := k - k5 - k13 - k20) (n1 := n - n6 - n14 - n21) (by omega) (by omega) ?_ ?_
            · rintro v h17 (⟨v9, e9, r16, e8, hq⟩ | ⟨ci9, q9, e9, -⟩)
              · cases e9
                subst e8
                replace H := H r16 h17 hq
                refine e_goto 25 dX0_character_19 (by decide) ?_
                exact e_lreturn dX0_character_25 rfl H
              · cases e9
            · rintro q9 h9 (⟨v9, e9, -⟩ | ⟨ci9, q8, e9, -, -, hx⟩)
              · cases e9
              · exact hx.elim
          · cases e9
        · rintro q9 h9 (⟨v9, e9, -⟩ | ⟨ci9, q8, e9, -, -, hx⟩)
          · cases e9
          · exact hx.elim
    · cases e9
  · rintro q9 h9 (⟨v9, e9, -⟩ | ⟨ci9, q8, e9, -, -, hx⟩)
    · cases e9
    · exact hx.elim
theorem en_X0_character {l : Launch} {lo : Nat} {G : eG} {d : Nat} {P : eO → eH → Prop} (a0 : Nat) (a1 : Int32) {h : eH} {k n : Nat} (H : h_X0_character_0 (l, lo, G, d, P) a0 a1 h k n) : Ct l lo G d mX0_character [.ref a0, .int a1] h k n P := 
  Ct_of (eArL mX0_character.2.2.2.1 [.ref a0, .int a1]) (by decide) rfl (Nat.le_of_ble_eq_true rfl) (fun j w q => eArL_mem j w q) (E.less2 H (eS_s (eS_s eS_0)))
/-! X0_parts TroupeSums.parts()I -/
def h_X0_parts_0 (c : cC) (a0 : Nat) (h : eH) (k n : Nat) : Prop := E c.1 c.2.1 c.2.2.1 c.2.2.2.1 mX0_parts c.2.2.2.2 0 [some (.ref a0), none, none, none, none, none, none] [] h k n
def h_X0_parts_13 (c : cC) (a1 : Int32) (a2 : Nat) (a3 : Int32) (a4 : Int32) (h : eH) (k n : Nat) : Prop := E c.1 c.2.1 c.2.2.1 c.2.2.2.1 mX0_parts c.2.2.2.2 13 [none, some (.int a1), some (.ref a2), some (.int a3), some (.int a4), none, none] [] h k n
set_option maxHeartbeats 4000000 in
theorem s_X0_parts_0 (c : cC) (a0 : Nat) (h : eH) (k n : Nat) (H : ∃ x1 : Nat, fV h a0 0 5 (.ref x1) ∧ (∃ v3 : vp_A, h.1 x1 = some (.inl (c.2.2.1.2.1 1, v3)) ∧ (h_X0_parts_13 c (0 : Int32) x1 (nI v3.1) (0 : Int32) h k n))) : h_X0_parts_0 c a0 h k n := by
  refine e_iconst (0) dX0_parts_0 (by decide) ?_
  refine e_istore_n _ dX0_parts_1 (by decide) rfl rfl ?_
  refine e_aload_n dX0_parts_2 rfl ?_
  obtain ⟨x1, ⟨fsx1, g2, g2v⟩, H⟩ := H
  refine e_get dX0_parts_3 fX0_5 q1240 g2 g2v ?_
  refine e_astore_n _ dX0_parts_6 (by decide) rfl rfl ?_
  refine e_aload_n dX0_parts_7 rfl ?_
  obtain ⟨v3, g4, H⟩ := H
  refine e_alen (t := 1) dX0_parts_8 (fun _ => rfl) g4 ?_
  refine e_istore_n _ dX0_parts_9 (by decide) rfl rfl ?_
  refine e_iconst (0) dX0_parts_10 (by decide) ?_
  refine e_istore _ dX0_parts_11 (by decide) rfl rfl ?_
  exact E.less2 H (eS_n (eS_s (eS_s (eS_s (eS_s (eS_n (eS_n eS_0)))))))
set_option maxHeartbeats 4000000 in
theorem s_X0_parts_13 (c : cC) (a1 : Int32) (a2 : Nat) (a3 : Int32) (a4 : Int32) (h : eH) (k n : Nat) (H : (a3 ≤ a4 → c.2.2.2.2 (.inl (some (.int a1))) h) ∧ (¬ a3 ≤ a4 → ∃ (N2 : Nat) (f3 : Nat → Int64), h.1 a2 = some (.inl (c.2.2.1.2.1 1, N2, .inr (.inl f3))) ∧ vp_in a4 N2 ∧ ((¬ (lg_cmp (f3 a4.toNatClampNeg) (0 : Int64)) = 0 → h_X0_parts_13 c (a1 + (1 : Int32)) a2 a3 (a4 + 1) h k n) ∧ ((lg_cmp (f3 a4.toNatClampNeg) (0 : Int64)) = 0 → h_X0_parts_13 c (a1 + (0 : Int32)) a2 a3 (a4 + 1) h k n)))) : h_X0_parts_13 c a1 a2 a3 a4 h k n := by
  refine e_iload dX0_parts_13 rfl ?_
  refine e_iload_n dX0_parts_15 rfl ?_
  refine e_icmp_ge 46 dX0_parts_16 (by decide) (fun g1 => ?_) (fun g1 => ?_)
  · replace H := H.1 g1
    refine e_iload_n dX0_parts_46 rfl ?_
    exact e_ireturn .int dX0_parts_47 rfl rfl H
  · replace H := H.2 g1
    refine e_aload_n dX0_parts_19 rfl ?_
    refine e_iload dX0_parts_20 rfl ?_
    obtain ⟨N2, f3, g4, g4i, H⟩ := H
    refine e_laload dX0_parts_22 g4 g4i ?_
    refine e_lstore _ dX0_parts_23 (by decide) rfl rfl ?_
    refine e_iload_n dX0_parts_25 rfl ?_
    refine e_lload dX0_parts_26 rfl ?_
    refine e_lconst 0 dX0_parts_28 (by decide) ?_
    refine e_lcmp dX0_parts_29 ?_
    refine e_if_ne 37 dX0_parts_30 (by decide) (fun g5 => ?_) (fun g5 => ?_)
    · replace H := H.1 g5
      refine e_iconst (1) dX0_parts_37 (by decide) ?_
      refine e_iadd dX0_parts_38 ?_
      refine e_istore_n _ dX0_parts_39 (by decide) trivial rfl ?_
      refine e_iinc (a4 + 1) _ dX0_parts_40 rfl rfl (by decide) rfl rfl ?_
      refine e_goto 13 dX0_parts_43 (by decide) ?_
      exact E.less2 H (eS_n (eS_s (eS_s (eS_s (eS_s (eS_n (eS_n eS_0)))))))
    · replace H := H.2 g5
      refine e_iconst (0) dX0_parts_33 (by decide) ?_
      refine e_goto 38 dX0_parts_34 (by decide) ?_
      refine e_iadd dX0_parts_38 ?_
      refine e_istore_n _ dX0_parts_39 (by decide) trivial rfl ?_
      refine e_iinc (a4 + 1) _ dX0_parts_40 rfl rfl (by decide) rfl rfl ?_
      refine e_goto 13 dX0_parts_43 (by decide) ?_
      exact E.less2 H (eS_n (eS_s (eS_s (eS_s (eS_s (eS_n (eS_n eS_0)))))))
theorem en_X0_parts {l : Launch} {lo : Nat} {G : eG} {d : Nat} {P : eO → eH → Prop} (a0 : Nat) {h : eH} {k n : Nat} (H : h_X0_parts_0 (l, lo, G, d, P) a0 h k n) : Ct l lo G d mX0_parts [.ref a0] h k n P := 
  Ct_of (eArL mX0_parts.2.2.2.1 [.ref a0]) (by decide) rfl (Nat.le_of_ble_eq_true rfl) (fun j w q => eArL_mem j w q) (E.less2 H (eS_s (eS_n (eS_n (eS_n (eS_n (eS_n (eS_n eS_0))))))))
/-! X0_congruence TroupeSums.congruence(I)J -/
def h_X0_congruence_0 (c : cC) (a0 : Nat) (a1 : Int32) (h : eH) (k n : Nat) : Prop := E c.1 c.2.1 c.2.2.1 c.2.2.2.1 mX0_congruence c.2.2.2.2 0 [some (.ref a0), some (.int a1)] [] h k n
set_option maxHeartbeats 4000000 in
theorem s_X0_congruence_0 (c : cC) (a0 : Nat) (a1 : Int32) (h : eH) (k n : Nat) (H : ∃ fs8 : List Value, h.1 a0 = some (.inr (0, fs8)) ∧ ∃ (d4 k5 n6 : Nat) (Q7 : Int32 → eH → Prop), cI c.1 c.2.1 c.2.2.1 d4 mX0_isSort [.ref a0, .int a1] h k5 n6 Q7 cX0 ∧ d4 + 1 ≤ c.2.2.2.1 ∧ k5 ≤ k ∧ n6 ≤ n ∧ (∀ (r1 : Int32) (h2 : eH), Q7 r1 h2 → ((r1 = 0 → c.2.2.2.2 (.inl (some (.long (-9223372036854775808 : Int64)))) h2) ∧ (¬ r1 = 0 → ∃ x9 : Nat, fV h2 a0 0 4 (.ref x9) ∧ (∃ x11 : Option Nat, fV h2 x9 1 2 (va_rf x11) ∧ (∃ fs8 : List Value, h2.1 a0 = some (.inr (0, fs8)) ∧ ∃ (d16 k17 n18 : Nat) (Q19 : Nat → eH → Prop), cR c.1 c.2.1 c.2.2.1 d16 mX0_marksNow [.ref a0] h2 k17 n18 Q19 cX0 ∧ d16 + 1 ≤ c.2.2.2.1 ∧ k17 ≤ k - k5 ∧ n18 ≤ n - n6 ∧ (∀ (r13 : Nat) (h14 : eH), Q19 r13 h14 → (∃ o20 : Nat, x11 = some o20 ∧ ∃ fs8 : List Value, h14.1 o20 = some (.inr (3, fs8)) ∧ ∃ (d24 k25 n26 : Nat) (Q27 : Int64 → eH → Prop), cL c.1 c.2.1 c.2.2.1 d24 mX3_congruence [.ref o20, .ref r13, .int a1] h14 k25 n26 Q27 cX0 ∧ d24 + 1 ≤ c.2.2.2.1 ∧ k25 ≤ k - k5 - k17 ∧ n26 ≤ n - n6 - n18 ∧ (∀ (r21 : Int64) (h22 : eH), Q27 r21 h22 → (∃ x28 : Nat, fV h22 a0 0 4 (.ref x28) ∧ (∃ x30 : Option Nat, fV h22 x28 1 2 (va_rf x30) ∧ (∃ o32 : Nat, x30 = some o32 ∧ ∃ fs8 : List Value, h22.1 o32 = some (.inr (3, fs8)) ∧ ∃ (d36 k37 n38 : Nat) (Q39 : Int32 → eH → Prop), cI c.1 c.2.1 c.2.2.1 d36 mX3_cosets [.ref o32, .int a1] h22 k37 n38 Q39 cX0 ∧ d36 + 1 ≤ c.2.2.2.1 ∧ k37 ≤ k - k5 - k17 - k25 ∧ n38 ≤ n - n6 - n18 - n26 ∧ (∀ (r33 : Int32) (h34 : eH), Q39 r33 h34 → (¬ r33.toInt64 = 0 ∧ (c.2.2.2.2 (.inl (some (.long (r21 / r33.toInt64)))) h34))))))))))))))) : h_X0_congruence_0 c a0 a1 h k n := by
  refine e_aload_n dX0_congruence_0 rfl ?_
  refine e_iload_n dX0_congruence_1 rfl ?_
  obtain ⟨fsg3, g3o, H⟩ := H
  obtain ⟨d4, k5, n6, Q7, g3, g3d, g3k, g3n, H⟩ := H
  refine e_callV (r := (RX0, TX0, 8)) (As := [.int a1]) g3 dX0_congruence_2 wX0_isSort q2015 q2017 qs45 g3o rfl rfl g3d rfl (Nat.le_of_ble_eq_true rfl) (k1 := k - k5) (n1 := n - n6) (by omega) (by omega) ?_ ?_
  · rintro v h2 (⟨v9, e9, r1, e8, hq⟩ | ⟨ci9, q9, e9, -⟩)
    · cases e9
      subst e8
      replace H := H r1 h2 hq
      refine e_if_eq 39 dX0_congruence_5 (by decide) (fun g8 => ?_) (fun g8 => ?_)
      · replace H := H.1 g8
        refine e_ldc2 dX0_congruence_39 q2266 ?_
        exact e_lreturn dX0_congruence_42 rfl H
      · replace H := H.2 g8
        refine e_aload_n dX0_congruence_8 rfl ?_
        obtain ⟨x9, ⟨fsx9, g10, g10v⟩, H⟩ := H
        refine e_get dX0_congruence_9 fX0_4 q1239 g10 g10v ?_
        obtain ⟨x11, ⟨fsx11, g12, g12v⟩, H⟩ := H
        refine e_getN dX0_congruence_12 fX1_2 q238 g12 g12v ?_
        refine e_aload_n dX0_congruence_15 rfl ?_
        obtain ⟨fsg15, g15o, H⟩ := H
        obtain ⟨d16, k17, n18, Q19, g15, g15d, g15k, g15n, H⟩ := H
        refine e_callV (r := (RX0, TX0, 8)) (As := []) g15 dX0_congruence_16 wX0_marksNow q2275 q2277 qs50 g15o rfl rfl g15d rfl (show ((([va_rf x11] : List Value).map fun v => v.category).sum ≤ 8) from by simp only [List.map_cons, List.map_nil, List.sum_cons, List.sum_nil, eRfC, eCtI, eCtL, eCtR, eCtN]; decide) (k1 := k - k5 - k17) (n1 := n - n6 - n18) (by omega) (by omega) ?_ ?_
        · rintro v h14 (⟨v9, e9, r13, e8, hq⟩ | ⟨ci9, q9, e9, -⟩)
          · cases e9
            subst e8
            replace H := H r13 h14 hq
            refine e_iload_n dX0_congruence_19 rfl ?_
            obtain ⟨o20, eo20, H⟩ := H
            subst eo20
            obtain ⟨fsg23, g23o, H⟩ := H
            obtain ⟨d24, k25, n26, Q27, g23, g23d, g23k, g23n, H⟩ := H
            refine e_callV (r := (RX3, TX3, 8)) (As := [.ref r13, .int a1]) g23 dX0_congruence_20 wX3_congruence q2293 q2294 q2295 g23o rfl rfl g23d rfl (Nat.le_of_ble_eq_true rfl) (k1 := k - k5 - k17 - k25) (n1 := n - n6 - n18 - n26) (by omega) (by omega) ?_ ?_
            · rintro v h22 (⟨v9, e9, r21, e8, hq⟩ | ⟨ci9, q9, e9, -⟩)
              · cases e9
                subst e8
                replace H := H r21 h22 hq
                refine e_aload_n dX0_congruence_23 rfl ?_
                obtain ⟨x28, ⟨fsx28, g29, g29v⟩, H⟩ := H
                refine e_get dX0_congruence_24 fX0_4 q1239 g29 g29v ?_
                obtain ⟨x30, ⟨fsx30, g31, g31v⟩, H⟩ := H
                refine e_getN dX0_congruence_27 fX1_2 q238 g31 g31v ?_
                refine e_iload_n dX0_congruence_30 rfl ?_
                obtain ⟨o32, eo32, H⟩ := H
                subst eo32
                obtain ⟨fsg35, g35o, H⟩ := H
                obtain ⟨d36, k37, n38, Q39, g35, g35d, g35k, g35n, H⟩ := H
                refine e_callV (r := (RX3, TX3, 8)) (As := [.int a1]) g35 dX0_congruence_31 wX3_cosets q2297 q2298 q2299 g35o rfl rfl g35d rfl (Nat.le_of_ble_eq_true rfl) (k1 := k - k5 - k17 - k25 - k37) (n1 := n - n6 - n18 - n26 - n38) (by omega) (by omega) ?_ ?_
                · rintro v h34 (⟨v9, e9, r33, e8, hq⟩ | ⟨ci9, q9, e9, -⟩)
                  · cases e9
                    subst e8
                    replace H := H r33 h34 hq
                    refine e_i2l dX0_congruence_34 ?_
                    obtain ⟨g40, H⟩ := H
                    refine e_ldiv dX0_congruence_35 g40 ?_
                    refine e_goto 42 dX0_congruence_36 (by decide) ?_
                    exact e_lreturn dX0_congruence_42 rfl H
                  · cases e9
                · rintro q9 h9 (⟨v9, e9, -⟩ | ⟨ci9, q8, e9, -, -, hx⟩)
                  · cases e9
                  · exact hx.elim
              · cases e9
            · rintro q9 h9 (⟨v9, e9, -⟩ | ⟨ci9, q8, e9, -, -, hx⟩)
              · cases e9
              · exact hx.elim
          · cases e9
        · rintro q9 h9 (⟨v9, e9, -⟩ | ⟨ci9, q8, e9, -, -, hx⟩)
          · cases e9
          · exact hx.elim
    · cases e9
  · rintro q9 h9 (⟨v9, e9, -⟩ | ⟨ci9, q8, e9, -, -, hx⟩)
    · cases e9
    · exact hx.elim
theorem en_X0_congruence {l : Launch} {lo : Nat} {G : eG} {d : Nat} {P : eO → eH → Prop} (a0 : Nat) (a1 : Int32) {h : eH} {k n : Nat} (H : h_X0_congruence_0 (l, lo, G, d, P) a0 a1 h k n) : Ct l lo G d mX0_congruence [.ref a0, .int a1] h k n P := 
  Ct_of (eArL mX0_congruence.2.2.2.1 [.ref a0, .int a1]) (by decide) rfl (Nat.le_of_ble_eq_true rfl) (fun j w q => eArL_mem j w q) (E.less2 H (eS_s (eS_s eS_0)))
/-! X0_is TroupeSums.is(I)I -/
def h_X0_is_0 (c : cC) (a0 : Nat) (a1 : Int32) (h : eH) (k n : Nat) : Prop := E c.1 c.2.1 c.2.2.1 c.2.2.2.1 mX0_is c.2.2.2.2 0 [some (.ref a0), some (.int a1), none, none, none, none, none, none, none] [] h k n
def h_X0_is_39 (c : cC) (a1 : Int32) (a2 : Int32) (a3 : Nat) (a4 : Int32) (a5 : Int32) (h : eH) (k n : Nat) : Prop := E c.1 c.2.1 c.2.2.1 c.2.2.2.1 mX0_is c.2.2.2.2 39 [none, some (.int a1), some (.int a2), some (.ref a3), some (.int a4), some (.int a5), none, none, none] [] h k n
def h_X0_is_90 (c : cC) (a1 : Int32) (a2 : Int32) (a3 : Nat) (a4 : Int32) (a5 : Int32) (h : eH) (k n : Nat) : Prop := E c.1 c.2.1 c.2.2.1 c.2.2.2.1 mX0_is c.2.2.2.2 90 [none, some (.int a1), some (.int a2), some (.ref a3), some (.int a4), some (.int a5), none, none, none] [] h k n
def h_X0_is_119 (c : cC) (a1 : Int32) (a2 : Int32) (a3 : Nat) (a4 : Int32) (a5 : Int32) (h : eH) (k n : Nat) : Prop := E c.1 c.2.1 c.2.2.1 c.2.2.2.1 mX0_is c.2.2.2.2 119 [none, some (.int a1), some (.int a2), some (.ref a3), some (.int a4), some (.int a5), none, none, none] [] h k n
def h_X0_is_139 (c : cC) (a1 : Int32) (a2 : Int32) (a3 : Nat) (a4 : Int32) (a5 : Int32) (b0 : Int32) (h : eH) (k n : Nat) : Prop := E c.1 c.2.1 c.2.2.1 c.2.2.2.1 mX0_is c.2.2.2.2 139 [none, some (.int a1), some (.int a2), some (.ref a3), some (.int a4), some (.int a5), none, none, none] [.int b0] h k n
def h_X0_is_154 (c : cC) (a1 : Int32) (a3 : Nat) (a4 : Int32) (a5 : Int32) (h : eH) (k n : Nat) : Prop := E c.1 c.2.1 c.2.2.1 c.2.2.2.1 mX0_is c.2.2.2.2 154 [none, some (.int a1), none, some (.ref a3), some (.int a4), some (.int a5), none, none, none] [] h k n
set_option maxHeartbeats 4000000 in
theorem s_X0_is_0 (c : cC) (a0 : Nat) (a1 : Int32) (h : eH) (k n : Nat) (H : ∃ (d4 k5 n6 : Nat) (Q7 : Int32 → eH → Prop), cI c.1 c.2.1 c.2.2.1 d4 mX0_isIn [.long a1.toInt64, .long (0 : Int64), .long (3 : Int64)] h k5 n6 Q7 cX0 ∧ d4 + 1 ≤ c.2.2.2.1 ∧ k5 ≤ k ∧ n6 ≤ n ∧ (∀ (r1 : Int32) (h2 : eH), Q7 r1 h2 → ((¬ r1 = 0 → (¬ a1 = 0 → ∃ fs8 : List Value, h2.1 a0 = some (.inr (0, fs8)) ∧ ∃ (d13 k14 n15 : Nat) (Q16 : Nat → eH → Prop), cR c.1 c.2.1 c.2.2.1 d13 mX0_marksNow [.ref a0] h2 k14 n15 Q16 cX0 ∧ d13 + 1 ≤ c.2.2.2.1 ∧ k14 ≤ k - k5 ∧ n15 ≤ n - n6 ∧ (∀ (r10 : Nat) (h11 : eH), Q16 r10 h11 → (∃ v17 : vp_A, h11.1 r10 = some (.inl (c.2.2.1.2.1 1, v17)) ∧ (h_X0_is_39 c a1 (1 : Int32) r10 (nI v17.1) (0 : Int32) h11 (k - k5 - k14) (n - n6 - n15))))) ∧ (a1 = 0 → ∃ x19 : Nat, fV h2 a0 0 5 (.ref x19) ∧ (∃ v21 : vp_A, h2.1 x19 = some (.inl (c.2.2.1.2.1 1, v21)) ∧ (h_X0_is_39 c a1 (1 : Int32) x19 (nI v21.1) (0 : Int32) h2 (k - k5) (n - n6))))) ∧ (r1 = 0 → c.2.2.2.2 (.inl (some (.int (-1 : Int32)))) h2)))) : h_X0_is_0 c a0 a1 h k n := by
  refine e_iload_n dX0_is_0 rfl ?_
  refine e_i2l dX0_is_1 ?_
  refine e_lconst 0 dX0_is_2 (by decide) ?_
  refine e_ldc2 dX0_is_3 q2305 ?_
  obtain ⟨d4, k5, n6, Q7, g3, g3d, g3k, g3n, H⟩ := H
  refine e_callS (As := [.long a1.toInt64, .long (0 : Int64), .long (3 : Int64)]) g3 dX0_is_6 wX0_isIn q1948 q1791 rfl g3d rfl (Nat.le_of_ble_eq_true rfl) (k1 := k - k5) (n1 := n - n6) (by omega) (by omega) ?_ ?_
  · rintro v h2 (⟨v9, e9, r1, e8, hq⟩ | ⟨ci9, q9, e9, -⟩)
    · cases e9
      subst e8
      replace H := H r1 h2 hq
      refine e_if_ne 14 dX0_is_9 (by decide) (fun g8 => ?_) (fun g8 => ?_)
      · replace H := H.1 g8
        refine e_iconst (1) dX0_is_14 (by decide) ?_
        refine e_istore_n _ dX0_is_15 (by decide) rfl rfl ?_
        refine e_iload_n dX0_is_16 rfl ?_
        refine e_if_ne 27 dX0_is_17 (by decide) (fun g9 => ?_) (fun g9 => ?_)
        · replace H := H.1 g9
          refine e_aload_n dX0_is_27 rfl ?_
          obtain ⟨fsg12, g12o, H⟩ := H
          obtain ⟨d13, k14, n15, Q16, g12, g12d, g12k, g12n, H⟩ := H
          refine e_callV (r := (RX0, TX0, 8)) (As := []) g12 dX0_is_28 wX0_marksNow q2275 q2277 qs50 g12o rfl rfl g12d rfl (Nat.le_of_ble_eq_true rfl) (k1 := k - k5 - k14) (n1 := n - n6 - n15) (by omega) (by omega) ?_ ?_
          · rintro v h11 (⟨v9, e9, r10, e8, hq⟩ | ⟨ci9, q9, e9, -⟩)
            · cases e9
              subst e8
              replace H := H r10 h11 hq
              refine e_astore_n _ dX0_is_31 (by decide) rfl rfl ?_
              refine e_aload_n dX0_is_32 rfl ?_
              obtain ⟨v17, g18, H⟩ := H
              refine e_alen (t := 1) dX0_is_33 (fun _ => rfl) g18 ?_
              refine e_istore _ dX0_is_34 (by decide) rfl rfl ?_
              refine e_iconst (0) dX0_is_36 (by decide) ?_
              refine e_istore _ dX0_is_37 (by decide) rfl rfl ?_
              exact E.less2 H (eS_n (eS_s (eS_s (eS_s (eS_s (eS_s (eS_n (eS_n (eS_n eS_0)))))))))
            · cases e9
          · rintro q9 h9 (⟨v9, e9, -⟩ | ⟨ci9, q8, e9, -, -, hx⟩)
            · cases e9
            · exact hx.elim
        · replace H := H.2 g9
          refine e_aload_n dX0_is_20 rfl ?_
          obtain ⟨x19, ⟨fsx19, g20, g20v⟩, H⟩ := H
          refine e_get dX0_is_21 fX0_5 q1240 g20 g20v ?_
          refine e_goto 31 dX0_is_24 (by decide) ?_
          refine e_astore_n _ dX0_is_31 (by decide) rfl rfl ?_
          refine e_aload_n dX0_is_32 rfl ?_
          obtain ⟨v21, g22, H⟩ := H
          refine e_alen (t := 1) dX0_is_33 (fun _ => rfl) g22 ?_
          refine e_istore _ dX0_is_34 (by decide) rfl rfl ?_
          refine e_iconst (0) dX0_is_36 (by decide) ?_
          refine e_istore _ dX0_is_37 (by decide) rfl rfl ?_
          exact E.less2 H (eS_n (eS_s (eS_s (eS_s (eS_s (eS_s (eS_n (eS_n (eS_n eS_0)))))))))
      · replace H := H.2 g8
        refine e_iconst (-1) dX0_is_12 (by decide) ?_
        exact e_ireturn .int dX0_is_13 rfl rfl H
    · cases e9
  · rintro q9 h9 (⟨v9, e9, -⟩ | ⟨ci9, q8, e9, -, -, hx⟩)
    · cases e9
    · exact hx.elim
set_option maxHeartbeats 4000000 in
theorem s_X0_is_39 (c : cC) (a1 : Int32) (a2 : Int32) (a3 : Nat) (a4 : Int32) (a5 : Int32) (h : eH) (k n : Nat) (H : (a4 ≤ a5 → (¬ a1 = (3 : Int32) → (a2 = (0 : Int32) → c.2.2.2.2 (.inl (some (.int (0 : Int32)))) h) ∧ (¬ a2 = (0 : Int32) → c.2.2.2.2 (.inl (some (.int (1 : Int32)))) h)) ∧ (a1 = (3 : Int32) → (a2 = (1 : Int32) → c.2.2.2.2 (.inl (some (.int (0 : Int32)))) h) ∧ (¬ a2 = (1 : Int32) → c.2.2.2.2 (.inl (some (.int (1 : Int32)))) h))) ∧ (¬ a4 ≤ a5 → ∃ (N5 : Nat) (f6 : Nat → Int64), h.1 a3 = some (.inl (c.2.2.1.2.1 1, N5, .inr (.inl f6))) ∧ vp_in a5 N5 ∧ ((¬ a1 = 0 → (¬ a1 = (1 : Int32) → (¬ a1 = (2 : Int32) → ((lg_cmp (f6 a5.toNatClampNeg) (0 : Int64)) = 0 → h_X0_is_139 c a1 a2 a3 a4 a5 (0 : Int32) h k n) ∧ (¬ (lg_cmp (f6 a5.toNatClampNeg) (0 : Int64)) = 0 → h_X0_is_139 c a1 a2 a3 a4 a5 (1 : Int32) h k n)) ∧ (a1 = (2 : Int32) → ((lg_cmp (f6 a5.toNatClampNeg) (1 : Int64)) = 0 → h_X0_is_119 c a1 a2 a3 a4 a5 h k n) ∧ (¬ (lg_cmp (f6 a5.toNatClampNeg) (1 : Int64)) = 0 → (¬ (lg_cmp (f6 a5.toNatClampNeg) (-1 : Int64)) = 0 → h_X0_is_139 c a1 a2 a3 a4 a5 (0 : Int32) h k n) ∧ ((lg_cmp (f6 a5.toNatClampNeg) (-1 : Int64)) = 0 → h_X0_is_119 c a1 a2 a3 a4 a5 h k n)))) ∧ (a1 = (1 : Int32) → ((lg_cmp (f6 a5.toNatClampNeg) (0 : Int64)) = 0 → h_X0_is_90 c a1 a2 a3 a4 a5 h k n) ∧ (¬ (lg_cmp (f6 a5.toNatClampNeg) (0 : Int64)) = 0 → (¬ (lg_cmp (f6 a5.toNatClampNeg) (1 : Int64)) = 0 → h_X0_is_139 c a1 a2 a3 a4 a5 (0 : Int32) h k n) ∧ ((lg_cmp (f6 a5.toNatClampNeg) (1 : Int64)) = 0 → h_X0_is_90 c a1 a2 a3 a4 a5 h k n)))) ∧ (a1 = 0 → ((lg_cmp (f6 a5.toNatClampNeg) (0 : Int64)) < 0 → h_X0_is_139 c a1 a2 a3 a4 a5 (0 : Int32) h k n) ∧ (¬ (lg_cmp (f6 a5.toNatClampNeg) (0 : Int64)) < 0 → h_X0_is_139 c a1 a2 a3 a4 a5 (1 : Int32) h k n))))) : h_X0_is_39 c a1 a2 a3 a4 a5 h k n := by
  refine e_iload dX0_is_39 rfl ?_
  refine e_iload dX0_is_41 rfl ?_
  refine e_icmp_ge 162 dX0_is_43 (by decide) (fun g1 => ?_) (fun g1 => ?_)
  · replace H := H.1 g1
    refine e_iload_n dX0_is_162 rfl ?_
    refine e_iload_n dX0_is_163 rfl ?_
    refine e_iconst (3) dX0_is_164 (by decide) ?_
    refine e_icmp_ne 172 dX0_is_165 (by decide) (fun g2 => ?_) (fun g2 => ?_)
    · replace H := H.1 g2
      refine e_iconst (0) dX0_is_172 (by decide) ?_
      refine e_icmp_eq 180 dX0_is_173 (by decide) (fun g3 => ?_) (fun g3 => ?_)
      · replace H := H.1 g3
        refine e_iconst (0) dX0_is_180 (by decide) ?_
        exact e_ireturn .int dX0_is_181 rfl rfl H
      · replace H := H.2 g3
        refine e_iconst (1) dX0_is_176 (by decide) ?_
        refine e_goto 181 dX0_is_177 (by decide) ?_
        exact e_ireturn .int dX0_is_181 rfl rfl H
    · replace H := H.2 g2
      refine e_iconst (1) dX0_is_168 (by decide) ?_
      refine e_goto 173 dX0_is_169 (by decide) ?_
      refine e_icmp_eq 180 dX0_is_173 (by decide) (fun g4 => ?_) (fun g4 => ?_)
      · replace H := H.1 g4
        refine e_iconst (0) dX0_is_180 (by decide) ?_
        exact e_ireturn .int dX0_is_181 rfl rfl H
      · replace H := H.2 g4
        refine e_iconst (1) dX0_is_176 (by decide) ?_
        refine e_goto 181 dX0_is_177 (by decide) ?_
        exact e_ireturn .int dX0_is_181 rfl rfl H
  · replace H := H.2 g1
    refine e_aload_n dX0_is_46 rfl ?_
    refine e_iload dX0_is_47 rfl ?_
    obtain ⟨N5, f6, g7, g7i, H⟩ := H
    refine e_laload dX0_is_49 g7 g7i ?_
    refine e_lstore _ dX0_is_50 (by decide) rfl rfl ?_
    refine e_iload_n dX0_is_52 rfl ?_
    refine e_if_ne 71 dX0_is_53 (by decide) (fun g8 => ?_) (fun g8 => ?_)
    · replace H := H.1 g8
      refine e_iload_n dX0_is_71 rfl ?_
      refine e_iconst (1) dX0_is_72 (by decide) ?_
      refine e_icmp_ne 98 dX0_is_73 (by decide) (fun g9 => ?_) (fun g9 => ?_)
      · replace H := H.1 g9
        refine e_iload_n dX0_is_98 rfl ?_
        refine e_iconst (2) dX0_is_99 (by decide) ?_
        refine e_icmp_ne 127 dX0_is_100 (by decide) (fun g10 => ?_) (fun g10 => ?_)
        · replace H := H.1 g10
          refine e_lload dX0_is_127 rfl ?_
          refine e_lconst 0 dX0_is_129 (by decide) ?_
          refine e_lcmp dX0_is_130 ?_
          refine e_if_eq 138 dX0_is_131 (by decide) (fun g11 => ?_) (fun g11 => ?_)
          · replace H := H.1 g11
            refine e_iconst (0) dX0_is_138 (by decide) ?_
            exact E.less2 H (eS_n (eS_s (eS_s (eS_s (eS_s (eS_s (eS_n (eS_n (eS_n eS_0)))))))))
          · replace H := H.2 g11
            refine e_iconst (1) dX0_is_134 (by decide) ?_
            refine e_goto 139 dX0_is_135 (by decide) ?_
            exact E.less2 H (eS_n (eS_s (eS_s (eS_s (eS_s (eS_s (eS_n (eS_n (eS_n eS_0)))))))))
        · replace H := H.2 g10
          refine e_lload dX0_is_103 rfl ?_
          refine e_lconst 1 dX0_is_105 (by decide) ?_
          refine e_lcmp dX0_is_106 ?_
          refine e_if_eq 119 dX0_is_107 (by decide) (fun g12 => ?_) (fun g12 => ?_)
          · replace H := H.1 g12
            exact E.less2 H (eS_n (eS_s (eS_s (eS_s (eS_s (eS_s (eS_n (eS_n (eS_n eS_0)))))))))
          · replace H := H.2 g12
            refine e_lload dX0_is_110 rfl ?_
            refine e_ldc2 dX0_is_112 q2254 ?_
            refine e_lcmp dX0_is_115 ?_
            refine e_if_ne 123 dX0_is_116 (by decide) (fun g13 => ?_) (fun g13 => ?_)
            · replace H := H.1 g13
              refine e_iconst (0) dX0_is_123 (by decide) ?_
              refine e_goto 139 dX0_is_124 (by decide) ?_
              exact E.less2 H (eS_n (eS_s (eS_s (eS_s (eS_s (eS_s (eS_n (eS_n (eS_n eS_0)))))))))
            · replace H := H.2 g13
              exact E.less2 H (eS_n (eS_s (eS_s (eS_s (eS_s (eS_s (eS_n (eS_n (eS_n eS_0)))))))))
      · replace H := H.2 g9
        refine e_lload dX0_is_76 rfl ?_
        refine e_lconst 0 dX0_is_78 (by decide) ?_
        refine e_lcmp dX0_is_79 ?_
        refine e_if_eq 90 dX0_is_80 (by decide) (fun g14 => ?_) (fun g14 => ?_)
        · replace H := H.1 g14
          exact E.less2 H (eS_n (eS_s (eS_s (eS_s (eS_s (eS_s (eS_n (eS_n (eS_n eS_0)))))))))
        · replace H := H.2 g14
          refine e_lload dX0_is_83 rfl ?_
          refine e_lconst 1 dX0_is_85 (by decide) ?_
          refine e_lcmp dX0_is_86 ?_
          refine e_if_ne 94 dX0_is_87 (by decide) (fun g15 => ?_) (fun g15 => ?_)
          · replace H := H.1 g15
            refine e_iconst (0) dX0_is_94 (by decide) ?_
            refine e_goto 139 dX0_is_95 (by decide) ?_
            exact E.less2 H (eS_n (eS_s (eS_s (eS_s (eS_s (eS_s (eS_n (eS_n (eS_n eS_0)))))))))
          · replace H := H.2 g15
            exact E.less2 H (eS_n (eS_s (eS_s (eS_s (eS_s (eS_s (eS_n (eS_n (eS_n eS_0)))))))))
    · replace H := H.2 g8
      refine e_lload dX0_is_56 rfl ?_
      refine e_lconst 0 dX0_is_58 (by decide) ?_
      refine e_lcmp dX0_is_59 ?_
      refine e_if_lt 67 dX0_is_60 (by decide) (fun g16 => ?_) (fun g16 => ?_)
      · replace H := H.1 g16
        refine e_iconst (0) dX0_is_67 (by decide) ?_
        refine e_goto 139 dX0_is_68 (by decide) ?_
        exact E.less2 H (eS_n (eS_s (eS_s (eS_s (eS_s (eS_s (eS_n (eS_n (eS_n eS_0)))))))))
      · replace H := H.2 g16
        refine e_iconst (1) dX0_is_63 (by decide) ?_
        refine e_goto 139 dX0_is_64 (by decide) ?_
        exact E.less2 H (eS_n (eS_s (eS_s (eS_s (eS_s (eS_s (eS_n (eS_n (eS_n eS_0)))))))))
set_option maxHeartbeats 4000000 in
theorem s_X0_is_90 (c : cC) (a1 : Int32) (a2 : Int32) (a3 : Nat) (a4 : Int32) (a5 : Int32) (h : eH) (k n : Nat) (H : h_X0_is_139 c a1 a2 a3 a4 a5 (1 : Int32) h k n) : h_X0_is_90 c a1 a2 a3 a4 a5 h k n := by
  refine e_iconst (1) dX0_is_90 (by decide) ?_
  refine e_goto 139 dX0_is_91 (by decide) ?_
  exact E.less2 H (eS_n (eS_s (eS_s (eS_s (eS_s (eS_s (eS_n (eS_n (eS_n eS_0)))))))))
set_option maxHeartbeats 4000000 in
theorem s_X0_is_119 (c : cC) (a1 : Int32) (a2 : Int32) (a3 : Nat) (a4 : Int32) (a5 : Int32) (h : eH) (k n : Nat) (H : h_X0_is_139 c a1 a2 a3 a4 a5 (1 : Int32) h k n) : h_X0_is_119 c a1 a2 a3 a4 a5 h k n := by
  refine e_iconst (1) dX0_is_119 (by decide) ?_
  refine e_goto 139 dX0_is_120 (by decide) ?_
  exact E.less2 H (eS_n (eS_s (eS_s (eS_s (eS_s (eS_s (eS_n (eS_n (eS_n eS_0)))))))))
set_option maxHeartbeats 4000000 in
theorem s_X0_is_139 (c : cC) (a1 : Int32) (a2 : Int32) (a3 : Nat) (a4 : Int32) (a5 : Int32) (b0 : Int32) (h : eH) (k n : Nat) (H : (a2 = 0 → h_X0_is_154 c a1 a3 a4 a5 h k n) ∧ (¬ a2 = 0 → (b0 = 0 → h_X0_is_154 c a1 a3 a4 a5 h k n) ∧ (¬ b0 = 0 → h_X0_is_39 c a1 (1 : Int32) a3 a4 (a5 + 1) h k n))) : h_X0_is_139 c a1 a2 a3 a4 a5 b0 h k n := by
  refine e_istore _ dX0_is_139 (by decide) trivial rfl ?_
  refine e_iload_n dX0_is_141 rfl ?_
  refine e_if_eq 154 dX0_is_142 (by decide) (fun g1 => ?_) (fun g1 => ?_)
  · replace H := H.1 g1
    exact E.less2 H (eS_n (eS_s (eS_n (eS_s (eS_s (eS_s (eS_n (eS_n (eS_n eS_0)))))))))
  · replace H := H.2 g1
    refine e_iload dX0_is_145 rfl ?_
    refine e_if_eq 154 dX0_is_147 (by decide) (fun g2 => ?_) (fun g2 => ?_)
    · replace H := H.1 g2
      exact E.less2 H (eS_n (eS_s (eS_n (eS_s (eS_s (eS_s (eS_n (eS_n (eS_n eS_0)))))))))
    · replace H := H.2 g2
      refine e_iconst (1) dX0_is_150 (by decide) ?_
      refine e_goto 155 dX0_is_151 (by decide) ?_
      refine e_istore_n _ dX0_is_155 (by decide) rfl rfl ?_
      refine e_iinc (a5 + 1) _ dX0_is_156 rfl rfl (by decide) rfl rfl ?_
      refine e_goto 39 dX0_is_159 (by decide) ?_
      exact E.less2 H (eS_n (eS_s (eS_s (eS_s (eS_s (eS_s (eS_n (eS_n (eS_n eS_0)))))))))
set_option maxHeartbeats 4000000 in
theorem s_X0_is_154 (c : cC) (a1 : Int32) (a3 : Nat) (a4 : Int32) (a5 : Int32) (h : eH) (k n : Nat) (H : h_X0_is_39 c a1 (0 : Int32) a3 a4 (a5 + 1) h k n) : h_X0_is_154 c a1 a3 a4 a5 h k n := by
  refine e_iconst (0) dX0_is_154 (by decide) ?_
  refine e_istore_n _ dX0_is_155 (by decide) rfl rfl ?_
  refine e_iinc (a5 + 1) _ dX0_is_156 rfl rfl (by decide) rfl rfl ?_
  refine e_goto 39 dX0_is_159 (by decide) ?_
  exact E.less2 H (eS_n (eS_s (eS_s (eS_s (eS_s (eS_s (eS_n (eS_n (eS_n eS_0)))))))))
theorem en_X0_is {l : Launch} {lo : Nat} {G : eG} {d : Nat} {P : eO → eH → Prop} (a0 : Nat) (a1 : Int32) {h : eH} {k n : Nat} (H : h_X0_is_0 (l, lo, G, d, P) a0 a1 h k n) : Ct l lo G d mX0_is [.ref a0, .int a1] h k n P := 
  Ct_of (eArL mX0_is.2.2.2.1 [.ref a0, .int a1]) (by decide) rfl (Nat.le_of_ble_eq_true rfl) (fun j w q => eArL_mem j w q) (E.less2 H (eS_s (eS_s (eS_n (eS_n (eS_n (eS_n (eS_n (eS_n (eS_n eS_0))))))))))
/-! X0_makes TroupeSums.makes()I -/
def h_X0_makes_0 (c : cC) (a0 : Nat) (h : eH) (k n : Nat) : Prop := E c.1 c.2.1 c.2.2.1 c.2.2.2.1 mX0_makes c.2.2.2.2 0 [some (.ref a0), none] [] h k n
def h_X0_makes_44 (c : cC) (a0 : Nat) (b0 : Nat) (h : eH) (k n : Nat) : Prop := E c.1 c.2.1 c.2.2.1 c.2.2.2.1 mX0_makes c.2.2.2.2 44 [some (.ref a0), none] [.ref b0] h k n
set_option maxHeartbeats 4000000 in
theorem s_X0_makes_0 (c : cC) (a0 : Nat) (h : eH) (k n : Nat) (H : ∃ fs8 : List Value, h.1 a0 = some (.inr (0, fs8)) ∧ ∃ (d4 k5 n6 : Nat) (Q7 : eH → Prop), cV c.1 c.2.1 c.2.2.1 d4 mX0_right [.ref a0] h k5 n6 Q7 cX0 ∧ d4 + 1 ≤ c.2.2.2.1 ∧ k5 ≤ k ∧ n6 ≤ n ∧ (∀ h2 : eH, Q7 h2 → (1 ≤ k - k5 ∧ 11 ≤ n - n6 ∧ ∀ h8 : eH, h8 = eNw h2 (.inr (7, [.null, .int 0, .int 0, .int 0, .int 0, .int 0, .int 0, .null, .null, .int 0, .int 0])) → (∃ x10 : Nat, fV h8 a0 0 0 (.ref x10) ∧ (∃ fs8 : List Value, h8.1 a0 = some (.inr (0, fs8)) ∧ ∃ (d15 k16 n17 : Nat) (Q18 : Int32 → eH → Prop), cI c.1 c.2.1 c.2.2.1 d15 mX0_taken [.ref a0] h8 k16 n17 Q18 cX0 ∧ d15 + 1 ≤ c.2.2.2.1 ∧ k16 ≤ k - k5 - 1 ∧ n17 ≤ n - n6 - 11 ∧ (∀ (r12 : Int32) (h13 : eH), Q18 r12 h13 → (∃ (d22 k23 n24 : Nat) (Q25 : eH → Prop), cV c.1 c.2.1 c.2.2.1 d22 mX7_init [.ref h2.2, .ref x10, .int r12] h13 k23 n24 Q25 cX0 ∧ d22 + 1 ≤ c.2.2.2.1 ∧ k23 ≤ k - k5 - 1 - k16 ∧ n24 ≤ n - n6 - 11 - n17 ∧ (∀ h20 : eH, Q25 h20 → (∃ x26 : Nat, fV h20 a0 0 4 (.ref x26) ∧ (∃ fs8 : List Value, h20.1 h2.2 = some (.inr (7, fs8)) ∧ ∃ (d31 k32 n33 : Nat) (Q34 : Nat → eH → Prop) (X56 : Nat → Nat → eH → Prop), cR c.1 c.2.1 c.2.2.1 d31 mX7_alone [.ref h2.2, .ref x26] h20 k32 n33 Q34 X56 ∧ d31 + 1 ≤ c.2.2.2.1 ∧ k32 ≤ k - k5 - 1 - k16 - k23 ∧ n33 ≤ n - n6 - 11 - n17 - n24 ∧ (∀ (r28 : Nat) (h29 : eH), Q34 r28 h29 → (∃ x35 : Nat, fV h29 r28 9 1 (.ref x35) ∧ (∃ (N39 : Nat) (f40 : Nat → Int64), h29.1 x35 = some (.inl (c.2.2.1.2.1 1, N39, .inr (.inl f40))) ∧ c.2.1 ≤ x35 ∧ 1 ≤ c.2.2.2.1 ∧ 1 ≤ k - k5 - 1 - k16 - k23 - k32 ∧ N39 ≤ n - n6 - 11 - n17 - n24 - n33 ∧ ∀ h38 : eH, h38 = eNw h29 (.inl (c.2.2.1.2.1 1, N39, .inr (.inl f40))) → (eCs c.2.2.1 h38 h29.2 "[J" ∧ (∃ fs8 : List Value, h38.1 a0 = some (.inr (0, fs8)) ∧ ∃ (d45 k46 n47 : Nat) (Q48 : eH → Prop), cV c.1 c.2.1 c.2.2.1 d45 mX0_becomes [.ref a0, .ref h29.2] h38 k46 n47 Q48 cX0 ∧ d45 + 1 ≤ c.2.2.2.1 ∧ k46 ≤ k - k5 - 1 - k16 - k23 - k32 - 1 ∧ n47 ≤ n - n6 - 11 - n17 - n24 - n33 - N39 ∧ (∀ h43 : eH, Q48 h43 → (∃ fs8 : List Value, h43.1 a0 = some (.inr (0, fs8)) ∧ ∃ (d52 k53 n54 : Nat) (Q55 : Int32 → eH → Prop), cI c.1 c.2.1 c.2.2.1 d52 mX0_parts [.ref a0] h43 k53 n54 Q55 cX0 ∧ d52 + 1 ≤ c.2.2.2.1 ∧ k53 ≤ k - k5 - 1 - k16 - k23 - k32 - 1 - k46 ∧ n54 ≤ n - n6 - 11 - n17 - n24 - n33 - N39 - n47 ∧ (∀ (r49 : Int32) (h50 : eH), Q55 r49 h50 → (c.2.2.2.2 (.inl (some (.int r49))) h50))))))))) ∧ (∀ (ci q : Nat) (h9 : eH), X56 ci q h9 → ci = 11) ∧ (∀ (q57 : Nat) (h58 : eH) (fs9 : List Value), X56 11 q57 h58 → h58.1 q57 = some (.inr (11, fs9)) → c.2.1 ≤ q57 → h_X0_makes_44 c a0 q57 h58 (k - k5 - 1 - k16 - k23 - k32) (n - n6 - 11 - n17 - n24 - n33)))))))))))) : h_X0_makes_0 c a0 h k n := by
  refine e_aload_n dX0_makes_0 rfl ?_
  obtain ⟨fsg3, g3o, H⟩ := H
  obtain ⟨d4, k5, n6, Q7, g3, g3d, g3k, g3n, H⟩ := H
  refine e_callV (r := (RX0, TX0, 8)) (As := []) g3 dX0_makes_1 wX0_right q1273 q1275 qs15 g3o rfl rfl g3d rfl (Nat.le_of_ble_eq_true rfl) (k1 := k - k5) (n1 := n - n6) (by omega) (by omega) ?_ ?_
  · rintro v h2 (⟨v9, e9, e8, hq⟩ | ⟨ci9, q9, e9, -⟩)
    · cases e9
      subst e8
      replace H := H h2 hq
      refine e_aload_n dX0_makes_4 rfl ?_
      obtain ⟨g9, g9n, H⟩ := H
      refine e_new (ci := 7) (N := 11) (C := RX7) (T := TX7) tyX7 (fs := [.null, .int 0, .int 0, .int 0, .int 0, .int 0, .int 0, .null, .null, .int 0, .int 0]) dX0_makes_5 rfl in_X7 tyX7_ok q1277 q1278 q170 (by decide) (k1 := k - k5 - 1) (n1 := n - n6 - 11) (by omega) (by omega) ?_
      replace H := H _ rfl
      generalize eNw h2 _ = h8 at H ⊢
      refine e_dup dX0_makes_8 rfl ?_
      refine e_aload_n dX0_makes_9 rfl ?_
      obtain ⟨x10, ⟨fsx10, g11, g11v⟩, H⟩ := H
      refine e_get dX0_makes_10 fX0_0 q1235 g11 g11v ?_
      refine e_aload_n dX0_makes_13 rfl ?_
      obtain ⟨fsg14, g14o, H⟩ := H
      obtain ⟨d15, k16, n17, Q18, g14, g14d, g14k, g14n, H⟩ := H
      refine e_callV (r := (RX0, TX0, 8)) (As := []) g14 dX0_makes_14 wX0_taken q1279 q1281 qs16 g14o rfl rfl g14d rfl (Nat.le_of_ble_eq_true rfl) (k1 := k - k5 - 1 - k16) (n1 := n - n6 - 11 - n17) (by omega) (by omega) ?_ ?_
      · rintro v h13 (⟨v9, e9, r12, e8, hq⟩ | ⟨ci9, q9, e9, -⟩)
        · cases e9
          subst e8
          replace H := H r12 h13 hq
          obtain ⟨d22, k23, n24, Q25, g21, g21d, g21k, g21n, H⟩ := H
          refine e_callI (As := [.ref x10, .int r12]) g21 dX0_makes_17 wX7_init rfl rfl rfl q1283 q1284 rfl g21d rfl (Nat.le_of_ble_eq_true rfl) (k1 := k - k5 - 1 - k16 - k23) (n1 := n - n6 - 11 - n17 - n24) (by omega) (by omega) ?_ ?_
          · rintro v h20 (⟨v9, e9, e8, hq⟩ | ⟨ci9, q9, e9, -⟩)
            · cases e9
              subst e8
              replace H := H h20 hq
              refine e_aload_n dX0_makes_20 rfl ?_
              obtain ⟨x26, ⟨fsx26, g27, g27v⟩, H⟩ := H
              refine e_get dX0_makes_21 fX0_4 q1239 g27 g27v ?_
              obtain ⟨fsg30, g30o, H⟩ := H
              obtain ⟨d31, k32, n33, Q34, X56, g30, g30d, g30k, g30n, H, Hx, Hx11⟩ := H
              refine e_callV (r := (RX7, TX7, 11)) (As := [.ref x26]) g30 dX0_makes_24 wX7_alone q2311 q2312 q2313 g30o rfl rfl g30d rfl (Nat.le_of_ble_eq_true rfl) (k1 := k - k5 - 1 - k16 - k23 - k32) (n1 := n - n6 - 11 - n17 - n24 - n33) (by omega) (by omega) ?_ ?_
              · rintro v h29 (⟨v9, e9, r28, e8, hq⟩ | ⟨ci9, q9, e9, -⟩)
                · cases e9
                  subst e8
                  replace H := H r28 h29 hq
                  obtain ⟨x35, ⟨fsx35, g36, g36v⟩, H⟩ := H
                  refine e_getN dX0_makes_27 fX9_1 q1818 g36 g36v ?_
                  obtain ⟨N39, f40, g37, g37l, g37h, g37k, g37n, H⟩ := H
                  refine e_cloneJ dX0_makes_30 q2315 q1829 q1460 q1461 q1830 q1831 g37 g37l g37h (Nat.le_of_ble_eq_true rfl) (k1 := k - k5 - 1 - k16 - k23 - k32 - 1) (n1 := n - n6 - 11 - n17 - n24 - n33 - N39) (by omega) (by omega) ?_
                  replace H := H _ rfl
                  generalize eNw h29 _ = h38 at H ⊢
                  obtain ⟨g41, H⟩ := H
                  refine c_castR dX0_makes_33 q2316 g41 ?_
                  obtain ⟨fsg44, g44o, H⟩ := H
                  obtain ⟨d45, k46, n47, Q48, g44, g44d, g44k, g44n, H⟩ := H
                  refine e_callV (r := (RX0, TX0, 8)) (As := [.ref h29.2]) g44 dX0_makes_36 wX0_becomes q2317 q2319 qs51 g44o rfl rfl g44d rfl (Nat.le_of_ble_eq_true rfl) (k1 := k - k5 - 1 - k16 - k23 - k32 - 1 - k46) (n1 := n - n6 - 11 - n17 - n24 - n33 - N39 - n47) (by omega) (by omega) ?_ ?_
                  · rintro v h43 (⟨v9, e9, e8, hq⟩ | ⟨ci9, q9, e9, -⟩)
                    · cases e9
                      subst e8
                      replace H := H h43 hq
                      refine e_aload_n dX0_makes_39 rfl ?_
                      obtain ⟨fsg51, g51o, H⟩ := H
                      obtain ⟨d52, k53, n54, Q55, g51, g51d, g51k, g51n, H⟩ := H
                      refine e_callV (r := (RX0, TX0, 8)) (As := []) g51 dX0_makes_40 wX0_parts q2351 q2286 q2287 g51o rfl rfl g51d rfl (Nat.le_of_ble_eq_true rfl) (k1 := k - k5 - 1 - k16 - k23 - k32 - 1 - k46 - k53) (n1 := n - n6 - 11 - n17 - n24 - n33 - N39 - n47 - n54) (by omega) (by omega) ?_ ?_
                      · rintro v h50 (⟨v9, e9, r49, e8, hq⟩ | ⟨ci9, q9, e9, -⟩)
                        · cases e9
                          subst e8
                          replace H := H r49 h50 hq
                          exact e_ireturn .int dX0_makes_43 rfl rfl H
                        · cases e9
                      · rintro q9 h9 (⟨v9, e9, -⟩ | ⟨ci9, q8, e9, -, -, hx⟩)
                        · cases e9
                        · exact hx.elim
                    · cases e9
                  · rintro q9 h9 (⟨v9, e9, -⟩ | ⟨ci9, q8, e9, -, -, hx⟩)
                    · cases e9
                    · exact hx.elim
                · cases e9
              · rintro q9 h9 (⟨v9, e9, -⟩ | ⟨ci9, q8, e9, gl, ⟨fs9, gq⟩, hx⟩)
                · cases e9
                · cases e9
                  rcases Hx ci9 q9 h9 hx with rfl
                  · have H := Hx11 q9 h9 fs9 hx gq gl
                    refine ex_catch (r := (RX11, TX11, 6)) [] (4, 43, 44, 368) [] rfl (by decide) (by decide) (fun z hz => absurd hz List.not_mem_nil) q2310 q1869 gq rfl gl ?_
                    exact E.less2 H (eS_s (eS_n eS_0))
            · cases e9
          · rintro q9 h9 (⟨v9, e9, -⟩ | ⟨ci9, q8, e9, -, -, hx⟩)
            · cases e9
            · exact hx.elim
        · cases e9
      · rintro q9 h9 (⟨v9, e9, -⟩ | ⟨ci9, q8, e9, -, -, hx⟩)
        · cases e9
        · exact hx.elim
    · cases e9
  · rintro q9 h9 (⟨v9, e9, -⟩ | ⟨ci9, q8, e9, -, -, hx⟩)
    · cases e9
    · exact hx.elim
set_option maxHeartbeats 4000000 in
theorem s_X0_makes_44 (c : cC) (a0 : Nat) (b0 : Nat) (h : eH) (k n : Nat) (H : False) : h_X0_makes_44 c a0 b0 h k n := by
  refine e_astore_n _ dX0_makes_44 (by decide) rfl rfl ?_
  refine e_aload_n dX0_makes_45 rfl ?_
  refine e_aload_n dX0_makes_46 rfl ?_
  exact H.elim
theorem en_X0_makes {l : Launch} {lo : Nat} {G : eG} {d : Nat} {P : eO → eH → Prop} (a0 : Nat) {h : eH} {k n : Nat} (H : h_X0_makes_0 (l, lo, G, d, P) a0 h k n) : Ct l lo G d mX0_makes [.ref a0] h k n P := 
  Ct_of (eArL mX0_makes.2.2.2.1 [.ref a0]) (by decide) rfl (Nat.le_of_ble_eq_true rfl) (fun j w q => eArL_mem j w q) (E.less2 H (eS_s (eS_n eS_0)))
/-! X0_becomes TroupeSums.becomes([J)V -/
def h_X0_becomes_0 (c : cC) (a0 : Nat) (a1 : Nat) (h : eH) (k n : Nat) : Prop := E c.1 c.2.1 c.2.2.1 c.2.2.2.1 mX0_becomes c.2.2.2.2 0 [some (.ref a0), some (.ref a1)] [] h k n
set_option maxHeartbeats 4000000 in
theorem s_X0_becomes_0 (c : cC) (a0 : Nat) (a1 : Nat) (h : eH) (k n : Nat) (H : ∃ x1 : Nat, fV h a0 0 7 (.ref x1) ∧ (∃ x3 : Nat, fV h a0 0 5 (.ref x3) ∧ (∃ fs8 : List Value, h.1 x1 = some (.inr (24, fs8)) ∧ ∃ (d8 k9 n10 : Nat) (Q11 : eH → Prop), cV c.1 c.2.1 c.2.2.1 d8 mJ25_addLast [.ref x1, .ref x3] h k9 n10 Q11 cX0 ∧ d8 + 1 ≤ c.2.2.2.1 ∧ k9 ≤ k ∧ n10 ≤ n ∧ (∀ h6 : eH, Q11 h6 → (∃ x12 : Nat, fV h6 a0 0 7 (.ref x12) ∧ (∃ fs8 : List Value, h6.1 x12 = some (.inr (24, fs8)) ∧ ∃ (d17 k18 n19 : Nat) (Q20 : Int32 → eH → Prop), cI c.1 c.2.1 c.2.2.1 d17 mJ25_size [.ref x12] h6 k18 n19 Q20 cX0 ∧ d17 + 1 ≤ c.2.2.2.1 ∧ k18 ≤ k - k9 ∧ n19 ≤ n - n10 ∧ (∀ (r14 : Int32) (h15 : eH), Q20 r14 h15 → ((r14 ≤ (12 : Int32) → ∃ fs22 : List Value, h15.1 a0 = some (.inr (0, fs22)) ∧ c.2.1 ≤ a0 ∧ 5 < fs22.length ∧ ∀ h24 : eH, h24 = eUp h15 a0 (.inr (0, fs22.set 5 (.ref a1))) → (c.2.2.2.2 (.inl none) h24)) ∧ (¬ r14 ≤ (12 : Int32) → ∃ x25 : Nat, fV h15 a0 0 7 (.ref x25) ∧ (∃ fs8 : List Value, h15.1 x25 = some (.inr (24, fs8)) ∧ ∃ (d30 k31 n32 : Nat) (Q33 : Nat → eH → Prop), cR c.1 c.2.1 c.2.2.1 d30 mJ25_removeFirst [.ref x25] h15 k31 n32 Q33 cX0 ∧ d30 + 1 ≤ c.2.2.2.1 ∧ k31 ≤ k - k9 - k18 ∧ n32 ≤ n - n10 - n19 ∧ (∀ (r27 : Nat) (h28 : eH), Q33 r27 h28 → (∃ fs34 : List Value, h28.1 a0 = some (.inr (0, fs34)) ∧ c.2.1 ≤ a0 ∧ 5 < fs34.length ∧ ∀ h36 : eH, h36 = eUp h28 a0 (.inr (0, fs34.set 5 (.ref a1))) → (c.2.2.2.2 (.inl none) h36))))))))))))) : h_X0_becomes_0 c a0 a1 h k n := by
  refine e_aload_n dX0_becomes_0 rfl ?_
  obtain ⟨x1, ⟨fsx1, g2, g2v⟩, H⟩ := H
  refine e_get dX0_becomes_1 fX0_7 q1242 g2 g2v ?_
  refine e_aload_n dX0_becomes_4 rfl ?_
  obtain ⟨x3, ⟨fsx3, g4, g4v⟩, H⟩ := H
  refine e_get dX0_becomes_5 fX0_5 q1240 g4 g4v ?_
  obtain ⟨fsg7, g7o, H⟩ := H
  obtain ⟨d8, k9, n10, Q11, g7, g7d, g7k, g7n, H⟩ := H
  refine e_callV (r := (RJ25, TJ25, 3)) (As := [.ref x3]) g7 dX0_becomes_8 wJ25_addLast q2321 q2322 q2323 g7o rfl rfl g7d rfl (Nat.le_of_ble_eq_true rfl) (k1 := k - k9) (n1 := n - n10) (by omega) (by omega) ?_ ?_
  · rintro v h6 (⟨v9, e9, e8, hq⟩ | ⟨ci9, q9, e9, -⟩)
    · cases e9
      subst e8
      replace H := H h6 hq
      refine e_aload_n dX0_becomes_11 rfl ?_
      obtain ⟨x12, ⟨fsx12, g13, g13v⟩, H⟩ := H
      refine e_get dX0_becomes_12 fX0_7 q1242 g13 g13v ?_
      obtain ⟨fsg16, g16o, H⟩ := H
      obtain ⟨d17, k18, n19, Q20, g16, g16d, g16k, g16n, H⟩ := H
      refine e_callV (r := (RJ25, TJ25, 3)) (As := []) g16 dX0_becomes_15 wJ25_size q1939 q1136 q3179 g16o rfl rfl g16d rfl (Nat.le_of_ble_eq_true rfl) (k1 := k - k9 - k18) (n1 := n - n10 - n19) (by omega) (by omega) ?_ ?_
      · rintro v h15 (⟨v9, e9, r14, e8, hq⟩ | ⟨ci9, q9, e9, -⟩)
        · cases e9
          subst e8
          replace H := H r14 h15 hq
          refine e_bipush (12) dX0_becomes_18 (by decide) ?_
          refine e_icmp_le 31 dX0_becomes_20 (by decide) (fun g21 => ?_) (fun g21 => ?_)
          · replace H := H.1 g21
            refine e_aload_n dX0_becomes_31 rfl ?_
            refine e_aload_n dX0_becomes_32 rfl ?_
            obtain ⟨fs22, g23, g23l, g23j, H⟩ := H
            refine e_put dX0_becomes_33 fX0_5 q1240 (eFit_ar _ _) g23 g23l g23j ?_
            replace H := H _ rfl
            generalize eUp h15 a0 _ = h24 at H ⊢
            exact e_return dX0_becomes_36 rfl H
          · replace H := H.2 g21
            refine e_aload_n dX0_becomes_23 rfl ?_
            obtain ⟨x25, ⟨fsx25, g26, g26v⟩, H⟩ := H
            refine e_get dX0_becomes_24 fX0_7 q1242 g26 g26v ?_
            obtain ⟨fsg29, g29o, H⟩ := H
            obtain ⟨d30, k31, n32, Q33, g29, g29d, g29k, g29n, H⟩ := H
            refine e_callV (r := (RJ25, TJ25, 3)) (As := []) g29 dX0_becomes_27 wJ25_removeFirst q2340 q2341 q2342 g29o rfl rfl g29d rfl (Nat.le_of_ble_eq_true rfl) (k1 := k - k9 - k18 - k31) (n1 := n - n10 - n19 - n32) (by omega) (by omega) ?_ ?_
            · rintro v h28 (⟨v9, e9, r27, e8, hq⟩ | ⟨ci9, q9, e9, -⟩)
              · cases e9
                subst e8
                replace H := H r27 h28 hq
                refine e_pop dX0_becomes_30 rfl ?_
                refine e_aload_n dX0_becomes_31 rfl ?_
                refine e_aload_n dX0_becomes_32 rfl ?_
                obtain ⟨fs34, g35, g35l, g35j, H⟩ := H
                refine e_put dX0_becomes_33 fX0_5 q1240 (eFit_ar _ _) g35 g35l g35j ?_
                replace H := H _ rfl
                generalize eUp h28 a0 _ = h36 at H ⊢
                exact e_return dX0_becomes_36 rfl H
              · cases e9
            · rintro q9 h9 (⟨v9, e9, -⟩ | ⟨ci9, q8, e9, -, -, hx⟩)
              · cases e9
              · exact hx.elim
        · cases e9
      · rintro q9 h9 (⟨v9, e9, -⟩ | ⟨ci9, q8, e9, -, -, hx⟩)
        · cases e9
        · exact hx.elim
    · cases e9
  · rintro q9 h9 (⟨v9, e9, -⟩ | ⟨ci9, q8, e9, -, -, hx⟩)
    · cases e9
    · exact hx.elim
theorem en_X0_becomes {l : Launch} {lo : Nat} {G : eG} {d : Nat} {P : eO → eH → Prop} (a0 : Nat) (a1 : Nat) {h : eH} {k n : Nat} (H : h_X0_becomes_0 (l, lo, G, d, P) a0 a1 h k n) : Ct l lo G d mX0_becomes [.ref a0, .ref a1] h k n P := 
  Ct_of (eArL mX0_becomes.2.2.2.1 [.ref a0, .ref a1]) (by decide) rfl (Nat.le_of_ble_eq_true rfl) (fun j w q => eArL_mem j w q) (E.less2 H (eS_s (eS_s eS_0)))
/-! X0_take TroupeSums.take(II)I -/
def h_X0_take_0 (c : cC) (a0 : Nat) (a1 : Int32) (a2 : Int32) (h : eH) (k n : Nat) : Prop := E c.1 c.2.1 c.2.2.1 c.2.2.2.1 mX0_take c.2.2.2.2 0 [some (.ref a0), some (.int a1), some (.int a2), none, none, none] [] h k n
def h_X0_take_30 (c : cC) (a0 : Nat) (a1 : Int32) (a2 : Int32) (h : eH) (k n : Nat) : Prop := E c.1 c.2.1 c.2.2.1 c.2.2.2.1 mX0_take c.2.2.2.2 30 [some (.ref a0), some (.int a1), some (.int a2), none, none, none] [] h k n
def h_X0_take_40 (c : cC) (a0 : Nat) (a1 : Int32) (a2 : Int32) (a3 : Nat) (a4 : Int32) (h : eH) (k n : Nat) : Prop := E c.1 c.2.1 c.2.2.1 c.2.2.2.1 mX0_take c.2.2.2.2 40 [some (.ref a0), some (.int a1), some (.int a2), some (.ref a3), some (.int a4), none] [] h k n
def h_X0_take_118 (c : cC) (a0 : Nat) (a1 : Int32) (a2 : Int32) (a3 : Nat) (a4 : Int32) (b0 : Int64) (b1 : Int32) (b2 : Nat) (h : eH) (k n : Nat) : Prop := E c.1 c.2.1 c.2.2.1 c.2.2.2.1 mX0_take c.2.2.2.2 118 [some (.ref a0), some (.int a1), some (.int a2), some (.ref a3), some (.int a4), none] [.long b0, .int b1, .ref b2] h k n
set_option maxHeartbeats 4000000 in
theorem s_X0_take_0 (c : cC) (a0 : Nat) (a1 : Int32) (a2 : Int32) (h : eH) (k n : Nat) (H : ∃ (d4 k5 n6 : Nat) (Q7 : Int32 → eH → Prop), cI c.1 c.2.1 c.2.2.1 d4 mX0_isIn [.long a1.toInt64, .long (0 : Int64), .long (2 : Int64)] h k5 n6 Q7 cX0 ∧ d4 + 1 ≤ c.2.2.2.1 ∧ k5 ≤ k ∧ n6 ≤ n ∧ (∀ (r1 : Int32) (h2 : eH), Q7 r1 h2 → ((r1 = 0 → c.2.2.2.2 (.inl (some (.int (-1 : Int32)))) h2) ∧ (¬ r1 = 0 → (a1 ≤ 0 → h_X0_take_30 c a0 a1 a2 h2 (k - k5) (n - n6)) ∧ (¬ a1 ≤ 0 → ∃ (d13 k14 n15 : Nat) (Q16 : Int32 → eH → Prop), cI c.1 c.2.1 c.2.2.1 d13 mX0_isIn [.long a2.toInt64, .long (0 : Int64), .long (6 : Int64)] h2 k14 n15 Q16 cX0 ∧ d13 + 1 ≤ c.2.2.2.1 ∧ k14 ≤ k - k5 ∧ n15 ≤ n - n6 ∧ (∀ (r10 : Int32) (h11 : eH), Q16 r10 h11 → ((¬ r10 = 0 → h_X0_take_30 c a0 a1 a2 h11 (k - k5 - k14) (n - n6 - n15)) ∧ (r10 = 0 → c.2.2.2.2 (.inl (some (.int (-1 : Int32)))) h11)))))))) : h_X0_take_0 c a0 a1 a2 h k n := by
  refine e_iload_n dX0_take_0 rfl ?_
  refine e_i2l dX0_take_1 ?_
  refine e_lconst 0 dX0_take_2 (by decide) ?_
  refine e_ldc2 dX0_take_3 q2360 ?_
  obtain ⟨d4, k5, n6, Q7, g3, g3d, g3k, g3n, H⟩ := H
  refine e_callS (As := [.long a1.toInt64, .long (0 : Int64), .long (2 : Int64)]) g3 dX0_take_6 wX0_isIn q1948 q1791 rfl g3d rfl (Nat.le_of_ble_eq_true rfl) (k1 := k - k5) (n1 := n - n6) (by omega) (by omega) ?_ ?_
  · rintro v h2 (⟨v9, e9, r1, e8, hq⟩ | ⟨ci9, q9, e9, -⟩)
    · cases e9
      subst e8
      replace H := H r1 h2 hq
      refine e_if_eq 28 dX0_take_9 (by decide) (fun g8 => ?_) (fun g8 => ?_)
      · replace H := H.1 g8
        refine e_iconst (-1) dX0_take_28 (by decide) ?_
        exact e_ireturn .int dX0_take_29 rfl rfl H
      · replace H := H.2 g8
        refine e_iload_n dX0_take_12 rfl ?_
        refine e_if_le 30 dX0_take_13 (by decide) (fun g9 => ?_) (fun g9 => ?_)
        · replace H := H.1 g9
          exact E.less2 H (eS_s (eS_s (eS_s (eS_n (eS_n (eS_n eS_0))))))
        · replace H := H.2 g9
          refine e_iload_n dX0_take_16 rfl ?_
          refine e_i2l dX0_take_17 ?_
          refine e_lconst 0 dX0_take_18 (by decide) ?_
          refine e_ldc2 dX0_take_19 q2361 ?_
          obtain ⟨d13, k14, n15, Q16, g12, g12d, g12k, g12n, H⟩ := H
          refine e_callS (As := [.long a2.toInt64, .long (0 : Int64), .long (6 : Int64)]) g12 dX0_take_22 wX0_isIn q1948 q1791 rfl g12d rfl (Nat.le_of_ble_eq_true rfl) (k1 := k - k5 - k14) (n1 := n - n6 - n15) (by omega) (by omega) ?_ ?_
          · rintro v h11 (⟨v9, e9, r10, e8, hq⟩ | ⟨ci9, q9, e9, -⟩)
            · cases e9
              subst e8
              replace H := H r10 h11 hq
              refine e_if_ne 30 dX0_take_25 (by decide) (fun g17 => ?_) (fun g17 => ?_)
              · replace H := H.1 g17
                exact E.less2 H (eS_s (eS_s (eS_s (eS_n (eS_n (eS_n eS_0))))))
              · replace H := H.2 g17
                refine e_iconst (-1) dX0_take_28 (by decide) ?_
                exact e_ireturn .int dX0_take_29 rfl rfl H
            · cases e9
          · rintro q9 h9 (⟨v9, e9, -⟩ | ⟨ci9, q8, e9, -, -, hx⟩)
            · cases e9
            · exact hx.elim
    · cases e9
  · rintro q9 h9 (⟨v9, e9, -⟩ | ⟨ci9, q8, e9, -, -, hx⟩)
    · cases e9
    · exact hx.elim
set_option maxHeartbeats 4000000 in
theorem s_X0_take_30 (c : cC) (a0 : Nat) (a1 : Int32) (a2 : Int32) (h : eH) (k n : Nat) (H : ∃ fs8 : List Value, h.1 a0 = some (.inr (0, fs8)) ∧ ∃ (d4 k5 n6 : Nat) (Q7 : Int32 → eH → Prop), cI c.1 c.2.1 c.2.2.1 d4 mX0_sorts [.ref a0] h k5 n6 Q7 cX0 ∧ d4 + 1 ≤ c.2.2.2.1 ∧ k5 ≤ k ∧ n6 ≤ n ∧ (∀ (r1 : Int32) (h2 : eH), Q7 r1 h2 → (∃ N10 : Nat, r1 = nI N10 ∧ N10 ≤ 10000000 ∧ 1 ≤ k - k5 ∧ N10 ≤ n - n6 ∧ ∀ h8 : eH, h8 = eNw h2 (.inl (c.2.2.1.2.1 1, N10, .inr (.inl (fun _ => 0)))) → (h_X0_take_40 c a0 a1 a2 h2.2 (0 : Int32) h8 (k - k5 - 1) (n - n6 - N10))))) : h_X0_take_30 c a0 a1 a2 h k n := by
  refine e_aload_n dX0_take_30 rfl ?_
  obtain ⟨fsg3, g3o, H⟩ := H
  obtain ⟨d4, k5, n6, Q7, g3, g3d, g3k, g3n, H⟩ := H
  refine e_callV (r := (RX0, TX0, 8)) (As := []) g3 dX0_take_31 wX0_sorts q1913 q1915 qs42 g3o rfl rfl g3d rfl (Nat.le_of_ble_eq_true rfl) (k1 := k - k5) (n1 := n - n6) (by omega) (by omega) ?_ ?_
  · rintro v h2 (⟨v9, e9, r1, e8, hq⟩ | ⟨ci9, q9, e9, -⟩)
    · cases e9
      subst e8
      replace H := H r1 h2 hq
      obtain ⟨N10, g9i, g9b, g9, g9n, H⟩ := H
      refine c_newarrayJ dX0_take_34 q1234 g9i g9b g9 g9n ?_
      replace H := H _ rfl
      generalize eNw h2 _ = h8 at H ⊢
      refine e_astore_n _ dX0_take_36 (by decide) rfl rfl ?_
      refine e_iconst (0) dX0_take_37 (by decide) ?_
      refine e_istore _ dX0_take_38 (by decide) rfl rfl ?_
      exact E.less2 H (eS_s (eS_s (eS_s (eS_s (eS_s (eS_n eS_0))))))
    · cases e9
  · rintro q9 h9 (⟨v9, e9, -⟩ | ⟨ci9, q8, e9, -, -, hx⟩)
    · cases e9
    · exact hx.elim
set_option maxHeartbeats 4000000 in
theorem s_X0_take_40 (c : cC) (a0 : Nat) (a1 : Int32) (a2 : Int32) (a3 : Nat) (a4 : Int32) (h : eH) (k n : Nat) (H : ∃ v1 : vp_A, h.1 a3 = some (.inl (c.2.2.1.2.1 1, v1)) ∧ (((nI v1.1) ≤ a4 → ∃ x4 : Nat, fV h a0 0 4 (.ref x4) ∧ (∃ x6 : Option Nat, fV h x4 1 2 (va_rf x6) ∧ (∃ o8 : Nat, x6 = some o8 ∧ ∃ fs8 : List Value, h.1 o8 = some (.inr (3, fs8)) ∧ ∃ (d12 k13 n14 : Nat) (Q15 : Nat → eH → Prop), cR c.1 c.2.1 c.2.2.1 d12 mX3_solved [.ref o8, .ref a3] h k13 n14 Q15 cX0 ∧ d12 + 1 ≤ c.2.2.2.1 ∧ k13 ≤ k ∧ n14 ≤ n ∧ (∀ (r9 : Nat) (h10 : eH), Q15 r9 h10 → (∃ fs8 : List Value, h10.1 a0 = some (.inr (0, fs8)) ∧ ∃ (d19 k20 n21 : Nat) (Q22 : eH → Prop), cV c.1 c.2.1 c.2.2.1 d19 mX0_becomes [.ref a0, .ref r9] h10 k20 n21 Q22 cX0 ∧ d19 + 1 ≤ c.2.2.2.1 ∧ k20 ≤ k - k13 ∧ n21 ≤ n - n14 ∧ (∀ h17 : eH, Q22 h17 → (∃ (N23 : Nat) (f24 : Nat → Int64), h17.1 a3 = some (.inl (c.2.2.1.2.1 1, N23, .inr (.inl f24))) ∧ vp_in (0 : Int32) N23 ∧ (c.2.2.2.2 (.inl (some (.int ((f24 (0 : Int32).toNatClampNeg).toInt32)))) h17)))))))) ∧ (¬ (nI v1.1) ≤ a4 → ∃ x26 : Nat, fV h a0 0 4 (.ref x26) ∧ (∃ x28 : Option Nat, fV h x26 1 2 (va_rf x28) ∧ (∃ o30 : Nat, x28 = some o30 ∧ ∃ x31 : Nat, fV h o30 3 5 (.ref x31) ∧ (∃ fs8 : List Value, h.1 x31 = some (.inr (15, fs8)) ∧ ∃ (d36 k37 n38 : Nat) (Q39 : Nat → eH → Prop), cR c.1 c.2.1 c.2.2.1 d36 mJ2_get [.ref x31, .int a4] h k37 n38 Q39 cX0 ∧ d36 + 1 ≤ c.2.2.2.1 ∧ k37 ≤ k ∧ n38 ≤ n ∧ (∀ (r33 : Nat) (h34 : eH), Q39 r33 h34 → (eCs c.2.2.1 h34 r33 "TroupeSums$Sort" ∧ (∃ x41 : Int32, fV h34 r33 5 1 (.int x41) ∧ ((¬ a1 = 0 → (¬ a1 = (1 : Int32) → ∃ fs8 : List Value, h34.1 a0 = some (.inr (0, fs8)) ∧ ∃ (d48 k49 n50 : Nat) (Q51 : Int32 → eH → Prop), cI c.1 c.2.1 c.2.2.1 d48 mX0_orbits [.ref a0, .int x41, .int (0 : Int32)] h34 k49 n50 Q51 cX0 ∧ d48 + 1 ≤ c.2.2.2.1 ∧ k49 ≤ k - k37 ∧ n50 ≤ n - n38 ∧ (∀ (r45 : Int32) (h46 : eH), Q51 r45 h46 → (∃ (d55 k56 n57 : Nat) (Q58 : Int32 → eH → Prop), cI c.1 c.2.1 c.2.2.1 d55 mX0_power [.int a2, .int r45] h46 k56 n57 Q58 cX0 ∧ d55 + 1 ≤ c.2.2.2.1 ∧ k56 ≤ k - k37 - k49 ∧ n57 ≤ n - n38 - n50 ∧ (∀ (r52 : Int32) (h53 : eH), Q58 r52 h53 → (h_X0_take_118 c a0 a1 a2 a3 a4 r52.toInt64 a4 a3 h53 (k - k37 - k49 - k56) (n - n38 - n50 - n57)))))) ∧ (a1 = (1 : Int32) → ∃ fs8 : List Value, h34.1 a0 = some (.inr (0, fs8)) ∧ ∃ (d62 k63 n64 : Nat) (Q65 : Int32 → eH → Prop), cI c.1 c.2.1 c.2.2.1 d62 mX0_setsOf [.ref a0, .int x41, .int a2] h34 k63 n64 Q65 cX0 ∧ d62 + 1 ≤ c.2.2.2.1 ∧ k63 ≤ k - k37 ∧ n64 ≤ n - n38 ∧ (∀ (r59 : Int32) (h60 : eH), Q65 r59 h60 → (h_X0_take_118 c a0 a1 a2 a3 a4 r59.toInt64 a4 a3 h60 (k - k37 - k63) (n - n38 - n64))))) ∧ (a1 = 0 → ∃ fs8 : List Value, h34.1 a0 = some (.inr (0, fs8)) ∧ ∃ (d69 k70 n71 : Nat) (Q72 : Int32 → eH → Prop), cI c.1 c.2.1 c.2.2.1 d69 mX0_orbits [.ref a0, .int x41, .int (1 : Int32)] h34 k70 n71 Q72 cX0 ∧ d69 + 1 ≤ c.2.2.2.1 ∧ k70 ≤ k - k37 ∧ n71 ≤ n - n38 ∧ (∀ (r66 : Int32) (h67 : eH), Q72 r66 h67 → (h_X0_take_118 c a0 a1 a2 a3 a4 r66.toInt64 a4 a3 h67 (k - k37 - k70) (n - n38 - n71)))))))))))))) : h_X0_take_40 c a0 a1 a2 a3 a4 h k n := by
  refine e_iload dX0_take_40 rfl ?_
  refine e_aload_n dX0_take_42 rfl ?_
  obtain ⟨v1, g2, H⟩ := H
  refine e_alen (t := 1) dX0_take_43 (fun _ => rfl) g2 ?_
  refine e_icmp_ge 125 dX0_take_44 (by decide) (fun g3 => ?_) (fun g3 => ?_)
  · replace H := H.1 g3
    refine e_aload_n dX0_take_125 rfl ?_
    refine e_aload_n dX0_take_126 rfl ?_
    obtain ⟨x4, ⟨fsx4, g5, g5v⟩, H⟩ := H
    refine e_get dX0_take_127 fX0_4 q1239 g5 g5v ?_
    obtain ⟨x6, ⟨fsx6, g7, g7v⟩, H⟩ := H
    refine e_getN dX0_take_130 fX1_2 q238 g7 g7v ?_
    refine e_aload_n dX0_take_133 rfl ?_
    obtain ⟨o8, eo8, H⟩ := H
    subst eo8
    obtain ⟨fsg11, g11o, H⟩ := H
    obtain ⟨d12, k13, n14, Q15, g11, g11d, g11k, g11n, H⟩ := H
    refine e_callV (r := (RX3, TX3, 8)) (As := [.ref a3]) g11 dX0_take_134 wX3_solved q2255 q1860 q1861 g11o rfl rfl g11d rfl (Nat.le_of_ble_eq_true rfl) (k1 := k - k13) (n1 := n - n14) (by omega) (by omega) ?_ ?_
    · rintro v h10 (⟨v9, e9, r9, e8, hq⟩ | ⟨ci9, q9, e9, -⟩)
      · cases e9
        subst e8
        replace H := H r9 h10 hq
        obtain ⟨fsg18, g18o, H⟩ := H
        obtain ⟨d19, k20, n21, Q22, g18, g18d, g18k, g18n, H⟩ := H
        refine e_callV (r := (RX0, TX0, 8)) (As := [.ref r9]) g18 dX0_take_137 wX0_becomes q2317 q2319 qs51 g18o rfl rfl g18d rfl (Nat.le_of_ble_eq_true rfl) (k1 := k - k13 - k20) (n1 := n - n14 - n21) (by omega) (by omega) ?_ ?_
        · rintro v h17 (⟨v9, e9, e8, hq⟩ | ⟨ci9, q9, e9, -⟩)
          · cases e9
            subst e8
            replace H := H h17 hq
            refine e_aload_n dX0_take_140 rfl ?_
            refine e_iconst (0) dX0_take_141 (by decide) ?_
            obtain ⟨N23, f24, g25, g25i, H⟩ := H
            refine e_laload dX0_take_142 g25 g25i ?_
            refine e_l2i dX0_take_143 ?_
            exact e_ireturn .int dX0_take_144 rfl rfl H
          · cases e9
        · rintro q9 h9 (⟨v9, e9, -⟩ | ⟨ci9, q8, e9, -, -, hx⟩)
          · cases e9
          · exact hx.elim
      · cases e9
    · rintro q9 h9 (⟨v9, e9, -⟩ | ⟨ci9, q8, e9, -, -, hx⟩)
      · cases e9
      · exact hx.elim
  · replace H := H.2 g3
    refine e_aload_n dX0_take_47 rfl ?_
    obtain ⟨x26, ⟨fsx26, g27, g27v⟩, H⟩ := H
    refine e_get dX0_take_48 fX0_4 q1239 g27 g27v ?_
    obtain ⟨x28, ⟨fsx28, g29, g29v⟩, H⟩ := H
    refine e_getN dX0_take_51 fX1_2 q238 g29 g29v ?_
    obtain ⟨o30, eo30, H⟩ := H
    subst eo30
    obtain ⟨x31, ⟨fsx31, g32, g32v⟩, H⟩ := H
    refine e_getN dX0_take_54 fX3_5 q1194 g32 g32v ?_
    refine e_iload dX0_take_57 rfl ?_
    obtain ⟨fsg35, g35o, H⟩ := H
    obtain ⟨d36, k37, n38, Q39, g35, g35d, g35k, g35n, H⟩ := H
    refine e_callF (i := 4) (r := (RJ2, TJ2, 3)) (As := [.int a4]) g35 dX0_take_59 wJ2_get rfl rfl q1950 q887 q885 g35o rfl rfl g35d rfl (Nat.le_of_ble_eq_true rfl) (k1 := k - k37) (n1 := n - n38) (by omega) (by omega) ?_ ?_
    · rintro v h34 (⟨v9, e9, r33, e8, hq⟩ | ⟨ci9, q9, e9, -⟩)
      · cases e9
        subst e8
        replace H := H r33 h34 hq
        obtain ⟨g40, H⟩ := H
        refine c_castR dX0_take_64 q2019 g40 ?_
        obtain ⟨x41, ⟨fsx41, g42, g42v⟩, H⟩ := H
        refine e_getN dX0_take_67 fX5_1 q1083 g42 g42v ?_
        refine e_istore _ dX0_take_70 (by decide) rfl rfl ?_
        refine e_aload_n dX0_take_72 rfl ?_
        refine e_iload dX0_take_73 rfl ?_
        refine e_iload_n dX0_take_75 rfl ?_
        refine e_if_ne 90 dX0_take_76 (by decide) (fun g43 => ?_) (fun g43 => ?_)
        · replace H := H.1 g43
          refine e_iload_n dX0_take_90 rfl ?_
          refine e_iconst (1) dX0_take_91 (by decide) ?_
          refine e_icmp_ne 106 dX0_take_92 (by decide) (fun g44 => ?_) (fun g44 => ?_)
          · replace H := H.1 g44
            refine e_iload_n dX0_take_106 rfl ?_
            refine e_aload_n dX0_take_107 rfl ?_
            refine e_iload dX0_take_108 rfl ?_
            refine e_iconst (0) dX0_take_110 (by decide) ?_
            obtain ⟨fsg47, g47o, H⟩ := H
            obtain ⟨d48, k49, n50, Q51, g47, g47d, g47k, g47n, H⟩ := H
            refine e_callV (r := (RX0, TX0, 8)) (As := [.int x41, .int (0 : Int32)]) g47 dX0_take_111 wX0_orbits q2362 q2364 qs54 g47o rfl rfl g47d rfl (Nat.le_of_ble_eq_true rfl) (k1 := k - k37 - k49) (n1 := n - n38 - n50) (by omega) (by omega) ?_ ?_
            · rintro v h46 (⟨v9, e9, r45, e8, hq⟩ | ⟨ci9, q9, e9, -⟩)
              · cases e9
                subst e8
                replace H := H r45 h46 hq
                obtain ⟨d55, k56, n57, Q58, g54, g54d, g54k, g54n, H⟩ := H
                refine e_callS (As := [.int a2, .int r45]) g54 dX0_take_114 wX0_power q2372 q2373 rfl g54d rfl (Nat.le_of_ble_eq_true rfl) (k1 := k - k37 - k49 - k56) (n1 := n - n38 - n50 - n57) (by omega) (by omega) ?_ ?_
                · rintro v h53 (⟨v9, e9, r52, e8, hq⟩ | ⟨ci9, q9, e9, -⟩)
                  · cases e9
                    subst e8
                    replace H := H r52 h53 hq
                    refine e_i2l dX0_take_117 ?_
                    exact E.less2 H (eS_s (eS_s (eS_s (eS_s (eS_s (eS_n eS_0))))))
                  · cases e9
                · rintro q9 h9 (⟨v9, e9, -⟩ | ⟨ci9, q8, e9, -, -, hx⟩)
                  · cases e9
                  · exact hx.elim
              · cases e9
            · rintro q9 h9 (⟨v9, e9, -⟩ | ⟨ci9, q8, e9, -, -, hx⟩)
              · cases e9
              · exact hx.elim
          · replace H := H.2 g44
            refine e_aload_n dX0_take_95 rfl ?_
            refine e_iload dX0_take_96 rfl ?_
            refine e_iload_n dX0_take_98 rfl ?_
            obtain ⟨fsg61, g61o, H⟩ := H
            obtain ⟨d62, k63, n64, Q65, g61, g61d, g61k, g61n, H⟩ := H
            refine e_callV (r := (RX0, TX0, 8)) (As := [.int x41, .int a2]) g61 dX0_take_99 wX0_setsOf q2368 q2370 qs55 g61o rfl rfl g61d rfl (Nat.le_of_ble_eq_true rfl) (k1 := k - k37 - k63) (n1 := n - n38 - n64) (by omega) (by omega) ?_ ?_
            · rintro v h60 (⟨v9, e9, r59, e8, hq⟩ | ⟨ci9, q9, e9, -⟩)
              · cases e9
                subst e8
                replace H := H r59 h60 hq
                refine e_i2l dX0_take_102 ?_
                refine e_goto 118 dX0_take_103 (by decide) ?_
                exact E.less2 H (eS_s (eS_s (eS_s (eS_s (eS_s (eS_n eS_0))))))
              · cases e9
            · rintro q9 h9 (⟨v9, e9, -⟩ | ⟨ci9, q8, e9, -, -, hx⟩)
              · cases e9
              · exact hx.elim
        · replace H := H.2 g43
          refine e_aload_n dX0_take_79 rfl ?_
          refine e_iload dX0_take_80 rfl ?_
          refine e_iconst (1) dX0_take_82 (by decide) ?_
          obtain ⟨fsg68, g68o, H⟩ := H
          obtain ⟨d69, k70, n71, Q72, g68, g68d, g68k, g68n, H⟩ := H
          refine e_callV (r := (RX0, TX0, 8)) (As := [.int x41, .int (1 : Int32)]) g68 dX0_take_83 wX0_orbits q2362 q2364 qs54 g68o rfl rfl g68d rfl (Nat.le_of_ble_eq_true rfl) (k1 := k - k37 - k70) (n1 := n - n38 - n71) (by omega) (by omega) ?_ ?_
          · rintro v h67 (⟨v9, e9, r66, e8, hq⟩ | ⟨ci9, q9, e9, -⟩)
            · cases e9
              subst e8
              replace H := H r66 h67 hq
              refine e_i2l dX0_take_86 ?_
              refine e_goto 118 dX0_take_87 (by decide) ?_
              exact E.less2 H (eS_s (eS_s (eS_s (eS_s (eS_s (eS_n eS_0))))))
            · cases e9
          · rintro q9 h9 (⟨v9, e9, -⟩ | ⟨ci9, q8, e9, -, -, hx⟩)
            · cases e9
            · exact hx.elim
      · cases e9
    · rintro q9 h9 (⟨v9, e9, -⟩ | ⟨ci9, q8, e9, -, -, hx⟩)
      · cases e9
      · exact hx.elim
set_option maxHeartbeats 4000000 in
theorem s_X0_take_118 (c : cC) (a0 : Nat) (a1 : Int32) (a2 : Int32) (a3 : Nat) (a4 : Int32) (b0 : Int64) (b1 : Int32) (b2 : Nat) (h : eH) (k n : Nat) (H : ∃ (N1 : Nat) (f2 : Nat → Int64), h.1 b2 = some (.inl (c.2.2.1.2.1 1, N1, .inr (.inl f2))) ∧ c.2.1 ≤ b2 ∧ vp_in b1 N1 ∧ ∀ h4 : eH, h4 = eUp h b2 (.inl (c.2.2.1.2.1 1, N1, .inr (.inl (va_up f2 b1.toNatClampNeg b0)))) → (h_X0_take_40 c a0 a1 a2 a3 (a4 + 1) h4 k n)) : h_X0_take_118 c a0 a1 a2 a3 a4 b0 b1 b2 h k n := by
  obtain ⟨N1, f2, g3, g3l, g3i, H⟩ := H
  refine e_lastore dX0_take_118 g3 g3l g3i ?_
  replace H := H _ rfl
  generalize eUp h b2 _ = h4 at H ⊢
  refine e_iinc (a4 + 1) _ dX0_take_119 rfl rfl (by decide) rfl rfl ?_
  refine e_goto 40 dX0_take_122 (by decide) ?_
  exact E.less2 H (eS_s (eS_s (eS_s (eS_s (eS_s (eS_n eS_0))))))
theorem en_X0_take {l : Launch} {lo : Nat} {G : eG} {d : Nat} {P : eO → eH → Prop} (a0 : Nat) (a1 : Int32) (a2 : Int32) {h : eH} {k n : Nat} (H : h_X0_take_0 (l, lo, G, d, P) a0 a1 a2 h k n) : Ct l lo G d mX0_take [.ref a0, .int a1, .int a2] h k n P := 
  Ct_of (eArL mX0_take.2.2.2.1 [.ref a0, .int a1, .int a2]) (by decide) rfl (Nat.le_of_ble_eq_true rfl) (fun j w q => eArL_mem j w q) (E.less2 H (eS_s (eS_s (eS_s (eS_n (eS_n (eS_n eS_0)))))))
/-! X0_orbits TroupeSums.orbits(IZ)I -/
def h_X0_orbits_0 (c : cC) (a0 : Nat) (a1 : Int32) (a2 : Int32) (h : eH) (k n : Nat) : Prop := E c.1 c.2.1 c.2.2.1 c.2.2.2.1 mX0_orbits c.2.2.2.2 0 [some (.ref a0), some (.int a1), some (.int a2), none, none, none, none, none, none] [] h k n
def h_X0_orbits_5 (c : cC) (a0 : Nat) (a1 : Int32) (a2 : Int32) (a3 : Int32) (a4 : Int32) (h : eH) (k n : Nat) : Prop := E c.1 c.2.1 c.2.2.1 c.2.2.2.1 mX0_orbits c.2.2.2.2 5 [some (.ref a0), some (.int a1), some (.int a2), some (.int a3), some (.int a4), none, none, none, none] [] h k n
def h_X0_orbits_28 (c : cC) (a0 : Nat) (a1 : Int32) (a2 : Int32) (a3 : Int32) (a4 : Int32) (a5 : Int32) (a6 : Int32) (a7 : Int32) (h : eH) (k n : Nat) : Prop := E c.1 c.2.1 c.2.2.1 c.2.2.2.1 mX0_orbits c.2.2.2.2 28 [some (.ref a0), some (.int a1), some (.int a2), some (.int a3), some (.int a4), some (.int a5), some (.int a6), some (.int a7), none] [] h k n
def h_X0_orbits_142 (c : cC) (a0 : Nat) (a1 : Int32) (a2 : Int32) (a4 : Int32) (b0 : Int32) (b1 : Int32) (h : eH) (k n : Nat) : Prop := E c.1 c.2.1 c.2.2.1 c.2.2.2.1 mX0_orbits c.2.2.2.2 142 [some (.ref a0), some (.int a1), some (.int a2), none, some (.int a4), none, none, none, none] [.int b0, .int b1] h k n
set_option maxHeartbeats 4000000 in
theorem s_X0_orbits_0 (c : cC) (a0 : Nat) (a1 : Int32) (a2 : Int32) (h : eH) (k n : Nat) (H : h_X0_orbits_5 c a0 a1 a2 (0 : Int32) (0 : Int32) h k n) : h_X0_orbits_0 c a0 a1 a2 h k n := by
  refine e_iconst (0) dX0_orbits_0 (by decide) ?_
  refine e_istore_n _ dX0_orbits_1 (by decide) rfl rfl ?_
  refine e_iconst (0) dX0_orbits_2 (by decide) ?_
  refine e_istore _ dX0_orbits_3 (by decide) rfl rfl ?_
  exact E.less2 H (eS_s (eS_s (eS_s (eS_s (eS_s (eS_n (eS_n (eS_n (eS_n eS_0)))))))))
set_option maxHeartbeats 4000000 in
theorem s_X0_orbits_5 (c : cC) (a0 : Nat) (a1 : Int32) (a2 : Int32) (a3 : Int32) (a4 : Int32) (h : eH) (k n : Nat) (H : ∃ x1 : Nat, fV h a0 0 4 (.ref x1) ∧ (∃ x3 : Int32, fV h x1 1 0 (.int x3) ∧ ((x3 ≤ a4 → c.2.2.2.2 (.inl (some (.int a3))) h) ∧ (¬ x3 ≤ a4 → h_X0_orbits_28 c a0 a1 a2 a3 a4 a4 a4 (0 : Int32) h k n)))) : h_X0_orbits_5 c a0 a1 a2 a3 a4 h k n := by
  refine e_iload dX0_orbits_5 rfl ?_
  refine e_aload_n dX0_orbits_7 rfl ?_
  obtain ⟨x1, ⟨fsx1, g2, g2v⟩, H⟩ := H
  refine e_get dX0_orbits_8 fX0_4 q1239 g2 g2v ?_
  obtain ⟨x3, ⟨fsx3, g4, g4v⟩, H⟩ := H
  refine e_getN dX0_orbits_11 fX1_0 q235 g4 g4v ?_
  refine e_icmp_ge 150 dX0_orbits_14 (by decide) (fun g5 => ?_) (fun g5 => ?_)
  · replace H := H.1 g5
    refine e_iload_n dX0_orbits_150 rfl ?_
    exact e_ireturn .int dX0_orbits_151 rfl rfl H
  · replace H := H.2 g5
    refine e_iload dX0_orbits_17 rfl ?_
    refine e_istore _ dX0_orbits_19 (by decide) rfl rfl ?_
    refine e_iload dX0_orbits_21 rfl ?_
    refine e_istore _ dX0_orbits_23 (by decide) rfl rfl ?_
    refine e_iconst (0) dX0_orbits_25 (by decide) ?_
    refine e_istore _ dX0_orbits_26 (by decide) rfl rfl ?_
    exact E.less2 H (eS_s (eS_s (eS_s (eS_s (eS_s (eS_s (eS_s (eS_s (eS_n eS_0)))))))))
set_option maxHeartbeats 4000000 in
theorem s_X0_orbits_28 (c : cC) (a0 : Nat) (a1 : Int32) (a2 : Int32) (a3 : Int32) (a4 : Int32) (a5 : Int32) (a6 : Int32) (a7 : Int32) (h : eH) (k n : Nat) (H : ∃ x1 : Nat, fV h a0 0 4 (.ref x1) ∧ (∃ x3 : Option Nat, fV h x1 1 2 (va_rf x3) ∧ (∃ o5 : Nat, x3 = some o5 ∧ ∃ fs8 : List Value, h.1 o5 = some (.inr (3, fs8)) ∧ ∃ (d9 k10 n11 : Nat) (Q12 : Int32 → eH → Prop), cI c.1 c.2.1 c.2.2.1 d9 mX3_size [.ref o5] h k10 n11 Q12 cX0 ∧ d9 + 1 ≤ c.2.2.2.1 ∧ k10 ≤ k ∧ n11 ≤ n ∧ (∀ (r6 : Int32) (h7 : eH), Q12 r6 h7 → ((r6 ≤ a7 → (a2 = 0 → (¬ a5 = a4 → h_X0_orbits_142 c a0 a1 a2 a4 (0 : Int32) a3 h7 (k - k10) (n - n11)) ∧ (a5 = a4 → h_X0_orbits_142 c a0 a1 a2 a4 (1 : Int32) a3 h7 (k - k10) (n - n11))) ∧ (¬ a2 = 0 → (¬ a5 = a6 → h_X0_orbits_142 c a0 a1 a2 a4 (0 : Int32) a3 h7 (k - k10) (n - n11)) ∧ (a5 = a6 → h_X0_orbits_142 c a0 a1 a2 a4 (1 : Int32) a3 h7 (k - k10) (n - n11)))) ∧ (¬ r6 ≤ a7 → ∃ (d20 k21 n22 : Nat) (Q23 : Int32 → eH → Prop), cI c.1 c.2.1 c.2.2.1 d20 mX0_isOf [.long a1.toInt64, .int a7] h7 k21 n22 Q23 cX0 ∧ d20 + 1 ≤ c.2.2.2.1 ∧ k21 ≤ k - k10 ∧ n22 ≤ n - n11 ∧ (∀ (r17 : Int32) (h18 : eH), Q23 r17 h18 → ((r17 = 0 → 1 ≤ c.2.2.2.1 ∧ (1 ≤ c.2.2.2.1 ∧ (h_X0_orbits_28 c a0 a1 a2 a3 a4 (if a4 < a5 then a4 else a5) (if a6 < a4 then a4 else a6) (a7 + 1) h18 (k - k10 - k21) (n - n11 - n22)))) ∧ (¬ r17 = 0 → ∃ x27 : Nat, fV h18 a0 0 4 (.ref x27) ∧ (∃ x29 : Option Nat, fV h18 x27 1 2 (va_rf x29) ∧ (∃ o31 : Nat, x29 = some o31 ∧ ∃ x32 : Nat, fV h18 o31 3 1 (.ref x32) ∧ (∃ fs8 : List Value, h18.1 x32 = some (.inr (15, fs8)) ∧ ∃ (d37 k38 n39 : Nat) (Q40 : Nat → eH → Prop), cR c.1 c.2.1 c.2.2.1 d37 mJ2_get [.ref x32, .int a7] h18 k38 n39 Q40 cX0 ∧ d37 + 1 ≤ c.2.2.2.1 ∧ k38 ≤ k - k10 - k21 ∧ n39 ≤ n - n11 - n22 ∧ (∀ (r34 : Nat) (h35 : eH), Q40 r34 h35 → (eCs c.2.2.1 h35 r34 "TroupeSums$Row" ∧ (∃ x42 : Nat, fV h35 r34 2 0 (.ref x42) ∧ (∃ (N44 : Nat) (f45 : Nat → Int32), h35.1 x42 = some (.inl (c.2.2.1.2.1 0, N44, .inl f45)) ∧ vp_in a4 N44 ∧ (1 ≤ c.2.2.2.1 ∧ (1 ≤ c.2.2.2.1 ∧ (h_X0_orbits_28 c a0 a1 a2 a3 a4 (if (f45 a4.toNatClampNeg) < a5 then (f45 a4.toNatClampNeg) else a5) (if a6 < (f45 a4.toNatClampNeg) then (f45 a4.toNatClampNeg) else a6) (a7 + 1) h35 (k - k10 - k21 - k38) (n - n11 - n22 - n39)))))))))))))))))))) : h_X0_orbits_28 c a0 a1 a2 a3 a4 a5 a6 a7 h k n := by
  refine e_iload dX0_orbits_28 rfl ?_
  refine e_aload_n dX0_orbits_30 rfl ?_
  obtain ⟨x1, ⟨fsx1, g2, g2v⟩, H⟩ := H
  refine e_get dX0_orbits_31 fX0_4 q1239 g2 g2v ?_
  obtain ⟨x3, ⟨fsx3, g4, g4v⟩, H⟩ := H
  refine e_getN dX0_orbits_34 fX1_2 q238 g4 g4v ?_
  obtain ⟨o5, eo5, H⟩ := H
  subst eo5
  obtain ⟨fsg8, g8o, H⟩ := H
  obtain ⟨d9, k10, n11, Q12, g8, g8d, g8k, g8n, H⟩ := H
  refine e_callV (r := (RX3, TX3, 8)) (As := []) g8 dX0_orbits_37 wX3_size q1926 q929 q930 g8o rfl rfl g8d rfl (Nat.le_of_ble_eq_true rfl) (k1 := k - k10) (n1 := n - n11) (by omega) (by omega) ?_ ?_
  · rintro v h7 (⟨v9, e9, r6, e8, hq⟩ | ⟨ci9, q9, e9, -⟩)
    · cases e9
      subst e8
      replace H := H r6 h7 hq
      refine e_icmp_ge 110 dX0_orbits_40 (by decide) (fun g13 => ?_) (fun g13 => ?_)
      · replace H := H.1 g13
        refine e_iload_n dX0_orbits_110 rfl ?_
        refine e_iload_n dX0_orbits_111 rfl ?_
        refine e_if_eq 130 dX0_orbits_112 (by decide) (fun g14 => ?_) (fun g14 => ?_)
        · replace H := H.1 g14
          refine e_iload dX0_orbits_130 rfl ?_
          refine e_iload dX0_orbits_132 rfl ?_
          refine e_icmp_ne 141 dX0_orbits_134 (by decide) (fun g15 => ?_) (fun g15 => ?_)
          · replace H := H.1 g15
            refine e_iconst (0) dX0_orbits_141 (by decide) ?_
            exact E.less2 H (eS_s (eS_s (eS_s (eS_n (eS_s (eS_n (eS_n (eS_n (eS_n eS_0)))))))))
          · replace H := H.2 g15
            refine e_iconst (1) dX0_orbits_137 (by decide) ?_
            refine e_goto 142 dX0_orbits_138 (by decide) ?_
            exact E.less2 H (eS_s (eS_s (eS_s (eS_n (eS_s (eS_n (eS_n (eS_n (eS_n eS_0)))))))))
        · replace H := H.2 g14
          refine e_iload dX0_orbits_115 rfl ?_
          refine e_iload dX0_orbits_117 rfl ?_
          refine e_icmp_ne 126 dX0_orbits_119 (by decide) (fun g16 => ?_) (fun g16 => ?_)
          · replace H := H.1 g16
            refine e_iconst (0) dX0_orbits_126 (by decide) ?_
            refine e_goto 142 dX0_orbits_127 (by decide) ?_
            exact E.less2 H (eS_s (eS_s (eS_s (eS_n (eS_s (eS_n (eS_n (eS_n (eS_n eS_0)))))))))
          · replace H := H.2 g16
            refine e_iconst (1) dX0_orbits_122 (by decide) ?_
            refine e_goto 142 dX0_orbits_123 (by decide) ?_
            exact E.less2 H (eS_s (eS_s (eS_s (eS_n (eS_s (eS_n (eS_n (eS_n (eS_n eS_0)))))))))
      · replace H := H.2 g13
        refine e_iload_n dX0_orbits_43 rfl ?_
        refine e_i2l dX0_orbits_44 ?_
        refine e_iload dX0_orbits_45 rfl ?_
        obtain ⟨d20, k21, n22, Q23, g19, g19d, g19k, g19n, H⟩ := H
        refine e_callS (As := [.long a1.toInt64, .int a7]) g19 dX0_orbits_47 wX0_isOf q2253 q937 rfl g19d rfl (Nat.le_of_ble_eq_true rfl) (k1 := k - k10 - k21) (n1 := n - n11 - n22) (by omega) (by omega) ?_ ?_
        · rintro v h18 (⟨v9, e9, r17, e8, hq⟩ | ⟨ci9, q9, e9, -⟩)
          · cases e9
            subst e8
            replace H := H r17 h18 hq
            refine e_if_eq 82 dX0_orbits_50 (by decide) (fun g24 => ?_) (fun g24 => ?_)
            · replace H := H.1 g24
              refine e_iload dX0_orbits_82 rfl ?_
              refine e_istore _ dX0_orbits_84 (by decide) rfl rfl ?_
              refine e_iload dX0_orbits_86 rfl ?_
              refine e_iload dX0_orbits_88 rfl ?_
              obtain ⟨g25, H⟩ := H
              refine e_mmin dX0_orbits_90 q2366 g25 (Nat.le_of_ble_eq_true rfl) ?_
              refine e_istore _ dX0_orbits_93 (by decide) rfl rfl ?_
              refine e_iload dX0_orbits_95 rfl ?_
              refine e_iload dX0_orbits_97 rfl ?_
              obtain ⟨g26, H⟩ := H
              refine e_mmax dX0_orbits_99 q2367 g26 (Nat.le_of_ble_eq_true rfl) ?_
              refine e_istore _ dX0_orbits_102 (by decide) rfl rfl ?_
              refine e_iinc (a7 + 1) _ dX0_orbits_104 rfl rfl (by decide) rfl rfl ?_
              refine e_goto 28 dX0_orbits_107 (by decide) ?_
              exact E.less2 H (eS_s (eS_s (eS_s (eS_s (eS_s (eS_s (eS_s (eS_s (eS_n eS_0)))))))))
            · replace H := H.2 g24
              refine e_aload_n dX0_orbits_53 rfl ?_
              obtain ⟨x27, ⟨fsx27, g28, g28v⟩, H⟩ := H
              refine e_get dX0_orbits_54 fX0_4 q1239 g28 g28v ?_
              obtain ⟨x29, ⟨fsx29, g30, g30v⟩, H⟩ := H
              refine e_getN dX0_orbits_57 fX1_2 q238 g30 g30v ?_
              obtain ⟨o31, eo31, H⟩ := H
              subst eo31
              obtain ⟨x32, ⟨fsx32, g33, g33v⟩, H⟩ := H
              refine e_getN dX0_orbits_60 fX3_1 q1185 g33 g33v ?_
              refine e_iload dX0_orbits_63 rfl ?_
              obtain ⟨fsg36, g36o, H⟩ := H
              obtain ⟨d37, k38, n39, Q40, g36, g36d, g36k, g36n, H⟩ := H
              refine e_callF (i := 4) (r := (RJ2, TJ2, 3)) (As := [.int a7]) g36 dX0_orbits_65 wJ2_get rfl rfl q1950 q887 q885 g36o rfl rfl g36d rfl (Nat.le_of_ble_eq_true rfl) (k1 := k - k10 - k21 - k38) (n1 := n - n11 - n22 - n39) (by omega) (by omega) ?_ ?_
              · rintro v h35 (⟨v9, e9, r34, e8, hq⟩ | ⟨ci9, q9, e9, -⟩)
                · cases e9
                  subst e8
                  replace H := H r34 h35 hq
                  obtain ⟨g41, H⟩ := H
                  refine c_castR dX0_orbits_70 q291 g41 ?_
                  obtain ⟨x42, ⟨fsx42, g43, g43v⟩, H⟩ := H
                  refine e_getN dX0_orbits_73 fX2_0 q298 g43 g43v ?_
                  refine e_iload dX0_orbits_76 rfl ?_
                  obtain ⟨N44, f45, g46, g46i, H⟩ := H
                  refine e_iaload dX0_orbits_78 g46 g46i ?_
                  refine e_goto 84 dX0_orbits_79 (by decide) ?_
                  refine e_istore _ dX0_orbits_84 (by decide) rfl rfl ?_
                  refine e_iload dX0_orbits_86 rfl ?_
                  refine e_iload dX0_orbits_88 rfl ?_
                  obtain ⟨g47, H⟩ := H
                  refine e_mmin dX0_orbits_90 q2366 g47 (Nat.le_of_ble_eq_true rfl) ?_
                  refine e_istore _ dX0_orbits_93 (by decide) rfl rfl ?_
                  refine e_iload dX0_orbits_95 rfl ?_
                  refine e_iload dX0_orbits_97 rfl ?_
                  obtain ⟨g48, H⟩ := H
                  refine e_mmax dX0_orbits_99 q2367 g48 (Nat.le_of_ble_eq_true rfl) ?_
                  refine e_istore _ dX0_orbits_102 (by decide) rfl rfl ?_
                  refine e_iinc (a7 + 1) _ dX0_orbits_104 rfl rfl (by decide) rfl rfl ?_
                  refine e_goto 28 dX0_orbits_107 (by decide) ?_
                  exact E.less2 H (eS_s (eS_s (eS_s (eS_s (eS_s (eS_s (eS_s (eS_s (eS_n eS_0)))))))))
                · cases e9
              · rintro q9 h9 (⟨v9, e9, -⟩ | ⟨ci9, q8, e9, -, -, hx⟩)
                · cases e9
                · exact hx.elim
          · cases e9
        · rintro q9 h9 (⟨v9, e9, -⟩ | ⟨ci9, q8, e9, -, -, hx⟩)
          · cases e9
          · exact hx.elim
    · cases e9
  · rintro q9 h9 (⟨v9, e9, -⟩ | ⟨ci9, q8, e9, -, -, hx⟩)
    · cases e9
    · exact hx.elim
set_option maxHeartbeats 4000000 in
theorem s_X0_orbits_142 (c : cC) (a0 : Nat) (a1 : Int32) (a2 : Int32) (a4 : Int32) (b0 : Int32) (b1 : Int32) (h : eH) (k n : Nat) (H : h_X0_orbits_5 c a0 a1 a2 (b1 + b0) (a4 + 1) h k n) : h_X0_orbits_142 c a0 a1 a2 a4 b0 b1 h k n := by
  refine e_iadd dX0_orbits_142 ?_
  refine e_istore_n _ dX0_orbits_143 (by decide) rfl rfl ?_
  refine e_iinc (a4 + 1) _ dX0_orbits_144 rfl rfl (by decide) rfl rfl ?_
  refine e_goto 5 dX0_orbits_147 (by decide) ?_
  exact E.less2 H (eS_s (eS_s (eS_s (eS_s (eS_s (eS_n (eS_n (eS_n (eS_n eS_0)))))))))
theorem en_X0_orbits {l : Launch} {lo : Nat} {G : eG} {d : Nat} {P : eO → eH → Prop} (a0 : Nat) (a1 : Int32) (a2 : Int32) {h : eH} {k n : Nat} (H : h_X0_orbits_0 (l, lo, G, d, P) a0 a1 a2 h k n) : Ct l lo G d mX0_orbits [.ref a0, .int a1, .int a2] h k n P := 
  Ct_of (eArL mX0_orbits.2.2.2.1 [.ref a0, .int a1, .int a2]) (by decide) rfl (Nat.le_of_ble_eq_true rfl) (fun j w q => eArL_mem j w q) (E.less2 H (eS_s (eS_s (eS_s (eS_n (eS_n (eS_n (eS_n (eS_n (eS_n eS_0))))))))))
/-! X0_setsOf TroupeSums.setsOf(II)I -/
def h_X0_setsOf_0 (c : cC) (a0 : Nat) (a1 : Int32) (a2 : Int32) (h : eH) (k n : Nat) : Prop := E c.1 c.2.1 c.2.2.1 c.2.2.2.1 mX0_setsOf c.2.2.2.2 0 [some (.ref a0), some (.int a1), some (.int a2), none, none, none, none, none] [] h k n
def h_X0_setsOf_5 (c : cC) (a0 : Nat) (a1 : Int32) (a2 : Int32) (a3 : Int32) (a4 : Int32) (h : eH) (k n : Nat) : Prop := E c.1 c.2.1 c.2.2.1 c.2.2.2.1 mX0_setsOf c.2.2.2.2 5 [some (.ref a0), some (.int a1), some (.int a2), some (.int a3), some (.int a4), none, none, none] [] h k n
def h_X0_setsOf_38 (c : cC) (a0 : Nat) (a1 : Int32) (a2 : Int32) (a3 : Int32) (a4 : Int32) (a5 : Int32) (a6 : Int32) (h : eH) (k n : Nat) : Prop := E c.1 c.2.1 c.2.2.1 c.2.2.2.1 mX0_setsOf c.2.2.2.2 38 [some (.ref a0), some (.int a1), some (.int a2), some (.int a3), some (.int a4), some (.int a5), some (.int a6), none] [] h k n
def h_X0_setsOf_61 (c : cC) (a0 : Nat) (a1 : Int32) (a2 : Int32) (a3 : Int32) (a4 : Int32) (a5 : Int32) (a6 : Int32) (a7 : Int32) (h : eH) (k n : Nat) : Prop := E c.1 c.2.1 c.2.2.1 c.2.2.2.1 mX0_setsOf c.2.2.2.2 61 [some (.ref a0), some (.int a1), some (.int a2), some (.int a3), some (.int a4), some (.int a5), some (.int a6), some (.int a7)] [] h k n
def h_X0_setsOf_134 (c : cC) (a0 : Nat) (a1 : Int32) (a2 : Int32) (a3 : Int32) (a4 : Int32) (a6 : Int32) (a7 : Int32) (h : eH) (k n : Nat) : Prop := E c.1 c.2.1 c.2.2.1 c.2.2.2.1 mX0_setsOf c.2.2.2.2 134 [some (.ref a0), some (.int a1), some (.int a2), some (.int a3), some (.int a4), none, some (.int a6), some (.int a7)] [] h k n
def h_X0_setsOf_147 (c : cC) (a0 : Nat) (a1 : Int32) (a2 : Int32) (a3 : Int32) (a4 : Int32) (a5 : Int32) (a6 : Int32) (h : eH) (k n : Nat) : Prop := E c.1 c.2.1 c.2.2.1 c.2.2.2.1 mX0_setsOf c.2.2.2.2 147 [some (.ref a0), some (.int a1), some (.int a2), some (.int a3), some (.int a4), some (.int a5), some (.int a6), none] [] h k n
def h_X0_setsOf_153 (c : cC) (a0 : Nat) (a1 : Int32) (a2 : Int32) (a3 : Int32) (a4 : Int32) (a5 : Int32) (h : eH) (k n : Nat) : Prop := E c.1 c.2.1 c.2.2.1 c.2.2.2.1 mX0_setsOf c.2.2.2.2 153 [some (.ref a0), some (.int a1), some (.int a2), some (.int a3), some (.int a4), some (.int a5), none, none] [] h k n
set_option maxHeartbeats 4000000 in
theorem s_X0_setsOf_0 (c : cC) (a0 : Nat) (a1 : Int32) (a2 : Int32) (h : eH) (k n : Nat) (H : h_X0_setsOf_5 c a0 a1 a2 (0 : Int32) (0 : Int32) h k n) : h_X0_setsOf_0 c a0 a1 a2 h k n := by
  refine e_iconst (0) dX0_setsOf_0 (by decide) ?_
  refine e_istore_n _ dX0_setsOf_1 (by decide) rfl rfl ?_
  refine e_iconst (0) dX0_setsOf_2 (by decide) ?_
  refine e_istore _ dX0_setsOf_3 (by decide) rfl rfl ?_
  exact E.less2 H (eS_s (eS_s (eS_s (eS_s (eS_s (eS_n (eS_n (eS_n eS_0))))))))
set_option maxHeartbeats 4000000 in
theorem s_X0_setsOf_5 (c : cC) (a0 : Nat) (a1 : Int32) (a2 : Int32) (a3 : Int32) (a4 : Int32) (h : eH) (k n : Nat) (H : ∃ x1 : Nat, fV h a0 0 4 (.ref x1) ∧ (∃ x3 : Int32, fV h x1 1 0 (.int x3) ∧ ((((1 : Int32) <<< (x3 &&& 31)) ≤ a4 → c.2.2.2.2 (.inl (some (.int a3))) h) ∧ (¬ ((1 : Int32) <<< (x3 &&& 31)) ≤ a4 → ∃ (d9 k10 n11 : Nat) (Q12 : Int32 → eH → Prop), cI c.1 c.2.1 c.2.2.1 d9 mJ6_bitCount [.int a4] h k10 n11 Q12 cX0 ∧ d9 + 1 ≤ c.2.2.2.1 ∧ k10 ≤ k ∧ n11 ≤ n ∧ (∀ (r6 : Int32) (h7 : eH), Q12 r6 h7 → ((¬ r6 = a2 → h_X0_setsOf_38 c a0 a1 a2 a3 a4 (0 : Int32) (0 : Int32) h7 (k - k10) (n - n11)) ∧ (r6 = a2 → h_X0_setsOf_38 c a0 a1 a2 a3 a4 (1 : Int32) (0 : Int32) h7 (k - k10) (n - n11)))))))) : h_X0_setsOf_5 c a0 a1 a2 a3 a4 h k n := by
  refine e_iload dX0_setsOf_5 rfl ?_
  refine e_iconst (1) dX0_setsOf_7 (by decide) ?_
  refine e_aload_n dX0_setsOf_8 rfl ?_
  obtain ⟨x1, ⟨fsx1, g2, g2v⟩, H⟩ := H
  refine e_get dX0_setsOf_9 fX0_4 q1239 g2 g2v ?_
  obtain ⟨x3, ⟨fsx3, g4, g4v⟩, H⟩ := H
  refine e_getN dX0_setsOf_12 fX1_0 q235 g4 g4v ?_
  refine e_ishl dX0_setsOf_15 ?_
  refine e_icmp_ge 172 dX0_setsOf_16 (by decide) (fun g5 => ?_) (fun g5 => ?_)
  · replace H := H.1 g5
    refine e_iload_n dX0_setsOf_172 rfl ?_
    exact e_ireturn .int dX0_setsOf_173 rfl rfl H
  · replace H := H.2 g5
    refine e_iload dX0_setsOf_19 rfl ?_
    obtain ⟨d9, k10, n11, Q12, g8, g8d, g8k, g8n, H⟩ := H
    refine e_callS (As := [.int a4]) g8 dX0_setsOf_21 wJ6_bitCount q2020 q1071 rfl g8d rfl (Nat.le_of_ble_eq_true rfl) (k1 := k - k10) (n1 := n - n11) (by omega) (by omega) ?_ ?_
    · rintro v h7 (⟨v9, e9, r6, e8, hq⟩ | ⟨ci9, q9, e9, -⟩)
      · cases e9
        subst e8
        replace H := H r6 h7 hq
        refine e_iload_n dX0_setsOf_24 rfl ?_
        refine e_icmp_ne 32 dX0_setsOf_25 (by decide) (fun g13 => ?_) (fun g13 => ?_)
        · replace H := H.1 g13
          refine e_iconst (0) dX0_setsOf_32 (by decide) ?_
          refine e_istore _ dX0_setsOf_33 (by decide) rfl rfl ?_
          refine e_iconst (0) dX0_setsOf_35 (by decide) ?_
          refine e_istore _ dX0_setsOf_36 (by decide) rfl rfl ?_
          exact E.less2 H (eS_s (eS_s (eS_s (eS_s (eS_s (eS_s (eS_s (eS_n eS_0))))))))
        · replace H := H.2 g13
          refine e_iconst (1) dX0_setsOf_28 (by decide) ?_
          refine e_goto 33 dX0_setsOf_29 (by decide) ?_
          refine e_istore _ dX0_setsOf_33 (by decide) rfl rfl ?_
          refine e_iconst (0) dX0_setsOf_35 (by decide) ?_
          refine e_istore _ dX0_setsOf_36 (by decide) rfl rfl ?_
          exact E.less2 H (eS_s (eS_s (eS_s (eS_s (eS_s (eS_s (eS_s (eS_n eS_0))))))))
      · cases e9
    · rintro q9 h9 (⟨v9, e9, -⟩ | ⟨ci9, q8, e9, -, -, hx⟩)
      · cases e9
      · exact hx.elim
set_option maxHeartbeats 4000000 in
theorem s_X0_setsOf_38 (c : cC) (a0 : Nat) (a1 : Int32) (a2 : Int32) (a3 : Int32) (a4 : Int32) (a5 : Int32) (a6 : Int32) (h : eH) (k n : Nat) (H : ∃ x1 : Nat, fV h a0 0 4 (.ref x1) ∧ (∃ x3 : Option Nat, fV h x1 1 2 (va_rf x3) ∧ (∃ o5 : Nat, x3 = some o5 ∧ ∃ fs8 : List Value, h.1 o5 = some (.inr (3, fs8)) ∧ ∃ (d9 k10 n11 : Nat) (Q12 : Int32 → eH → Prop), cI c.1 c.2.1 c.2.2.1 d9 mX3_size [.ref o5] h k10 n11 Q12 cX0 ∧ d9 + 1 ≤ c.2.2.2.1 ∧ k10 ≤ k ∧ n11 ≤ n ∧ (∀ (r6 : Int32) (h7 : eH), Q12 r6 h7 → ((r6 ≤ a6 → h_X0_setsOf_153 c a0 a1 a2 a3 a4 a5 h7 (k - k10) (n - n11)) ∧ (¬ r6 ≤ a6 → (a5 = 0 → h_X0_setsOf_153 c a0 a1 a2 a3 a4 a5 h7 (k - k10) (n - n11)) ∧ (¬ a5 = 0 → h_X0_setsOf_61 c a0 a1 a2 a3 a4 a5 a6 (0 : Int32) h7 (k - k10) (n - n11)))))))) : h_X0_setsOf_38 c a0 a1 a2 a3 a4 a5 a6 h k n := by
  refine e_iload dX0_setsOf_38 rfl ?_
  refine e_aload_n dX0_setsOf_40 rfl ?_
  obtain ⟨x1, ⟨fsx1, g2, g2v⟩, H⟩ := H
  refine e_get dX0_setsOf_41 fX0_4 q1239 g2 g2v ?_
  obtain ⟨x3, ⟨fsx3, g4, g4v⟩, H⟩ := H
  refine e_getN dX0_setsOf_44 fX1_2 q238 g4 g4v ?_
  obtain ⟨o5, eo5, H⟩ := H
  subst eo5
  obtain ⟨fsg8, g8o, H⟩ := H
  obtain ⟨d9, k10, n11, Q12, g8, g8d, g8k, g8n, H⟩ := H
  refine e_callV (r := (RX3, TX3, 8)) (As := []) g8 dX0_setsOf_47 wX3_size q1926 q929 q930 g8o rfl rfl g8d rfl (Nat.le_of_ble_eq_true rfl) (k1 := k - k10) (n1 := n - n11) (by omega) (by omega) ?_ ?_
  · rintro v h7 (⟨v9, e9, r6, e8, hq⟩ | ⟨ci9, q9, e9, -⟩)
    · cases e9
      subst e8
      replace H := H r6 h7 hq
      refine e_icmp_ge 153 dX0_setsOf_50 (by decide) (fun g13 => ?_) (fun g13 => ?_)
      · replace H := H.1 g13
        exact E.less2 H (eS_s (eS_s (eS_s (eS_s (eS_s (eS_s (eS_n (eS_n eS_0))))))))
      · replace H := H.2 g13
        refine e_iload dX0_setsOf_53 rfl ?_
        refine e_if_eq 153 dX0_setsOf_55 (by decide) (fun g14 => ?_) (fun g14 => ?_)
        · replace H := H.1 g14
          exact E.less2 H (eS_s (eS_s (eS_s (eS_s (eS_s (eS_s (eS_n (eS_n eS_0))))))))
        · replace H := H.2 g14
          refine e_iconst (0) dX0_setsOf_58 (by decide) ?_
          refine e_istore _ dX0_setsOf_59 (by decide) rfl rfl ?_
          exact E.less2 H (eS_s (eS_s (eS_s (eS_s (eS_s (eS_s (eS_s (eS_s eS_0))))))))
    · cases e9
  · rintro q9 h9 (⟨v9, e9, -⟩ | ⟨ci9, q8, e9, -, -, hx⟩)
    · cases e9
    · exact hx.elim
set_option maxHeartbeats 4000000 in
theorem s_X0_setsOf_61 (c : cC) (a0 : Nat) (a1 : Int32) (a2 : Int32) (a3 : Int32) (a4 : Int32) (a5 : Int32) (a6 : Int32) (a7 : Int32) (h : eH) (k n : Nat) (H : ∃ x1 : Nat, fV h a0 0 4 (.ref x1) ∧ (∃ x3 : Int32, fV h x1 1 0 (.int x3) ∧ ((x3 ≤ a7 → h_X0_setsOf_147 c a0 a1 a2 a3 a4 a5 a6 h k n) ∧ (¬ x3 ≤ a7 → ∃ (d9 k10 n11 : Nat) (Q12 : Int32 → eH → Prop), cI c.1 c.2.1 c.2.2.1 d9 mX0_isOf [.long a1.toInt64, .int a6] h k10 n11 Q12 cX0 ∧ d9 + 1 ≤ c.2.2.2.1 ∧ k10 ≤ k ∧ n11 ≤ n ∧ (∀ (r6 : Int32) (h7 : eH), Q12 r6 h7 → ((r6 = 0 → h_X0_setsOf_147 c a0 a1 a2 a3 a4 a5 a6 h7 (k - k10) (n - n11)) ∧ (¬ r6 = 0 → (a5 = 0 → h_X0_setsOf_147 c a0 a1 a2 a3 a4 a5 a6 h7 (k - k10) (n - n11)) ∧ (¬ a5 = 0 → ∃ (d18 k19 n20 : Nat) (Q21 : Int32 → eH → Prop), cI c.1 c.2.1 c.2.2.1 d18 mX0_isOf [.long a4.toInt64, .int a7] h7 k19 n20 Q21 cX0 ∧ d18 + 1 ≤ c.2.2.2.1 ∧ k19 ≤ k - k10 ∧ n20 ≤ n - n11 ∧ (∀ (r15 : Int32) (h16 : eH), Q21 r15 h16 → ((r15 = 0 → h_X0_setsOf_134 c a0 a1 a2 a3 a4 a6 a7 h16 (k - k10 - k19) (n - n11 - n20)) ∧ (¬ r15 = 0 → ∃ x23 : Nat, fV h16 a0 0 4 (.ref x23) ∧ (∃ x25 : Option Nat, fV h16 x23 1 2 (va_rf x25) ∧ (∃ o27 : Nat, x25 = some o27 ∧ ∃ x28 : Nat, fV h16 o27 3 1 (.ref x28) ∧ (∃ fs8 : List Value, h16.1 x28 = some (.inr (15, fs8)) ∧ ∃ (d33 k34 n35 : Nat) (Q36 : Nat → eH → Prop), cR c.1 c.2.1 c.2.2.1 d33 mJ2_get [.ref x28, .int a6] h16 k34 n35 Q36 cX0 ∧ d33 + 1 ≤ c.2.2.2.1 ∧ k34 ≤ k - k10 - k19 ∧ n35 ≤ n - n11 - n20 ∧ (∀ (r30 : Nat) (h31 : eH), Q36 r30 h31 → (eCs c.2.2.1 h31 r30 "TroupeSums$Row" ∧ (∃ x38 : Nat, fV h31 r30 2 0 (.ref x38) ∧ (∃ (N40 : Nat) (f41 : Nat → Int32), h31.1 x38 = some (.inl (c.2.2.1.2.1 0, N40, .inl f41)) ∧ vp_in a7 N40 ∧ (∃ (d46 k47 n48 : Nat) (Q49 : Int32 → eH → Prop), cI c.1 c.2.1 c.2.2.1 d46 mX0_isOf [.long a4.toInt64, .int (f41 a7.toNatClampNeg)] h31 k47 n48 Q49 cX0 ∧ d46 + 1 ≤ c.2.2.2.1 ∧ k47 ≤ k - k10 - k19 - k34 ∧ n48 ≤ n - n11 - n20 - n35 ∧ (∀ (r43 : Int32) (h44 : eH), Q49 r43 h44 → ((r43 = 0 → h_X0_setsOf_61 c a0 a1 a2 a3 a4 (0 : Int32) a6 (a7 + 1) h44 (k - k10 - k19 - k34 - k47) (n - n11 - n20 - n35 - n48)) ∧ (¬ r43 = 0 → h_X0_setsOf_134 c a0 a1 a2 a3 a4 a6 a7 h44 (k - k10 - k19 - k34 - k47) (n - n11 - n20 - n35 - n48))))))))))))))))))))))) : h_X0_setsOf_61 c a0 a1 a2 a3 a4 a5 a6 a7 h k n := by
  refine e_iload dX0_setsOf_61 rfl ?_
  refine e_aload_n dX0_setsOf_63 rfl ?_
  obtain ⟨x1, ⟨fsx1, g2, g2v⟩, H⟩ := H
  refine e_get dX0_setsOf_64 fX0_4 q1239 g2 g2v ?_
  obtain ⟨x3, ⟨fsx3, g4, g4v⟩, H⟩ := H
  refine e_getN dX0_setsOf_67 fX1_0 q235 g4 g4v ?_
  refine e_icmp_ge 147 dX0_setsOf_70 (by decide) (fun g5 => ?_) (fun g5 => ?_)
  · replace H := H.1 g5
    exact E.less2 H (eS_s (eS_s (eS_s (eS_s (eS_s (eS_s (eS_s (eS_n eS_0))))))))
  · replace H := H.2 g5
    refine e_iload_n dX0_setsOf_73 rfl ?_
    refine e_i2l dX0_setsOf_74 ?_
    refine e_iload dX0_setsOf_75 rfl ?_
    obtain ⟨d9, k10, n11, Q12, g8, g8d, g8k, g8n, H⟩ := H
    refine e_callS (As := [.long a1.toInt64, .int a6]) g8 dX0_setsOf_77 wX0_isOf q2253 q937 rfl g8d rfl (Nat.le_of_ble_eq_true rfl) (k1 := k - k10) (n1 := n - n11) (by omega) (by omega) ?_ ?_
    · rintro v h7 (⟨v9, e9, r6, e8, hq⟩ | ⟨ci9, q9, e9, -⟩)
      · cases e9
        subst e8
        replace H := H r6 h7 hq
        refine e_if_eq 147 dX0_setsOf_80 (by decide) (fun g13 => ?_) (fun g13 => ?_)
        · replace H := H.1 g13
          exact E.less2 H (eS_s (eS_s (eS_s (eS_s (eS_s (eS_s (eS_s (eS_n eS_0))))))))
        · replace H := H.2 g13
          refine e_iload dX0_setsOf_83 rfl ?_
          refine e_if_eq 147 dX0_setsOf_85 (by decide) (fun g14 => ?_) (fun g14 => ?_)
          · replace H := H.1 g14
            exact E.less2 H (eS_s (eS_s (eS_s (eS_s (eS_s (eS_s (eS_s (eS_n eS_0))))))))
          · replace H := H.2 g14
            refine e_iload dX0_setsOf_88 rfl ?_
            refine e_i2l dX0_setsOf_90 ?_
            refine e_iload dX0_setsOf_91 rfl ?_
            obtain ⟨d18, k19, n20, Q21, g17, g17d, g17k, g17n, H⟩ := H
            refine e_callS (As := [.long a4.toInt64, .int a7]) g17 dX0_setsOf_93 wX0_isOf q2253 q937 rfl g17d rfl (Nat.le_of_ble_eq_true rfl) (k1 := k - k10 - k19) (n1 := n - n11 - n20) (by omega) (by omega) ?_ ?_
            · rintro v h16 (⟨v9, e9, r15, e8, hq⟩ | ⟨ci9, q9, e9, -⟩)
              · cases e9
                subst e8
                replace H := H r15 h16 hq
                refine e_if_eq 134 dX0_setsOf_96 (by decide) (fun g22 => ?_) (fun g22 => ?_)
                · replace H := H.1 g22
                  exact E.less2 H (eS_s (eS_s (eS_s (eS_s (eS_s (eS_n (eS_s (eS_s eS_0))))))))
                · replace H := H.2 g22
                  refine e_iload dX0_setsOf_99 rfl ?_
                  refine e_i2l dX0_setsOf_101 ?_
                  refine e_aload_n dX0_setsOf_102 rfl ?_
                  obtain ⟨x23, ⟨fsx23, g24, g24v⟩, H⟩ := H
                  refine e_get dX0_setsOf_103 fX0_4 q1239 g24 g24v ?_
                  obtain ⟨x25, ⟨fsx25, g26, g26v⟩, H⟩ := H
                  refine e_getN dX0_setsOf_106 fX1_2 q238 g26 g26v ?_
                  obtain ⟨o27, eo27, H⟩ := H
                  subst eo27
                  obtain ⟨x28, ⟨fsx28, g29, g29v⟩, H⟩ := H
                  refine e_getN dX0_setsOf_109 fX3_1 q1185 g29 g29v ?_
                  refine e_iload dX0_setsOf_112 rfl ?_
                  obtain ⟨fsg32, g32o, H⟩ := H
                  obtain ⟨d33, k34, n35, Q36, g32, g32d, g32k, g32n, H⟩ := H
                  refine e_callF (i := 4) (r := (RJ2, TJ2, 3)) (As := [.int a6]) g32 dX0_setsOf_114 wJ2_get rfl rfl q1950 q887 q885 g32o rfl rfl g32d rfl (Nat.le_of_ble_eq_true rfl) (k1 := k - k10 - k19 - k34) (n1 := n - n11 - n20 - n35) (by omega) (by omega) ?_ ?_
                  · rintro v h31 (⟨v9, e9, r30, e8, hq⟩ | ⟨ci9, q9, e9, -⟩)
                    · cases e9
                      subst e8
                      replace H := H r30 h31 hq
                      obtain ⟨g37, H⟩ := H
                      refine c_castR dX0_setsOf_119 q291 g37 ?_
                      obtain ⟨x38, ⟨fsx38, g39, g39v⟩, H⟩ := H
                      refine e_getN dX0_setsOf_122 fX2_0 q298 g39 g39v ?_
                      refine e_iload dX0_setsOf_125 rfl ?_
                      obtain ⟨N40, f41, g42, g42i, H⟩ := H
                      refine e_iaload dX0_setsOf_127 g42 g42i ?_
                      obtain ⟨d46, k47, n48, Q49, g45, g45d, g45k, g45n, H⟩ := H
                      refine e_callS (As := [.long a4.toInt64, .int (f41 a7.toNatClampNeg)]) g45 dX0_setsOf_128 wX0_isOf q2253 q937 rfl g45d rfl (Nat.le_of_ble_eq_true rfl) (k1 := k - k10 - k19 - k34 - k47) (n1 := n - n11 - n20 - n35 - n48) (by omega) (by omega) ?_ ?_
                      · rintro v h44 (⟨v9, e9, r43, e8, hq⟩ | ⟨ci9, q9, e9, -⟩)
                        · cases e9
                          subst e8
                          replace H := H r43 h44 hq
                          refine e_if_eq 138 dX0_setsOf_131 (by decide) (fun g50 => ?_) (fun g50 => ?_)
                          · replace H := H.1 g50
                            refine e_iconst (0) dX0_setsOf_138 (by decide) ?_
                            refine e_istore _ dX0_setsOf_139 (by decide) rfl rfl ?_
                            refine e_iinc (a7 + 1) _ dX0_setsOf_141 rfl rfl (by decide) rfl rfl ?_
                            refine e_goto 61 dX0_setsOf_144 (by decide) ?_
                            exact E.less2 H (eS_s (eS_s (eS_s (eS_s (eS_s (eS_s (eS_s (eS_s eS_0))))))))
                          · replace H := H.2 g50
                            exact E.less2 H (eS_s (eS_s (eS_s (eS_s (eS_s (eS_n (eS_s (eS_s eS_0))))))))
                        · cases e9
                      · rintro q9 h9 (⟨v9, e9, -⟩ | ⟨ci9, q8, e9, -, -, hx⟩)
                        · cases e9
                        · exact hx.elim
                    · cases e9
                  · rintro q9 h9 (⟨v9, e9, -⟩ | ⟨ci9, q8, e9, -, -, hx⟩)
                    · cases e9
                    · exact hx.elim
              · cases e9
            · rintro q9 h9 (⟨v9, e9, -⟩ | ⟨ci9, q8, e9, -, -, hx⟩)
              · cases e9
              · exact hx.elim
      · cases e9
    · rintro q9 h9 (⟨v9, e9, -⟩ | ⟨ci9, q8, e9, -, -, hx⟩)
      · cases e9
      · exact hx.elim
set_option maxHeartbeats 4000000 in
theorem s_X0_setsOf_134 (c : cC) (a0 : Nat) (a1 : Int32) (a2 : Int32) (a3 : Int32) (a4 : Int32) (a6 : Int32) (a7 : Int32) (h : eH) (k n : Nat) (H : h_X0_setsOf_61 c a0 a1 a2 a3 a4 (1 : Int32) a6 (a7 + 1) h k n) : h_X0_setsOf_134 c a0 a1 a2 a3 a4 a6 a7 h k n := by
  refine e_iconst (1) dX0_setsOf_134 (by decide) ?_
  refine e_goto 139 dX0_setsOf_135 (by decide) ?_
  refine e_istore _ dX0_setsOf_139 (by decide) rfl rfl ?_
  refine e_iinc (a7 + 1) _ dX0_setsOf_141 rfl rfl (by decide) rfl rfl ?_
  refine e_goto 61 dX0_setsOf_144 (by decide) ?_
  exact E.less2 H (eS_s (eS_s (eS_s (eS_s (eS_s (eS_s (eS_s (eS_s eS_0))))))))
set_option maxHeartbeats 4000000 in
theorem s_X0_setsOf_147 (c : cC) (a0 : Nat) (a1 : Int32) (a2 : Int32) (a3 : Int32) (a4 : Int32) (a5 : Int32) (a6 : Int32) (h : eH) (k n : Nat) (H : h_X0_setsOf_38 c a0 a1 a2 a3 a4 a5 (a6 + 1) h k n) : h_X0_setsOf_147 c a0 a1 a2 a3 a4 a5 a6 h k n := by
  refine e_iinc (a6 + 1) _ dX0_setsOf_147 rfl rfl (by decide) rfl rfl ?_
  refine e_goto 38 dX0_setsOf_150 (by decide) ?_
  exact E.less2 H (eS_s (eS_s (eS_s (eS_s (eS_s (eS_s (eS_s (eS_n eS_0))))))))
set_option maxHeartbeats 4000000 in
theorem s_X0_setsOf_153 (c : cC) (a0 : Nat) (a1 : Int32) (a2 : Int32) (a3 : Int32) (a4 : Int32) (a5 : Int32) (h : eH) (k n : Nat) (H : (a5 = 0 → h_X0_setsOf_5 c a0 a1 a2 (a3 + (0 : Int32)) (a4 + 1) h k n) ∧ (¬ a5 = 0 → h_X0_setsOf_5 c a0 a1 a2 (a3 + (1 : Int32)) (a4 + 1) h k n)) : h_X0_setsOf_153 c a0 a1 a2 a3 a4 a5 h k n := by
  refine e_iload_n dX0_setsOf_153 rfl ?_
  refine e_iload dX0_setsOf_154 rfl ?_
  refine e_if_eq 163 dX0_setsOf_156 (by decide) (fun g1 => ?_) (fun g1 => ?_)
  · replace H := H.1 g1
    refine e_iconst (0) dX0_setsOf_163 (by decide) ?_
    refine e_iadd dX0_setsOf_164 ?_
    refine e_istore_n _ dX0_setsOf_165 (by decide) rfl rfl ?_
    refine e_iinc (a4 + 1) _ dX0_setsOf_166 rfl rfl (by decide) rfl rfl ?_
    refine e_goto 5 dX0_setsOf_169 (by decide) ?_
    exact E.less2 H (eS_s (eS_s (eS_s (eS_s (eS_s (eS_n (eS_n (eS_n eS_0))))))))
  · replace H := H.2 g1
    refine e_iconst (1) dX0_setsOf_159 (by decide) ?_
    refine e_goto 164 dX0_setsOf_160 (by decide) ?_
    refine e_iadd dX0_setsOf_164 ?_
    refine e_istore_n _ dX0_setsOf_165 (by decide) rfl rfl ?_
    refine e_iinc (a4 + 1) _ dX0_setsOf_166 rfl rfl (by decide) rfl rfl ?_
    refine e_goto 5 dX0_setsOf_169 (by decide) ?_
    exact E.less2 H (eS_s (eS_s (eS_s (eS_s (eS_s (eS_n (eS_n (eS_n eS_0))))))))
theorem en_X0_setsOf {l : Launch} {lo : Nat} {G : eG} {d : Nat} {P : eO → eH → Prop} (a0 : Nat) (a1 : Int32) (a2 : Int32) {h : eH} {k n : Nat} (H : h_X0_setsOf_0 (l, lo, G, d, P) a0 a1 a2 h k n) : Ct l lo G d mX0_setsOf [.ref a0, .int a1, .int a2] h k n P := 
  Ct_of (eArL mX0_setsOf.2.2.2.1 [.ref a0, .int a1, .int a2]) (by decide) rfl (Nat.le_of_ble_eq_true rfl) (fun j w q => eArL_mem j w q) (E.less2 H (eS_s (eS_s (eS_s (eS_n (eS_n (eS_n (eS_n (eS_n eS_0)))))))))
/-! X0_power TroupeSums.power(II)I -/
def h_X0_power_0 (c : cC) (a0 : Int32) (a1 : Int32) (h : eH) (k n : Nat) : Prop := E c.1 c.2.1 c.2.2.1 c.2.2.2.1 mX0_power c.2.2.2.2 0 [some (.int a0), some (.int a1), none, none] [] h k n
def h_X0_power_4 (c : cC) (a0 : Int32) (a1 : Int32) (a2 : Int32) (a3 : Int32) (h : eH) (k n : Nat) : Prop := E c.1 c.2.1 c.2.2.1 c.2.2.2.1 mX0_power c.2.2.2.2 4 [some (.int a0), some (.int a1), some (.int a2), some (.int a3)] [] h k n
set_option maxHeartbeats 4000000 in
theorem s_X0_power_0 (c : cC) (a0 : Int32) (a1 : Int32) (h : eH) (k n : Nat) (H : h_X0_power_4 c a0 a1 (1 : Int32) (0 : Int32) h k n) : h_X0_power_0 c a0 a1 h k n := by
  refine e_iconst (1) dX0_power_0 (by decide) ?_
  refine e_istore_n _ dX0_power_1 (by decide) rfl rfl ?_
  refine e_iconst (0) dX0_power_2 (by decide) ?_
  refine e_istore_n _ dX0_power_3 (by decide) rfl rfl ?_
  exact E.less2 H (eS_s (eS_s (eS_s (eS_s eS_0))))
set_option maxHeartbeats 4000000 in
theorem s_X0_power_4 (c : cC) (a0 : Int32) (a1 : Int32) (a2 : Int32) (a3 : Int32) (h : eH) (k n : Nat) (H : (a1 ≤ a3 → c.2.2.2.2 (.inl (some (.int a2))) h) ∧ (¬ a1 ≤ a3 → h_X0_power_4 c a0 a1 (a2 * a0) (a3 + 1) h k n)) : h_X0_power_4 c a0 a1 a2 a3 h k n := by
  refine e_iload_n dX0_power_4 rfl ?_
  refine e_iload_n dX0_power_5 rfl ?_
  refine e_icmp_ge 19 dX0_power_6 (by decide) (fun g1 => ?_) (fun g1 => ?_)
  · replace H := H.1 g1
    refine e_iload_n dX0_power_19 rfl ?_
    exact e_ireturn .int dX0_power_20 rfl rfl H
  · replace H := H.2 g1
    refine e_iload_n dX0_power_9 rfl ?_
    refine e_iload_n dX0_power_10 rfl ?_
    refine e_imul dX0_power_11 ?_
    refine e_istore_n _ dX0_power_12 (by decide) rfl rfl ?_
    refine e_iinc (a3 + 1) _ dX0_power_13 rfl rfl (by decide) rfl rfl ?_
    refine e_goto 4 dX0_power_16 (by decide) ?_
    exact E.less2 H (eS_s (eS_s (eS_s (eS_s eS_0))))
theorem en_X0_power {l : Launch} {lo : Nat} {G : eG} {d : Nat} {P : eO → eH → Prop} (a0 : Int32) (a1 : Int32) {h : eH} {k n : Nat} (H : h_X0_power_0 (l, lo, G, d, P) a0 a1 h k n) : Ct l lo G d mX0_power [.int a0, .int a1] h k n P := 
  Ct_of (eArL mX0_power.2.2.2.1 [.int a0, .int a1]) (by decide) rfl (Nat.le_of_ble_eq_true rfl) (fun j w q => eArL_mem j w q) (E.less2 H (eS_s (eS_s (eS_n (eS_n eS_0)))))
/-! X0_marks TroupeSums.marks()I -/
def h_X0_marks_0 (c : cC) (a0 : Nat) (h : eH) (k n : Nat) : Prop := E c.1 c.2.1 c.2.2.1 c.2.2.2.1 mX0_marks c.2.2.2.2 0 [some (.ref a0), none, none, none, none, none, none, none, none, none] [] h k n
def h_X0_marks_17 (c : cC) (a0 : Nat) (a1 : Int32) (a2 : Nat) (a3 : Int32) (a4 : Int32) (h : eH) (k n : Nat) : Prop := E c.1 c.2.1 c.2.2.1 c.2.2.2.1 mX0_marks c.2.2.2.2 17 [some (.ref a0), some (.int a1), some (.ref a2), some (.int a3), some (.int a4), none, none, none, none, none] [] h k n
def h_X0_marks_47 (c : cC) (a0 : Nat) (a1 : Int32) (a2 : Nat) (a3 : Int32) (a4 : Int32) (h : eH) (k n : Nat) : Prop := E c.1 c.2.1 c.2.2.1 c.2.2.2.1 mX0_marks c.2.2.2.2 47 [some (.ref a0), some (.int a1), some (.ref a2), some (.int a3), some (.int a4), none, none, none, none, none] [] h k n
def h_X0_marks_53 (c : cC) (a0 : Nat) (a1 : Int32) (a2 : Nat) (a3 : Int32) (a4 : Int32) (h : eH) (k n : Nat) : Prop := E c.1 c.2.1 c.2.2.1 c.2.2.2.1 mX0_marks c.2.2.2.2 53 [some (.ref a0), some (.int a1), some (.ref a2), some (.int a3), some (.int a4), none, none, none, none, none] [] h k n
def h_X0_marks_103 (c : cC) (a0 : Nat) (a1 : Int32) (a2 : Nat) (a3 : Int32) (a4 : Int32) (a5 : Int32) (a6 : Int32) (a7 : Int64) (h : eH) (k n : Nat) : Prop := E c.1 c.2.1 c.2.2.1 c.2.2.2.1 mX0_marks c.2.2.2.2 103 [some (.ref a0), some (.int a1), some (.ref a2), some (.int a3), some (.int a4), some (.int a5), some (.int a6), some (.long a7), none, none] [] h k n
def h_X0_marks_166 (c : cC) (a0 : Nat) (a1 : Int32) (a2 : Nat) (a3 : Int32) (a4 : Int32) (a5 : Int32) (a6 : Int32) (a7 : Int64) (h : eH) (k n : Nat) : Prop := E c.1 c.2.1 c.2.2.1 c.2.2.2.1 mX0_marks c.2.2.2.2 166 [some (.ref a0), some (.int a1), some (.ref a2), some (.int a3), some (.int a4), some (.int a5), some (.int a6), some (.long a7), none, none] [] h k n
def h_X0_marks_196 (c : cC) (a0 : Nat) (a1 : Int32) (a2 : Nat) (a3 : Int32) (a4 : Int32) (a5 : Int32) (a6 : Int32) (a7 : Int64) (h : eH) (k n : Nat) : Prop := E c.1 c.2.1 c.2.2.1 c.2.2.2.1 mX0_marks c.2.2.2.2 196 [some (.ref a0), some (.int a1), some (.ref a2), some (.int a3), some (.int a4), some (.int a5), some (.int a6), some (.long a7), none, none] [] h k n
set_option maxHeartbeats 4000000 in
theorem s_X0_marks_0 (c : cC) (a0 : Nat) (h : eH) (k n : Nat) (H : ∃ fs8 : List Value, h.1 a0 = some (.inr (0, fs8)) ∧ ∃ (d4 k5 n6 : Nat) (Q7 : Int32 → eH → Prop), cI c.1 c.2.1 c.2.2.1 d4 mX0_taken [.ref a0] h k5 n6 Q7 cX0 ∧ d4 + 1 ≤ c.2.2.2.1 ∧ k5 ≤ k ∧ n6 ≤ n ∧ (∀ (r1 : Int32) (h2 : eH), Q7 r1 h2 → (∃ fs8 : List Value, h2.1 a0 = some (.inr (0, fs8)) ∧ ∃ (d11 k12 n13 : Nat) (Q14 : Int32 → eH → Prop), cI c.1 c.2.1 c.2.2.1 d11 mX0_sorts [.ref a0] h2 k12 n13 Q14 cX0 ∧ d11 + 1 ≤ c.2.2.2.1 ∧ k12 ≤ k - k5 ∧ n13 ≤ n - n6 ∧ (∀ (r8 : Int32) (h9 : eH), Q14 r8 h9 → (∃ N17 : Nat, r8 = nI N17 ∧ N17 ≤ 10000000 ∧ 1 ≤ k - k5 - k12 ∧ N17 ≤ n - n6 - n13 ∧ ∀ h15 : eH, h15 = eNw h9 (.inl (c.2.2.1.2.1 1, N17, .inr (.inl (fun _ => 0)))) → (h_X0_marks_17 c a0 r1 h9.2 (0 : Int32) (0 : Int32) h15 (k - k5 - k12 - 1) (n - n6 - n13 - N17))))))) : h_X0_marks_0 c a0 h k n := by
  refine e_aload_n dX0_marks_0 rfl ?_
  obtain ⟨fsg3, g3o, H⟩ := H
  obtain ⟨d4, k5, n6, Q7, g3, g3d, g3k, g3n, H⟩ := H
  refine e_callV (r := (RX0, TX0, 8)) (As := []) g3 dX0_marks_1 wX0_taken q1279 q1281 qs16 g3o rfl rfl g3d rfl (Nat.le_of_ble_eq_true rfl) (k1 := k - k5) (n1 := n - n6) (by omega) (by omega) ?_ ?_
  · rintro v h2 (⟨v9, e9, r1, e8, hq⟩ | ⟨ci9, q9, e9, -⟩)
    · cases e9
      subst e8
      replace H := H r1 h2 hq
      refine e_istore_n _ dX0_marks_4 (by decide) rfl rfl ?_
      refine e_aload_n dX0_marks_5 rfl ?_
      obtain ⟨fsg10, g10o, H⟩ := H
      obtain ⟨d11, k12, n13, Q14, g10, g10d, g10k, g10n, H⟩ := H
      refine e_callV (r := (RX0, TX0, 8)) (As := []) g10 dX0_marks_6 wX0_sorts q1913 q1915 qs42 g10o rfl rfl g10d rfl (Nat.le_of_ble_eq_true rfl) (k1 := k - k5 - k12) (n1 := n - n6 - n13) (by omega) (by omega) ?_ ?_
      · rintro v h9 (⟨v9, e9, r8, e8, hq⟩ | ⟨ci9, q9, e9, -⟩)
        · cases e9
          subst e8
          replace H := H r8 h9 hq
          obtain ⟨N17, g16i, g16b, g16, g16n, H⟩ := H
          refine c_newarrayJ dX0_marks_9 q1234 g16i g16b g16 g16n ?_
          replace H := H _ rfl
          generalize eNw h9 _ = h15 at H ⊢
          refine e_astore_n _ dX0_marks_11 (by decide) rfl rfl ?_
          refine e_iconst (0) dX0_marks_12 (by decide) ?_
          refine e_istore_n _ dX0_marks_13 (by decide) rfl rfl ?_
          refine e_iconst (0) dX0_marks_14 (by decide) ?_
          refine e_istore _ dX0_marks_15 (by decide) rfl rfl ?_
          exact E.less2 H (eS_s (eS_s (eS_s (eS_s (eS_s (eS_n (eS_n (eS_n (eS_n (eS_n eS_0))))))))))
        · cases e9
      · rintro q9 h9 (⟨v9, e9, -⟩ | ⟨ci9, q8, e9, -, -, hx⟩)
        · cases e9
        · exact hx.elim
    · cases e9
  · rintro q9 h9 (⟨v9, e9, -⟩ | ⟨ci9, q8, e9, -, -, hx⟩)
    · cases e9
    · exact hx.elim
set_option maxHeartbeats 4000000 in
theorem s_X0_marks_17 (c : cC) (a0 : Nat) (a1 : Int32) (a2 : Nat) (a3 : Int32) (a4 : Int32) (h : eH) (k n : Nat) (H : (a1 ≤ a4 → h_X0_marks_53 c a0 a1 a2 a3 a4 h k n) ∧ (¬ a1 ≤ a4 → ∃ x2 : Nat, fV h a0 0 0 (.ref x2) ∧ (∃ (N4 : Nat) (f5 : Nat → Int32), h.1 x2 = some (.inl (c.2.2.1.2.1 2, N4, .inl f5)) ∧ vp_in a4 N4 ∧ (((f5 a4.toNatClampNeg) = (32 : Int32) → h_X0_marks_47 c a0 a1 a2 a3 a4 h k n) ∧ (¬ (f5 a4.toNatClampNeg) = (32 : Int32) → ∃ x8 : Nat, fV h a0 0 0 (.ref x8) ∧ (∃ (N10 : Nat) (f11 : Nat → Int32), h.1 x8 = some (.inl (c.2.2.1.2.1 2, N10, .inl f11)) ∧ vp_in a4 N10 ∧ ((¬ (f11 a4.toNatClampNeg) = (10 : Int32) → h_X0_marks_53 c a0 a1 a2 a3 a4 h k n) ∧ ((f11 a4.toNatClampNeg) = (10 : Int32) → h_X0_marks_47 c a0 a1 a2 a3 a4 h k n)))))))) : h_X0_marks_17 c a0 a1 a2 a3 a4 h k n := by
  refine e_iload dX0_marks_17 rfl ?_
  refine e_iload_n dX0_marks_19 rfl ?_
  refine e_icmp_ge 53 dX0_marks_20 (by decide) (fun g1 => ?_) (fun g1 => ?_)
  · replace H := H.1 g1
    exact E.less2 H (eS_s (eS_s (eS_s (eS_s (eS_s (eS_n (eS_n (eS_n (eS_n (eS_n eS_0))))))))))
  · replace H := H.2 g1
    refine e_aload_n dX0_marks_23 rfl ?_
    obtain ⟨x2, ⟨fsx2, g3, g3v⟩, H⟩ := H
    refine e_get dX0_marks_24 fX0_0 q1235 g3 g3v ?_
    refine e_iload dX0_marks_27 rfl ?_
    obtain ⟨N4, f5, g6, g6i, H⟩ := H
    refine e_baload dX0_marks_29 g6 g6i ?_
    refine e_bipush (32) dX0_marks_30 (by decide) ?_
    refine e_icmp_eq 47 dX0_marks_32 (by decide) (fun g7 => ?_) (fun g7 => ?_)
    · replace H := H.1 g7
      exact E.less2 H (eS_s (eS_s (eS_s (eS_s (eS_s (eS_n (eS_n (eS_n (eS_n (eS_n eS_0))))))))))
    · replace H := H.2 g7
      refine e_aload_n dX0_marks_35 rfl ?_
      obtain ⟨x8, ⟨fsx8, g9, g9v⟩, H⟩ := H
      refine e_get dX0_marks_36 fX0_0 q1235 g9 g9v ?_
      refine e_iload dX0_marks_39 rfl ?_
      obtain ⟨N10, f11, g12, g12i, H⟩ := H
      refine e_baload dX0_marks_41 g12 g12i ?_
      refine e_bipush (10) dX0_marks_42 (by decide) ?_
      refine e_icmp_ne 53 dX0_marks_44 (by decide) (fun g13 => ?_) (fun g13 => ?_)
      · replace H := H.1 g13
        exact E.less2 H (eS_s (eS_s (eS_s (eS_s (eS_s (eS_n (eS_n (eS_n (eS_n (eS_n eS_0))))))))))
      · replace H := H.2 g13
        exact E.less2 H (eS_s (eS_s (eS_s (eS_s (eS_s (eS_n (eS_n (eS_n (eS_n (eS_n eS_0))))))))))
set_option maxHeartbeats 4000000 in
theorem s_X0_marks_47 (c : cC) (a0 : Nat) (a1 : Int32) (a2 : Nat) (a3 : Int32) (a4 : Int32) (h : eH) (k n : Nat) (H : h_X0_marks_17 c a0 a1 a2 a3 (a4 + 1) h k n) : h_X0_marks_47 c a0 a1 a2 a3 a4 h k n := by
  refine e_iinc (a4 + 1) _ dX0_marks_47 rfl rfl (by decide) rfl rfl ?_
  refine e_goto 17 dX0_marks_50 (by decide) ?_
  exact E.less2 H (eS_s (eS_s (eS_s (eS_s (eS_s (eS_n (eS_n (eS_n (eS_n (eS_n eS_0))))))))))
set_option maxHeartbeats 4000000 in
theorem s_X0_marks_53 (c : cC) (a0 : Nat) (a1 : Int32) (a2 : Nat) (a3 : Int32) (a4 : Int32) (h : eH) (k n : Nat) (H : (¬ a4 = a1 → ∃ x2 : Nat, fV h a0 0 0 (.ref x2) ∧ (∃ (N4 : Nat) (f5 : Nat → Int32), h.1 x2 = some (.inl (c.2.2.1.2.1 2, N4, .inl f5)) ∧ vp_in a4 N4 ∧ ((¬ (f5 a4.toNatClampNeg) = (45 : Int32) → (0 ≤ (1 : Int32) → h_X0_marks_103 c a0 a1 a2 a3 (a4 + (0 : Int32)) (1 : Int32) (a4 + (0 : Int32)) (0 : Int64) h k n) ∧ (¬ 0 ≤ (1 : Int32) → h_X0_marks_103 c a0 a1 a2 a3 (a4 + (1 : Int32)) (1 : Int32) (a4 + (1 : Int32)) (0 : Int64) h k n)) ∧ ((f5 a4.toNatClampNeg) = (45 : Int32) → (0 ≤ (-1 : Int32) → h_X0_marks_103 c a0 a1 a2 a3 (a4 + (0 : Int32)) (-1 : Int32) (a4 + (0 : Int32)) (0 : Int64) h k n) ∧ (¬ 0 ≤ (-1 : Int32) → h_X0_marks_103 c a0 a1 a2 a3 (a4 + (1 : Int32)) (-1 : Int32) (a4 + (1 : Int32)) (0 : Int64) h k n))))) ∧ (a4 = a1 → ∃ v10 : vp_A, h.1 a2 = some (.inl (c.2.2.1.2.1 1, v10)) ∧ (((nI v10.1) ≤ a3 → ∃ x13 : Nat, fV h a0 0 4 (.ref x13) ∧ (∃ x15 : Option Nat, fV h x13 1 2 (va_rf x15) ∧ (∃ o17 : Nat, x15 = some o17 ∧ ∃ fs8 : List Value, h.1 o17 = some (.inr (3, fs8)) ∧ ∃ (d21 k22 n23 : Nat) (Q24 : Int32 → eH → Prop), cI c.1 c.2.1 c.2.2.1 d21 mX3_firstWrong [.ref o17, .ref a2] h k22 n23 Q24 cX0 ∧ d21 + 1 ≤ c.2.2.2.1 ∧ k22 ≤ k ∧ n23 ≤ n ∧ (∀ (r18 : Int32) (h19 : eH), Q24 r18 h19 → ((r18 = (-1 : Int32) → ∃ x26 : Nat, fV h19 a0 0 4 (.ref x26) ∧ (∃ x28 : Option Nat, fV h19 x26 1 2 (va_rf x28) ∧ (∃ o30 : Nat, x28 = some o30 ∧ ∃ fs8 : List Value, h19.1 o30 = some (.inr (3, fs8)) ∧ ∃ (d34 k35 n36 : Nat) (Q37 : Nat → eH → Prop), cR c.1 c.2.1 c.2.2.1 d34 mX3_solved [.ref o30, .ref a2] h19 k35 n36 Q37 cX0 ∧ d34 + 1 ≤ c.2.2.2.1 ∧ k35 ≤ k - k22 ∧ n36 ≤ n - n23 ∧ (∀ (r31 : Nat) (h32 : eH), Q37 r31 h32 → (∃ fs8 : List Value, h32.1 a0 = some (.inr (0, fs8)) ∧ ∃ (d41 k42 n43 : Nat) (Q44 : eH → Prop), cV c.1 c.2.1 c.2.2.1 d41 mX0_becomes [.ref a0, .ref r31] h32 k42 n43 Q44 cX0 ∧ d41 + 1 ≤ c.2.2.2.1 ∧ k42 ≤ k - k22 - k35 ∧ n43 ≤ n - n23 - n36 ∧ (∀ h39 : eH, Q44 h39 → (c.2.2.2.2 (.inl (some (.int (0 : Int32)))) h39))))))) ∧ (¬ r18 = (-1 : Int32) → c.2.2.2.2 (.inl (some (.int (r18 + (1 : Int32))))) h19)))))) ∧ (¬ (nI v10.1) ≤ a3 → c.2.2.2.2 (.inl (some (.int (-2 : Int32)))) h)))) : h_X0_marks_53 c a0 a1 a2 a3 a4 h k n := by
  refine e_iload dX0_marks_53 rfl ?_
  refine e_iload_n dX0_marks_55 rfl ?_
  refine e_icmp_ne 62 dX0_marks_56 (by decide) (fun g1 => ?_) (fun g1 => ?_)
  · replace H := H.1 g1
    refine e_aload_n dX0_marks_62 rfl ?_
    obtain ⟨x2, ⟨fsx2, g3, g3v⟩, H⟩ := H
    refine e_get dX0_marks_63 fX0_0 q1235 g3 g3v ?_
    refine e_iload dX0_marks_66 rfl ?_
    obtain ⟨N4, f5, g6, g6i, H⟩ := H
    refine e_baload dX0_marks_68 g6 g6i ?_
    refine e_bipush (45) dX0_marks_69 (by decide) ?_
    refine e_icmp_ne 78 dX0_marks_71 (by decide) (fun g7 => ?_) (fun g7 => ?_)
    · replace H := H.1 g7
      refine e_iconst (1) dX0_marks_78 (by decide) ?_
      refine e_istore _ dX0_marks_79 (by decide) rfl rfl ?_
      refine e_iload dX0_marks_81 rfl ?_
      refine e_iload dX0_marks_83 rfl ?_
      refine e_if_ge 92 dX0_marks_85 (by decide) (fun g8 => ?_) (fun g8 => ?_)
      · replace H := H.1 g8
        refine e_iconst (0) dX0_marks_92 (by decide) ?_
        refine e_iadd dX0_marks_93 ?_
        refine e_istore _ dX0_marks_94 (by decide) rfl rfl ?_
        refine e_iload dX0_marks_96 rfl ?_
        refine e_istore _ dX0_marks_98 (by decide) rfl rfl ?_
        refine e_lconst 0 dX0_marks_100 (by decide) ?_
        refine e_lstore _ dX0_marks_101 (by decide) rfl rfl ?_
        exact E.less2 H (eS_s (eS_s (eS_s (eS_s (eS_s (eS_s (eS_s (eS_s (eS_n (eS_n eS_0))))))))))
      · replace H := H.2 g8
        refine e_iconst (1) dX0_marks_88 (by decide) ?_
        refine e_goto 93 dX0_marks_89 (by decide) ?_
        refine e_iadd dX0_marks_93 ?_
        refine e_istore _ dX0_marks_94 (by decide) rfl rfl ?_
        refine e_iload dX0_marks_96 rfl ?_
        refine e_istore _ dX0_marks_98 (by decide) rfl rfl ?_
        refine e_lconst 0 dX0_marks_100 (by decide) ?_
        refine e_lstore _ dX0_marks_101 (by decide) rfl rfl ?_
        exact E.less2 H (eS_s (eS_s (eS_s (eS_s (eS_s (eS_s (eS_s (eS_s (eS_n (eS_n eS_0))))))))))
    · replace H := H.2 g7
      refine e_iconst (-1) dX0_marks_74 (by decide) ?_
      refine e_goto 79 dX0_marks_75 (by decide) ?_
      refine e_istore _ dX0_marks_79 (by decide) rfl rfl ?_
      refine e_iload dX0_marks_81 rfl ?_
      refine e_iload dX0_marks_83 rfl ?_
      refine e_if_ge 92 dX0_marks_85 (by decide) (fun g9 => ?_) (fun g9 => ?_)
      · replace H := H.1 g9
        refine e_iconst (0) dX0_marks_92 (by decide) ?_
        refine e_iadd dX0_marks_93 ?_
        refine e_istore _ dX0_marks_94 (by decide) rfl rfl ?_
        refine e_iload dX0_marks_96 rfl ?_
        refine e_istore _ dX0_marks_98 (by decide) rfl rfl ?_
        refine e_lconst 0 dX0_marks_100 (by decide) ?_
        refine e_lstore _ dX0_marks_101 (by decide) rfl rfl ?_
        exact E.less2 H (eS_s (eS_s (eS_s (eS_s (eS_s (eS_s (eS_s (eS_s (eS_n (eS_n eS_0))))))))))
      · replace H := H.2 g9
        refine e_iconst (1) dX0_marks_88 (by decide) ?_
        refine e_goto 93 dX0_marks_89 (by decide) ?_
        refine e_iadd dX0_marks_93 ?_
        refine e_istore _ dX0_marks_94 (by decide) rfl rfl ?_
        refine e_iload dX0_marks_96 rfl ?_
        refine e_istore _ dX0_marks_98 (by decide) rfl rfl ?_
        refine e_lconst 0 dX0_marks_100 (by decide) ?_
        refine e_lstore _ dX0_marks_101 (by decide) rfl rfl ?_
        exact E.less2 H (eS_s (eS_s (eS_s (eS_s (eS_s (eS_s (eS_s (eS_s (eS_n (eS_n eS_0))))))))))
  · replace H := H.2 g1
    refine e_goto 239 dX0_marks_59 (by decide) ?_
    refine e_iload_n dX0_marks_239 rfl ?_
    refine e_aload_n dX0_marks_240 rfl ?_
    obtain ⟨v10, g11, H⟩ := H
    refine e_alen (t := 1) dX0_marks_241 (fun _ => rfl) g11 ?_
    refine e_icmp_ge 248 dX0_marks_242 (by decide) (fun g12 => ?_) (fun g12 => ?_)
    · replace H := H.1 g12
      refine e_aload_n dX0_marks_248 rfl ?_
      obtain ⟨x13, ⟨fsx13, g14, g14v⟩, H⟩ := H
      refine e_get dX0_marks_249 fX0_4 q1239 g14 g14v ?_
      obtain ⟨x15, ⟨fsx15, g16, g16v⟩, H⟩ := H
      refine e_getN dX0_marks_252 fX1_2 q238 g16 g16v ?_
      refine e_aload_n dX0_marks_255 rfl ?_
      obtain ⟨o17, eo17, H⟩ := H
      subst eo17
      obtain ⟨fsg20, g20o, H⟩ := H
      obtain ⟨d21, k22, n23, Q24, g20, g20d, g20k, g20n, H⟩ := H
      refine e_callV (r := (RX3, TX3, 8)) (As := [.ref a2]) g20 dX0_marks_256 wX3_firstWrong q2382 q2383 q2384 g20o rfl rfl g20d rfl (Nat.le_of_ble_eq_true rfl) (k1 := k - k22) (n1 := n - n23) (by omega) (by omega) ?_ ?_
      · rintro v h19 (⟨v9, e9, r18, e8, hq⟩ | ⟨ci9, q9, e9, -⟩)
        · cases e9
          subst e8
          replace H := H r18 h19 hq
          refine e_istore _ dX0_marks_259 (by decide) rfl rfl ?_
          refine e_iload dX0_marks_261 rfl ?_
          refine e_iconst (-1) dX0_marks_263 (by decide) ?_
          refine e_icmp_eq 272 dX0_marks_264 (by decide) (fun g25 => ?_) (fun g25 => ?_)
          · replace H := H.1 g25
            refine e_aload_n dX0_marks_272 rfl ?_
            refine e_aload_n dX0_marks_273 rfl ?_
            obtain ⟨x26, ⟨fsx26, g27, g27v⟩, H⟩ := H
            refine e_get dX0_marks_274 fX0_4 q1239 g27 g27v ?_
            obtain ⟨x28, ⟨fsx28, g29, g29v⟩, H⟩ := H
            refine e_getN dX0_marks_277 fX1_2 q238 g29 g29v ?_
            refine e_aload_n dX0_marks_280 rfl ?_
            obtain ⟨o30, eo30, H⟩ := H
            subst eo30
            obtain ⟨fsg33, g33o, H⟩ := H
            obtain ⟨d34, k35, n36, Q37, g33, g33d, g33k, g33n, H⟩ := H
            refine e_callV (r := (RX3, TX3, 8)) (As := [.ref a2]) g33 dX0_marks_281 wX3_solved q2255 q1860 q1861 g33o rfl rfl g33d rfl (Nat.le_of_ble_eq_true rfl) (k1 := k - k22 - k35) (n1 := n - n23 - n36) (by omega) (by omega) ?_ ?_
            · rintro v h32 (⟨v9, e9, r31, e8, hq⟩ | ⟨ci9, q9, e9, -⟩)
              · cases e9
                subst e8
                replace H := H r31 h32 hq
                obtain ⟨fsg40, g40o, H⟩ := H
                obtain ⟨d41, k42, n43, Q44, g40, g40d, g40k, g40n, H⟩ := H
                refine e_callV (r := (RX0, TX0, 8)) (As := [.ref r31]) g40 dX0_marks_284 wX0_becomes q2317 q2319 qs51 g40o rfl rfl g40d rfl (Nat.le_of_ble_eq_true rfl) (k1 := k - k22 - k35 - k42) (n1 := n - n23 - n36 - n43) (by omega) (by omega) ?_ ?_
                · rintro v h39 (⟨v9, e9, e8, hq⟩ | ⟨ci9, q9, e9, -⟩)
                  · cases e9
                    subst e8
                    replace H := H h39 hq
                    refine e_iconst (0) dX0_marks_287 (by decide) ?_
                    exact e_ireturn .int dX0_marks_288 rfl rfl H
                  · cases e9
                · rintro q9 h9 (⟨v9, e9, -⟩ | ⟨ci9, q8, e9, -, -, hx⟩)
                  · cases e9
                  · exact hx.elim
              · cases e9
            · rintro q9 h9 (⟨v9, e9, -⟩ | ⟨ci9, q8, e9, -, -, hx⟩)
              · cases e9
              · exact hx.elim
          · replace H := H.2 g25
            refine e_iload dX0_marks_267 rfl ?_
            refine e_iconst (1) dX0_marks_269 (by decide) ?_
            refine e_iadd dX0_marks_270 ?_
            exact e_ireturn .int dX0_marks_271 rfl rfl H
        · cases e9
      · rintro q9 h9 (⟨v9, e9, -⟩ | ⟨ci9, q8, e9, -, -, hx⟩)
        · cases e9
        · exact hx.elim
    · replace H := H.2 g12
      refine e_bipush (-2) dX0_marks_245 (by decide) ?_
      exact e_ireturn .int dX0_marks_247 rfl rfl H
set_option maxHeartbeats 4000000 in
theorem s_X0_marks_103 (c : cC) (a0 : Nat) (a1 : Int32) (a2 : Nat) (a3 : Int32) (a4 : Int32) (a5 : Int32) (a6 : Int32) (a7 : Int64) (h : eH) (k n : Nat) (H : (a1 ≤ a4 → h_X0_marks_166 c a0 a1 a2 a3 a4 a5 a6 a7 h k n) ∧ (¬ a1 ≤ a4 → ∃ x2 : Nat, fV h a0 0 0 (.ref x2) ∧ (∃ (N4 : Nat) (f5 : Nat → Int32), h.1 x2 = some (.inl (c.2.2.1.2.1 2, N4, .inl f5)) ∧ vp_in a4 N4 ∧ (∃ (d10 k11 n12 : Nat) (Q13 : Int32 → eH → Prop), cI c.1 c.2.1 c.2.2.1 d10 mX0_isIn [.long ((f5 a4.toNatClampNeg).toInt64), .long (48 : Int64), .long (57 : Int64)] h k11 n12 Q13 cX0 ∧ d10 + 1 ≤ c.2.2.2.1 ∧ k11 ≤ k ∧ n12 ≤ n ∧ (∀ (r7 : Int32) (h8 : eH), Q13 r7 h8 → ((r7 = 0 → h_X0_marks_166 c a0 a1 a2 a3 a4 a5 a6 a7 h8 (k - k11) (n - n12)) ∧ (¬ r7 = 0 → ((6 : Int32) ≤ (a4 - a6) → h_X0_marks_166 c a0 a1 a2 a3 a4 a5 a6 a7 h8 (k - k11) (n - n12)) ∧ (¬ (6 : Int32) ≤ (a4 - a6) → ∃ x16 : Nat, fV h8 a0 0 0 (.ref x16) ∧ (∃ (N18 : Nat) (f19 : Nat → Int32), h8.1 x16 = some (.inl (c.2.2.1.2.1 2, N18, .inl f19)) ∧ vp_in a4 N18 ∧ (h_X0_marks_103 c a0 a1 a2 a3 (a4 + 1) a5 a6 ((((10 : Int64) * a7) + ((f19 a4.toNatClampNeg).toInt64)) - (48 : Int64)) h8 (k - k11) (n - n12))))))))))) : h_X0_marks_103 c a0 a1 a2 a3 a4 a5 a6 a7 h k n := by
  refine e_iload dX0_marks_103 rfl ?_
  refine e_iload_n dX0_marks_105 rfl ?_
  refine e_icmp_ge 166 dX0_marks_106 (by decide) (fun g1 => ?_) (fun g1 => ?_)
  · replace H := H.1 g1
    exact E.less2 H (eS_s (eS_s (eS_s (eS_s (eS_s (eS_s (eS_s (eS_s (eS_n (eS_n eS_0))))))))))
  · replace H := H.2 g1
    refine e_aload_n dX0_marks_109 rfl ?_
    obtain ⟨x2, ⟨fsx2, g3, g3v⟩, H⟩ := H
    refine e_get dX0_marks_110 fX0_0 q1235 g3 g3v ?_
    refine e_iload dX0_marks_113 rfl ?_
    obtain ⟨N4, f5, g6, g6i, H⟩ := H
    refine e_baload dX0_marks_115 g6 g6i ?_
    refine e_i2l dX0_marks_116 ?_
    refine e_ldc2 dX0_marks_117 q2379 ?_
    refine e_ldc2 dX0_marks_120 q2380 ?_
    obtain ⟨d10, k11, n12, Q13, g9, g9d, g9k, g9n, H⟩ := H
    refine e_callS (As := [.long ((f5 a4.toNatClampNeg).toInt64), .long (48 : Int64), .long (57 : Int64)]) g9 dX0_marks_123 wX0_isIn q1948 q1791 rfl g9d rfl (Nat.le_of_ble_eq_true rfl) (k1 := k - k11) (n1 := n - n12) (by omega) (by omega) ?_ ?_
    · rintro v h8 (⟨v9, e9, r7, e8, hq⟩ | ⟨ci9, q9, e9, -⟩)
      · cases e9
        subst e8
        replace H := H r7 h8 hq
        refine e_if_eq 166 dX0_marks_126 (by decide) (fun g14 => ?_) (fun g14 => ?_)
        · replace H := H.1 g14
          exact E.less2 H (eS_s (eS_s (eS_s (eS_s (eS_s (eS_s (eS_s (eS_s (eS_n (eS_n eS_0))))))))))
        · replace H := H.2 g14
          refine e_iload dX0_marks_129 rfl ?_
          refine e_iload dX0_marks_131 rfl ?_
          refine e_isub dX0_marks_133 ?_
          refine e_bipush (6) dX0_marks_134 (by decide) ?_
          refine e_icmp_ge 166 dX0_marks_136 (by decide) (fun g15 => ?_) (fun g15 => ?_)
          · replace H := H.1 g15
            exact E.less2 H (eS_s (eS_s (eS_s (eS_s (eS_s (eS_s (eS_s (eS_s (eS_n (eS_n eS_0))))))))))
          · replace H := H.2 g15
            refine e_ldc2 dX0_marks_139 q2381 ?_
            refine e_lload dX0_marks_142 rfl ?_
            refine e_lmul dX0_marks_144 ?_
            refine e_aload_n dX0_marks_145 rfl ?_
            obtain ⟨x16, ⟨fsx16, g17, g17v⟩, H⟩ := H
            refine e_get dX0_marks_146 fX0_0 q1235 g17 g17v ?_
            refine e_iload dX0_marks_149 rfl ?_
            obtain ⟨N18, f19, g20, g20i, H⟩ := H
            refine e_baload dX0_marks_151 g20 g20i ?_
            refine e_i2l dX0_marks_152 ?_
            refine e_ladd dX0_marks_153 ?_
            refine e_ldc2 dX0_marks_154 q2379 ?_
            refine e_lsub dX0_marks_157 ?_
            refine e_lstore _ dX0_marks_158 (by decide) rfl rfl ?_
            refine e_iinc (a4 + 1) _ dX0_marks_160 rfl rfl (by decide) rfl rfl ?_
            refine e_goto 103 dX0_marks_163 (by decide) ?_
            exact E.less2 H (eS_s (eS_s (eS_s (eS_s (eS_s (eS_s (eS_s (eS_s (eS_n (eS_n eS_0))))))))))
      · cases e9
    · rintro q9 h9 (⟨v9, e9, -⟩ | ⟨ci9, q8, e9, -, -, hx⟩)
      · cases e9
      · exact hx.elim
set_option maxHeartbeats 4000000 in
theorem s_X0_marks_166 (c : cC) (a0 : Nat) (a1 : Int32) (a2 : Nat) (a3 : Int32) (a4 : Int32) (a5 : Int32) (a6 : Int32) (a7 : Int64) (h : eH) (k n : Nat) (H : (a4 = a1 → h_X0_marks_196 c a0 a1 a2 a3 a4 a5 a6 a7 h k n) ∧ (¬ a4 = a1 → ∃ x2 : Nat, fV h a0 0 0 (.ref x2) ∧ (∃ (N4 : Nat) (f5 : Nat → Int32), h.1 x2 = some (.inl (c.2.2.1.2.1 2, N4, .inl f5)) ∧ vp_in a4 N4 ∧ (((f5 a4.toNatClampNeg) = (32 : Int32) → h_X0_marks_196 c a0 a1 a2 a3 a4 a5 a6 a7 h k n) ∧ (¬ (f5 a4.toNatClampNeg) = (32 : Int32) → ∃ x8 : Nat, fV h a0 0 0 (.ref x8) ∧ (∃ (N10 : Nat) (f11 : Nat → Int32), h.1 x8 = some (.inl (c.2.2.1.2.1 2, N10, .inl f11)) ∧ vp_in a4 N10 ∧ ((¬ (f11 a4.toNatClampNeg) = (10 : Int32) → (a4 = a6 → c.2.2.2.2 (.inl (some (.int (-2 : Int32)))) h) ∧ (¬ a4 = a6 → ((0 : Int32) = 0 → c.2.2.2.2 (.inl (some (.int (-2 : Int32)))) h) ∧ (¬ (0 : Int32) = 0 → ∃ v16 : vp_A, h.1 a2 = some (.inl (c.2.2.1.2.1 1, v16)) ∧ ((¬ a3 = (nI v16.1) → ∃ (N19 : Nat) (f20 : Nat → Int64), h.1 a2 = some (.inl (c.2.2.1.2.1 1, N19, .inr (.inl f20))) ∧ c.2.1 ≤ a2 ∧ vp_in a3 N19 ∧ ∀ h22 : eH, h22 = eUp h a2 (.inl (c.2.2.1.2.1 1, N19, .inr (.inl (va_up f20 a3.toNatClampNeg (a5.toInt64 * a7))))) → (h_X0_marks_17 c a0 a1 a2 (a3 + 1) a4 h22 k n)) ∧ (a3 = (nI v16.1) → c.2.2.2.2 (.inl (some (.int (-2 : Int32)))) h))))) ∧ ((f11 a4.toNatClampNeg) = (10 : Int32) → h_X0_marks_196 c a0 a1 a2 a3 a4 a5 a6 a7 h k n)))))))) : h_X0_marks_166 c a0 a1 a2 a3 a4 a5 a6 a7 h k n := by
  refine e_iload dX0_marks_166 rfl ?_
  refine e_iload_n dX0_marks_168 rfl ?_
  refine e_icmp_eq 196 dX0_marks_169 (by decide) (fun g1 => ?_) (fun g1 => ?_)
  · replace H := H.1 g1
    exact E.less2 H (eS_s (eS_s (eS_s (eS_s (eS_s (eS_s (eS_s (eS_s (eS_n (eS_n eS_0))))))))))
  · replace H := H.2 g1
    refine e_aload_n dX0_marks_172 rfl ?_
    obtain ⟨x2, ⟨fsx2, g3, g3v⟩, H⟩ := H
    refine e_get dX0_marks_173 fX0_0 q1235 g3 g3v ?_
    refine e_iload dX0_marks_176 rfl ?_
    obtain ⟨N4, f5, g6, g6i, H⟩ := H
    refine e_baload dX0_marks_178 g6 g6i ?_
    refine e_bipush (32) dX0_marks_179 (by decide) ?_
    refine e_icmp_eq 196 dX0_marks_181 (by decide) (fun g7 => ?_) (fun g7 => ?_)
    · replace H := H.1 g7
      exact E.less2 H (eS_s (eS_s (eS_s (eS_s (eS_s (eS_s (eS_s (eS_s (eS_n (eS_n eS_0))))))))))
    · replace H := H.2 g7
      refine e_aload_n dX0_marks_184 rfl ?_
      obtain ⟨x8, ⟨fsx8, g9, g9v⟩, H⟩ := H
      refine e_get dX0_marks_185 fX0_0 q1235 g9 g9v ?_
      refine e_iload dX0_marks_188 rfl ?_
      obtain ⟨N10, f11, g12, g12i, H⟩ := H
      refine e_baload dX0_marks_190 g12 g12i ?_
      refine e_bipush (10) dX0_marks_191 (by decide) ?_
      refine e_icmp_ne 200 dX0_marks_193 (by decide) (fun g13 => ?_) (fun g13 => ?_)
      · replace H := H.1 g13
        refine e_iconst (0) dX0_marks_200 (by decide) ?_
        refine e_istore _ dX0_marks_201 (by decide) trivial rfl ?_
        refine e_iload dX0_marks_203 rfl ?_
        refine e_iload dX0_marks_205 rfl ?_
        refine e_icmp_eq 221 dX0_marks_207 (by decide) (fun g14 => ?_) (fun g14 => ?_)
        · replace H := H.1 g14
          refine e_bipush (-2) dX0_marks_221 (by decide) ?_
          exact e_ireturn .int dX0_marks_223 rfl rfl H
        · replace H := H.2 g14
          refine e_iload dX0_marks_210 rfl ?_
          refine e_if_eq 221 dX0_marks_212 (by decide) (fun g15 => ?_) (fun g15 => ?_)
          · replace H := H.1 g15
            refine e_bipush (-2) dX0_marks_221 (by decide) ?_
            exact e_ireturn .int dX0_marks_223 rfl rfl H
          · replace H := H.2 g15
            refine e_iload_n dX0_marks_215 rfl ?_
            refine e_aload_n dX0_marks_216 rfl ?_
            obtain ⟨v16, g17, H⟩ := H
            refine e_alen (t := 1) dX0_marks_217 (fun _ => rfl) g17 ?_
            refine e_icmp_ne 224 dX0_marks_218 (by decide) (fun g18 => ?_) (fun g18 => ?_)
            · replace H := H.1 g18
              refine e_aload_n dX0_marks_224 rfl ?_
              refine e_iload_n dX0_marks_225 rfl ?_
              refine e_iload dX0_marks_226 rfl ?_
              refine e_i2l dX0_marks_228 ?_
              refine e_lload dX0_marks_229 rfl ?_
              refine e_lmul dX0_marks_231 ?_
              obtain ⟨N19, f20, g21, g21l, g21i, H⟩ := H
              refine e_lastore dX0_marks_232 g21 g21l g21i ?_
              replace H := H _ rfl
              generalize eUp h a2 _ = h22 at H ⊢
              refine e_iinc (a3 + 1) _ dX0_marks_233 rfl rfl (by decide) rfl rfl ?_
              refine e_goto 17 dX0_marks_236 (by decide) ?_
              exact E.less2 H (eS_s (eS_s (eS_s (eS_s (eS_s (eS_n (eS_n (eS_n (eS_n (eS_n eS_0))))))))))
            · replace H := H.2 g18
              refine e_bipush (-2) dX0_marks_221 (by decide) ?_
              exact e_ireturn .int dX0_marks_223 rfl rfl H
      · replace H := H.2 g13
        exact E.less2 H (eS_s (eS_s (eS_s (eS_s (eS_s (eS_s (eS_s (eS_s (eS_n (eS_n eS_0))))))))))
set_option maxHeartbeats 4000000 in
theorem s_X0_marks_196 (c : cC) (a0 : Nat) (a1 : Int32) (a2 : Nat) (a3 : Int32) (a4 : Int32) (a5 : Int32) (a6 : Int32) (a7 : Int64) (h : eH) (k n : Nat) (H : (a4 = a6 → c.2.2.2.2 (.inl (some (.int (-2 : Int32)))) h) ∧ (¬ a4 = a6 → ((1 : Int32) = 0 → c.2.2.2.2 (.inl (some (.int (-2 : Int32)))) h) ∧ (¬ (1 : Int32) = 0 → ∃ v3 : vp_A, h.1 a2 = some (.inl (c.2.2.1.2.1 1, v3)) ∧ ((¬ a3 = (nI v3.1) → ∃ (N6 : Nat) (f7 : Nat → Int64), h.1 a2 = some (.inl (c.2.2.1.2.1 1, N6, .inr (.inl f7))) ∧ c.2.1 ≤ a2 ∧ vp_in a3 N6 ∧ ∀ h9 : eH, h9 = eUp h a2 (.inl (c.2.2.1.2.1 1, N6, .inr (.inl (va_up f7 a3.toNatClampNeg (a5.toInt64 * a7))))) → (h_X0_marks_17 c a0 a1 a2 (a3 + 1) a4 h9 k n)) ∧ (a3 = (nI v3.1) → c.2.2.2.2 (.inl (some (.int (-2 : Int32)))) h))))) : h_X0_marks_196 c a0 a1 a2 a3 a4 a5 a6 a7 h k n := by
  refine e_iconst (1) dX0_marks_196 (by decide) ?_
  refine e_goto 201 dX0_marks_197 (by decide) ?_
  refine e_istore _ dX0_marks_201 (by decide) trivial rfl ?_
  refine e_iload dX0_marks_203 rfl ?_
  refine e_iload dX0_marks_205 rfl ?_
  refine e_icmp_eq 221 dX0_marks_207 (by decide) (fun g1 => ?_) (fun g1 => ?_)
  · replace H := H.1 g1
    refine e_bipush (-2) dX0_marks_221 (by decide) ?_
    exact e_ireturn .int dX0_marks_223 rfl rfl H
  · replace H := H.2 g1
    refine e_iload dX0_marks_210 rfl ?_
    refine e_if_eq 221 dX0_marks_212 (by decide) (fun g2 => ?_) (fun g2 => ?_)
    · replace H := H.1 g2
      refine e_bipush (-2) dX0_marks_221 (by decide) ?_
      exact e_ireturn .int dX0_marks_223 rfl rfl H
    · replace H := H.2 g2
      refine e_iload_n dX0_marks_215 rfl ?_
      refine e_aload_n dX0_marks_216 rfl ?_
      obtain ⟨v3, g4, H⟩ := H
      refine e_alen (t := 1) dX0_marks_217 (fun _ => rfl) g4 ?_
      refine e_icmp_ne 224 dX0_marks_218 (by decide) (fun g5 => ?_) (fun g5 => ?_)
      · replace H := H.1 g5
        refine e_aload_n dX0_marks_224 rfl ?_
        refine e_iload_n dX0_marks_225 rfl ?_
        refine e_iload dX0_marks_226 rfl ?_
        refine e_i2l dX0_marks_228 ?_
        refine e_lload dX0_marks_229 rfl ?_
        refine e_lmul dX0_marks_231 ?_
        obtain ⟨N6, f7, g8, g8l, g8i, H⟩ := H
        refine e_lastore dX0_marks_232 g8 g8l g8i ?_
        replace H := H _ rfl
        generalize eUp h a2 _ = h9 at H ⊢
        refine e_iinc (a3 + 1) _ dX0_marks_233 rfl rfl (by decide) rfl rfl ?_
        refine e_goto 17 dX0_marks_236 (by decide) ?_
        exact E.less2 H (eS_s (eS_s (eS_s (eS_s (eS_s (eS_n (eS_n (eS_n (eS_n (eS_n eS_0))))))))))
      · replace H := H.2 g5
        refine e_bipush (-2) dX0_marks_221 (by decide) ?_
        exact e_ireturn .int dX0_marks_223 rfl rfl H
theorem en_X0_marks {l : Launch} {lo : Nat} {G : eG} {d : Nat} {P : eO → eH → Prop} (a0 : Nat) {h : eH} {k n : Nat} (H : h_X0_marks_0 (l, lo, G, d, P) a0 h k n) : Ct l lo G d mX0_marks [.ref a0] h k n P := 
  Ct_of (eArL mX0_marks.2.2.2.1 [.ref a0]) (by decide) rfl (Nat.le_of_ble_eq_true rfl) (fun j w q => eArL_mem j w q) (E.less2 H (eS_s (eS_n (eS_n (eS_n (eS_n (eS_n (eS_n (eS_n (eS_n (eS_n eS_0)))))))))))
/-! X0_uses TroupeSums.uses(I)I -/
def h_X0_uses_0 (c : cC) (a0 : Nat) (a1 : Int32) (h : eH) (k n : Nat) : Prop := E c.1 c.2.1 c.2.2.1 c.2.2.2.1 mX0_uses c.2.2.2.2 0 [some (.ref a0), some (.int a1)] [] h k n
set_option maxHeartbeats 4000000 in
theorem s_X0_uses_0 (c : cC) (a0 : Nat) (a1 : Int32) (h : eH) (k n : Nat) (H : ∃ x1 : Nat, fV h a0 0 4 (.ref x1) ∧ (∃ x3 : Nat, fV h x1 1 4 (.ref x3) ∧ (∃ fs8 : List Value, h.1 x3 = some (.inr (15, fs8)) ∧ ∃ (d8 k9 n10 : Nat) (Q11 : Int32 → eH → Prop), cI c.1 c.2.1 c.2.2.1 d8 mJ2_size [.ref x3] h k9 n10 Q11 cX0 ∧ d8 + 1 ≤ c.2.2.2.1 ∧ k9 ≤ k ∧ n10 ≤ n ∧ (∀ (r5 : Int32) (h6 : eH), Q11 r5 h6 → (∃ (d15 k16 n17 : Nat) (Q18 : Int32 → eH → Prop), cI c.1 c.2.1 c.2.2.1 d15 mX0_isIn [.long a1.toInt64, .long (0 : Int64), .long ((r5 - (1 : Int32)).toInt64)] h6 k16 n17 Q18 cX0 ∧ d15 + 1 ≤ c.2.2.2.1 ∧ k16 ≤ k - k9 ∧ n17 ≤ n - n10 ∧ (∀ (r12 : Int32) (h13 : eH), Q18 r12 h13 → ((¬ r12 = 0 → ∃ x20 : Nat, fV h13 a0 0 4 (.ref x20) ∧ (∃ x22 : Nat, fV h13 x20 1 4 (.ref x22) ∧ (∃ fs8 : List Value, h13.1 x22 = some (.inr (15, fs8)) ∧ ∃ (d27 k28 n29 : Nat) (Q30 : Nat → eH → Prop), cR c.1 c.2.1 c.2.2.1 d27 mJ2_get [.ref x22, .int a1] h13 k28 n29 Q30 cX0 ∧ d27 + 1 ≤ c.2.2.2.1 ∧ k28 ≤ k - k9 - k16 ∧ n29 ≤ n - n10 - n17 ∧ (∀ (r24 : Nat) (h25 : eH), Q30 r24 h25 → (eCs c.2.2.1 h25 r24 "TroupeSums$Sum" ∧ (∃ x32 : Nat, fV h25 r24 9 1 (.ref x32) ∧ (∃ (N36 : Nat) (f37 : Nat → Int64), h25.1 x32 = some (.inl (c.2.2.1.2.1 1, N36, .inr (.inl f37))) ∧ c.2.1 ≤ x32 ∧ 1 ≤ c.2.2.2.1 ∧ 1 ≤ k - k9 - k16 - k28 ∧ N36 ≤ n - n10 - n17 - n29 ∧ ∀ h35 : eH, h35 = eNw h25 (.inl (c.2.2.1.2.1 1, N36, .inr (.inl f37))) → (eCs c.2.2.1 h35 h25.2 "[J" ∧ (∃ fs8 : List Value, h35.1 a0 = some (.inr (0, fs8)) ∧ ∃ (d42 k43 n44 : Nat) (Q45 : eH → Prop), cV c.1 c.2.1 c.2.2.1 d42 mX0_becomes [.ref a0, .ref h25.2] h35 k43 n44 Q45 cX0 ∧ d42 + 1 ≤ c.2.2.2.1 ∧ k43 ≤ k - k9 - k16 - k28 - 1 ∧ n44 ≤ n - n10 - n17 - n29 - N36 ∧ (∀ h40 : eH, Q45 h40 → (∃ fs8 : List Value, h40.1 a0 = some (.inr (0, fs8)) ∧ ∃ (d49 k50 n51 : Nat) (Q52 : Int32 → eH → Prop), cI c.1 c.2.1 c.2.2.1 d49 mX0_parts [.ref a0] h40 k50 n51 Q52 cX0 ∧ d49 + 1 ≤ c.2.2.2.1 ∧ k50 ≤ k - k9 - k16 - k28 - 1 - k43 ∧ n51 ≤ n - n10 - n17 - n29 - N36 - n44 ∧ (∀ (r46 : Int32) (h47 : eH), Q52 r46 h47 → (c.2.2.2.2 (.inl (some (.int r46))) h47))))))))))))) ∧ (r12 = 0 → c.2.2.2.2 (.inl (some (.int (-1 : Int32)))) h13)))))))) : h_X0_uses_0 c a0 a1 h k n := by
  refine e_iload_n dX0_uses_0 rfl ?_
  refine e_i2l dX0_uses_1 ?_
  refine e_lconst 0 dX0_uses_2 (by decide) ?_
  refine e_aload_n dX0_uses_3 rfl ?_
  obtain ⟨x1, ⟨fsx1, g2, g2v⟩, H⟩ := H
  refine e_get dX0_uses_4 fX0_4 q1239 g2 g2v ?_
  obtain ⟨x3, ⟨fsx3, g4, g4v⟩, H⟩ := H
  refine e_getN dX0_uses_7 fX1_4 q245 g4 g4v ?_
  obtain ⟨fsg7, g7o, H⟩ := H
  obtain ⟨d8, k9, n10, Q11, g7, g7d, g7k, g7n, H⟩ := H
  refine e_callF (i := 3) (r := (RJ2, TJ2, 3)) (As := []) g7 dX0_uses_10 wJ2_size rfl rfl q1918 q876 q874 g7o rfl rfl g7d rfl (Nat.le_of_ble_eq_true rfl) (k1 := k - k9) (n1 := n - n10) (by omega) (by omega) ?_ ?_
  · rintro v h6 (⟨v9, e9, r5, e8, hq⟩ | ⟨ci9, q9, e9, -⟩)
    · cases e9
      subst e8
      replace H := H r5 h6 hq
      refine e_iconst (1) dX0_uses_15 (by decide) ?_
      refine e_isub dX0_uses_16 ?_
      refine e_i2l dX0_uses_17 ?_
      obtain ⟨d15, k16, n17, Q18, g14, g14d, g14k, g14n, H⟩ := H
      refine e_callS (As := [.long a1.toInt64, .long (0 : Int64), .long ((r5 - (1 : Int32)).toInt64)]) g14 dX0_uses_18 wX0_isIn q1948 q1791 rfl g14d rfl (Nat.le_of_ble_eq_true rfl) (k1 := k - k9 - k16) (n1 := n - n10 - n17) (by omega) (by omega) ?_ ?_
      · rintro v h13 (⟨v9, e9, r12, e8, hq⟩ | ⟨ci9, q9, e9, -⟩)
        · cases e9
          subst e8
          replace H := H r12 h13 hq
          refine e_if_ne 26 dX0_uses_21 (by decide) (fun g19 => ?_) (fun g19 => ?_)
          · replace H := H.1 g19
            refine e_aload_n dX0_uses_26 rfl ?_
            refine e_aload_n dX0_uses_27 rfl ?_
            obtain ⟨x20, ⟨fsx20, g21, g21v⟩, H⟩ := H
            refine e_get dX0_uses_28 fX0_4 q1239 g21 g21v ?_
            obtain ⟨x22, ⟨fsx22, g23, g23v⟩, H⟩ := H
            refine e_getN dX0_uses_31 fX1_4 q245 g23 g23v ?_
            refine e_iload_n dX0_uses_34 rfl ?_
            obtain ⟨fsg26, g26o, H⟩ := H
            obtain ⟨d27, k28, n29, Q30, g26, g26d, g26k, g26n, H⟩ := H
            refine e_callF (i := 4) (r := (RJ2, TJ2, 3)) (As := [.int a1]) g26 dX0_uses_35 wJ2_get rfl rfl q1950 q887 q885 g26o rfl rfl g26d rfl (Nat.le_of_ble_eq_true rfl) (k1 := k - k9 - k16 - k28) (n1 := n - n10 - n17 - n29) (by omega) (by omega) ?_ ?_
            · rintro v h25 (⟨v9, e9, r24, e8, hq⟩ | ⟨ci9, q9, e9, -⟩)
              · cases e9
                subst e8
                replace H := H r24 h25 hq
                obtain ⟨g31, H⟩ := H
                refine c_castR dX0_uses_40 q2260 g31 ?_
                obtain ⟨x32, ⟨fsx32, g33, g33v⟩, H⟩ := H
                refine e_getN dX0_uses_43 fX9_1 q1818 g33 g33v ?_
                obtain ⟨N36, f37, g34, g34l, g34h, g34k, g34n, H⟩ := H
                refine e_cloneJ dX0_uses_46 q2315 q1829 q1460 q1461 q1830 q1831 g34 g34l g34h (Nat.le_of_ble_eq_true rfl) (k1 := k - k9 - k16 - k28 - 1) (n1 := n - n10 - n17 - n29 - N36) (by omega) (by omega) ?_
                replace H := H _ rfl
                generalize eNw h25 _ = h35 at H ⊢
                obtain ⟨g38, H⟩ := H
                refine c_castR dX0_uses_49 q2316 g38 ?_
                obtain ⟨fsg41, g41o, H⟩ := H
                obtain ⟨d42, k43, n44, Q45, g41, g41d, g41k, g41n, H⟩ := H
                refine e_callV (r := (RX0, TX0, 8)) (As := [.ref h25.2]) g41 dX0_uses_52 wX0_becomes q2317 q2319 qs51 g41o rfl rfl g41d rfl (Nat.le_of_ble_eq_true rfl) (k1 := k - k9 - k16 - k28 - 1 - k43) (n1 := n - n10 - n17 - n29 - N36 - n44) (by omega) (by omega) ?_ ?_
                · rintro v h40 (⟨v9, e9, e8, hq⟩ | ⟨ci9, q9, e9, -⟩)
                  · cases e9
                    subst e8
                    replace H := H h40 hq
                    refine e_aload_n dX0_uses_55 rfl ?_
                    obtain ⟨fsg48, g48o, H⟩ := H
                    obtain ⟨d49, k50, n51, Q52, g48, g48d, g48k, g48n, H⟩ := H
                    refine e_callV (r := (RX0, TX0, 8)) (As := []) g48 dX0_uses_56 wX0_parts q2351 q2286 q2287 g48o rfl rfl g48d rfl (Nat.le_of_ble_eq_true rfl) (k1 := k - k9 - k16 - k28 - 1 - k43 - k50) (n1 := n - n10 - n17 - n29 - N36 - n44 - n51) (by omega) (by omega) ?_ ?_
                    · rintro v h47 (⟨v9, e9, r46, e8, hq⟩ | ⟨ci9, q9, e9, -⟩)
                      · cases e9
                        subst e8
                        replace H := H r46 h47 hq
                        exact e_ireturn .int dX0_uses_59 rfl rfl H
                      · cases e9
                    · rintro q9 h9 (⟨v9, e9, -⟩ | ⟨ci9, q8, e9, -, -, hx⟩)
                      · cases e9
                      · exact hx.elim
                  · cases e9
                · rintro q9 h9 (⟨v9, e9, -⟩ | ⟨ci9, q8, e9, -, -, hx⟩)
                  · cases e9
                  · exact hx.elim
              · cases e9
            · rintro q9 h9 (⟨v9, e9, -⟩ | ⟨ci9, q8, e9, -, -, hx⟩)
              · cases e9
              · exact hx.elim
          · replace H := H.2 g19
            refine e_iconst (-1) dX0_uses_24 (by decide) ?_
            exact e_ireturn .int dX0_uses_25 rfl rfl H
        · cases e9
      · rintro q9 h9 (⟨v9, e9, -⟩ | ⟨ci9, q8, e9, -, -, hx⟩)
        · cases e9
        · exact hx.elim
    · cases e9
  · rintro q9 h9 (⟨v9, e9, -⟩ | ⟨ci9, q8, e9, -, -, hx⟩)
    · cases e9
    · exact hx.elim
theorem en_X0_uses {l : Launch} {lo : Nat} {G : eG} {d : Nat} {P : eO → eH → Prop} (a0 : Nat) (a1 : Int32) {h : eH} {k n : Nat} (H : h_X0_uses_0 (l, lo, G, d, P) a0 a1 h k n) : Ct l lo G d mX0_uses [.ref a0, .int a1] h k n P := 
  Ct_of (eArL mX0_uses.2.2.2.1 [.ref a0, .int a1]) (by decide) rfl (Nat.le_of_ble_eq_true rfl) (fun j w q => eArL_mem j w q) (E.less2 H (eS_s (eS_s eS_0)))
/-! X0_grows TroupeSums.grows(III)J -/
def h_X0_grows_0 (c : cC) (a0 : Nat) (a1 : Int32) (a2 : Int32) (a3 : Int32) (h : eH) (k n : Nat) : Prop := E c.1 c.2.1 c.2.2.1 c.2.2.2.1 mX0_grows c.2.2.2.2 0 [some (.ref a0), some (.int a1), some (.int a2), some (.int a3), none, none] [] h k n
def h_X0_grows_51 (c : cC) (a0 : Nat) (a1 : Int32) (a2 : Int32) (a3 : Int32) (a4 : Nat) (a5 : Int32) (h : eH) (k n : Nat) : Prop := E c.1 c.2.1 c.2.2.1 c.2.2.2.1 mX0_grows c.2.2.2.2 51 [some (.ref a0), some (.int a1), some (.int a2), some (.int a3), some (.ref a4), some (.int a5)] [] h k n
def h_X0_grows_119 (c : cC) (b0 : Nat) (h : eH) (k n : Nat) : Prop := E c.1 c.2.1 c.2.2.1 c.2.2.2.1 mX0_grows c.2.2.2.2 119 [none, none, none, none, none, none] [.ref b0] h k n
set_option maxHeartbeats 4000000 in
theorem s_X0_grows_0 (c : cC) (a0 : Nat) (a1 : Int32) (a2 : Int32) (a3 : Int32) (h : eH) (k n : Nat) (H : ∃ (d4 k5 n6 : Nat) (Q7 : Int32 → eH → Prop), cI c.1 c.2.1 c.2.2.1 d4 mX0_isIn [.long a1.toInt64, .long (-9 : Int64), .long (9 : Int64)] h k5 n6 Q7 cX0 ∧ d4 + 1 ≤ c.2.2.2.1 ∧ k5 ≤ k ∧ n6 ≤ n ∧ (∀ (r1 : Int32) (h2 : eH), Q7 r1 h2 → ((r1 = 0 → c.2.2.2.2 (.inl (some (.long (-9223372036854775808 : Int64)))) h2) ∧ (¬ r1 = 0 → ∃ (d12 k13 n14 : Nat) (Q15 : Int32 → eH → Prop), cI c.1 c.2.1 c.2.2.1 d12 mX0_isIn [.long a2.toInt64, .long (-999 : Int64), .long (999 : Int64)] h2 k13 n14 Q15 cX0 ∧ d12 + 1 ≤ c.2.2.2.1 ∧ k13 ≤ k - k5 ∧ n14 ≤ n - n6 ∧ (∀ (r9 : Int32) (h10 : eH), Q15 r9 h10 → ((r9 = 0 → c.2.2.2.2 (.inl (some (.long (-9223372036854775808 : Int64)))) h10) ∧ (¬ r9 = 0 → ∃ fs8 : List Value, h10.1 a0 = some (.inr (0, fs8)) ∧ ∃ (d20 k21 n22 : Nat) (Q23 : Int32 → eH → Prop), cI c.1 c.2.1 c.2.2.1 d20 mX0_isSort [.ref a0, .int a3] h10 k21 n22 Q23 cX0 ∧ d20 + 1 ≤ c.2.2.2.1 ∧ k21 ≤ k - k5 - k13 ∧ n22 ≤ n - n6 - n14 ∧ (∀ (r17 : Int32) (h18 : eH), Q23 r17 h18 → ((¬ r17 = 0 → ∃ fs8 : List Value, h18.1 a0 = some (.inr (0, fs8)) ∧ ∃ (d28 k29 n30 : Nat) (Q31 : Int32 → eH → Prop), cI c.1 c.2.1 c.2.2.1 d28 mX0_sorts [.ref a0] h18 k29 n30 Q31 cX0 ∧ d28 + 1 ≤ c.2.2.2.1 ∧ k29 ≤ k - k5 - k13 - k21 ∧ n30 ≤ n - n6 - n14 - n22 ∧ (∀ (r25 : Int32) (h26 : eH), Q31 r25 h26 → (∃ N34 : Nat, r25 = nI N34 ∧ N34 ≤ 10000000 ∧ 1 ≤ k - k5 - k13 - k21 - k29 ∧ N34 ≤ n - n6 - n14 - n22 - n30 ∧ ∀ h32 : eH, h32 = eNw h26 (.inl (c.2.2.1.2.1 1, N34, .inr (.inl (fun _ => 0)))) → (h_X0_grows_51 c a0 a1 a2 a3 h26.2 (0 : Int32) h32 (k - k5 - k13 - k21 - k29 - 1) (n - n6 - n14 - n22 - n30 - N34))))) ∧ (r17 = 0 → c.2.2.2.2 (.inl (some (.long (-9223372036854775808 : Int64)))) h18)))))))))) : h_X0_grows_0 c a0 a1 a2 a3 h k n := by
  refine e_iload_n dX0_grows_0 rfl ?_
  refine e_i2l dX0_grows_1 ?_
  refine e_ldc2 dX0_grows_2 q2396 ?_
  refine e_ldc2 dX0_grows_5 q2397 ?_
  obtain ⟨d4, k5, n6, Q7, g3, g3d, g3k, g3n, H⟩ := H
  refine e_callS (As := [.long a1.toInt64, .long (-9 : Int64), .long (9 : Int64)]) g3 dX0_grows_8 wX0_isIn q1948 q1791 rfl g3d rfl (Nat.le_of_ble_eq_true rfl) (k1 := k - k5) (n1 := n - n6) (by omega) (by omega) ?_ ?_
  · rintro v h2 (⟨v9, e9, r1, e8, hq⟩ | ⟨ci9, q9, e9, -⟩)
    · cases e9
      subst e8
      replace H := H r1 h2 hq
      refine e_if_eq 36 dX0_grows_11 (by decide) (fun g8 => ?_) (fun g8 => ?_)
      · replace H := H.1 g8
        refine e_ldc2 dX0_grows_36 q2266 ?_
        exact e_lreturn dX0_grows_39 rfl H
      · replace H := H.2 g8
        refine e_iload_n dX0_grows_14 rfl ?_
        refine e_i2l dX0_grows_15 ?_
        refine e_ldc2 dX0_grows_16 q2398 ?_
        refine e_ldc2 dX0_grows_19 q2399 ?_
        obtain ⟨d12, k13, n14, Q15, g11, g11d, g11k, g11n, H⟩ := H
        refine e_callS (As := [.long a2.toInt64, .long (-999 : Int64), .long (999 : Int64)]) g11 dX0_grows_22 wX0_isIn q1948 q1791 rfl g11d rfl (Nat.le_of_ble_eq_true rfl) (k1 := k - k5 - k13) (n1 := n - n6 - n14) (by omega) (by omega) ?_ ?_
        · rintro v h10 (⟨v9, e9, r9, e8, hq⟩ | ⟨ci9, q9, e9, -⟩)
          · cases e9
            subst e8
            replace H := H r9 h10 hq
            refine e_if_eq 36 dX0_grows_25 (by decide) (fun g16 => ?_) (fun g16 => ?_)
            · replace H := H.1 g16
              refine e_ldc2 dX0_grows_36 q2266 ?_
              exact e_lreturn dX0_grows_39 rfl H
            · replace H := H.2 g16
              refine e_aload_n dX0_grows_28 rfl ?_
              refine e_iload_n dX0_grows_29 rfl ?_
              obtain ⟨fsg19, g19o, H⟩ := H
              obtain ⟨d20, k21, n22, Q23, g19, g19d, g19k, g19n, H⟩ := H
              refine e_callV (r := (RX0, TX0, 8)) (As := [.int a3]) g19 dX0_grows_30 wX0_isSort q2015 q2017 qs45 g19o rfl rfl g19d rfl (Nat.le_of_ble_eq_true rfl) (k1 := k - k5 - k13 - k21) (n1 := n - n6 - n14 - n22) (by omega) (by omega) ?_ ?_
              · rintro v h18 (⟨v9, e9, r17, e8, hq⟩ | ⟨ci9, q9, e9, -⟩)
                · cases e9
                  subst e8
                  replace H := H r17 h18 hq
                  refine e_if_ne 40 dX0_grows_33 (by decide) (fun g24 => ?_) (fun g24 => ?_)
                  · replace H := H.1 g24
                    refine e_aload_n dX0_grows_40 rfl ?_
                    obtain ⟨fsg27, g27o, H⟩ := H
                    obtain ⟨d28, k29, n30, Q31, g27, g27d, g27k, g27n, H⟩ := H
                    refine e_callV (r := (RX0, TX0, 8)) (As := []) g27 dX0_grows_41 wX0_sorts q1913 q1915 qs42 g27o rfl rfl g27d rfl (Nat.le_of_ble_eq_true rfl) (k1 := k - k5 - k13 - k21 - k29) (n1 := n - n6 - n14 - n22 - n30) (by omega) (by omega) ?_ ?_
                    · rintro v h26 (⟨v9, e9, r25, e8, hq⟩ | ⟨ci9, q9, e9, -⟩)
                      · cases e9
                        subst e8
                        replace H := H r25 h26 hq
                        obtain ⟨N34, g33i, g33b, g33, g33n, H⟩ := H
                        refine c_newarrayJ dX0_grows_44 q1234 g33i g33b g33 g33n ?_
                        replace H := H _ rfl
                        generalize eNw h26 _ = h32 at H ⊢
                        refine e_astore _ dX0_grows_46 (by decide) rfl rfl ?_
                        refine e_iconst (0) dX0_grows_48 (by decide) ?_
                        refine e_istore _ dX0_grows_49 (by decide) rfl rfl ?_
                        exact E.less2 H (eS_s (eS_s (eS_s (eS_s (eS_s (eS_s eS_0))))))
                      · cases e9
                    · rintro q9 h9 (⟨v9, e9, -⟩ | ⟨ci9, q8, e9, -, -, hx⟩)
                      · cases e9
                      · exact hx.elim
                  · replace H := H.2 g24
                    refine e_ldc2 dX0_grows_36 q2266 ?_
                    exact e_lreturn dX0_grows_39 rfl H
                · cases e9
              · rintro q9 h9 (⟨v9, e9, -⟩ | ⟨ci9, q8, e9, -, -, hx⟩)
                · cases e9
                · exact hx.elim
          · cases e9
        · rintro q9 h9 (⟨v9, e9, -⟩ | ⟨ci9, q8, e9, -, -, hx⟩)
          · cases e9
          · exact hx.elim
    · cases e9
  · rintro q9 h9 (⟨v9, e9, -⟩ | ⟨ci9, q8, e9, -, -, hx⟩)
    · cases e9
    · exact hx.elim
set_option maxHeartbeats 4000000 in
theorem s_X0_grows_51 (c : cC) (a0 : Nat) (a1 : Int32) (a2 : Int32) (a3 : Int32) (a4 : Nat) (a5 : Int32) (h : eH) (k n : Nat) (H : ∃ v1 : vp_A, h.1 a4 = some (.inl (c.2.2.1.2.1 1, v1)) ∧ (((nI v1.1) ≤ a5 → 1 ≤ k ∧ 2 ≤ n ∧ ∀ h4 : eH, h4 = eNw h (.inr (9, [.null, .null])) → (∃ x6 : Nat, fV h4 a0 0 4 (.ref x6) ∧ (∃ x8 : Option Nat, fV h4 x6 1 2 (va_rf x8) ∧ (∃ (d13 k14 n15 : Nat) (Q16 : eH → Prop) (X29 : Nat → Nat → eH → Prop), cV c.1 c.2.1 c.2.2.1 d13 mX9_init [.ref h.2, va_rf x8, .ref a4] h4 k14 n15 Q16 X29 ∧ d13 + 1 ≤ c.2.2.2.1 ∧ k14 ≤ k - 1 ∧ n15 ≤ n - 2 ∧ (∀ h11 : eH, Q16 h11 → (∃ x17 : Nat, fV h11 h.2 9 1 (.ref x17) ∧ (∃ fs8 : List Value, h11.1 a0 = some (.inr (0, fs8)) ∧ ∃ (d22 k23 n24 : Nat) (Q25 : eH → Prop), cV c.1 c.2.1 c.2.2.1 d22 mX0_becomes [.ref a0, .ref x17] h11 k23 n24 Q25 cX0 ∧ d22 + 1 ≤ c.2.2.2.1 ∧ k23 ≤ k - 1 - k14 ∧ n24 ≤ n - 2 - n15 ∧ (∀ h20 : eH, Q25 h20 → (∃ (N26 : Nat) (f27 : Nat → Int64), h20.1 a4 = some (.inl (c.2.2.1.2.1 1, N26, .inr (.inl f27))) ∧ vp_in a3 N26 ∧ (c.2.2.2.2 (.inl (some (.long (f27 a3.toNatClampNeg)))) h20)))))) ∧ (∀ (ci q : Nat) (h9 : eH), X29 ci q h9 → ci = 10) ∧ (∀ (q30 : Nat) (h31 : eH) (fs9 : List Value), X29 10 q30 h31 → h31.1 q30 = some (.inr (10, fs9)) → c.2.1 ≤ q30 → h_X0_grows_119 c q30 h31 (k - 1 - k14) (n - 2 - n15)))))) ∧ (¬ (nI v1.1) ≤ a5 → ∃ x32 : Nat, fV h a0 0 5 (.ref x32) ∧ (∃ (N34 : Nat) (f35 : Nat → Int64), h.1 x32 = some (.inl (c.2.2.1.2.1 1, N34, .inr (.inl f35))) ∧ vp_in a5 N34 ∧ ((¬ a5 = a3 → ∃ (N38 : Nat) (f39 : Nat → Int64), h.1 a4 = some (.inl (c.2.2.1.2.1 1, N38, .inr (.inl f39))) ∧ c.2.1 ≤ a4 ∧ vp_in a5 N38 ∧ ∀ h41 : eH, h41 = eUp h a4 (.inl (c.2.2.1.2.1 1, N38, .inr (.inl (va_up f39 a5.toNatClampNeg ((a1.toInt64 * (f35 a5.toNatClampNeg)) + ((0 : Int32).toInt64)))))) → (h_X0_grows_51 c a0 a1 a2 a3 a4 (a5 + 1) h41 k n)) ∧ (a5 = a3 → ∃ (N42 : Nat) (f43 : Nat → Int64), h.1 a4 = some (.inl (c.2.2.1.2.1 1, N42, .inr (.inl f43))) ∧ c.2.1 ≤ a4 ∧ vp_in a5 N42 ∧ ∀ h45 : eH, h45 = eUp h a4 (.inl (c.2.2.1.2.1 1, N42, .inr (.inl (va_up f43 a5.toNatClampNeg ((a1.toInt64 * (f35 a5.toNatClampNeg)) + a2.toInt64))))) → (h_X0_grows_51 c a0 a1 a2 a3 a4 (a5 + 1) h45 k n))))))) : h_X0_grows_51 c a0 a1 a2 a3 a4 a5 h k n := by
  refine e_iload dX0_grows_51 rfl ?_
  refine e_aload dX0_grows_53 rfl ?_
  obtain ⟨v1, g2, H⟩ := H
  refine e_alen (t := 1) dX0_grows_55 (fun _ => rfl) g2 ?_
  refine e_icmp_ge 93 dX0_grows_56 (by decide) (fun g3 => ?_) (fun g3 => ?_)
  · replace H := H.1 g3
    refine e_aload_n dX0_grows_93 rfl ?_
    obtain ⟨g5, g5n, H⟩ := H
    refine e_new (ci := 9) (N := 2) (C := RX9) (T := TX9) tyX9 (fs := [.null, .null]) dX0_grows_94 rfl in_X9 tyX9_ok q2260 q1780 q177 (by decide) (k1 := k - 1) (n1 := n - 2) (by omega) (by omega) ?_
    replace H := H _ rfl
    generalize eNw h _ = h4 at H ⊢
    refine e_dup dX0_grows_97 rfl ?_
    refine e_aload_n dX0_grows_98 rfl ?_
    obtain ⟨x6, ⟨fsx6, g7, g7v⟩, H⟩ := H
    refine e_get dX0_grows_99 fX0_4 q1239 g7 g7v ?_
    obtain ⟨x8, ⟨fsx8, g9, g9v⟩, H⟩ := H
    refine e_getN dX0_grows_102 fX1_2 q238 g9 g9v ?_
    refine e_aload dX0_grows_105 rfl ?_
    obtain ⟨d13, k14, n15, Q16, X29, g12, g12d, g12k, g12n, H, Hx, Hx10⟩ := H
    refine e_callI (As := [va_rf x8, .ref a4]) g12 dX0_grows_107 wX9_init rfl rfl rfl q2400 q1782 rfl g12d rfl (Nat.le_of_ble_eq_true rfl) (k1 := k - 1 - k14) (n1 := n - 2 - n15) (by omega) (by omega) ?_ ?_
    · rintro v h11 (⟨v9, e9, e8, hq⟩ | ⟨ci9, q9, e9, -⟩)
      · cases e9
        subst e8
        replace H := H h11 hq
        obtain ⟨x17, ⟨fsx17, g18, g18v⟩, H⟩ := H
        refine e_getN dX0_grows_110 fX9_1 q1818 g18 g18v ?_
        obtain ⟨fsg21, g21o, H⟩ := H
        obtain ⟨d22, k23, n24, Q25, g21, g21d, g21k, g21n, H⟩ := H
        refine e_callV (r := (RX0, TX0, 8)) (As := [.ref x17]) g21 dX0_grows_113 wX0_becomes q2317 q2319 qs51 g21o rfl rfl g21d rfl (Nat.le_of_ble_eq_true rfl) (k1 := k - 1 - k14 - k23) (n1 := n - 2 - n15 - n24) (by omega) (by omega) ?_ ?_
        · rintro v h20 (⟨v9, e9, e8, hq⟩ | ⟨ci9, q9, e9, -⟩)
          · cases e9
            subst e8
            replace H := H h20 hq
            refine e_goto 125 dX0_grows_116 (by decide) ?_
            refine e_aload dX0_grows_125 rfl ?_
            refine e_iload_n dX0_grows_127 rfl ?_
            obtain ⟨N26, f27, g28, g28i, H⟩ := H
            refine e_laload dX0_grows_128 g28 g28i ?_
            exact e_lreturn dX0_grows_129 rfl H
          · cases e9
        · rintro q9 h9 (⟨v9, e9, -⟩ | ⟨ci9, q8, e9, -, -, hx⟩)
          · cases e9
          · exact hx.elim
      · cases e9
    · rintro q9 h9 (⟨v9, e9, -⟩ | ⟨ci9, q8, e9, gl, ⟨fs9, gq⟩, hx⟩)
      · cases e9
      · cases e9
        rcases Hx ci9 q9 h9 hx with rfl
        · have H := Hx10 q9 h9 fs9 hx gq gl
          refine ex_catch (r := (RX10, TX10, 6)) [] (93, 116, 119, 223) [] rfl (by decide) (by decide) (fun z hz => absurd hz List.not_mem_nil) q2041 q1795 gq rfl gl ?_
          exact E.less2 H (eS_n (eS_n (eS_n (eS_n (eS_n (eS_n eS_0))))))
  · replace H := H.2 g3
    refine e_aload dX0_grows_59 rfl ?_
    refine e_iload dX0_grows_61 rfl ?_
    refine e_iload_n dX0_grows_63 rfl ?_
    refine e_i2l dX0_grows_64 ?_
    refine e_aload_n dX0_grows_65 rfl ?_
    obtain ⟨x32, ⟨fsx32, g33, g33v⟩, H⟩ := H
    refine e_get dX0_grows_66 fX0_5 q1240 g33 g33v ?_
    refine e_iload dX0_grows_69 rfl ?_
    obtain ⟨N34, f35, g36, g36i, H⟩ := H
    refine e_laload dX0_grows_71 g36 g36i ?_
    refine e_lmul dX0_grows_72 ?_
    refine e_iload dX0_grows_73 rfl ?_
    refine e_iload_n dX0_grows_75 rfl ?_
    refine e_icmp_ne 83 dX0_grows_76 (by decide) (fun g37 => ?_) (fun g37 => ?_)
    · replace H := H.1 g37
      refine e_iconst (0) dX0_grows_83 (by decide) ?_
      refine e_i2l dX0_grows_84 ?_
      refine e_ladd dX0_grows_85 ?_
      obtain ⟨N38, f39, g40, g40l, g40i, H⟩ := H
      refine e_lastore dX0_grows_86 g40 g40l g40i ?_
      replace H := H _ rfl
      generalize eUp h a4 _ = h41 at H ⊢
      refine e_iinc (a5 + 1) _ dX0_grows_87 rfl rfl (by decide) rfl rfl ?_
      refine e_goto 51 dX0_grows_90 (by decide) ?_
      exact E.less2 H (eS_s (eS_s (eS_s (eS_s (eS_s (eS_s eS_0))))))
    · replace H := H.2 g37
      refine e_iload_n dX0_grows_79 rfl ?_
      refine e_goto 84 dX0_grows_80 (by decide) ?_
      refine e_i2l dX0_grows_84 ?_
      refine e_ladd dX0_grows_85 ?_
      obtain ⟨N42, f43, g44, g44l, g44i, H⟩ := H
      refine e_lastore dX0_grows_86 g44 g44l g44i ?_
      replace H := H _ rfl
      generalize eUp h a4 _ = h45 at H ⊢
      refine e_iinc (a5 + 1) _ dX0_grows_87 rfl rfl (by decide) rfl rfl ?_
      refine e_goto 51 dX0_grows_90 (by decide) ?_
      exact E.less2 H (eS_s (eS_s (eS_s (eS_s (eS_s (eS_s eS_0))))))
set_option maxHeartbeats 4000000 in
theorem s_X0_grows_119 (c : cC) (b0 : Nat) (h : eH) (k n : Nat) (H : c.2.2.2.2 (.inl (some (.long (-9223372036854775808 : Int64)))) h) : h_X0_grows_119 c b0 h k n := by
  refine e_astore _ dX0_grows_119 (by decide) trivial rfl ?_
  refine e_ldc2 dX0_grows_121 q2266 ?_
  exact e_lreturn dX0_grows_124 rfl H
theorem en_X0_grows {l : Launch} {lo : Nat} {G : eG} {d : Nat} {P : eO → eH → Prop} (a0 : Nat) (a1 : Int32) (a2 : Int32) (a3 : Int32) {h : eH} {k n : Nat} (H : h_X0_grows_0 (l, lo, G, d, P) a0 a1 a2 a3 h k n) : Ct l lo G d mX0_grows [.ref a0, .int a1, .int a2, .int a3] h k n P := 
  Ct_of (eArL mX0_grows.2.2.2.1 [.ref a0, .int a1, .int a2, .int a3]) (by decide) rfl (Nat.le_of_ble_eq_true rfl) (fun j w q => eArL_mem j w q) (E.less2 H (eS_s (eS_s (eS_s (eS_s (eS_n (eS_n eS_0)))))))
/-! X0_undo TroupeSums.undo()I -/
def h_X0_undo_0 (c : cC) (a0 : Nat) (h : eH) (k n : Nat) : Prop := E c.1 c.2.1 c.2.2.1 c.2.2.2.1 mX0_undo c.2.2.2.2 0 [some (.ref a0)] [] h k n
set_option maxHeartbeats 4000000 in
theorem s_X0_undo_0 (c : cC) (a0 : Nat) (h : eH) (k n : Nat) (H : ∃ x1 : Nat, fV h a0 0 7 (.ref x1) ∧ (∃ fs8 : List Value, h.1 x1 = some (.inr (24, fs8)) ∧ ∃ (d6 k7 n8 : Nat) (Q9 : Int32 → eH → Prop), cI c.1 c.2.1 c.2.2.1 d6 mJ25_isEmpty [.ref x1] h k7 n8 Q9 cX0 ∧ d6 + 1 ≤ c.2.2.2.1 ∧ k7 ≤ k ∧ n8 ≤ n ∧ (∀ (r3 : Int32) (h4 : eH), Q9 r3 h4 → ((r3 = 0 → ∃ x11 : Nat, fV h4 a0 0 7 (.ref x11) ∧ (∃ fs8 : List Value, h4.1 x11 = some (.inr (24, fs8)) ∧ ∃ (d16 k17 n18 : Nat) (Q19 : Nat → eH → Prop), cR c.1 c.2.1 c.2.2.1 d16 mJ25_removeLast [.ref x11] h4 k17 n18 Q19 cX0 ∧ d16 + 1 ≤ c.2.2.2.1 ∧ k17 ≤ k - k7 ∧ n18 ≤ n - n8 ∧ (∀ (r13 : Nat) (h14 : eH), Q19 r13 h14 → (eCs c.2.2.1 h14 r13 "[J" ∧ (∃ fs21 : List Value, h14.1 a0 = some (.inr (0, fs21)) ∧ c.2.1 ≤ a0 ∧ 5 < fs21.length ∧ ∀ h23 : eH, h23 = eUp h14 a0 (.inr (0, fs21.set 5 (.ref r13))) → (∃ x24 : Nat, fV h23 a0 0 7 (.ref x24) ∧ (∃ fs8 : List Value, h23.1 x24 = some (.inr (24, fs8)) ∧ ∃ (d29 k30 n31 : Nat) (Q32 : Int32 → eH → Prop), cI c.1 c.2.1 c.2.2.1 d29 mJ25_size [.ref x24] h23 k30 n31 Q32 cX0 ∧ d29 + 1 ≤ c.2.2.2.1 ∧ k30 ≤ k - k7 - k17 ∧ n31 ≤ n - n8 - n18 ∧ (∀ (r26 : Int32) (h27 : eH), Q32 r26 h27 → (c.2.2.2.2 (.inl (some (.int r26))) h27))))))))) ∧ (¬ r3 = 0 → c.2.2.2.2 (.inl (some (.int (-1 : Int32)))) h4))))) : h_X0_undo_0 c a0 h k n := by
  refine e_aload_n dX0_undo_0 rfl ?_
  obtain ⟨x1, ⟨fsx1, g2, g2v⟩, H⟩ := H
  refine e_get dX0_undo_1 fX0_7 q1242 g2 g2v ?_
  obtain ⟨fsg5, g5o, H⟩ := H
  obtain ⟨d6, k7, n8, Q9, g5, g5d, g5k, g5n, H⟩ := H
  refine e_callV (r := (RJ25, TJ25, 3)) (As := []) g5 dX0_undo_4 wJ25_isEmpty q2405 q2406 q2407 g5o rfl rfl g5d rfl (Nat.le_of_ble_eq_true rfl) (k1 := k - k7) (n1 := n - n8) (by omega) (by omega) ?_ ?_
  · rintro v h4 (⟨v9, e9, r3, e8, hq⟩ | ⟨ci9, q9, e9, -⟩)
    · cases e9
      subst e8
      replace H := H r3 h4 hq
      refine e_if_eq 12 dX0_undo_7 (by decide) (fun g10 => ?_) (fun g10 => ?_)
      · replace H := H.1 g10
        refine e_aload_n dX0_undo_12 rfl ?_
        refine e_aload_n dX0_undo_13 rfl ?_
        obtain ⟨x11, ⟨fsx11, g12, g12v⟩, H⟩ := H
        refine e_get dX0_undo_14 fX0_7 q1242 g12 g12v ?_
        obtain ⟨fsg15, g15o, H⟩ := H
        obtain ⟨d16, k17, n18, Q19, g15, g15d, g15k, g15n, H⟩ := H
        refine e_callV (r := (RJ25, TJ25, 3)) (As := []) g15 dX0_undo_17 wJ25_removeLast q2409 q2410 q2411 g15o rfl rfl g15d rfl (Nat.le_of_ble_eq_true rfl) (k1 := k - k7 - k17) (n1 := n - n8 - n18) (by omega) (by omega) ?_ ?_
        · rintro v h14 (⟨v9, e9, r13, e8, hq⟩ | ⟨ci9, q9, e9, -⟩)
          · cases e9
            subst e8
            replace H := H r13 h14 hq
            obtain ⟨g20, H⟩ := H
            refine c_castR dX0_undo_20 q2316 g20 ?_
            obtain ⟨fs21, g22, g22l, g22j, H⟩ := H
            refine e_put dX0_undo_23 fX0_5 q1240 (eFit_ar _ _) g22 g22l g22j ?_
            replace H := H _ rfl
            generalize eUp h14 a0 _ = h23 at H ⊢
            refine e_aload_n dX0_undo_26 rfl ?_
            obtain ⟨x24, ⟨fsx24, g25, g25v⟩, H⟩ := H
            refine e_get dX0_undo_27 fX0_7 q1242 g25 g25v ?_
            obtain ⟨fsg28, g28o, H⟩ := H
            obtain ⟨d29, k30, n31, Q32, g28, g28d, g28k, g28n, H⟩ := H
            refine e_callV (r := (RJ25, TJ25, 3)) (As := []) g28 dX0_undo_30 wJ25_size q1939 q1136 q3179 g28o rfl rfl g28d rfl (Nat.le_of_ble_eq_true rfl) (k1 := k - k7 - k17 - k30) (n1 := n - n8 - n18 - n31) (by omega) (by omega) ?_ ?_
            · rintro v h27 (⟨v9, e9, r26, e8, hq⟩ | ⟨ci9, q9, e9, -⟩)
              · cases e9
                subst e8
                replace H := H r26 h27 hq
                exact e_ireturn .int dX0_undo_33 rfl rfl H
              · cases e9
            · rintro q9 h9 (⟨v9, e9, -⟩ | ⟨ci9, q8, e9, -, -, hx⟩)
              · cases e9
              · exact hx.elim
          · cases e9
        · rintro q9 h9 (⟨v9, e9, -⟩ | ⟨ci9, q8, e9, -, -, hx⟩)
          · cases e9
          · exact hx.elim
      · replace H := H.2 g10
        refine e_iconst (-1) dX0_undo_10 (by decide) ?_
        exact e_ireturn .int dX0_undo_11 rfl rfl H
    · cases e9
  · rintro q9 h9 (⟨v9, e9, -⟩ | ⟨ci9, q8, e9, -, -, hx⟩)
    · cases e9
    · exact hx.elim
theorem en_X0_undo {l : Launch} {lo : Nat} {G : eG} {d : Nat} {P : eO → eH → Prop} (a0 : Nat) {h : eH} {k n : Nat} (H : h_X0_undo_0 (l, lo, G, d, P) a0 h k n) : Ct l lo G d mX0_undo [.ref a0] h k n P := 
  Ct_of (eArL mX0_undo.2.2.2.1 [.ref a0]) (by decide) rfl (Nat.le_of_ble_eq_true rfl) (fun j w q => eArL_mem j w q) (E.less2 H (eS_s eS_0))
