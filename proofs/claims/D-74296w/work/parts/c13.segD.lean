/-! segments: J7_equals, J7_hashCode, J7_indexOf, J7_indexOf_2, J7_isLatin1, J7_coder, J7_length, J7_init, J7_init_2, J8_equals, J8_hashCode, J8_indexOf, J8_indexOfChar, J8_canEncode, J8_canEncode_2, J10_vectorizedHashCode, J10_signedHashCode, J21_copyOfRange, J21_copyOfRangeByte, J21_checkLength, J27_init, J27_append, J27_isLatin1, J27_ensureCapacityInternal, J27_getValue, J28_init, J28_append, J28_toString, J28_length, J30_init@X8, J30_init@X10, J30_init@X11, J30_init@X12, J29_init_2@X8, J29_init_2@X10, J29_init_2@X11, J29_init_2@X12 -/
/-! J7_equals java/lang/String.equals(Ljava/lang/Object;)Z -/
def h_J7_equals_0 (c : cC) (a0 : Nat) (a1 : Nat) (h : eH) (k n : Nat) : Prop := E c.1 c.2.1 c.2.2.1 c.2.2.2.1 mJ7_equals c.2.2.2.2 0 [some (.ref a0), some (.ref a1), none] [] h k n
def h_J7_equals_36 (c : cC) (a0 : Nat) (a2 : Nat) (h : eH) (k n : Nat) : Prop := E c.1 c.2.1 c.2.2.1 c.2.2.2.1 mJ7_equals c.2.2.2.2 36 [some (.ref a0), none, some (.ref a2)] [] h k n
set_option maxHeartbeats 4000000 in
theorem s_J7_equals_0 (c : cC) (a0 : Nat) (a1 : Nat) (h : eH) (k n : Nat) (H : (¬ some a0 = some a1 → eIs c.2.2.1 h a1 "java/lang/String" ∧ (((1 : Int32) = 0 → c.2.2.2.2 (.inl (some (.int (0 : Int32)))) h) ∧ (¬ (1 : Int32) = 0 → eCs c.2.2.1 h a1 "java/lang/String" ∧ (((1 : Int32) = 0 → h_J7_equals_36 c a0 a1 h k n) ∧ (¬ (1 : Int32) = 0 → ∃ x6 : Int32, fV h a0 18 1 (.int x6) ∧ (∃ x8 : Int32, fV h a1 18 1 (.int x8) ∧ ((¬ x6 = x8 → c.2.2.2.2 (.inl (some (.int (0 : Int32)))) h) ∧ (x6 = x8 → h_J7_equals_36 c a0 a1 h k n)))))))) ∧ (some a0 = some a1 → c.2.2.2.2 (.inl (some (.int (1 : Int32)))) h)) : h_J7_equals_0 c a0 a1 h k n := by
  refine e_aload_n dJ7_equals_0 rfl ?_
  refine e_aload_n dJ7_equals_1 rfl ?_
  refine e_acmp_ne (rx := some a0) (ry := some a1) 7 dJ7_equals_2 (by decide) (fun g1 => ?_) (fun g1 => ?_)
  · replace H := H.1 g1
    refine e_aload_n dJ7_equals_7 rfl ?_
    obtain ⟨g2, H⟩ := H
    refine e_instE dJ7_equals_8 q387 g2 ?_
    refine e_if_eq 54 dJ7_equals_11 (by decide) (fun g3 => ?_) (fun g3 => ?_)
    · replace H := H.1 g3
      refine e_iconst (0) dJ7_equals_54 (by decide) ?_
      exact e_ireturn .boolean dJ7_equals_55 rfl (by decide) H
    · replace H := H.2 g3
      refine e_aload_n dJ7_equals_14 rfl ?_
      obtain ⟨g4, H⟩ := H
      refine c_castR dJ7_equals_15 q387 g4 ?_
      refine e_astore_n _ dJ7_equals_18 (by decide) rfl rfl ?_
      refine e_gets (i := 0) dJ7_equals_19 rfl q396 ?_
      refine e_if_eq 36 dJ7_equals_22 (by decide) (fun g5 => ?_) (fun g5 => ?_)
      · replace H := H.1 g5
        exact E.less2 H (eS_s (eS_n (eS_s eS_0)))
      · replace H := H.2 g5
        refine e_aload_n dJ7_equals_25 rfl ?_
        obtain ⟨x6, ⟨fsx6, g7, g7v⟩, H⟩ := H
        refine e_get dJ7_equals_26 fJ7_1 q1547 g7 g7v ?_
        refine e_aload_n dJ7_equals_29 rfl ?_
        obtain ⟨x8, ⟨fsx8, g9, g9v⟩, H⟩ := H
        refine e_get dJ7_equals_30 fJ7_1 q1547 g9 g9v ?_
        refine e_icmp_ne 54 dJ7_equals_33 (by decide) (fun g10 => ?_) (fun g10 => ?_)
        · replace H := H.1 g10
          refine e_iconst (0) dJ7_equals_54 (by decide) ?_
          exact e_ireturn .boolean dJ7_equals_55 rfl (by decide) H
        · replace H := H.2 g10
          exact E.less2 H (eS_s (eS_n (eS_s eS_0)))
  · replace H := H.2 g1
    refine e_iconst (1) dJ7_equals_5 (by decide) ?_
    exact e_ireturn .boolean dJ7_equals_6 rfl (by decide) H
set_option maxHeartbeats 4000000 in
theorem s_J7_equals_36 (c : cC) (a0 : Nat) (a2 : Nat) (h : eH) (k n : Nat) (H : ∃ x1 : Nat, fV h a0 18 0 (.ref x1) ∧ (∃ x3 : Nat, fV h a2 18 0 (.ref x3) ∧ (∃ (d8 k9 n10 : Nat) (Q11 : Int32 → eH → Prop), cI c.1 c.2.1 c.2.2.1 d8 mJ8_equals [.ref x1, .ref x3] h k9 n10 Q11 cX0 ∧ d8 + 1 ≤ c.2.2.2.1 ∧ k9 ≤ k ∧ n10 ≤ n ∧ (∀ (r5 : Int32) (h6 : eH), Q11 r5 h6 → ((r5 = 0 → c.2.2.2.2 (.inl (some (.int (0 : Int32)))) h6) ∧ (¬ r5 = 0 → c.2.2.2.2 (.inl (some (.int (1 : Int32)))) h6)))))) : h_J7_equals_36 c a0 a2 h k n := by
  refine e_aload_n dJ7_equals_36 rfl ?_
  obtain ⟨x1, ⟨fsx1, g2, g2v⟩, H⟩ := H
  refine e_get dJ7_equals_37 fJ7_0 q1546 g2 g2v ?_
  refine e_aload_n dJ7_equals_40 rfl ?_
  obtain ⟨x3, ⟨fsx3, g4, g4v⟩, H⟩ := H
  refine e_get dJ7_equals_41 fJ7_0 q1546 g4 g4v ?_
  obtain ⟨d8, k9, n10, Q11, g7, g7d, g7k, g7n, H⟩ := H
  refine e_callS (As := [.ref x1, .ref x3]) g7 dJ7_equals_44 wJ8_equals q983 q984 rfl g7d rfl (Nat.le_of_ble_eq_true rfl) (k1 := k - k9) (n1 := n - n10) (by omega) (by omega) ?_ ?_
  · rintro v h6 (⟨v9, e9, r5, e8, hq⟩ | ⟨ci9, q9, e9, -⟩)
    · cases e9
      subst e8
      replace H := H r5 h6 hq
      refine e_if_eq 54 dJ7_equals_47 (by decide) (fun g12 => ?_) (fun g12 => ?_)
      · replace H := H.1 g12
        refine e_iconst (0) dJ7_equals_54 (by decide) ?_
        exact e_ireturn .boolean dJ7_equals_55 rfl (by decide) H
      · replace H := H.2 g12
        refine e_iconst (1) dJ7_equals_50 (by decide) ?_
        refine e_goto 55 dJ7_equals_51 (by decide) ?_
        exact e_ireturn .boolean dJ7_equals_55 rfl (by decide) H
    · cases e9
  · rintro q9 h9 (⟨v9, e9, -⟩ | ⟨ci9, q8, e9, -, -, hx⟩)
    · cases e9
    · exact hx.elim
theorem en_J7_equals {l : Launch} {lo : Nat} {G : eG} {d : Nat} {P : eO → eH → Prop} (a0 : Nat) (a1 : Nat) {h : eH} {k n : Nat} (H : h_J7_equals_0 (l, lo, G, d, P) a0 a1 h k n) : Ct l lo G d mJ7_equals [.ref a0, .ref a1] h k n P := 
  Ct_of (eArL mJ7_equals.2.2.2.1 [.ref a0, .ref a1]) (by decide) rfl (Nat.le_of_ble_eq_true rfl) (fun j w q => eArL_mem j w q) (E.less2 H (eS_s (eS_s (eS_n eS_0))))
/-! J7_hashCode java/lang/String.hashCode()I -/
def h_J7_hashCode_0 (c : cC) (a0 : Nat) (h : eH) (k n : Nat) : Prop := E c.1 c.2.1 c.2.2.1 c.2.2.2.1 mJ7_hashCode c.2.2.2.2 0 [some (.ref a0), none] [] h k n
set_option maxHeartbeats 4000000 in
theorem s_J7_hashCode_0 (c : cC) (a0 : Nat) (h : eH) (k n : Nat) (H : ∃ x1 : Int32, fV h a0 18 2 (.int x1) ∧ ((¬ x1 = 0 → c.2.2.2.2 (.inl (some (.int x1))) h) ∧ (x1 = 0 → ∃ x4 : Int32, fV h a0 18 3 (.int x4) ∧ ((¬ x4 = 0 → c.2.2.2.2 (.inl (some (.int x1))) h) ∧ (x4 = 0 → ∃ fs8 : List Value, h.1 a0 = some (.inr (18, fs8)) ∧ ∃ (d10 k11 n12 : Nat) (Q13 : Int32 → eH → Prop), cI c.1 c.2.1 c.2.2.1 d10 mJ7_isLatin1 [.ref a0] h k11 n12 Q13 cX0 ∧ d10 + 1 ≤ c.2.2.2.1 ∧ k11 ≤ k ∧ n12 ≤ n ∧ (∀ (r7 : Int32) (h8 : eH), Q13 r7 h8 → ((r7 = 0 → ∃ x15 : Nat, fV h8 a0 18 0 (.ref x15) ∧ (∃ (d20 k21 n22 : Nat) (Q23 : Int32 → eH → Prop), cI c.1 c.2.1 c.2.2.1 d20 mJ13_hashCode [.ref x15] h8 k21 n22 Q23 cX0 ∧ d20 + 1 ≤ c.2.2.2.1 ∧ k21 ≤ k - k11 ∧ n22 ≤ n - n12 ∧ (∀ (r17 : Int32) (h18 : eH), Q23 r17 h18 → ((¬ r17 = 0 → ∃ fs25 : List Value, h18.1 a0 = some (.inr (18, fs25)) ∧ c.2.1 ≤ a0 ∧ 2 < fs25.length ∧ ∀ h27 : eH, h27 = eUp h18 a0 (.inr (18, fs25.set 2 (.int r17))) → (c.2.2.2.2 (.inl (some (.int r17))) h27)) ∧ (r17 = 0 → ∃ fs28 : List Value, h18.1 a0 = some (.inr (18, fs28)) ∧ c.2.1 ≤ a0 ∧ 3 < fs28.length ∧ ∀ h30 : eH, h30 = eUp h18 a0 (.inr (18, fs28.set 3 (.int (1 : Int32)))) → (c.2.2.2.2 (.inl (some (.int r17))) h30)))))) ∧ (¬ r7 = 0 → ∃ x31 : Nat, fV h8 a0 18 0 (.ref x31) ∧ (∃ (d36 k37 n38 : Nat) (Q39 : Int32 → eH → Prop), cI c.1 c.2.1 c.2.2.1 d36 mJ8_hashCode [.ref x31] h8 k37 n38 Q39 cX0 ∧ d36 + 1 ≤ c.2.2.2.1 ∧ k37 ≤ k - k11 ∧ n38 ≤ n - n12 ∧ (∀ (r33 : Int32) (h34 : eH), Q39 r33 h34 → ((¬ r33 = 0 → ∃ fs41 : List Value, h34.1 a0 = some (.inr (18, fs41)) ∧ c.2.1 ≤ a0 ∧ 2 < fs41.length ∧ ∀ h43 : eH, h43 = eUp h34 a0 (.inr (18, fs41.set 2 (.int r33))) → (c.2.2.2.2 (.inl (some (.int r33))) h43)) ∧ (r33 = 0 → ∃ fs44 : List Value, h34.1 a0 = some (.inr (18, fs44)) ∧ c.2.1 ≤ a0 ∧ 3 < fs44.length ∧ ∀ h46 : eH, h46 = eUp h34 a0 (.inr (18, fs44.set 3 (.int (1 : Int32)))) → (c.2.2.2.2 (.inl (some (.int r33))) h46))))))))))))) : h_J7_hashCode_0 c a0 h k n := by
  refine e_aload_n dJ7_hashCode_0 rfl ?_
  obtain ⟨x1, ⟨fsx1, g2, g2v⟩, H⟩ := H
  refine e_get dJ7_hashCode_1 fJ7_2 q1548 g2 g2v ?_
  refine e_istore_n _ dJ7_hashCode_4 (by decide) rfl rfl ?_
  refine e_iload_n dJ7_hashCode_5 rfl ?_
  refine e_if_ne 58 dJ7_hashCode_6 (by decide) (fun g3 => ?_) (fun g3 => ?_)
  · replace H := H.1 g3
    refine e_iload_n dJ7_hashCode_58 rfl ?_
    exact e_ireturn .int dJ7_hashCode_59 rfl rfl H
  · replace H := H.2 g3
    refine e_aload_n dJ7_hashCode_9 rfl ?_
    obtain ⟨x4, ⟨fsx4, g5, g5v⟩, H⟩ := H
    refine e_get dJ7_hashCode_10 fJ7_3 q1549 g5 g5v ?_
    refine e_if_ne 58 dJ7_hashCode_13 (by decide) (fun g6 => ?_) (fun g6 => ?_)
    · replace H := H.1 g6
      refine e_iload_n dJ7_hashCode_58 rfl ?_
      exact e_ireturn .int dJ7_hashCode_59 rfl rfl H
    · replace H := H.2 g6
      refine e_aload_n dJ7_hashCode_16 rfl ?_
      obtain ⟨fsg9, g9o, H⟩ := H
      obtain ⟨d10, k11, n12, Q13, g9, g9d, g9k, g9n, H⟩ := H
      refine e_callV (r := (RJ7, TJ7, 4)) (As := []) g9 dJ7_hashCode_17 wJ7_isLatin1 q1312 q1313 q1314 g9o rfl rfl g9d rfl (Nat.le_of_ble_eq_true rfl) (k1 := k - k11) (n1 := n - n12) (by omega) (by omega) ?_ ?_
      · rintro v h8 (⟨v9, e9, r7, e8, hq⟩ | ⟨ci9, q9, e9, -⟩)
        · cases e9
          subst e8
          replace H := H r7 h8 hq
          refine e_if_eq 33 dJ7_hashCode_20 (by decide) (fun g14 => ?_) (fun g14 => ?_)
          · replace H := H.1 g14
            refine e_aload_n dJ7_hashCode_33 rfl ?_
            obtain ⟨x15, ⟨fsx15, g16, g16v⟩, H⟩ := H
            refine e_get dJ7_hashCode_34 fJ7_0 q1546 g16 g16v ?_
            obtain ⟨d20, k21, n22, Q23, g19, g19d, g19k, g19n, H⟩ := H
            refine e_callS (As := [.ref x15]) g19 dJ7_hashCode_37 wJ13_hashCode q1742 q1743 rfl g19d rfl (Nat.le_of_ble_eq_true rfl) (k1 := k - k11 - k21) (n1 := n - n12 - n22) (by omega) (by omega) ?_ ?_
            · rintro v h18 (⟨v9, e9, r17, e8, hq⟩ | ⟨ci9, q9, e9, -⟩)
              · cases e9
                subst e8
                replace H := H r17 h18 hq
                refine e_istore_n _ dJ7_hashCode_40 (by decide) rfl rfl ?_
                refine e_iload_n dJ7_hashCode_41 rfl ?_
                refine e_if_ne 53 dJ7_hashCode_42 (by decide) (fun g24 => ?_) (fun g24 => ?_)
                · replace H := H.1 g24
                  refine e_aload_n dJ7_hashCode_53 rfl ?_
                  refine e_iload_n dJ7_hashCode_54 rfl ?_
                  obtain ⟨fs25, g26, g26l, g26j, H⟩ := H
                  refine e_put dJ7_hashCode_55 fJ7_2 q1548 (eFit_i _) g26 g26l g26j ?_
                  replace H := H _ rfl
                  generalize eUp h18 a0 _ = h27 at H ⊢
                  refine e_iload_n dJ7_hashCode_58 rfl ?_
                  exact e_ireturn .int dJ7_hashCode_59 rfl rfl H
                · replace H := H.2 g24
                  refine e_aload_n dJ7_hashCode_45 rfl ?_
                  refine e_iconst (1) dJ7_hashCode_46 (by decide) ?_
                  obtain ⟨fs28, g29, g29l, g29j, H⟩ := H
                  refine e_put dJ7_hashCode_47 fJ7_3 q1549 eFit_z1 g29 g29l g29j ?_
                  replace H := H _ rfl
                  generalize eUp h18 a0 _ = h30 at H ⊢
                  refine e_goto 58 dJ7_hashCode_50 (by decide) ?_
                  refine e_iload_n dJ7_hashCode_58 rfl ?_
                  exact e_ireturn .int dJ7_hashCode_59 rfl rfl H
              · cases e9
            · rintro q9 h9 (⟨v9, e9, -⟩ | ⟨ci9, q8, e9, -, -, hx⟩)
              · cases e9
              · exact hx.elim
          · replace H := H.2 g14
            refine e_aload_n dJ7_hashCode_23 rfl ?_
            obtain ⟨x31, ⟨fsx31, g32, g32v⟩, H⟩ := H
            refine e_get dJ7_hashCode_24 fJ7_0 q1546 g32 g32v ?_
            obtain ⟨d36, k37, n38, Q39, g35, g35d, g35k, g35n, H⟩ := H
            refine e_callS (As := [.ref x31]) g35 dJ7_hashCode_27 wJ8_hashCode q1701 q1702 rfl g35d rfl (Nat.le_of_ble_eq_true rfl) (k1 := k - k11 - k37) (n1 := n - n12 - n38) (by omega) (by omega) ?_ ?_
            · rintro v h34 (⟨v9, e9, r33, e8, hq⟩ | ⟨ci9, q9, e9, -⟩)
              · cases e9
                subst e8
                replace H := H r33 h34 hq
                refine e_goto 40 dJ7_hashCode_30 (by decide) ?_
                refine e_istore_n _ dJ7_hashCode_40 (by decide) rfl rfl ?_
                refine e_iload_n dJ7_hashCode_41 rfl ?_
                refine e_if_ne 53 dJ7_hashCode_42 (by decide) (fun g40 => ?_) (fun g40 => ?_)
                · replace H := H.1 g40
                  refine e_aload_n dJ7_hashCode_53 rfl ?_
                  refine e_iload_n dJ7_hashCode_54 rfl ?_
                  obtain ⟨fs41, g42, g42l, g42j, H⟩ := H
                  refine e_put dJ7_hashCode_55 fJ7_2 q1548 (eFit_i _) g42 g42l g42j ?_
                  replace H := H _ rfl
                  generalize eUp h34 a0 _ = h43 at H ⊢
                  refine e_iload_n dJ7_hashCode_58 rfl ?_
                  exact e_ireturn .int dJ7_hashCode_59 rfl rfl H
                · replace H := H.2 g40
                  refine e_aload_n dJ7_hashCode_45 rfl ?_
                  refine e_iconst (1) dJ7_hashCode_46 (by decide) ?_
                  obtain ⟨fs44, g45, g45l, g45j, H⟩ := H
                  refine e_put dJ7_hashCode_47 fJ7_3 q1549 eFit_z1 g45 g45l g45j ?_
                  replace H := H _ rfl
                  generalize eUp h34 a0 _ = h46 at H ⊢
                  refine e_goto 58 dJ7_hashCode_50 (by decide) ?_
                  refine e_iload_n dJ7_hashCode_58 rfl ?_
                  exact e_ireturn .int dJ7_hashCode_59 rfl rfl H
              · cases e9
            · rintro q9 h9 (⟨v9, e9, -⟩ | ⟨ci9, q8, e9, -, -, hx⟩)
              · cases e9
              · exact hx.elim
        · cases e9
      · rintro q9 h9 (⟨v9, e9, -⟩ | ⟨ci9, q8, e9, -, -, hx⟩)
        · cases e9
        · exact hx.elim
theorem en_J7_hashCode {l : Launch} {lo : Nat} {G : eG} {d : Nat} {P : eO → eH → Prop} (a0 : Nat) {h : eH} {k n : Nat} (H : h_J7_hashCode_0 (l, lo, G, d, P) a0 h k n) : Ct l lo G d mJ7_hashCode [.ref a0] h k n P := 
  Ct_of (eArL mJ7_hashCode.2.2.2.1 [.ref a0]) (by decide) rfl (Nat.le_of_ble_eq_true rfl) (fun j w q => eArL_mem j w q) (E.less2 H (eS_s (eS_n eS_0)))
/-! J7_indexOf java/lang/String.indexOf(I)I -/
def h_J7_indexOf_0 (c : cC) (a0 : Nat) (a1 : Int32) (h : eH) (k n : Nat) : Prop := E c.1 c.2.1 c.2.2.1 c.2.2.2.1 mJ7_indexOf c.2.2.2.2 0 [some (.ref a0), some (.int a1)] [] h k n
set_option maxHeartbeats 4000000 in
theorem s_J7_indexOf_0 (c : cC) (a0 : Nat) (a1 : Int32) (h : eH) (k n : Nat) (H : ∃ fs8 : List Value, h.1 a0 = some (.inr (18, fs8)) ∧ ∃ (d4 k5 n6 : Nat) (Q7 : Int32 → eH → Prop), cI c.1 c.2.1 c.2.2.1 d4 mJ7_indexOf_2 [.ref a0, .int a1, .int (0 : Int32)] h k5 n6 Q7 cX0 ∧ d4 + 1 ≤ c.2.2.2.1 ∧ k5 ≤ k ∧ n6 ≤ n ∧ (∀ (r1 : Int32) (h2 : eH), Q7 r1 h2 → (c.2.2.2.2 (.inl (some (.int r1))) h2))) : h_J7_indexOf_0 c a0 a1 h k n := by
  refine e_aload_n dJ7_indexOf_0 rfl ?_
  refine e_iload_n dJ7_indexOf_1 rfl ?_
  refine e_iconst (0) dJ7_indexOf_2 (by decide) ?_
  obtain ⟨fsg3, g3o, H⟩ := H
  obtain ⟨d4, k5, n6, Q7, g3, g3d, g3k, g3n, H⟩ := H
  refine e_callV (r := (RJ7, TJ7, 4)) (As := [.int a1, .int (0 : Int32)]) g3 dJ7_indexOf_3 wJ7_indexOf_2 q1308 q1309 q1310 g3o rfl rfl g3d rfl (Nat.le_of_ble_eq_true rfl) (k1 := k - k5) (n1 := n - n6) (by omega) (by omega) ?_ ?_
  · rintro v h2 (⟨v9, e9, r1, e8, hq⟩ | ⟨ci9, q9, e9, -⟩)
    · cases e9
      subst e8
      replace H := H r1 h2 hq
      exact e_ireturn .int dJ7_indexOf_6 rfl rfl H
    · cases e9
  · rintro q9 h9 (⟨v9, e9, -⟩ | ⟨ci9, q8, e9, -, -, hx⟩)
    · cases e9
    · exact hx.elim
theorem en_J7_indexOf {l : Launch} {lo : Nat} {G : eG} {d : Nat} {P : eO → eH → Prop} (a0 : Nat) (a1 : Int32) {h : eH} {k n : Nat} (H : h_J7_indexOf_0 (l, lo, G, d, P) a0 a1 h k n) : Ct l lo G d mJ7_indexOf [.ref a0, .int a1] h k n P := 
  Ct_of (eArL mJ7_indexOf.2.2.2.1 [.ref a0, .int a1]) (by decide) rfl (Nat.le_of_ble_eq_true rfl) (fun j w q => eArL_mem j w q) (E.less2 H (eS_s (eS_s eS_0)))
/-! J7_indexOf_2 java/lang/String.indexOf(II)I -/
def h_J7_indexOf_2_0 (c : cC) (a0 : Nat) (a1 : Int32) (a2 : Int32) (h : eH) (k n : Nat) : Prop := E c.1 c.2.1 c.2.2.1 c.2.2.2.1 mJ7_indexOf_2 c.2.2.2.2 0 [some (.ref a0), some (.int a1), some (.int a2)] [] h k n
set_option maxHeartbeats 4000000 in
theorem s_J7_indexOf_2_0 (c : cC) (a0 : Nat) (a1 : Int32) (a2 : Int32) (h : eH) (k n : Nat) (H : ∃ fs8 : List Value, h.1 a0 = some (.inr (18, fs8)) ∧ ∃ (d4 k5 n6 : Nat) (Q7 : Int32 → eH → Prop), cI c.1 c.2.1 c.2.2.1 d4 mJ7_isLatin1 [.ref a0] h k5 n6 Q7 cX0 ∧ d4 + 1 ≤ c.2.2.2.1 ∧ k5 ≤ k ∧ n6 ≤ n ∧ (∀ (r1 : Int32) (h2 : eH), Q7 r1 h2 → ((r1 = 0 → ∃ x9 : Nat, fV h2 a0 18 0 (.ref x9) ∧ (∃ fs8 : List Value, h2.1 a0 = some (.inr (18, fs8)) ∧ ∃ (d14 k15 n16 : Nat) (Q17 : Int32 → eH → Prop), cI c.1 c.2.1 c.2.2.1 d14 mJ7_length [.ref a0] h2 k15 n16 Q17 cX0 ∧ d14 + 1 ≤ c.2.2.2.1 ∧ k15 ≤ k - k5 ∧ n16 ≤ n - n6 ∧ (∀ (r11 : Int32) (h12 : eH), Q17 r11 h12 → (∃ (d21 k22 n23 : Nat) (Q24 : Int32 → eH → Prop), cI c.1 c.2.1 c.2.2.1 d21 mJ13_indexOf [.ref x9, .int a1, .int a2, .int r11] h12 k22 n23 Q24 cX0 ∧ d21 + 1 ≤ c.2.2.2.1 ∧ k22 ≤ k - k5 - k15 ∧ n23 ≤ n - n6 - n16 ∧ (∀ (r18 : Int32) (h19 : eH), Q24 r18 h19 → (c.2.2.2.2 (.inl (some (.int r18))) h19)))))) ∧ (¬ r1 = 0 → ∃ x25 : Nat, fV h2 a0 18 0 (.ref x25) ∧ (∃ fs8 : List Value, h2.1 a0 = some (.inr (18, fs8)) ∧ ∃ (d30 k31 n32 : Nat) (Q33 : Int32 → eH → Prop), cI c.1 c.2.1 c.2.2.1 d30 mJ7_length [.ref a0] h2 k31 n32 Q33 cX0 ∧ d30 + 1 ≤ c.2.2.2.1 ∧ k31 ≤ k - k5 ∧ n32 ≤ n - n6 ∧ (∀ (r27 : Int32) (h28 : eH), Q33 r27 h28 → (∃ (d37 k38 n39 : Nat) (Q40 : Int32 → eH → Prop), cI c.1 c.2.1 c.2.2.1 d37 mJ8_indexOf [.ref x25, .int a1, .int a2, .int r27] h28 k38 n39 Q40 cX0 ∧ d37 + 1 ≤ c.2.2.2.1 ∧ k38 ≤ k - k5 - k31 ∧ n39 ≤ n - n6 - n32 ∧ (∀ (r34 : Int32) (h35 : eH), Q40 r34 h35 → (c.2.2.2.2 (.inl (some (.int r34))) h35))))))))) : h_J7_indexOf_2_0 c a0 a1 a2 h k n := by
  refine e_aload_n dJ7_indexOf_2_0 rfl ?_
  obtain ⟨fsg3, g3o, H⟩ := H
  obtain ⟨d4, k5, n6, Q7, g3, g3d, g3k, g3n, H⟩ := H
  refine e_callV (r := (RJ7, TJ7, 4)) (As := []) g3 dJ7_indexOf_2_1 wJ7_isLatin1 q1312 q1313 q1314 g3o rfl rfl g3d rfl (Nat.le_of_ble_eq_true rfl) (k1 := k - k5) (n1 := n - n6) (by omega) (by omega) ?_ ?_
  · rintro v h2 (⟨v9, e9, r1, e8, hq⟩ | ⟨ci9, q9, e9, -⟩)
    · cases e9
      subst e8
      replace H := H r1 h2 hq
      refine e_if_eq 23 dJ7_indexOf_2_4 (by decide) (fun g8 => ?_) (fun g8 => ?_)
      · replace H := H.1 g8
        refine e_aload_n dJ7_indexOf_2_23 rfl ?_
        obtain ⟨x9, ⟨fsx9, g10, g10v⟩, H⟩ := H
        refine e_get dJ7_indexOf_2_24 fJ7_0 q1546 g10 g10v ?_
        refine e_iload_n dJ7_indexOf_2_27 rfl ?_
        refine e_iload_n dJ7_indexOf_2_28 rfl ?_
        refine e_aload_n dJ7_indexOf_2_29 rfl ?_
        obtain ⟨fsg13, g13o, H⟩ := H
        obtain ⟨d14, k15, n16, Q17, g13, g13d, g13k, g13n, H⟩ := H
        refine e_callV (r := (RJ7, TJ7, 4)) (As := []) g13 dJ7_indexOf_2_30 wJ7_length q1316 q1317 q1318 g13o rfl rfl g13d rfl (Nat.le_of_ble_eq_true rfl) (k1 := k - k5 - k15) (n1 := n - n6 - n16) (by omega) (by omega) ?_ ?_
        · rintro v h12 (⟨v9, e9, r11, e8, hq⟩ | ⟨ci9, q9, e9, -⟩)
          · cases e9
            subst e8
            replace H := H r11 h12 hq
            obtain ⟨d21, k22, n23, Q24, g20, g20d, g20k, g20n, H⟩ := H
            refine e_callS (As := [.ref x9, .int a1, .int a2, .int r11]) g20 dJ7_indexOf_2_33 wJ13_indexOf q1330 q1331 rfl g20d rfl (Nat.le_of_ble_eq_true rfl) (k1 := k - k5 - k15 - k22) (n1 := n - n6 - n16 - n23) (by omega) (by omega) ?_ ?_
            · rintro v h19 (⟨v9, e9, r18, e8, hq⟩ | ⟨ci9, q9, e9, -⟩)
              · cases e9
                subst e8
                replace H := H r18 h19 hq
                exact e_ireturn .int dJ7_indexOf_2_36 rfl rfl H
              · cases e9
            · rintro q9 h9 (⟨v9, e9, -⟩ | ⟨ci9, q8, e9, -, -, hx⟩)
              · cases e9
              · exact hx.elim
          · cases e9
        · rintro q9 h9 (⟨v9, e9, -⟩ | ⟨ci9, q8, e9, -, -, hx⟩)
          · cases e9
          · exact hx.elim
      · replace H := H.2 g8
        refine e_aload_n dJ7_indexOf_2_7 rfl ?_
        obtain ⟨x25, ⟨fsx25, g26, g26v⟩, H⟩ := H
        refine e_get dJ7_indexOf_2_8 fJ7_0 q1546 g26 g26v ?_
        refine e_iload_n dJ7_indexOf_2_11 rfl ?_
        refine e_iload_n dJ7_indexOf_2_12 rfl ?_
        refine e_aload_n dJ7_indexOf_2_13 rfl ?_
        obtain ⟨fsg29, g29o, H⟩ := H
        obtain ⟨d30, k31, n32, Q33, g29, g29d, g29k, g29n, H⟩ := H
        refine e_callV (r := (RJ7, TJ7, 4)) (As := []) g29 dJ7_indexOf_2_14 wJ7_length q1316 q1317 q1318 g29o rfl rfl g29d rfl (Nat.le_of_ble_eq_true rfl) (k1 := k - k5 - k31) (n1 := n - n6 - n32) (by omega) (by omega) ?_ ?_
        · rintro v h28 (⟨v9, e9, r27, e8, hq⟩ | ⟨ci9, q9, e9, -⟩)
          · cases e9
            subst e8
            replace H := H r27 h28 hq
            obtain ⟨d37, k38, n39, Q40, g36, g36d, g36k, g36n, H⟩ := H
            refine e_callS (As := [.ref x25, .int a1, .int a2, .int r27]) g36 dJ7_indexOf_2_17 wJ8_indexOf q1320 q1321 rfl g36d rfl (Nat.le_of_ble_eq_true rfl) (k1 := k - k5 - k31 - k38) (n1 := n - n6 - n32 - n39) (by omega) (by omega) ?_ ?_
            · rintro v h35 (⟨v9, e9, r34, e8, hq⟩ | ⟨ci9, q9, e9, -⟩)
              · cases e9
                subst e8
                replace H := H r34 h35 hq
                refine e_goto 36 dJ7_indexOf_2_20 (by decide) ?_
                exact e_ireturn .int dJ7_indexOf_2_36 rfl rfl H
              · cases e9
            · rintro q9 h9 (⟨v9, e9, -⟩ | ⟨ci9, q8, e9, -, -, hx⟩)
              · cases e9
              · exact hx.elim
          · cases e9
        · rintro q9 h9 (⟨v9, e9, -⟩ | ⟨ci9, q8, e9, -, -, hx⟩)
          · cases e9
          · exact hx.elim
    · cases e9
  · rintro q9 h9 (⟨v9, e9, -⟩ | ⟨ci9, q8, e9, -, -, hx⟩)
    · cases e9
    · exact hx.elim
theorem en_J7_indexOf_2 {l : Launch} {lo : Nat} {G : eG} {d : Nat} {P : eO → eH → Prop} (a0 : Nat) (a1 : Int32) (a2 : Int32) {h : eH} {k n : Nat} (H : h_J7_indexOf_2_0 (l, lo, G, d, P) a0 a1 a2 h k n) : Ct l lo G d mJ7_indexOf_2 [.ref a0, .int a1, .int a2] h k n P := 
  Ct_of (eArL mJ7_indexOf_2.2.2.2.1 [.ref a0, .int a1, .int a2]) (by decide) rfl (Nat.le_of_ble_eq_true rfl) (fun j w q => eArL_mem j w q) (E.less2 H (eS_s (eS_s (eS_s eS_0))))
/-! J7_isLatin1 java/lang/String.isLatin1()Z -/
def h_J7_isLatin1_0 (c : cC) (a0 : Nat) (h : eH) (k n : Nat) : Prop := E c.1 c.2.1 c.2.2.1 c.2.2.2.1 mJ7_isLatin1 c.2.2.2.2 0 [some (.ref a0)] [] h k n
set_option maxHeartbeats 4000000 in
theorem s_J7_isLatin1_0 (c : cC) (a0 : Nat) (h : eH) (k n : Nat) (H : ((1 : Int32) = 0 → c.2.2.2.2 (.inl (some (.int (0 : Int32)))) h) ∧ (¬ (1 : Int32) = 0 → ∃ x2 : Int32, fV h a0 18 1 (.int x2) ∧ ((¬ x2 = 0 → c.2.2.2.2 (.inl (some (.int (0 : Int32)))) h) ∧ (x2 = 0 → c.2.2.2.2 (.inl (some (.int (1 : Int32)))) h)))) : h_J7_isLatin1_0 c a0 h k n := by
  refine e_gets (i := 0) dJ7_isLatin1_0 rfl q396 ?_
  refine e_if_eq 17 dJ7_isLatin1_3 (by decide) (fun g1 => ?_) (fun g1 => ?_)
  · replace H := H.1 g1
    refine e_iconst (0) dJ7_isLatin1_17 (by decide) ?_
    exact e_ireturn .boolean dJ7_isLatin1_18 rfl (by decide) H
  · replace H := H.2 g1
    refine e_aload_n dJ7_isLatin1_6 rfl ?_
    obtain ⟨x2, ⟨fsx2, g3, g3v⟩, H⟩ := H
    refine e_get dJ7_isLatin1_7 fJ7_1 q1547 g3 g3v ?_
    refine e_if_ne 17 dJ7_isLatin1_10 (by decide) (fun g4 => ?_) (fun g4 => ?_)
    · replace H := H.1 g4
      refine e_iconst (0) dJ7_isLatin1_17 (by decide) ?_
      exact e_ireturn .boolean dJ7_isLatin1_18 rfl (by decide) H
    · replace H := H.2 g4
      refine e_iconst (1) dJ7_isLatin1_13 (by decide) ?_
      refine e_goto 18 dJ7_isLatin1_14 (by decide) ?_
      exact e_ireturn .boolean dJ7_isLatin1_18 rfl (by decide) H
theorem en_J7_isLatin1 {l : Launch} {lo : Nat} {G : eG} {d : Nat} {P : eO → eH → Prop} (a0 : Nat) {h : eH} {k n : Nat} (H : h_J7_isLatin1_0 (l, lo, G, d, P) a0 h k n) : Ct l lo G d mJ7_isLatin1 [.ref a0] h k n P := 
  Ct_of (eArL mJ7_isLatin1.2.2.2.1 [.ref a0]) (by decide) rfl (Nat.le_of_ble_eq_true rfl) (fun j w q => eArL_mem j w q) (E.less2 H (eS_s eS_0))
/-! J7_coder java/lang/String.coder()B -/
def h_J7_coder_0 (c : cC) (a0 : Nat) (h : eH) (k n : Nat) : Prop := E c.1 c.2.1 c.2.2.1 c.2.2.2.1 mJ7_coder c.2.2.2.2 0 [some (.ref a0)] [] h k n
set_option maxHeartbeats 4000000 in
theorem s_J7_coder_0 (c : cC) (a0 : Nat) (h : eH) (k n : Nat) (H : ((1 : Int32) = 0 → c.2.2.2.2 (.inl (some (.int (1 : Int32)))) h) ∧ (¬ (1 : Int32) = 0 → ∃ x2 : Int32, fV h a0 18 1 (.int x2) ∧ (narrow .byte (.int x2) = .int x2 ∧ c.2.2.2.2 (.inl (some (.int x2))) h))) : h_J7_coder_0 c a0 h k n := by
  refine e_gets (i := 0) dJ7_coder_0 rfl q396 ?_
  refine e_if_eq 13 dJ7_coder_3 (by decide) (fun g1 => ?_) (fun g1 => ?_)
  · replace H := H.1 g1
    refine e_iconst (1) dJ7_coder_13 (by decide) ?_
    exact e_ireturn .byte dJ7_coder_14 rfl (by decide) H
  · replace H := H.2 g1
    refine e_aload_n dJ7_coder_6 rfl ?_
    obtain ⟨x2, ⟨fsx2, g3, g3v⟩, H⟩ := H
    refine e_get dJ7_coder_7 fJ7_1 q1547 g3 g3v ?_
    refine e_goto 14 dJ7_coder_10 (by decide) ?_
    exact e_ireturn .byte dJ7_coder_14 rfl H.1 H.2
theorem en_J7_coder {l : Launch} {lo : Nat} {G : eG} {d : Nat} {P : eO → eH → Prop} (a0 : Nat) {h : eH} {k n : Nat} (H : h_J7_coder_0 (l, lo, G, d, P) a0 h k n) : Ct l lo G d mJ7_coder [.ref a0] h k n P := 
  Ct_of (eArL mJ7_coder.2.2.2.1 [.ref a0]) (by decide) rfl (Nat.le_of_ble_eq_true rfl) (fun j w q => eArL_mem j w q) (E.less2 H (eS_s eS_0))
/-! J7_length java/lang/String.length()I -/
def h_J7_length_0 (c : cC) (a0 : Nat) (h : eH) (k n : Nat) : Prop := E c.1 c.2.1 c.2.2.1 c.2.2.2.1 mJ7_length c.2.2.2.2 0 [some (.ref a0)] [] h k n
set_option maxHeartbeats 4000000 in
theorem s_J7_length_0 (c : cC) (a0 : Nat) (h : eH) (k n : Nat) (H : ∃ x1 : Nat, fV h a0 18 0 (.ref x1) ∧ (∃ v3 : vp_A, h.1 x1 = some (.inl (c.2.2.1.2.1 2, v3)) ∧ (∃ fs8 : List Value, h.1 a0 = some (.inr (18, fs8)) ∧ ∃ (d8 k9 n10 : Nat) (Q11 : Int32 → eH → Prop), cI c.1 c.2.1 c.2.2.1 d8 mJ7_coder [.ref a0] h k9 n10 Q11 cX0 ∧ d8 + 1 ≤ c.2.2.2.1 ∧ k9 ≤ k ∧ n10 ≤ n ∧ (∀ (r5 : Int32) (h6 : eH), Q11 r5 h6 → (c.2.2.2.2 (.inl (some (.int ((nI v3.1) >>> (r5 &&& 31))))) h6))))) : h_J7_length_0 c a0 h k n := by
  refine e_aload_n dJ7_length_0 rfl ?_
  obtain ⟨x1, ⟨fsx1, g2, g2v⟩, H⟩ := H
  refine e_get dJ7_length_1 fJ7_0 q1546 g2 g2v ?_
  obtain ⟨v3, g4, H⟩ := H
  refine e_alen (t := 2) dJ7_length_4 (fun _ => rfl) g4 ?_
  refine e_aload_n dJ7_length_5 rfl ?_
  obtain ⟨fsg7, g7o, H⟩ := H
  obtain ⟨d8, k9, n10, Q11, g7, g7d, g7k, g7n, H⟩ := H
  refine e_callV (r := (RJ7, TJ7, 4)) (As := []) g7 dJ7_length_6 wJ7_coder q392 q393 q394 g7o rfl rfl g7d rfl (Nat.le_of_ble_eq_true rfl) (k1 := k - k9) (n1 := n - n10) (by omega) (by omega) ?_ ?_
  · rintro v h6 (⟨v9, e9, r5, e8, hq⟩ | ⟨ci9, q9, e9, -⟩)
    · cases e9
      subst e8
      replace H := H r5 h6 hq
      refine e_ishr dJ7_length_9 ?_
      exact e_ireturn .int dJ7_length_10 rfl rfl H
    · cases e9
  · rintro q9 h9 (⟨v9, e9, -⟩ | ⟨ci9, q8, e9, -, -, hx⟩)
    · cases e9
    · exact hx.elim
theorem en_J7_length {l : Launch} {lo : Nat} {G : eG} {d : Nat} {P : eO → eH → Prop} (a0 : Nat) {h : eH} {k n : Nat} (H : h_J7_length_0 (l, lo, G, d, P) a0 h k n) : Ct l lo G d mJ7_length [.ref a0] h k n P := 
  Ct_of (eArL mJ7_length.2.2.2.1 [.ref a0]) (by decide) rfl (Nat.le_of_ble_eq_true rfl) (fun j w q => eArL_mem j w q) (E.less2 H (eS_s eS_0))
/-! J7_init java/lang/String.<init>(Ljava/lang/StringBuilder;)V -/
def h_J7_init_0 (c : cC) (a0 : Nat) (a1 : Nat) (h : eH) (k n : Nat) : Prop := E c.1 c.2.1 c.2.2.1 c.2.2.2.1 mJ7_init c.2.2.2.2 0 [some (.ref a0), some (.ref a1)] [] h k n
set_option maxHeartbeats 4000000 in
theorem s_J7_init_0 (c : cC) (a0 : Nat) (a1 : Nat) (h : eH) (k n : Nat) (H : ∃ (d4 k5 n6 : Nat) (Q7 : eH → Prop), cV c.1 c.2.1 c.2.2.1 d4 mJ7_init_2 [.ref a0, .ref a1, .null] h k5 n6 Q7 cX0 ∧ d4 + 1 ≤ c.2.2.2.1 ∧ k5 ≤ k ∧ n6 ≤ n ∧ (∀ h2 : eH, Q7 h2 → (c.2.2.2.2 (.inl none) h2))) : h_J7_init_0 c a0 a1 h k n := by
  refine e_aload_n dJ7_init_0 rfl ?_
  refine e_aload_n dJ7_init_1 rfl ?_
  refine e_null dJ7_init_2 ?_
  obtain ⟨d4, k5, n6, Q7, g3, g3d, g3k, g3n, H⟩ := H
  refine e_callI (As := [.ref a1, .null]) g3 dJ7_init_3 wJ7_init_2 rfl rfl rfl q1509 q1510 rfl g3d rfl (Nat.le_of_ble_eq_true rfl) (k1 := k - k5) (n1 := n - n6) (by omega) (by omega) ?_ ?_
  · rintro v h2 (⟨v9, e9, e8, hq⟩ | ⟨ci9, q9, e9, -⟩)
    · cases e9
      subst e8
      replace H := H h2 hq
      exact e_return dJ7_init_6 rfl H
    · cases e9
  · rintro q9 h9 (⟨v9, e9, -⟩ | ⟨ci9, q8, e9, -, -, hx⟩)
    · cases e9
    · exact hx.elim
theorem en_J7_init {l : Launch} {lo : Nat} {G : eG} {d : Nat} {P : eO → eH → Prop} (a0 : Nat) (a1 : Nat) {h : eH} {k n : Nat} (H : h_J7_init_0 (l, lo, G, d, P) a0 a1 h k n) : Ct l lo G d mJ7_init [.ref a0, .ref a1] h k n P := 
  Ct_of (eArL mJ7_init.2.2.2.1 [.ref a0, .ref a1]) (by decide) rfl (Nat.le_of_ble_eq_true rfl) (fun j w q => eArL_mem j w q) (E.less2 H (eS_s (eS_s eS_0)))
/-! J7_init_2 java/lang/String.<init>(Ljava/lang/AbstractStringBuilder;Ljava/lang/Void;)V -/
def h_J7_init_2_0 (c : cC) (a0 : Nat) (a1 : Nat) (h : eH) (k n : Nat) : Prop := E c.1 c.2.1 c.2.2.1 c.2.2.2.1 mJ7_init_2 c.2.2.2.2 0 [some (.ref a0), some (.ref a1), none, none, none] [] h k n
def h_J7_init_2_79 (c : cC) (a0 : Nat) (a3 : Nat) (a4 : Int32) (h : eH) (k n : Nat) : Prop := E c.1 c.2.1 c.2.2.1 c.2.2.2.1 mJ7_init_2 c.2.2.2.2 79 [some (.ref a0), none, none, some (.ref a3), some (.int a4)] [] h k n
set_option maxHeartbeats 4000000 in
theorem s_J7_init_2_0 (c : cC) (a0 : Nat) (a1 : Nat) (h : eH) (k n : Nat) (H : 1 ≤ c.2.2.2.1 ∧ (∃ fs8 : List Value, h.1 a1 = some (.inr (25, fs8)) ∧ ∃ (d5 k6 n7 : Nat) (Q8 : Nat → eH → Prop), cR c.1 c.2.1 c.2.2.1 d5 mJ27_getValue [.ref a1] h k6 n7 Q8 cX0 ∧ d5 + 1 ≤ c.2.2.2.1 ∧ k6 ≤ k ∧ n7 ≤ n ∧ (∀ (r2 : Nat) (h3 : eH), Q8 r2 h3 → (∃ fs8 : List Value, h3.1 a1 = some (.inr (25, fs8)) ∧ ∃ (d12 k13 n14 : Nat) (Q15 : Int32 → eH → Prop), cI c.1 c.2.1 c.2.2.1 d12 mJ28_length [.ref a1] h3 k13 n14 Q15 cX0 ∧ d12 + 1 ≤ c.2.2.2.1 ∧ k13 ≤ k - k6 ∧ n14 ≤ n - n7 ∧ (∀ (r9 : Int32) (h10 : eH), Q15 r9 h10 → (∃ fs8 : List Value, h10.1 a1 = some (.inr (25, fs8)) ∧ ∃ (d19 k20 n21 : Nat) (Q22 : Int32 → eH → Prop), cI c.1 c.2.1 c.2.2.1 d19 mJ27_isLatin1 [.ref a1] h10 k20 n21 Q22 cX0 ∧ d19 + 1 ≤ c.2.2.2.1 ∧ k20 ≤ k - k6 - k13 ∧ n21 ≤ n - n7 - n14 ∧ (∀ (r16 : Int32) (h17 : eH), Q22 r16 h17 → ((r16 = 0 → ((1 : Int32) = 0 → h_J7_init_2_79 c a0 r2 r9 h17 (k - k6 - k13 - k20) (n - n7 - n14 - n21)) ∧ (¬ (1 : Int32) = 0 → ∃ x25 : Int32, fV h17 a1 25 2 (.int x25) ∧ ((x25 = 0 → h_J7_init_2_79 c a0 r2 r9 h17 (k - k6 - k13 - k20) (n - n7 - n14 - n21)) ∧ (¬ x25 = 0 → ∃ (d31 k32 n33 : Nat) (Q34 : Nat → eH → Prop), cR c.1 c.2.1 c.2.2.1 d31 mJ13_compress [.ref r2, .int (0 : Int32), .int r9] h17 k32 n33 Q34 cX0 ∧ d31 + 1 ≤ c.2.2.2.1 ∧ k32 ≤ k - k6 - k13 - k20 ∧ n33 ≤ n - n7 - n14 - n21 ∧ (∀ (r28 : Nat) (h29 : eH), Q34 r28 h29 → (∃ fs35 : List Value, h29.1 a0 = some (.inr (18, fs35)) ∧ c.2.1 ≤ a0 ∧ 0 < fs35.length ∧ ∀ h37 : eH, h37 = eUp h29 a0 (.inr (18, fs35.set 0 (.ref r28))) → (∃ x38 : Nat, fV h37 a0 18 0 (.ref x38) ∧ (∃ (d43 k44 n45 : Nat) (Q46 : Int32 → eH → Prop), cI c.1 c.2.1 c.2.2.1 d43 mJ13_coderFromArrayLen [.ref x38, .int r9] h37 k44 n45 Q46 cX0 ∧ d43 + 1 ≤ c.2.2.2.1 ∧ k44 ≤ k - k6 - k13 - k20 - k32 ∧ n45 ≤ n - n7 - n14 - n21 - n33 ∧ (∀ (r40 : Int32) (h41 : eH), Q46 r40 h41 → (eFit .byte (.int r40) ∧ ∃ fs47 : List Value, h41.1 a0 = some (.inr (18, fs47)) ∧ c.2.1 ≤ a0 ∧ 1 < fs47.length ∧ ∀ h49 : eH, h49 = eUp h41 a0 (.inr (18, fs47.set 1 (.int r40))) → (c.2.2.2.2 (.inl none) h49))))))))))) ∧ (¬ r16 = 0 → eFit .byte (.int (0 : Int32)) ∧ ∃ fs50 : List Value, h17.1 a0 = some (.inr (18, fs50)) ∧ c.2.1 ≤ a0 ∧ 1 < fs50.length ∧ ∀ h52 : eH, h52 = eUp h17 a0 (.inr (18, fs50.set 1 (.int (0 : Int32)))) → (∃ (d56 k57 n58 : Nat) (Q59 : Nat → eH → Prop), cR c.1 c.2.1 c.2.2.1 d56 mJ21_copyOfRange [.ref r2, .int (0 : Int32), .int r9] h52 k57 n58 Q59 cX0 ∧ d56 + 1 ≤ c.2.2.2.1 ∧ k57 ≤ k - k6 - k13 - k20 ∧ n58 ≤ n - n7 - n14 - n21 ∧ (∀ (r53 : Nat) (h54 : eH), Q59 r53 h54 → (∃ fs60 : List Value, h54.1 a0 = some (.inr (18, fs60)) ∧ c.2.1 ≤ a0 ∧ 0 < fs60.length ∧ ∀ h62 : eH, h62 = eUp h54 a0 (.inr (18, fs60.set 0 (.ref r53))) → (c.2.2.2.2 (.inl none) h62))))))))))))) : h_J7_init_2_0 c a0 a1 h k n := by
  refine e_aload_n dJ7_init_2_0 rfl ?_
  obtain ⟨g1, H⟩ := H
  refine e_objInit dJ7_init_2_1 q1512 q192 q193 g1 (Nat.le_of_ble_eq_true rfl) ?_
  refine e_aload_n dJ7_init_2_4 rfl ?_
  obtain ⟨fsg4, g4o, H⟩ := H
  obtain ⟨d5, k6, n7, Q8, g4, g4d, g4k, g4n, H⟩ := H
  refine e_callV (r := (RJ28, TJ28, 4)) (As := []) g4 dJ7_init_2_5 wJ27_getValue q1513 q1514 q1516 g4o rfl rfl g4d rfl (Nat.le_of_ble_eq_true rfl) (k1 := k - k6) (n1 := n - n7) (by omega) (by omega) ?_ ?_
  · rintro v h3 (⟨v9, e9, r2, e8, hq⟩ | ⟨ci9, q9, e9, -⟩)
    · cases e9
      subst e8
      replace H := H r2 h3 hq
      refine e_astore_n _ dJ7_init_2_8 (by decide) trivial rfl ?_
      refine e_aload_n dJ7_init_2_9 rfl ?_
      obtain ⟨fsg11, g11o, H⟩ := H
      obtain ⟨d12, k13, n14, Q15, g11, g11d, g11k, g11n, H⟩ := H
      refine e_callO (owner := "java/lang/AbstractStringBuilder") (r := (RJ28, TJ28, 4)) (As := []) g11 dJ7_init_2_10 wJ28_length rfl q1518 q1520 (by decide) (Or.inr ⟨q1519, _, _, _, q1525⟩) q1522 q1521 g11o rfl rfl g11d rfl (Nat.le_of_ble_eq_true rfl) (k1 := k - k6 - k13) (n1 := n - n7 - n14) (by omega) (by omega) ?_ ?_
      · rintro v h10 (⟨v9, e9, r9, e8, hq⟩ | ⟨ci9, q9, e9, -⟩)
        · cases e9
          subst e8
          replace H := H r9 h10 hq
          refine e_istore _ dJ7_init_2_13 (by decide) rfl rfl ?_
          refine e_aload_n dJ7_init_2_15 rfl ?_
          obtain ⟨fsg18, g18o, H⟩ := H
          obtain ⟨d19, k20, n21, Q22, g18, g18d, g18k, g18n, H⟩ := H
          refine e_callV (r := (RJ28, TJ28, 4)) (As := []) g18 dJ7_init_2_16 wJ27_isLatin1 q1526 q564 q566 g18o rfl rfl g18d rfl (Nat.le_of_ble_eq_true rfl) (k1 := k - k6 - k13 - k20) (n1 := n - n7 - n14 - n21) (by omega) (by omega) ?_ ?_
          · rintro v h17 (⟨v9, e9, r16, e8, hq⟩ | ⟨ci9, q9, e9, -⟩)
            · cases e9
              subst e8
              replace H := H r16 h17 hq
              refine e_if_eq 41 dJ7_init_2_19 (by decide) (fun g23 => ?_) (fun g23 => ?_)
              · replace H := H.1 g23
                refine e_gets (i := 0) dJ7_init_2_41 rfl q396 ?_
                refine e_if_eq 79 dJ7_init_2_44 (by decide) (fun g24 => ?_) (fun g24 => ?_)
                · replace H := H.1 g24
                  exact E.less2 H (eS_s (eS_n (eS_n (eS_s (eS_s eS_0)))))
                · replace H := H.2 g24
                  refine e_aload_n dJ7_init_2_47 rfl ?_
                  obtain ⟨x25, ⟨fsx25, g26, g26v⟩, H⟩ := H
                  refine e_get dJ7_init_2_48 fJ28_2 q1428 g26 g26v ?_
                  refine e_if_eq 79 dJ7_init_2_51 (by decide) (fun g27 => ?_) (fun g27 => ?_)
                  · replace H := H.1 g27
                    exact E.less2 H (eS_s (eS_n (eS_n (eS_s (eS_s eS_0)))))
                  · replace H := H.2 g27
                    refine e_aload_n dJ7_init_2_54 rfl ?_
                    refine e_aload_n dJ7_init_2_55 rfl ?_
                    refine e_iconst (0) dJ7_init_2_56 (by decide) ?_
                    refine e_iload dJ7_init_2_57 rfl ?_
                    obtain ⟨d31, k32, n33, Q34, g30, g30d, g30k, g30n, H⟩ := H
                    refine e_callS (As := [.ref r2, .int (0 : Int32), .int r9]) g30 dJ7_init_2_59 wJ13_compress q1536 q1537 rfl g30d rfl (Nat.le_of_ble_eq_true rfl) (k1 := k - k6 - k13 - k20 - k32) (n1 := n - n7 - n14 - n21 - n33) (by omega) (by omega) ?_ ?_
                    · rintro v h29 (⟨v9, e9, r28, e8, hq⟩ | ⟨ci9, q9, e9, -⟩)
                      · cases e9
                        subst e8
                        replace H := H r28 h29 hq
                        obtain ⟨fs35, g36, g36l, g36j, H⟩ := H
                        refine e_putF dJ7_init_2_62 fJ7_0 q1546 rfl rfl (eFit_ar _ _) g36 g36l g36j ?_
                        replace H := H _ rfl
                        generalize eUp h29 a0 _ = h37 at H ⊢
                        refine e_aload_n dJ7_init_2_65 rfl ?_
                        refine e_aload_n dJ7_init_2_66 rfl ?_
                        obtain ⟨x38, ⟨fsx38, g39, g39v⟩, H⟩ := H
                        refine e_get dJ7_init_2_67 fJ7_0 q1546 g39 g39v ?_
                        refine e_iload dJ7_init_2_70 rfl ?_
                        obtain ⟨d43, k44, n45, Q46, g42, g42d, g42k, g42n, H⟩ := H
                        refine e_callS (As := [.ref x38, .int r9]) g42 dJ7_init_2_72 wJ13_coderFromArrayLen q1543 q1544 rfl g42d rfl (Nat.le_of_ble_eq_true rfl) (k1 := k - k6 - k13 - k20 - k32 - k44) (n1 := n - n7 - n14 - n21 - n33 - n45) (by omega) (by omega) ?_ ?_
                        · rintro v h41 (⟨v9, e9, r40, e8, hq⟩ | ⟨ci9, q9, e9, -⟩)
                          · cases e9
                            subst e8
                            replace H := H r40 h41 hq
                            obtain ⟨g48f, H⟩ := H
                            obtain ⟨fs47, g48, g48l, g48j, H⟩ := H
                            refine e_putF dJ7_init_2_75 fJ7_1 q1547 rfl rfl g48f g48 g48l g48j ?_
                            replace H := H _ rfl
                            generalize eUp h41 a0 _ = h49 at H ⊢
                            exact e_return dJ7_init_2_78 rfl H
                          · cases e9
                        · rintro q9 h9 (⟨v9, e9, -⟩ | ⟨ci9, q8, e9, -, -, hx⟩)
                          · cases e9
                          · exact hx.elim
                      · cases e9
                    · rintro q9 h9 (⟨v9, e9, -⟩ | ⟨ci9, q8, e9, -, -, hx⟩)
                      · cases e9
                      · exact hx.elim
              · replace H := H.2 g23
                refine e_aload_n dJ7_init_2_22 rfl ?_
                refine e_iconst (0) dJ7_init_2_23 (by decide) ?_
                obtain ⟨g51f, H⟩ := H
                obtain ⟨fs50, g51, g51l, g51j, H⟩ := H
                refine e_putF dJ7_init_2_24 fJ7_1 q1547 rfl rfl g51f g51 g51l g51j ?_
                replace H := H _ rfl
                generalize eUp h17 a0 _ = h52 at H ⊢
                refine e_aload_n dJ7_init_2_27 rfl ?_
                refine e_aload_n dJ7_init_2_28 rfl ?_
                refine e_iconst (0) dJ7_init_2_29 (by decide) ?_
                refine e_iload dJ7_init_2_30 rfl ?_
                obtain ⟨d56, k57, n58, Q59, g55, g55d, g55k, g55n, H⟩ := H
                refine e_callS (As := [.ref r2, .int (0 : Int32), .int r9]) g55 dJ7_init_2_32 wJ21_copyOfRange q1527 q1528 rfl g55d rfl (Nat.le_of_ble_eq_true rfl) (k1 := k - k6 - k13 - k20 - k57) (n1 := n - n7 - n14 - n21 - n58) (by omega) (by omega) ?_ ?_
                · rintro v h54 (⟨v9, e9, r53, e8, hq⟩ | ⟨ci9, q9, e9, -⟩)
                  · cases e9
                    subst e8
                    replace H := H r53 h54 hq
                    obtain ⟨fs60, g61, g61l, g61j, H⟩ := H
                    refine e_putF dJ7_init_2_35 fJ7_0 q1546 rfl rfl (eFit_ar _ _) g61 g61l g61j ?_
                    replace H := H _ rfl
                    generalize eUp h54 a0 _ = h62 at H ⊢
                    refine e_goto 97 dJ7_init_2_38 (by decide) ?_
                    exact e_return dJ7_init_2_97 rfl H
                  · cases e9
                · rintro q9 h9 (⟨v9, e9, -⟩ | ⟨ci9, q8, e9, -, -, hx⟩)
                  · cases e9
                  · exact hx.elim
            · cases e9
          · rintro q9 h9 (⟨v9, e9, -⟩ | ⟨ci9, q8, e9, -, -, hx⟩)
            · cases e9
            · exact hx.elim
        · cases e9
      · rintro q9 h9 (⟨v9, e9, -⟩ | ⟨ci9, q8, e9, -, -, hx⟩)
        · cases e9
        · exact hx.elim
    · cases e9
  · rintro q9 h9 (⟨v9, e9, -⟩ | ⟨ci9, q8, e9, -, -, hx⟩)
    · cases e9
    · exact hx.elim
set_option maxHeartbeats 4000000 in
theorem s_J7_init_2_79 (c : cC) (a0 : Nat) (a3 : Nat) (a4 : Int32) (h : eH) (k n : Nat) (H : eFit .byte (.int (1 : Int32)) ∧ ∃ fs1 : List Value, h.1 a0 = some (.inr (18, fs1)) ∧ c.2.1 ≤ a0 ∧ 1 < fs1.length ∧ ∀ h3 : eH, h3 = eUp h a0 (.inr (18, fs1.set 1 (.int (1 : Int32)))) → (∃ (d7 k8 n9 : Nat) (Q10 : Nat → eH → Prop), cR c.1 c.2.1 c.2.2.1 d7 mJ21_copyOfRange [.ref a3, .int (0 : Int32), .int (a4 <<< ((1 : Int32) &&& 31))] h3 k8 n9 Q10 cX0 ∧ d7 + 1 ≤ c.2.2.2.1 ∧ k8 ≤ k ∧ n9 ≤ n ∧ (∀ (r4 : Nat) (h5 : eH), Q10 r4 h5 → (∃ fs11 : List Value, h5.1 a0 = some (.inr (18, fs11)) ∧ c.2.1 ≤ a0 ∧ 0 < fs11.length ∧ ∀ h13 : eH, h13 = eUp h5 a0 (.inr (18, fs11.set 0 (.ref r4))) → (c.2.2.2.2 (.inl none) h13))))) : h_J7_init_2_79 c a0 a3 a4 h k n := by
  refine e_aload_n dJ7_init_2_79 rfl ?_
  refine e_iconst (1) dJ7_init_2_80 (by decide) ?_
  obtain ⟨g2f, H⟩ := H
  obtain ⟨fs1, g2, g2l, g2j, H⟩ := H
  refine e_putF dJ7_init_2_81 fJ7_1 q1547 rfl rfl g2f g2 g2l g2j ?_
  replace H := H _ rfl
  generalize eUp h a0 _ = h3 at H ⊢
  refine e_aload_n dJ7_init_2_84 rfl ?_
  refine e_aload_n dJ7_init_2_85 rfl ?_
  refine e_iconst (0) dJ7_init_2_86 (by decide) ?_
  refine e_iload dJ7_init_2_87 rfl ?_
  refine e_iconst (1) dJ7_init_2_89 (by decide) ?_
  refine e_ishl dJ7_init_2_90 ?_
  obtain ⟨d7, k8, n9, Q10, g6, g6d, g6k, g6n, H⟩ := H
  refine e_callS (As := [.ref a3, .int (0 : Int32), .int (a4 <<< ((1 : Int32) &&& 31))]) g6 dJ7_init_2_91 wJ21_copyOfRange q1527 q1528 rfl g6d rfl (Nat.le_of_ble_eq_true rfl) (k1 := k - k8) (n1 := n - n9) (by omega) (by omega) ?_ ?_
  · rintro v h5 (⟨v9, e9, r4, e8, hq⟩ | ⟨ci9, q9, e9, -⟩)
    · cases e9
      subst e8
      replace H := H r4 h5 hq
      obtain ⟨fs11, g12, g12l, g12j, H⟩ := H
      refine e_putF dJ7_init_2_94 fJ7_0 q1546 rfl rfl (eFit_ar _ _) g12 g12l g12j ?_
      replace H := H _ rfl
      generalize eUp h5 a0 _ = h13 at H ⊢
      exact e_return dJ7_init_2_97 rfl H
    · cases e9
  · rintro q9 h9 (⟨v9, e9, -⟩ | ⟨ci9, q8, e9, -, -, hx⟩)
    · cases e9
    · exact hx.elim
theorem en_J7_init_2 {l : Launch} {lo : Nat} {G : eG} {d : Nat} {P : eO → eH → Prop} (a0 : Nat) (a1 : Nat) (a2 : Nat) {h : eH} {k n : Nat} (H : h_J7_init_2_0 (l, lo, G, d, P) a0 a1 h k n) : Ct l lo G d mJ7_init_2 [.ref a0, .ref a1, .ref a2] h k n P := 
  Ct_of (eArL mJ7_init_2.2.2.2.1 [.ref a0, .ref a1, .ref a2]) (by decide) rfl (Nat.le_of_ble_eq_true rfl) (fun j w q => eArL_mem j w q) (E.less2 H (eS_s (eS_s (eS_n (eS_n (eS_n eS_0))))))
/-! J8_equals java/lang/StringLatin1.equals([B[B)Z -/
def h_J8_equals_0 (c : cC) (a0 : Nat) (a1 : Nat) (h : eH) (k n : Nat) : Prop := E c.1 c.2.1 c.2.2.1 c.2.2.2.1 mJ8_equals c.2.2.2.2 0 [some (.ref a0), some (.ref a1), none] [] h k n
def h_J8_equals_9 (c : cC) (a0 : Nat) (a1 : Nat) (a2 : Int32) (h : eH) (k n : Nat) : Prop := E c.1 c.2.1 c.2.2.1 c.2.2.2.1 mJ8_equals c.2.2.2.2 9 [some (.ref a0), some (.ref a1), some (.int a2)] [] h k n
set_option maxHeartbeats 4000000 in
theorem s_J8_equals_0 (c : cC) (a0 : Nat) (a1 : Nat) (h : eH) (k n : Nat) (H : ∃ v1 : vp_A, h.1 a0 = some (.inl (c.2.2.1.2.1 2, v1)) ∧ (∃ v3 : vp_A, h.1 a1 = some (.inl (c.2.2.1.2.1 2, v3)) ∧ ((¬ (nI v1.1) = (nI v3.1) → c.2.2.2.2 (.inl (some (.int (0 : Int32)))) h) ∧ ((nI v1.1) = (nI v3.1) → h_J8_equals_9 c a0 a1 (0 : Int32) h k n)))) : h_J8_equals_0 c a0 a1 h k n := by
  refine e_aload_n dJ8_equals_0 rfl ?_
  obtain ⟨v1, g2, H⟩ := H
  refine e_alen (t := 2) dJ8_equals_1 (fun _ => rfl) g2 ?_
  refine e_aload_n dJ8_equals_2 rfl ?_
  obtain ⟨v3, g4, H⟩ := H
  refine e_alen (t := 2) dJ8_equals_3 (fun _ => rfl) g4 ?_
  refine e_icmp_ne 34 dJ8_equals_4 (by decide) (fun g5 => ?_) (fun g5 => ?_)
  · replace H := H.1 g5
    refine e_iconst (0) dJ8_equals_34 (by decide) ?_
    exact e_ireturn .boolean dJ8_equals_35 rfl (by decide) H
  · replace H := H.2 g5
    refine e_iconst (0) dJ8_equals_7 (by decide) ?_
    refine e_istore_n _ dJ8_equals_8 (by decide) rfl rfl ?_
    exact E.less2 H (eS_s (eS_s (eS_s eS_0)))
set_option maxHeartbeats 4000000 in
theorem s_J8_equals_9 (c : cC) (a0 : Nat) (a1 : Nat) (a2 : Int32) (h : eH) (k n : Nat) (H : ∃ v1 : vp_A, h.1 a0 = some (.inl (c.2.2.1.2.1 2, v1)) ∧ (((nI v1.1) ≤ a2 → c.2.2.2.2 (.inl (some (.int (1 : Int32)))) h) ∧ (¬ (nI v1.1) ≤ a2 → ∃ (N4 : Nat) (f5 : Nat → Int32), h.1 a0 = some (.inl (c.2.2.1.2.1 2, N4, .inl f5)) ∧ vp_in a2 N4 ∧ (∃ (N7 : Nat) (f8 : Nat → Int32), h.1 a1 = some (.inl (c.2.2.1.2.1 2, N7, .inl f8)) ∧ vp_in a2 N7 ∧ (((f5 a2.toNatClampNeg) = (f8 a2.toNatClampNeg) → h_J8_equals_9 c a0 a1 (a2 + 1) h k n) ∧ (¬ (f5 a2.toNatClampNeg) = (f8 a2.toNatClampNeg) → c.2.2.2.2 (.inl (some (.int (0 : Int32)))) h)))))) : h_J8_equals_9 c a0 a1 a2 h k n := by
  refine e_iload_n dJ8_equals_9 rfl ?_
  refine e_aload_n dJ8_equals_10 rfl ?_
  obtain ⟨v1, g2, H⟩ := H
  refine e_alen (t := 2) dJ8_equals_11 (fun _ => rfl) g2 ?_
  refine e_icmp_ge 32 dJ8_equals_12 (by decide) (fun g3 => ?_) (fun g3 => ?_)
  · replace H := H.1 g3
    refine e_iconst (1) dJ8_equals_32 (by decide) ?_
    exact e_ireturn .boolean dJ8_equals_33 rfl (by decide) H
  · replace H := H.2 g3
    refine e_aload_n dJ8_equals_15 rfl ?_
    refine e_iload_n dJ8_equals_16 rfl ?_
    obtain ⟨N4, f5, g6, g6i, H⟩ := H
    refine e_baload dJ8_equals_17 g6 g6i ?_
    refine e_aload_n dJ8_equals_18 rfl ?_
    refine e_iload_n dJ8_equals_19 rfl ?_
    obtain ⟨N7, f8, g9, g9i, H⟩ := H
    refine e_baload dJ8_equals_20 g9 g9i ?_
    refine e_icmp_eq 26 dJ8_equals_21 (by decide) (fun g10 => ?_) (fun g10 => ?_)
    · replace H := H.1 g10
      refine e_iinc (a2 + 1) _ dJ8_equals_26 rfl rfl (by decide) rfl rfl ?_
      refine e_goto 9 dJ8_equals_29 (by decide) ?_
      exact E.less2 H (eS_s (eS_s (eS_s eS_0)))
    · replace H := H.2 g10
      refine e_iconst (0) dJ8_equals_24 (by decide) ?_
      exact e_ireturn .boolean dJ8_equals_25 rfl (by decide) H
theorem en_J8_equals {l : Launch} {lo : Nat} {G : eG} {d : Nat} {P : eO → eH → Prop} (a0 : Nat) (a1 : Nat) {h : eH} {k n : Nat} (H : h_J8_equals_0 (l, lo, G, d, P) a0 a1 h k n) : Ct l lo G d mJ8_equals [.ref a0, .ref a1] h k n P := 
  Ct_of (eArL mJ8_equals.2.2.2.1 [.ref a0, .ref a1]) (by decide) rfl (Nat.le_of_ble_eq_true rfl) (fun j w q => eArL_mem j w q) (E.less2 H (eS_s (eS_s (eS_n eS_0))))
/-! J8_hashCode java/lang/StringLatin1.hashCode([B)I -/
def h_J8_hashCode_0 (c : cC) (a0 : Nat) (h : eH) (k n : Nat) : Prop := E c.1 c.2.1 c.2.2.1 c.2.2.2.1 mJ8_hashCode c.2.2.2.2 0 [some (.ref a0)] [] h k n
set_option maxHeartbeats 4000000 in
theorem s_J8_hashCode_0 (c : cC) (a0 : Nat) (h : eH) (k n : Nat) (H : ∃ v1 : vp_A, h.1 a0 = some (.inl (c.2.2.1.2.1 2, v1)) ∧ (((nI v1.1) = (0 : Int32) → c.2.2.2.2 (.inl (some (.int (0 : Int32)))) h) ∧ ((nI v1.1) = (1 : Int32) → ∃ (N5 : Nat) (f6 : Nat → Int32), h.1 a0 = some (.inl (c.2.2.1.2.1 2, N5, .inl f6)) ∧ vp_in (0 : Int32) N5 ∧ (c.2.2.2.2 (.inl (some (.int ((f6 (0 : Int32).toNatClampNeg) &&& (255 : Int32))))) h)) ∧ (¬ (nI v1.1) = (0 : Int32) → ¬ (nI v1.1) = (1 : Int32) → ∃ v8 : vp_A, h.1 a0 = some (.inl (c.2.2.1.2.1 2, v8)) ∧ (∃ (d13 k14 n15 : Nat) (Q16 : Int32 → eH → Prop), cI c.1 c.2.1 c.2.2.1 d13 mJ10_vectorizedHashCode [.ref a0, .int (0 : Int32), .int (nI v8.1), .int (0 : Int32), .int (4 : Int32)] h k14 n15 Q16 cX0 ∧ d13 + 1 ≤ c.2.2.2.1 ∧ k14 ≤ k ∧ n15 ≤ n ∧ (∀ (r10 : Int32) (h11 : eH), Q16 r10 h11 → (c.2.2.2.2 (.inl (some (.int r10))) h11)))))) : h_J8_hashCode_0 c a0 h k n := by
  refine e_aload_n dJ8_hashCode_0 rfl ?_
  obtain ⟨v1, g2, H⟩ := H
  refine e_alen (t := 2) dJ8_hashCode_1 (fun _ => rfl) g2 ?_
  by_cases g3 : (nI v1.1) = (0 : Int32)
  · replace H := H.1 g3
    refine e_lookup (off := 26) 28 dJ8_hashCode_2 (by decide) (by rw [g3]; decide) (by decide) ?_
    refine e_iconst (0) dJ8_hashCode_28 (by decide) ?_
    refine e_goto 51 dJ8_hashCode_29 (by decide) ?_
    exact e_ireturn .int dJ8_hashCode_51 rfl rfl H
  · replace H := H.2
    by_cases g4 : (nI v1.1) = (1 : Int32)
    · replace H := H.1 g4
      refine e_lookup (off := 30) 32 dJ8_hashCode_2 (by decide) (by rw [g4]; decide) (by decide) ?_
      refine e_aload_n dJ8_hashCode_32 rfl ?_
      refine e_iconst (0) dJ8_hashCode_33 (by decide) ?_
      obtain ⟨N5, f6, g7, g7i, H⟩ := H
      refine e_baload dJ8_hashCode_34 g7 g7i ?_
      refine e_sipush (255) dJ8_hashCode_35 (by decide) ?_
      refine e_iand dJ8_hashCode_38 ?_
      refine e_goto 51 dJ8_hashCode_39 (by decide) ?_
      exact e_ireturn .int dJ8_hashCode_51 rfl rfl H
    · replace H := H.2
      replace H := H g3
      replace H := H g4
      refine e_lookup (off := 40) 42 dJ8_hashCode_2 (by decide) ((lv_osw g3 (by decide)).trans ((lv_osw g4 (by decide)).trans rfl)) (by decide) ?_
      refine e_aload_n dJ8_hashCode_42 rfl ?_
      refine e_iconst (0) dJ8_hashCode_43 (by decide) ?_
      refine e_aload_n dJ8_hashCode_44 rfl ?_
      obtain ⟨v8, g9, H⟩ := H
      refine e_alen (t := 2) dJ8_hashCode_45 (fun _ => rfl) g9 ?_
      refine e_iconst (0) dJ8_hashCode_46 (by decide) ?_
      refine e_iconst (4) dJ8_hashCode_47 (by decide) ?_
      obtain ⟨d13, k14, n15, Q16, g12, g12d, g12k, g12n, H⟩ := H
      refine e_callS (As := [.ref a0, .int (0 : Int32), .int (nI v8.1), .int (0 : Int32), .int (4 : Int32)]) g12 dJ8_hashCode_48 wJ10_vectorizedHashCode q1704 q1705 rfl g12d rfl (Nat.le_of_ble_eq_true rfl) (k1 := k - k14) (n1 := n - n15) (by omega) (by omega) ?_ ?_
      · rintro v h11 (⟨v9, e9, r10, e8, hq⟩ | ⟨ci9, q9, e9, -⟩)
        · cases e9
          subst e8
          replace H := H r10 h11 hq
          exact e_ireturn .int dJ8_hashCode_51 rfl rfl H
        · cases e9
      · rintro q9 h9 (⟨v9, e9, -⟩ | ⟨ci9, q8, e9, -, -, hx⟩)
        · cases e9
        · exact hx.elim
theorem en_J8_hashCode {l : Launch} {lo : Nat} {G : eG} {d : Nat} {P : eO → eH → Prop} (a0 : Nat) {h : eH} {k n : Nat} (H : h_J8_hashCode_0 (l, lo, G, d, P) a0 h k n) : Ct l lo G d mJ8_hashCode [.ref a0] h k n P := 
  Ct_of (eArL mJ8_hashCode.2.2.2.1 [.ref a0]) (by decide) rfl (Nat.le_of_ble_eq_true rfl) (fun j w q => eArL_mem j w q) (E.less2 H (eS_s eS_0))
/-! J8_indexOf java/lang/StringLatin1.indexOf([BIII)I -/
def h_J8_indexOf_0 (c : cC) (a0 : Nat) (a1 : Int32) (a2 : Int32) (a3 : Int32) (h : eH) (k n : Nat) : Prop := E c.1 c.2.1 c.2.2.1 c.2.2.2.1 mJ8_indexOf c.2.2.2.2 0 [some (.ref a0), some (.int a1), some (.int a2), some (.int a3)] [] h k n
set_option maxHeartbeats 4000000 in
theorem s_J8_indexOf_0 (c : cC) (a0 : Nat) (a1 : Int32) (a2 : Int32) (a3 : Int32) (h : eH) (k n : Nat) (H : ∃ (d4 k5 n6 : Nat) (Q7 : Int32 → eH → Prop), cI c.1 c.2.1 c.2.2.1 d4 mJ8_canEncode [.int a1] h k5 n6 Q7 cX0 ∧ d4 + 1 ≤ c.2.2.2.1 ∧ k5 ≤ k ∧ n6 ≤ n ∧ (∀ (r1 : Int32) (h2 : eH), Q7 r1 h2 → ((¬ r1 = 0 → 1 ≤ c.2.2.2.1 ∧ (∃ v10 : vp_A, h2.1 a0 = some (.inl (c.2.2.1.2.1 2, v10)) ∧ (1 ≤ c.2.2.2.1 ∧ (((if a2 < (0 : Int32) then (0 : Int32) else a2) < (if (nI v10.1) < a3 then (nI v10.1) else a3) → ∃ (d17 k18 n19 : Nat) (Q20 : Int32 → eH → Prop), cI c.1 c.2.1 c.2.2.1 d17 mJ8_indexOfChar [.ref a0, .int a1, .int (if a2 < (0 : Int32) then (0 : Int32) else a2), .int (if (nI v10.1) < a3 then (nI v10.1) else a3)] h2 k18 n19 Q20 cX0 ∧ d17 + 1 ≤ c.2.2.2.1 ∧ k18 ≤ k - k5 ∧ n19 ≤ n - n6 ∧ (∀ (r14 : Int32) (h15 : eH), Q20 r14 h15 → (c.2.2.2.2 (.inl (some (.int r14))) h15))) ∧ (¬ (if a2 < (0 : Int32) then (0 : Int32) else a2) < (if (nI v10.1) < a3 then (nI v10.1) else a3) → c.2.2.2.2 (.inl (some (.int (-1 : Int32)))) h2))))) ∧ (r1 = 0 → c.2.2.2.2 (.inl (some (.int (-1 : Int32)))) h2)))) : h_J8_indexOf_0 c a0 a1 a2 a3 h k n := by
  refine e_iload_n dJ8_indexOf_0 rfl ?_
  obtain ⟨d4, k5, n6, Q7, g3, g3d, g3k, g3n, H⟩ := H
  refine e_callS (As := [.int a1]) g3 dJ8_indexOf_1 wJ8_canEncode q1323 q1324 rfl g3d rfl (Nat.le_of_ble_eq_true rfl) (k1 := k - k5) (n1 := n - n6) (by omega) (by omega) ?_ ?_
  · rintro v h2 (⟨v9, e9, r1, e8, hq⟩ | ⟨ci9, q9, e9, -⟩)
    · cases e9
      subst e8
      replace H := H r1 h2 hq
      refine e_if_ne 9 dJ8_indexOf_4 (by decide) (fun g8 => ?_) (fun g8 => ?_)
      · replace H := H.1 g8
        refine e_iload_n dJ8_indexOf_9 rfl ?_
        refine e_iconst (0) dJ8_indexOf_10 (by decide) ?_
        obtain ⟨g9, H⟩ := H
        refine e_mmax dJ8_indexOf_11 q1326 g9 (Nat.le_of_ble_eq_true rfl) ?_
        refine e_istore_n _ dJ8_indexOf_14 (by decide) rfl rfl ?_
        refine e_iload_n dJ8_indexOf_15 rfl ?_
        refine e_aload_n dJ8_indexOf_16 rfl ?_
        obtain ⟨v10, g11, H⟩ := H
        refine e_alen (t := 2) dJ8_indexOf_17 (fun _ => rfl) g11 ?_
        obtain ⟨g12, H⟩ := H
        refine e_mmin dJ8_indexOf_18 q404 g12 (Nat.le_of_ble_eq_true rfl) ?_
        refine e_istore_n _ dJ8_indexOf_21 (by decide) rfl rfl ?_
        refine e_iload_n dJ8_indexOf_22 rfl ?_
        refine e_iload_n dJ8_indexOf_23 rfl ?_
        refine e_icmp_lt 29 dJ8_indexOf_24 (by decide) (fun g13 => ?_) (fun g13 => ?_)
        · replace H := H.1 g13
          refine e_aload_n dJ8_indexOf_29 rfl ?_
          refine e_iload_n dJ8_indexOf_30 rfl ?_
          refine e_iload_n dJ8_indexOf_31 rfl ?_
          refine e_iload_n dJ8_indexOf_32 rfl ?_
          obtain ⟨d17, k18, n19, Q20, g16, g16d, g16k, g16n, H⟩ := H
          refine e_callS (As := [.ref a0, .int a1, .int (if a2 < (0 : Int32) then (0 : Int32) else a2), .int (if (nI v10.1) < a3 then (nI v10.1) else a3)]) g16 dJ8_indexOf_33 wJ8_indexOfChar q1327 q1328 rfl g16d rfl (Nat.le_of_ble_eq_true rfl) (k1 := k - k5 - k18) (n1 := n - n6 - n19) (by omega) (by omega) ?_ ?_
          · rintro v h15 (⟨v9, e9, r14, e8, hq⟩ | ⟨ci9, q9, e9, -⟩)
            · cases e9
              subst e8
              replace H := H r14 h15 hq
              exact e_ireturn .int dJ8_indexOf_36 rfl rfl H
            · cases e9
          · rintro q9 h9 (⟨v9, e9, -⟩ | ⟨ci9, q8, e9, -, -, hx⟩)
            · cases e9
            · exact hx.elim
        · replace H := H.2 g13
          refine e_iconst (-1) dJ8_indexOf_27 (by decide) ?_
          exact e_ireturn .int dJ8_indexOf_28 rfl rfl H
      · replace H := H.2 g8
        refine e_iconst (-1) dJ8_indexOf_7 (by decide) ?_
        exact e_ireturn .int dJ8_indexOf_8 rfl rfl H
    · cases e9
  · rintro q9 h9 (⟨v9, e9, -⟩ | ⟨ci9, q8, e9, -, -, hx⟩)
    · cases e9
    · exact hx.elim
theorem en_J8_indexOf {l : Launch} {lo : Nat} {G : eG} {d : Nat} {P : eO → eH → Prop} (a0 : Nat) (a1 : Int32) (a2 : Int32) (a3 : Int32) {h : eH} {k n : Nat} (H : h_J8_indexOf_0 (l, lo, G, d, P) a0 a1 a2 a3 h k n) : Ct l lo G d mJ8_indexOf [.ref a0, .int a1, .int a2, .int a3] h k n P := 
  Ct_of (eArL mJ8_indexOf.2.2.2.1 [.ref a0, .int a1, .int a2, .int a3]) (by decide) rfl (Nat.le_of_ble_eq_true rfl) (fun j w q => eArL_mem j w q) (E.less2 H (eS_s (eS_s (eS_s (eS_s eS_0)))))
/-! J8_indexOfChar java/lang/StringLatin1.indexOfChar([BIII)I -/
def h_J8_indexOfChar_0 (c : cC) (a0 : Nat) (a1 : Int32) (a2 : Int32) (a3 : Int32) (h : eH) (k n : Nat) : Prop := E c.1 c.2.1 c.2.2.1 c.2.2.2.1 mJ8_indexOfChar c.2.2.2.2 0 [some (.ref a0), some (.int a1), some (.int a2), some (.int a3), none, none] [] h k n
def h_J8_indexOfChar_7 (c : cC) (a0 : Nat) (a3 : Int32) (a4 : Int32) (a5 : Int32) (h : eH) (k n : Nat) : Prop := E c.1 c.2.1 c.2.2.1 c.2.2.2.1 mJ8_indexOfChar c.2.2.2.2 7 [some (.ref a0), none, none, some (.int a3), some (.int a4), some (.int a5)] [] h k n
set_option maxHeartbeats 4000000 in
theorem s_J8_indexOfChar_0 (c : cC) (a0 : Nat) (a1 : Int32) (a2 : Int32) (a3 : Int32) (h : eH) (k n : Nat) (H : h_J8_indexOfChar_7 c a0 a3 a1.toInt8.toInt32 a2 h k n) : h_J8_indexOfChar_0 c a0 a1 a2 a3 h k n := by
  refine e_iload_n dJ8_indexOfChar_0 rfl ?_
  refine e_i2b dJ8_indexOfChar_1 ?_
  refine e_istore _ dJ8_indexOfChar_2 (by decide) rfl rfl ?_
  refine e_iload_n dJ8_indexOfChar_4 rfl ?_
  refine e_istore _ dJ8_indexOfChar_5 (by decide) rfl rfl ?_
  exact E.less2 H (eS_s (eS_n (eS_n (eS_s (eS_s (eS_s eS_0))))))
set_option maxHeartbeats 4000000 in
theorem s_J8_indexOfChar_7 (c : cC) (a0 : Nat) (a3 : Int32) (a4 : Int32) (a5 : Int32) (h : eH) (k n : Nat) (H : (a3 ≤ a5 → c.2.2.2.2 (.inl (some (.int (-1 : Int32)))) h) ∧ (¬ a3 ≤ a5 → ∃ (N2 : Nat) (f3 : Nat → Int32), h.1 a0 = some (.inl (c.2.2.1.2.1 2, N2, .inl f3)) ∧ vp_in a5 N2 ∧ ((¬ (f3 a5.toNatClampNeg) = a4 → h_J8_indexOfChar_7 c a0 a3 a4 (a5 + 1) h k n) ∧ ((f3 a5.toNatClampNeg) = a4 → c.2.2.2.2 (.inl (some (.int a5))) h)))) : h_J8_indexOfChar_7 c a0 a3 a4 a5 h k n := by
  refine e_iload dJ8_indexOfChar_7 rfl ?_
  refine e_iload_n dJ8_indexOfChar_9 rfl ?_
  refine e_icmp_ge 31 dJ8_indexOfChar_10 (by decide) (fun g1 => ?_) (fun g1 => ?_)
  · replace H := H.1 g1
    refine e_iconst (-1) dJ8_indexOfChar_31 (by decide) ?_
    exact e_ireturn .int dJ8_indexOfChar_32 rfl rfl H
  · replace H := H.2 g1
    refine e_aload_n dJ8_indexOfChar_13 rfl ?_
    refine e_iload dJ8_indexOfChar_14 rfl ?_
    obtain ⟨N2, f3, g4, g4i, H⟩ := H
    refine e_baload dJ8_indexOfChar_16 g4 g4i ?_
    refine e_iload dJ8_indexOfChar_17 rfl ?_
    refine e_icmp_ne 25 dJ8_indexOfChar_19 (by decide) (fun g5 => ?_) (fun g5 => ?_)
    · replace H := H.1 g5
      refine e_iinc (a5 + 1) _ dJ8_indexOfChar_25 rfl rfl (by decide) rfl rfl ?_
      refine e_goto 7 dJ8_indexOfChar_28 (by decide) ?_
      exact E.less2 H (eS_s (eS_n (eS_n (eS_s (eS_s (eS_s eS_0))))))
    · replace H := H.2 g5
      refine e_iload dJ8_indexOfChar_22 rfl ?_
      exact e_ireturn .int dJ8_indexOfChar_24 rfl rfl H
theorem en_J8_indexOfChar {l : Launch} {lo : Nat} {G : eG} {d : Nat} {P : eO → eH → Prop} (a0 : Nat) (a1 : Int32) (a2 : Int32) (a3 : Int32) {h : eH} {k n : Nat} (H : h_J8_indexOfChar_0 (l, lo, G, d, P) a0 a1 a2 a3 h k n) : Ct l lo G d mJ8_indexOfChar [.ref a0, .int a1, .int a2, .int a3] h k n P := 
  Ct_of (eArL mJ8_indexOfChar.2.2.2.1 [.ref a0, .int a1, .int a2, .int a3]) (by decide) rfl (Nat.le_of_ble_eq_true rfl) (fun j w q => eArL_mem j w q) (E.less2 H (eS_s (eS_s (eS_s (eS_s (eS_n (eS_n eS_0)))))))
/-! J8_canEncode java/lang/StringLatin1.canEncode(I)Z -/
def h_J8_canEncode_0 (c : cC) (a0 : Int32) (h : eH) (k n : Nat) : Prop := E c.1 c.2.1 c.2.2.1 c.2.2.2.1 mJ8_canEncode c.2.2.2.2 0 [some (.int a0)] [] h k n
set_option maxHeartbeats 4000000 in
theorem s_J8_canEncode_0 (c : cC) (a0 : Int32) (h : eH) (k n : Nat) (H : (a0 < 0 → c.2.2.2.2 (.inl (some (.int (0 : Int32)))) h) ∧ (¬ a0 < 0 → ((255 : Int32) < a0 → c.2.2.2.2 (.inl (some (.int (0 : Int32)))) h) ∧ (¬ (255 : Int32) < a0 → c.2.2.2.2 (.inl (some (.int (1 : Int32)))) h))) : h_J8_canEncode_0 c a0 h k n := by
  refine e_iload_n dJ8_canEncode_0 rfl ?_
  refine e_if_lt 15 dJ8_canEncode_1 (by decide) (fun g1 => ?_) (fun g1 => ?_)
  · replace H := H.1 g1
    refine e_iconst (0) dJ8_canEncode_15 (by decide) ?_
    exact e_ireturn .boolean dJ8_canEncode_16 rfl (by decide) H
  · replace H := H.2 g1
    refine e_iload_n dJ8_canEncode_4 rfl ?_
    refine e_sipush (255) dJ8_canEncode_5 (by decide) ?_
    refine e_icmp_gt 15 dJ8_canEncode_8 (by decide) (fun g2 => ?_) (fun g2 => ?_)
    · replace H := H.1 g2
      refine e_iconst (0) dJ8_canEncode_15 (by decide) ?_
      exact e_ireturn .boolean dJ8_canEncode_16 rfl (by decide) H
    · replace H := H.2 g2
      refine e_iconst (1) dJ8_canEncode_11 (by decide) ?_
      refine e_goto 16 dJ8_canEncode_12 (by decide) ?_
      exact e_ireturn .boolean dJ8_canEncode_16 rfl (by decide) H
theorem en_J8_canEncode {l : Launch} {lo : Nat} {G : eG} {d : Nat} {P : eO → eH → Prop} (a0 : Int32) {h : eH} {k n : Nat} (H : h_J8_canEncode_0 (l, lo, G, d, P) a0 h k n) : Ct l lo G d mJ8_canEncode [.int a0] h k n P := 
  Ct_of (eArL mJ8_canEncode.2.2.2.1 [.int a0]) (by decide) rfl (Nat.le_of_ble_eq_true rfl) (fun j w q => eArL_mem j w q) (E.less2 H (eS_s eS_0))
/-! J8_canEncode_2 java/lang/StringLatin1.canEncode(C)Z -/
def h_J8_canEncode_2_0 (c : cC) (a0 : Int32) (h : eH) (k n : Nat) : Prop := E c.1 c.2.1 c.2.2.1 c.2.2.2.1 mJ8_canEncode_2 c.2.2.2.2 0 [some (.int a0)] [] h k n
set_option maxHeartbeats 4000000 in
theorem s_J8_canEncode_2_0 (c : cC) (a0 : Int32) (h : eH) (k n : Nat) (H : ((255 : Int32) < a0 → c.2.2.2.2 (.inl (some (.int (0 : Int32)))) h) ∧ (¬ (255 : Int32) < a0 → c.2.2.2.2 (.inl (some (.int (1 : Int32)))) h)) : h_J8_canEncode_2_0 c a0 h k n := by
  refine e_iload_n dJ8_canEncode_2_0 rfl ?_
  refine e_sipush (255) dJ8_canEncode_2_1 (by decide) ?_
  refine e_icmp_gt 11 dJ8_canEncode_2_4 (by decide) (fun g1 => ?_) (fun g1 => ?_)
  · replace H := H.1 g1
    refine e_iconst (0) dJ8_canEncode_2_11 (by decide) ?_
    exact e_ireturn .boolean dJ8_canEncode_2_12 rfl (by decide) H
  · replace H := H.2 g1
    refine e_iconst (1) dJ8_canEncode_2_7 (by decide) ?_
    refine e_goto 12 dJ8_canEncode_2_8 (by decide) ?_
    exact e_ireturn .boolean dJ8_canEncode_2_12 rfl (by decide) H
theorem en_J8_canEncode_2 {l : Launch} {lo : Nat} {G : eG} {d : Nat} {P : eO → eH → Prop} (a0 : Int32) {h : eH} {k n : Nat} (H : h_J8_canEncode_2_0 (l, lo, G, d, P) a0 h k n) : Ct l lo G d mJ8_canEncode_2 [.int a0] h k n P := 
  Ct_of (eArL mJ8_canEncode_2.2.2.2.1 [.int a0]) (by decide) rfl (Nat.le_of_ble_eq_true rfl) (fun j w q => eArL_mem j w q) (E.less2 H (eS_s eS_0))
/-! J10_vectorizedHashCode jdk/internal/util/ArraysSupport.vectorizedHashCode(Ljava/lang/Object;IIII)I -/
def h_J10_vectorizedHashCode_0 (c : cC) (a0 : Nat) (a1 : Int32) (a2 : Int32) (a3 : Int32) (a4 : Int32) (h : eH) (k n : Nat) : Prop := E c.1 c.2.1 c.2.2.1 c.2.2.2.1 mJ10_vectorizedHashCode c.2.2.2.2 0 [some (.ref a0), some (.int a1), some (.int a2), some (.int a3), some (.int a4)] [] h k n
def h_J10_vectorizedHashCode_129 (c : cC) (a4 : Int32) (h : eH) (k n : Nat) : Prop := E c.1 c.2.1 c.2.2.1 c.2.2.2.1 mJ10_vectorizedHashCode c.2.2.2.2 129 [none, none, none, none, some (.int a4)] [] h k n
set_option maxHeartbeats 4000000 in
theorem s_J10_vectorizedHashCode_0 (c : cC) (a0 : Nat) (a1 : Int32) (a2 : Int32) (a3 : Int32) (a4 : Int32) (h : eH) (k n : Nat) (H : a4 = (4 : Int32) ∧ (eCs c.2.2.1 h a0 "[B" ∧ (∃ (d6 k7 n8 : Nat) (Q9 : Int32 → eH → Prop), cI c.1 c.2.1 c.2.2.1 d6 mJ10_signedHashCode [.int a3, .ref a0, .int a1, .int a2] h k7 n8 Q9 cX0 ∧ d6 + 1 ≤ c.2.2.2.1 ∧ k7 ≤ k ∧ n8 ≤ n ∧ (∀ (r3 : Int32) (h4 : eH), Q9 r3 h4 → (c.2.2.2.2 (.inl (some (.int r3))) h4))))) : h_J10_vectorizedHashCode_0 c a0 a1 a2 a3 a4 h k n := by
  refine e_iload dJ10_vectorizedHashCode_0 rfl ?_
  obtain ⟨g1, H⟩ := H
  subst g1
  refine e_switchIn (off := 42) 44 dJ10_vectorizedHashCode_2 (by decide) (by decide) (by decide) (by decide) ?_
  refine e_iload_n dJ10_vectorizedHashCode_44 rfl ?_
  refine e_aload_n dJ10_vectorizedHashCode_45 rfl ?_
  obtain ⟨g2, H⟩ := H
  refine c_castR dJ10_vectorizedHashCode_46 q1707 g2 ?_
  refine e_iload_n dJ10_vectorizedHashCode_49 rfl ?_
  refine e_iload_n dJ10_vectorizedHashCode_50 rfl ?_
  obtain ⟨d6, k7, n8, Q9, g5, g5d, g5k, g5n, H⟩ := H
  refine e_callS (As := [.int a3, .ref a0, .int a1, .int a2]) g5 dJ10_vectorizedHashCode_51 wJ10_signedHashCode q1708 q1709 rfl g5d rfl (Nat.le_of_ble_eq_true rfl) (k1 := k - k7) (n1 := n - n8) (by omega) (by omega) ?_ ?_
  · rintro v h4 (⟨v9, e9, r3, e8, hq⟩ | ⟨ci9, q9, e9, -⟩)
    · cases e9
      subst e8
      replace H := H r3 h4 hq
      refine e_goto 157 dJ10_vectorizedHashCode_54 (by decide) ?_
      exact e_ireturn .int dJ10_vectorizedHashCode_157 rfl rfl H
    · cases e9
  · rintro q9 h9 (⟨v9, e9, -⟩ | ⟨ci9, q8, e9, -, -, hx⟩)
    · cases e9
    · exact hx.elim
set_option maxHeartbeats 4000000 in
theorem s_J10_vectorizedHashCode_129 (c : cC) (a4 : Int32) (h : eH) (k n : Nat) (H : False) : h_J10_vectorizedHashCode_129 c a4 h k n := by
  exact H.elim
theorem en_J10_vectorizedHashCode {l : Launch} {lo : Nat} {G : eG} {d : Nat} {P : eO → eH → Prop} (a0 : Nat) (a1 : Int32) (a2 : Int32) (a3 : Int32) (a4 : Int32) {h : eH} {k n : Nat} (H : h_J10_vectorizedHashCode_0 (l, lo, G, d, P) a0 a1 a2 a3 a4 h k n) : Ct l lo G d mJ10_vectorizedHashCode [.ref a0, .int a1, .int a2, .int a3, .int a4] h k n P := 
  Ct_of (eArL mJ10_vectorizedHashCode.2.2.2.1 [.ref a0, .int a1, .int a2, .int a3, .int a4]) (by decide) rfl (Nat.le_of_ble_eq_true rfl) (fun j w q => eArL_mem j w q) (E.less2 H (eS_s (eS_s (eS_s (eS_s (eS_s eS_0))))))
/-! J10_signedHashCode jdk/internal/util/ArraysSupport.signedHashCode(I[BII)I -/
def h_J10_signedHashCode_0 (c : cC) (a0 : Int32) (a1 : Nat) (a2 : Int32) (a3 : Int32) (h : eH) (k n : Nat) : Prop := E c.1 c.2.1 c.2.2.1 c.2.2.2.1 mJ10_signedHashCode c.2.2.2.2 0 [some (.int a0), some (.ref a1), some (.int a2), some (.int a3), none, none] [] h k n
def h_J10_signedHashCode_8 (c : cC) (a0 : Int32) (a1 : Nat) (a4 : Int32) (a5 : Int32) (h : eH) (k n : Nat) : Prop := E c.1 c.2.1 c.2.2.1 c.2.2.2.1 mJ10_signedHashCode c.2.2.2.2 8 [some (.int a0), some (.ref a1), none, none, some (.int a4), some (.int a5)] [] h k n
set_option maxHeartbeats 4000000 in
theorem s_J10_signedHashCode_0 (c : cC) (a0 : Int32) (a1 : Nat) (a2 : Int32) (a3 : Int32) (h : eH) (k n : Nat) (H : h_J10_signedHashCode_8 c a0 a1 (a2 + a3) a2 h k n) : h_J10_signedHashCode_0 c a0 a1 a2 a3 h k n := by
  refine e_iload_n dJ10_signedHashCode_0 rfl ?_
  refine e_iload_n dJ10_signedHashCode_1 rfl ?_
  refine e_iadd dJ10_signedHashCode_2 ?_
  refine e_istore _ dJ10_signedHashCode_3 (by decide) rfl rfl ?_
  refine e_iload_n dJ10_signedHashCode_5 rfl ?_
  refine e_istore _ dJ10_signedHashCode_6 (by decide) rfl rfl ?_
  exact E.less2 H (eS_s (eS_s (eS_n (eS_n (eS_s (eS_s eS_0))))))
set_option maxHeartbeats 4000000 in
theorem s_J10_signedHashCode_8 (c : cC) (a0 : Int32) (a1 : Nat) (a4 : Int32) (a5 : Int32) (h : eH) (k n : Nat) (H : (a4 ≤ a5 → c.2.2.2.2 (.inl (some (.int a0))) h) ∧ (¬ a4 ≤ a5 → ∃ (N2 : Nat) (f3 : Nat → Int32), h.1 a1 = some (.inl (c.2.2.1.2.1 2, N2, .inl f3)) ∧ vp_in a5 N2 ∧ (h_J10_signedHashCode_8 c (((31 : Int32) * a0) + ((f3 a5.toNatClampNeg) &&& (255 : Int32))) a1 a4 (a5 + 1) h k n))) : h_J10_signedHashCode_8 c a0 a1 a4 a5 h k n := by
  refine e_iload dJ10_signedHashCode_8 rfl ?_
  refine e_iload dJ10_signedHashCode_10 rfl ?_
  refine e_icmp_ge 35 dJ10_signedHashCode_12 (by decide) (fun g1 => ?_) (fun g1 => ?_)
  · replace H := H.1 g1
    refine e_iload_n dJ10_signedHashCode_35 rfl ?_
    exact e_ireturn .int dJ10_signedHashCode_36 rfl rfl H
  · replace H := H.2 g1
    refine e_bipush (31) dJ10_signedHashCode_15 (by decide) ?_
    refine e_iload_n dJ10_signedHashCode_17 rfl ?_
    refine e_imul dJ10_signedHashCode_18 ?_
    refine e_aload_n dJ10_signedHashCode_19 rfl ?_
    refine e_iload dJ10_signedHashCode_20 rfl ?_
    obtain ⟨N2, f3, g4, g4i, H⟩ := H
    refine e_baload dJ10_signedHashCode_22 g4 g4i ?_
    refine e_sipush (255) dJ10_signedHashCode_23 (by decide) ?_
    refine e_iand dJ10_signedHashCode_26 ?_
    refine e_iadd dJ10_signedHashCode_27 ?_
    refine e_istore_n _ dJ10_signedHashCode_28 (by decide) trivial rfl ?_
    refine e_iinc (a5 + 1) _ dJ10_signedHashCode_29 rfl rfl (by decide) rfl rfl ?_
    refine e_goto 8 dJ10_signedHashCode_32 (by decide) ?_
    exact E.less2 H (eS_s (eS_s (eS_n (eS_n (eS_s (eS_s eS_0))))))
theorem en_J10_signedHashCode {l : Launch} {lo : Nat} {G : eG} {d : Nat} {P : eO → eH → Prop} (a0 : Int32) (a1 : Nat) (a2 : Int32) (a3 : Int32) {h : eH} {k n : Nat} (H : h_J10_signedHashCode_0 (l, lo, G, d, P) a0 a1 a2 a3 h k n) : Ct l lo G d mJ10_signedHashCode [.int a0, .ref a1, .int a2, .int a3] h k n P := 
  Ct_of (eArL mJ10_signedHashCode.2.2.2.1 [.int a0, .ref a1, .int a2, .int a3]) (by decide) rfl (Nat.le_of_ble_eq_true rfl) (fun j w q => eArL_mem j w q) (E.less2 H (eS_s (eS_s (eS_s (eS_s (eS_n (eS_n eS_0)))))))
/-! J21_copyOfRange java/util/Arrays.copyOfRange([BII)[B -/
def h_J21_copyOfRange_0 (c : cC) (a0 : Nat) (a1 : Int32) (a2 : Int32) (h : eH) (k n : Nat) : Prop := E c.1 c.2.1 c.2.2.1 c.2.2.2.1 mJ21_copyOfRange c.2.2.2.2 0 [some (.ref a0), some (.int a1), some (.int a2)] [] h k n
def h_J21_copyOfRange_10 (c : cC) (a0 : Nat) (a1 : Int32) (a2 : Int32) (h : eH) (k n : Nat) : Prop := E c.1 c.2.1 c.2.2.1 c.2.2.2.1 mJ21_copyOfRange c.2.2.2.2 10 [some (.ref a0), some (.int a1), some (.int a2)] [] h k n
set_option maxHeartbeats 4000000 in
theorem s_J21_copyOfRange_0 (c : cC) (a0 : Nat) (a1 : Int32) (a2 : Int32) (h : eH) (k n : Nat) (H : (¬ a1 = 0 → h_J21_copyOfRange_10 c a0 a1 a2 h k n) ∧ (a1 = 0 → ∃ v2 : vp_A, h.1 a0 = some (.inl (c.2.2.1.2.1 2, v2)) ∧ ((a2 = (nI v2.1) → False) ∧ (¬ a2 = (nI v2.1) → h_J21_copyOfRange_10 c a0 a1 a2 h k n)))) : h_J21_copyOfRange_0 c a0 a1 a2 h k n := by
  refine e_iload_n dJ21_copyOfRange_0 rfl ?_
  refine e_if_ne 10 dJ21_copyOfRange_1 (by decide) (fun g1 => ?_) (fun g1 => ?_)
  · replace H := H.1 g1
    exact E.less2 H (eS_s (eS_s (eS_s eS_0)))
  · replace H := H.2 g1
    refine e_iload_n dJ21_copyOfRange_4 rfl ?_
    refine e_aload_n dJ21_copyOfRange_5 rfl ?_
    obtain ⟨v2, g3, H⟩ := H
    refine e_alen (t := 2) dJ21_copyOfRange_6 (fun _ => rfl) g3 ?_
    refine e_icmp_eq 17 dJ21_copyOfRange_7 (by decide) (fun g4 => ?_) (fun g4 => ?_)
    · replace H := H.1 g4
      refine e_aload_n dJ21_copyOfRange_17 rfl ?_
      exact H.elim
    · replace H := H.2 g4
      exact E.less2 H (eS_s (eS_s (eS_s eS_0)))
set_option maxHeartbeats 4000000 in
theorem s_J21_copyOfRange_10 (c : cC) (a0 : Nat) (a1 : Int32) (a2 : Int32) (h : eH) (k n : Nat) (H : ∃ (d4 k5 n6 : Nat) (Q7 : Nat → eH → Prop), cR c.1 c.2.1 c.2.2.1 d4 mJ21_copyOfRangeByte [.ref a0, .int a1, .int a2] h k5 n6 Q7 cX0 ∧ d4 + 1 ≤ c.2.2.2.1 ∧ k5 ≤ k ∧ n6 ≤ n ∧ (∀ (r1 : Nat) (h2 : eH), Q7 r1 h2 → (c.2.2.2.2 (.inl (some (.ref r1))) h2))) : h_J21_copyOfRange_10 c a0 a1 a2 h k n := by
  refine e_aload_n dJ21_copyOfRange_10 rfl ?_
  refine e_iload_n dJ21_copyOfRange_11 rfl ?_
  refine e_iload_n dJ21_copyOfRange_12 rfl ?_
  obtain ⟨d4, k5, n6, Q7, g3, g3d, g3k, g3n, H⟩ := H
  refine e_callS (As := [.ref a0, .int a1, .int a2]) g3 dJ21_copyOfRange_13 wJ21_copyOfRangeByte q1530 q1531 rfl g3d rfl (Nat.le_of_ble_eq_true rfl) (k1 := k - k5) (n1 := n - n6) (by omega) (by omega) ?_ ?_
  · rintro v h2 (⟨v9, e9, r1, e8, hq⟩ | ⟨ci9, q9, e9, -⟩)
    · cases e9
      subst e8
      replace H := H r1 h2 hq
      exact e_areturn (r := some r1) _ dJ21_copyOfRange_16 rfl (Or.inr ⟨_, rfl⟩) H
    · cases e9
  · rintro q9 h9 (⟨v9, e9, -⟩ | ⟨ci9, q8, e9, -, -, hx⟩)
    · cases e9
    · exact hx.elim
theorem en_J21_copyOfRange {l : Launch} {lo : Nat} {G : eG} {d : Nat} {P : eO → eH → Prop} (a0 : Nat) (a1 : Int32) (a2 : Int32) {h : eH} {k n : Nat} (H : h_J21_copyOfRange_0 (l, lo, G, d, P) a0 a1 a2 h k n) : Ct l lo G d mJ21_copyOfRange [.ref a0, .int a1, .int a2] h k n P := 
  Ct_of (eArL mJ21_copyOfRange.2.2.2.1 [.ref a0, .int a1, .int a2]) (by decide) rfl (Nat.le_of_ble_eq_true rfl) (fun j w q => eArL_mem j w q) (E.less2 H (eS_s (eS_s (eS_s eS_0))))
/-! J21_copyOfRangeByte java/util/Arrays.copyOfRangeByte([BII)[B -/
def h_J21_copyOfRangeByte_0 (c : cC) (a0 : Nat) (a1 : Int32) (a2 : Int32) (h : eH) (k n : Nat) : Prop := E c.1 c.2.1 c.2.2.1 c.2.2.2.1 mJ21_copyOfRangeByte c.2.2.2.2 0 [some (.ref a0), some (.int a1), some (.int a2), none, none] [] h k n
set_option maxHeartbeats 4000000 in
theorem s_J21_copyOfRangeByte_0 (c : cC) (a0 : Nat) (a1 : Int32) (a2 : Int32) (h : eH) (k n : Nat) (H : ∃ (d4 k5 n6 : Nat) (Q7 : eH → Prop), cV c.1 c.2.1 c.2.2.1 d4 mJ21_checkLength [.int a1, .int a2] h k5 n6 Q7 cX0 ∧ d4 + 1 ≤ c.2.2.2.1 ∧ k5 ≤ k ∧ n6 ≤ n ∧ (∀ h2 : eH, Q7 h2 → (∃ N10 : Nat, a2 - a1 = nI N10 ∧ N10 ≤ 10000000 ∧ 1 ≤ k - k5 ∧ N10 ≤ n - n6 ∧ ∀ h8 : eH, h8 = eNw h2 (.inl (c.2.2.1.2.1 2, N10, .inl (fun _ => 0))) → (∃ v11 : vp_A, h8.1 a0 = some (.inl (c.2.2.1.2.1 2, v11)) ∧ (1 ≤ c.2.2.2.1 ∧ (∃ (N9 M9 : Nat) (f9 g9 : Nat → Int32), h8.1 a0 = some (.inl (c.2.2.1.2.1 2, N9, .inl f9)) ∧ h8.1 h2.2 = some (.inl (c.2.2.1.2.1 2, M9, .inl g9)) ∧ c.2.1 ≤ a0 ∧ c.2.1 ≤ h2.2 ∧ ¬ a1 < 0 ∧ ¬ (0 : Int32) < 0 ∧ ¬ (if (a2 - a1) < ((nI v11.1) - a1) then (a2 - a1) else ((nI v11.1) - a1)) < 0 ∧ a1.toNatClampNeg + (if (a2 - a1) < ((nI v11.1) - a1) then (a2 - a1) else ((nI v11.1) - a1)).toNatClampNeg ≤ N9 ∧ (0 : Int32).toNatClampNeg + (if (a2 - a1) < ((nI v11.1) - a1) then (a2 - a1) else ((nI v11.1) - a1)).toNatClampNeg ≤ M9 ∧ (∀ i, i < (if (a2 - a1) < ((nI v11.1) - a1) then (a2 - a1) else ((nI v11.1) - a1)).toNatClampNeg → fits .byte (.int (f9 (a1.toNatClampNeg + i))) = true) ∧ 1 ≤ c.2.2.2.1 ∧ ∀ h14 : eH, h14 = eUp h8 h2.2 (.inl (c.2.2.1.2.1 2, M9, .inl (va_cpy f9 g9 a1.toNatClampNeg (0 : Int32).toNatClampNeg (if (a2 - a1) < ((nI v11.1) - a1) then (a2 - a1) else ((nI v11.1) - a1)).toNatClampNeg))) → (c.2.2.2.2 (.inl (some (.ref h2.2))) h14))))))) : h_J21_copyOfRangeByte_0 c a0 a1 a2 h k n := by
  refine e_iload_n dJ21_copyOfRangeByte_0 rfl ?_
  refine e_iload_n dJ21_copyOfRangeByte_1 rfl ?_
  obtain ⟨d4, k5, n6, Q7, g3, g3d, g3k, g3n, H⟩ := H
  refine e_callS (As := [.int a1, .int a2]) g3 dJ21_copyOfRangeByte_2 wJ21_checkLength q1533 q1534 rfl g3d rfl (Nat.le_of_ble_eq_true rfl) (k1 := k - k5) (n1 := n - n6) (by omega) (by omega) ?_ ?_
  · rintro v h2 (⟨v9, e9, e8, hq⟩ | ⟨ci9, q9, e9, -⟩)
    · cases e9
      subst e8
      replace H := H h2 hq
      refine e_iload_n dJ21_copyOfRangeByte_5 rfl ?_
      refine e_iload_n dJ21_copyOfRangeByte_6 rfl ?_
      refine e_isub dJ21_copyOfRangeByte_7 ?_
      refine e_istore_n _ dJ21_copyOfRangeByte_8 (by decide) rfl rfl ?_
      refine e_iload_n dJ21_copyOfRangeByte_9 rfl ?_
      obtain ⟨N10, g9i, g9b, g9, g9n, H⟩ := H
      refine c_newarrayB dJ21_copyOfRangeByte_10 q232 g9i g9b g9 g9n ?_
      replace H := H _ rfl
      generalize eNw h2 _ = h8 at H ⊢
      refine e_astore _ dJ21_copyOfRangeByte_12 (by decide) rfl rfl ?_
      refine e_aload_n dJ21_copyOfRangeByte_14 rfl ?_
      refine e_iload_n dJ21_copyOfRangeByte_15 rfl ?_
      refine e_aload dJ21_copyOfRangeByte_16 rfl ?_
      refine e_iconst (0) dJ21_copyOfRangeByte_18 (by decide) ?_
      refine e_aload_n dJ21_copyOfRangeByte_19 rfl ?_
      obtain ⟨v11, g12, H⟩ := H
      refine e_alen (t := 2) dJ21_copyOfRangeByte_20 (fun _ => rfl) g12 ?_
      refine e_iload_n dJ21_copyOfRangeByte_21 rfl ?_
      refine e_isub dJ21_copyOfRangeByte_22 ?_
      refine e_iload_n dJ21_copyOfRangeByte_23 rfl ?_
      obtain ⟨g13, H⟩ := H
      refine e_mmin dJ21_copyOfRangeByte_24 q864 g13 (Nat.le_of_ble_eq_true rfl) ?_
      obtain ⟨N9, M9, f9, g9, g15a, g15b, g15c, g15d, g151, g152, g153, g154, g155, g15e, g15h, H⟩ := H
      refine e_copyB dJ21_copyOfRangeByte_27 q865 q867 q866 q162 g15a g15b g15c g15d g151 g152 g153 g154 g155 g15e g15h (Nat.le_of_ble_eq_true rfl) ?_
      replace H := H _ rfl
      generalize eUp h8 _ _ = h14 at H ⊢
      refine e_aload dJ21_copyOfRangeByte_30 rfl ?_
      exact e_areturn (r := some h2.2) _ dJ21_copyOfRangeByte_32 rfl (Or.inr ⟨_, rfl⟩) H
    · cases e9
  · rintro q9 h9 (⟨v9, e9, -⟩ | ⟨ci9, q8, e9, -, -, hx⟩)
    · cases e9
    · exact hx.elim
theorem en_J21_copyOfRangeByte {l : Launch} {lo : Nat} {G : eG} {d : Nat} {P : eO → eH → Prop} (a0 : Nat) (a1 : Int32) (a2 : Int32) {h : eH} {k n : Nat} (H : h_J21_copyOfRangeByte_0 (l, lo, G, d, P) a0 a1 a2 h k n) : Ct l lo G d mJ21_copyOfRangeByte [.ref a0, .int a1, .int a2] h k n P := 
  Ct_of (eArL mJ21_copyOfRangeByte.2.2.2.1 [.ref a0, .int a1, .int a2]) (by decide) rfl (Nat.le_of_ble_eq_true rfl) (fun j w q => eArL_mem j w q) (E.less2 H (eS_s (eS_s (eS_s (eS_n (eS_n eS_0))))))
/-! J21_checkLength java/util/Arrays.checkLength(II)V -/
def h_J21_checkLength_0 (c : cC) (a0 : Int32) (a1 : Int32) (h : eH) (k n : Nat) : Prop := E c.1 c.2.1 c.2.2.1 c.2.2.2.1 mJ21_checkLength c.2.2.2.2 0 [some (.int a0), some (.int a1)] [] h k n
set_option maxHeartbeats 4000000 in
theorem s_J21_checkLength_0 (c : cC) (a0 : Int32) (a1 : Int32) (h : eH) (k n : Nat) (H : (a0 ≤ a1 → c.2.2.2.2 (.inl none) h) ∧ (¬ a0 ≤ a1 → False)) : h_J21_checkLength_0 c a0 a1 h k n := by
  refine e_iload_n dJ21_checkLength_0 rfl ?_
  refine e_iload_n dJ21_checkLength_1 rfl ?_
  refine e_icmp_ge 37 dJ21_checkLength_2 (by decide) (fun g1 => ?_) (fun g1 => ?_)
  · replace H := H.1 g1
    exact e_return dJ21_checkLength_37 rfl H
  · replace H := H.2 g1
    exact H.elim
theorem en_J21_checkLength {l : Launch} {lo : Nat} {G : eG} {d : Nat} {P : eO → eH → Prop} (a0 : Int32) (a1 : Int32) {h : eH} {k n : Nat} (H : h_J21_checkLength_0 (l, lo, G, d, P) a0 a1 h k n) : Ct l lo G d mJ21_checkLength [.int a0, .int a1] h k n P := 
  Ct_of (eArL mJ21_checkLength.2.2.2.1 [.int a0, .int a1]) (by decide) rfl (Nat.le_of_ble_eq_true rfl) (fun j w q => eArL_mem j w q) (E.less2 H (eS_s (eS_s eS_0)))
/-! J27_init java/lang/AbstractStringBuilder.<init>(I)V -/
def h_J27_init_0 (c : cC) (a0 : Nat) (a1 : Int32) (h : eH) (k n : Nat) : Prop := E c.1 c.2.1 c.2.2.1 c.2.2.2.1 mJ27_init c.2.2.2.2 0 [some (.ref a0), some (.int a1)] [] h k n
set_option maxHeartbeats 4000000 in
theorem s_J27_init_0 (c : cC) (a0 : Nat) (a1 : Int32) (h : eH) (k n : Nat) (H : 1 ≤ c.2.2.2.1 ∧ (((1 : Int32) = 0 → ∃ (d6 k7 n8 : Nat) (Q9 : Nat → eH → Prop), cR c.1 c.2.1 c.2.2.1 d6 mJ13_newBytesFor [.int a1] h k7 n8 Q9 cX0 ∧ d6 + 1 ≤ c.2.2.2.1 ∧ k7 ≤ k ∧ n8 ≤ n ∧ (∀ (r3 : Nat) (h4 : eH), Q9 r3 h4 → (∃ fs10 : List Value, h4.1 a0 = some (.inr (25, fs10)) ∧ c.2.1 ≤ a0 ∧ 0 < fs10.length ∧ ∀ h12 : eH, h12 = eUp h4 a0 (.inr (25, fs10.set 0 (.ref r3))) → (eFit .byte (.int (1 : Int32)) ∧ ∃ fs13 : List Value, h12.1 a0 = some (.inr (25, fs13)) ∧ c.2.1 ≤ a0 ∧ 1 < fs13.length ∧ ∀ h15 : eH, h15 = eUp h12 a0 (.inr (25, fs13.set 1 (.int (1 : Int32)))) → (c.2.2.2.2 (.inl none) h15))))) ∧ (¬ (1 : Int32) = 0 → ∃ N18 : Nat, a1 = nI N18 ∧ N18 ≤ 10000000 ∧ 1 ≤ k ∧ N18 ≤ n ∧ ∀ h16 : eH, h16 = eNw h (.inl (c.2.2.1.2.1 2, N18, .inl (fun _ => 0))) → (∃ fs19 : List Value, h16.1 a0 = some (.inr (25, fs19)) ∧ c.2.1 ≤ a0 ∧ 0 < fs19.length ∧ ∀ h21 : eH, h21 = eUp h16 a0 (.inr (25, fs19.set 0 (.ref h.2))) → (eFit .byte (.int (0 : Int32)) ∧ ∃ fs22 : List Value, h21.1 a0 = some (.inr (25, fs22)) ∧ c.2.1 ≤ a0 ∧ 1 < fs22.length ∧ ∀ h24 : eH, h24 = eUp h21 a0 (.inr (25, fs22.set 1 (.int (0 : Int32)))) → (c.2.2.2.2 (.inl none) h24)))))) : h_J27_init_0 c a0 a1 h k n := by
  refine e_aload_n dJ27_init_0 rfl ?_
  obtain ⟨g1, H⟩ := H
  refine e_objInit dJ27_init_1 q1418 q192 q193 g1 (Nat.le_of_ble_eq_true rfl) ?_
  refine e_gets (i := 0) dJ27_init_4 rfl q568 ?_
  refine e_if_eq 25 dJ27_init_7 (by decide) (fun g2 => ?_) (fun g2 => ?_)
  · replace H := H.1 g2
    refine e_aload_n dJ27_init_25 rfl ?_
    refine e_iload_n dJ27_init_26 rfl ?_
    obtain ⟨d6, k7, n8, Q9, g5, g5d, g5k, g5n, H⟩ := H
    refine e_callS (As := [.int a1]) g5 dJ27_init_27 wJ13_newBytesFor q1419 q1420 rfl g5d rfl (Nat.le_of_ble_eq_true rfl) (k1 := k - k7) (n1 := n - n8) (by omega) (by omega) ?_ ?_
    · rintro v h4 (⟨v9, e9, r3, e8, hq⟩ | ⟨ci9, q9, e9, -⟩)
      · cases e9
        subst e8
        replace H := H r3 h4 hq
        obtain ⟨fs10, g11, g11l, g11j, H⟩ := H
        refine e_put dJ27_init_30 fJ28_0 q1426 (eFit_ar _ _) g11 g11l g11j ?_
        replace H := H _ rfl
        generalize eUp h4 a0 _ = h12 at H ⊢
        refine e_aload_n dJ27_init_33 rfl ?_
        refine e_iconst (1) dJ27_init_34 (by decide) ?_
        obtain ⟨g14f, H⟩ := H
        obtain ⟨fs13, g14, g14l, g14j, H⟩ := H
        refine e_put dJ27_init_35 fJ28_1 q1427 g14f g14 g14l g14j ?_
        replace H := H _ rfl
        generalize eUp h12 a0 _ = h15 at H ⊢
        exact e_return dJ27_init_38 rfl H
      · cases e9
    · rintro q9 h9 (⟨v9, e9, -⟩ | ⟨ci9, q8, e9, -, -, hx⟩)
      · cases e9
      · exact hx.elim
  · replace H := H.2 g2
    refine e_aload_n dJ27_init_10 rfl ?_
    refine e_iload_n dJ27_init_11 rfl ?_
    obtain ⟨N18, g17i, g17b, g17, g17n, H⟩ := H
    refine c_newarrayB dJ27_init_12 q232 g17i g17b g17 g17n ?_
    replace H := H _ rfl
    generalize eNw h _ = h16 at H ⊢
    obtain ⟨fs19, g20, g20l, g20j, H⟩ := H
    refine e_put dJ27_init_14 fJ28_0 q1426 (eFit_ar _ _) g20 g20l g20j ?_
    replace H := H _ rfl
    generalize eUp h16 a0 _ = h21 at H ⊢
    refine e_aload_n dJ27_init_17 rfl ?_
    refine e_iconst (0) dJ27_init_18 (by decide) ?_
    obtain ⟨g23f, H⟩ := H
    obtain ⟨fs22, g23, g23l, g23j, H⟩ := H
    refine e_put dJ27_init_19 fJ28_1 q1427 g23f g23 g23l g23j ?_
    replace H := H _ rfl
    generalize eUp h21 a0 _ = h24 at H ⊢
    refine e_goto 38 dJ27_init_22 (by decide) ?_
    exact e_return dJ27_init_38 rfl H
theorem en_J27_init {l : Launch} {lo : Nat} {G : eG} {d : Nat} {P : eO → eH → Prop} (a0 : Nat) (a1 : Int32) {h : eH} {k n : Nat} (H : h_J27_init_0 (l, lo, G, d, P) a0 a1 h k n) : Ct l lo G d mJ27_init [.ref a0, .int a1] h k n P := 
  Ct_of (eArL mJ27_init.2.2.2.1 [.ref a0, .int a1]) (by decide) rfl (Nat.le_of_ble_eq_true rfl) (fun j w q => eArL_mem j w q) (E.less2 H (eS_s (eS_s eS_0)))
/-! J27_append java/lang/AbstractStringBuilder.append(C)Ljava/lang/AbstractStringBuilder; -/
def h_J27_append_0 (c : cC) (a0 : Nat) (a1 : Int32) (h : eH) (k n : Nat) : Prop := E c.1 c.2.1 c.2.2.1 c.2.2.2.1 mJ27_append c.2.2.2.2 0 [some (.ref a0), some (.int a1)] [] h k n
def h_J27_append_45 (c : cC) (a0 : Nat) (a1 : Int32) (h : eH) (k n : Nat) : Prop := E c.1 c.2.1 c.2.2.1 c.2.2.2.1 mJ27_append c.2.2.2.2 45 [some (.ref a0), some (.int a1)] [] h k n
def h_J27_append_56 (c : cC) (a0 : Nat) (a1 : Int32) (h : eH) (k n : Nat) : Prop := E c.1 c.2.1 c.2.2.1 c.2.2.2.1 mJ27_append c.2.2.2.2 56 [some (.ref a0), some (.int a1)] [] h k n
set_option maxHeartbeats 4000000 in
theorem s_J27_append_0 (c : cC) (a0 : Nat) (a1 : Int32) (h : eH) (k n : Nat) (H : ∃ x1 : Int32, fV h a0 25 3 (.int x1) ∧ (∃ fs8 : List Value, h.1 a0 = some (.inr (25, fs8)) ∧ ∃ (d6 k7 n8 : Nat) (Q9 : eH → Prop), cV c.1 c.2.1 c.2.2.1 d6 mJ27_ensureCapacityInternal [.ref a0, .int (x1 + (1 : Int32))] h k7 n8 Q9 cX0 ∧ d6 + 1 ≤ c.2.2.2.1 ∧ k7 ≤ k ∧ n8 ≤ n ∧ (∀ h4 : eH, Q9 h4 → (∃ fs8 : List Value, h4.1 a0 = some (.inr (25, fs8)) ∧ ∃ (d13 k14 n15 : Nat) (Q16 : Int32 → eH → Prop), cI c.1 c.2.1 c.2.2.1 d13 mJ27_isLatin1 [.ref a0] h4 k14 n15 Q16 cX0 ∧ d13 + 1 ≤ c.2.2.2.1 ∧ k14 ≤ k - k7 ∧ n15 ≤ n - n8 ∧ (∀ (r10 : Int32) (h11 : eH), Q16 r10 h11 → ((r10 = 0 → h_J27_append_45 c a0 a1 h11 (k - k7 - k14) (n - n8 - n15)) ∧ (¬ r10 = 0 → ∃ (d21 k22 n23 : Nat) (Q24 : Int32 → eH → Prop), cI c.1 c.2.1 c.2.2.1 d21 mJ8_canEncode_2 [.int a1] h11 k22 n23 Q24 cX0 ∧ d21 + 1 ≤ c.2.2.2.1 ∧ k22 ≤ k - k7 - k14 ∧ n23 ≤ n - n8 - n15 ∧ (∀ (r18 : Int32) (h19 : eH), Q24 r18 h19 → ((r18 = 0 → h_J27_append_45 c a0 a1 h19 (k - k7 - k14 - k22) (n - n8 - n15 - n23)) ∧ (¬ r18 = 0 → ∃ x26 : Nat, fV h19 a0 25 0 (.ref x26) ∧ (∃ x28 : Int32, fV h19 a0 25 3 (.int x28) ∧ (∃ fs30 : List Value, h19.1 a0 = some (.inr (25, fs30)) ∧ c.2.1 ≤ a0 ∧ 3 < fs30.length ∧ ∀ h32 : eH, h32 = eUp h19 a0 (.inr (25, fs30.set 3 (.int (x28 + (1 : Int32))))) → (∃ (N33 : Nat) (f34 : Nat → Int32), h32.1 x26 = some (.inl (c.2.2.1.2.1 2, N33, .inl f34)) ∧ c.2.1 ≤ x26 ∧ vp_in x28 N33 ∧ ∀ h36 : eH, h36 = eUp h32 x26 (.inl (c.2.2.1.2.1 2, N33, .inl (va_up f34 x28.toNatClampNeg a1.toInt8.toInt32.toInt8.toInt32))) → (c.2.2.2.2 (.inl (some (.ref a0))) h36)))))))))))))) : h_J27_append_0 c a0 a1 h k n := by
  refine e_aload_n dJ27_append_0 rfl ?_
  refine e_aload_n dJ27_append_1 rfl ?_
  obtain ⟨x1, ⟨fsx1, g2, g2v⟩, H⟩ := H
  refine e_get dJ27_append_2 fJ28_3 q1429 g2 g2v ?_
  refine e_iconst (1) dJ27_append_5 (by decide) ?_
  refine e_iadd dJ27_append_6 ?_
  obtain ⟨fsg5, g5o, H⟩ := H
  obtain ⟨d6, k7, n8, Q9, g5, g5d, g5k, g5n, H⟩ := H
  refine e_callVP (r := (RJ28, TJ28, 4)) ⟨"java/lang/AbstractStringBuilder", "isLatin1", "()Z"⟩ ⟨"java/lang/AbstractStringBuilder", "isLatin1", "()Z"⟩ (As := [.int (x1 + (1 : Int32))]) g5 dJ27_append_7 wJ27_ensureCapacityInternal rfl q1445 q1447 q566 rfl q1446 g5o rfl rfl g5d rfl (Nat.le_of_ble_eq_true rfl) (k1 := k - k7) (n1 := n - n8) (by omega) (by omega) ?_ ?_
  · rintro v h4 (⟨v9, e9, e8, hq⟩ | ⟨ci9, q9, e9, -⟩)
    · cases e9
      subst e8
      replace H := H h4 hq
      refine e_aload_n dJ27_append_10 rfl ?_
      obtain ⟨fsg12, g12o, H⟩ := H
      obtain ⟨d13, k14, n15, Q16, g12, g12d, g12k, g12n, H⟩ := H
      refine e_callV (r := (RJ28, TJ28, 4)) (As := []) g12 dJ27_append_11 wJ27_isLatin1 q563 q564 q566 g12o rfl rfl g12d rfl (Nat.le_of_ble_eq_true rfl) (k1 := k - k7 - k14) (n1 := n - n8 - n15) (by omega) (by omega) ?_ ?_
      · rintro v h11 (⟨v9, e9, r10, e8, hq⟩ | ⟨ci9, q9, e9, -⟩)
        · cases e9
          subst e8
          replace H := H r10 h11 hq
          refine e_if_eq 45 dJ27_append_14 (by decide) (fun g17 => ?_) (fun g17 => ?_)
          · replace H := H.1 g17
            exact E.less2 H (eS_s (eS_s eS_0))
          · replace H := H.2 g17
            refine e_iload_n dJ27_append_17 rfl ?_
            obtain ⟨d21, k22, n23, Q24, g20, g20d, g20k, g20n, H⟩ := H
            refine e_callS (As := [.int a1]) g20 dJ27_append_18 wJ8_canEncode_2 q1465 q1466 rfl g20d rfl (Nat.le_of_ble_eq_true rfl) (k1 := k - k7 - k14 - k22) (n1 := n - n8 - n15 - n23) (by omega) (by omega) ?_ ?_
            · rintro v h19 (⟨v9, e9, r18, e8, hq⟩ | ⟨ci9, q9, e9, -⟩)
              · cases e9
                subst e8
                replace H := H r18 h19 hq
                refine e_if_eq 45 dJ27_append_21 (by decide) (fun g25 => ?_) (fun g25 => ?_)
                · replace H := H.1 g25
                  exact E.less2 H (eS_s (eS_s eS_0))
                · replace H := H.2 g25
                  refine e_aload_n dJ27_append_24 rfl ?_
                  obtain ⟨x26, ⟨fsx26, g27, g27v⟩, H⟩ := H
                  refine e_get dJ27_append_25 fJ28_0 q1426 g27 g27v ?_
                  refine e_aload_n dJ27_append_28 rfl ?_
                  refine e_dup dJ27_append_29 rfl ?_
                  obtain ⟨x28, ⟨fsx28, g29, g29v⟩, H⟩ := H
                  refine e_get dJ27_append_30 fJ28_3 q1429 g29 g29v ?_
                  refine e_dup_x1 dJ27_append_33 rfl rfl ?_
                  refine e_iconst (1) dJ27_append_34 (by decide) ?_
                  refine e_iadd dJ27_append_35 ?_
                  obtain ⟨fs30, g31, g31l, g31j, H⟩ := H
                  refine e_put dJ27_append_36 fJ28_3 q1429 (eFit_i _) g31 g31l g31j ?_
                  replace H := H _ rfl
                  generalize eUp h19 a0 _ = h32 at H ⊢
                  refine e_iload_n dJ27_append_39 rfl ?_
                  refine e_i2b dJ27_append_40 ?_
                  obtain ⟨N33, f34, g35, g35l, g35i, H⟩ := H
                  refine e_bastore dJ27_append_41 g35 g35l g35i ?_
                  replace H := H _ rfl
                  generalize eUp h32 x26 _ = h36 at H ⊢
                  refine e_goto 75 dJ27_append_42 (by decide) ?_
                  refine e_aload_n dJ27_append_75 rfl ?_
                  exact e_areturn (r := some a0) _ dJ27_append_76 rfl (Or.inl ⟨_, rfl⟩) H
              · cases e9
            · rintro q9 h9 (⟨v9, e9, -⟩ | ⟨ci9, q8, e9, -, -, hx⟩)
              · cases e9
              · exact hx.elim
        · cases e9
      · rintro q9 h9 (⟨v9, e9, -⟩ | ⟨ci9, q8, e9, -, -, hx⟩)
        · cases e9
        · exact hx.elim
    · cases e9
  · rintro q9 h9 (⟨v9, e9, -⟩ | ⟨ci9, q8, e9, -, -, hx⟩)
    · cases e9
    · exact hx.elim
set_option maxHeartbeats 4000000 in
theorem s_J27_append_45 (c : cC) (a0 : Nat) (a1 : Int32) (h : eH) (k n : Nat) (H : ∃ fs8 : List Value, h.1 a0 = some (.inr (25, fs8)) ∧ ∃ (d4 k5 n6 : Nat) (Q7 : Int32 → eH → Prop), cI c.1 c.2.1 c.2.2.1 d4 mJ27_isLatin1 [.ref a0] h k5 n6 Q7 cX0 ∧ d4 + 1 ≤ c.2.2.2.1 ∧ k5 ≤ k ∧ n6 ≤ n ∧ (∀ (r1 : Int32) (h2 : eH), Q7 r1 h2 → ((r1 = 0 → h_J27_append_56 c a0 a1 h2 (k - k5) (n - n6)) ∧ (¬ r1 = 0 → ∃ fs8 : List Value, h2.1 a0 = some (.inr (25, fs8)) ∧ ∃ (d12 k13 n14 : Nat) (Q15 : eH → Prop), cV c.1 c.2.1 c.2.2.1 d12 mJ27_inflate [.ref a0] h2 k13 n14 Q15 cX0 ∧ d12 + 1 ≤ c.2.2.2.1 ∧ k13 ≤ k - k5 ∧ n14 ≤ n - n6 ∧ (∀ h10 : eH, Q15 h10 → (h_J27_append_56 c a0 a1 h10 (k - k5 - k13) (n - n6 - n14))))))) : h_J27_append_45 c a0 a1 h k n := by
  refine e_aload_n dJ27_append_45 rfl ?_
  obtain ⟨fsg3, g3o, H⟩ := H
  obtain ⟨d4, k5, n6, Q7, g3, g3d, g3k, g3n, H⟩ := H
  refine e_callV (r := (RJ28, TJ28, 4)) (As := []) g3 dJ27_append_46 wJ27_isLatin1 q563 q564 q566 g3o rfl rfl g3d rfl (Nat.le_of_ble_eq_true rfl) (k1 := k - k5) (n1 := n - n6) (by omega) (by omega) ?_ ?_
  · rintro v h2 (⟨v9, e9, r1, e8, hq⟩ | ⟨ci9, q9, e9, -⟩)
    · cases e9
      subst e8
      replace H := H r1 h2 hq
      refine e_if_eq 56 dJ27_append_49 (by decide) (fun g8 => ?_) (fun g8 => ?_)
      · replace H := H.1 g8
        exact E.less2 H (eS_s (eS_s eS_0))
      · replace H := H.2 g8
        refine e_aload_n dJ27_append_52 rfl ?_
        obtain ⟨fsg11, g11o, H⟩ := H
        obtain ⟨d12, k13, n14, Q15, g11, g11d, g11k, g11n, H⟩ := H
        refine e_callVP (r := (RJ28, TJ28, 4)) ⟨"java/lang/AbstractStringBuilder", "isLatin1", "()Z"⟩ ⟨"java/lang/AbstractStringBuilder", "isLatin1", "()Z"⟩ (As := []) g11 dJ27_append_53 wJ27_inflate rfl q1468 q1470 q566 rfl q1469 g11o rfl rfl g11d rfl (Nat.le_of_ble_eq_true rfl) (k1 := k - k5 - k13) (n1 := n - n6 - n14) (by omega) (by omega) ?_ ?_
        · rintro v h10 (⟨v9, e9, e8, hq⟩ | ⟨ci9, q9, e9, -⟩)
          · cases e9
            subst e8
            replace H := H h10 hq
            exact E.less2 H (eS_s (eS_s eS_0))
          · cases e9
        · rintro q9 h9 (⟨v9, e9, -⟩ | ⟨ci9, q8, e9, -, -, hx⟩)
          · cases e9
          · exact hx.elim
    · cases e9
  · rintro q9 h9 (⟨v9, e9, -⟩ | ⟨ci9, q8, e9, -, -, hx⟩)
    · cases e9
    · exact hx.elim
set_option maxHeartbeats 4000000 in
theorem s_J27_append_56 (c : cC) (a0 : Nat) (a1 : Int32) (h : eH) (k n : Nat) (H : ∃ x1 : Nat, fV h a0 25 0 (.ref x1) ∧ (∃ x3 : Int32, fV h a0 25 3 (.int x3) ∧ (∃ fs5 : List Value, h.1 a0 = some (.inr (25, fs5)) ∧ c.2.1 ≤ a0 ∧ 3 < fs5.length ∧ ∀ h7 : eH, h7 = eUp h a0 (.inr (25, fs5.set 3 (.int (x3 + (1 : Int32))))) → (∃ (d11 k12 n13 : Nat) (Q14 : eH → Prop), cV c.1 c.2.1 c.2.2.1 d11 mJ13_putCharSB [.ref x1, .int x3, .int a1] h7 k12 n13 Q14 cX0 ∧ d11 + 1 ≤ c.2.2.2.1 ∧ k12 ≤ k ∧ n13 ≤ n ∧ (∀ h9 : eH, Q14 h9 → (c.2.2.2.2 (.inl (some (.ref a0))) h9)))))) : h_J27_append_56 c a0 a1 h k n := by
  refine e_aload_n dJ27_append_56 rfl ?_
  obtain ⟨x1, ⟨fsx1, g2, g2v⟩, H⟩ := H
  refine e_get dJ27_append_57 fJ28_0 q1426 g2 g2v ?_
  refine e_aload_n dJ27_append_60 rfl ?_
  refine e_dup dJ27_append_61 rfl ?_
  obtain ⟨x3, ⟨fsx3, g4, g4v⟩, H⟩ := H
  refine e_get dJ27_append_62 fJ28_3 q1429 g4 g4v ?_
  refine e_dup_x1 dJ27_append_65 rfl rfl ?_
  refine e_iconst (1) dJ27_append_66 (by decide) ?_
  refine e_iadd dJ27_append_67 ?_
  obtain ⟨fs5, g6, g6l, g6j, H⟩ := H
  refine e_put dJ27_append_68 fJ28_3 q1429 (eFit_i _) g6 g6l g6j ?_
  replace H := H _ rfl
  generalize eUp h a0 _ = h7 at H ⊢
  refine e_iload_n dJ27_append_71 rfl ?_
  obtain ⟨d11, k12, n13, Q14, g10, g10d, g10k, g10n, H⟩ := H
  refine e_callS (As := [.ref x1, .int x3, .int a1]) g10 dJ27_append_72 wJ13_putCharSB q1490 q1491 rfl g10d rfl (Nat.le_of_ble_eq_true rfl) (k1 := k - k12) (n1 := n - n13) (by omega) (by omega) ?_ ?_
  · rintro v h9 (⟨v9, e9, e8, hq⟩ | ⟨ci9, q9, e9, -⟩)
    · cases e9
      subst e8
      replace H := H h9 hq
      refine e_aload_n dJ27_append_75 rfl ?_
      exact e_areturn (r := some a0) _ dJ27_append_76 rfl (Or.inl ⟨_, rfl⟩) H
    · cases e9
  · rintro q9 h9 (⟨v9, e9, -⟩ | ⟨ci9, q8, e9, -, -, hx⟩)
    · cases e9
    · exact hx.elim
theorem en_J27_append {l : Launch} {lo : Nat} {G : eG} {d : Nat} {P : eO → eH → Prop} (a0 : Nat) (a1 : Int32) {h : eH} {k n : Nat} (H : h_J27_append_0 (l, lo, G, d, P) a0 a1 h k n) : Ct l lo G d mJ27_append [.ref a0, .int a1] h k n P := 
  Ct_of (eArL mJ27_append.2.2.2.1 [.ref a0, .int a1]) (by decide) rfl (Nat.le_of_ble_eq_true rfl) (fun j w q => eArL_mem j w q) (E.less2 H (eS_s (eS_s eS_0)))
/-! J27_isLatin1 java/lang/AbstractStringBuilder.isLatin1()Z -/
def h_J27_isLatin1_0 (c : cC) (a0 : Nat) (h : eH) (k n : Nat) : Prop := E c.1 c.2.1 c.2.2.1 c.2.2.2.1 mJ27_isLatin1 c.2.2.2.2 0 [some (.ref a0)] [] h k n
set_option maxHeartbeats 4000000 in
theorem s_J27_isLatin1_0 (c : cC) (a0 : Nat) (h : eH) (k n : Nat) (H : ((1 : Int32) = 0 → c.2.2.2.2 (.inl (some (.int (0 : Int32)))) h) ∧ (¬ (1 : Int32) = 0 → ∃ x2 : Int32, fV h a0 25 1 (.int x2) ∧ ((¬ x2 = 0 → c.2.2.2.2 (.inl (some (.int (0 : Int32)))) h) ∧ (x2 = 0 → c.2.2.2.2 (.inl (some (.int (1 : Int32)))) h)))) : h_J27_isLatin1_0 c a0 h k n := by
  refine e_gets (i := 0) dJ27_isLatin1_0 rfl q568 ?_
  refine e_if_eq 17 dJ27_isLatin1_3 (by decide) (fun g1 => ?_) (fun g1 => ?_)
  · replace H := H.1 g1
    refine e_iconst (0) dJ27_isLatin1_17 (by decide) ?_
    exact e_ireturn .boolean dJ27_isLatin1_18 rfl (by decide) H
  · replace H := H.2 g1
    refine e_aload_n dJ27_isLatin1_6 rfl ?_
    obtain ⟨x2, ⟨fsx2, g3, g3v⟩, H⟩ := H
    refine e_get dJ27_isLatin1_7 fJ28_1 q1427 g3 g3v ?_
    refine e_if_ne 17 dJ27_isLatin1_10 (by decide) (fun g4 => ?_) (fun g4 => ?_)
    · replace H := H.1 g4
      refine e_iconst (0) dJ27_isLatin1_17 (by decide) ?_
      exact e_ireturn .boolean dJ27_isLatin1_18 rfl (by decide) H
    · replace H := H.2 g4
      refine e_iconst (1) dJ27_isLatin1_13 (by decide) ?_
      refine e_goto 18 dJ27_isLatin1_14 (by decide) ?_
      exact e_ireturn .boolean dJ27_isLatin1_18 rfl (by decide) H
theorem en_J27_isLatin1 {l : Launch} {lo : Nat} {G : eG} {d : Nat} {P : eO → eH → Prop} (a0 : Nat) {h : eH} {k n : Nat} (H : h_J27_isLatin1_0 (l, lo, G, d, P) a0 h k n) : Ct l lo G d mJ27_isLatin1 [.ref a0] h k n P := 
  Ct_of (eArL mJ27_isLatin1.2.2.2.1 [.ref a0]) (by decide) rfl (Nat.le_of_ble_eq_true rfl) (fun j w q => eArL_mem j w q) (E.less2 H (eS_s eS_0))
/-! J27_ensureCapacityInternal java/lang/AbstractStringBuilder.ensureCapacityInternal(I)V -/
def h_J27_ensureCapacityInternal_0 (c : cC) (a0 : Nat) (a1 : Int32) (h : eH) (k n : Nat) : Prop := E c.1 c.2.1 c.2.2.1 c.2.2.2.1 mJ27_ensureCapacityInternal c.2.2.2.2 0 [some (.ref a0), some (.int a1), none] [] h k n
set_option maxHeartbeats 4000000 in
theorem s_J27_ensureCapacityInternal_0 (c : cC) (a0 : Nat) (a1 : Int32) (h : eH) (k n : Nat) (H : ∃ x1 : Nat, fV h a0 25 0 (.ref x1) ∧ (∃ v3 : vp_A, h.1 x1 = some (.inl (c.2.2.1.2.1 2, v3)) ∧ (∃ x5 : Int32, fV h a0 25 1 (.int x5) ∧ (((a1 - ((nI v3.1) >>> (x5 &&& 31))) ≤ 0 → c.2.2.2.2 (.inl none) h) ∧ (¬ (a1 - ((nI v3.1) >>> (x5 &&& 31))) ≤ 0 → ∃ x8 : Nat, fV h a0 25 0 (.ref x8) ∧ (∃ fs8 : List Value, h.1 a0 = some (.inr (25, fs8)) ∧ ∃ (d13 k14 n15 : Nat) (Q16 : Int32 → eH → Prop), cI c.1 c.2.1 c.2.2.1 d13 mJ27_newCapacity [.ref a0, .int a1] h k14 n15 Q16 cX0 ∧ d13 + 1 ≤ c.2.2.2.1 ∧ k14 ≤ k ∧ n15 ≤ n ∧ (∀ (r10 : Int32) (h11 : eH), Q16 r10 h11 → (∃ x17 : Int32, fV h11 a0 25 1 (.int x17) ∧ (∃ (d22 k23 n24 : Nat) (Q25 : Nat → eH → Prop), cR c.1 c.2.1 c.2.2.1 d22 mJ21_copyOf_3 [.ref x8, .int (r10 <<< (x17 &&& 31))] h11 k23 n24 Q25 cX0 ∧ d22 + 1 ≤ c.2.2.2.1 ∧ k23 ≤ k - k14 ∧ n24 ≤ n - n15 ∧ (∀ (r19 : Nat) (h20 : eH), Q25 r19 h20 → (∃ fs26 : List Value, h20.1 a0 = some (.inr (25, fs26)) ∧ c.2.1 ≤ a0 ∧ 0 < fs26.length ∧ ∀ h28 : eH, h28 = eUp h20 a0 (.inr (25, fs26.set 0 (.ref r19))) → (c.2.2.2.2 (.inl none) h28)))))))))))) : h_J27_ensureCapacityInternal_0 c a0 a1 h k n := by
  refine e_aload_n dJ27_ensureCapacityInternal_0 rfl ?_
  obtain ⟨x1, ⟨fsx1, g2, g2v⟩, H⟩ := H
  refine e_get dJ27_ensureCapacityInternal_1 fJ28_0 q1426 g2 g2v ?_
  obtain ⟨v3, g4, H⟩ := H
  refine e_alen (t := 2) dJ27_ensureCapacityInternal_4 (fun _ => rfl) g4 ?_
  refine e_aload_n dJ27_ensureCapacityInternal_5 rfl ?_
  obtain ⟨x5, ⟨fsx5, g6, g6v⟩, H⟩ := H
  refine e_get dJ27_ensureCapacityInternal_6 fJ28_1 q1427 g6 g6v ?_
  refine e_ishr dJ27_ensureCapacityInternal_9 ?_
  refine e_istore_n _ dJ27_ensureCapacityInternal_10 (by decide) rfl rfl ?_
  refine e_iload_n dJ27_ensureCapacityInternal_11 rfl ?_
  refine e_iload_n dJ27_ensureCapacityInternal_12 rfl ?_
  refine e_isub dJ27_ensureCapacityInternal_13 ?_
  refine e_if_le 38 dJ27_ensureCapacityInternal_14 (by decide) (fun g7 => ?_) (fun g7 => ?_)
  · replace H := H.1 g7
    exact e_return dJ27_ensureCapacityInternal_38 rfl H
  · replace H := H.2 g7
    refine e_aload_n dJ27_ensureCapacityInternal_17 rfl ?_
    refine e_aload_n dJ27_ensureCapacityInternal_18 rfl ?_
    obtain ⟨x8, ⟨fsx8, g9, g9v⟩, H⟩ := H
    refine e_get dJ27_ensureCapacityInternal_19 fJ28_0 q1426 g9 g9v ?_
    refine e_aload_n dJ27_ensureCapacityInternal_22 rfl ?_
    refine e_iload_n dJ27_ensureCapacityInternal_23 rfl ?_
    obtain ⟨fsg12, g12o, H⟩ := H
    obtain ⟨d13, k14, n15, Q16, g12, g12d, g12k, g12n, H⟩ := H
    refine e_callVP (r := (RJ28, TJ28, 4)) ⟨"java/lang/AbstractStringBuilder", "isLatin1", "()Z"⟩ ⟨"java/lang/AbstractStringBuilder", "isLatin1", "()Z"⟩ (As := [.int a1]) g12 dJ27_ensureCapacityInternal_24 wJ27_newCapacity rfl q1449 q1451 q566 rfl q1450 g12o rfl rfl g12d rfl (Nat.le_of_ble_eq_true rfl) (k1 := k - k14) (n1 := n - n15) (by omega) (by omega) ?_ ?_
    · rintro v h11 (⟨v9, e9, r10, e8, hq⟩ | ⟨ci9, q9, e9, -⟩)
      · cases e9
        subst e8
        replace H := H r10 h11 hq
        refine e_aload_n dJ27_ensureCapacityInternal_27 rfl ?_
        obtain ⟨x17, ⟨fsx17, g18, g18v⟩, H⟩ := H
        refine e_get dJ27_ensureCapacityInternal_28 fJ28_1 q1427 g18 g18v ?_
        refine e_ishl dJ27_ensureCapacityInternal_31 ?_
        obtain ⟨d22, k23, n24, Q25, g21, g21d, g21k, g21n, H⟩ := H
        refine e_callS (As := [.ref x8, .int (r10 <<< (x17 &&& 31))]) g21 dJ27_ensureCapacityInternal_32 wJ21_copyOf_3 q1455 q1456 rfl g21d rfl (Nat.le_of_ble_eq_true rfl) (k1 := k - k14 - k23) (n1 := n - n15 - n24) (by omega) (by omega) ?_ ?_
        · rintro v h20 (⟨v9, e9, r19, e8, hq⟩ | ⟨ci9, q9, e9, -⟩)
          · cases e9
            subst e8
            replace H := H r19 h20 hq
            obtain ⟨fs26, g27, g27l, g27j, H⟩ := H
            refine e_put dJ27_ensureCapacityInternal_35 fJ28_0 q1426 (eFit_ar _ _) g27 g27l g27j ?_
            replace H := H _ rfl
            generalize eUp h20 a0 _ = h28 at H ⊢
            exact e_return dJ27_ensureCapacityInternal_38 rfl H
          · cases e9
        · rintro q9 h9 (⟨v9, e9, -⟩ | ⟨ci9, q8, e9, -, -, hx⟩)
          · cases e9
          · exact hx.elim
      · cases e9
    · rintro q9 h9 (⟨v9, e9, -⟩ | ⟨ci9, q8, e9, -, -, hx⟩)
      · cases e9
      · exact hx.elim
theorem en_J27_ensureCapacityInternal {l : Launch} {lo : Nat} {G : eG} {d : Nat} {P : eO → eH → Prop} (a0 : Nat) (a1 : Int32) {h : eH} {k n : Nat} (H : h_J27_ensureCapacityInternal_0 (l, lo, G, d, P) a0 a1 h k n) : Ct l lo G d mJ27_ensureCapacityInternal [.ref a0, .int a1] h k n P := 
  Ct_of (eArL mJ27_ensureCapacityInternal.2.2.2.1 [.ref a0, .int a1]) (by decide) rfl (Nat.le_of_ble_eq_true rfl) (fun j w q => eArL_mem j w q) (E.less2 H (eS_s (eS_s (eS_n eS_0))))
/-! J27_getValue java/lang/AbstractStringBuilder.getValue()[B -/
def h_J27_getValue_0 (c : cC) (a0 : Nat) (h : eH) (k n : Nat) : Prop := E c.1 c.2.1 c.2.2.1 c.2.2.2.1 mJ27_getValue c.2.2.2.2 0 [some (.ref a0)] [] h k n
set_option maxHeartbeats 4000000 in
theorem s_J27_getValue_0 (c : cC) (a0 : Nat) (h : eH) (k n : Nat) (H : ∃ x1 : Nat, fV h a0 25 0 (.ref x1) ∧ (c.2.2.2.2 (.inl (some (.ref x1))) h)) : h_J27_getValue_0 c a0 h k n := by
  refine e_aload_n dJ27_getValue_0 rfl ?_
  obtain ⟨x1, ⟨fsx1, g2, g2v⟩, H⟩ := H
  refine e_get dJ27_getValue_1 fJ28_0 q1426 g2 g2v ?_
  exact e_areturn (r := some x1) _ dJ27_getValue_4 rfl (Or.inr ⟨_, rfl⟩) H
theorem en_J27_getValue {l : Launch} {lo : Nat} {G : eG} {d : Nat} {P : eO → eH → Prop} (a0 : Nat) {h : eH} {k n : Nat} (H : h_J27_getValue_0 (l, lo, G, d, P) a0 h k n) : Ct l lo G d mJ27_getValue [.ref a0] h k n P := 
  Ct_of (eArL mJ27_getValue.2.2.2.1 [.ref a0]) (by decide) rfl (Nat.le_of_ble_eq_true rfl) (fun j w q => eArL_mem j w q) (E.less2 H (eS_s eS_0))
/-! J28_init java/lang/StringBuilder.<init>()V -/
def h_J28_init_0 (c : cC) (a0 : Nat) (h : eH) (k n : Nat) : Prop := E c.1 c.2.1 c.2.2.1 c.2.2.2.1 mJ28_init c.2.2.2.2 0 [some (.ref a0)] [] h k n
set_option maxHeartbeats 4000000 in
theorem s_J28_init_0 (c : cC) (a0 : Nat) (h : eH) (k n : Nat) (H : ∃ (d4 k5 n6 : Nat) (Q7 : eH → Prop), cV c.1 c.2.1 c.2.2.1 d4 mJ27_init [.ref a0, .int (16 : Int32)] h k5 n6 Q7 cX0 ∧ d4 + 1 ≤ c.2.2.2.1 ∧ k5 ≤ k ∧ n6 ≤ n ∧ (∀ h2 : eH, Q7 h2 → (c.2.2.2.2 (.inl none) h2))) : h_J28_init_0 c a0 h k n := by
  refine e_aload_n dJ28_init_0 rfl ?_
  refine e_bipush (16) dJ28_init_1 (by decide) ?_
  obtain ⟨d4, k5, n6, Q7, g3, g3d, g3k, g3n, H⟩ := H
  refine e_callI (As := [.int (16 : Int32)]) g3 dJ28_init_3 wJ27_init rfl rfl rfl q1415 q1416 rfl g3d rfl (Nat.le_of_ble_eq_true rfl) (k1 := k - k5) (n1 := n - n6) (by omega) (by omega) ?_ ?_
  · rintro v h2 (⟨v9, e9, e8, hq⟩ | ⟨ci9, q9, e9, -⟩)
    · cases e9
      subst e8
      replace H := H h2 hq
      exact e_return dJ28_init_6 rfl H
    · cases e9
  · rintro q9 h9 (⟨v9, e9, -⟩ | ⟨ci9, q8, e9, -, -, hx⟩)
    · cases e9
    · exact hx.elim
theorem en_J28_init {l : Launch} {lo : Nat} {G : eG} {d : Nat} {P : eO → eH → Prop} (a0 : Nat) {h : eH} {k n : Nat} (H : h_J28_init_0 (l, lo, G, d, P) a0 h k n) : Ct l lo G d mJ28_init [.ref a0] h k n P := 
  Ct_of (eArL mJ28_init.2.2.2.1 [.ref a0]) (by decide) rfl (Nat.le_of_ble_eq_true rfl) (fun j w q => eArL_mem j w q) (E.less2 H (eS_s eS_0))
/-! J28_append java/lang/StringBuilder.append(C)Ljava/lang/StringBuilder; -/
def h_J28_append_0 (c : cC) (a0 : Nat) (a1 : Int32) (h : eH) (k n : Nat) : Prop := E c.1 c.2.1 c.2.2.1 c.2.2.2.1 mJ28_append c.2.2.2.2 0 [some (.ref a0), some (.int a1)] [] h k n
set_option maxHeartbeats 4000000 in
theorem s_J28_append_0 (c : cC) (a0 : Nat) (a1 : Int32) (h : eH) (k n : Nat) (H : ∃ fs8 : List Value, h.1 a0 = some (.inr (25, fs8)) ∧ ∃ (d4 k5 n6 : Nat) (Q7 : Nat → eH → Prop), cR c.1 c.2.1 c.2.2.1 d4 mJ27_append [.ref a0, .int a1] h k5 n6 Q7 cX0 ∧ d4 + 1 ≤ c.2.2.2.1 ∧ k5 ≤ k ∧ n6 ≤ n ∧ (∀ (r1 : Nat) (h2 : eH), Q7 r1 h2 → (c.2.2.2.2 (.inl (some (.ref a0))) h2))) : h_J28_append_0 c a0 a1 h k n := by
  refine e_aload_n dJ28_append_0 rfl ?_
  refine e_iload_n dJ28_append_1 rfl ?_
  obtain ⟨fsg3, g3o, H⟩ := H
  obtain ⟨d4, k5, n6, Q7, g3, g3d, g3k, g3n, H⟩ := H
  refine e_callSU (r := (RJ28, TJ28, 4)) (As := [.int a1]) g3 dJ28_append_2 wJ27_append rfl (by decide) q1442 q3166 q560 q1443 g3o rfl rfl g3d rfl (Nat.le_of_ble_eq_true rfl) (k1 := k - k5) (n1 := n - n6) (by omega) (by omega) ?_ ?_
  · rintro v h2 (⟨v9, e9, r1, e8, hq⟩ | ⟨ci9, q9, e9, -⟩)
    · cases e9
      subst e8
      replace H := H r1 h2 hq
      refine e_pop dJ28_append_5 rfl ?_
      refine e_aload_n dJ28_append_6 rfl ?_
      exact e_areturn (r := some a0) _ dJ28_append_7 rfl (Or.inl ⟨_, rfl⟩) H
    · cases e9
  · rintro q9 h9 (⟨v9, e9, -⟩ | ⟨ci9, q8, e9, -, -, hx⟩)
    · cases e9
    · exact hx.elim
theorem en_J28_append {l : Launch} {lo : Nat} {G : eG} {d : Nat} {P : eO → eH → Prop} (a0 : Nat) (a1 : Int32) {h : eH} {k n : Nat} (H : h_J28_append_0 (l, lo, G, d, P) a0 a1 h k n) : Ct l lo G d mJ28_append [.ref a0, .int a1] h k n P := 
  Ct_of (eArL mJ28_append.2.2.2.1 [.ref a0, .int a1]) (by decide) rfl (Nat.le_of_ble_eq_true rfl) (fun j w q => eArL_mem j w q) (E.less2 H (eS_s (eS_s eS_0)))
/-! J28_toString java/lang/StringBuilder.toString()Ljava/lang/String; -/
def h_J28_toString_0 (c : cC) (a0 : Nat) (h : eH) (k n : Nat) : Prop := E c.1 c.2.1 c.2.2.1 c.2.2.2.1 mJ28_toString c.2.2.2.2 0 [some (.ref a0)] [] h k n
set_option maxHeartbeats 4000000 in
theorem s_J28_toString_0 (c : cC) (a0 : Nat) (h : eH) (k n : Nat) (H : 1 ≤ k ∧ 4 ≤ n ∧ ∀ h1 : eH, h1 = eNw h (.inr (18, [.null, .int 0, .int 0, .int 0])) → (∃ (d6 k7 n8 : Nat) (Q9 : eH → Prop), cV c.1 c.2.1 c.2.2.1 d6 mJ7_init [.ref h.2, .ref a0] h1 k7 n8 Q9 cX0 ∧ d6 + 1 ≤ c.2.2.2.1 ∧ k7 ≤ k - 1 ∧ n8 ≤ n - 4 ∧ (∀ h4 : eH, Q9 h4 → (c.2.2.2.2 (.inl (some (.ref h.2))) h4)))) : h_J28_toString_0 c a0 h k n := by
  obtain ⟨g2, g2n, H⟩ := H
  refine e_new (ci := 18) (N := 4) (C := RJ7) (T := TJ7) tyJ7 (fs := [.null, .int 0, .int 0, .int 0]) dJ28_toString_0 rfl in_J7 tyJ7_ok q1504 q1505 q145 (by decide) (k1 := k - 1) (n1 := n - 4) (by omega) (by omega) ?_
  replace H := H _ rfl
  generalize eNw h _ = h1 at H ⊢
  refine e_dup dJ28_toString_3 rfl ?_
  refine e_aload_n dJ28_toString_4 rfl ?_
  obtain ⟨d6, k7, n8, Q9, g5, g5d, g5k, g5n, H⟩ := H
  refine e_callI (As := [.ref a0]) g5 dJ28_toString_5 wJ7_init rfl rfl rfl q1506 q1507 rfl g5d rfl (Nat.le_of_ble_eq_true rfl) (k1 := k - 1 - k7) (n1 := n - 4 - n8) (by omega) (by omega) ?_ ?_
  · rintro v h4 (⟨v9, e9, e8, hq⟩ | ⟨ci9, q9, e9, -⟩)
    · cases e9
      subst e8
      replace H := H h4 hq
      exact e_areturn (r := some h.2) _ dJ28_toString_8 rfl (Or.inl ⟨_, rfl⟩) H
    · cases e9
  · rintro q9 h9 (⟨v9, e9, -⟩ | ⟨ci9, q8, e9, -, -, hx⟩)
    · cases e9
    · exact hx.elim
theorem en_J28_toString {l : Launch} {lo : Nat} {G : eG} {d : Nat} {P : eO → eH → Prop} (a0 : Nat) {h : eH} {k n : Nat} (H : h_J28_toString_0 (l, lo, G, d, P) a0 h k n) : Ct l lo G d mJ28_toString [.ref a0] h k n P := 
  Ct_of (eArL mJ28_toString.2.2.2.1 [.ref a0]) (by decide) rfl (Nat.le_of_ble_eq_true rfl) (fun j w q => eArL_mem j w q) (E.less2 H (eS_s eS_0))
/-! J28_length java/lang/StringBuilder.length()I -/
def h_J28_length_0 (c : cC) (a0 : Nat) (h : eH) (k n : Nat) : Prop := E c.1 c.2.1 c.2.2.1 c.2.2.2.1 mJ28_length c.2.2.2.2 0 [some (.ref a0)] [] h k n
set_option maxHeartbeats 4000000 in
theorem s_J28_length_0 (c : cC) (a0 : Nat) (h : eH) (k n : Nat) (H : ∃ fs8 : List Value, h.1 a0 = some (.inr (25, fs8)) ∧ ∃ (d4 k5 n6 : Nat) (Q7 : Int32 → eH → Prop), cI c.1 c.2.1 c.2.2.1 d4 mJ27_length [.ref a0] h k5 n6 Q7 cX0 ∧ d4 + 1 ≤ c.2.2.2.1 ∧ k5 ≤ k ∧ n6 ≤ n ∧ (∀ (r1 : Int32) (h2 : eH), Q7 r1 h2 → (c.2.2.2.2 (.inl (some (.int r1))) h2))) : h_J28_length_0 c a0 h k n := by
  refine e_aload_n dJ28_length_0 rfl ?_
  obtain ⟨fsg3, g3o, H⟩ := H
  obtain ⟨d4, k5, n6, Q7, g3, g3d, g3k, g3n, H⟩ := H
  refine e_callSU (r := (RJ28, TJ28, 4)) (As := []) g3 dJ28_length_1 wJ27_length rfl (by decide) q1524 q1520 q560 q1519 g3o rfl rfl g3d rfl (Nat.le_of_ble_eq_true rfl) (k1 := k - k5) (n1 := n - n6) (by omega) (by omega) ?_ ?_
  · rintro v h2 (⟨v9, e9, r1, e8, hq⟩ | ⟨ci9, q9, e9, -⟩)
    · cases e9
      subst e8
      replace H := H r1 h2 hq
      exact e_ireturn .int dJ28_length_4 rfl rfl H
    · cases e9
  · rintro q9 h9 (⟨v9, e9, -⟩ | ⟨ci9, q8, e9, -, -, hx⟩)
    · cases e9
    · exact hx.elim
theorem en_J28_length {l : Launch} {lo : Nat} {G : eG} {d : Nat} {P : eO → eH → Prop} (a0 : Nat) {h : eH} {k n : Nat} (H : h_J28_length_0 (l, lo, G, d, P) a0 h k n) : Ct l lo G d mJ28_length [.ref a0] h k n P := 
  Ct_of (eArL mJ28_length.2.2.2.1 [.ref a0]) (by decide) rfl (Nat.le_of_ble_eq_true rfl) (fun j w q => eArL_mem j w q) (E.less2 H (eS_s eS_0))
/-! J30_init@X8 java/lang/Exception.<init>(Ljava/lang/String;Ljava/lang/Throwable;ZZ)V -/
def h_J30_init_X8_0 (c : cC) (a0 : Nat) (a1 : Option Nat) (a2 : Option Nat) (a3 : Int32) (a4 : Int32) (h : eH) (k n : Nat) : Prop := E c.1 c.2.1 c.2.2.1 c.2.2.2.1 mJ30_init c.2.2.2.2 0 [some (.ref a0), some (va_rf a1), some (va_rf a2), some (.int a3), some (.int a4)] [] h k n
set_option maxHeartbeats 4000000 in
theorem s_J30_init_X8_0 (c : cC) (a0 : Nat) (a1 : Option Nat) (a2 : Option Nat) (a3 : Int32) (a4 : Int32) (h : eH) (k n : Nat) (H : ∃ (d4 k5 n6 : Nat) (Q7 : eH → Prop), cV c.1 c.2.1 c.2.2.1 d4 mJ29_init_2 [.ref a0, va_rf a1, va_rf a2, .int a3, .int a4] h k5 n6 Q7 cX0 ∧ d4 + 1 ≤ c.2.2.2.1 ∧ k5 ≤ k ∧ n6 ≤ n ∧ (∀ h2 : eH, Q7 h2 → (c.2.2.2.2 (.inl none) h2))) : h_J30_init_X8_0 c a0 a1 a2 a3 a4 h k n := by
  refine e_aload_n dJ30_init_0 rfl ?_
  refine e_aloadR_n (r := a1) dJ30_init_1 rfl ?_
  refine e_aloadR_n (r := a2) dJ30_init_2 rfl ?_
  refine e_iload_n dJ30_init_3 rfl ?_
  refine e_iload dJ30_init_4 rfl ?_
  obtain ⟨d4, k5, n6, Q7, g3, g3d, g3k, g3n, H⟩ := H
  refine e_callI (As := [va_rf a1, va_rf a2, .int a3, .int a4]) g3 dJ30_init_6 wJ29_init_2 rfl rfl rfl q1613 q1614 rfl g3d rfl (Nat.le_of_ble_eq_true rfl) (k1 := k - k5) (n1 := n - n6) (by omega) (by omega) ?_ ?_
  · rintro v h2 (⟨v9, e9, e8, hq⟩ | ⟨ci9, q9, e9, -⟩)
    · cases e9
      subst e8
      replace H := H h2 hq
      exact e_return dJ30_init_9 rfl H
    · cases e9
  · rintro q9 h9 (⟨v9, e9, -⟩ | ⟨ci9, q8, e9, -, -, hx⟩)
    · cases e9
    · exact hx.elim
theorem en_J30_init_X8 {l : Launch} {lo : Nat} {G : eG} {d : Nat} {P : eO → eH → Prop} (a0 : Nat) (a1 : Option Nat) (a2 : Option Nat) (a3 : Int32) (a4 : Int32) {h : eH} {k n : Nat} (H : h_J30_init_X8_0 (l, lo, G, d, P) a0 a1 a2 a3 a4 h k n) : Ct l lo G d mJ30_init [.ref a0, va_rf a1, va_rf a2, .int a3, .int a4] h k n P := by
  cases a1 with
  | none =>
    cases a2 with
    | none =>
      exact Ct_of (eArL mJ30_init.2.2.2.1 [.ref a0, va_rf none, va_rf none, .int a3, .int a4]) (by decide) rfl (Nat.le_of_ble_eq_true rfl) (fun j w q => eArL_mem j w q) (E.less2 H (eS_s (eS_s (eS_s (eS_s (eS_s eS_0))))))
    | some a29 =>
      exact Ct_of (eArL mJ30_init.2.2.2.1 [.ref a0, va_rf none, va_rf (some a29), .int a3, .int a4]) (by decide) rfl (Nat.le_of_ble_eq_true rfl) (fun j w q => eArL_mem j w q) (E.less2 H (eS_s (eS_s (eS_s (eS_s (eS_s eS_0))))))
  | some a19 =>
    cases a2 with
    | none =>
      exact Ct_of (eArL mJ30_init.2.2.2.1 [.ref a0, va_rf (some a19), va_rf none, .int a3, .int a4]) (by decide) rfl (Nat.le_of_ble_eq_true rfl) (fun j w q => eArL_mem j w q) (E.less2 H (eS_s (eS_s (eS_s (eS_s (eS_s eS_0))))))
    | some a29 =>
      exact Ct_of (eArL mJ30_init.2.2.2.1 [.ref a0, va_rf (some a19), va_rf (some a29), .int a3, .int a4]) (by decide) rfl (Nat.le_of_ble_eq_true rfl) (fun j w q => eArL_mem j w q) (E.less2 H (eS_s (eS_s (eS_s (eS_s (eS_s eS_0))))))
/-! J30_init@X10 java/lang/Exception.<init>(Ljava/lang/String;Ljava/lang/Throwable;ZZ)V -/
def h_J30_init_X10_0 (c : cC) (a0 : Nat) (a1 : Option Nat) (a2 : Option Nat) (a3 : Int32) (a4 : Int32) (h : eH) (k n : Nat) : Prop := E c.1 c.2.1 c.2.2.1 c.2.2.2.1 mJ30_init c.2.2.2.2 0 [some (.ref a0), some (va_rf a1), some (va_rf a2), some (.int a3), some (.int a4)] [] h k n
set_option maxHeartbeats 4000000 in
theorem s_J30_init_X10_0 (c : cC) (a0 : Nat) (a1 : Option Nat) (a2 : Option Nat) (a3 : Int32) (a4 : Int32) (h : eH) (k n : Nat) (H : ∃ (d4 k5 n6 : Nat) (Q7 : eH → Prop), cV c.1 c.2.1 c.2.2.1 d4 mJ29_init_2 [.ref a0, va_rf a1, va_rf a2, .int a3, .int a4] h k5 n6 Q7 cX0 ∧ d4 + 1 ≤ c.2.2.2.1 ∧ k5 ≤ k ∧ n6 ≤ n ∧ (∀ h2 : eH, Q7 h2 → (c.2.2.2.2 (.inl none) h2))) : h_J30_init_X10_0 c a0 a1 a2 a3 a4 h k n := by
  refine e_aload_n dJ30_init_0 rfl ?_
  refine e_aloadR_n (r := a1) dJ30_init_1 rfl ?_
  refine e_aloadR_n (r := a2) dJ30_init_2 rfl ?_
  refine e_iload_n dJ30_init_3 rfl ?_
  refine e_iload dJ30_init_4 rfl ?_
  obtain ⟨d4, k5, n6, Q7, g3, g3d, g3k, g3n, H⟩ := H
  refine e_callI (As := [va_rf a1, va_rf a2, .int a3, .int a4]) g3 dJ30_init_6 wJ29_init_2 rfl rfl rfl q1613 q1614 rfl g3d rfl (Nat.le_of_ble_eq_true rfl) (k1 := k - k5) (n1 := n - n6) (by omega) (by omega) ?_ ?_
  · rintro v h2 (⟨v9, e9, e8, hq⟩ | ⟨ci9, q9, e9, -⟩)
    · cases e9
      subst e8
      replace H := H h2 hq
      exact e_return dJ30_init_9 rfl H
    · cases e9
  · rintro q9 h9 (⟨v9, e9, -⟩ | ⟨ci9, q8, e9, -, -, hx⟩)
    · cases e9
    · exact hx.elim
theorem en_J30_init_X10 {l : Launch} {lo : Nat} {G : eG} {d : Nat} {P : eO → eH → Prop} (a0 : Nat) (a1 : Option Nat) (a2 : Option Nat) (a3 : Int32) (a4 : Int32) {h : eH} {k n : Nat} (H : h_J30_init_X10_0 (l, lo, G, d, P) a0 a1 a2 a3 a4 h k n) : Ct l lo G d mJ30_init [.ref a0, va_rf a1, va_rf a2, .int a3, .int a4] h k n P := by
  cases a1 with
  | none =>
    cases a2 with
    | none =>
      exact Ct_of (eArL mJ30_init.2.2.2.1 [.ref a0, va_rf none, va_rf none, .int a3, .int a4]) (by decide) rfl (Nat.le_of_ble_eq_true rfl) (fun j w q => eArL_mem j w q) (E.less2 H (eS_s (eS_s (eS_s (eS_s (eS_s eS_0))))))
    | some a29 =>
      exact Ct_of (eArL mJ30_init.2.2.2.1 [.ref a0, va_rf none, va_rf (some a29), .int a3, .int a4]) (by decide) rfl (Nat.le_of_ble_eq_true rfl) (fun j w q => eArL_mem j w q) (E.less2 H (eS_s (eS_s (eS_s (eS_s (eS_s eS_0))))))
  | some a19 =>
    cases a2 with
    | none =>
      exact Ct_of (eArL mJ30_init.2.2.2.1 [.ref a0, va_rf (some a19), va_rf none, .int a3, .int a4]) (by decide) rfl (Nat.le_of_ble_eq_true rfl) (fun j w q => eArL_mem j w q) (E.less2 H (eS_s (eS_s (eS_s (eS_s (eS_s eS_0))))))
    | some a29 =>
      exact Ct_of (eArL mJ30_init.2.2.2.1 [.ref a0, va_rf (some a19), va_rf (some a29), .int a3, .int a4]) (by decide) rfl (Nat.le_of_ble_eq_true rfl) (fun j w q => eArL_mem j w q) (E.less2 H (eS_s (eS_s (eS_s (eS_s (eS_s eS_0))))))
/-! J30_init@X11 java/lang/Exception.<init>(Ljava/lang/String;Ljava/lang/Throwable;ZZ)V -/
def h_J30_init_X11_0 (c : cC) (a0 : Nat) (a1 : Option Nat) (a2 : Option Nat) (a3 : Int32) (a4 : Int32) (h : eH) (k n : Nat) : Prop := E c.1 c.2.1 c.2.2.1 c.2.2.2.1 mJ30_init c.2.2.2.2 0 [some (.ref a0), some (va_rf a1), some (va_rf a2), some (.int a3), some (.int a4)] [] h k n
set_option maxHeartbeats 4000000 in
theorem s_J30_init_X11_0 (c : cC) (a0 : Nat) (a1 : Option Nat) (a2 : Option Nat) (a3 : Int32) (a4 : Int32) (h : eH) (k n : Nat) (H : ∃ (d4 k5 n6 : Nat) (Q7 : eH → Prop), cV c.1 c.2.1 c.2.2.1 d4 mJ29_init_2 [.ref a0, va_rf a1, va_rf a2, .int a3, .int a4] h k5 n6 Q7 cX0 ∧ d4 + 1 ≤ c.2.2.2.1 ∧ k5 ≤ k ∧ n6 ≤ n ∧ (∀ h2 : eH, Q7 h2 → (c.2.2.2.2 (.inl none) h2))) : h_J30_init_X11_0 c a0 a1 a2 a3 a4 h k n := by
  refine e_aload_n dJ30_init_0 rfl ?_
  refine e_aloadR_n (r := a1) dJ30_init_1 rfl ?_
  refine e_aloadR_n (r := a2) dJ30_init_2 rfl ?_
  refine e_iload_n dJ30_init_3 rfl ?_
  refine e_iload dJ30_init_4 rfl ?_
  obtain ⟨d4, k5, n6, Q7, g3, g3d, g3k, g3n, H⟩ := H
  refine e_callI (As := [va_rf a1, va_rf a2, .int a3, .int a4]) g3 dJ30_init_6 wJ29_init_2 rfl rfl rfl q1613 q1614 rfl g3d rfl (Nat.le_of_ble_eq_true rfl) (k1 := k - k5) (n1 := n - n6) (by omega) (by omega) ?_ ?_
  · rintro v h2 (⟨v9, e9, e8, hq⟩ | ⟨ci9, q9, e9, -⟩)
    · cases e9
      subst e8
      replace H := H h2 hq
      exact e_return dJ30_init_9 rfl H
    · cases e9
  · rintro q9 h9 (⟨v9, e9, -⟩ | ⟨ci9, q8, e9, -, -, hx⟩)
    · cases e9
    · exact hx.elim
theorem en_J30_init_X11 {l : Launch} {lo : Nat} {G : eG} {d : Nat} {P : eO → eH → Prop} (a0 : Nat) (a1 : Option Nat) (a2 : Option Nat) (a3 : Int32) (a4 : Int32) {h : eH} {k n : Nat} (H : h_J30_init_X11_0 (l, lo, G, d, P) a0 a1 a2 a3 a4 h k n) : Ct l lo G d mJ30_init [.ref a0, va_rf a1, va_rf a2, .int a3, .int a4] h k n P := by
  cases a1 with
  | none =>
    cases a2 with
    | none =>
      exact Ct_of (eArL mJ30_init.2.2.2.1 [.ref a0, va_rf none, va_rf none, .int a3, .int a4]) (by decide) rfl (Nat.le_of_ble_eq_true rfl) (fun j w q => eArL_mem j w q) (E.less2 H (eS_s (eS_s (eS_s (eS_s (eS_s eS_0))))))
    | some a29 =>
      exact Ct_of (eArL mJ30_init.2.2.2.1 [.ref a0, va_rf none, va_rf (some a29), .int a3, .int a4]) (by decide) rfl (Nat.le_of_ble_eq_true rfl) (fun j w q => eArL_mem j w q) (E.less2 H (eS_s (eS_s (eS_s (eS_s (eS_s eS_0))))))
  | some a19 =>
    cases a2 with
    | none =>
      exact Ct_of (eArL mJ30_init.2.2.2.1 [.ref a0, va_rf (some a19), va_rf none, .int a3, .int a4]) (by decide) rfl (Nat.le_of_ble_eq_true rfl) (fun j w q => eArL_mem j w q) (E.less2 H (eS_s (eS_s (eS_s (eS_s (eS_s eS_0))))))
    | some a29 =>
      exact Ct_of (eArL mJ30_init.2.2.2.1 [.ref a0, va_rf (some a19), va_rf (some a29), .int a3, .int a4]) (by decide) rfl (Nat.le_of_ble_eq_true rfl) (fun j w q => eArL_mem j w q) (E.less2 H (eS_s (eS_s (eS_s (eS_s (eS_s eS_0))))))
/-! J30_init@X12 java/lang/Exception.<init>(Ljava/lang/String;Ljava/lang/Throwable;ZZ)V -/
def h_J30_init_X12_0 (c : cC) (a0 : Nat) (a1 : Option Nat) (a2 : Option Nat) (a3 : Int32) (a4 : Int32) (h : eH) (k n : Nat) : Prop := E c.1 c.2.1 c.2.2.1 c.2.2.2.1 mJ30_init c.2.2.2.2 0 [some (.ref a0), some (va_rf a1), some (va_rf a2), some (.int a3), some (.int a4)] [] h k n
set_option maxHeartbeats 4000000 in
theorem s_J30_init_X12_0 (c : cC) (a0 : Nat) (a1 : Option Nat) (a2 : Option Nat) (a3 : Int32) (a4 : Int32) (h : eH) (k n : Nat) (H : ∃ (d4 k5 n6 : Nat) (Q7 : eH → Prop), cV c.1 c.2.1 c.2.2.1 d4 mJ29_init_2 [.ref a0, va_rf a1, va_rf a2, .int a3, .int a4] h k5 n6 Q7 cX0 ∧ d4 + 1 ≤ c.2.2.2.1 ∧ k5 ≤ k ∧ n6 ≤ n ∧ (∀ h2 : eH, Q7 h2 → (c.2.2.2.2 (.inl none) h2))) : h_J30_init_X12_0 c a0 a1 a2 a3 a4 h k n := by
  refine e_aload_n dJ30_init_0 rfl ?_
  refine e_aloadR_n (r := a1) dJ30_init_1 rfl ?_
  refine e_aloadR_n (r := a2) dJ30_init_2 rfl ?_
  refine e_iload_n dJ30_init_3 rfl ?_
  refine e_iload dJ30_init_4 rfl ?_
  obtain ⟨d4, k5, n6, Q7, g3, g3d, g3k, g3n, H⟩ := H
  refine e_callI (As := [va_rf a1, va_rf a2, .int a3, .int a4]) g3 dJ30_init_6 wJ29_init_2 rfl rfl rfl q1613 q1614 rfl g3d rfl (Nat.le_of_ble_eq_true rfl) (k1 := k - k5) (n1 := n - n6) (by omega) (by omega) ?_ ?_
  · rintro v h2 (⟨v9, e9, e8, hq⟩ | ⟨ci9, q9, e9, -⟩)
    · cases e9
      subst e8
      replace H := H h2 hq
      exact e_return dJ30_init_9 rfl H
    · cases e9
  · rintro q9 h9 (⟨v9, e9, -⟩ | ⟨ci9, q8, e9, -, -, hx⟩)
    · cases e9
    · exact hx.elim
theorem en_J30_init_X12 {l : Launch} {lo : Nat} {G : eG} {d : Nat} {P : eO → eH → Prop} (a0 : Nat) (a1 : Option Nat) (a2 : Option Nat) (a3 : Int32) (a4 : Int32) {h : eH} {k n : Nat} (H : h_J30_init_X12_0 (l, lo, G, d, P) a0 a1 a2 a3 a4 h k n) : Ct l lo G d mJ30_init [.ref a0, va_rf a1, va_rf a2, .int a3, .int a4] h k n P := by
  cases a1 with
  | none =>
    cases a2 with
    | none =>
      exact Ct_of (eArL mJ30_init.2.2.2.1 [.ref a0, va_rf none, va_rf none, .int a3, .int a4]) (by decide) rfl (Nat.le_of_ble_eq_true rfl) (fun j w q => eArL_mem j w q) (E.less2 H (eS_s (eS_s (eS_s (eS_s (eS_s eS_0))))))
    | some a29 =>
      exact Ct_of (eArL mJ30_init.2.2.2.1 [.ref a0, va_rf none, va_rf (some a29), .int a3, .int a4]) (by decide) rfl (Nat.le_of_ble_eq_true rfl) (fun j w q => eArL_mem j w q) (E.less2 H (eS_s (eS_s (eS_s (eS_s (eS_s eS_0))))))
  | some a19 =>
    cases a2 with
    | none =>
      exact Ct_of (eArL mJ30_init.2.2.2.1 [.ref a0, va_rf (some a19), va_rf none, .int a3, .int a4]) (by decide) rfl (Nat.le_of_ble_eq_true rfl) (fun j w q => eArL_mem j w q) (E.less2 H (eS_s (eS_s (eS_s (eS_s (eS_s eS_0))))))
    | some a29 =>
      exact Ct_of (eArL mJ30_init.2.2.2.1 [.ref a0, va_rf (some a19), va_rf (some a29), .int a3, .int a4]) (by decide) rfl (Nat.le_of_ble_eq_true rfl) (fun j w q => eArL_mem j w q) (E.less2 H (eS_s (eS_s (eS_s (eS_s (eS_s eS_0))))))
/-! J29_init_2@X8 java/lang/Throwable.<init>(Ljava/lang/String;Ljava/lang/Throwable;ZZ)V -/
def h_J29_init_2_X8_0 (c : cC) (a0 : Nat) (a1 : Option Nat) (a2 : Option Nat) (a3 : Int32) (a4 : Int32) (h : eH) (k n : Nat) : Prop := E c.1 c.2.1 c.2.2.1 c.2.2.2.1 mJ29_init_2 c.2.2.2.2 0 [some (.ref a0), some (va_rf a1), some (va_rf a2), some (.int a3), some (.int a4)] [] h k n
def h_J29_init_2_X8_41 (c : cC) (a0 : Nat) (a1 : Option Nat) (a2 : Option Nat) (a3 : Int32) (h : eH) (k n : Nat) : Prop := E c.1 c.2.1 c.2.2.1 c.2.2.2.1 mJ29_init_2 c.2.2.2.2 41 [some (.ref a0), some (va_rf a1), some (va_rf a2), some (.int a3), none] [] h k n
set_option maxHeartbeats 4000000 in
theorem s_J29_init_2_X8_0 (c : cC) (a0 : Nat) (a1 : Option Nat) (a2 : Option Nat) (a3 : Int32) (a4 : Int32) (h : eH) (k n : Nat) (H : 1 ≤ c.2.2.2.1 ∧ (∃ fs2 : List Value, h.1 a0 = some (.inr (8, fs2)) ∧ c.2.1 ≤ a0 ∧ 0 < fs2.length ∧ ∀ h4 : eH, h4 = eUp h a0 (.inr (8, fs2.set 0 (.ref a0))) → (eFit (.array (.object "java/lang/StackTraceElement")) (c.2.2.1.2.2.1 0) ∧ ∃ fs5 : List Value, h4.1 a0 = some (.inr (8, fs5)) ∧ c.2.1 ≤ a0 ∧ 1 < fs5.length ∧ ∀ h7 : eH, h7 = eUp h4 a0 (.inr (8, fs5.set 1 ((c.2.2.1.2.2.1 0)))) → (eFit (.object "java/util/List") (c.2.2.1.2.2.1 1) ∧ ∃ fs8 : List Value, h7.1 a0 = some (.inr (8, fs8)) ∧ c.2.1 ≤ a0 ∧ 2 < fs8.length ∧ ∀ h10 : eH, h10 = eUp h7 a0 (.inr (8, fs8.set 2 ((c.2.2.1.2.2.1 1)))) → ((a4 = 0 → ∃ fs12 : List Value, h10.1 a0 = some (.inr (8, fs12)) ∧ c.2.1 ≤ a0 ∧ 1 < fs12.length ∧ ∀ h14 : eH, h14 = eUp h10 a0 (.inr (8, fs12.set 1 (.null))) → (h_J29_init_2_X8_41 c a0 a1 a2 a3 h14 k n)) ∧ (¬ a4 = 0 → False)))))) : h_J29_init_2_X8_0 c a0 a1 a2 a3 a4 h k n := by
  refine e_aload_n dJ29_init_2_0 rfl ?_
  obtain ⟨g1, H⟩ := H
  refine e_objInit dJ29_init_2_1 q1589 q192 q193 g1 (Nat.le_of_ble_eq_true rfl) ?_
  refine e_aload_n dJ29_init_2_4 rfl ?_
  refine e_aload_n dJ29_init_2_5 rfl ?_
  obtain ⟨fs2, g3, g3l, g3j, H⟩ := H
  refine e_put dJ29_init_2_6 fX8_0 q1622 (eFit_or _ _) g3 g3l g3j ?_
  replace H := H _ rfl
  generalize eUp h a0 _ = h4 at H ⊢
  refine e_aload_n dJ29_init_2_9 rfl ?_
  refine e_gets (i := 4) dJ29_init_2_10 rfl q1590 ?_
  obtain ⟨g6f, H⟩ := H
  obtain ⟨fs5, g6, g6l, g6j, H⟩ := H
  refine e_put dJ29_init_2_13 fX8_1 q1623 g6f g6 g6l g6j ?_
  replace H := H _ rfl
  generalize eUp h4 a0 _ = h7 at H ⊢
  refine e_aload_n dJ29_init_2_16 rfl ?_
  refine e_gets (i := 5) dJ29_init_2_17 rfl q1592 ?_
  obtain ⟨g9f, H⟩ := H
  obtain ⟨fs8, g9, g9l, g9j, H⟩ := H
  refine e_put dJ29_init_2_20 fX8_2 q1624 g9f g9 g9l g9j ?_
  replace H := H _ rfl
  generalize eUp h7 a0 _ = h10 at H ⊢
  refine e_iload dJ29_init_2_23 rfl ?_
  refine e_if_eq 36 dJ29_init_2_25 (by decide) (fun g11 => ?_) (fun g11 => ?_)
  · replace H := H.1 g11
    refine e_aload_n dJ29_init_2_36 rfl ?_
    refine e_null dJ29_init_2_37 ?_
    obtain ⟨fs12, g13, g13l, g13j, H⟩ := H
    refine e_put dJ29_init_2_38 fX8_1 q1623 (eFit_a _ none) g13 g13l g13j ?_
    replace H := H _ rfl
    generalize eUp h10 a0 _ = h14 at H ⊢
    exact E.less2 H (eS_s (eS_s (eS_s (eS_s (eS_n eS_0)))))
  · replace H := H.2 g11
    refine e_aload_n dJ29_init_2_28 rfl ?_
    exact H.elim
set_option maxHeartbeats 4000000 in
theorem s_J29_init_2_X8_41 (c : cC) (a0 : Nat) (a1 : Option Nat) (a2 : Option Nat) (a3 : Int32) (h : eH) (k n : Nat) (H : ∃ fs1 : List Value, h.1 a0 = some (.inr (8, fs1)) ∧ c.2.1 ≤ a0 ∧ 3 < fs1.length ∧ ∀ h3 : eH, h3 = eUp h a0 (.inr (8, fs1.set 3 (va_rf a1))) → (∃ fs4 : List Value, h3.1 a0 = some (.inr (8, fs4)) ∧ c.2.1 ≤ a0 ∧ 0 < fs4.length ∧ ∀ h6 : eH, h6 = eUp h3 a0 (.inr (8, fs4.set 0 (va_rf a2))) → ((¬ a3 = 0 → c.2.2.2.2 (.inl none) h6) ∧ (a3 = 0 → ∃ fs8 : List Value, h6.1 a0 = some (.inr (8, fs8)) ∧ c.2.1 ≤ a0 ∧ 2 < fs8.length ∧ ∀ h10 : eH, h10 = eUp h6 a0 (.inr (8, fs8.set 2 (.null))) → (c.2.2.2.2 (.inl none) h10))))) : h_J29_init_2_X8_41 c a0 a1 a2 a3 h k n := by
  refine e_aload_n dJ29_init_2_41 rfl ?_
  refine e_aloadR_n (r := a1) dJ29_init_2_42 rfl ?_
  obtain ⟨fs1, g2, g2l, g2j, H⟩ := H
  refine e_put dJ29_init_2_43 fX8_3 q1621 (eFit_o _ a1) g2 g2l g2j ?_
  replace H := H _ rfl
  generalize eUp h a0 _ = h3 at H ⊢
  refine e_aload_n dJ29_init_2_46 rfl ?_
  refine e_aloadR_n (r := a2) dJ29_init_2_47 rfl ?_
  obtain ⟨fs4, g5, g5l, g5j, H⟩ := H
  refine e_put dJ29_init_2_48 fX8_0 q1622 (eFit_o _ a2) g5 g5l g5j ?_
  replace H := H _ rfl
  generalize eUp h3 a0 _ = h6 at H ⊢
  refine e_iload_n dJ29_init_2_51 rfl ?_
  refine e_if_ne 60 dJ29_init_2_52 (by decide) (fun g7 => ?_) (fun g7 => ?_)
  · replace H := H.1 g7
    exact e_return dJ29_init_2_60 rfl H
  · replace H := H.2 g7
    refine e_aload_n dJ29_init_2_55 rfl ?_
    refine e_null dJ29_init_2_56 ?_
    obtain ⟨fs8, g9, g9l, g9j, H⟩ := H
    refine e_put dJ29_init_2_57 fX8_2 q1624 (eFit_o _ none) g9 g9l g9j ?_
    replace H := H _ rfl
    generalize eUp h6 a0 _ = h10 at H ⊢
    exact e_return dJ29_init_2_60 rfl H
theorem en_J29_init_2_X8 {l : Launch} {lo : Nat} {G : eG} {d : Nat} {P : eO → eH → Prop} (a0 : Nat) (a1 : Option Nat) (a2 : Option Nat) (a3 : Int32) (a4 : Int32) {h : eH} {k n : Nat} (H : h_J29_init_2_X8_0 (l, lo, G, d, P) a0 a1 a2 a3 a4 h k n) : Ct l lo G d mJ29_init_2 [.ref a0, va_rf a1, va_rf a2, .int a3, .int a4] h k n P := by
  cases a1 with
  | none =>
    cases a2 with
    | none =>
      exact Ct_of (eArL mJ29_init_2.2.2.2.1 [.ref a0, va_rf none, va_rf none, .int a3, .int a4]) (by decide) rfl (Nat.le_of_ble_eq_true rfl) (fun j w q => eArL_mem j w q) (E.less2 H (eS_s (eS_s (eS_s (eS_s (eS_s eS_0))))))
    | some a29 =>
      exact Ct_of (eArL mJ29_init_2.2.2.2.1 [.ref a0, va_rf none, va_rf (some a29), .int a3, .int a4]) (by decide) rfl (Nat.le_of_ble_eq_true rfl) (fun j w q => eArL_mem j w q) (E.less2 H (eS_s (eS_s (eS_s (eS_s (eS_s eS_0))))))
  | some a19 =>
    cases a2 with
    | none =>
      exact Ct_of (eArL mJ29_init_2.2.2.2.1 [.ref a0, va_rf (some a19), va_rf none, .int a3, .int a4]) (by decide) rfl (Nat.le_of_ble_eq_true rfl) (fun j w q => eArL_mem j w q) (E.less2 H (eS_s (eS_s (eS_s (eS_s (eS_s eS_0))))))
    | some a29 =>
      exact Ct_of (eArL mJ29_init_2.2.2.2.1 [.ref a0, va_rf (some a19), va_rf (some a29), .int a3, .int a4]) (by decide) rfl (Nat.le_of_ble_eq_true rfl) (fun j w q => eArL_mem j w q) (E.less2 H (eS_s (eS_s (eS_s (eS_s (eS_s eS_0))))))
/-! J29_init_2@X10 java/lang/Throwable.<init>(Ljava/lang/String;Ljava/lang/Throwable;ZZ)V -/
def h_J29_init_2_X10_0 (c : cC) (a0 : Nat) (a1 : Option Nat) (a2 : Option Nat) (a3 : Int32) (a4 : Int32) (h : eH) (k n : Nat) : Prop := E c.1 c.2.1 c.2.2.1 c.2.2.2.1 mJ29_init_2 c.2.2.2.2 0 [some (.ref a0), some (va_rf a1), some (va_rf a2), some (.int a3), some (.int a4)] [] h k n
def h_J29_init_2_X10_41 (c : cC) (a0 : Nat) (a1 : Option Nat) (a2 : Option Nat) (a3 : Int32) (h : eH) (k n : Nat) : Prop := E c.1 c.2.1 c.2.2.1 c.2.2.2.1 mJ29_init_2 c.2.2.2.2 41 [some (.ref a0), some (va_rf a1), some (va_rf a2), some (.int a3), none] [] h k n
set_option maxHeartbeats 4000000 in
theorem s_J29_init_2_X10_0 (c : cC) (a0 : Nat) (a1 : Option Nat) (a2 : Option Nat) (a3 : Int32) (a4 : Int32) (h : eH) (k n : Nat) (H : 1 ≤ c.2.2.2.1 ∧ (∃ fs2 : List Value, h.1 a0 = some (.inr (10, fs2)) ∧ c.2.1 ≤ a0 ∧ 0 < fs2.length ∧ ∀ h4 : eH, h4 = eUp h a0 (.inr (10, fs2.set 0 (.ref a0))) → (eFit (.array (.object "java/lang/StackTraceElement")) (c.2.2.1.2.2.1 0) ∧ ∃ fs5 : List Value, h4.1 a0 = some (.inr (10, fs5)) ∧ c.2.1 ≤ a0 ∧ 1 < fs5.length ∧ ∀ h7 : eH, h7 = eUp h4 a0 (.inr (10, fs5.set 1 ((c.2.2.1.2.2.1 0)))) → (eFit (.object "java/util/List") (c.2.2.1.2.2.1 1) ∧ ∃ fs8 : List Value, h7.1 a0 = some (.inr (10, fs8)) ∧ c.2.1 ≤ a0 ∧ 2 < fs8.length ∧ ∀ h10 : eH, h10 = eUp h7 a0 (.inr (10, fs8.set 2 ((c.2.2.1.2.2.1 1)))) → ((a4 = 0 → ∃ fs12 : List Value, h10.1 a0 = some (.inr (10, fs12)) ∧ c.2.1 ≤ a0 ∧ 1 < fs12.length ∧ ∀ h14 : eH, h14 = eUp h10 a0 (.inr (10, fs12.set 1 (.null))) → (h_J29_init_2_X10_41 c a0 a1 a2 a3 h14 k n)) ∧ (¬ a4 = 0 → False)))))) : h_J29_init_2_X10_0 c a0 a1 a2 a3 a4 h k n := by
  refine e_aload_n dJ29_init_2_0 rfl ?_
  obtain ⟨g1, H⟩ := H
  refine e_objInit dJ29_init_2_1 q1589 q192 q193 g1 (Nat.le_of_ble_eq_true rfl) ?_
  refine e_aload_n dJ29_init_2_4 rfl ?_
  refine e_aload_n dJ29_init_2_5 rfl ?_
  obtain ⟨fs2, g3, g3l, g3j, H⟩ := H
  refine e_put dJ29_init_2_6 fX10_0 q1622 (eFit_or _ _) g3 g3l g3j ?_
  replace H := H _ rfl
  generalize eUp h a0 _ = h4 at H ⊢
  refine e_aload_n dJ29_init_2_9 rfl ?_
  refine e_gets (i := 4) dJ29_init_2_10 rfl q1590 ?_
  obtain ⟨g6f, H⟩ := H
  obtain ⟨fs5, g6, g6l, g6j, H⟩ := H
  refine e_put dJ29_init_2_13 fX10_1 q1623 g6f g6 g6l g6j ?_
  replace H := H _ rfl
  generalize eUp h4 a0 _ = h7 at H ⊢
  refine e_aload_n dJ29_init_2_16 rfl ?_
  refine e_gets (i := 5) dJ29_init_2_17 rfl q1592 ?_
  obtain ⟨g9f, H⟩ := H
  obtain ⟨fs8, g9, g9l, g9j, H⟩ := H
  refine e_put dJ29_init_2_20 fX10_2 q1624 g9f g9 g9l g9j ?_
  replace H := H _ rfl
  generalize eUp h7 a0 _ = h10 at H ⊢
  refine e_iload dJ29_init_2_23 rfl ?_
  refine e_if_eq 36 dJ29_init_2_25 (by decide) (fun g11 => ?_) (fun g11 => ?_)
  · replace H := H.1 g11
    refine e_aload_n dJ29_init_2_36 rfl ?_
    refine e_null dJ29_init_2_37 ?_
    obtain ⟨fs12, g13, g13l, g13j, H⟩ := H
    refine e_put dJ29_init_2_38 fX10_1 q1623 (eFit_a _ none) g13 g13l g13j ?_
    replace H := H _ rfl
    generalize eUp h10 a0 _ = h14 at H ⊢
    exact E.less2 H (eS_s (eS_s (eS_s (eS_s (eS_n eS_0)))))
  · replace H := H.2 g11
    refine e_aload_n dJ29_init_2_28 rfl ?_
    exact H.elim
set_option maxHeartbeats 4000000 in
theorem s_J29_init_2_X10_41 (c : cC) (a0 : Nat) (a1 : Option Nat) (a2 : Option Nat) (a3 : Int32) (h : eH) (k n : Nat) (H : ∃ fs1 : List Value, h.1 a0 = some (.inr (10, fs1)) ∧ c.2.1 ≤ a0 ∧ 3 < fs1.length ∧ ∀ h3 : eH, h3 = eUp h a0 (.inr (10, fs1.set 3 (va_rf a1))) → (∃ fs4 : List Value, h3.1 a0 = some (.inr (10, fs4)) ∧ c.2.1 ≤ a0 ∧ 0 < fs4.length ∧ ∀ h6 : eH, h6 = eUp h3 a0 (.inr (10, fs4.set 0 (va_rf a2))) → ((¬ a3 = 0 → c.2.2.2.2 (.inl none) h6) ∧ (a3 = 0 → ∃ fs8 : List Value, h6.1 a0 = some (.inr (10, fs8)) ∧ c.2.1 ≤ a0 ∧ 2 < fs8.length ∧ ∀ h10 : eH, h10 = eUp h6 a0 (.inr (10, fs8.set 2 (.null))) → (c.2.2.2.2 (.inl none) h10))))) : h_J29_init_2_X10_41 c a0 a1 a2 a3 h k n := by
  refine e_aload_n dJ29_init_2_41 rfl ?_
  refine e_aloadR_n (r := a1) dJ29_init_2_42 rfl ?_
  obtain ⟨fs1, g2, g2l, g2j, H⟩ := H
  refine e_put dJ29_init_2_43 fX10_3 q1621 (eFit_o _ a1) g2 g2l g2j ?_
  replace H := H _ rfl
  generalize eUp h a0 _ = h3 at H ⊢
  refine e_aload_n dJ29_init_2_46 rfl ?_
  refine e_aloadR_n (r := a2) dJ29_init_2_47 rfl ?_
  obtain ⟨fs4, g5, g5l, g5j, H⟩ := H
  refine e_put dJ29_init_2_48 fX10_0 q1622 (eFit_o _ a2) g5 g5l g5j ?_
  replace H := H _ rfl
  generalize eUp h3 a0 _ = h6 at H ⊢
  refine e_iload_n dJ29_init_2_51 rfl ?_
  refine e_if_ne 60 dJ29_init_2_52 (by decide) (fun g7 => ?_) (fun g7 => ?_)
  · replace H := H.1 g7
    exact e_return dJ29_init_2_60 rfl H
  · replace H := H.2 g7
    refine e_aload_n dJ29_init_2_55 rfl ?_
    refine e_null dJ29_init_2_56 ?_
    obtain ⟨fs8, g9, g9l, g9j, H⟩ := H
    refine e_put dJ29_init_2_57 fX10_2 q1624 (eFit_o _ none) g9 g9l g9j ?_
    replace H := H _ rfl
    generalize eUp h6 a0 _ = h10 at H ⊢
    exact e_return dJ29_init_2_60 rfl H
theorem en_J29_init_2_X10 {l : Launch} {lo : Nat} {G : eG} {d : Nat} {P : eO → eH → Prop} (a0 : Nat) (a1 : Option Nat) (a2 : Option Nat) (a3 : Int32) (a4 : Int32) {h : eH} {k n : Nat} (H : h_J29_init_2_X10_0 (l, lo, G, d, P) a0 a1 a2 a3 a4 h k n) : Ct l lo G d mJ29_init_2 [.ref a0, va_rf a1, va_rf a2, .int a3, .int a4] h k n P := by
  cases a1 with
  | none =>
    cases a2 with
    | none =>
      exact Ct_of (eArL mJ29_init_2.2.2.2.1 [.ref a0, va_rf none, va_rf none, .int a3, .int a4]) (by decide) rfl (Nat.le_of_ble_eq_true rfl) (fun j w q => eArL_mem j w q) (E.less2 H (eS_s (eS_s (eS_s (eS_s (eS_s eS_0))))))
    | some a29 =>
      exact Ct_of (eArL mJ29_init_2.2.2.2.1 [.ref a0, va_rf none, va_rf (some a29), .int a3, .int a4]) (by decide) rfl (Nat.le_of_ble_eq_true rfl) (fun j w q => eArL_mem j w q) (E.less2 H (eS_s (eS_s (eS_s (eS_s (eS_s eS_0))))))
  | some a19 =>
    cases a2 with
    | none =>
      exact Ct_of (eArL mJ29_init_2.2.2.2.1 [.ref a0, va_rf (some a19), va_rf none, .int a3, .int a4]) (by decide) rfl (Nat.le_of_ble_eq_true rfl) (fun j w q => eArL_mem j w q) (E.less2 H (eS_s (eS_s (eS_s (eS_s (eS_s eS_0))))))
    | some a29 =>
      exact Ct_of (eArL mJ29_init_2.2.2.2.1 [.ref a0, va_rf (some a19), va_rf (some a29), .int a3, .int a4]) (by decide) rfl (Nat.le_of_ble_eq_true rfl) (fun j w q => eArL_mem j w q) (E.less2 H (eS_s (eS_s (eS_s (eS_s (eS_s eS_0))))))
/-! J29_init_2@X11 java/lang/Throwable.<init>(Ljava/lang/String;Ljava/lang/Throwable;ZZ)V -/
def h_J29_init_2_X11_0 (c : cC) (a0 : Nat) (a1 : Option Nat) (a2 : Option Nat) (a3 : Int32) (a4 : Int32) (h : eH) (k n : Nat) : Prop := E c.1 c.2.1 c.2.2.1 c.2.2.2.1 mJ29_init_2 c.2.2.2.2 0 [some (.ref a0), some (va_rf a1), some (va_rf a2), some (.int a3), some (.int a4)] [] h k n
def h_J29_init_2_X11_41 (c : cC) (a0 : Nat) (a1 : Option Nat) (a2 : Option Nat) (a3 : Int32) (h : eH) (k n : Nat) : Prop := E c.1 c.2.1 c.2.2.1 c.2.2.2.1 mJ29_init_2 c.2.2.2.2 41 [some (.ref a0), some (va_rf a1), some (va_rf a2), some (.int a3), none] [] h k n
set_option maxHeartbeats 4000000 in
theorem s_J29_init_2_X11_0 (c : cC) (a0 : Nat) (a1 : Option Nat) (a2 : Option Nat) (a3 : Int32) (a4 : Int32) (h : eH) (k n : Nat) (H : 1 ≤ c.2.2.2.1 ∧ (∃ fs2 : List Value, h.1 a0 = some (.inr (11, fs2)) ∧ c.2.1 ≤ a0 ∧ 0 < fs2.length ∧ ∀ h4 : eH, h4 = eUp h a0 (.inr (11, fs2.set 0 (.ref a0))) → (eFit (.array (.object "java/lang/StackTraceElement")) (c.2.2.1.2.2.1 0) ∧ ∃ fs5 : List Value, h4.1 a0 = some (.inr (11, fs5)) ∧ c.2.1 ≤ a0 ∧ 1 < fs5.length ∧ ∀ h7 : eH, h7 = eUp h4 a0 (.inr (11, fs5.set 1 ((c.2.2.1.2.2.1 0)))) → (eFit (.object "java/util/List") (c.2.2.1.2.2.1 1) ∧ ∃ fs8 : List Value, h7.1 a0 = some (.inr (11, fs8)) ∧ c.2.1 ≤ a0 ∧ 2 < fs8.length ∧ ∀ h10 : eH, h10 = eUp h7 a0 (.inr (11, fs8.set 2 ((c.2.2.1.2.2.1 1)))) → ((a4 = 0 → ∃ fs12 : List Value, h10.1 a0 = some (.inr (11, fs12)) ∧ c.2.1 ≤ a0 ∧ 1 < fs12.length ∧ ∀ h14 : eH, h14 = eUp h10 a0 (.inr (11, fs12.set 1 (.null))) → (h_J29_init_2_X11_41 c a0 a1 a2 a3 h14 k n)) ∧ (¬ a4 = 0 → False)))))) : h_J29_init_2_X11_0 c a0 a1 a2 a3 a4 h k n := by
  refine e_aload_n dJ29_init_2_0 rfl ?_
  obtain ⟨g1, H⟩ := H
  refine e_objInit dJ29_init_2_1 q1589 q192 q193 g1 (Nat.le_of_ble_eq_true rfl) ?_
  refine e_aload_n dJ29_init_2_4 rfl ?_
  refine e_aload_n dJ29_init_2_5 rfl ?_
  obtain ⟨fs2, g3, g3l, g3j, H⟩ := H
  refine e_put dJ29_init_2_6 fX11_0 q1622 (eFit_or _ _) g3 g3l g3j ?_
  replace H := H _ rfl
  generalize eUp h a0 _ = h4 at H ⊢
  refine e_aload_n dJ29_init_2_9 rfl ?_
  refine e_gets (i := 4) dJ29_init_2_10 rfl q1590 ?_
  obtain ⟨g6f, H⟩ := H
  obtain ⟨fs5, g6, g6l, g6j, H⟩ := H
  refine e_put dJ29_init_2_13 fX11_1 q1623 g6f g6 g6l g6j ?_
  replace H := H _ rfl
  generalize eUp h4 a0 _ = h7 at H ⊢
  refine e_aload_n dJ29_init_2_16 rfl ?_
  refine e_gets (i := 5) dJ29_init_2_17 rfl q1592 ?_
  obtain ⟨g9f, H⟩ := H
  obtain ⟨fs8, g9, g9l, g9j, H⟩ := H
  refine e_put dJ29_init_2_20 fX11_2 q1624 g9f g9 g9l g9j ?_
  replace H := H _ rfl
  generalize eUp h7 a0 _ = h10 at H ⊢
  refine e_iload dJ29_init_2_23 rfl ?_
  refine e_if_eq 36 dJ29_init_2_25 (by decide) (fun g11 => ?_) (fun g11 => ?_)
  · replace H := H.1 g11
    refine e_aload_n dJ29_init_2_36 rfl ?_
    refine e_null dJ29_init_2_37 ?_
    obtain ⟨fs12, g13, g13l, g13j, H⟩ := H
    refine e_put dJ29_init_2_38 fX11_1 q1623 (eFit_a _ none) g13 g13l g13j ?_
    replace H := H _ rfl
    generalize eUp h10 a0 _ = h14 at H ⊢
    exact E.less2 H (eS_s (eS_s (eS_s (eS_s (eS_n eS_0)))))
  · replace H := H.2 g11
    refine e_aload_n dJ29_init_2_28 rfl ?_
    exact H.elim
set_option maxHeartbeats 4000000 in
theorem s_J29_init_2_X11_41 (c : cC) (a0 : Nat) (a1 : Option Nat) (a2 : Option Nat) (a3 : Int32) (h : eH) (k n : Nat) (H : ∃ fs1 : List Value, h.1 a0 = some (.inr (11, fs1)) ∧ c.2.1 ≤ a0 ∧ 3 < fs1.length ∧ ∀ h3 : eH, h3 = eUp h a0 (.inr (11, fs1.set 3 (va_rf a1))) → (∃ fs4 : List Value, h3.1 a0 = some (.inr (11, fs4)) ∧ c.2.1 ≤ a0 ∧ 0 < fs4.length ∧ ∀ h6 : eH, h6 = eUp h3 a0 (.inr (11, fs4.set 0 (va_rf a2))) → ((¬ a3 = 0 → c.2.2.2.2 (.inl none) h6) ∧ (a3 = 0 → ∃ fs8 : List Value, h6.1 a0 = some (.inr (11, fs8)) ∧ c.2.1 ≤ a0 ∧ 2 < fs8.length ∧ ∀ h10 : eH, h10 = eUp h6 a0 (.inr (11, fs8.set 2 (.null))) → (c.2.2.2.2 (.inl none) h10))))) : h_J29_init_2_X11_41 c a0 a1 a2 a3 h k n := by
  refine e_aload_n dJ29_init_2_41 rfl ?_
  refine e_aloadR_n (r := a1) dJ29_init_2_42 rfl ?_
  obtain ⟨fs1, g2, g2l, g2j, H⟩ := H
  refine e_put dJ29_init_2_43 fX11_3 q1621 (eFit_o _ a1) g2 g2l g2j ?_
  replace H := H _ rfl
  generalize eUp h a0 _ = h3 at H ⊢
  refine e_aload_n dJ29_init_2_46 rfl ?_
  refine e_aloadR_n (r := a2) dJ29_init_2_47 rfl ?_
  obtain ⟨fs4, g5, g5l, g5j, H⟩ := H
  refine e_put dJ29_init_2_48 fX11_0 q1622 (eFit_o _ a2) g5 g5l g5j ?_
  replace H := H _ rfl
  generalize eUp h3 a0 _ = h6 at H ⊢
  refine e_iload_n dJ29_init_2_51 rfl ?_
  refine e_if_ne 60 dJ29_init_2_52 (by decide) (fun g7 => ?_) (fun g7 => ?_)
  · replace H := H.1 g7
    exact e_return dJ29_init_2_60 rfl H
  · replace H := H.2 g7
    refine e_aload_n dJ29_init_2_55 rfl ?_
    refine e_null dJ29_init_2_56 ?_
    obtain ⟨fs8, g9, g9l, g9j, H⟩ := H
    refine e_put dJ29_init_2_57 fX11_2 q1624 (eFit_o _ none) g9 g9l g9j ?_
    replace H := H _ rfl
    generalize eUp h6 a0 _ = h10 at H ⊢
    exact e_return dJ29_init_2_60 rfl H
theorem en_J29_init_2_X11 {l : Launch} {lo : Nat} {G : eG} {d : Nat} {P : eO → eH → Prop} (a0 : Nat) (a1 : Option Nat) (a2 : Option Nat) (a3 : Int32) (a4 : Int32) {h : eH} {k n : Nat} (H : h_J29_init_2_X11_0 (l, lo, G, d, P) a0 a1 a2 a3 a4 h k n) : Ct l lo G d mJ29_init_2 [.ref a0, va_rf a1, va_rf a2, .int a3, .int a4] h k n P := by
  cases a1 with
  | none =>
    cases a2 with
    | none =>
      exact Ct_of (eArL mJ29_init_2.2.2.2.1 [.ref a0, va_rf none, va_rf none, .int a3, .int a4]) (by decide) rfl (Nat.le_of_ble_eq_true rfl) (fun j w q => eArL_mem j w q) (E.less2 H (eS_s (eS_s (eS_s (eS_s (eS_s eS_0))))))
    | some a29 =>
      exact Ct_of (eArL mJ29_init_2.2.2.2.1 [.ref a0, va_rf none, va_rf (some a29), .int a3, .int a4]) (by decide) rfl (Nat.le_of_ble_eq_true rfl) (fun j w q => eArL_mem j w q) (E.less2 H (eS_s (eS_s (eS_s (eS_s (eS_s eS_0))))))
  | some a19 =>
    cases a2 with
    | none =>
      exact Ct_of (eArL mJ29_init_2.2.2.2.1 [.ref a0, va_rf (some a19), va_rf none, .int a3, .int a4]) (by decide) rfl (Nat.le_of_ble_eq_true rfl) (fun j w q => eArL_mem j w q) (E.less2 H (eS_s (eS_s (eS_s (eS_s (eS_s eS_0))))))
    | some a29 =>
      exact Ct_of (eArL mJ29_init_2.2.2.2.1 [.ref a0, va_rf (some a19), va_rf (some a29), .int a3, .int a4]) (by decide) rfl (Nat.le_of_ble_eq_true rfl) (fun j w q => eArL_mem j w q) (E.less2 H (eS_s (eS_s (eS_s (eS_s (eS_s eS_0))))))
/-! J29_init_2@X12 java/lang/Throwable.<init>(Ljava/lang/String;Ljava/lang/Throwable;ZZ)V -/
def h_J29_init_2_X12_0 (c : cC) (a0 : Nat) (a1 : Option Nat) (a2 : Option Nat) (a3 : Int32) (a4 : Int32) (h : eH) (k n : Nat) : Prop := E c.1 c.2.1 c.2.2.1 c.2.2.2.1 mJ29_init_2 c.2.2.2.2 0 [some (.ref a0), some (va_rf a1), some (va_rf a2), some (.int a3), some (.int a4)] [] h k n
def h_J29_init_2_X12_41 (c : cC) (a0 : Nat) (a1 : Option Nat) (a2 : Option Nat) (a3 : Int32) (h : eH) (k n : Nat) : Prop := E c.1 c.2.1 c.2.2.1 c.2.2.2.1 mJ29_init_2 c.2.2.2.2 41 [some (.ref a0), some (va_rf a1), some (va_rf a2), some (.int a3), none] [] h k n
set_option maxHeartbeats 4000000 in
theorem s_J29_init_2_X12_0 (c : cC) (a0 : Nat) (a1 : Option Nat) (a2 : Option Nat) (a3 : Int32) (a4 : Int32) (h : eH) (k n : Nat) (H : 1 ≤ c.2.2.2.1 ∧ (∃ fs2 : List Value, h.1 a0 = some (.inr (12, fs2)) ∧ c.2.1 ≤ a0 ∧ 0 < fs2.length ∧ ∀ h4 : eH, h4 = eUp h a0 (.inr (12, fs2.set 0 (.ref a0))) → (eFit (.array (.object "java/lang/StackTraceElement")) (c.2.2.1.2.2.1 0) ∧ ∃ fs5 : List Value, h4.1 a0 = some (.inr (12, fs5)) ∧ c.2.1 ≤ a0 ∧ 1 < fs5.length ∧ ∀ h7 : eH, h7 = eUp h4 a0 (.inr (12, fs5.set 1 ((c.2.2.1.2.2.1 0)))) → (eFit (.object "java/util/List") (c.2.2.1.2.2.1 1) ∧ ∃ fs8 : List Value, h7.1 a0 = some (.inr (12, fs8)) ∧ c.2.1 ≤ a0 ∧ 2 < fs8.length ∧ ∀ h10 : eH, h10 = eUp h7 a0 (.inr (12, fs8.set 2 ((c.2.2.1.2.2.1 1)))) → ((a4 = 0 → ∃ fs12 : List Value, h10.1 a0 = some (.inr (12, fs12)) ∧ c.2.1 ≤ a0 ∧ 1 < fs12.length ∧ ∀ h14 : eH, h14 = eUp h10 a0 (.inr (12, fs12.set 1 (.null))) → (h_J29_init_2_X12_41 c a0 a1 a2 a3 h14 k n)) ∧ (¬ a4 = 0 → False)))))) : h_J29_init_2_X12_0 c a0 a1 a2 a3 a4 h k n := by
  refine e_aload_n dJ29_init_2_0 rfl ?_
  obtain ⟨g1, H⟩ := H
  refine e_objInit dJ29_init_2_1 q1589 q192 q193 g1 (Nat.le_of_ble_eq_true rfl) ?_
  refine e_aload_n dJ29_init_2_4 rfl ?_
  refine e_aload_n dJ29_init_2_5 rfl ?_
  obtain ⟨fs2, g3, g3l, g3j, H⟩ := H
  refine e_put dJ29_init_2_6 fX12_0 q1622 (eFit_or _ _) g3 g3l g3j ?_
  replace H := H _ rfl
  generalize eUp h a0 _ = h4 at H ⊢
  refine e_aload_n dJ29_init_2_9 rfl ?_
  refine e_gets (i := 4) dJ29_init_2_10 rfl q1590 ?_
  obtain ⟨g6f, H⟩ := H
  obtain ⟨fs5, g6, g6l, g6j, H⟩ := H
  refine e_put dJ29_init_2_13 fX12_1 q1623 g6f g6 g6l g6j ?_
  replace H := H _ rfl
  generalize eUp h4 a0 _ = h7 at H ⊢
  refine e_aload_n dJ29_init_2_16 rfl ?_
  refine e_gets (i := 5) dJ29_init_2_17 rfl q1592 ?_
  obtain ⟨g9f, H⟩ := H
  obtain ⟨fs8, g9, g9l, g9j, H⟩ := H
  refine e_put dJ29_init_2_20 fX12_2 q1624 g9f g9 g9l g9j ?_
  replace H := H _ rfl
  generalize eUp h7 a0 _ = h10 at H ⊢
  refine e_iload dJ29_init_2_23 rfl ?_
  refine e_if_eq 36 dJ29_init_2_25 (by decide) (fun g11 => ?_) (fun g11 => ?_)
  · replace H := H.1 g11
    refine e_aload_n dJ29_init_2_36 rfl ?_
    refine e_null dJ29_init_2_37 ?_
    obtain ⟨fs12, g13, g13l, g13j, H⟩ := H
    refine e_put dJ29_init_2_38 fX12_1 q1623 (eFit_a _ none) g13 g13l g13j ?_
    replace H := H _ rfl
    generalize eUp h10 a0 _ = h14 at H ⊢
    exact E.less2 H (eS_s (eS_s (eS_s (eS_s (eS_n eS_0)))))
  · replace H := H.2 g11
    refine e_aload_n dJ29_init_2_28 rfl ?_
    exact H.elim
set_option maxHeartbeats 4000000 in
theorem s_J29_init_2_X12_41 (c : cC) (a0 : Nat) (a1 : Option Nat) (a2 : Option Nat) (a3 : Int32) (h : eH) (k n : Nat) (H : ∃ fs1 : List Value, h.1 a0 = some (.inr (12, fs1)) ∧ c.2.1 ≤ a0 ∧ 3 < fs1.length ∧ ∀ h3 : eH, h3 = eUp h a0 (.inr (12, fs1.set 3 (va_rf a1))) → (∃ fs4 : List Value, h3.1 a0 = some (.inr (12, fs4)) ∧ c.2.1 ≤ a0 ∧ 0 < fs4.length ∧ ∀ h6 : eH, h6 = eUp h3 a0 (.inr (12, fs4.set 0 (va_rf a2))) → ((¬ a3 = 0 → c.2.2.2.2 (.inl none) h6) ∧ (a3 = 0 → ∃ fs8 : List Value, h6.1 a0 = some (.inr (12, fs8)) ∧ c.2.1 ≤ a0 ∧ 2 < fs8.length ∧ ∀ h10 : eH, h10 = eUp h6 a0 (.inr (12, fs8.set 2 (.null))) → (c.2.2.2.2 (.inl none) h10))))) : h_J29_init_2_X12_41 c a0 a1 a2 a3 h k n := by
  refine e_aload_n dJ29_init_2_41 rfl ?_
  refine e_aloadR_n (r := a1) dJ29_init_2_42 rfl ?_
  obtain ⟨fs1, g2, g2l, g2j, H⟩ := H
  refine e_put dJ29_init_2_43 fX12_3 q1621 (eFit_o _ a1) g2 g2l g2j ?_
  replace H := H _ rfl
  generalize eUp h a0 _ = h3 at H ⊢
  refine e_aload_n dJ29_init_2_46 rfl ?_
  refine e_aloadR_n (r := a2) dJ29_init_2_47 rfl ?_
  obtain ⟨fs4, g5, g5l, g5j, H⟩ := H
  refine e_put dJ29_init_2_48 fX12_0 q1622 (eFit_o _ a2) g5 g5l g5j ?_
  replace H := H _ rfl
  generalize eUp h3 a0 _ = h6 at H ⊢
  refine e_iload_n dJ29_init_2_51 rfl ?_
  refine e_if_ne 60 dJ29_init_2_52 (by decide) (fun g7 => ?_) (fun g7 => ?_)
  · replace H := H.1 g7
    exact e_return dJ29_init_2_60 rfl H
  · replace H := H.2 g7
    refine e_aload_n dJ29_init_2_55 rfl ?_
    refine e_null dJ29_init_2_56 ?_
    obtain ⟨fs8, g9, g9l, g9j, H⟩ := H
    refine e_put dJ29_init_2_57 fX12_2 q1624 (eFit_o _ none) g9 g9l g9j ?_
    replace H := H _ rfl
    generalize eUp h6 a0 _ = h10 at H ⊢
    exact e_return dJ29_init_2_60 rfl H
theorem en_J29_init_2_X12 {l : Launch} {lo : Nat} {G : eG} {d : Nat} {P : eO → eH → Prop} (a0 : Nat) (a1 : Option Nat) (a2 : Option Nat) (a3 : Int32) (a4 : Int32) {h : eH} {k n : Nat} (H : h_J29_init_2_X12_0 (l, lo, G, d, P) a0 a1 a2 a3 a4 h k n) : Ct l lo G d mJ29_init_2 [.ref a0, va_rf a1, va_rf a2, .int a3, .int a4] h k n P := by
  cases a1 with
  | none =>
    cases a2 with
    | none =>
      exact Ct_of (eArL mJ29_init_2.2.2.2.1 [.ref a0, va_rf none, va_rf none, .int a3, .int a4]) (by decide) rfl (Nat.le_of_ble_eq_true rfl) (fun j w q => eArL_mem j w q) (E.less2 H (eS_s (eS_s (eS_s (eS_s (eS_s eS_0))))))
    | some a29 =>
      exact Ct_of (eArL mJ29_init_2.2.2.2.1 [.ref a0, va_rf none, va_rf (some a29), .int a3, .int a4]) (by decide) rfl (Nat.le_of_ble_eq_true rfl) (fun j w q => eArL_mem j w q) (E.less2 H (eS_s (eS_s (eS_s (eS_s (eS_s eS_0))))))
  | some a19 =>
    cases a2 with
    | none =>
      exact Ct_of (eArL mJ29_init_2.2.2.2.1 [.ref a0, va_rf (some a19), va_rf none, .int a3, .int a4]) (by decide) rfl (Nat.le_of_ble_eq_true rfl) (fun j w q => eArL_mem j w q) (E.less2 H (eS_s (eS_s (eS_s (eS_s (eS_s eS_0))))))
    | some a29 =>
      exact Ct_of (eArL mJ29_init_2.2.2.2.1 [.ref a0, va_rf (some a19), va_rf (some a29), .int a3, .int a4]) (by decide) rfl (Nat.le_of_ble_eq_true rfl) (fun j w q => eArL_mem j w q) (E.less2 H (eS_s (eS_s (eS_s (eS_s (eS_s eS_0))))))
