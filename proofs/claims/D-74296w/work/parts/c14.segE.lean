/-! segments: X1_init, X2_init, X2_then, X2_compareTo, X2_compareTo_2, X4_init, X4_compare, X4_compare_2, X5_init, X8_init, X10_init, X11_init, X12_init, X12_first, X14_init, X14_compareTo, X14_compareTo_2 -/
/-! X1_init TroupeSums$Troupe.<init>()V -/
def h_X1_init_0 (c : cC) (a0 : Nat) (h : eH) (k n : Nat) : Prop := E c.1 c.2.1 c.2.2.1 c.2.2.2.1 mX1_init c.2.2.2.2 0 [some (.ref a0)] [] h k n
set_option maxHeartbeats 4000000 in
theorem s_X1_init_0 (c : cC) (a0 : Nat) (h : eH) (k n : Nat) (H : 1 ≤ c.2.2.2.1 ∧ (∃ fs2 : List Value, h.1 a0 = some (.inr (1, fs2)) ∧ c.2.1 ≤ a0 ∧ 0 < fs2.length ∧ ∀ h4 : eH, h4 = eUp h a0 (.inr (1, fs2.set 0 (.int (1 : Int32)))) → (1 ≤ k ∧ 3 ≤ n ∧ ∀ h5 : eH, h5 = eNw h4 (.inr (15, [.int 0, .null, .int 0])) → (∃ (d10 k11 n12 : Nat) (Q13 : eH → Prop), cV c.1 c.2.1 c.2.2.1 d10 mJ2_init [.ref h4.2] h5 k11 n12 Q13 cX0 ∧ d10 + 1 ≤ c.2.2.2.1 ∧ k11 ≤ k - 1 ∧ n12 ≤ n - 3 ∧ (∀ h8 : eH, Q13 h8 → (∃ fs14 : List Value, h8.1 a0 = some (.inr (1, fs14)) ∧ c.2.1 ≤ a0 ∧ 3 < fs14.length ∧ ∀ h16 : eH, h16 = eUp h8 a0 (.inr (1, fs14.set 3 (.ref h4.2))) → (1 ≤ k - 1 - k11 ∧ 3 ≤ n - 3 - n12 ∧ ∀ h17 : eH, h17 = eNw h16 (.inr (15, [.int 0, .null, .int 0])) → (∃ (d22 k23 n24 : Nat) (Q25 : eH → Prop), cV c.1 c.2.1 c.2.2.1 d22 mJ2_init [.ref h16.2] h17 k23 n24 Q25 cX0 ∧ d22 + 1 ≤ c.2.2.2.1 ∧ k23 ≤ k - 1 - k11 - 1 ∧ n24 ≤ n - 3 - n12 - 3 ∧ (∀ h20 : eH, Q25 h20 → (∃ fs26 : List Value, h20.1 a0 = some (.inr (1, fs26)) ∧ c.2.1 ≤ a0 ∧ 4 < fs26.length ∧ ∀ h28 : eH, h28 = eUp h20 a0 (.inr (1, fs26.set 4 (.ref h16.2))) → (c.2.2.2.2 (.inl none) h28))))))))))) : h_X1_init_0 c a0 h k n := by
  refine e_aload_n dX1_init_0 rfl ?_
  obtain ⟨g1, H⟩ := H
  refine e_objInit dX1_init_1 q202 q192 q193 g1 (Nat.le_of_ble_eq_true rfl) ?_
  refine e_aload_n dX1_init_4 rfl ?_
  refine e_iconst (1) dX1_init_5 (by decide) ?_
  obtain ⟨fs2, g3, g3l, g3j, H⟩ := H
  refine e_put dX1_init_6 fX1_0 q233 (eFit_i _) g3 g3l g3j ?_
  replace H := H _ rfl
  generalize eUp h a0 _ = h4 at H ⊢
  refine e_aload_n dX1_init_9 rfl ?_
  obtain ⟨g6, g6n, H⟩ := H
  refine e_new (ci := 15) (N := 3) (C := RJ2) (T := TJ2) tyJ2 (fs := [.int 0, .null, .int 0]) dX1_init_10 rfl in_J2 tyJ2_ok q203 q204 q138 (by decide) (k1 := k - 1) (n1 := n - 3) (by omega) (by omega) ?_
  replace H := H _ rfl
  generalize eNw h4 _ = h5 at H ⊢
  refine e_dup dX1_init_13 rfl ?_
  obtain ⟨d10, k11, n12, Q13, g9, g9d, g9k, g9n, H⟩ := H
  refine e_callI (As := []) g9 dX1_init_14 wJ2_init rfl rfl rfl q205 q206 rfl g9d rfl (Nat.le_of_ble_eq_true rfl) (k1 := k - 1 - k11) (n1 := n - 3 - n12) (by omega) (by omega) ?_ ?_
  · rintro v h8 (⟨v9, e9, e8, hq⟩ | ⟨ci9, q9, e9, -⟩)
    · cases e9
      subst e8
      replace H := H h8 hq
      obtain ⟨fs14, g15, g15l, g15j, H⟩ := H
      refine e_putF dX1_init_17 fX1_3 q240 rfl rfl (eFit_or _ _) g15 g15l g15j ?_
      replace H := H _ rfl
      generalize eUp h8 a0 _ = h16 at H ⊢
      refine e_aload_n dX1_init_20 rfl ?_
      obtain ⟨g18, g18n, H⟩ := H
      refine e_new (ci := 15) (N := 3) (C := RJ2) (T := TJ2) tyJ2 (fs := [.int 0, .null, .int 0]) dX1_init_21 rfl in_J2 tyJ2_ok q203 q204 q138 (by decide) (k1 := k - 1 - k11 - 1) (n1 := n - 3 - n12 - 3) (by omega) (by omega) ?_
      replace H := H _ rfl
      generalize eNw h16 _ = h17 at H ⊢
      refine e_dup dX1_init_24 rfl ?_
      obtain ⟨d22, k23, n24, Q25, g21, g21d, g21k, g21n, H⟩ := H
      refine e_callI (As := []) g21 dX1_init_25 wJ2_init rfl rfl rfl q205 q206 rfl g21d rfl (Nat.le_of_ble_eq_true rfl) (k1 := k - 1 - k11 - 1 - k23) (n1 := n - 3 - n12 - 3 - n24) (by omega) (by omega) ?_ ?_
      · rintro v h20 (⟨v9, e9, e8, hq⟩ | ⟨ci9, q9, e9, -⟩)
        · cases e9
          subst e8
          replace H := H h20 hq
          obtain ⟨fs26, g27, g27l, g27j, H⟩ := H
          refine e_putF dX1_init_28 fX1_4 q243 rfl rfl (eFit_or _ _) g27 g27l g27j ?_
          replace H := H _ rfl
          generalize eUp h20 a0 _ = h28 at H ⊢
          exact e_return dX1_init_31 rfl H
        · cases e9
      · rintro q9 h9 (⟨v9, e9, -⟩ | ⟨ci9, q8, e9, -, -, hx⟩)
        · cases e9
        · exact hx.elim
    · cases e9
  · rintro q9 h9 (⟨v9, e9, -⟩ | ⟨ci9, q8, e9, -, -, hx⟩)
    · cases e9
    · exact hx.elim
theorem en_X1_init {l : Launch} {lo : Nat} {G : eG} {d : Nat} {P : eO → eH → Prop} (a0 : Nat) {h : eH} {k n : Nat} (H : h_X1_init_0 (l, lo, G, d, P) a0 h k n) : Ct l lo G d mX1_init [.ref a0] h k n P := 
  Ct_of (eArL mX1_init.2.2.2.1 [.ref a0]) (by decide) rfl (Nat.le_of_ble_eq_true rfl) (fun j w q => eArL_mem j w q) (E.less2 H (eS_s eS_0))
/-! X2_init TroupeSums$Row.<init>([I)V -/
def h_X2_init_0 (c : cC) (a0 : Nat) (a1 : Nat) (h : eH) (k n : Nat) : Prop := E c.1 c.2.1 c.2.2.1 c.2.2.2.1 mX2_init c.2.2.2.2 0 [some (.ref a0), some (.ref a1)] [] h k n
set_option maxHeartbeats 4000000 in
theorem s_X2_init_0 (c : cC) (a0 : Nat) (a1 : Nat) (h : eH) (k n : Nat) (H : 1 ≤ c.2.2.2.1 ∧ (∃ fs2 : List Value, h.1 a0 = some (.inr (2, fs2)) ∧ c.2.1 ≤ a0 ∧ 0 < fs2.length ∧ ∀ h4 : eH, h4 = eUp h a0 (.inr (2, fs2.set 0 (.ref a1))) → (c.2.2.2.2 (.inl none) h4))) : h_X2_init_0 c a0 a1 h k n := by
  refine e_aload_n dX2_init_0 rfl ?_
  obtain ⟨g1, H⟩ := H
  refine e_objInit dX2_init_1 q296 q192 q193 g1 (Nat.le_of_ble_eq_true rfl) ?_
  refine e_aload_n dX2_init_4 rfl ?_
  refine e_aload_n dX2_init_5 rfl ?_
  obtain ⟨fs2, g3, g3l, g3j, H⟩ := H
  refine e_putF dX2_init_6 fX2_0 q297 rfl rfl (eFit_ar _ _) g3 g3l g3j ?_
  replace H := H _ rfl
  generalize eUp h a0 _ = h4 at H ⊢
  exact e_return dX2_init_9 rfl H
theorem en_X2_init {l : Launch} {lo : Nat} {G : eG} {d : Nat} {P : eO → eH → Prop} (a0 : Nat) (a1 : Nat) {h : eH} {k n : Nat} (H : h_X2_init_0 (l, lo, G, d, P) a0 a1 h k n) : Ct l lo G d mX2_init [.ref a0, .ref a1] h k n P := 
  Ct_of (eArL mX2_init.2.2.2.1 [.ref a0, .ref a1]) (by decide) rfl (Nat.le_of_ble_eq_true rfl) (fun j w q => eArL_mem j w q) (E.less2 H (eS_s (eS_s eS_0)))
/-! X2_then TroupeSums$Row.then(LTroupeSums$Row;)LTroupeSums$Row; -/
def h_X2_then_0 (c : cC) (a0 : Nat) (a1 : Nat) (h : eH) (k n : Nat) : Prop := E c.1 c.2.1 c.2.2.1 c.2.2.2.1 mX2_then c.2.2.2.2 0 [some (.ref a0), some (.ref a1), none, none] [] h k n
def h_X2_then_10 (c : cC) (a0 : Nat) (a1 : Nat) (a2 : Nat) (a3 : Int32) (h : eH) (k n : Nat) : Prop := E c.1 c.2.1 c.2.2.1 c.2.2.2.1 mX2_then c.2.2.2.2 10 [some (.ref a0), some (.ref a1), some (.ref a2), some (.int a3)] [] h k n
set_option maxHeartbeats 4000000 in
theorem s_X2_then_0 (c : cC) (a0 : Nat) (a1 : Nat) (h : eH) (k n : Nat) (H : ∃ x1 : Nat, fV h a0 2 0 (.ref x1) ∧ (∃ v3 : vp_A, h.1 x1 = some (.inl (c.2.2.1.2.1 0, v3)) ∧ (∃ N7 : Nat, (nI v3.1) = nI N7 ∧ N7 ≤ 10000000 ∧ 1 ≤ k ∧ N7 ≤ n ∧ ∀ h5 : eH, h5 = eNw h (.inl (c.2.2.1.2.1 0, N7, .inl (fun _ => 0))) → (h_X2_then_10 c a0 a1 h.2 (0 : Int32) h5 (k - 1) (n - N7))))) : h_X2_then_0 c a0 a1 h k n := by
  refine e_aload_n dX2_then_0 rfl ?_
  obtain ⟨x1, ⟨fsx1, g2, g2v⟩, H⟩ := H
  refine e_get dX2_then_1 fX2_0 q297 g2 g2v ?_
  obtain ⟨v3, g4, H⟩ := H
  refine e_alen (t := 0) dX2_then_4 (fun _ => rfl) g4 ?_
  obtain ⟨N7, g6i, g6b, g6, g6n, H⟩ := H
  refine c_newarrayI dX2_then_5 q303 g6i g6b g6 g6n ?_
  replace H := H _ rfl
  generalize eNw h _ = h5 at H ⊢
  refine e_astore_n _ dX2_then_7 (by decide) rfl rfl ?_
  refine e_iconst (0) dX2_then_8 (by decide) ?_
  refine e_istore_n _ dX2_then_9 (by decide) rfl rfl ?_
  exact E.less2 H (eS_s (eS_s (eS_s (eS_s eS_0))))
set_option maxHeartbeats 4000000 in
theorem s_X2_then_10 (c : cC) (a0 : Nat) (a1 : Nat) (a2 : Nat) (a3 : Int32) (h : eH) (k n : Nat) (H : ∃ v1 : vp_A, h.1 a2 = some (.inl (c.2.2.1.2.1 0, v1)) ∧ (((nI v1.1) ≤ a3 → 1 ≤ k ∧ 1 ≤ n ∧ ∀ h4 : eH, h4 = eNw h (.inr (2, [.null])) → (∃ (d9 k10 n11 : Nat) (Q12 : eH → Prop), cV c.1 c.2.1 c.2.2.1 d9 mX2_init [.ref h.2, .ref a2] h4 k10 n11 Q12 cX0 ∧ d9 + 1 ≤ c.2.2.2.1 ∧ k10 ≤ k - 1 ∧ n11 ≤ n - 1 ∧ (∀ h7 : eH, Q12 h7 → (c.2.2.2.2 (.inl (some (.ref h.2))) h7)))) ∧ (¬ (nI v1.1) ≤ a3 → ∃ x13 : Nat, fV h a1 2 0 (.ref x13) ∧ (∃ x15 : Nat, fV h a0 2 0 (.ref x15) ∧ (∃ (N17 : Nat) (f18 : Nat → Int32), h.1 x15 = some (.inl (c.2.2.1.2.1 0, N17, .inl f18)) ∧ vp_in a3 N17 ∧ (∃ (N20 : Nat) (f21 : Nat → Int32), h.1 x13 = some (.inl (c.2.2.1.2.1 0, N20, .inl f21)) ∧ vp_in (f18 a3.toNatClampNeg) N20 ∧ (∃ (N23 : Nat) (f24 : Nat → Int32), h.1 a2 = some (.inl (c.2.2.1.2.1 0, N23, .inl f24)) ∧ c.2.1 ≤ a2 ∧ vp_in a3 N23 ∧ ∀ h26 : eH, h26 = eUp h a2 (.inl (c.2.2.1.2.1 0, N23, .inl (va_up f24 a3.toNatClampNeg (f21 (f18 a3.toNatClampNeg).toNatClampNeg)))) → (h_X2_then_10 c a0 a1 a2 (a3 + 1) h26 k n)))))))) : h_X2_then_10 c a0 a1 a2 a3 h k n := by
  refine e_iload_n dX2_then_10 rfl ?_
  refine e_aload_n dX2_then_11 rfl ?_
  obtain ⟨v1, g2, H⟩ := H
  refine e_alen (t := 0) dX2_then_12 (fun _ => rfl) g2 ?_
  refine e_icmp_ge 36 dX2_then_13 (by decide) (fun g3 => ?_) (fun g3 => ?_)
  · replace H := H.1 g3
    obtain ⟨g5, g5n, H⟩ := H
    refine e_new (ci := 2) (N := 1) (C := RX2) (T := TX2) tyX2 (fs := [.null]) dX2_then_36 rfl in_X2 tyX2_ok q351 q292 q141 (by decide) (k1 := k - 1) (n1 := n - 1) (by omega) (by omega) ?_
    replace H := H _ rfl
    generalize eNw h _ = h4 at H ⊢
    refine e_dup dX2_then_39 rfl ?_
    refine e_aload_n dX2_then_40 rfl ?_
    obtain ⟨d9, k10, n11, Q12, g8, g8d, g8k, g8n, H⟩ := H
    refine e_callI (As := [.ref a2]) g8 dX2_then_41 wX2_init rfl rfl rfl q906 q294 rfl g8d rfl (Nat.le_of_ble_eq_true rfl) (k1 := k - 1 - k10) (n1 := n - 1 - n11) (by omega) (by omega) ?_ ?_
    · rintro v h7 (⟨v9, e9, e8, hq⟩ | ⟨ci9, q9, e9, -⟩)
      · cases e9
        subst e8
        replace H := H h7 hq
        exact e_areturn (r := some h.2) _ dX2_then_44 rfl (Or.inl ⟨_, rfl⟩) H
      · cases e9
    · rintro q9 h9 (⟨v9, e9, -⟩ | ⟨ci9, q8, e9, -, -, hx⟩)
      · cases e9
      · exact hx.elim
  · replace H := H.2 g3
    refine e_aload_n dX2_then_16 rfl ?_
    refine e_iload_n dX2_then_17 rfl ?_
    refine e_aload_n dX2_then_18 rfl ?_
    obtain ⟨x13, ⟨fsx13, g14, g14v⟩, H⟩ := H
    refine e_get dX2_then_19 fX2_0 q297 g14 g14v ?_
    refine e_aload_n dX2_then_22 rfl ?_
    obtain ⟨x15, ⟨fsx15, g16, g16v⟩, H⟩ := H
    refine e_get dX2_then_23 fX2_0 q297 g16 g16v ?_
    refine e_iload_n dX2_then_26 rfl ?_
    obtain ⟨N17, f18, g19, g19i, H⟩ := H
    refine e_iaload dX2_then_27 g19 g19i ?_
    obtain ⟨N20, f21, g22, g22i, H⟩ := H
    refine e_iaload dX2_then_28 g22 g22i ?_
    obtain ⟨N23, f24, g25, g25l, g25i, H⟩ := H
    refine e_iastore dX2_then_29 g25 g25l g25i ?_
    replace H := H _ rfl
    generalize eUp h a2 _ = h26 at H ⊢
    refine e_iinc (a3 + 1) _ dX2_then_30 rfl rfl (by decide) rfl rfl ?_
    refine e_goto 10 dX2_then_33 (by decide) ?_
    exact E.less2 H (eS_s (eS_s (eS_s (eS_s eS_0))))
theorem en_X2_then {l : Launch} {lo : Nat} {G : eG} {d : Nat} {P : eO → eH → Prop} (a0 : Nat) (a1 : Nat) {h : eH} {k n : Nat} (H : h_X2_then_0 (l, lo, G, d, P) a0 a1 h k n) : Ct l lo G d mX2_then [.ref a0, .ref a1] h k n P := 
  Ct_of (eArL mX2_then.2.2.2.1 [.ref a0, .ref a1]) (by decide) rfl (Nat.le_of_ble_eq_true rfl) (fun j w q => eArL_mem j w q) (E.less2 H (eS_s (eS_s (eS_n (eS_n eS_0)))))
/-! X2_compareTo TroupeSums$Row.compareTo(Ljava/lang/Object;)I -/
def h_X2_compareTo_0 (c : cC) (a0 : Nat) (a1 : Nat) (h : eH) (k n : Nat) : Prop := E c.1 c.2.1 c.2.2.1 c.2.2.2.1 mX2_compareTo c.2.2.2.2 0 [some (.ref a0), some (.ref a1)] [] h k n
set_option maxHeartbeats 4000000 in
theorem s_X2_compareTo_0 (c : cC) (a0 : Nat) (a1 : Nat) (h : eH) (k n : Nat) (H : eCs c.2.2.1 h a1 "TroupeSums$Row" ∧ (∃ fs8 : List Value, h.1 a0 = some (.inr (2, fs8)) ∧ ∃ (d5 k6 n7 : Nat) (Q8 : Int32 → eH → Prop), cI c.1 c.2.1 c.2.2.1 d5 mX2_compareTo_2 [.ref a0, .ref a1] h k6 n7 Q8 cX0 ∧ d5 + 1 ≤ c.2.2.2.1 ∧ k6 ≤ k ∧ n7 ≤ n ∧ (∀ (r2 : Int32) (h3 : eH), Q8 r2 h3 → (c.2.2.2.2 (.inl (some (.int r2))) h3)))) : h_X2_compareTo_0 c a0 a1 h k n := by
  refine e_aload_n dX2_compareTo_0 rfl ?_
  refine e_aload_n dX2_compareTo_1 rfl ?_
  obtain ⟨g1, H⟩ := H
  refine c_castR dX2_compareTo_2 q351 g1 ?_
  obtain ⟨fsg4, g4o, H⟩ := H
  obtain ⟨d5, k6, n7, Q8, g4, g4d, g4k, g4n, H⟩ := H
  refine e_callV (r := (RX2, TX2, 1)) (As := [.ref a1]) g4 dX2_compareTo_5 wX2_compareTo_2 q352 q353 q354 g4o rfl rfl g4d rfl (Nat.le_of_ble_eq_true rfl) (k1 := k - k6) (n1 := n - n7) (by omega) (by omega) ?_ ?_
  · rintro v h3 (⟨v9, e9, r2, e8, hq⟩ | ⟨ci9, q9, e9, -⟩)
    · cases e9
      subst e8
      replace H := H r2 h3 hq
      exact e_ireturn .int dX2_compareTo_8 rfl rfl H
    · cases e9
  · rintro q9 h9 (⟨v9, e9, -⟩ | ⟨ci9, q8, e9, -, -, hx⟩)
    · cases e9
    · exact hx.elim
theorem en_X2_compareTo {l : Launch} {lo : Nat} {G : eG} {d : Nat} {P : eO → eH → Prop} (a0 : Nat) (a1 : Nat) {h : eH} {k n : Nat} (H : h_X2_compareTo_0 (l, lo, G, d, P) a0 a1 h k n) : Ct l lo G d mX2_compareTo [.ref a0, .ref a1] h k n P := 
  Ct_of (eArL mX2_compareTo.2.2.2.1 [.ref a0, .ref a1]) (by decide) rfl (Nat.le_of_ble_eq_true rfl) (fun j w q => eArL_mem j w q) (E.less2 H (eS_s (eS_s eS_0)))
/-! X2_compareTo_2 TroupeSums$Row.compareTo(LTroupeSums$Row;)I -/
def h_X2_compareTo_2_0 (c : cC) (a0 : Nat) (a1 : Nat) (h : eH) (k n : Nat) : Prop := E c.1 c.2.1 c.2.2.1 c.2.2.2.1 mX2_compareTo_2 c.2.2.2.2 0 [some (.ref a0), some (.ref a1), none] [] h k n
def h_X2_compareTo_2_2 (c : cC) (a0 : Nat) (a1 : Nat) (a2 : Int32) (h : eH) (k n : Nat) : Prop := E c.1 c.2.1 c.2.2.1 c.2.2.2.1 mX2_compareTo_2 c.2.2.2.2 2 [some (.ref a0), some (.ref a1), some (.int a2)] [] h k n
set_option maxHeartbeats 4000000 in
theorem s_X2_compareTo_2_0 (c : cC) (a0 : Nat) (a1 : Nat) (h : eH) (k n : Nat) (H : h_X2_compareTo_2_2 c a0 a1 (0 : Int32) h k n) : h_X2_compareTo_2_0 c a0 a1 h k n := by
  refine e_iconst (0) dX2_compareTo_2_0 (by decide) ?_
  refine e_istore_n _ dX2_compareTo_2_1 (by decide) rfl rfl ?_
  exact E.less2 H (eS_s (eS_s (eS_s eS_0)))
set_option maxHeartbeats 4000000 in
theorem s_X2_compareTo_2_2 (c : cC) (a0 : Nat) (a1 : Nat) (a2 : Int32) (h : eH) (k n : Nat) (H : ∃ x1 : Nat, fV h a0 2 0 (.ref x1) ∧ (∃ v3 : vp_A, h.1 x1 = some (.inl (c.2.2.1.2.1 0, v3)) ∧ (((nI v3.1) ≤ a2 → c.2.2.2.2 (.inl (some (.int (0 : Int32)))) h) ∧ (¬ (nI v3.1) ≤ a2 → ∃ x6 : Nat, fV h a0 2 0 (.ref x6) ∧ (∃ (N8 : Nat) (f9 : Nat → Int32), h.1 x6 = some (.inl (c.2.2.1.2.1 0, N8, .inl f9)) ∧ vp_in a2 N8 ∧ (∃ x11 : Nat, fV h a1 2 0 (.ref x11) ∧ (∃ (N13 : Nat) (f14 : Nat → Int32), h.1 x11 = some (.inl (c.2.2.1.2.1 0, N13, .inl f14)) ∧ vp_in a2 N13 ∧ (((f9 a2.toNatClampNeg) = (f14 a2.toNatClampNeg) → h_X2_compareTo_2_2 c a0 a1 (a2 + 1) h k n) ∧ (¬ (f9 a2.toNatClampNeg) = (f14 a2.toNatClampNeg) → ∃ x17 : Nat, fV h a0 2 0 (.ref x17) ∧ (∃ (N19 : Nat) (f20 : Nat → Int32), h.1 x17 = some (.inl (c.2.2.1.2.1 0, N19, .inl f20)) ∧ vp_in a2 N19 ∧ (∃ x22 : Nat, fV h a1 2 0 (.ref x22) ∧ (∃ (N24 : Nat) (f25 : Nat → Int32), h.1 x22 = some (.inl (c.2.2.1.2.1 0, N24, .inl f25)) ∧ vp_in a2 N24 ∧ (((f25 a2.toNatClampNeg) ≤ (f20 a2.toNatClampNeg) → c.2.2.2.2 (.inl (some (.int (1 : Int32)))) h) ∧ (¬ (f25 a2.toNatClampNeg) ≤ (f20 a2.toNatClampNeg) → c.2.2.2.2 (.inl (some (.int (-1 : Int32)))) h)))))))))))))) : h_X2_compareTo_2_2 c a0 a1 a2 h k n := by
  refine e_iload_n dX2_compareTo_2_2 rfl ?_
  refine e_aload_n dX2_compareTo_2_3 rfl ?_
  obtain ⟨x1, ⟨fsx1, g2, g2v⟩, H⟩ := H
  refine e_get dX2_compareTo_2_4 fX2_0 q297 g2 g2v ?_
  obtain ⟨v3, g4, H⟩ := H
  refine e_alen (t := 0) dX2_compareTo_2_7 (fun _ => rfl) g4 ?_
  refine e_icmp_ge 53 dX2_compareTo_2_8 (by decide) (fun g5 => ?_) (fun g5 => ?_)
  · replace H := H.1 g5
    refine e_iconst (0) dX2_compareTo_2_53 (by decide) ?_
    exact e_ireturn .int dX2_compareTo_2_54 rfl rfl H
  · replace H := H.2 g5
    refine e_aload_n dX2_compareTo_2_11 rfl ?_
    obtain ⟨x6, ⟨fsx6, g7, g7v⟩, H⟩ := H
    refine e_get dX2_compareTo_2_12 fX2_0 q297 g7 g7v ?_
    refine e_iload_n dX2_compareTo_2_15 rfl ?_
    obtain ⟨N8, f9, g10, g10i, H⟩ := H
    refine e_iaload dX2_compareTo_2_16 g10 g10i ?_
    refine e_aload_n dX2_compareTo_2_17 rfl ?_
    obtain ⟨x11, ⟨fsx11, g12, g12v⟩, H⟩ := H
    refine e_get dX2_compareTo_2_18 fX2_0 q297 g12 g12v ?_
    refine e_iload_n dX2_compareTo_2_21 rfl ?_
    obtain ⟨N13, f14, g15, g15i, H⟩ := H
    refine e_iaload dX2_compareTo_2_22 g15 g15i ?_
    refine e_icmp_eq 47 dX2_compareTo_2_23 (by decide) (fun g16 => ?_) (fun g16 => ?_)
    · replace H := H.1 g16
      refine e_iinc (a2 + 1) _ dX2_compareTo_2_47 rfl rfl (by decide) rfl rfl ?_
      refine e_goto 2 dX2_compareTo_2_50 (by decide) ?_
      exact E.less2 H (eS_s (eS_s (eS_s eS_0)))
    · replace H := H.2 g16
      refine e_aload_n dX2_compareTo_2_26 rfl ?_
      obtain ⟨x17, ⟨fsx17, g18, g18v⟩, H⟩ := H
      refine e_get dX2_compareTo_2_27 fX2_0 q297 g18 g18v ?_
      refine e_iload_n dX2_compareTo_2_30 rfl ?_
      obtain ⟨N19, f20, g21, g21i, H⟩ := H
      refine e_iaload dX2_compareTo_2_31 g21 g21i ?_
      refine e_aload_n dX2_compareTo_2_32 rfl ?_
      obtain ⟨x22, ⟨fsx22, g23, g23v⟩, H⟩ := H
      refine e_get dX2_compareTo_2_33 fX2_0 q297 g23 g23v ?_
      refine e_iload_n dX2_compareTo_2_36 rfl ?_
      obtain ⟨N24, f25, g26, g26i, H⟩ := H
      refine e_iaload dX2_compareTo_2_37 g26 g26i ?_
      refine e_icmp_ge 45 dX2_compareTo_2_38 (by decide) (fun g27 => ?_) (fun g27 => ?_)
      · replace H := H.1 g27
        refine e_iconst (1) dX2_compareTo_2_45 (by decide) ?_
        exact e_ireturn .int dX2_compareTo_2_46 rfl rfl H
      · replace H := H.2 g27
        refine e_iconst (-1) dX2_compareTo_2_41 (by decide) ?_
        refine e_goto 46 dX2_compareTo_2_42 (by decide) ?_
        exact e_ireturn .int dX2_compareTo_2_46 rfl rfl H
theorem en_X2_compareTo_2 {l : Launch} {lo : Nat} {G : eG} {d : Nat} {P : eO → eH → Prop} (a0 : Nat) (a1 : Nat) {h : eH} {k n : Nat} (H : h_X2_compareTo_2_0 (l, lo, G, d, P) a0 a1 h k n) : Ct l lo G d mX2_compareTo_2 [.ref a0, .ref a1] h k n P := 
  Ct_of (eArL mX2_compareTo_2.2.2.2.1 [.ref a0, .ref a1]) (by decide) rfl (Nat.le_of_ble_eq_true rfl) (fun j w q => eArL_mem j w q) (E.less2 H (eS_s (eS_s (eS_n eS_0))))
/-! X4_init TroupeSums$BySize.<init>()V -/
def h_X4_init_0 (c : cC) (a0 : Nat) (h : eH) (k n : Nat) : Prop := E c.1 c.2.1 c.2.2.1 c.2.2.2.1 mX4_init c.2.2.2.2 0 [some (.ref a0)] [] h k n
set_option maxHeartbeats 4000000 in
theorem s_X4_init_0 (c : cC) (a0 : Nat) (h : eH) (k n : Nat) (H : 1 ≤ c.2.2.2.1 ∧ (c.2.2.2.2 (.inl none) h)) : h_X4_init_0 c a0 h k n := by
  refine e_aload_n dX4_init_0 rfl ?_
  obtain ⟨g1, H⟩ := H
  refine e_objInit dX4_init_1 q1001 q192 q193 g1 (Nat.le_of_ble_eq_true rfl) ?_
  exact e_return dX4_init_4 rfl H
theorem en_X4_init {l : Launch} {lo : Nat} {G : eG} {d : Nat} {P : eO → eH → Prop} (a0 : Nat) {h : eH} {k n : Nat} (H : h_X4_init_0 (l, lo, G, d, P) a0 h k n) : Ct l lo G d mX4_init [.ref a0] h k n P := 
  Ct_of (eArL mX4_init.2.2.2.1 [.ref a0]) (by decide) rfl (Nat.le_of_ble_eq_true rfl) (fun j w q => eArL_mem j w q) (E.less2 H (eS_s eS_0))
/-! X4_compare TroupeSums$BySize.compare(Ljava/lang/Object;Ljava/lang/Object;)I -/
def h_X4_compare_0 (c : cC) (a0 : Nat) (a1 : Nat) (a2 : Nat) (h : eH) (k n : Nat) : Prop := E c.1 c.2.1 c.2.2.1 c.2.2.2.1 mX4_compare c.2.2.2.2 0 [some (.ref a0), some (.ref a1), some (.ref a2)] [] h k n
set_option maxHeartbeats 4000000 in
theorem s_X4_compare_0 (c : cC) (a0 : Nat) (a1 : Nat) (a2 : Nat) (h : eH) (k n : Nat) (H : eCs c.2.2.1 h a1 "TroupeSums$Sort" ∧ (eCs c.2.2.1 h a2 "TroupeSums$Sort" ∧ (∃ fs8 : List Value, h.1 a0 = some (.inr (4, fs8)) ∧ ∃ (d6 k7 n8 : Nat) (Q9 : Int32 → eH → Prop), cI c.1 c.2.1 c.2.2.1 d6 mX4_compare_2 [.ref a0, .ref a1, .ref a2] h k7 n8 Q9 cX0 ∧ d6 + 1 ≤ c.2.2.2.1 ∧ k7 ≤ k ∧ n8 ≤ n ∧ (∀ (r3 : Int32) (h4 : eH), Q9 r3 h4 → (c.2.2.2.2 (.inl (some (.int r3))) h4))))) : h_X4_compare_0 c a0 a1 a2 h k n := by
  refine e_aload_n dX4_compare_0 rfl ?_
  refine e_aload_n dX4_compare_1 rfl ?_
  obtain ⟨g1, H⟩ := H
  refine c_castR dX4_compare_2 q602 g1 ?_
  refine e_aload_n dX4_compare_5 rfl ?_
  obtain ⟨g2, H⟩ := H
  refine c_castR dX4_compare_6 q602 g2 ?_
  obtain ⟨fsg5, g5o, H⟩ := H
  obtain ⟨d6, k7, n8, Q9, g5, g5d, g5k, g5n, H⟩ := H
  refine e_callV (r := ("TroupeSums$BySize", TX4, 0)) (As := [.ref a1, .ref a2]) g5 dX4_compare_9 wX4_compare_2 q603 q604 q605 g5o rfl rfl g5d rfl (Nat.le_of_ble_eq_true rfl) (k1 := k - k7) (n1 := n - n8) (by omega) (by omega) ?_ ?_
  · rintro v h4 (⟨v9, e9, r3, e8, hq⟩ | ⟨ci9, q9, e9, -⟩)
    · cases e9
      subst e8
      replace H := H r3 h4 hq
      exact e_ireturn .int dX4_compare_12 rfl rfl H
    · cases e9
  · rintro q9 h9 (⟨v9, e9, -⟩ | ⟨ci9, q8, e9, -, -, hx⟩)
    · cases e9
    · exact hx.elim
theorem en_X4_compare {l : Launch} {lo : Nat} {G : eG} {d : Nat} {P : eO → eH → Prop} (a0 : Nat) (a1 : Nat) (a2 : Nat) {h : eH} {k n : Nat} (H : h_X4_compare_0 (l, lo, G, d, P) a0 a1 a2 h k n) : Ct l lo G d mX4_compare [.ref a0, .ref a1, .ref a2] h k n P := 
  Ct_of (eArL mX4_compare.2.2.2.1 [.ref a0, .ref a1, .ref a2]) (by decide) rfl (Nat.le_of_ble_eq_true rfl) (fun j w q => eArL_mem j w q) (E.less2 H (eS_s (eS_s (eS_s eS_0))))
/-! X4_compare_2 TroupeSums$BySize.compare(LTroupeSums$Sort;LTroupeSums$Sort;)I -/
def h_X4_compare_2_0 (c : cC) (a1 : Nat) (a2 : Nat) (h : eH) (k n : Nat) : Prop := E c.1 c.2.1 c.2.2.1 c.2.2.2.1 mX4_compare_2 c.2.2.2.2 0 [none, some (.ref a1), some (.ref a2)] [] h k n
set_option maxHeartbeats 4000000 in
theorem s_X4_compare_2_0 (c : cC) (a1 : Nat) (a2 : Nat) (h : eH) (k n : Nat) (H : ∃ x1 : Int32, fV h a1 5 0 (.int x1) ∧ (∃ x3 : Int32, fV h a2 5 0 (.int x3) ∧ ((x1 = x3 → ∃ x6 : Int32, fV h a1 5 1 (.int x6) ∧ (∃ x8 : Int32, fV h a2 5 1 (.int x8) ∧ (∃ (d13 k14 n15 : Nat) (Q16 : Int32 → eH → Prop), cI c.1 c.2.1 c.2.2.1 d13 mJ6_compare [.int x6, .int x8] h k14 n15 Q16 cX0 ∧ d13 + 1 ≤ c.2.2.2.1 ∧ k14 ≤ k ∧ n15 ≤ n ∧ (∀ (r10 : Int32) (h11 : eH), Q16 r10 h11 → (c.2.2.2.2 (.inl (some (.int r10))) h11))))) ∧ (¬ x1 = x3 → ∃ x17 : Int32, fV h a1 5 0 (.int x17) ∧ (∃ x19 : Int32, fV h a2 5 0 (.int x19) ∧ (∃ (d24 k25 n26 : Nat) (Q27 : Int32 → eH → Prop), cI c.1 c.2.1 c.2.2.1 d24 mJ6_compare [.int x17, .int x19] h k25 n26 Q27 cX0 ∧ d24 + 1 ≤ c.2.2.2.1 ∧ k25 ≤ k ∧ n26 ≤ n ∧ (∀ (r21 : Int32) (h22 : eH), Q27 r21 h22 → (c.2.2.2.2 (.inl (some (.int r21))) h22)))))))) : h_X4_compare_2_0 c a1 a2 h k n := by
  refine e_aload_n dX4_compare_2_0 rfl ?_
  obtain ⟨x1, ⟨fsx1, g2, g2v⟩, H⟩ := H
  refine e_getN dX4_compare_2_1 fX5_0 q1077 g2 g2v ?_
  refine e_aload_n dX4_compare_2_4 rfl ?_
  obtain ⟨x3, ⟨fsx3, g4, g4v⟩, H⟩ := H
  refine e_getN dX4_compare_2_5 fX5_0 q1077 g4 g4v ?_
  refine e_icmp_eq 25 dX4_compare_2_8 (by decide) (fun g5 => ?_) (fun g5 => ?_)
  · replace H := H.1 g5
    refine e_aload_n dX4_compare_2_25 rfl ?_
    obtain ⟨x6, ⟨fsx6, g7, g7v⟩, H⟩ := H
    refine e_getN dX4_compare_2_26 fX5_1 q1082 g7 g7v ?_
    refine e_aload_n dX4_compare_2_29 rfl ?_
    obtain ⟨x8, ⟨fsx8, g9, g9v⟩, H⟩ := H
    refine e_getN dX4_compare_2_30 fX5_1 q1082 g9 g9v ?_
    obtain ⟨d13, k14, n15, Q16, g12, g12d, g12k, g12n, H⟩ := H
    refine e_callS (As := [.int x6, .int x8]) g12 dX4_compare_2_33 wJ6_compare q607 q368 rfl g12d rfl (Nat.le_of_ble_eq_true rfl) (k1 := k - k14) (n1 := n - n15) (by omega) (by omega) ?_ ?_
    · rintro v h11 (⟨v9, e9, r10, e8, hq⟩ | ⟨ci9, q9, e9, -⟩)
      · cases e9
        subst e8
        replace H := H r10 h11 hq
        exact e_ireturn .int dX4_compare_2_36 rfl rfl H
      · cases e9
    · rintro q9 h9 (⟨v9, e9, -⟩ | ⟨ci9, q8, e9, -, -, hx⟩)
      · cases e9
      · exact hx.elim
  · replace H := H.2 g5
    refine e_aload_n dX4_compare_2_11 rfl ?_
    obtain ⟨x17, ⟨fsx17, g18, g18v⟩, H⟩ := H
    refine e_getN dX4_compare_2_12 fX5_0 q1077 g18 g18v ?_
    refine e_aload_n dX4_compare_2_15 rfl ?_
    obtain ⟨x19, ⟨fsx19, g20, g20v⟩, H⟩ := H
    refine e_getN dX4_compare_2_16 fX5_0 q1077 g20 g20v ?_
    obtain ⟨d24, k25, n26, Q27, g23, g23d, g23k, g23n, H⟩ := H
    refine e_callS (As := [.int x17, .int x19]) g23 dX4_compare_2_19 wJ6_compare q607 q368 rfl g23d rfl (Nat.le_of_ble_eq_true rfl) (k1 := k - k25) (n1 := n - n26) (by omega) (by omega) ?_ ?_
    · rintro v h22 (⟨v9, e9, r21, e8, hq⟩ | ⟨ci9, q9, e9, -⟩)
      · cases e9
        subst e8
        replace H := H r21 h22 hq
        refine e_goto 36 dX4_compare_2_22 (by decide) ?_
        exact e_ireturn .int dX4_compare_2_36 rfl rfl H
      · cases e9
    · rintro q9 h9 (⟨v9, e9, -⟩ | ⟨ci9, q8, e9, -, -, hx⟩)
      · cases e9
      · exact hx.elim
theorem en_X4_compare_2 {l : Launch} {lo : Nat} {G : eG} {d : Nat} {P : eO → eH → Prop} (a0 : Nat) (a1 : Nat) (a2 : Nat) {h : eH} {k n : Nat} (H : h_X4_compare_2_0 (l, lo, G, d, P) a1 a2 h k n) : Ct l lo G d mX4_compare_2 [.ref a0, .ref a1, .ref a2] h k n P := 
  Ct_of (eArL mX4_compare_2.2.2.2.1 [.ref a0, .ref a1, .ref a2]) (by decide) rfl (Nat.le_of_ble_eq_true rfl) (fun j w q => eArL_mem j w q) (E.less2 H (eS_n (eS_s (eS_s eS_0))))
/-! X5_init TroupeSums$Sort.<init>(I)V -/
def h_X5_init_0 (c : cC) (a0 : Nat) (a1 : Int32) (h : eH) (k n : Nat) : Prop := E c.1 c.2.1 c.2.2.1 c.2.2.2.1 mX5_init c.2.2.2.2 0 [some (.ref a0), some (.int a1)] [] h k n
set_option maxHeartbeats 4000000 in
theorem s_X5_init_0 (c : cC) (a0 : Nat) (a1 : Int32) (h : eH) (k n : Nat) (H : 1 ≤ c.2.2.2.1 ∧ (∃ fs2 : List Value, h.1 a0 = some (.inr (5, fs2)) ∧ c.2.1 ≤ a0 ∧ 1 < fs2.length ∧ ∀ h4 : eH, h4 = eUp h a0 (.inr (5, fs2.set 1 (.int a1))) → (∃ (d8 k9 n10 : Nat) (Q11 : Int32 → eH → Prop), cI c.1 c.2.1 c.2.2.1 d8 mJ6_bitCount [.int a1] h4 k9 n10 Q11 cX0 ∧ d8 + 1 ≤ c.2.2.2.1 ∧ k9 ≤ k ∧ n10 ≤ n ∧ (∀ (r5 : Int32) (h6 : eH), Q11 r5 h6 → (∃ fs12 : List Value, h6.1 a0 = some (.inr (5, fs12)) ∧ c.2.1 ≤ a0 ∧ 0 < fs12.length ∧ ∀ h14 : eH, h14 = eUp h6 a0 (.inr (5, fs12.set 0 (.int r5))) → (c.2.2.2.2 (.inl none) h14)))))) : h_X5_init_0 c a0 a1 h k n := by
  refine e_aload_n dX5_init_0 rfl ?_
  obtain ⟨g1, H⟩ := H
  refine e_objInit dX5_init_1 q1069 q192 q193 g1 (Nat.le_of_ble_eq_true rfl) ?_
  refine e_aload_n dX5_init_4 rfl ?_
  refine e_iload_n dX5_init_5 rfl ?_
  obtain ⟨fs2, g3, g3l, g3j, H⟩ := H
  refine e_putF dX5_init_6 fX5_1 q1080 rfl rfl (eFit_i _) g3 g3l g3j ?_
  replace H := H _ rfl
  generalize eUp h a0 _ = h4 at H ⊢
  refine e_aload_n dX5_init_9 rfl ?_
  refine e_iload_n dX5_init_10 rfl ?_
  obtain ⟨d8, k9, n10, Q11, g7, g7d, g7k, g7n, H⟩ := H
  refine e_callS (As := [.int a1]) g7 dX5_init_11 wJ6_bitCount q1070 q1071 rfl g7d rfl (Nat.le_of_ble_eq_true rfl) (k1 := k - k9) (n1 := n - n10) (by omega) (by omega) ?_ ?_
  · rintro v h6 (⟨v9, e9, r5, e8, hq⟩ | ⟨ci9, q9, e9, -⟩)
    · cases e9
      subst e8
      replace H := H r5 h6 hq
      obtain ⟨fs12, g13, g13l, g13j, H⟩ := H
      refine e_putF dX5_init_14 fX5_0 q1076 rfl rfl (eFit_i _) g13 g13l g13j ?_
      replace H := H _ rfl
      generalize eUp h6 a0 _ = h14 at H ⊢
      exact e_return dX5_init_17 rfl H
    · cases e9
  · rintro q9 h9 (⟨v9, e9, -⟩ | ⟨ci9, q8, e9, -, -, hx⟩)
    · cases e9
    · exact hx.elim
theorem en_X5_init {l : Launch} {lo : Nat} {G : eG} {d : Nat} {P : eO → eH → Prop} (a0 : Nat) (a1 : Int32) {h : eH} {k n : Nat} (H : h_X5_init_0 (l, lo, G, d, P) a0 a1 h k n) : Ct l lo G d mX5_init [.ref a0, .int a1] h k n P := 
  Ct_of (eArL mX5_init.2.2.2.1 [.ref a0, .int a1]) (by decide) rfl (Nat.le_of_ble_eq_true rfl) (fun j w q => eArL_mem j w q) (E.less2 H (eS_s (eS_s eS_0)))
/-! X8_init TroupeSums$Wrong.<init>(II)V -/
def h_X8_init_0 (c : cC) (a0 : Nat) (a1 : Int32) (a2 : Int32) (h : eH) (k n : Nat) : Prop := E c.1 c.2.1 c.2.2.1 c.2.2.2.1 mX8_init c.2.2.2.2 0 [some (.ref a0), some (.int a1), some (.int a2)] [] h k n
set_option maxHeartbeats 4000000 in
theorem s_X8_init_0 (c : cC) (a0 : Nat) (a1 : Int32) (a2 : Int32) (h : eH) (k n : Nat) (H : ∃ (d4 k5 n6 : Nat) (Q7 : eH → Prop), cV c.1 c.2.1 c.2.2.1 d4 mJ30_init [.ref a0, .null, .null, .int (0 : Int32), .int (0 : Int32)] h k5 n6 Q7 cX0 ∧ d4 + 1 ≤ c.2.2.2.1 ∧ k5 ≤ k ∧ n6 ≤ n ∧ (∀ h2 : eH, Q7 h2 → (∃ fs8 : List Value, h2.1 a0 = some (.inr (8, fs8)) ∧ c.2.1 ≤ a0 ∧ 6 < fs8.length ∧ ∀ h10 : eH, h10 = eUp h2 a0 (.inr (8, fs8.set 6 (.int a1))) → (∃ fs11 : List Value, h10.1 a0 = some (.inr (8, fs11)) ∧ c.2.1 ≤ a0 ∧ 7 < fs11.length ∧ ∀ h13 : eH, h13 = eUp h10 a0 (.inr (8, fs11.set 7 (.int a2))) → (c.2.2.2.2 (.inl none) h13))))) : h_X8_init_0 c a0 a1 a2 h k n := by
  refine e_aload_n dX8_init_0 rfl ?_
  refine e_null dX8_init_1 ?_
  refine e_null dX8_init_2 ?_
  refine e_iconst (0) dX8_init_3 (by decide) ?_
  refine e_iconst (0) dX8_init_4 (by decide) ?_
  obtain ⟨d4, k5, n6, Q7, g3, g3d, g3k, g3n, H⟩ := H
  refine e_callI (As := [.null, .null, .int (0 : Int32), .int (0 : Int32)]) g3 dX8_init_5 wJ30_init rfl rfl rfl q1610 q1611 rfl g3d rfl (Nat.le_of_ble_eq_true rfl) (k1 := k - k5) (n1 := n - n6) (by omega) (by omega) ?_ ?_
  · rintro v h2 (⟨v9, e9, e8, hq⟩ | ⟨ci9, q9, e9, -⟩)
    · cases e9
      subst e8
      replace H := H h2 hq
      refine e_aload_n dX8_init_8 rfl ?_
      refine e_iload_n dX8_init_9 rfl ?_
      obtain ⟨fs8, g9, g9l, g9j, H⟩ := H
      refine e_putF dX8_init_10 fX8_6 q1616 rfl rfl (eFit_i _) g9 g9l g9j ?_
      replace H := H _ rfl
      generalize eUp h2 a0 _ = h10 at H ⊢
      refine e_aload_n dX8_init_13 rfl ?_
      refine e_iload_n dX8_init_14 rfl ?_
      obtain ⟨fs11, g12, g12l, g12j, H⟩ := H
      refine e_putF dX8_init_15 fX8_7 q1618 rfl rfl (eFit_i _) g12 g12l g12j ?_
      replace H := H _ rfl
      generalize eUp h10 a0 _ = h13 at H ⊢
      exact e_return dX8_init_18 rfl H
    · cases e9
  · rintro q9 h9 (⟨v9, e9, -⟩ | ⟨ci9, q8, e9, -, -, hx⟩)
    · cases e9
    · exact hx.elim
theorem en_X8_init {l : Launch} {lo : Nat} {G : eG} {d : Nat} {P : eO → eH → Prop} (a0 : Nat) (a1 : Int32) (a2 : Int32) {h : eH} {k n : Nat} (H : h_X8_init_0 (l, lo, G, d, P) a0 a1 a2 h k n) : Ct l lo G d mX8_init [.ref a0, .int a1, .int a2] h k n P := 
  Ct_of (eArL mX8_init.2.2.2.1 [.ref a0, .int a1, .int a2]) (by decide) rfl (Nat.le_of_ble_eq_true rfl) (fun j w q => eArL_mem j w q) (E.less2 H (eS_s (eS_s (eS_s eS_0))))
/-! X10_init TroupeSums$TooGreat.<init>()V -/
def h_X10_init_0 (c : cC) (a0 : Nat) (h : eH) (k n : Nat) : Prop := E c.1 c.2.1 c.2.2.1 c.2.2.2.1 mX10_init c.2.2.2.2 0 [some (.ref a0)] [] h k n
set_option maxHeartbeats 4000000 in
theorem s_X10_init_0 (c : cC) (a0 : Nat) (h : eH) (k n : Nat) (H : ∃ (d4 k5 n6 : Nat) (Q7 : eH → Prop), cV c.1 c.2.1 c.2.2.1 d4 mJ30_init [.ref a0, .null, .null, .int (0 : Int32), .int (0 : Int32)] h k5 n6 Q7 cX0 ∧ d4 + 1 ≤ c.2.2.2.1 ∧ k5 ≤ k ∧ n6 ≤ n ∧ (∀ h2 : eH, Q7 h2 → (c.2.2.2.2 (.inl none) h2))) : h_X10_init_0 c a0 h k n := by
  refine e_aload_n dX10_init_0 rfl ?_
  refine e_null dX10_init_1 ?_
  refine e_null dX10_init_2 ?_
  refine e_iconst (0) dX10_init_3 (by decide) ?_
  refine e_iconst (0) dX10_init_4 (by decide) ?_
  obtain ⟨d4, k5, n6, Q7, g3, g3d, g3k, g3n, H⟩ := H
  refine e_callI (As := [.null, .null, .int (0 : Int32), .int (0 : Int32)]) g3 dX10_init_5 wJ30_init rfl rfl rfl q1805 q1611 rfl g3d rfl (Nat.le_of_ble_eq_true rfl) (k1 := k - k5) (n1 := n - n6) (by omega) (by omega) ?_ ?_
  · rintro v h2 (⟨v9, e9, e8, hq⟩ | ⟨ci9, q9, e9, -⟩)
    · cases e9
      subst e8
      replace H := H h2 hq
      exact e_return dX10_init_8 rfl H
    · cases e9
  · rintro q9 h9 (⟨v9, e9, -⟩ | ⟨ci9, q8, e9, -, -, hx⟩)
    · cases e9
    · exact hx.elim
theorem en_X10_init {l : Launch} {lo : Nat} {G : eG} {d : Nat} {P : eO → eH → Prop} (a0 : Nat) {h : eH} {k n : Nat} (H : h_X10_init_0 (l, lo, G, d, P) a0 h k n) : Ct l lo G d mX10_init [.ref a0] h k n P := 
  Ct_of (eArL mX10_init.2.2.2.1 [.ref a0]) (by decide) rfl (Nat.le_of_ble_eq_true rfl) (fun j w q => eArL_mem j w q) (E.less2 H (eS_s eS_0))
/-! X11_init TroupeSums$LineWrong.<init>(Ljava/lang/Exception;)V -/
def h_X11_init_0 (c : cC) (a0 : Nat) (a1 : Nat) (h : eH) (k n : Nat) : Prop := E c.1 c.2.1 c.2.2.1 c.2.2.2.1 mX11_init c.2.2.2.2 0 [some (.ref a0), some (.ref a1)] [] h k n
set_option maxHeartbeats 4000000 in
theorem s_X11_init_0 (c : cC) (a0 : Nat) (a1 : Nat) (h : eH) (k n : Nat) (H : ∃ (d4 k5 n6 : Nat) (Q7 : eH → Prop), cV c.1 c.2.1 c.2.2.1 d4 mJ30_init [.ref a0, .null, .ref a1, .int (0 : Int32), .int (0 : Int32)] h k5 n6 Q7 cX0 ∧ d4 + 1 ≤ c.2.2.2.1 ∧ k5 ≤ k ∧ n6 ≤ n ∧ (∀ h2 : eH, Q7 h2 → (c.2.2.2.2 (.inl none) h2))) : h_X11_init_0 c a0 a1 h k n := by
  refine e_aload_n dX11_init_0 rfl ?_
  refine e_null dX11_init_1 ?_
  refine e_aload_n dX11_init_2 rfl ?_
  refine e_iconst (0) dX11_init_3 (by decide) ?_
  refine e_iconst (0) dX11_init_4 (by decide) ?_
  obtain ⟨d4, k5, n6, Q7, g3, g3d, g3k, g3n, H⟩ := H
  refine e_callI (As := [.null, .ref a1, .int (0 : Int32), .int (0 : Int32)]) g3 dX11_init_5 wJ30_init rfl rfl rfl q1879 q1611 rfl g3d rfl (Nat.le_of_ble_eq_true rfl) (k1 := k - k5) (n1 := n - n6) (by omega) (by omega) ?_ ?_
  · rintro v h2 (⟨v9, e9, e8, hq⟩ | ⟨ci9, q9, e9, -⟩)
    · cases e9
      subst e8
      replace H := H h2 hq
      exact e_return dX11_init_8 rfl H
    · cases e9
  · rintro q9 h9 (⟨v9, e9, -⟩ | ⟨ci9, q8, e9, -, -, hx⟩)
    · cases e9
    · exact hx.elim
theorem en_X11_init {l : Launch} {lo : Nat} {G : eG} {d : Nat} {P : eO → eH → Prop} (a0 : Nat) (a1 : Nat) {h : eH} {k n : Nat} (H : h_X11_init_0 (l, lo, G, d, P) a0 a1 h k n) : Ct l lo G d mX11_init [.ref a0, .ref a1] h k n P := 
  Ct_of (eArL mX11_init.2.2.2.1 [.ref a0, .ref a1]) (by decide) rfl (Nat.le_of_ble_eq_true rfl) (fun j w q => eArL_mem j w q) (E.less2 H (eS_s (eS_s eS_0)))
/-! X12_init TroupeSums$TextWrong.<init>(LTroupeSums$LineWrong;)V -/
def h_X12_init_0 (c : cC) (a0 : Nat) (a1 : Nat) (h : eH) (k n : Nat) : Prop := E c.1 c.2.1 c.2.2.1 c.2.2.2.1 mX12_init c.2.2.2.2 0 [some (.ref a0), some (.ref a1)] [] h k n
set_option maxHeartbeats 4000000 in
theorem s_X12_init_0 (c : cC) (a0 : Nat) (a1 : Nat) (h : eH) (k n : Nat) (H : ∃ (d4 k5 n6 : Nat) (Q7 : eH → Prop), cV c.1 c.2.1 c.2.2.1 d4 mJ30_init [.ref a0, .null, .ref a1, .int (0 : Int32), .int (0 : Int32)] h k5 n6 Q7 cX0 ∧ d4 + 1 ≤ c.2.2.2.1 ∧ k5 ≤ k ∧ n6 ≤ n ∧ (∀ h2 : eH, Q7 h2 → (c.2.2.2.2 (.inl none) h2))) : h_X12_init_0 c a0 a1 h k n := by
  refine e_aload_n dX12_init_0 rfl ?_
  refine e_null dX12_init_1 ?_
  refine e_aload_n dX12_init_2 rfl ?_
  refine e_iconst (0) dX12_init_3 (by decide) ?_
  refine e_iconst (0) dX12_init_4 (by decide) ?_
  obtain ⟨d4, k5, n6, Q7, g3, g3d, g3k, g3n, H⟩ := H
  refine e_callI (As := [.null, .ref a1, .int (0 : Int32), .int (0 : Int32)]) g3 dX12_init_5 wJ30_init rfl rfl rfl q1894 q1611 rfl g3d rfl (Nat.le_of_ble_eq_true rfl) (k1 := k - k5) (n1 := n - n6) (by omega) (by omega) ?_ ?_
  · rintro v h2 (⟨v9, e9, e8, hq⟩ | ⟨ci9, q9, e9, -⟩)
    · cases e9
      subst e8
      replace H := H h2 hq
      exact e_return dX12_init_8 rfl H
    · cases e9
  · rintro q9 h9 (⟨v9, e9, -⟩ | ⟨ci9, q8, e9, -, -, hx⟩)
    · cases e9
    · exact hx.elim
theorem en_X12_init {l : Launch} {lo : Nat} {G : eG} {d : Nat} {P : eO → eH → Prop} (a0 : Nat) (a1 : Nat) {h : eH} {k n : Nat} (H : h_X12_init_0 (l, lo, G, d, P) a0 a1 h k n) : Ct l lo G d mX12_init [.ref a0, .ref a1] h k n P := 
  Ct_of (eArL mX12_init.2.2.2.1 [.ref a0, .ref a1]) (by decide) rfl (Nat.le_of_ble_eq_true rfl) (fun j w q => eArL_mem j w q) (E.less2 H (eS_s (eS_s eS_0)))
/-! X12_first TroupeSums$TextWrong.first()LTroupeSums$Wrong; -/
def h_X12_first_0 (c : cC) (a0 : Nat) (h : eH) (k n : Nat) : Prop := E c.1 c.2.1 c.2.2.1 c.2.2.2.1 mX12_first c.2.2.2.2 0 [some (.ref a0)] [] h k n
set_option maxHeartbeats 4000000 in
theorem s_X12_first_0 (c : cC) (a0 : Nat) (h : eH) (k n : Nat) (H : False) : h_X12_first_0 c a0 h k n := by
  refine e_aload_n dX12_first_0 rfl ?_
  exact H.elim
theorem en_X12_first {l : Launch} {lo : Nat} {G : eG} {d : Nat} {P : eO → eH → Prop} (a0 : Nat) {h : eH} {k n : Nat} (H : h_X12_first_0 (l, lo, G, d, P) a0 h k n) : Ct l lo G d mX12_first [.ref a0] h k n P := 
  Ct_of (eArL mX12_first.2.2.2.1 [.ref a0]) (by decide) rfl (Nat.le_of_ble_eq_true rfl) (fun j w q => eArL_mem j w q) (E.less2 H (eS_s eS_0))
/-! X14_init TroupeSums$Signs.<init>(I)V -/
def h_X14_init_0 (c : cC) (a0 : Nat) (a1 : Int32) (h : eH) (k n : Nat) : Prop := E c.1 c.2.1 c.2.2.1 c.2.2.2.1 mX14_init c.2.2.2.2 0 [some (.ref a0), some (.int a1)] [] h k n
set_option maxHeartbeats 4000000 in
theorem s_X14_init_0 (c : cC) (a0 : Nat) (a1 : Int32) (h : eH) (k n : Nat) (H : 1 ≤ c.2.2.2.1 ∧ (∃ fs2 : List Value, h.1 a0 = some (.inr (14, fs2)) ∧ c.2.1 ≤ a0 ∧ 0 < fs2.length ∧ ∀ h4 : eH, h4 = eUp h a0 (.inr (14, fs2.set 0 (.int a1))) → (c.2.2.2.2 (.inl none) h4))) : h_X14_init_0 c a0 a1 h k n := by
  refine e_aload_n dX14_init_0 rfl ?_
  obtain ⟨g1, H⟩ := H
  refine e_objInit dX14_init_1 q2233 q192 q193 g1 (Nat.le_of_ble_eq_true rfl) ?_
  refine e_aload_n dX14_init_4 rfl ?_
  refine e_iload_n dX14_init_5 rfl ?_
  obtain ⟨fs2, g3, g3l, g3j, H⟩ := H
  refine e_putF dX14_init_6 fX14_0 q2234 rfl rfl (eFit_i _) g3 g3l g3j ?_
  replace H := H _ rfl
  generalize eUp h a0 _ = h4 at H ⊢
  exact e_return dX14_init_9 rfl H
theorem en_X14_init {l : Launch} {lo : Nat} {G : eG} {d : Nat} {P : eO → eH → Prop} (a0 : Nat) (a1 : Int32) {h : eH} {k n : Nat} (H : h_X14_init_0 (l, lo, G, d, P) a0 a1 h k n) : Ct l lo G d mX14_init [.ref a0, .int a1] h k n P := 
  Ct_of (eArL mX14_init.2.2.2.1 [.ref a0, .int a1]) (by decide) rfl (Nat.le_of_ble_eq_true rfl) (fun j w q => eArL_mem j w q) (E.less2 H (eS_s (eS_s eS_0)))
/-! X14_compareTo TroupeSums$Signs.compareTo(Ljava/lang/Object;)I -/
def h_X14_compareTo_0 (c : cC) (a0 : Nat) (a1 : Nat) (h : eH) (k n : Nat) : Prop := E c.1 c.2.1 c.2.2.1 c.2.2.2.1 mX14_compareTo c.2.2.2.2 0 [some (.ref a0), some (.ref a1)] [] h k n
set_option maxHeartbeats 4000000 in
theorem s_X14_compareTo_0 (c : cC) (a0 : Nat) (a1 : Nat) (h : eH) (k n : Nat) (H : eCs c.2.2.1 h a1 "TroupeSums$Signs" ∧ (∃ fs8 : List Value, h.1 a0 = some (.inr (14, fs8)) ∧ ∃ (d5 k6 n7 : Nat) (Q8 : Int32 → eH → Prop), cI c.1 c.2.1 c.2.2.1 d5 mX14_compareTo_2 [.ref a0, .ref a1] h k6 n7 Q8 cX0 ∧ d5 + 1 ≤ c.2.2.2.1 ∧ k6 ≤ k ∧ n7 ≤ n ∧ (∀ (r2 : Int32) (h3 : eH), Q8 r2 h3 → (c.2.2.2.2 (.inl (some (.int r2))) h3)))) : h_X14_compareTo_0 c a0 a1 h k n := by
  refine e_aload_n dX14_compareTo_0 rfl ?_
  refine e_aload_n dX14_compareTo_1 rfl ?_
  obtain ⟨g1, H⟩ := H
  refine c_castR dX14_compareTo_2 q362 g1 ?_
  obtain ⟨fsg4, g4o, H⟩ := H
  obtain ⟨d5, k6, n7, Q8, g4, g4d, g4k, g4n, H⟩ := H
  refine e_callV (r := (RX14, TX14, 1)) (As := [.ref a1]) g4 dX14_compareTo_5 wX14_compareTo_2 q363 q364 q365 g4o rfl rfl g4d rfl (Nat.le_of_ble_eq_true rfl) (k1 := k - k6) (n1 := n - n7) (by omega) (by omega) ?_ ?_
  · rintro v h3 (⟨v9, e9, r2, e8, hq⟩ | ⟨ci9, q9, e9, -⟩)
    · cases e9
      subst e8
      replace H := H r2 h3 hq
      exact e_ireturn .int dX14_compareTo_8 rfl rfl H
    · cases e9
  · rintro q9 h9 (⟨v9, e9, -⟩ | ⟨ci9, q8, e9, -, -, hx⟩)
    · cases e9
    · exact hx.elim
theorem en_X14_compareTo {l : Launch} {lo : Nat} {G : eG} {d : Nat} {P : eO → eH → Prop} (a0 : Nat) (a1 : Nat) {h : eH} {k n : Nat} (H : h_X14_compareTo_0 (l, lo, G, d, P) a0 a1 h k n) : Ct l lo G d mX14_compareTo [.ref a0, .ref a1] h k n P := 
  Ct_of (eArL mX14_compareTo.2.2.2.1 [.ref a0, .ref a1]) (by decide) rfl (Nat.le_of_ble_eq_true rfl) (fun j w q => eArL_mem j w q) (E.less2 H (eS_s (eS_s eS_0)))
/-! X14_compareTo_2 TroupeSums$Signs.compareTo(LTroupeSums$Signs;)I -/
def h_X14_compareTo_2_0 (c : cC) (a0 : Nat) (a1 : Nat) (h : eH) (k n : Nat) : Prop := E c.1 c.2.1 c.2.2.1 c.2.2.2.1 mX14_compareTo_2 c.2.2.2.2 0 [some (.ref a0), some (.ref a1)] [] h k n
set_option maxHeartbeats 4000000 in
theorem s_X14_compareTo_2_0 (c : cC) (a0 : Nat) (a1 : Nat) (h : eH) (k n : Nat) (H : ∃ x1 : Int32, fV h a0 14 0 (.int x1) ∧ (∃ x3 : Int32, fV h a1 14 0 (.int x3) ∧ (∃ (d8 k9 n10 : Nat) (Q11 : Int32 → eH → Prop), cI c.1 c.2.1 c.2.2.1 d8 mJ6_compare [.int x1, .int x3] h k9 n10 Q11 cX0 ∧ d8 + 1 ≤ c.2.2.2.1 ∧ k9 ≤ k ∧ n10 ≤ n ∧ (∀ (r5 : Int32) (h6 : eH), Q11 r5 h6 → (c.2.2.2.2 (.inl (some (.int r5))) h6))))) : h_X14_compareTo_2_0 c a0 a1 h k n := by
  refine e_aload_n dX14_compareTo_2_0 rfl ?_
  obtain ⟨x1, ⟨fsx1, g2, g2v⟩, H⟩ := H
  refine e_get dX14_compareTo_2_1 fX14_0 q2234 g2 g2v ?_
  refine e_aload_n dX14_compareTo_2_4 rfl ?_
  obtain ⟨x3, ⟨fsx3, g4, g4v⟩, H⟩ := H
  refine e_get dX14_compareTo_2_5 fX14_0 q2234 g4 g4v ?_
  obtain ⟨d8, k9, n10, Q11, g7, g7d, g7k, g7n, H⟩ := H
  refine e_callS (As := [.int x1, .int x3]) g7 dX14_compareTo_2_8 wJ6_compare q367 q368 rfl g7d rfl (Nat.le_of_ble_eq_true rfl) (k1 := k - k9) (n1 := n - n10) (by omega) (by omega) ?_ ?_
  · rintro v h6 (⟨v9, e9, r5, e8, hq⟩ | ⟨ci9, q9, e9, -⟩)
    · cases e9
      subst e8
      replace H := H r5 h6 hq
      exact e_ireturn .int dX14_compareTo_2_11 rfl rfl H
    · cases e9
  · rintro q9 h9 (⟨v9, e9, -⟩ | ⟨ci9, q8, e9, -, -, hx⟩)
    · cases e9
    · exact hx.elim
theorem en_X14_compareTo_2 {l : Launch} {lo : Nat} {G : eG} {d : Nat} {P : eO → eH → Prop} (a0 : Nat) (a1 : Nat) {h : eH} {k n : Nat} (H : h_X14_compareTo_2_0 (l, lo, G, d, P) a0 a1 h k n) : Ct l lo G d mX14_compareTo_2 [.ref a0, .ref a1] h k n P := 
  Ct_of (eArL mX14_compareTo_2.2.2.2.1 [.ref a0, .ref a1]) (by decide) rfl (Nat.le_of_ble_eq_true rfl) (fun j w q => eArL_mem j w q) (E.less2 H (eS_s (eS_s eS_0)))
