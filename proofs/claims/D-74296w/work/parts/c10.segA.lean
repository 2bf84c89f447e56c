/-! segments: X2_then, X2_init, X0_isIn, X0_isOf, J2_get, J2_size -/
/-! X2_then TroupeSums$Row.then(LTroupeSums$Row;)LTroupeSums$Row; -/
def h_X2_then_0 (c : cC) (a0 : Nat) (a1 : Nat) (h : eH) (k n : Nat) : Prop := E c.1 c.2.1 c.2.2.1 c.2.2.2.1 mX2_then c.2.2.2.2 0 [some (.ref a0), some (.ref a1), none, none] [] h k n
def h_X2_then_10 (c : cC) (a0 : Nat) (a1 : Nat) (a2 : Nat) (a3 : Int32) (h : eH) (k n : Nat) : Prop := E c.1 c.2.1 c.2.2.1 c.2.2.2.1 mX2_then c.2.2.2.2 10 [some (.ref a0), some (.ref a1), some (.ref a2), some (.int a3)] [] h k n
set_option maxHeartbeats 4000000 in
theorem s_X2_then_0 (c : cC) (a0 : Nat) (a1 : Nat) (h : eH) (k n : Nat) (H : ∃ x1 : Nat, fV h a0 2 0 (.ref x1) ∧ (∃ v3 : vp_A, h.1 x1 = some (.inl (c.2.2.1.2.1 0, v3)) ∧ (∃ N7 : Nat, (nI v3.1) = nI N7 ∧ N7 ≤ 10000000 ∧ 1 ≤ k ∧ N7 ≤ n ∧ ∀ h5 : eH, h5 = eNw h (.inl (c.2.2.1.2.1 0, N7, .inl (fun _ => 0))) → (h_X2_then_10 c a0 a1 h.2 (0 : Int32) h5 (k - 1) (n - N7))))) : h_X2_then_0 c a0 a1 h k n := by
  refine e_aload_n dX2_then_0 rfl ?_
  obtain ⟨x1, ⟨fsx1, g2, g2v⟩, H⟩ := H
  refine e_get dX2_then_1 fX2_0 q297 g2 g2v ?_
  obtain ⟨v3, g4, H⟩ := H
  refine e_alen (t := 0) dX2_then_4 (fun _ => rfl) g4 ?_
  obtain ⟨N7, g6i, g6b, g6, g6n, H⟩ := H
  refine c_newarrayI dX2_then_5 q303 g6i g6b g6 g6n ?_
  replace H := H _ rfl
  generalize eNw h _ = h5 at H ⊢
  refine e_astore_n _ dX2_then_7 (by decide) rfl rfl ?_
  refine e_iconst (0) dX2_then_8 (by decide) ?_
  refine e_istore_n _ dX2_then_9 (by decide) rfl rfl ?_
  exact E.less2 H (eS_s (eS_s (eS_s (eS_s eS_0))))
set_option maxHeartbeats 4000000 in
theorem s_X2_then_10 (c : cC) (a0 : Nat) (a1 : Nat) (a2 : Nat) (a3 : Int32) (h : eH) (k n : Nat) (H : ∃ v1 : vp_A, h.1 a2 = some (.inl (c.2.2.1.2.1 0, v1)) ∧ (((nI v1.1) ≤ a3 → 1 ≤ k ∧ 1 ≤ n ∧ ∀ h4 : eH, h4 = eNw h (.inr (2, [.null])) → (∃ (d9 k10 n11 : Nat) (Q12 : eH → Prop), cV c.1 c.2.1 c.2.2.1 d9 mX2_init [.ref h.2, .ref a2] h4 k10 n11 Q12 cX0 ∧ d9 + 1 ≤ c.2.2.2.1 ∧ k10 ≤ k - 1 ∧ n11 ≤ n - 1 ∧ (∀ h7 : eH, Q12 h7 → (c.2.2.2.2 (.inl (some (.ref h.2))) h7)))) ∧ (¬ (nI v1.1) ≤ a3 → ∃ x13 : Nat, fV h a1 2 0 (.ref x13) ∧ (∃ x15 : Nat, fV h a0 2 0 (.ref x15) ∧ (∃ (N17 : Nat) (f18 : Nat → Int32), h.1 x15 = some (.inl (c.2.2.1.2.1 0, N17, .inl f18)) ∧ vp_in a3 N17 ∧ (∃ (N20 : Nat) (f21 : Nat → Int32), h.1 x13 = some (.inl (c.2.2.1.2.1 0, N20, .inl f21)) ∧ vp_in (f18 a3.toNatClampNeg) N20 ∧ (∃ (N23 : Nat) (f24 : Nat → Int32), h.1 a2 = some (.inl (c.2.2.1.2.1 0, N23, .inl f24)) ∧ c.2.1 ≤ a2 ∧ vp_in a3 N23 ∧ ∀ h26 : eH, h26 = eUp h a2 (.inl (c.2.2.1.2.1 0, N23, .inl (va_up f24 a3.toNatClampNeg (f21 (f18 a3.toNatClampNeg).toNatClampNeg)))) → (h_X2_then_10 c a0 a1 a2 (a3 + 1) h26 k n)))))))) : h_X2_then_10 c a0 a1 a2 a3 h k n := by
  refine e_iload_n dX2_then_10 rfl ?_
  refine e_aload_n dX2_then_11 rfl ?_
  obtain ⟨v1, g2, H⟩ := H
  refine e_alen (t := 0) dX2_then_12 (fun _ => rfl) g2 ?_
  refine e_icmp_ge 36 dX2_then_13 (by decide) (fun g3 => ?_) (fun g3 => ?_)
  · replace H := H.1 g3
    obtain ⟨g5, g5n, H⟩ := H
    refine e_new (ci := 2) (N := 1) (C := RX2) (T := TX2) tyX2 (fs := [.null]) dX2_then_36 rfl in_X2 tyX2_ok q351 q292 q141 (by decide) (k1 := k - 1) (n1 := n - 1) (by omega) (by omega) ?_
    replace H := H _ rfl
    generalize eNw h _ = h4 at H ⊢
    refine e_dup dX2_then_39 rfl ?_
    refine e_aload_n dX2_then_40 rfl ?_
    obtain ⟨d9, k10, n11, Q12, g8, g8d, g8k, g8n, H⟩ := H
    refine e_callI (As := [.ref a2]) g8 dX2_then_41 wX2_init rfl rfl rfl q906 q294 rfl g8d rfl (Nat.le_of_ble_eq_true rfl) (k1 := k - 1 - k10) (n1 := n - 1 - n11) (by omega) (by omega) ?_ ?_
    · rintro v h7 (⟨v9, e9, e8, hq⟩ | ⟨ci9, q9, e9, -⟩)
      · cases e9
        subst e8
        replace H := H h7 hq
        exact e_areturn (r := some h.2) _ dX2_then_44 rfl (Or.inl ⟨_, rfl⟩) H
      · cases e9
    · rintro q9 h9 (⟨v9, e9, -⟩ | ⟨ci9, q8, e9, -, -, hx⟩)
      · cases e9
      · exact hx.elim
  · replace H := H.2 g3
    refine e_aload_n dX2_then_16 rfl ?_
    refine e_iload_n dX2_then_17 rfl ?_
    refine e_aload_n dX2_then_18 rfl ?_
    obtain ⟨x13, ⟨fsx13, g14, g14v⟩, H⟩ := H
    refine e_get dX2_then_19 fX2_0 q297 g14 g14v ?_
    refine e_aload_n dX2_then_22 rfl ?_
    obtain ⟨x15, ⟨fsx15, g16, g16v⟩, H⟩ := H
    refine e_get dX2_then_23 fX2_0 q297 g16 g16v ?_
    refine e_iload_n dX2_then_26 rfl ?_
    obtain ⟨N17, f18, g19, g19i, H⟩ := H
    refine e_iaload dX2_then_27 g19 g19i ?_
    obtain ⟨N20, f21, g22, g22i, H⟩ := H
    refine e_iaload dX2_then_28 g22 g22i ?_
    obtain ⟨N23, f24, g25, g25l, g25i, H⟩ := H
    refine e_iastore dX2_then_29 g25 g25l g25i ?_
    replace H := H _ rfl
    generalize eUp h a2 _ = h26 at H ⊢
    refine e_iinc (a3 + 1) _ dX2_then_30 rfl rfl (by decide) rfl rfl ?_
    refine e_goto 10 dX2_then_33 (by decide) ?_
    exact E.less2 H (eS_s (eS_s (eS_s (eS_s eS_0))))
theorem en_X2_then {l : Launch} {lo : Nat} {G : eG} {d : Nat} {P : eO → eH → Prop} (a0 : Nat) (a1 : Nat) {h : eH} {k n : Nat} (H : h_X2_then_0 (l, lo, G, d, P) a0 a1 h k n) : Ct l lo G d mX2_then [.ref a0, .ref a1] h k n P :=
  Ct_of (eArL mX2_then.2.2.2.1 [.ref a0, .ref a1]) (by decide) rfl (Nat.le_of_ble_eq_true rfl) (fun j w q => eArL_mem j w q) (E.less2 H (eS_s (eS_s (eS_n (eS_n eS_0)))))
/-! X2_init TroupeSums$Row.<init>([I)V -/
def h_X2_init_0 (c : cC) (a0 : Nat) (a1 : Nat) (h : eH) (k n : Nat) : Prop := E c.1 c.2.1 c.2.2.1 c.2.2.2.1 mX2_init c.2.2.2.2 0 [some (.ref a0), some (.ref a1)] [] h k n
set_option maxHeartbeats 4000000 in
theorem s_X2_init_0 (c : cC) (a0 : Nat) (a1 : Nat) (h : eH) (k n : Nat) (H : 1 ≤ c.2.2.2.1 ∧ (∃ fs2 : List Value, h.1 a0 = some (.inr (2, fs2)) ∧ c.2.1 ≤ a0 ∧ 0 < fs2.length ∧ ∀ h4 : eH, h4 = eUp h a0 (.inr (2, fs2.set 0 (.ref a1))) → (c.2.2.2.2 (.inl none) h4))) : h_X2_init_0 c a0 a1 h k n := by
  refine e_aload_n dX2_init_0 rfl ?_
  obtain ⟨g1, H⟩ := H
  refine e_objInit dX2_init_1 q296 q192 q193 g1 (Nat.le_of_ble_eq_true rfl) ?_
  refine e_aload_n dX2_init_4 rfl ?_
  refine e_aload_n dX2_init_5 rfl ?_
  obtain ⟨fs2, g3, g3l, g3j, H⟩ := H
  refine e_putF dX2_init_6 fX2_0 q297 rfl rfl (eFit_ar _ _) g3 g3l g3j ?_
  replace H := H _ rfl
  generalize eUp h a0 _ = h4 at H ⊢
  exact e_return dX2_init_9 rfl H
theorem en_X2_init {l : Launch} {lo : Nat} {G : eG} {d : Nat} {P : eO → eH → Prop} (a0 : Nat) (a1 : Nat) {h : eH} {k n : Nat} (H : h_X2_init_0 (l, lo, G, d, P) a0 a1 h k n) : Ct l lo G d mX2_init [.ref a0, .ref a1] h k n P :=
  Ct_of (eArL mX2_init.2.2.2.1 [.ref a0, .ref a1]) (by decide) rfl (Nat.le_of_ble_eq_true rfl) (fun j w q => eArL_mem j w q) (E.less2 H (eS_s (eS_s eS_0)))
/-! X0_isIn TroupeSums.isIn(JJJ)Z -/
def h_X0_isIn_0 (c : cC) (a0 : Int64) (a2 : Int64) (a4 : Int64) (h : eH) (k n : Nat) : Prop := E c.1 c.2.1 c.2.2.1 c.2.2.2.1 mX0_isIn c.2.2.2.2 0 [some (.long a0), none, some (.long a2), none, some (.long a4), none] [] h k n
set_option maxHeartbeats 4000000 in
theorem s_X0_isIn_0 (c : cC) (a0 : Int64) (a2 : Int64) (a4 : Int64) (h : eH) (k n : Nat) (H : ((lg_cmp a0 a2) < 0 → c.2.2.2.2 (.inl (some (.int (0 : Int32)))) h) ∧ (¬ (lg_cmp a0 a2) < 0 → (0 < (lg_cmp a0 a4) → c.2.2.2.2 (.inl (some (.int (0 : Int32)))) h) ∧ (¬ 0 < (lg_cmp a0 a4) → c.2.2.2.2 (.inl (some (.int (1 : Int32)))) h))) : h_X0_isIn_0 c a0 a2 a4 h k n := by
  refine e_lload_n dX0_isIn_0 rfl ?_
  refine e_lload_n dX0_isIn_1 rfl ?_
  refine e_lcmp dX0_isIn_2 ?_
  refine e_if_lt 17 dX0_isIn_3 (by decide) (fun g1 => ?_) (fun g1 => ?_)
  · replace H := H.1 g1
    refine e_iconst (0) dX0_isIn_17 (by decide) ?_
    exact e_ireturn .boolean dX0_isIn_18 rfl (by decide) H
  · replace H := H.2 g1
    refine e_lload_n dX0_isIn_6 rfl ?_
    refine e_lload dX0_isIn_7 rfl ?_
    refine e_lcmp dX0_isIn_9 ?_
    refine e_if_gt 17 dX0_isIn_10 (by decide) (fun g2 => ?_) (fun g2 => ?_)
    · replace H := H.1 g2
      refine e_iconst (0) dX0_isIn_17 (by decide) ?_
      exact e_ireturn .boolean dX0_isIn_18 rfl (by decide) H
    · replace H := H.2 g2
      refine e_iconst (1) dX0_isIn_13 (by decide) ?_
      refine e_goto 18 dX0_isIn_14 (by decide) ?_
      exact e_ireturn .boolean dX0_isIn_18 rfl (by decide) H
theorem en_X0_isIn {l : Launch} {lo : Nat} {G : eG} {d : Nat} {P : eO → eH → Prop} (a0 : Int64) (a2 : Int64) (a4 : Int64) {h : eH} {k n : Nat} (H : h_X0_isIn_0 (l, lo, G, d, P) a0 a2 a4 h k n) : Ct l lo G d mX0_isIn [.long a0, .long a2, .long a4] h k n P :=
  Ct_of (eArL mX0_isIn.2.2.2.1 [.long a0, .long a2, .long a4]) (by decide) rfl (Nat.le_of_ble_eq_true rfl) (fun j w q => eArL_mem j w q) (E.less2 H (eS_s (eS_n (eS_s (eS_n (eS_s (eS_n eS_0)))))))
/-! X0_isOf TroupeSums.isOf(JI)Z -/
def h_X0_isOf_0 (c : cC) (a0 : Int64) (a2 : Int32) (h : eH) (k n : Nat) : Prop := E c.1 c.2.1 c.2.2.1 c.2.2.2.1 mX0_isOf c.2.2.2.2 0 [some (.long a0), none, some (.int a2)] [] h k n
set_option maxHeartbeats 4000000 in
theorem s_X0_isOf_0 (c : cC) (a0 : Int64) (a2 : Int32) (h : eH) (k n : Nat) (H : (¬ (lg_cmp ((a0 >>> (a2.toInt64 &&& 63)) &&& (1 : Int64)) (1 : Int64)) = 0 → c.2.2.2.2 (.inl (some (.int (0 : Int32)))) h) ∧ ((lg_cmp ((a0 >>> (a2.toInt64 &&& 63)) &&& (1 : Int64)) (1 : Int64)) = 0 → c.2.2.2.2 (.inl (some (.int (1 : Int32)))) h)) : h_X0_isOf_0 c a0 a2 h k n := by
  refine e_lload_n dX0_isOf_0 rfl ?_
  refine e_iload_n dX0_isOf_1 rfl ?_
  refine e_lshr dX0_isOf_2 ?_
  refine e_lconst 1 dX0_isOf_3 (by decide) ?_
  refine e_land dX0_isOf_4 ?_
  refine e_lconst 1 dX0_isOf_5 (by decide) ?_
  refine e_lcmp dX0_isOf_6 ?_
  refine e_if_ne 14 dX0_isOf_7 (by decide) (fun g1 => ?_) (fun g1 => ?_)
  · replace H := H.1 g1
    refine e_iconst (0) dX0_isOf_14 (by decide) ?_
    exact e_ireturn .boolean dX0_isOf_15 rfl (by decide) H
  · replace H := H.2 g1
    refine e_iconst (1) dX0_isOf_10 (by decide) ?_
    refine e_goto 15 dX0_isOf_11 (by decide) ?_
    exact e_ireturn .boolean dX0_isOf_15 rfl (by decide) H
theorem en_X0_isOf {l : Launch} {lo : Nat} {G : eG} {d : Nat} {P : eO → eH → Prop} (a0 : Int64) (a2 : Int32) {h : eH} {k n : Nat} (H : h_X0_isOf_0 (l, lo, G, d, P) a0 a2 h k n) : Ct l lo G d mX0_isOf [.long a0, .int a2] h k n P :=
  Ct_of (eArL mX0_isOf.2.2.2.1 [.long a0, .int a2]) (by decide) rfl (Nat.le_of_ble_eq_true rfl) (fun j w q => eArL_mem j w q) (E.less2 H (eS_s (eS_n (eS_s eS_0))))
/-! J2_get java/util/ArrayList.get(I)Ljava/lang/Object; -/
def h_J2_get_0 (c : cC) (a0 : Nat) (a1 : Int32) (h : eH) (k n : Nat) : Prop := E c.1 c.2.1 c.2.2.1 c.2.2.2.1 mJ2_get c.2.2.2.2 0 [some (.ref a0), some (.int a1)] [] h k n
set_option maxHeartbeats 4000000 in
theorem s_J2_get_0 (c : cC) (a0 : Nat) (a1 : Int32) (h : eH) (k n : Nat) (H : ∃ x1 : Int32, fV h a0 15 2 (.int x1) ∧ (∃ (d6 k7 n8 : Nat) (Q9 : Int32 → eH → Prop), cI c.1 c.2.1 c.2.2.1 d6 mJ16_checkIndex [.int a1, .int x1] h k7 n8 Q9 cX0 ∧ d6 + 1 ≤ c.2.2.2.1 ∧ k7 ≤ k ∧ n8 ≤ n ∧ (∀ (r3 : Int32) (h4 : eH), Q9 r3 h4 → (∃ fs8 : List Value, h4.1 a0 = some (.inr (15, fs8)) ∧ ∃ (d13 k14 n15 : Nat) (Q16 : Nat → eH → Prop), cR c.1 c.2.1 c.2.2.1 d13 mJ2_elementData [.ref a0, .int a1] h4 k14 n15 Q16 cX0 ∧ d13 + 1 ≤ c.2.2.2.1 ∧ k14 ≤ k - k7 ∧ n15 ≤ n - n8 ∧ (∀ (r10 : Nat) (h11 : eH), Q16 r10 h11 → (c.2.2.2.2 (.inl (some (.ref r10))) h11)))))) : h_J2_get_0 c a0 a1 h k n := by
  refine e_iload_n dJ2_get_0 rfl ?_
  refine e_aload_n dJ2_get_1 rfl ?_
  obtain ⟨x1, ⟨fsx1, g2, g2v⟩, H⟩ := H
  refine e_get dJ2_get_2 fJ2_2 q220 g2 g2v ?_
  obtain ⟨d6, k7, n8, Q9, g5, g5d, g5k, g5n, H⟩ := H
  refine e_callS (As := [.int a1, .int x1]) g5 dJ2_get_5 wJ16_checkIndex q890 q891 rfl g5d rfl (Nat.le_of_ble_eq_true rfl) (k1 := k - k7) (n1 := n - n8) (by omega) (by omega) ?_ ?_
  · rintro v h4 (⟨v9, e9, r9, e8, hq⟩ | ⟨ci9, q9, e9, -⟩)
    · cases e9
      subst e8
      replace H := H r9 h4 hq
      refine e_pop dJ2_get_8 rfl ?_
      refine e_aload_n dJ2_get_9 rfl ?_
      refine e_iload_n dJ2_get_10 rfl ?_
      obtain ⟨fsg12, g12o, H⟩ := H
      obtain ⟨d13, k14, n15, Q16, g12, g12d, g12k, g12n, H⟩ := H
      refine e_callV (r := (RJ2, TJ2, 3)) (As := [.int a1]) g12 dJ2_get_11 wJ2_elementData q896 q897 q898 g12o rfl rfl g12d rfl (Nat.le_of_ble_eq_true rfl) (k1 := k - k7 - k14) (n1 := n - n8 - n15) (by omega) (by omega) ?_ ?_
      · rintro v h11 (⟨v9, e9, r9, e8, hq⟩ | ⟨ci9, q9, e9, -⟩)
        · cases e9
          subst e8
          replace H := H r9 h11 hq
          exact e_areturn (r := some r9) _ dJ2_get_14 rfl (Or.inl ⟨_, rfl⟩) H
        · cases e9
      · rintro q9 h9 (⟨v9, e9, -⟩ | ⟨ci9, q8, e9, -, -, hx⟩)
        · cases e9
        · exact hx.elim
    · cases e9
  · rintro q9 h9 (⟨v9, e9, -⟩ | ⟨ci9, q8, e9, -, -, hx⟩)
    · cases e9
    · exact hx.elim
theorem en_J2_get {l : Launch} {lo : Nat} {G : eG} {d : Nat} {P : eO → eH → Prop} (a0 : Nat) (a1 : Int32) {h : eH} {k n : Nat} (H : h_J2_get_0 (l, lo, G, d, P) a0 a1 h k n) : Ct l lo G d mJ2_get [.ref a0, .int a1] h k n P :=
  Ct_of (eArL mJ2_get.2.2.2.1 [.ref a0, .int a1]) (by decide) rfl (Nat.le_of_ble_eq_true rfl) (fun j w q => eArL_mem j w q) (E.less2 H (eS_s (eS_s eS_0)))
/-! J2_size java/util/ArrayList.size()I -/
def h_J2_size_0 (c : cC) (a0 : Nat) (h : eH) (k n : Nat) : Prop := E c.1 c.2.1 c.2.2.1 c.2.2.2.1 mJ2_size c.2.2.2.2 0 [some (.ref a0)] [] h k n
set_option maxHeartbeats 4000000 in
theorem s_J2_size_0 (c : cC) (a0 : Nat) (h : eH) (k n : Nat) (H : ∃ x1 : Int32, fV h a0 15 2 (.int x1) ∧ (c.2.2.2.2 (.inl (some (.int x1))) h)) : h_J2_size_0 c a0 h k n := by
  refine e_aload_n dJ2_size_0 rfl ?_
  obtain ⟨x1, ⟨fsx1, g2, g2v⟩, H⟩ := H
  refine e_get dJ2_size_1 fJ2_2 q220 g2 g2v ?_
  exact e_ireturn .int dJ2_size_4 rfl rfl H
theorem en_J2_size {l : Launch} {lo : Nat} {G : eG} {d : Nat} {P : eO → eH → Prop} (a0 : Nat) {h : eH} {k n : Nat} (H : h_J2_size_0 (l, lo, G, d, P) a0 h k n) : Ct l lo G d mJ2_size [.ref a0] h k n P :=
  Ct_of (eArL mJ2_size.2.2.2.1 [.ref a0]) (by decide) rfl (Nat.le_of_ble_eq_true rfl) (fun j w q => eArL_mem j w q) (E.less2 H (eS_s eS_0))
