/-! segments: J0_init, J0_isEmpty@J23, J1_init, J2_init, J2_add, J2_add_2, J2_grow, J2_grow_2, J2_size, J2_get, J2_elementData, J2_contains, J2_indexOf, J2_indexOfRange@J6, J2_indexOfRange@J7, J2_iterator, J24_init, J24_hasNext, J24_next, J24_checkForComodification, J21_copyOf, J6_valueOf, J6_init, J6_compare, J6_intValue, J6_equals, J6_bitCount, J5_init, J10_newLength, J14_checkIndex, J16_checkIndex, J16_requireNonNull -/
/-! J0_init java/util/AbstractCollection.<init>()V -/
def h_J0_init_0 (c : cC) (a0 : Nat) (h : eH) (k n : Nat) : Prop := E c.1 c.2.1 c.2.2.1 c.2.2.2.1 mJ0_init c.2.2.2.2 0 [some (.ref a0)] [] h k n
set_option maxHeartbeats 4000000 in
theorem s_J0_init_0 (c : cC) (a0 : Nat) (h : eH) (k n : Nat) (H : 1 ≤ c.2.2.2.1 ∧ (c.2.2.2.2 (.inl none) h)) : h_J0_init_0 c a0 h k n := by
  refine e_aload_n dJ0_init_0 rfl ?_
  obtain ⟨g1, H⟩ := H
  refine e_objInit dJ0_init_1 q214 q192 q193 g1 (Nat.le_of_ble_eq_true rfl) ?_
  exact e_return dJ0_init_4 rfl H
theorem en_J0_init {l : Launch} {lo : Nat} {G : eG} {d : Nat} {P : eO → eH → Prop} (a0 : Nat) {h : eH} {k n : Nat} (H : h_J0_init_0 (l, lo, G, d, P) a0 h k n) : Ct l lo G d mJ0_init [.ref a0] h k n P := 
  Ct_of (eArL mJ0_init.2.2.2.1 [.ref a0]) (by decide) rfl (Nat.le_of_ble_eq_true rfl) (fun j w q => eArL_mem j w q) (E.less2 H (eS_s eS_0))
/-! J0_isEmpty@J23 java/util/AbstractCollection.isEmpty()Z -/
def h_J0_isEmpty_J23_0 (c : cC) (a0 : Nat) (h : eH) (k n : Nat) : Prop := E c.1 c.2.1 c.2.2.1 c.2.2.2.1 mJ0_isEmpty c.2.2.2.2 0 [some (.ref a0)] [] h k n
set_option maxHeartbeats 4000000 in
theorem s_J0_isEmpty_J23_0 (c : cC) (a0 : Nat) (h : eH) (k n : Nat) (H : ∃ fs8 : List Value, h.1 a0 = some (.inr (22, fs8)) ∧ ∃ (d4 k5 n6 : Nat) (Q7 : Int32 → eH → Prop), cI c.1 c.2.1 c.2.2.1 d4 mJ23_size [.ref a0] h k5 n6 Q7 cX0 ∧ d4 + 1 ≤ c.2.2.2.1 ∧ k5 ≤ k ∧ n6 ≤ n ∧ (∀ (r1 : Int32) (h2 : eH), Q7 r1 h2 → ((¬ r1 = 0 → c.2.2.2.2 (.inl (some (.int (0 : Int32)))) h2) ∧ (r1 = 0 → c.2.2.2.2 (.inl (some (.int (1 : Int32)))) h2)))) : h_J0_isEmpty_J23_0 c a0 h k n := by
  refine e_aload_n dJ0_isEmpty_0 rfl ?_
  obtain ⟨fsg3, g3o, H⟩ := H
  obtain ⟨d4, k5, n6, Q7, g3, g3d, g3k, g3n, H⟩ := H
  refine e_callO (owner := "java/util/AbstractCollection") (r := (RJ23, TJ23, 4)) (As := []) g3 dJ0_isEmpty_1 wJ23_size rfl q1132 q1134 (by decide) (Or.inl q1133) q1143 q1142 g3o rfl rfl g3d rfl (Nat.le_of_ble_eq_true rfl) (k1 := k - k5) (n1 := n - n6) (by omega) (by omega) ?_ ?_
  · rintro v h2 (⟨v9, e9, r1, e8, hq⟩ | ⟨ci9, q9, e9, -⟩)
    · cases e9
      subst e8
      replace H := H r1 h2 hq
      refine e_if_ne 11 dJ0_isEmpty_4 (by decide) (fun g8 => ?_) (fun g8 => ?_)
      · replace H := H.1 g8
        refine e_iconst (0) dJ0_isEmpty_11 (by decide) ?_
        exact e_ireturn .boolean dJ0_isEmpty_12 rfl (by decide) H
      · replace H := H.2 g8
        refine e_iconst (1) dJ0_isEmpty_7 (by decide) ?_
        refine e_goto 12 dJ0_isEmpty_8 (by decide) ?_
        exact e_ireturn .boolean dJ0_isEmpty_12 rfl (by decide) H
    · cases e9
  · rintro q9 h9 (⟨v9, e9, -⟩ | ⟨ci9, q8, e9, -, -, hx⟩)
    · cases e9
    · exact hx.elim
theorem en_J0_isEmpty_J23 {l : Launch} {lo : Nat} {G : eG} {d : Nat} {P : eO → eH → Prop} (a0 : Nat) {h : eH} {k n : Nat} (H : h_J0_isEmpty_J23_0 (l, lo, G, d, P) a0 h k n) : Ct l lo G d mJ0_isEmpty [.ref a0] h k n P := 
  Ct_of (eArL mJ0_isEmpty.2.2.2.1 [.ref a0]) (by decide) rfl (Nat.le_of_ble_eq_true rfl) (fun j w q => eArL_mem j w q) (E.less2 H (eS_s eS_0))
/-! J1_init java/util/AbstractList.<init>()V -/
def h_J1_init_0 (c : cC) (a0 : Nat) (h : eH) (k n : Nat) : Prop := E c.1 c.2.1 c.2.2.1 c.2.2.2.1 mJ1_init c.2.2.2.2 0 [some (.ref a0)] [] h k n
set_option maxHeartbeats 4000000 in
theorem s_J1_init_0 (c : cC) (a0 : Nat) (h : eH) (k n : Nat) (H : ∃ (d4 k5 n6 : Nat) (Q7 : eH → Prop), cV c.1 c.2.1 c.2.2.1 d4 mJ0_init [.ref a0] h k5 n6 Q7 cX0 ∧ d4 + 1 ≤ c.2.2.2.1 ∧ k5 ≤ k ∧ n6 ≤ n ∧ (∀ h2 : eH, Q7 h2 → (∃ fs8 : List Value, h2.1 a0 = some (.inr (15, fs8)) ∧ c.2.1 ≤ a0 ∧ 0 < fs8.length ∧ ∀ h10 : eH, h10 = eUp h2 a0 (.inr (15, fs8.set 0 (.int (0 : Int32)))) → (c.2.2.2.2 (.inl none) h10)))) : h_J1_init_0 c a0 h k n := by
  refine e_aload_n dJ1_init_0 rfl ?_
  obtain ⟨d4, k5, n6, Q7, g3, g3d, g3k, g3n, H⟩ := H
  refine e_callI (As := []) g3 dJ1_init_1 wJ0_init rfl rfl rfl q211 q212 rfl g3d rfl (Nat.le_of_ble_eq_true rfl) (k1 := k - k5) (n1 := n - n6) (by omega) (by omega) ?_ ?_
  · rintro v h2 (⟨v9, e9, e8, hq⟩ | ⟨ci9, q9, e9, -⟩)
    · cases e9
      subst e8
      replace H := H h2 hq
      refine e_aload_n dJ1_init_4 rfl ?_
      refine e_iconst (0) dJ1_init_5 (by decide) ?_
      obtain ⟨fs8, g9, g9l, g9j, H⟩ := H
      refine e_put dJ1_init_6 fJ2_0 q221 (eFit_i _) g9 g9l g9j ?_
      replace H := H _ rfl
      generalize eUp h2 a0 _ = h10 at H ⊢
      exact e_return dJ1_init_9 rfl H
    · cases e9
  · rintro q9 h9 (⟨v9, e9, -⟩ | ⟨ci9, q8, e9, -, -, hx⟩)
    · cases e9
    · exact hx.elim
theorem en_J1_init {l : Launch} {lo : Nat} {G : eG} {d : Nat} {P : eO → eH → Prop} (a0 : Nat) {h : eH} {k n : Nat} (H : h_J1_init_0 (l, lo, G, d, P) a0 h k n) : Ct l lo G d mJ1_init [.ref a0] h k n P := 
  Ct_of (eArL mJ1_init.2.2.2.1 [.ref a0]) (by decide) rfl (Nat.le_of_ble_eq_true rfl) (fun j w q => eArL_mem j w q) (E.less2 H (eS_s eS_0))
/-! J2_init java/util/ArrayList.<init>()V -/
def h_J2_init_0 (c : cC) (a0 : Nat) (h : eH) (k n : Nat) : Prop := E c.1 c.2.1 c.2.2.1 c.2.2.2.1 mJ2_init c.2.2.2.2 0 [some (.ref a0)] [] h k n
set_option maxHeartbeats 4000000 in
theorem s_J2_init_0 (c : cC) (a0 : Nat) (h : eH) (k n : Nat) (H : ∃ (d4 k5 n6 : Nat) (Q7 : eH → Prop), cV c.1 c.2.1 c.2.2.1 d4 mJ1_init [.ref a0] h k5 n6 Q7 cX0 ∧ d4 + 1 ≤ c.2.2.2.1 ∧ k5 ≤ k ∧ n6 ≤ n ∧ (∀ h2 : eH, Q7 h2 → (∃ fs8 : List Value, h2.1 a0 = some (.inr (15, fs8)) ∧ c.2.1 ≤ a0 ∧ 1 < fs8.length ∧ ∀ h10 : eH, h10 = eUp h2 a0 (.inr (15, fs8.set 1 (.ref (c.2.2.1.2.2.2 1)))) → (c.2.2.2.2 (.inl none) h10)))) : h_J2_init_0 c a0 h k n := by
  refine e_aload_n dJ2_init_0 rfl ?_
  obtain ⟨d4, k5, n6, Q7, g3, g3d, g3k, g3n, H⟩ := H
  refine e_callI (As := []) g3 dJ2_init_1 wJ1_init rfl rfl rfl q208 q209 rfl g3d rfl (Nat.le_of_ble_eq_true rfl) (k1 := k - k5) (n1 := n - n6) (by omega) (by omega) ?_ ?_
  · rintro v h2 (⟨v9, e9, e8, hq⟩ | ⟨ci9, q9, e9, -⟩)
    · cases e9
      subst e8
      replace H := H h2 hq
      refine e_aload_n dJ2_init_4 rfl ?_
      refine e_gets (i := 3) dJ2_init_5 rfl q215 ?_
      obtain ⟨fs8, g9, g9l, g9j, H⟩ := H
      refine e_put dJ2_init_8 fJ2_1 q217 (eFit_ar _ _) g9 g9l g9j ?_
      replace H := H _ rfl
      generalize eUp h2 a0 _ = h10 at H ⊢
      exact e_return dJ2_init_11 rfl H
    · cases e9
  · rintro q9 h9 (⟨v9, e9, -⟩ | ⟨ci9, q8, e9, -, -, hx⟩)
    · cases e9
    · exact hx.elim
theorem en_J2_init {l : Launch} {lo : Nat} {G : eG} {d : Nat} {P : eO → eH → Prop} (a0 : Nat) {h : eH} {k n : Nat} (H : h_J2_init_0 (l, lo, G, d, P) a0 h k n) : Ct l lo G d mJ2_init [.ref a0] h k n P := 
  Ct_of (eArL mJ2_init.2.2.2.1 [.ref a0]) (by decide) rfl (Nat.le_of_ble_eq_true rfl) (fun j w q => eArL_mem j w q) (E.less2 H (eS_s eS_0))
/-! J2_add java/util/ArrayList.add(Ljava/lang/Object;)Z -/
def h_J2_add_0 (c : cC) (a0 : Nat) (a1 : Nat) (h : eH) (k n : Nat) : Prop := E c.1 c.2.1 c.2.2.1 c.2.2.2.1 mJ2_add c.2.2.2.2 0 [some (.ref a0), some (.ref a1)] [] h k n
set_option maxHeartbeats 4000000 in
theorem s_J2_add_0 (c : cC) (a0 : Nat) (a1 : Nat) (h : eH) (k n : Nat) (H : ∃ x1 : Int32, fV h a0 15 0 (.int x1) ∧ (∃ fs3 : List Value, h.1 a0 = some (.inr (15, fs3)) ∧ c.2.1 ≤ a0 ∧ 0 < fs3.length ∧ ∀ h5 : eH, h5 = eUp h a0 (.inr (15, fs3.set 0 (.int (x1 + (1 : Int32))))) → (∃ x6 : Nat, fV h5 a0 15 1 (.ref x6) ∧ (∃ x8 : Int32, fV h5 a0 15 2 (.int x8) ∧ (∃ fs8 : List Value, h5.1 a0 = some (.inr (15, fs8)) ∧ ∃ (d13 k14 n15 : Nat) (Q16 : eH → Prop), cV c.1 c.2.1 c.2.2.1 d13 mJ2_add_2 [.ref a0, .ref a1, .ref x6, .int x8] h5 k14 n15 Q16 cX0 ∧ d13 + 1 ≤ c.2.2.2.1 ∧ k14 ≤ k ∧ n15 ≤ n ∧ (∀ h11 : eH, Q16 h11 → (c.2.2.2.2 (.inl (some (.int (1 : Int32)))) h11))))))) : h_J2_add_0 c a0 a1 h k n := by
  refine e_aload_n dJ2_add_0 rfl ?_
  refine e_dup dJ2_add_1 rfl ?_
  obtain ⟨x1, ⟨fsx1, g2, g2v⟩, H⟩ := H
  refine e_getS dJ2_add_2 fJ2_0 q224 q223 g2 g2v ?_
  refine e_iconst (1) dJ2_add_5 (by decide) ?_
  refine e_iadd dJ2_add_6 ?_
  obtain ⟨fs3, g4, g4l, g4j, H⟩ := H
  refine e_putS dJ2_add_7 fJ2_0 q224 q223 (eFit_i _) g4 g4l g4j ?_
  replace H := H _ rfl
  generalize eUp h a0 _ = h5 at H ⊢
  refine e_aload_n dJ2_add_10 rfl ?_
  refine e_aload_n dJ2_add_11 rfl ?_
  refine e_aload_n dJ2_add_12 rfl ?_
  obtain ⟨x6, ⟨fsx6, g7, g7v⟩, H⟩ := H
  refine e_get dJ2_add_13 fJ2_1 q217 g7 g7v ?_
  refine e_aload_n dJ2_add_16 rfl ?_
  obtain ⟨x8, ⟨fsx8, g9, g9v⟩, H⟩ := H
  refine e_get dJ2_add_17 fJ2_2 q220 g9 g9v ?_
  obtain ⟨fsg12, g12o, H⟩ := H
  obtain ⟨d13, k14, n15, Q16, g12, g12d, g12k, g12n, H⟩ := H
  refine e_callV (r := (RJ2, TJ2, 3)) (As := [.ref a1, .ref x6, .int x8]) g12 dJ2_add_20 wJ2_add_2 q800 q802 qs6 g12o rfl rfl g12d rfl (Nat.le_of_ble_eq_true rfl) (k1 := k - k14) (n1 := n - n15) (by omega) (by omega) ?_ ?_
  · rintro v h11 (⟨v9, e9, e8, hq⟩ | ⟨ci9, q9, e9, -⟩)
    · cases e9
      subst e8
      replace H := H h11 hq
      refine e_iconst (1) dJ2_add_23 (by decide) ?_
      exact e_ireturn .boolean dJ2_add_24 rfl (by decide) H
    · cases e9
  · rintro q9 h9 (⟨v9, e9, -⟩ | ⟨ci9, q8, e9, -, -, hx⟩)
    · cases e9
    · exact hx.elim
theorem en_J2_add {l : Launch} {lo : Nat} {G : eG} {d : Nat} {P : eO → eH → Prop} (a0 : Nat) (a1 : Nat) {h : eH} {k n : Nat} (H : h_J2_add_0 (l, lo, G, d, P) a0 a1 h k n) : Ct l lo G d mJ2_add [.ref a0, .ref a1] h k n P := 
  Ct_of (eArL mJ2_add.2.2.2.1 [.ref a0, .ref a1]) (by decide) rfl (Nat.le_of_ble_eq_true rfl) (fun j w q => eArL_mem j w q) (E.less2 H (eS_s (eS_s eS_0)))
/-! J2_add_2 java/util/ArrayList.add(Ljava/lang/Object;[Ljava/lang/Object;I)V -/
def h_J2_add_2_0 (c : cC) (a0 : Nat) (a1 : Nat) (a2 : Nat) (a3 : Int32) (h : eH) (k n : Nat) : Prop := E c.1 c.2.1 c.2.2.1 c.2.2.2.1 mJ2_add_2 c.2.2.2.2 0 [some (.ref a0), some (.ref a1), some (.ref a2), some (.int a3)] [] h k n
def h_J2_add_2_11 (c : cC) (a0 : Nat) (a1 : Nat) (a2 : Nat) (a3 : Int32) (h : eH) (k n : Nat) : Prop := E c.1 c.2.1 c.2.2.1 c.2.2.2.1 mJ2_add_2 c.2.2.2.2 11 [some (.ref a0), some (.ref a1), some (.ref a2), some (.int a3)] [] h k n
set_option maxHeartbeats 4000000 in
theorem s_J2_add_2_0 (c : cC) (a0 : Nat) (a1 : Nat) (a2 : Nat) (a3 : Int32) (h : eH) (k n : Nat) (H : ∃ v1 : vp_A, h.1 a2 = some (.inl (c.2.2.1.2.1 3, v1)) ∧ ((¬ a3 = (nI v1.1) → h_J2_add_2_11 c a0 a1 a2 a3 h k n) ∧ (a3 = (nI v1.1) → ∃ fs8 : List Value, h.1 a0 = some (.inr (15, fs8)) ∧ ∃ (d7 k8 n9 : Nat) (Q10 : Nat → eH → Prop), cR c.1 c.2.1 c.2.2.1 d7 mJ2_grow [.ref a0] h k8 n9 Q10 cX0 ∧ d7 + 1 ≤ c.2.2.2.1 ∧ k8 ≤ k ∧ n9 ≤ n ∧ (∀ (r4 : Nat) (h5 : eH), Q10 r4 h5 → (h_J2_add_2_11 c a0 a1 r4 a3 h5 (k - k8) (n - n9)))))) : h_J2_add_2_0 c a0 a1 a2 a3 h k n := by
  refine e_iload_n dJ2_add_2_0 rfl ?_
  refine e_aload_n dJ2_add_2_1 rfl ?_
  obtain ⟨v1, g2, H⟩ := H
  refine e_alen (t := 3) dJ2_add_2_2 (fun _ => rfl) g2 ?_
  refine e_icmp_ne 11 dJ2_add_2_3 (by decide) (fun g3 => ?_) (fun g3 => ?_)
  · replace H := H.1 g3
    exact E.less2 H (eS_s (eS_s (eS_s (eS_s eS_0))))
  · replace H := H.2 g3
    refine e_aload_n dJ2_add_2_6 rfl ?_
    obtain ⟨fsg6, g6o, H⟩ := H
    obtain ⟨d7, k8, n9, Q10, g6, g6d, g6k, g6n, H⟩ := H
    refine e_callV (r := (RJ2, TJ2, 3)) (As := []) g6 dJ2_add_2_7 wJ2_grow q804 q806 qs7 g6o rfl rfl g6d rfl (Nat.le_of_ble_eq_true rfl) (k1 := k - k8) (n1 := n - n9) (by omega) (by omega) ?_ ?_
    · rintro v h5 (⟨v9, e9, r4, e8, hq⟩ | ⟨ci9, q9, e9, -⟩)
      · cases e9
        subst e8
        replace H := H r4 h5 hq
        refine e_astore_n _ dJ2_add_2_10 (by decide) rfl rfl ?_
        exact E.less2 H (eS_s (eS_s (eS_s (eS_s eS_0))))
      · cases e9
    · rintro q9 h9 (⟨v9, e9, -⟩ | ⟨ci9, q8, e9, -, -, hx⟩)
      · cases e9
      · exact hx.elim
set_option maxHeartbeats 4000000 in
theorem s_J2_add_2_11 (c : cC) (a0 : Nat) (a1 : Nat) (a2 : Nat) (a3 : Int32) (h : eH) (k n : Nat) (H : ∃ C9 : String, eIs c.2.2.1 h a1 C9 ∧ Cond.castable C9 "java/lang/Object" ∈ lw_tbl ∧ ∃ (N1 : Nat) (f2 : Nat → Option Nat), h.1 a2 = some (.inl (c.2.2.1.2.1 3, N1, .inr (.inr (.inr (.inr f2))))) ∧ c.2.1 ≤ a2 ∧ vp_in a3 N1 ∧ ∀ h4 : eH, h4 = eUp h a2 (.inl (c.2.2.1.2.1 3, N1, .inr (.inr (.inr (.inr (va_up f2 a3.toNatClampNeg (some a1))))))) → (∃ fs5 : List Value, h4.1 a0 = some (.inr (15, fs5)) ∧ c.2.1 ≤ a0 ∧ 2 < fs5.length ∧ ∀ h7 : eH, h7 = eUp h4 a0 (.inr (15, fs5.set 2 (.int (a3 + (1 : Int32))))) → (c.2.2.2.2 (.inl none) h7))) : h_J2_add_2_11 c a0 a1 a2 a3 h k n := by
  refine e_aload_n dJ2_add_2_11 rfl ?_
  refine e_iload_n dJ2_add_2_12 rfl ?_
  refine e_aload_n dJ2_add_2_13 rfl ?_
  obtain ⟨Cg3, g3v, g3w, H⟩ := H
  obtain ⟨N1, f2, g3, g3l, g3i, H⟩ := H
  refine e_aastore dJ2_add_2_14 g3 g3l g3v g3w g3i ?_
  replace H := H _ rfl
  generalize eUp h a2 _ = h4 at H ⊢
  refine e_aload_n dJ2_add_2_15 rfl ?_
  refine e_iload_n dJ2_add_2_16 rfl ?_
  refine e_iconst (1) dJ2_add_2_17 (by decide) ?_
  refine e_iadd dJ2_add_2_18 ?_
  obtain ⟨fs5, g6, g6l, g6j, H⟩ := H
  refine e_put dJ2_add_2_19 fJ2_2 q220 (eFit_i _) g6 g6l g6j ?_
  replace H := H _ rfl
  generalize eUp h4 a0 _ = h7 at H ⊢
  exact e_return dJ2_add_2_22 rfl H
theorem en_J2_add_2 {l : Launch} {lo : Nat} {G : eG} {d : Nat} {P : eO → eH → Prop} (a0 : Nat) (a1 : Nat) (a2 : Nat) (a3 : Int32) {h : eH} {k n : Nat} (H : h_J2_add_2_0 (l, lo, G, d, P) a0 a1 a2 a3 h k n) : Ct l lo G d mJ2_add_2 [.ref a0, .ref a1, .ref a2, .int a3] h k n P := 
  Ct_of (eArL mJ2_add_2.2.2.2.1 [.ref a0, .ref a1, .ref a2, .int a3]) (by decide) rfl (Nat.le_of_ble_eq_true rfl) (fun j w q => eArL_mem j w q) (E.less2 H (eS_s (eS_s (eS_s (eS_s eS_0)))))
/-! J2_grow java/util/ArrayList.grow()[Ljava/lang/Object; -/
def h_J2_grow_0 (c : cC) (a0 : Nat) (h : eH) (k n : Nat) : Prop := E c.1 c.2.1 c.2.2.1 c.2.2.2.1 mJ2_grow c.2.2.2.2 0 [some (.ref a0)] [] h k n
set_option maxHeartbeats 4000000 in
theorem s_J2_grow_0 (c : cC) (a0 : Nat) (h : eH) (k n : Nat) (H : ∃ x1 : Int32, fV h a0 15 2 (.int x1) ∧ (∃ fs8 : List Value, h.1 a0 = some (.inr (15, fs8)) ∧ ∃ (d6 k7 n8 : Nat) (Q9 : Nat → eH → Prop), cR c.1 c.2.1 c.2.2.1 d6 mJ2_grow_2 [.ref a0, .int (x1 + (1 : Int32))] h k7 n8 Q9 cX0 ∧ d6 + 1 ≤ c.2.2.2.1 ∧ k7 ≤ k ∧ n8 ≤ n ∧ (∀ (r3 : Nat) (h4 : eH), Q9 r3 h4 → (c.2.2.2.2 (.inl (some (.ref r3))) h4)))) : h_J2_grow_0 c a0 h k n := by
  refine e_aload_n dJ2_grow_0 rfl ?_
  refine e_aload_n dJ2_grow_1 rfl ?_
  obtain ⟨x1, ⟨fsx1, g2, g2v⟩, H⟩ := H
  refine e_get dJ2_grow_2 fJ2_2 q220 g2 g2v ?_
  refine e_iconst (1) dJ2_grow_5 (by decide) ?_
  refine e_iadd dJ2_grow_6 ?_
  obtain ⟨fsg5, g5o, H⟩ := H
  obtain ⟨d6, k7, n8, Q9, g5, g5d, g5k, g5n, H⟩ := H
  refine e_callV (r := (RJ2, TJ2, 3)) (As := [.int (x1 + (1 : Int32))]) g5 dJ2_grow_7 wJ2_grow_2 q808 q810 qs8 g5o rfl rfl g5d rfl (Nat.le_of_ble_eq_true rfl) (k1 := k - k7) (n1 := n - n8) (by omega) (by omega) ?_ ?_
  · rintro v h4 (⟨v9, e9, r3, e8, hq⟩ | ⟨ci9, q9, e9, -⟩)
    · cases e9
      subst e8
      replace H := H r3 h4 hq
      exact e_areturn (r := some r3) _ dJ2_grow_10 rfl (Or.inr ⟨_, rfl⟩) H
    · cases e9
  · rintro q9 h9 (⟨v9, e9, -⟩ | ⟨ci9, q8, e9, -, -, hx⟩)
    · cases e9
    · exact hx.elim
theorem en_J2_grow {l : Launch} {lo : Nat} {G : eG} {d : Nat} {P : eO → eH → Prop} (a0 : Nat) {h : eH} {k n : Nat} (H : h_J2_grow_0 (l, lo, G, d, P) a0 h k n) : Ct l lo G d mJ2_grow [.ref a0] h k n P := 
  Ct_of (eArL mJ2_grow.2.2.2.1 [.ref a0]) (by decide) rfl (Nat.le_of_ble_eq_true rfl) (fun j w q => eArL_mem j w q) (E.less2 H (eS_s eS_0))
/-! J2_grow_2 java/util/ArrayList.grow(I)[Ljava/lang/Object; -/
def h_J2_grow_2_0 (c : cC) (a0 : Nat) (a1 : Int32) (h : eH) (k n : Nat) : Prop := E c.1 c.2.1 c.2.2.1 c.2.2.2.1 mJ2_grow_2 c.2.2.2.2 0 [some (.ref a0), some (.int a1), none, none] [] h k n
def h_J2_grow_2_20 (c : cC) (a0 : Nat) (a1 : Int32) (a2 : Int32) (h : eH) (k n : Nat) : Prop := E c.1 c.2.1 c.2.2.1 c.2.2.2.1 mJ2_grow_2 c.2.2.2.2 20 [some (.ref a0), some (.int a1), some (.int a2), none] [] h k n
set_option maxHeartbeats 4000000 in
theorem s_J2_grow_2_0 (c : cC) (a0 : Nat) (a1 : Int32) (h : eH) (k n : Nat) (H : ∃ x1 : Nat, fV h a0 15 1 (.ref x1) ∧ (∃ v3 : vp_A, h.1 x1 = some (.inl (c.2.2.1.2.1 3, v3)) ∧ ((0 < (nI v3.1) → h_J2_grow_2_20 c a0 a1 (nI v3.1) h k n) ∧ (¬ 0 < (nI v3.1) → ∃ x6 : Nat, fV h a0 15 1 (.ref x6) ∧ ((some x6 = some (c.2.2.1.2.2.2 1) → 1 ≤ c.2.2.2.1 ∧ (∃ N12 : Nat, (if (10 : Int32) < a1 then a1 else (10 : Int32)) = nI N12 ∧ N12 ≤ 10000000 ∧ 1 ≤ k ∧ N12 ≤ n ∧ ∀ h10 : eH, h10 = eNw h (.inl (c.2.2.1.2.1 3, N12, .inr (.inr (.inr (.inr (fun _ => none)))))) → (∃ fs13 : List Value, h10.1 a0 = some (.inr (15, fs13)) ∧ c.2.1 ≤ a0 ∧ 1 < fs13.length ∧ ∀ h15 : eH, h15 = eUp h10 a0 (.inr (15, fs13.set 1 (.ref h.2))) → (c.2.2.2.2 (.inl (some (.ref h.2))) h15)))) ∧ (¬ some x6 = some (c.2.2.1.2.2.2 1) → h_J2_grow_2_20 c a0 a1 (nI v3.1) h k n)))))) : h_J2_grow_2_0 c a0 a1 h k n := by
  refine e_aload_n dJ2_grow_2_0 rfl ?_
  obtain ⟨x1, ⟨fsx1, g2, g2v⟩, H⟩ := H
  refine e_get dJ2_grow_2_1 fJ2_1 q217 g2 g2v ?_
  obtain ⟨v3, g4, H⟩ := H
  refine e_alen (t := 3) dJ2_grow_2_4 (fun _ => rfl) g4 ?_
  refine e_istore_n _ dJ2_grow_2_5 (by decide) rfl rfl ?_
  refine e_iload_n dJ2_grow_2_6 rfl ?_
  refine e_if_gt 20 dJ2_grow_2_7 (by decide) (fun g5 => ?_) (fun g5 => ?_)
  · replace H := H.1 g5
    exact E.less2 H (eS_s (eS_s (eS_s (eS_n eS_0))))
  · replace H := H.2 g5
    refine e_aload_n dJ2_grow_2_10 rfl ?_
    obtain ⟨x6, ⟨fsx6, g7, g7v⟩, H⟩ := H
    refine e_get dJ2_grow_2_11 fJ2_1 q217 g7 g7v ?_
    refine e_gets (i := 3) dJ2_grow_2_14 rfl q215 ?_
    refine e_acmp_eq (rx := some x6) (ry := some (c.2.2.1.2.2.2 1)) 45 dJ2_grow_2_17 (by decide) (fun g8 => ?_) (fun g8 => ?_)
    · replace H := H.1 g8
      refine e_aload_n dJ2_grow_2_45 rfl ?_
      refine e_bipush (10) dJ2_grow_2_46 (by decide) ?_
      refine e_iload_n dJ2_grow_2_48 rfl ?_
      obtain ⟨g9, H⟩ := H
      refine e_mmax dJ2_grow_2_49 q868 g9 (Nat.le_of_ble_eq_true rfl) ?_
      obtain ⟨N12, g11i, g11b, g11, g11n, H⟩ := H
      refine c_anewarray dJ2_grow_2_52 q869 q862 g11i g11b g11 g11n ?_
      replace H := H _ rfl
      generalize eNw h _ = h10 at H ⊢
      refine e_dup_x1 dJ2_grow_2_55 rfl rfl ?_
      obtain ⟨fs13, g14, g14l, g14j, H⟩ := H
      refine e_put dJ2_grow_2_56 fJ2_1 q217 (eFit_ar _ _) g14 g14l g14j ?_
      replace H := H _ rfl
      generalize eUp h10 a0 _ = h15 at H ⊢
      exact e_areturn (r := some h.2) _ dJ2_grow_2_59 rfl (Or.inr ⟨_, rfl⟩) H
    · replace H := H.2 g8
      exact E.less2 H (eS_s (eS_s (eS_s (eS_n eS_0))))
set_option maxHeartbeats 4000000 in
theorem s_J2_grow_2_20 (c : cC) (a0 : Nat) (a1 : Int32) (a2 : Int32) (h : eH) (k n : Nat) (H : ∃ (d4 k5 n6 : Nat) (Q7 : Int32 → eH → Prop), cI c.1 c.2.1 c.2.2.1 d4 mJ10_newLength [.int a2, .int (a1 - a2), .int (a2 >>> ((1 : Int32) &&& 31))] h k5 n6 Q7 cX0 ∧ d4 + 1 ≤ c.2.2.2.1 ∧ k5 ≤ k ∧ n6 ≤ n ∧ (∀ (r1 : Int32) (h2 : eH), Q7 r1 h2 → (∃ x8 : Nat, fV h2 a0 15 1 (.ref x8) ∧ (∃ (d13 k14 n15 : Nat) (Q16 : Nat → eH → Prop), cR c.1 c.2.1 c.2.2.1 d13 mJ21_copyOf [.ref x8, .int r1] h2 k14 n15 Q16 cX0 ∧ d13 + 1 ≤ c.2.2.2.1 ∧ k14 ≤ k - k5 ∧ n15 ≤ n - n6 ∧ (∀ (r10 : Nat) (h11 : eH), Q16 r10 h11 → (∃ fs17 : List Value, h11.1 a0 = some (.inr (15, fs17)) ∧ c.2.1 ≤ a0 ∧ 1 < fs17.length ∧ ∀ h19 : eH, h19 = eUp h11 a0 (.inr (15, fs17.set 1 (.ref r10))) → (c.2.2.2.2 (.inl (some (.ref r10))) h19))))))) : h_J2_grow_2_20 c a0 a1 a2 h k n := by
  refine e_iload_n dJ2_grow_2_20 rfl ?_
  refine e_iload_n dJ2_grow_2_21 rfl ?_
  refine e_iload_n dJ2_grow_2_22 rfl ?_
  refine e_isub dJ2_grow_2_23 ?_
  refine e_iload_n dJ2_grow_2_24 rfl ?_
  refine e_iconst (1) dJ2_grow_2_25 (by decide) ?_
  refine e_ishr dJ2_grow_2_26 ?_
  obtain ⟨d4, k5, n6, Q7, g3, g3d, g3k, g3n, H⟩ := H
  refine e_callS (As := [.int a2, .int (a1 - a2), .int (a2 >>> ((1 : Int32) &&& 31))]) g3 dJ2_grow_2_27 wJ10_newLength q812 q813 rfl g3d rfl (Nat.le_of_ble_eq_true rfl) (k1 := k - k5) (n1 := n - n6) (by omega) (by omega) ?_ ?_
  · rintro v h2 (⟨v9, e9, r1, e8, hq⟩ | ⟨ci9, q9, e9, -⟩)
    · cases e9
      subst e8
      replace H := H r1 h2 hq
      refine e_istore_n _ dJ2_grow_2_30 (by decide) rfl rfl ?_
      refine e_aload_n dJ2_grow_2_31 rfl ?_
      refine e_aload_n dJ2_grow_2_32 rfl ?_
      obtain ⟨x8, ⟨fsx8, g9, g9v⟩, H⟩ := H
      refine e_get dJ2_grow_2_33 fJ2_1 q217 g9 g9v ?_
      refine e_iload_n dJ2_grow_2_36 rfl ?_
      obtain ⟨d13, k14, n15, Q16, g12, g12d, g12k, g12n, H⟩ := H
      refine e_callS (As := [.ref x8, .int r1]) g12 dJ2_grow_2_37 wJ21_copyOf q822 q823 rfl g12d rfl (Nat.le_of_ble_eq_true rfl) (k1 := k - k5 - k14) (n1 := n - n6 - n15) (by omega) (by omega) ?_ ?_
      · rintro v h11 (⟨v9, e9, r10, e8, hq⟩ | ⟨ci9, q9, e9, -⟩)
        · cases e9
          subst e8
          replace H := H r10 h11 hq
          refine e_dup_x1 dJ2_grow_2_40 rfl rfl ?_
          obtain ⟨fs17, g18, g18l, g18j, H⟩ := H
          refine e_put dJ2_grow_2_41 fJ2_1 q217 (eFit_ar _ _) g18 g18l g18j ?_
          replace H := H _ rfl
          generalize eUp h11 a0 _ = h19 at H ⊢
          exact e_areturn (r := some r10) _ dJ2_grow_2_44 rfl (Or.inr ⟨_, rfl⟩) H
        · cases e9
      · rintro q9 h9 (⟨v9, e9, -⟩ | ⟨ci9, q8, e9, -, -, hx⟩)
        · cases e9
        · exact hx.elim
    · cases e9
  · rintro q9 h9 (⟨v9, e9, -⟩ | ⟨ci9, q8, e9, -, -, hx⟩)
    · cases e9
    · exact hx.elim
theorem en_J2_grow_2 {l : Launch} {lo : Nat} {G : eG} {d : Nat} {P : eO → eH → Prop} (a0 : Nat) (a1 : Int32) {h : eH} {k n : Nat} (H : h_J2_grow_2_0 (l, lo, G, d, P) a0 a1 h k n) : Ct l lo G d mJ2_grow_2 [.ref a0, .int a1] h k n P := 
  Ct_of (eArL mJ2_grow_2.2.2.2.1 [.ref a0, .int a1]) (by decide) rfl (Nat.le_of_ble_eq_true rfl) (fun j w q => eArL_mem j w q) (E.less2 H (eS_s (eS_s (eS_n (eS_n eS_0)))))
/-! J2_size java/util/ArrayList.size()I -/
def h_J2_size_0 (c : cC) (a0 : Nat) (h : eH) (k n : Nat) : Prop := E c.1 c.2.1 c.2.2.1 c.2.2.2.1 mJ2_size c.2.2.2.2 0 [some (.ref a0)] [] h k n
set_option maxHeartbeats 4000000 in
theorem s_J2_size_0 (c : cC) (a0 : Nat) (h : eH) (k n : Nat) (H : ∃ x1 : Int32, fV h a0 15 2 (.int x1) ∧ (c.2.2.2.2 (.inl (some (.int x1))) h)) : h_J2_size_0 c a0 h k n := by
  refine e_aload_n dJ2_size_0 rfl ?_
  obtain ⟨x1, ⟨fsx1, g2, g2v⟩, H⟩ := H
  refine e_get dJ2_size_1 fJ2_2 q220 g2 g2v ?_
  exact e_ireturn .int dJ2_size_4 rfl rfl H
theorem en_J2_size {l : Launch} {lo : Nat} {G : eG} {d : Nat} {P : eO → eH → Prop} (a0 : Nat) {h : eH} {k n : Nat} (H : h_J2_size_0 (l, lo, G, d, P) a0 h k n) : Ct l lo G d mJ2_size [.ref a0] h k n P := 
  Ct_of (eArL mJ2_size.2.2.2.1 [.ref a0]) (by decide) rfl (Nat.le_of_ble_eq_true rfl) (fun j w q => eArL_mem j w q) (E.less2 H (eS_s eS_0))
/-! J2_get java/util/ArrayList.get(I)Ljava/lang/Object; -/
def h_J2_get_0 (c : cC) (a0 : Nat) (a1 : Int32) (h : eH) (k n : Nat) : Prop := E c.1 c.2.1 c.2.2.1 c.2.2.2.1 mJ2_get c.2.2.2.2 0 [some (.ref a0), some (.int a1)] [] h k n
set_option maxHeartbeats 4000000 in
theorem s_J2_get_0 (c : cC) (a0 : Nat) (a1 : Int32) (h : eH) (k n : Nat) (H : ∃ x1 : Int32, fV h a0 15 2 (.int x1) ∧ (∃ (d6 k7 n8 : Nat) (Q9 : Int32 → eH → Prop), cI c.1 c.2.1 c.2.2.1 d6 mJ16_checkIndex [.int a1, .int x1] h k7 n8 Q9 cX0 ∧ d6 + 1 ≤ c.2.2.2.1 ∧ k7 ≤ k ∧ n8 ≤ n ∧ (∀ (r3 : Int32) (h4 : eH), Q9 r3 h4 → (∃ fs8 : List Value, h4.1 a0 = some (.inr (15, fs8)) ∧ ∃ (d13 k14 n15 : Nat) (Q16 : Nat → eH → Prop), cR c.1 c.2.1 c.2.2.1 d13 mJ2_elementData [.ref a0, .int a1] h4 k14 n15 Q16 cX0 ∧ d13 + 1 ≤ c.2.2.2.1 ∧ k14 ≤ k - k7 ∧ n15 ≤ n - n8 ∧ (∀ (r10 : Nat) (h11 : eH), Q16 r10 h11 → (c.2.2.2.2 (.inl (some (.ref r10))) h11)))))) : h_J2_get_0 c a0 a1 h k n := by
  refine e_iload_n dJ2_get_0 rfl ?_
  refine e_aload_n dJ2_get_1 rfl ?_
  obtain ⟨x1, ⟨fsx1, g2, g2v⟩, H⟩ := H
  refine e_get dJ2_get_2 fJ2_2 q220 g2 g2v ?_
  obtain ⟨d6, k7, n8, Q9, g5, g5d, g5k, g5n, H⟩ := H
  refine e_callS (As := [.int a1, .int x1]) g5 dJ2_get_5 wJ16_checkIndex q890 q891 rfl g5d rfl (Nat.le_of_ble_eq_true rfl) (k1 := k - k7) (n1 := n - n8) (by omega) (by omega) ?_ ?_
  · rintro v h4 (⟨v9, e9, r3, e8, hq⟩ | ⟨ci9, q9, e9, -⟩)
    · cases e9
      subst e8
      replace H := H r3 h4 hq
      refine e_pop dJ2_get_8 rfl ?_
      refine e_aload_n dJ2_get_9 rfl ?_
      refine e_iload_n dJ2_get_10 rfl ?_
      obtain ⟨fsg12, g12o, H⟩ := H
      obtain ⟨d13, k14, n15, Q16, g12, g12d, g12k, g12n, H⟩ := H
      refine e_callV (r := (RJ2, TJ2, 3)) (As := [.int a1]) g12 dJ2_get_11 wJ2_elementData q896 q897 q898 g12o rfl rfl g12d rfl (Nat.le_of_ble_eq_true rfl) (k1 := k - k7 - k14) (n1 := n - n8 - n15) (by omega) (by omega) ?_ ?_
      · rintro v h11 (⟨v9, e9, r10, e8, hq⟩ | ⟨ci9, q9, e9, -⟩)
        · cases e9
          subst e8
          replace H := H r10 h11 hq
          exact e_areturn (r := some r10) _ dJ2_get_14 rfl (Or.inl ⟨_, rfl⟩) H
        · cases e9
      · rintro q9 h9 (⟨v9, e9, -⟩ | ⟨ci9, q8, e9, -, -, hx⟩)
        · cases e9
        · exact hx.elim
    · cases e9
  · rintro q9 h9 (⟨v9, e9, -⟩ | ⟨ci9, q8, e9, -, -, hx⟩)
    · cases e9
    · exact hx.elim
theorem en_J2_get {l : Launch} {lo : Nat} {G : eG} {d : Nat} {P : eO → eH → Prop} (a0 : Nat) (a1 : Int32) {h : eH} {k n : Nat} (H : h_J2_get_0 (l, lo, G, d, P) a0 a1 h k n) : Ct l lo G d mJ2_get [.ref a0, .int a1] h k n P := 
  Ct_of (eArL mJ2_get.2.2.2.1 [.ref a0, .int a1]) (by decide) rfl (Nat.le_of_ble_eq_true rfl) (fun j w q => eArL_mem j w q) (E.less2 H (eS_s (eS_s eS_0)))
/-! J2_elementData java/util/ArrayList.elementData(I)Ljava/lang/Object; -/
def h_J2_elementData_0 (c : cC) (a0 : Nat) (a1 : Int32) (h : eH) (k n : Nat) : Prop := E c.1 c.2.1 c.2.2.1 c.2.2.2.1 mJ2_elementData c.2.2.2.2 0 [some (.ref a0), some (.int a1)] [] h k n
set_option maxHeartbeats 4000000 in
theorem s_J2_elementData_0 (c : cC) (a0 : Nat) (a1 : Int32) (h : eH) (k n : Nat) (H : ∃ x1 : Nat, fV h a0 15 1 (.ref x1) ∧ (∃ (N3 : Nat) (f4 : Nat → Option Nat), h.1 x1 = some (.inl (c.2.2.1.2.1 3, N3, .inr (.inr (.inr (.inr f4))))) ∧ vp_in a1 N3 ∧ ∃ r6 : Nat, f4 a1.toNatClampNeg = some r6 ∧ (c.2.2.2.2 (.inl (some (.ref r6))) h))) : h_J2_elementData_0 c a0 a1 h k n := by
  refine e_aload_n dJ2_elementData_0 rfl ?_
  obtain ⟨x1, ⟨fsx1, g2, g2v⟩, H⟩ := H
  refine e_get dJ2_elementData_1 fJ2_1 q217 g2 g2v ?_
  refine e_iload_n dJ2_elementData_4 rfl ?_
  obtain ⟨N3, f4, g5, g5i, r6, g5r, H⟩ := H
  refine e_aaload 3 dJ2_elementData_5 (fun _ => rfl) rfl g5 g5i ?_
  rw [g5r]
  exact e_areturn (r := some r6) _ dJ2_elementData_6 rfl (Or.inl ⟨_, rfl⟩) H
theorem en_J2_elementData {l : Launch} {lo : Nat} {G : eG} {d : Nat} {P : eO → eH → Prop} (a0 : Nat) (a1 : Int32) {h : eH} {k n : Nat} (H : h_J2_elementData_0 (l, lo, G, d, P) a0 a1 h k n) : Ct l lo G d mJ2_elementData [.ref a0, .int a1] h k n P := 
  Ct_of (eArL mJ2_elementData.2.2.2.1 [.ref a0, .int a1]) (by decide) rfl (Nat.le_of_ble_eq_true rfl) (fun j w q => eArL_mem j w q) (E.less2 H (eS_s (eS_s eS_0)))
/-! J2_contains java/util/ArrayList.contains(Ljava/lang/Object;)Z -/
def h_J2_contains_0 (c : cC) (a0 : Nat) (a1 : Nat) (h : eH) (k n : Nat) : Prop := E c.1 c.2.1 c.2.2.1 c.2.2.2.1 mJ2_contains c.2.2.2.2 0 [some (.ref a0), some (.ref a1)] [] h k n
set_option maxHeartbeats 4000000 in
theorem s_J2_contains_0 (c : cC) (a0 : Nat) (a1 : Nat) (h : eH) (k n : Nat) (H : ∃ fs8 : List Value, h.1 a0 = some (.inr (15, fs8)) ∧ ∃ (d4 k5 n6 : Nat) (Q7 : Int32 → eH → Prop), cI c.1 c.2.1 c.2.2.1 d4 mJ2_indexOf [.ref a0, .ref a1] h k5 n6 Q7 cX0 ∧ d4 + 1 ≤ c.2.2.2.1 ∧ k5 ≤ k ∧ n6 ≤ n ∧ (∀ (r1 : Int32) (h2 : eH), Q7 r1 h2 → ((r1 < 0 → c.2.2.2.2 (.inl (some (.int (0 : Int32)))) h2) ∧ (¬ r1 < 0 → c.2.2.2.2 (.inl (some (.int (1 : Int32)))) h2)))) : h_J2_contains_0 c a0 a1 h k n := by
  refine e_aload_n dJ2_contains_0 rfl ?_
  refine e_aload_n dJ2_contains_1 rfl ?_
  obtain ⟨fsg3, g3o, H⟩ := H
  obtain ⟨d4, k5, n6, Q7, g3, g3d, g3k, g3n, H⟩ := H
  refine e_callV (r := (RJ2, TJ2, 3)) (As := [.ref a1]) g3 dJ2_contains_2 wJ2_indexOf q948 q949 q950 g3o rfl rfl g3d rfl (Nat.le_of_ble_eq_true rfl) (k1 := k - k5) (n1 := n - n6) (by omega) (by omega) ?_ ?_
  · rintro v h2 (⟨v9, e9, r1, e8, hq⟩ | ⟨ci9, q9, e9, -⟩)
    · cases e9
      subst e8
      replace H := H r1 h2 hq
      refine e_if_lt 12 dJ2_contains_5 (by decide) (fun g8 => ?_) (fun g8 => ?_)
      · replace H := H.1 g8
        refine e_iconst (0) dJ2_contains_12 (by decide) ?_
        exact e_ireturn .boolean dJ2_contains_13 rfl (by decide) H
      · replace H := H.2 g8
        refine e_iconst (1) dJ2_contains_8 (by decide) ?_
        refine e_goto 13 dJ2_contains_9 (by decide) ?_
        exact e_ireturn .boolean dJ2_contains_13 rfl (by decide) H
    · cases e9
  · rintro q9 h9 (⟨v9, e9, -⟩ | ⟨ci9, q8, e9, -, -, hx⟩)
    · cases e9
    · exact hx.elim
theorem en_J2_contains {l : Launch} {lo : Nat} {G : eG} {d : Nat} {P : eO → eH → Prop} (a0 : Nat) (a1 : Nat) {h : eH} {k n : Nat} (H : h_J2_contains_0 (l, lo, G, d, P) a0 a1 h k n) : Ct l lo G d mJ2_contains [.ref a0, .ref a1] h k n P := 
  Ct_of (eArL mJ2_contains.2.2.2.1 [.ref a0, .ref a1]) (by decide) rfl (Nat.le_of_ble_eq_true rfl) (fun j w q => eArL_mem j w q) (E.less2 H (eS_s (eS_s eS_0)))
/-! J2_indexOf java/util/ArrayList.indexOf(Ljava/lang/Object;)I -/
def h_J2_indexOf_0 (c : cC) (a0 : Nat) (a1 : Nat) (h : eH) (k n : Nat) : Prop := E c.1 c.2.1 c.2.2.1 c.2.2.2.1 mJ2_indexOf c.2.2.2.2 0 [some (.ref a0), some (.ref a1)] [] h k n
set_option maxHeartbeats 4000000 in
theorem s_J2_indexOf_0 (c : cC) (a0 : Nat) (a1 : Nat) (h : eH) (k n : Nat) (H : ∃ x1 : Int32, fV h a0 15 2 (.int x1) ∧ (∃ fs8 : List Value, h.1 a0 = some (.inr (15, fs8)) ∧ ∃ (d6 k7 n8 : Nat) (Q9 : Int32 → eH → Prop), cI c.1 c.2.1 c.2.2.1 d6 mJ2_indexOfRange [.ref a0, .ref a1, .int (0 : Int32), .int x1] h k7 n8 Q9 cX0 ∧ d6 + 1 ≤ c.2.2.2.1 ∧ k7 ≤ k ∧ n8 ≤ n ∧ (∀ (r3 : Int32) (h4 : eH), Q9 r3 h4 → (c.2.2.2.2 (.inl (some (.int r3))) h4)))) : h_J2_indexOf_0 c a0 a1 h k n := by
  refine e_aload_n dJ2_indexOf_0 rfl ?_
  refine e_aload_n dJ2_indexOf_1 rfl ?_
  refine e_iconst (0) dJ2_indexOf_2 (by decide) ?_
  refine e_aload_n dJ2_indexOf_3 rfl ?_
  obtain ⟨x1, ⟨fsx1, g2, g2v⟩, H⟩ := H
  refine e_get dJ2_indexOf_4 fJ2_2 q220 g2 g2v ?_
  obtain ⟨fsg5, g5o, H⟩ := H
  obtain ⟨d6, k7, n8, Q9, g5, g5d, g5k, g5n, H⟩ := H
  refine e_callV (r := (RJ2, TJ2, 3)) (As := [.ref a1, .int (0 : Int32), .int x1]) g5 dJ2_indexOf_7 wJ2_indexOfRange q952 q953 q954 g5o rfl rfl g5d rfl (Nat.le_of_ble_eq_true rfl) (k1 := k - k7) (n1 := n - n8) (by omega) (by omega) ?_ ?_
  · rintro v h4 (⟨v9, e9, r3, e8, hq⟩ | ⟨ci9, q9, e9, -⟩)
    · cases e9
      subst e8
      replace H := H r3 h4 hq
      exact e_ireturn .int dJ2_indexOf_10 rfl rfl H
    · cases e9
  · rintro q9 h9 (⟨v9, e9, -⟩ | ⟨ci9, q8, e9, -, -, hx⟩)
    · cases e9
    · exact hx.elim
theorem en_J2_indexOf {l : Launch} {lo : Nat} {G : eG} {d : Nat} {P : eO → eH → Prop} (a0 : Nat) (a1 : Nat) {h : eH} {k n : Nat} (H : h_J2_indexOf_0 (l, lo, G, d, P) a0 a1 h k n) : Ct l lo G d mJ2_indexOf [.ref a0, .ref a1] h k n P := 
  Ct_of (eArL mJ2_indexOf.2.2.2.1 [.ref a0, .ref a1]) (by decide) rfl (Nat.le_of_ble_eq_true rfl) (fun j w q => eArL_mem j w q) (E.less2 H (eS_s (eS_s eS_0)))
/-! J2_indexOfRange@J6 java/util/ArrayList.indexOfRange(Ljava/lang/Object;II)I -/
def h_J2_indexOfRange_J6_0 (c : cC) (a0 : Nat) (a1 : Nat) (a2 : Int32) (a3 : Int32) (h : eH) (k n : Nat) : Prop := E c.1 c.2.1 c.2.2.1 c.2.2.2.1 mJ2_indexOfRange c.2.2.2.2 0 [some (.ref a0), some (.ref a1), some (.int a2), some (.int a3), none, none] [] h k n
def h_J2_indexOfRange_J6_13 (c : cC) (a3 : Int32) (a4 : Nat) (a5 : Int32) (h : eH) (k n : Nat) : Prop := E c.1 c.2.1 c.2.2.1 c.2.2.2.1 mJ2_indexOfRange c.2.2.2.2 13 [none, none, none, some (.int a3), some (.ref a4), some (.int a5)] [] h k n
def h_J2_indexOfRange_J6_42 (c : cC) (a1 : Nat) (a3 : Int32) (a4 : Nat) (a5 : Int32) (h : eH) (k n : Nat) : Prop := E c.1 c.2.1 c.2.2.1 c.2.2.2.1 mJ2_indexOfRange c.2.2.2.2 42 [none, some (.ref a1), none, some (.int a3), some (.ref a4), some (.int a5)] [] h k n
set_option maxHeartbeats 4000000 in
theorem s_J2_indexOfRange_J6_0 (c : cC) (a0 : Nat) (a1 : Nat) (a2 : Int32) (a3 : Int32) (h : eH) (k n : Nat) (H : ∃ x1 : Nat, fV h a0 15 1 (.ref x1) ∧ (h_J2_indexOfRange_J6_42 c a1 a3 x1 a2 h k n)) : h_J2_indexOfRange_J6_0 c a0 a1 a2 a3 h k n := by
  refine e_aload_n dJ2_indexOfRange_0 rfl ?_
  obtain ⟨x1, ⟨fsx1, g2, g2v⟩, H⟩ := H
  refine e_get dJ2_indexOfRange_1 fJ2_1 q217 g2 g2v ?_
  refine e_astore _ dJ2_indexOfRange_4 (by decide) rfl rfl ?_
  refine e_aload_n dJ2_indexOfRange_6 rfl ?_
  refine e_ifnonnull (r := some a1) 39 dJ2_indexOfRange_7 (by decide) (fun o9 g => ?_) (fun g => by cases g)
  refine e_iload_n dJ2_indexOfRange_39 rfl ?_
  refine e_istore _ dJ2_indexOfRange_40 (by decide) rfl rfl ?_
  exact E.less2 H (eS_n (eS_s (eS_n (eS_s (eS_s (eS_s eS_0))))))
set_option maxHeartbeats 4000000 in
theorem s_J2_indexOfRange_J6_13 (c : cC) (a3 : Int32) (a4 : Nat) (a5 : Int32) (h : eH) (k n : Nat) (H : (a3 ≤ a5 → c.2.2.2.2 (.inl (some (.int (-1 : Int32)))) h) ∧ (¬ a3 ≤ a5 → ∃ (N2 : Nat) (f3 : Nat → Option Nat), h.1 a4 = some (.inl (c.2.2.1.2.1 3, N2, .inr (.inr (.inr (.inr f3))))) ∧ vp_in a5 N2 ∧ ∃ r5 : Option Nat, f3 a5.toNatClampNeg = r5 ∧ ((r5 = none → c.2.2.2.2 (.inl (some (.int a5))) h) ∧ (∀ o6 : Nat, r5 = some o6 → h_J2_indexOfRange_J6_13 c a3 a4 (a5 + 1) h k n)))) : h_J2_indexOfRange_J6_13 c a3 a4 a5 h k n := by
  refine e_iload dJ2_indexOfRange_13 rfl ?_
  refine e_iload_n dJ2_indexOfRange_15 rfl ?_
  refine e_icmp_ge 36 dJ2_indexOfRange_16 (by decide) (fun g1 => ?_) (fun g1 => ?_)
  · replace H := H.1 g1
    refine e_goto 69 dJ2_indexOfRange_36 (by decide) ?_
    refine e_iconst (-1) dJ2_indexOfRange_69 (by decide) ?_
    exact e_ireturn .int dJ2_indexOfRange_70 rfl rfl H
  · replace H := H.2 g1
    refine e_aload dJ2_indexOfRange_19 rfl ?_
    refine e_iload dJ2_indexOfRange_21 rfl ?_
    obtain ⟨N2, f3, g4, g4i, r5, g4r, H⟩ := H
    refine e_aaload 3 dJ2_indexOfRange_23 (fun _ => rfl) rfl g4 g4i ?_
    rw [g4r]
    refine e_ifnonnull (r := r5) 30 dJ2_indexOfRange_24 (by decide) (fun o6 g7 => ?_) (fun g7 => ?_)
    · subst g7
      replace H := H.2 o6 rfl
      refine e_iinc (a5 + 1) _ dJ2_indexOfRange_30 rfl rfl (by decide) rfl rfl ?_
      refine e_goto 13 dJ2_indexOfRange_33 (by decide) ?_
      exact E.less2 H (eS_n (eS_n (eS_n (eS_s (eS_s (eS_s eS_0))))))
    · subst g7
      replace H := H.1 rfl
      refine e_iload dJ2_indexOfRange_27 rfl ?_
      exact e_ireturn .int dJ2_indexOfRange_29 rfl rfl H
set_option maxHeartbeats 4000000 in
theorem s_J2_indexOfRange_J6_42 (c : cC) (a1 : Nat) (a3 : Int32) (a4 : Nat) (a5 : Int32) (h : eH) (k n : Nat) (H : (a3 ≤ a5 → c.2.2.2.2 (.inl (some (.int (-1 : Int32)))) h) ∧ (¬ a3 ≤ a5 → ∃ (N2 : Nat) (f3 : Nat → Option Nat), h.1 a4 = some (.inl (c.2.2.1.2.1 3, N2, .inr (.inr (.inr (.inr f3))))) ∧ vp_in a5 N2 ∧ ∃ r5 : Option Nat, f3 a5.toNatClampNeg = r5 ∧ (∃ fs8 : List Value, h.1 a1 = some (.inr (17, fs8)) ∧ ∃ (d9 k10 n11 : Nat) (Q12 : Int32 → eH → Prop), cI c.1 c.2.1 c.2.2.1 d9 mJ6_equals [.ref a1, va_rf r5] h k10 n11 Q12 cX0 ∧ d9 + 1 ≤ c.2.2.2.1 ∧ k10 ≤ k ∧ n11 ≤ n ∧ (∀ (r6 : Int32) (h7 : eH), Q12 r6 h7 → ((r6 = 0 → h_J2_indexOfRange_J6_42 c a1 a3 a4 (a5 + 1) h7 (k - k10) (n - n11)) ∧ (¬ r6 = 0 → c.2.2.2.2 (.inl (some (.int a5))) h7)))))) : h_J2_indexOfRange_J6_42 c a1 a3 a4 a5 h k n := by
  refine e_iload dJ2_indexOfRange_42 rfl ?_
  refine e_iload_n dJ2_indexOfRange_44 rfl ?_
  refine e_icmp_ge 69 dJ2_indexOfRange_45 (by decide) (fun g1 => ?_) (fun g1 => ?_)
  · replace H := H.1 g1
    refine e_iconst (-1) dJ2_indexOfRange_69 (by decide) ?_
    exact e_ireturn .int dJ2_indexOfRange_70 rfl rfl H
  · replace H := H.2 g1
    refine e_aload_n dJ2_indexOfRange_48 rfl ?_
    refine e_aload dJ2_indexOfRange_49 rfl ?_
    refine e_iload dJ2_indexOfRange_51 rfl ?_
    obtain ⟨N2, f3, g4, g4i, r5, g4r, H⟩ := H
    refine e_aaload 3 dJ2_indexOfRange_53 (fun _ => rfl) rfl g4 g4i ?_
    rw [g4r]
    obtain ⟨fsg8, g8o, H⟩ := H
    obtain ⟨d9, k10, n11, Q12, g8, g8d, g8k, g8n, H⟩ := H
    refine e_callO (owner := "java/lang/Object") (r := (RJ6, TJ6, 1)) (As := [va_rf r5]) g8 dJ2_indexOfRange_54 wJ6_equals rfl q957 q959 (by decide) (Or.inl q956) q977 q976 g8o rfl rfl g8d rfl (Nat.le_of_ble_eq_true rfl) (k1 := k - k10) (n1 := n - n11) (by omega) (by omega) ?_ ?_
    · rintro v h7 (⟨v9, e9, r6, e8, hq⟩ | ⟨ci9, q9, e9, -⟩)
      · cases e9
        subst e8
        replace H := H r6 h7 hq
        refine e_if_eq 63 dJ2_indexOfRange_57 (by decide) (fun g13 => ?_) (fun g13 => ?_)
        · replace H := H.1 g13
          refine e_iinc (a5 + 1) _ dJ2_indexOfRange_63 rfl rfl (by decide) rfl rfl ?_
          refine e_goto 42 dJ2_indexOfRange_66 (by decide) ?_
          exact E.less2 H (eS_n (eS_s (eS_n (eS_s (eS_s (eS_s eS_0))))))
        · replace H := H.2 g13
          refine e_iload dJ2_indexOfRange_60 rfl ?_
          exact e_ireturn .int dJ2_indexOfRange_62 rfl rfl H
      · cases e9
    · rintro q9 h9 (⟨v9, e9, -⟩ | ⟨ci9, q8, e9, -, -, hx⟩)
      · cases e9
      · exact hx.elim
theorem en_J2_indexOfRange_J6 {l : Launch} {lo : Nat} {G : eG} {d : Nat} {P : eO → eH → Prop} (a0 : Nat) (a1 : Nat) (a2 : Int32) (a3 : Int32) {h : eH} {k n : Nat} (H : h_J2_indexOfRange_J6_0 (l, lo, G, d, P) a0 a1 a2 a3 h k n) : Ct l lo G d mJ2_indexOfRange [.ref a0, .ref a1, .int a2, .int a3] h k n P := 
  Ct_of (eArL mJ2_indexOfRange.2.2.2.1 [.ref a0, .ref a1, .int a2, .int a3]) (by decide) rfl (Nat.le_of_ble_eq_true rfl) (fun j w q => eArL_mem j w q) (E.less2 H (eS_s (eS_s (eS_s (eS_s (eS_n (eS_n eS_0)))))))
/-! J2_indexOfRange@J7 java/util/ArrayList.indexOfRange(Ljava/lang/Object;II)I -/
def h_J2_indexOfRange_J7_0 (c : cC) (a0 : Nat) (a1 : Nat) (a2 : Int32) (a3 : Int32) (h : eH) (k n : Nat) : Prop := E c.1 c.2.1 c.2.2.1 c.2.2.2.1 mJ2_indexOfRange c.2.2.2.2 0 [some (.ref a0), some (.ref a1), some (.int a2), some (.int a3), none, none] [] h k n
def h_J2_indexOfRange_J7_13 (c : cC) (a3 : Int32) (a4 : Nat) (a5 : Int32) (h : eH) (k n : Nat) : Prop := E c.1 c.2.1 c.2.2.1 c.2.2.2.1 mJ2_indexOfRange c.2.2.2.2 13 [none, none, none, some (.int a3), some (.ref a4), some (.int a5)] [] h k n
def h_J2_indexOfRange_J7_42 (c : cC) (a1 : Nat) (a3 : Int32) (a4 : Nat) (a5 : Int32) (h : eH) (k n : Nat) : Prop := E c.1 c.2.1 c.2.2.1 c.2.2.2.1 mJ2_indexOfRange c.2.2.2.2 42 [none, some (.ref a1), none, some (.int a3), some (.ref a4), some (.int a5)] [] h k n
set_option maxHeartbeats 4000000 in
theorem s_J2_indexOfRange_J7_0 (c : cC) (a0 : Nat) (a1 : Nat) (a2 : Int32) (a3 : Int32) (h : eH) (k n : Nat) (H : ∃ x1 : Nat, fV h a0 15 1 (.ref x1) ∧ (h_J2_indexOfRange_J7_42 c a1 a3 x1 a2 h k n)) : h_J2_indexOfRange_J7_0 c a0 a1 a2 a3 h k n := by
  refine e_aload_n dJ2_indexOfRange_0 rfl ?_
  obtain ⟨x1, ⟨fsx1, g2, g2v⟩, H⟩ := H
  refine e_get dJ2_indexOfRange_1 fJ2_1 q217 g2 g2v ?_
  refine e_astore _ dJ2_indexOfRange_4 (by decide) rfl rfl ?_
  refine e_aload_n dJ2_indexOfRange_6 rfl ?_
  refine e_ifnonnull (r := some a1) 39 dJ2_indexOfRange_7 (by decide) (fun o9 g => ?_) (fun g => by cases g)
  refine e_iload_n dJ2_indexOfRange_39 rfl ?_
  refine e_istore _ dJ2_indexOfRange_40 (by decide) rfl rfl ?_
  exact E.less2 H (eS_n (eS_s (eS_n (eS_s (eS_s (eS_s eS_0))))))
set_option maxHeartbeats 4000000 in
theorem s_J2_indexOfRange_J7_13 (c : cC) (a3 : Int32) (a4 : Nat) (a5 : Int32) (h : eH) (k n : Nat) (H : (a3 ≤ a5 → c.2.2.2.2 (.inl (some (.int (-1 : Int32)))) h) ∧ (¬ a3 ≤ a5 → ∃ (N2 : Nat) (f3 : Nat → Option Nat), h.1 a4 = some (.inl (c.2.2.1.2.1 3, N2, .inr (.inr (.inr (.inr f3))))) ∧ vp_in a5 N2 ∧ ∃ r5 : Option Nat, f3 a5.toNatClampNeg = r5 ∧ ((r5 = none → c.2.2.2.2 (.inl (some (.int a5))) h) ∧ (∀ o6 : Nat, r5 = some o6 → h_J2_indexOfRange_J7_13 c a3 a4 (a5 + 1) h k n)))) : h_J2_indexOfRange_J7_13 c a3 a4 a5 h k n := by
  refine e_iload dJ2_indexOfRange_13 rfl ?_
  refine e_iload_n dJ2_indexOfRange_15 rfl ?_
  refine e_icmp_ge 36 dJ2_indexOfRange_16 (by decide) (fun g1 => ?_) (fun g1 => ?_)
  · replace H := H.1 g1
    refine e_goto 69 dJ2_indexOfRange_36 (by decide) ?_
    refine e_iconst (-1) dJ2_indexOfRange_69 (by decide) ?_
    exact e_ireturn .int dJ2_indexOfRange_70 rfl rfl H
  · replace H := H.2 g1
    refine e_aload dJ2_indexOfRange_19 rfl ?_
    refine e_iload dJ2_indexOfRange_21 rfl ?_
    obtain ⟨N2, f3, g4, g4i, r5, g4r, H⟩ := H
    refine e_aaload 3 dJ2_indexOfRange_23 (fun _ => rfl) rfl g4 g4i ?_
    rw [g4r]
    refine e_ifnonnull (r := r5) 30 dJ2_indexOfRange_24 (by decide) (fun o6 g7 => ?_) (fun g7 => ?_)
    · subst g7
      replace H := H.2 o6 rfl
      refine e_iinc (a5 + 1) _ dJ2_indexOfRange_30 rfl rfl (by decide) rfl rfl ?_
      refine e_goto 13 dJ2_indexOfRange_33 (by decide) ?_
      exact E.less2 H (eS_n (eS_n (eS_n (eS_s (eS_s (eS_s eS_0))))))
    · subst g7
      replace H := H.1 rfl
      refine e_iload dJ2_indexOfRange_27 rfl ?_
      exact e_ireturn .int dJ2_indexOfRange_29 rfl rfl H
set_option maxHeartbeats 4000000 in
theorem s_J2_indexOfRange_J7_42 (c : cC) (a1 : Nat) (a3 : Int32) (a4 : Nat) (a5 : Int32) (h : eH) (k n : Nat) (H : (a3 ≤ a5 → c.2.2.2.2 (.inl (some (.int (-1 : Int32)))) h) ∧ (¬ a3 ≤ a5 → ∃ (N2 : Nat) (f3 : Nat → Option Nat), h.1 a4 = some (.inl (c.2.2.1.2.1 3, N2, .inr (.inr (.inr (.inr f3))))) ∧ vp_in a5 N2 ∧ ∃ r5 : Option Nat, f3 a5.toNatClampNeg = r5 ∧ (∃ fs8 : List Value, h.1 a1 = some (.inr (18, fs8)) ∧ ∃ (d9 k10 n11 : Nat) (Q12 : Int32 → eH → Prop), cI c.1 c.2.1 c.2.2.1 d9 mJ7_equals [.ref a1, va_rf r5] h k10 n11 Q12 cX0 ∧ d9 + 1 ≤ c.2.2.2.1 ∧ k10 ≤ k ∧ n11 ≤ n ∧ (∀ (r6 : Int32) (h7 : eH), Q12 r6 h7 → ((r6 = 0 → h_J2_indexOfRange_J7_42 c a1 a3 a4 (a5 + 1) h7 (k - k10) (n - n11)) ∧ (¬ r6 = 0 → c.2.2.2.2 (.inl (some (.int a5))) h7)))))) : h_J2_indexOfRange_J7_42 c a1 a3 a4 a5 h k n := by
  refine e_iload dJ2_indexOfRange_42 rfl ?_
  refine e_iload_n dJ2_indexOfRange_44 rfl ?_
  refine e_icmp_ge 69 dJ2_indexOfRange_45 (by decide) (fun g1 => ?_) (fun g1 => ?_)
  · replace H := H.1 g1
    refine e_iconst (-1) dJ2_indexOfRange_69 (by decide) ?_
    exact e_ireturn .int dJ2_indexOfRange_70 rfl rfl H
  · replace H := H.2 g1
    refine e_aload_n dJ2_indexOfRange_48 rfl ?_
    refine e_aload dJ2_indexOfRange_49 rfl ?_
    refine e_iload dJ2_indexOfRange_51 rfl ?_
    obtain ⟨N2, f3, g4, g4i, r5, g4r, H⟩ := H
    refine e_aaload 3 dJ2_indexOfRange_53 (fun _ => rfl) rfl g4 g4i ?_
    rw [g4r]
    obtain ⟨fsg8, g8o, H⟩ := H
    obtain ⟨d9, k10, n11, Q12, g8, g8d, g8k, g8n, H⟩ := H
    refine e_callO (owner := "java/lang/Object") (r := (RJ7, TJ7, 4)) (As := [va_rf r5]) g8 dJ2_indexOfRange_54 wJ7_equals rfl q957 q959 (by decide) (Or.inl q956) q981 q980 g8o rfl rfl g8d rfl (Nat.le_of_ble_eq_true rfl) (k1 := k - k10) (n1 := n - n11) (by omega) (by omega) ?_ ?_
    · rintro v h7 (⟨v9, e9, r6, e8, hq⟩ | ⟨ci9, q9, e9, -⟩)
      · cases e9
        subst e8
        replace H := H r6 h7 hq
        refine e_if_eq 63 dJ2_indexOfRange_57 (by decide) (fun g13 => ?_) (fun g13 => ?_)
        · replace H := H.1 g13
          refine e_iinc (a5 + 1) _ dJ2_indexOfRange_63 rfl rfl (by decide) rfl rfl ?_
          refine e_goto 42 dJ2_indexOfRange_66 (by decide) ?_
          exact E.less2 H (eS_n (eS_s (eS_n (eS_s (eS_s (eS_s eS_0))))))
        · replace H := H.2 g13
          refine e_iload dJ2_indexOfRange_60 rfl ?_
          exact e_ireturn .int dJ2_indexOfRange_62 rfl rfl H
      · cases e9
    · rintro q9 h9 (⟨v9, e9, -⟩ | ⟨ci9, q8, e9, -, -, hx⟩)
      · cases e9
      · exact hx.elim
theorem en_J2_indexOfRange_J7 {l : Launch} {lo : Nat} {G : eG} {d : Nat} {P : eO → eH → Prop} (a0 : Nat) (a1 : Nat) (a2 : Int32) (a3 : Int32) {h : eH} {k n : Nat} (H : h_J2_indexOfRange_J7_0 (l, lo, G, d, P) a0 a1 a2 a3 h k n) : Ct l lo G d mJ2_indexOfRange [.ref a0, .ref a1, .int a2, .int a3] h k n P := 
  Ct_of (eArL mJ2_indexOfRange.2.2.2.1 [.ref a0, .ref a1, .int a2, .int a3]) (by decide) rfl (Nat.le_of_ble_eq_true rfl) (fun j w q => eArL_mem j w q) (E.less2 H (eS_s (eS_s (eS_s (eS_s (eS_n (eS_n eS_0)))))))
/-! J2_iterator java/util/ArrayList.iterator()Ljava/util/Iterator; -/
def h_J2_iterator_0 (c : cC) (a0 : Nat) (h : eH) (k n : Nat) : Prop := E c.1 c.2.1 c.2.2.1 c.2.2.2.1 mJ2_iterator c.2.2.2.2 0 [some (.ref a0)] [] h k n
set_option maxHeartbeats 4000000 in
theorem s_J2_iterator_0 (c : cC) (a0 : Nat) (h : eH) (k n : Nat) (H : 1 ≤ k ∧ 4 ≤ n ∧ ∀ h1 : eH, h1 = eNw h (.inr (23, [.int 0, .int 0, .int 0, .null])) → (∃ (d6 k7 n8 : Nat) (Q9 : eH → Prop), cV c.1 c.2.1 c.2.2.1 d6 mJ24_init [.ref h.2, .ref a0] h1 k7 n8 Q9 cX0 ∧ d6 + 1 ≤ c.2.2.2.1 ∧ k7 ≤ k - 1 ∧ n8 ≤ n - 4 ∧ (∀ h4 : eH, Q9 h4 → (c.2.2.2.2 (.inl (some (.ref h.2))) h4)))) : h_J2_iterator_0 c a0 h k n := by
  obtain ⟨g2, g2n, H⟩ := H
  refine e_new (ci := 23) (N := 4) (C := RJ24) (T := TJ24) tyJ24 (fs := [.int 0, .int 0, .int 0, .null]) dJ2_iterator_0 rfl in_J24 tyJ24_ok q1036 q1037 q166 (by decide) (k1 := k - 1) (n1 := n - 4) (by omega) (by omega) ?_
  replace H := H _ rfl
  generalize eNw h _ = h1 at H ⊢
  refine e_dup dJ2_iterator_3 rfl ?_
  refine e_aload_n dJ2_iterator_4 rfl ?_
  obtain ⟨d6, k7, n8, Q9, g5, g5d, g5k, g5n, H⟩ := H
  refine e_callI (As := [.ref a0]) g5 dJ2_iterator_5 wJ24_init rfl rfl rfl q1038 q1039 rfl g5d rfl (Nat.le_of_ble_eq_true rfl) (k1 := k - 1 - k7) (n1 := n - 4 - n8) (by omega) (by omega) ?_ ?_
  · rintro v h4 (⟨v9, e9, e8, hq⟩ | ⟨ci9, q9, e9, -⟩)
    · cases e9
      subst e8
      replace H := H h4 hq
      exact e_areturn (r := some h.2) _ dJ2_iterator_8 rfl (Or.inl ⟨_, rfl⟩) H
    · cases e9
  · rintro q9 h9 (⟨v9, e9, -⟩ | ⟨ci9, q8, e9, -, -, hx⟩)
    · cases e9
    · exact hx.elim
theorem en_J2_iterator {l : Launch} {lo : Nat} {G : eG} {d : Nat} {P : eO → eH → Prop} (a0 : Nat) {h : eH} {k n : Nat} (H : h_J2_iterator_0 (l, lo, G, d, P) a0 h k n) : Ct l lo G d mJ2_iterator [.ref a0] h k n P := 
  Ct_of (eArL mJ2_iterator.2.2.2.1 [.ref a0]) (by decide) rfl (Nat.le_of_ble_eq_true rfl) (fun j w q => eArL_mem j w q) (E.less2 H (eS_s eS_0))
/-! J24_init java/util/ArrayList$Itr.<init>(Ljava/util/ArrayList;)V -/
def h_J24_init_0 (c : cC) (a0 : Nat) (a1 : Nat) (h : eH) (k n : Nat) : Prop := E c.1 c.2.1 c.2.2.1 c.2.2.2.1 mJ24_init c.2.2.2.2 0 [some (.ref a0), some (.ref a1)] [] h k n
set_option maxHeartbeats 4000000 in
theorem s_J24_init_0 (c : cC) (a0 : Nat) (a1 : Nat) (h : eH) (k n : Nat) (H : ∃ fs1 : List Value, h.1 a0 = some (.inr (23, fs1)) ∧ c.2.1 ≤ a0 ∧ 3 < fs1.length ∧ ∀ h3 : eH, h3 = eUp h a0 (.inr (23, fs1.set 3 (.ref a1))) → (1 ≤ c.2.2.2.1 ∧ (∃ fs5 : List Value, h3.1 a0 = some (.inr (23, fs5)) ∧ c.2.1 ≤ a0 ∧ 1 < fs5.length ∧ ∀ h7 : eH, h7 = eUp h3 a0 (.inr (23, fs5.set 1 (.int (-1 : Int32)))) → (∃ x8 : Nat, fV h7 a0 23 3 (.ref x8) ∧ (∃ x10 : Int32, fV h7 x8 15 0 (.int x10) ∧ (∃ fs12 : List Value, h7.1 a0 = some (.inr (23, fs12)) ∧ c.2.1 ≤ a0 ∧ 2 < fs12.length ∧ ∀ h14 : eH, h14 = eUp h7 a0 (.inr (23, fs12.set 2 (.int x10))) → (c.2.2.2.2 (.inl none) h14))))))) : h_J24_init_0 c a0 a1 h k n := by
  refine e_aload_n dJ24_init_0 rfl ?_
  refine e_aload_n dJ24_init_1 rfl ?_
  obtain ⟨fs1, g2, g2l, g2j, H⟩ := H
  refine e_putF dJ24_init_2 fJ24_3 q1045 rfl rfl (eFit_or _ _) g2 g2l g2j ?_
  replace H := H _ rfl
  generalize eUp h a0 _ = h3 at H ⊢
  refine e_aload_n dJ24_init_5 rfl ?_
  obtain ⟨g4, H⟩ := H
  refine e_objInit dJ24_init_6 q1041 q192 q193 g4 (Nat.le_of_ble_eq_true rfl) ?_
  refine e_aload_n dJ24_init_9 rfl ?_
  refine e_iconst (-1) dJ24_init_10 (by decide) ?_
  obtain ⟨fs5, g6, g6l, g6j, H⟩ := H
  refine e_put dJ24_init_11 fJ24_1 q1043 (eFit_i _) g6 g6l g6j ?_
  replace H := H _ rfl
  generalize eUp h3 a0 _ = h7 at H ⊢
  refine e_aload_n dJ24_init_14 rfl ?_
  refine e_aload_n dJ24_init_15 rfl ?_
  obtain ⟨x8, ⟨fsx8, g9, g9v⟩, H⟩ := H
  refine e_get dJ24_init_16 fJ24_3 q1045 g9 g9v ?_
  obtain ⟨x10, ⟨fsx10, g11, g11v⟩, H⟩ := H
  refine e_getS dJ24_init_19 fJ2_0 q222 q223 g11 g11v ?_
  obtain ⟨fs12, g13, g13l, g13j, H⟩ := H
  refine e_put dJ24_init_22 fJ24_2 q1044 (eFit_i _) g13 g13l g13j ?_
  replace H := H _ rfl
  generalize eUp h7 a0 _ = h14 at H ⊢
  exact e_return dJ24_init_25 rfl H
theorem en_J24_init {l : Launch} {lo : Nat} {G : eG} {d : Nat} {P : eO → eH → Prop} (a0 : Nat) (a1 : Nat) {h : eH} {k n : Nat} (H : h_J24_init_0 (l, lo, G, d, P) a0 a1 h k n) : Ct l lo G d mJ24_init [.ref a0, .ref a1] h k n P := 
  Ct_of (eArL mJ24_init.2.2.2.1 [.ref a0, .ref a1]) (by decide) rfl (Nat.le_of_ble_eq_true rfl) (fun j w q => eArL_mem j w q) (E.less2 H (eS_s (eS_s eS_0)))
/-! J24_hasNext java/util/ArrayList$Itr.hasNext()Z -/
def h_J24_hasNext_0 (c : cC) (a0 : Nat) (h : eH) (k n : Nat) : Prop := E c.1 c.2.1 c.2.2.1 c.2.2.2.1 mJ24_hasNext c.2.2.2.2 0 [some (.ref a0)] [] h k n
set_option maxHeartbeats 4000000 in
theorem s_J24_hasNext_0 (c : cC) (a0 : Nat) (h : eH) (k n : Nat) (H : ∃ x1 : Int32, fV h a0 23 0 (.int x1) ∧ (∃ x3 : Nat, fV h a0 23 3 (.ref x3) ∧ (∃ x5 : Int32, fV h x3 15 2 (.int x5) ∧ ((x1 = x5 → c.2.2.2.2 (.inl (some (.int (0 : Int32)))) h) ∧ (¬ x1 = x5 → c.2.2.2.2 (.inl (some (.int (1 : Int32)))) h))))) : h_J24_hasNext_0 c a0 h k n := by
  refine e_aload_n dJ24_hasNext_0 rfl ?_
  obtain ⟨x1, ⟨fsx1, g2, g2v⟩, H⟩ := H
  refine e_get dJ24_hasNext_1 fJ24_0 q1042 g2 g2v ?_
  refine e_aload_n dJ24_hasNext_4 rfl ?_
  obtain ⟨x3, ⟨fsx3, g4, g4v⟩, H⟩ := H
  refine e_get dJ24_hasNext_5 fJ24_3 q1045 g4 g4v ?_
  obtain ⟨x5, ⟨fsx5, g6, g6v⟩, H⟩ := H
  refine e_getN dJ24_hasNext_8 fJ2_2 q219 g6 g6v ?_
  refine e_icmp_eq 18 dJ24_hasNext_11 (by decide) (fun g7 => ?_) (fun g7 => ?_)
  · replace H := H.1 g7
    refine e_iconst (0) dJ24_hasNext_18 (by decide) ?_
    exact e_ireturn .boolean dJ24_hasNext_19 rfl (by decide) H
  · replace H := H.2 g7
    refine e_iconst (1) dJ24_hasNext_14 (by decide) ?_
    refine e_goto 19 dJ24_hasNext_15 (by decide) ?_
    exact e_ireturn .boolean dJ24_hasNext_19 rfl (by decide) H
theorem en_J24_hasNext {l : Launch} {lo : Nat} {G : eG} {d : Nat} {P : eO → eH → Prop} (a0 : Nat) {h : eH} {k n : Nat} (H : h_J24_hasNext_0 (l, lo, G, d, P) a0 h k n) : Ct l lo G d mJ24_hasNext [.ref a0] h k n P := 
  Ct_of (eArL mJ24_hasNext.2.2.2.1 [.ref a0]) (by decide) rfl (Nat.le_of_ble_eq_true rfl) (fun j w q => eArL_mem j w q) (E.less2 H (eS_s eS_0))
/-! J24_next java/util/ArrayList$Itr.next()Ljava/lang/Object; -/
def h_J24_next_0 (c : cC) (a0 : Nat) (h : eH) (k n : Nat) : Prop := E c.1 c.2.1 c.2.2.1 c.2.2.2.1 mJ24_next c.2.2.2.2 0 [some (.ref a0), none, none] [] h k n
set_option maxHeartbeats 4000000 in
theorem s_J24_next_0 (c : cC) (a0 : Nat) (h : eH) (k n : Nat) (H : ∃ fs8 : List Value, h.1 a0 = some (.inr (23, fs8)) ∧ ∃ (d4 k5 n6 : Nat) (Q7 : eH → Prop), cV c.1 c.2.1 c.2.2.1 d4 mJ24_checkForComodification [.ref a0] h k5 n6 Q7 cX0 ∧ d4 + 1 ≤ c.2.2.2.1 ∧ k5 ≤ k ∧ n6 ≤ n ∧ (∀ h2 : eH, Q7 h2 → (∃ x8 : Int32, fV h2 a0 23 0 (.int x8) ∧ (∃ x10 : Nat, fV h2 a0 23 3 (.ref x10) ∧ (∃ x12 : Int32, fV h2 x10 15 2 (.int x12) ∧ ((x8 < x12 → ∃ x15 : Nat, fV h2 a0 23 3 (.ref x15) ∧ (∃ x17 : Nat, fV h2 x15 15 1 (.ref x17) ∧ (∃ v19 : vp_A, h2.1 x17 = some (.inl (c.2.2.1.2.1 3, v19)) ∧ ((x8 < (nI v19.1) → ∃ fs22 : List Value, h2.1 a0 = some (.inr (23, fs22)) ∧ c.2.1 ≤ a0 ∧ 0 < fs22.length ∧ ∀ h24 : eH, h24 = eUp h2 a0 (.inr (23, fs22.set 0 (.int (x8 + (1 : Int32))))) → (∃ fs25 : List Value, h24.1 a0 = some (.inr (23, fs25)) ∧ c.2.1 ≤ a0 ∧ 1 < fs25.length ∧ ∀ h27 : eH, h27 = eUp h24 a0 (.inr (23, fs25.set 1 (.int x8))) → (∃ (N28 : Nat) (f29 : Nat → Option Nat), h27.1 x17 = some (.inl (c.2.2.1.2.1 3, N28, .inr (.inr (.inr (.inr f29))))) ∧ vp_in x8 N28 ∧ ∃ r31 : Nat, f29 x8.toNatClampNeg = some r31 ∧ (c.2.2.2.2 (.inl (some (.ref r31))) h27)))) ∧ (¬ x8 < (nI v19.1) → False))))) ∧ (¬ x8 < x12 → False))))))) : h_J24_next_0 c a0 h k n := by
  refine e_aload_n dJ24_next_0 rfl ?_
  obtain ⟨fsg3, g3o, H⟩ := H
  obtain ⟨d4, k5, n6, Q7, g3, g3d, g3k, g3n, H⟩ := H
  refine e_callV (r := (RJ24, TJ24, 4)) (As := []) g3 dJ24_next_1 wJ24_checkForComodification q771 q772 q773 g3o rfl rfl g3d rfl (Nat.le_of_ble_eq_true rfl) (k1 := k - k5) (n1 := n - n6) (by omega) (by omega) ?_ ?_
  · rintro v h2 (⟨v9, e9, e8, hq⟩ | ⟨ci9, q9, e9, -⟩)
    · cases e9
      subst e8
      replace H := H h2 hq
      refine e_aload_n dJ24_next_4 rfl ?_
      obtain ⟨x8, ⟨fsx8, g9, g9v⟩, H⟩ := H
      refine e_get dJ24_next_5 fJ24_0 q1042 g9 g9v ?_
      refine e_istore_n _ dJ24_next_8 (by decide) rfl rfl ?_
      refine e_iload_n dJ24_next_9 rfl ?_
      refine e_aload_n dJ24_next_10 rfl ?_
      obtain ⟨x10, ⟨fsx10, g11, g11v⟩, H⟩ := H
      refine e_get dJ24_next_11 fJ24_3 q1045 g11 g11v ?_
      obtain ⟨x12, ⟨fsx12, g13, g13v⟩, H⟩ := H
      refine e_getN dJ24_next_14 fJ2_2 q219 g13 g13v ?_
      refine e_icmp_lt 28 dJ24_next_17 (by decide) (fun g14 => ?_) (fun g14 => ?_)
      · replace H := H.1 g14
        refine e_aload_n dJ24_next_28 rfl ?_
        obtain ⟨x15, ⟨fsx15, g16, g16v⟩, H⟩ := H
        refine e_get dJ24_next_29 fJ24_3 q1045 g16 g16v ?_
        obtain ⟨x17, ⟨fsx17, g18, g18v⟩, H⟩ := H
        refine e_get dJ24_next_32 fJ2_1 q218 g18 g18v ?_
        refine e_astore_n _ dJ24_next_35 (by decide) rfl rfl ?_
        refine e_iload_n dJ24_next_36 rfl ?_
        refine e_aload_n dJ24_next_37 rfl ?_
        obtain ⟨v19, g20, H⟩ := H
        refine e_alen (t := 3) dJ24_next_38 (fun _ => rfl) g20 ?_
        refine e_icmp_lt 50 dJ24_next_39 (by decide) (fun g21 => ?_) (fun g21 => ?_)
        · replace H := H.1 g21
          refine e_aload_n dJ24_next_50 rfl ?_
          refine e_iload_n dJ24_next_51 rfl ?_
          refine e_iconst (1) dJ24_next_52 (by decide) ?_
          refine e_iadd dJ24_next_53 ?_
          obtain ⟨fs22, g23, g23l, g23j, H⟩ := H
          refine e_put dJ24_next_54 fJ24_0 q1042 (eFit_i _) g23 g23l g23j ?_
          replace H := H _ rfl
          generalize eUp h2 a0 _ = h24 at H ⊢
          refine e_aload_n dJ24_next_57 rfl ?_
          refine e_aload_n dJ24_next_58 rfl ?_
          refine e_iload_n dJ24_next_59 rfl ?_
          refine e_dup_x1 dJ24_next_60 rfl rfl ?_
          obtain ⟨fs25, g26, g26l, g26j, H⟩ := H
          refine e_put dJ24_next_61 fJ24_1 q1043 (eFit_i _) g26 g26l g26j ?_
          replace H := H _ rfl
          generalize eUp h24 a0 _ = h27 at H ⊢
          obtain ⟨N28, f29, g30, g30i, r31, g30r, H⟩ := H
          refine e_aaload 3 dJ24_next_64 (fun _ => rfl) rfl g30 g30i ?_
          rw [g30r]
          exact e_areturn (r := some r31) _ dJ24_next_65 rfl (Or.inl ⟨_, rfl⟩) H
        · replace H := H.2 g21
          exact H.elim
      · replace H := H.2 g14
        exact H.elim
    · cases e9
  · rintro q9 h9 (⟨v9, e9, -⟩ | ⟨ci9, q8, e9, -, -, hx⟩)
    · cases e9
    · exact hx.elim
theorem en_J24_next {l : Launch} {lo : Nat} {G : eG} {d : Nat} {P : eO → eH → Prop} (a0 : Nat) {h : eH} {k n : Nat} (H : h_J24_next_0 (l, lo, G, d, P) a0 h k n) : Ct l lo G d mJ24_next [.ref a0] h k n P := 
  Ct_of (eArL mJ24_next.2.2.2.1 [.ref a0]) (by decide) rfl (Nat.le_of_ble_eq_true rfl) (fun j w q => eArL_mem j w q) (E.less2 H (eS_s (eS_n (eS_n eS_0))))
/-! J24_checkForComodification java/util/ArrayList$Itr.checkForComodification()V -/
def h_J24_checkForComodification_0 (c : cC) (a0 : Nat) (h : eH) (k n : Nat) : Prop := E c.1 c.2.1 c.2.2.1 c.2.2.2.1 mJ24_checkForComodification c.2.2.2.2 0 [some (.ref a0)] [] h k n
set_option maxHeartbeats 4000000 in
theorem s_J24_checkForComodification_0 (c : cC) (a0 : Nat) (h : eH) (k n : Nat) (H : ∃ x1 : Nat, fV h a0 23 3 (.ref x1) ∧ (∃ x3 : Int32, fV h x1 15 0 (.int x3) ∧ (∃ x5 : Int32, fV h a0 23 2 (.int x5) ∧ ((x3 = x5 → c.2.2.2.2 (.inl none) h) ∧ (¬ x3 = x5 → False))))) : h_J24_checkForComodification_0 c a0 h k n := by
  refine e_aload_n dJ24_checkForComodification_0 rfl ?_
  obtain ⟨x1, ⟨fsx1, g2, g2v⟩, H⟩ := H
  refine e_get dJ24_checkForComodification_1 fJ24_3 q1045 g2 g2v ?_
  obtain ⟨x3, ⟨fsx3, g4, g4v⟩, H⟩ := H
  refine e_getS dJ24_checkForComodification_4 fJ2_0 q222 q223 g4 g4v ?_
  refine e_aload_n dJ24_checkForComodification_7 rfl ?_
  obtain ⟨x5, ⟨fsx5, g6, g6v⟩, H⟩ := H
  refine e_get dJ24_checkForComodification_8 fJ24_2 q1044 g6 g6v ?_
  refine e_icmp_eq 22 dJ24_checkForComodification_11 (by decide) (fun g7 => ?_) (fun g7 => ?_)
  · replace H := H.1 g7
    exact e_return dJ24_checkForComodification_22 rfl H
  · replace H := H.2 g7
    exact H.elim
theorem en_J24_checkForComodification {l : Launch} {lo : Nat} {G : eG} {d : Nat} {P : eO → eH → Prop} (a0 : Nat) {h : eH} {k n : Nat} (H : h_J24_checkForComodification_0 (l, lo, G, d, P) a0 h k n) : Ct l lo G d mJ24_checkForComodification [.ref a0] h k n P := 
  Ct_of (eArL mJ24_checkForComodification.2.2.2.1 [.ref a0]) (by decide) rfl (Nat.le_of_ble_eq_true rfl) (fun j w q => eArL_mem j w q) (E.less2 H (eS_s eS_0))
/-! J21_copyOf java/util/Arrays.copyOf([Ljava/lang/Object;I)[Ljava/lang/Object; -/
def h_J21_copyOf_0 (c : cC) (a0 : Nat) (a1 : Int32) (h : eH) (k n : Nat) : Prop := E c.1 c.2.1 c.2.2.1 c.2.2.2.1 mJ21_copyOf c.2.2.2.2 0 [some (.ref a0), some (.int a1)] [] h k n
set_option maxHeartbeats 4000000 in
theorem s_J21_copyOf_0 (c : cC) (a0 : Nat) (a1 : Int32) (h : eH) (k n : Nat) (H : ∃ v2 : vp_A, h.1 a0 = some (.inl (c.2.2.1.2.1 3, v2)) ∧ 1 ≤ c.2.2.2.1 ∧ (∃ (d6 k7 n8 : Nat) (Q9 : Nat → eH → Prop), cR c.1 c.2.1 c.2.2.1 d6 mJ21_copyOf_2 [.ref a0, .int a1, .ref (c.2.2.1.2.2.2 8)] h k7 n8 Q9 cX0 ∧ d6 + 1 ≤ c.2.2.2.1 ∧ k7 ≤ k ∧ n8 ≤ n ∧ (∀ (r3 : Nat) (h4 : eH), Q9 r3 h4 → (c.2.2.2.2 (.inl (some (.ref r3))) h4)))) : h_J21_copyOf_0 c a0 a1 h k n := by
  refine e_aload_n dJ21_copyOf_0 rfl ?_
  refine e_iload_n dJ21_copyOf_1 rfl ?_
  refine e_aload_n dJ21_copyOf_2 rfl ?_
  obtain ⟨v2, g1, g1h, H⟩ := H
  refine e_getC dJ21_copyOf_3 q825 q3213 q826 q857 g1 g1h (Nat.le_of_ble_eq_true rfl) ?_
  obtain ⟨d6, k7, n8, Q9, g5, g5d, g5k, g5n, H⟩ := H
  refine e_callS (As := [.ref a0, .int a1, .ref (c.2.2.1.2.2.2 8)]) g5 dJ21_copyOf_6 wJ21_copyOf_2 q858 q859 rfl g5d rfl (Nat.le_of_ble_eq_true rfl) (k1 := k - k7) (n1 := n - n8) (by omega) (by omega) ?_ ?_
  · rintro v h4 (⟨v9, e9, r3, e8, hq⟩ | ⟨ci9, q9, e9, -⟩)
    · cases e9
      subst e8
      replace H := H r3 h4 hq
      exact e_areturn (r := some r3) _ dJ21_copyOf_9 rfl (Or.inr ⟨_, rfl⟩) H
    · cases e9
  · rintro q9 h9 (⟨v9, e9, -⟩ | ⟨ci9, q8, e9, -, -, hx⟩)
    · cases e9
    · exact hx.elim
theorem en_J21_copyOf {l : Launch} {lo : Nat} {G : eG} {d : Nat} {P : eO → eH → Prop} (a0 : Nat) (a1 : Int32) {h : eH} {k n : Nat} (H : h_J21_copyOf_0 (l, lo, G, d, P) a0 a1 h k n) : Ct l lo G d mJ21_copyOf [.ref a0, .int a1] h k n P := 
  Ct_of (eArL mJ21_copyOf.2.2.2.1 [.ref a0, .int a1]) (by decide) rfl (Nat.le_of_ble_eq_true rfl) (fun j w q => eArL_mem j w q) (E.less2 H (eS_s (eS_s eS_0)))
/-! J6_valueOf java/lang/Integer.valueOf(I)Ljava/lang/Integer; -/
def h_J6_valueOf_0 (c : cC) (a0 : Int32) (h : eH) (k n : Nat) : Prop := E c.1 c.2.1 c.2.2.1 c.2.2.2.1 mJ6_valueOf c.2.2.2.2 0 [some (.int a0)] [] h k n
def h_J6_valueOf_23 (c : cC) (a0 : Int32) (h : eH) (k n : Nat) : Prop := E c.1 c.2.1 c.2.2.1 c.2.2.2.1 mJ6_valueOf c.2.2.2.2 23 [some (.int a0)] [] h k n
set_option maxHeartbeats 4000000 in
theorem s_J6_valueOf_0 (c : cC) (a0 : Int32) (h : eH) (k n : Nat) (H : (a0 < (-128 : Int32) → h_J6_valueOf_23 c a0 h k n) ∧ (¬ a0 < (-128 : Int32) → ((127 : Int32) < a0 → h_J6_valueOf_23 c a0 h k n) ∧ (¬ (127 : Int32) < a0 → ∃ (N3 : Nat) (f4 : Nat → Option Nat), h.1 (c.2.2.1.2.2.2 0) = some (.inl (c.2.2.1.2.1 6, N3, .inr (.inr (.inr (.inr f4))))) ∧ vp_in (a0 + (128 : Int32)) N3 ∧ ∃ r6 : Nat, f4 (a0 + (128 : Int32)).toNatClampNeg = some r6 ∧ (c.2.2.2.2 (.inl (some (.ref r6))) h)))) : h_J6_valueOf_0 c a0 h k n := by
  refine e_iload_n dJ6_valueOf_0 rfl ?_
  refine e_bipush (-128) dJ6_valueOf_1 (by decide) ?_
  refine e_icmp_lt 23 dJ6_valueOf_3 (by decide) (fun g1 => ?_) (fun g1 => ?_)
  · replace H := H.1 g1
    exact E.less2 H (eS_s eS_0)
  · replace H := H.2 g1
    refine e_iload_n dJ6_valueOf_6 rfl ?_
    refine e_gets (i := 1) dJ6_valueOf_7 rfl q307 ?_
    refine e_icmp_gt 23 dJ6_valueOf_10 (by decide) (fun g2 => ?_) (fun g2 => ?_)
    · replace H := H.1 g2
      exact E.less2 H (eS_s eS_0)
    · replace H := H.2 g2
      refine e_gets (i := 2) dJ6_valueOf_13 rfl q309 ?_
      refine e_iload_n dJ6_valueOf_16 rfl ?_
      refine e_sipush (128) dJ6_valueOf_17 (by decide) ?_
      refine e_iadd dJ6_valueOf_20 ?_
      obtain ⟨N3, f4, g5, g5i, r6, g5r, H⟩ := H
      refine e_aaload6 dJ6_valueOf_21 g5 g5i ?_
      rw [g5r]
      exact e_areturn (r := some r6) _ dJ6_valueOf_22 rfl (Or.inl ⟨_, rfl⟩) H
set_option maxHeartbeats 4000000 in
theorem s_J6_valueOf_23 (c : cC) (a0 : Int32) (h : eH) (k n : Nat) (H : 1 ≤ k ∧ 1 ≤ n ∧ ∀ h1 : eH, h1 = eNw h (.inr (17, [.int 0])) → (∃ (d6 k7 n8 : Nat) (Q9 : eH → Prop), cV c.1 c.2.1 c.2.2.1 d6 mJ6_init [.ref h.2, .int a0] h1 k7 n8 Q9 cX0 ∧ d6 + 1 ≤ c.2.2.2.1 ∧ k7 ≤ k - 1 ∧ n8 ≤ n - 1 ∧ (∀ h4 : eH, Q9 h4 → (c.2.2.2.2 (.inl (some (.ref h.2))) h4)))) : h_J6_valueOf_23 c a0 h k n := by
  obtain ⟨g2, g2n, H⟩ := H
  refine e_new (ci := 17) (N := 1) (C := RJ6) (T := TJ6) tyJ6 (fs := [.int 0]) dJ6_valueOf_23 rfl in_J6 tyJ6_ok q311 q312 q143 (by decide) (k1 := k - 1) (n1 := n - 1) (by omega) (by omega) ?_
  replace H := H _ rfl
  generalize eNw h _ = h1 at H ⊢
  refine e_dup dJ6_valueOf_26 rfl ?_
  refine e_iload_n dJ6_valueOf_27 rfl ?_
  obtain ⟨d6, k7, n8, Q9, g5, g5d, g5k, g5n, H⟩ := H
  refine e_callI (As := [.int a0]) g5 dJ6_valueOf_28 wJ6_init rfl rfl rfl q313 q314 rfl g5d rfl (Nat.le_of_ble_eq_true rfl) (k1 := k - 1 - k7) (n1 := n - 1 - n8) (by omega) (by omega) ?_ ?_
  · rintro v h4 (⟨v9, e9, e8, hq⟩ | ⟨ci9, q9, e9, -⟩)
    · cases e9
      subst e8
      replace H := H h4 hq
      exact e_areturn (r := some h.2) _ dJ6_valueOf_31 rfl (Or.inl ⟨_, rfl⟩) H
    · cases e9
  · rintro q9 h9 (⟨v9, e9, -⟩ | ⟨ci9, q8, e9, -, -, hx⟩)
    · cases e9
    · exact hx.elim
theorem en_J6_valueOf {l : Launch} {lo : Nat} {G : eG} {d : Nat} {P : eO → eH → Prop} (a0 : Int32) {h : eH} {k n : Nat} (H : h_J6_valueOf_0 (l, lo, G, d, P) a0 h k n) : Ct l lo G d mJ6_valueOf [.int a0] h k n P := 
  Ct_of (eArL mJ6_valueOf.2.2.2.1 [.int a0]) (by decide) rfl (Nat.le_of_ble_eq_true rfl) (fun j w q => eArL_mem j w q) (E.less2 H (eS_s eS_0))
/-! J6_init java/lang/Integer.<init>(I)V -/
def h_J6_init_0 (c : cC) (a0 : Nat) (a1 : Int32) (h : eH) (k n : Nat) : Prop := E c.1 c.2.1 c.2.2.1 c.2.2.2.1 mJ6_init c.2.2.2.2 0 [some (.ref a0), some (.int a1)] [] h k n
set_option maxHeartbeats 4000000 in
theorem s_J6_init_0 (c : cC) (a0 : Nat) (a1 : Int32) (h : eH) (k n : Nat) (H : ∃ (d4 k5 n6 : Nat) (Q7 : eH → Prop), cV c.1 c.2.1 c.2.2.1 d4 mJ5_init [.ref a0] h k5 n6 Q7 cX0 ∧ d4 + 1 ≤ c.2.2.2.1 ∧ k5 ≤ k ∧ n6 ≤ n ∧ (∀ h2 : eH, Q7 h2 → (∃ fs8 : List Value, h2.1 a0 = some (.inr (17, fs8)) ∧ c.2.1 ≤ a0 ∧ 0 < fs8.length ∧ ∀ h10 : eH, h10 = eUp h2 a0 (.inr (17, fs8.set 0 (.int a1))) → (c.2.2.2.2 (.inl none) h10)))) : h_J6_init_0 c a0 a1 h k n := by
  refine e_aload_n dJ6_init_0 rfl ?_
  obtain ⟨d4, k5, n6, Q7, g3, g3d, g3k, g3n, H⟩ := H
  refine e_callI (As := []) g3 dJ6_init_1 wJ5_init rfl rfl rfl q316 q317 rfl g3d rfl (Nat.le_of_ble_eq_true rfl) (k1 := k - k5) (n1 := n - n6) (by omega) (by omega) ?_ ?_
  · rintro v h2 (⟨v9, e9, e8, hq⟩ | ⟨ci9, q9, e9, -⟩)
    · cases e9
      subst e8
      replace H := H h2 hq
      refine e_aload_n dJ6_init_4 rfl ?_
      refine e_iload_n dJ6_init_5 rfl ?_
      obtain ⟨fs8, g9, g9l, g9j, H⟩ := H
      refine e_putF dJ6_init_6 fJ6_0 q320 rfl rfl (eFit_i _) g9 g9l g9j ?_
      replace H := H _ rfl
      generalize eUp h2 a0 _ = h10 at H ⊢
      exact e_return dJ6_init_9 rfl H
    · cases e9
  · rintro q9 h9 (⟨v9, e9, -⟩ | ⟨ci9, q8, e9, -, -, hx⟩)
    · cases e9
    · exact hx.elim
theorem en_J6_init {l : Launch} {lo : Nat} {G : eG} {d : Nat} {P : eO → eH → Prop} (a0 : Nat) (a1 : Int32) {h : eH} {k n : Nat} (H : h_J6_init_0 (l, lo, G, d, P) a0 a1 h k n) : Ct l lo G d mJ6_init [.ref a0, .int a1] h k n P := 
  Ct_of (eArL mJ6_init.2.2.2.1 [.ref a0, .int a1]) (by decide) rfl (Nat.le_of_ble_eq_true rfl) (fun j w q => eArL_mem j w q) (E.less2 H (eS_s (eS_s eS_0)))
/-! J6_compare java/lang/Integer.compare(II)I -/
def h_J6_compare_0 (c : cC) (a0 : Int32) (a1 : Int32) (h : eH) (k n : Nat) : Prop := E c.1 c.2.1 c.2.2.1 c.2.2.2.1 mJ6_compare c.2.2.2.2 0 [some (.int a0), some (.int a1)] [] h k n
set_option maxHeartbeats 4000000 in
theorem s_J6_compare_0 (c : cC) (a0 : Int32) (a1 : Int32) (h : eH) (k n : Nat) (H : (a1 ≤ a0 → (¬ a0 = a1 → c.2.2.2.2 (.inl (some (.int (1 : Int32)))) h) ∧ (a0 = a1 → c.2.2.2.2 (.inl (some (.int (0 : Int32)))) h)) ∧ (¬ a1 ≤ a0 → c.2.2.2.2 (.inl (some (.int (-1 : Int32)))) h)) : h_J6_compare_0 c a0 a1 h k n := by
  refine e_iload_n dJ6_compare_0 rfl ?_
  refine e_iload_n dJ6_compare_1 rfl ?_
  refine e_icmp_ge 9 dJ6_compare_2 (by decide) (fun g1 => ?_) (fun g1 => ?_)
  · replace H := H.1 g1
    refine e_iload_n dJ6_compare_9 rfl ?_
    refine e_iload_n dJ6_compare_10 rfl ?_
    refine e_icmp_ne 18 dJ6_compare_11 (by decide) (fun g2 => ?_) (fun g2 => ?_)
    · replace H := H.1 g2
      refine e_iconst (1) dJ6_compare_18 (by decide) ?_
      exact e_ireturn .int dJ6_compare_19 rfl rfl H
    · replace H := H.2 g2
      refine e_iconst (0) dJ6_compare_14 (by decide) ?_
      refine e_goto 19 dJ6_compare_15 (by decide) ?_
      exact e_ireturn .int dJ6_compare_19 rfl rfl H
  · replace H := H.2 g1
    refine e_iconst (-1) dJ6_compare_5 (by decide) ?_
    refine e_goto 19 dJ6_compare_6 (by decide) ?_
    exact e_ireturn .int dJ6_compare_19 rfl rfl H
theorem en_J6_compare {l : Launch} {lo : Nat} {G : eG} {d : Nat} {P : eO → eH → Prop} (a0 : Int32) (a1 : Int32) {h : eH} {k n : Nat} (H : h_J6_compare_0 (l, lo, G, d, P) a0 a1 h k n) : Ct l lo G d mJ6_compare [.int a0, .int a1] h k n P := 
  Ct_of (eArL mJ6_compare.2.2.2.1 [.int a0, .int a1]) (by decide) rfl (Nat.le_of_ble_eq_true rfl) (fun j w q => eArL_mem j w q) (E.less2 H (eS_s (eS_s eS_0)))
/-! J6_intValue java/lang/Integer.intValue()I -/
def h_J6_intValue_0 (c : cC) (a0 : Nat) (h : eH) (k n : Nat) : Prop := E c.1 c.2.1 c.2.2.1 c.2.2.2.1 mJ6_intValue c.2.2.2.2 0 [some (.ref a0)] [] h k n
set_option maxHeartbeats 4000000 in
theorem s_J6_intValue_0 (c : cC) (a0 : Nat) (h : eH) (k n : Nat) (H : ∃ x1 : Int32, fV h a0 17 0 (.int x1) ∧ (c.2.2.2.2 (.inl (some (.int x1))) h)) : h_J6_intValue_0 c a0 h k n := by
  refine e_aload_n dJ6_intValue_0 rfl ?_
  obtain ⟨x1, ⟨fsx1, g2, g2v⟩, H⟩ := H
  refine e_get dJ6_intValue_1 fJ6_0 q320 g2 g2v ?_
  exact e_ireturn .int dJ6_intValue_4 rfl rfl H
theorem en_J6_intValue {l : Launch} {lo : Nat} {G : eG} {d : Nat} {P : eO → eH → Prop} (a0 : Nat) {h : eH} {k n : Nat} (H : h_J6_intValue_0 (l, lo, G, d, P) a0 h k n) : Ct l lo G d mJ6_intValue [.ref a0] h k n P := 
  Ct_of (eArL mJ6_intValue.2.2.2.1 [.ref a0]) (by decide) rfl (Nat.le_of_ble_eq_true rfl) (fun j w q => eArL_mem j w q) (E.less2 H (eS_s eS_0))
/-! J6_equals java/lang/Integer.equals(Ljava/lang/Object;)Z -/
def h_J6_equals_0 (c : cC) (a0 : Nat) (a1 : Nat) (h : eH) (k n : Nat) : Prop := E c.1 c.2.1 c.2.2.1 c.2.2.2.1 mJ6_equals c.2.2.2.2 0 [some (.ref a0), some (.ref a1)] [] h k n
set_option maxHeartbeats 4000000 in
theorem s_J6_equals_0 (c : cC) (a0 : Nat) (a1 : Nat) (h : eH) (k n : Nat) (H : eIs c.2.2.1 h a1 "java/lang/Integer" ∧ (((1 : Int32) = 0 → c.2.2.2.2 (.inl (some (.int (0 : Int32)))) h) ∧ (¬ (1 : Int32) = 0 → ∃ x3 : Int32, fV h a0 17 0 (.int x3) ∧ (eCs c.2.2.1 h a1 "java/lang/Integer" ∧ (∃ fs8 : List Value, h.1 a1 = some (.inr (17, fs8)) ∧ ∃ (d9 k10 n11 : Nat) (Q12 : Int32 → eH → Prop), cI c.1 c.2.1 c.2.2.1 d9 mJ6_intValue [.ref a1] h k10 n11 Q12 cX0 ∧ d9 + 1 ≤ c.2.2.2.1 ∧ k10 ≤ k ∧ n11 ≤ n ∧ (∀ (r6 : Int32) (h7 : eH), Q12 r6 h7 → ((¬ x3 = r6 → c.2.2.2.2 (.inl (some (.int (0 : Int32)))) h7) ∧ (x3 = r6 → c.2.2.2.2 (.inl (some (.int (1 : Int32)))) h7)))))))) : h_J6_equals_0 c a0 a1 h k n := by
  refine e_aload_n dJ6_equals_0 rfl ?_
  obtain ⟨g1, H⟩ := H
  refine e_instE dJ6_equals_1 q311 g1 ?_
  refine e_if_eq 27 dJ6_equals_4 (by decide) (fun g2 => ?_) (fun g2 => ?_)
  · replace H := H.1 g2
    refine e_iconst (0) dJ6_equals_27 (by decide) ?_
    exact e_ireturn .boolean dJ6_equals_28 rfl (by decide) H
  · replace H := H.2 g2
    refine e_aload_n dJ6_equals_7 rfl ?_
    obtain ⟨x3, ⟨fsx3, g4, g4v⟩, H⟩ := H
    refine e_get dJ6_equals_8 fJ6_0 q320 g4 g4v ?_
    refine e_aload_n dJ6_equals_11 rfl ?_
    obtain ⟨g5, H⟩ := H
    refine c_castR dJ6_equals_12 q311 g5 ?_
    obtain ⟨fsg8, g8o, H⟩ := H
    obtain ⟨d9, k10, n11, Q12, g8, g8d, g8k, g8n, H⟩ := H
    refine e_callV (r := (RJ6, TJ6, 1)) (As := []) g8 dJ6_equals_15 wJ6_intValue q979 q921 q922 g8o rfl rfl g8d rfl (Nat.le_of_ble_eq_true rfl) (k1 := k - k10) (n1 := n - n11) (by omega) (by omega) ?_ ?_
    · rintro v h7 (⟨v9, e9, r6, e8, hq⟩ | ⟨ci9, q9, e9, -⟩)
      · cases e9
        subst e8
        replace H := H r6 h7 hq
        refine e_icmp_ne 25 dJ6_equals_18 (by decide) (fun g13 => ?_) (fun g13 => ?_)
        · replace H := H.1 g13
          refine e_iconst (0) dJ6_equals_25 (by decide) ?_
          exact e_ireturn .boolean dJ6_equals_26 rfl (by decide) H
        · replace H := H.2 g13
          refine e_iconst (1) dJ6_equals_21 (by decide) ?_
          refine e_goto 26 dJ6_equals_22 (by decide) ?_
          exact e_ireturn .boolean dJ6_equals_26 rfl (by decide) H
      · cases e9
    · rintro q9 h9 (⟨v9, e9, -⟩ | ⟨ci9, q8, e9, -, -, hx⟩)
      · cases e9
      · exact hx.elim
theorem en_J6_equals {l : Launch} {lo : Nat} {G : eG} {d : Nat} {P : eO → eH → Prop} (a0 : Nat) (a1 : Nat) {h : eH} {k n : Nat} (H : h_J6_equals_0 (l, lo, G, d, P) a0 a1 h k n) : Ct l lo G d mJ6_equals [.ref a0, .ref a1] h k n P := 
  Ct_of (eArL mJ6_equals.2.2.2.1 [.ref a0, .ref a1]) (by decide) rfl (Nat.le_of_ble_eq_true rfl) (fun j w q => eArL_mem j w q) (E.less2 H (eS_s (eS_s eS_0)))
/-! J6_bitCount java/lang/Integer.bitCount(I)I -/
def h_J6_bitCount_0 (c : cC) (a0 : Int32) (h : eH) (k n : Nat) : Prop := E c.1 c.2.1 c.2.2.1 c.2.2.2.1 mJ6_bitCount c.2.2.2.2 0 [some (.int a0)] [] h k n
set_option maxHeartbeats 4000000 in
theorem s_J6_bitCount_0 (c : cC) (a0 : Int32) (h : eH) (k n : Nat) (H : c.2.2.2.2 (.inl (some (.int ((((((((a0 - (((a0.toUInt32 >>> ((1 : Int32).toUInt32 &&& Int32.toUInt32 31)).toInt32) &&& (1431655765 : Int32))) &&& (858993459 : Int32)) + ((((a0 - (((a0.toUInt32 >>> ((1 : Int32).toUInt32 &&& Int32.toUInt32 31)).toInt32) &&& (1431655765 : Int32))).toUInt32 >>> ((2 : Int32).toUInt32 &&& Int32.toUInt32 31)).toInt32) &&& (858993459 : Int32))) + (((((a0 - (((a0.toUInt32 >>> ((1 : Int32).toUInt32 &&& Int32.toUInt32 31)).toInt32) &&& (1431655765 : Int32))) &&& (858993459 : Int32)) + ((((a0 - (((a0.toUInt32 >>> ((1 : Int32).toUInt32 &&& Int32.toUInt32 31)).toInt32) &&& (1431655765 : Int32))).toUInt32 >>> ((2 : Int32).toUInt32 &&& Int32.toUInt32 31)).toInt32) &&& (858993459 : Int32))).toUInt32 >>> ((4 : Int32).toUInt32 &&& Int32.toUInt32 31)).toInt32)) &&& (252645135 : Int32)) + (((((((a0 - (((a0.toUInt32 >>> ((1 : Int32).toUInt32 &&& Int32.toUInt32 31)).toInt32) &&& (1431655765 : Int32))) &&& (858993459 : Int32)) + ((((a0 - (((a0.toUInt32 >>> ((1 : Int32).toUInt32 &&& Int32.toUInt32 31)).toInt32) &&& (1431655765 : Int32))).toUInt32 >>> ((2 : Int32).toUInt32 &&& Int32.toUInt32 31)).toInt32) &&& (858993459 : Int32))) + (((((a0 - (((a0.toUInt32 >>> ((1 : Int32).toUInt32 &&& Int32.toUInt32 31)).toInt32) &&& (1431655765 : Int32))) &&& (858993459 : Int32)) + ((((a0 - (((a0.toUInt32 >>> ((1 : Int32).toUInt32 &&& Int32.toUInt32 31)).toInt32) &&& (1431655765 : Int32))).toUInt32 >>> ((2 : Int32).toUInt32 &&& Int32.toUInt32 31)).toInt32) &&& (858993459 : Int32))).toUInt32 >>> ((4 : Int32).toUInt32 &&& Int32.toUInt32 31)).toInt32)) &&& (252645135 : Int32)).toUInt32 >>> ((8 : Int32).toUInt32 &&& Int32.toUInt32 31)).toInt32)) + ((((((((a0 - (((a0.toUInt32 >>> ((1 : Int32).toUInt32 &&& Int32.toUInt32 31)).toInt32) &&& (1431655765 : Int32))) &&& (858993459 : Int32)) + ((((a0 - (((a0.toUInt32 >>> ((1 : Int32).toUInt32 &&& Int32.toUInt32 31)).toInt32) &&& (1431655765 : Int32))).toUInt32 >>> ((2 : Int32).toUInt32 &&& Int32.toUInt32 31)).toInt32) &&& (858993459 : Int32))) + (((((a0 - (((a0.toUInt32 >>> ((1 : Int32).toUInt32 &&& Int32.toUInt32 31)).toInt32) &&& (1431655765 : Int32))) &&& (858993459 : Int32)) + ((((a0 - (((a0.toUInt32 >>> ((1 : Int32).toUInt32 &&& Int32.toUInt32 31)).toInt32) &&& (1431655765 : Int32))).toUInt32 >>> ((2 : Int32).toUInt32 &&& Int32.toUInt32 31)).toInt32) &&& (858993459 : Int32))).toUInt32 >>> ((4 : Int32).toUInt32 &&& Int32.toUInt32 31)).toInt32)) &&& (252645135 : Int32)) + (((((((a0 - (((a0.toUInt32 >>> ((1 : Int32).toUInt32 &&& Int32.toUInt32 31)).toInt32) &&& (1431655765 : Int32))) &&& (858993459 : Int32)) + ((((a0 - (((a0.toUInt32 >>> ((1 : Int32).toUInt32 &&& Int32.toUInt32 31)).toInt32) &&& (1431655765 : Int32))).toUInt32 >>> ((2 : Int32).toUInt32 &&& Int32.toUInt32 31)).toInt32) &&& (858993459 : Int32))) + (((((a0 - (((a0.toUInt32 >>> ((1 : Int32).toUInt32 &&& Int32.toUInt32 31)).toInt32) &&& (1431655765 : Int32))) &&& (858993459 : Int32)) + ((((a0 - (((a0.toUInt32 >>> ((1 : Int32).toUInt32 &&& Int32.toUInt32 31)).toInt32) &&& (1431655765 : Int32))).toUInt32 >>> ((2 : Int32).toUInt32 &&& Int32.toUInt32 31)).toInt32) &&& (858993459 : Int32))).toUInt32 >>> ((4 : Int32).toUInt32 &&& Int32.toUInt32 31)).toInt32)) &&& (252645135 : Int32)).toUInt32 >>> ((8 : Int32).toUInt32 &&& Int32.toUInt32 31)).toInt32)).toUInt32 >>> ((16 : Int32).toUInt32 &&& Int32.toUInt32 31)).toInt32)) &&& (63 : Int32))))) h) : h_J6_bitCount_0 c a0 h k n := by
  refine e_iload_n dJ6_bitCount_0 rfl ?_
  refine e_iload_n dJ6_bitCount_1 rfl ?_
  refine e_iconst (1) dJ6_bitCount_2 (by decide) ?_
  refine e_iushr dJ6_bitCount_3 ?_
  refine e_ldcw dJ6_bitCount_4 q1073 ?_
  refine e_iand dJ6_bitCount_7 ?_
  refine e_isub dJ6_bitCount_8 ?_
  refine e_istore_n _ dJ6_bitCount_9 (by decide) trivial rfl ?_
  refine e_iload_n dJ6_bitCount_10 rfl ?_
  refine e_ldcw dJ6_bitCount_11 q1074 ?_
  refine e_iand dJ6_bitCount_14 ?_
  refine e_iload_n dJ6_bitCount_15 rfl ?_
  refine e_iconst (2) dJ6_bitCount_16 (by decide) ?_
  refine e_iushr dJ6_bitCount_17 ?_
  refine e_ldcw dJ6_bitCount_18 q1074 ?_
  refine e_iand dJ6_bitCount_21 ?_
  refine e_iadd dJ6_bitCount_22 ?_
  refine e_istore_n _ dJ6_bitCount_23 (by decide) trivial rfl ?_
  refine e_iload_n dJ6_bitCount_24 rfl ?_
  refine e_iload_n dJ6_bitCount_25 rfl ?_
  refine e_iconst (4) dJ6_bitCount_26 (by decide) ?_
  refine e_iushr dJ6_bitCount_27 ?_
  refine e_iadd dJ6_bitCount_28 ?_
  refine e_ldcw dJ6_bitCount_29 q1075 ?_
  refine e_iand dJ6_bitCount_32 ?_
  refine e_istore_n _ dJ6_bitCount_33 (by decide) trivial rfl ?_
  refine e_iload_n dJ6_bitCount_34 rfl ?_
  refine e_iload_n dJ6_bitCount_35 rfl ?_
  refine e_bipush (8) dJ6_bitCount_36 (by decide) ?_
  refine e_iushr dJ6_bitCount_38 ?_
  refine e_iadd dJ6_bitCount_39 ?_
  refine e_istore_n _ dJ6_bitCount_40 (by decide) trivial rfl ?_
  refine e_iload_n dJ6_bitCount_41 rfl ?_
  refine e_iload_n dJ6_bitCount_42 rfl ?_
  refine e_bipush (16) dJ6_bitCount_43 (by decide) ?_
  refine e_iushr dJ6_bitCount_45 ?_
  refine e_iadd dJ6_bitCount_46 ?_
  refine e_istore_n _ dJ6_bitCount_47 (by decide) trivial rfl ?_
  refine e_iload_n dJ6_bitCount_48 rfl ?_
  refine e_bipush (63) dJ6_bitCount_49 (by decide) ?_
  refine e_iand dJ6_bitCount_51 ?_
  exact e_ireturn .int dJ6_bitCount_52 rfl rfl H
theorem en_J6_bitCount {l : Launch} {lo : Nat} {G : eG} {d : Nat} {P : eO → eH → Prop} (a0 : Int32) {h : eH} {k n : Nat} (H : h_J6_bitCount_0 (l, lo, G, d, P) a0 h k n) : Ct l lo G d mJ6_bitCount [.int a0] h k n P := 
  Ct_of (eArL mJ6_bitCount.2.2.2.1 [.int a0]) (by decide) rfl (Nat.le_of_ble_eq_true rfl) (fun j w q => eArL_mem j w q) (E.less2 H (eS_s eS_0))
/-! J5_init java/lang/Number.<init>()V -/
def h_J5_init_0 (c : cC) (a0 : Nat) (h : eH) (k n : Nat) : Prop := E c.1 c.2.1 c.2.2.1 c.2.2.2.1 mJ5_init c.2.2.2.2 0 [some (.ref a0)] [] h k n
set_option maxHeartbeats 4000000 in
theorem s_J5_init_0 (c : cC) (a0 : Nat) (h : eH) (k n : Nat) (H : 1 ≤ c.2.2.2.1 ∧ (c.2.2.2.2 (.inl none) h)) : h_J5_init_0 c a0 h k n := by
  refine e_aload_n dJ5_init_0 rfl ?_
  obtain ⟨g1, H⟩ := H
  refine e_objInit dJ5_init_1 q319 q192 q193 g1 (Nat.le_of_ble_eq_true rfl) ?_
  exact e_return dJ5_init_4 rfl H
theorem en_J5_init {l : Launch} {lo : Nat} {G : eG} {d : Nat} {P : eO → eH → Prop} (a0 : Nat) {h : eH} {k n : Nat} (H : h_J5_init_0 (l, lo, G, d, P) a0 h k n) : Ct l lo G d mJ5_init [.ref a0] h k n P := 
  Ct_of (eArL mJ5_init.2.2.2.1 [.ref a0]) (by decide) rfl (Nat.le_of_ble_eq_true rfl) (fun j w q => eArL_mem j w q) (E.less2 H (eS_s eS_0))
/-! J10_newLength jdk/internal/util/ArraysSupport.newLength(III)I -/
def h_J10_newLength_0 (c : cC) (a0 : Int32) (a1 : Int32) (a2 : Int32) (h : eH) (k n : Nat) : Prop := E c.1 c.2.1 c.2.2.1 c.2.2.2.1 mJ10_newLength c.2.2.2.2 0 [some (.int a0), some (.int a1), some (.int a2), none] [] h k n
def h_J10_newLength_21 (c : cC) (a0 : Int32) (a1 : Int32) (h : eH) (k n : Nat) : Prop := E c.1 c.2.1 c.2.2.1 c.2.2.2.1 mJ10_newLength c.2.2.2.2 21 [some (.int a0), some (.int a1), none, none] [] h k n
set_option maxHeartbeats 4000000 in
theorem s_J10_newLength_0 (c : cC) (a0 : Int32) (a1 : Int32) (a2 : Int32) (h : eH) (k n : Nat) (H : 1 ≤ c.2.2.2.1 ∧ (((a0 + (if a1 < a2 then a2 else a1)) ≤ (0 : Int32) → h_J10_newLength_21 c a0 a1 h k n) ∧ (¬ (a0 + (if a1 < a2 then a2 else a1)) ≤ (0 : Int32) → ((2147483639 : Int32) < (a0 + (if a1 < a2 then a2 else a1)) → h_J10_newLength_21 c a0 a1 h k n) ∧ (¬ (2147483639 : Int32) < (a0 + (if a1 < a2 then a2 else a1)) → c.2.2.2.2 (.inl (some (.int (a0 + (if a1 < a2 then a2 else a1))))) h)))) : h_J10_newLength_0 c a0 a1 a2 h k n := by
  refine e_iload_n dJ10_newLength_0 rfl ?_
  refine e_iload_n dJ10_newLength_1 rfl ?_
  refine e_iload_n dJ10_newLength_2 rfl ?_
  obtain ⟨g1, H⟩ := H
  refine e_mmax dJ10_newLength_3 q815 g1 (Nat.le_of_ble_eq_true rfl) ?_
  refine e_iadd dJ10_newLength_6 ?_
  refine e_istore_n _ dJ10_newLength_7 (by decide) rfl rfl ?_
  refine e_iconst (0) dJ10_newLength_8 (by decide) ?_
  refine e_iload_n dJ10_newLength_9 rfl ?_
  refine e_icmp_ge 21 dJ10_newLength_10 (by decide) (fun g2 => ?_) (fun g2 => ?_)
  · replace H := H.1 g2
    exact E.less2 H (eS_s (eS_s (eS_n (eS_n eS_0))))
  · replace H := H.2 g2
    refine e_iload_n dJ10_newLength_13 rfl ?_
    refine e_ldc dJ10_newLength_14 q818 ?_
    refine e_icmp_gt 21 dJ10_newLength_16 (by decide) (fun g3 => ?_) (fun g3 => ?_)
    · replace H := H.1 g3
      exact E.less2 H (eS_s (eS_s (eS_n (eS_n eS_0))))
    · replace H := H.2 g3
      refine e_iload_n dJ10_newLength_19 rfl ?_
      exact e_ireturn .int dJ10_newLength_20 rfl rfl H
set_option maxHeartbeats 4000000 in
theorem s_J10_newLength_21 (c : cC) (a0 : Int32) (a1 : Int32) (h : eH) (k n : Nat) (H : ∃ (d4 k5 n6 : Nat) (Q7 : Int32 → eH → Prop), cI c.1 c.2.1 c.2.2.1 d4 mJ10_hugeLength [.int a0, .int a1] h k5 n6 Q7 cX0 ∧ d4 + 1 ≤ c.2.2.2.1 ∧ k5 ≤ k ∧ n6 ≤ n ∧ (∀ (r1 : Int32) (h2 : eH), Q7 r1 h2 → (c.2.2.2.2 (.inl (some (.int r1))) h2))) : h_J10_newLength_21 c a0 a1 h k n := by
  refine e_iload_n dJ10_newLength_21 rfl ?_
  refine e_iload_n dJ10_newLength_22 rfl ?_
  obtain ⟨d4, k5, n6, Q7, g3, g3d, g3k, g3n, H⟩ := H
  refine e_callS (As := [.int a0, .int a1]) g3 dJ10_newLength_23 wJ10_hugeLength q819 q820 rfl g3d rfl (Nat.le_of_ble_eq_true rfl) (k1 := k - k5) (n1 := n - n6) (by omega) (by omega) ?_ ?_
  · rintro v h2 (⟨v9, e9, r1, e8, hq⟩ | ⟨ci9, q9, e9, -⟩)
    · cases e9
      subst e8
      replace H := H r1 h2 hq
      exact e_ireturn .int dJ10_newLength_26 rfl rfl H
    · cases e9
  · rintro q9 h9 (⟨v9, e9, -⟩ | ⟨ci9, q8, e9, -, -, hx⟩)
    · cases e9
    · exact hx.elim
theorem en_J10_newLength {l : Launch} {lo : Nat} {G : eG} {d : Nat} {P : eO → eH → Prop} (a0 : Int32) (a1 : Int32) (a2 : Int32) {h : eH} {k n : Nat} (H : h_J10_newLength_0 (l, lo, G, d, P) a0 a1 a2 h k n) : Ct l lo G d mJ10_newLength [.int a0, .int a1, .int a2] h k n P := 
  Ct_of (eArL mJ10_newLength.2.2.2.1 [.int a0, .int a1, .int a2]) (by decide) rfl (Nat.le_of_ble_eq_true rfl) (fun j w q => eArL_mem j w q) (E.less2 H (eS_s (eS_s (eS_s (eS_n eS_0)))))
/-! J14_checkIndex jdk/internal/util/Preconditions.checkIndex(IILjava/util/function/BiFunction;)I -/
def h_J14_checkIndex_0 (c : cC) (a0 : Int32) (a1 : Int32) (a2 : Option Nat) (h : eH) (k n : Nat) : Prop := E c.1 c.2.1 c.2.2.1 c.2.2.2.1 mJ14_checkIndex c.2.2.2.2 0 [some (.int a0), some (.int a1), some (va_rf a2)] [] h k n
def h_J14_checkIndex_9 (c : cC) (a0 : Int32) (a1 : Int32) (a2 : Option Nat) (h : eH) (k n : Nat) : Prop := E c.1 c.2.1 c.2.2.1 c.2.2.2.1 mJ14_checkIndex c.2.2.2.2 9 [some (.int a0), some (.int a1), some (va_rf a2)] [] h k n
set_option maxHeartbeats 4000000 in
theorem s_J14_checkIndex_0 (c : cC) (a0 : Int32) (a1 : Int32) (a2 : Option Nat) (h : eH) (k n : Nat) (H : (a0 < 0 → h_J14_checkIndex_9 c a0 a1 a2 h k n) ∧ (¬ a0 < 0 → (a0 < a1 → c.2.2.2.2 (.inl (some (.int a0))) h) ∧ (¬ a0 < a1 → h_J14_checkIndex_9 c a0 a1 a2 h k n))) : h_J14_checkIndex_0 c a0 a1 a2 h k n := by
  refine e_iload_n dJ14_checkIndex_0 rfl ?_
  refine e_if_lt 9 dJ14_checkIndex_1 (by decide) (fun g1 => ?_) (fun g1 => ?_)
  · replace H := H.1 g1
    exact E.less2 H (eS_s (eS_s (eS_s eS_0)))
  · replace H := H.2 g1
    refine e_iload_n dJ14_checkIndex_4 rfl ?_
    refine e_iload_n dJ14_checkIndex_5 rfl ?_
    refine e_icmp_lt 16 dJ14_checkIndex_6 (by decide) (fun g2 => ?_) (fun g2 => ?_)
    · replace H := H.1 g2
      refine e_iload_n dJ14_checkIndex_16 rfl ?_
      exact e_ireturn .int dJ14_checkIndex_17 rfl rfl H
    · replace H := H.2 g2
      exact E.less2 H (eS_s (eS_s (eS_s eS_0)))
set_option maxHeartbeats 4000000 in
theorem s_J14_checkIndex_9 (c : cC) (a0 : Int32) (a1 : Int32) (a2 : Option Nat) (h : eH) (k n : Nat) (H : False) : h_J14_checkIndex_9 c a0 a1 a2 h k n := by
  refine e_aloadR_n (r := a2) dJ14_checkIndex_9 rfl ?_
  refine e_iload_n dJ14_checkIndex_10 rfl ?_
  refine e_iload_n dJ14_checkIndex_11 rfl ?_
  exact H.elim
theorem en_J14_checkIndex {l : Launch} {lo : Nat} {G : eG} {d : Nat} {P : eO → eH → Prop} (a0 : Int32) (a1 : Int32) (a2 : Option Nat) {h : eH} {k n : Nat} (H : h_J14_checkIndex_0 (l, lo, G, d, P) a0 a1 a2 h k n) : Ct l lo G d mJ14_checkIndex [.int a0, .int a1, va_rf a2] h k n P := by
  cases a2 with
  | none =>
    exact Ct_of (eArL mJ14_checkIndex.2.2.2.1 [.int a0, .int a1, va_rf none]) (by decide) rfl (Nat.le_of_ble_eq_true rfl) (fun j w q => eArL_mem j w q) (E.less2 H (eS_s (eS_s (eS_s eS_0))))
  | some a29 =>
    exact Ct_of (eArL mJ14_checkIndex.2.2.2.1 [.int a0, .int a1, va_rf (some a29)]) (by decide) rfl (Nat.le_of_ble_eq_true rfl) (fun j w q => eArL_mem j w q) (E.less2 H (eS_s (eS_s (eS_s eS_0))))
/-! J16_checkIndex java/util/Objects.checkIndex(II)I -/
def h_J16_checkIndex_0 (c : cC) (a0 : Int32) (a1 : Int32) (h : eH) (k n : Nat) : Prop := E c.1 c.2.1 c.2.2.1 c.2.2.2.1 mJ16_checkIndex c.2.2.2.2 0 [some (.int a0), some (.int a1)] [] h k n
set_option maxHeartbeats 4000000 in
theorem s_J16_checkIndex_0 (c : cC) (a0 : Int32) (a1 : Int32) (h : eH) (k n : Nat) (H : ∃ (d4 k5 n6 : Nat) (Q7 : Int32 → eH → Prop), cI c.1 c.2.1 c.2.2.1 d4 mJ14_checkIndex [.int a0, .int a1, .null] h k5 n6 Q7 cX0 ∧ d4 + 1 ≤ c.2.2.2.1 ∧ k5 ≤ k ∧ n6 ≤ n ∧ (∀ (r1 : Int32) (h2 : eH), Q7 r1 h2 → (c.2.2.2.2 (.inl (some (.int r1))) h2))) : h_J16_checkIndex_0 c a0 a1 h k n := by
  refine e_iload_n dJ16_checkIndex_0 rfl ?_
  refine e_iload_n dJ16_checkIndex_1 rfl ?_
  refine e_null dJ16_checkIndex_2 ?_
  obtain ⟨d4, k5, n6, Q7, g3, g3d, g3k, g3n, H⟩ := H
  refine e_callS (As := [.int a0, .int a1, .null]) g3 dJ16_checkIndex_3 wJ14_checkIndex q893 q894 rfl g3d rfl (Nat.le_of_ble_eq_true rfl) (k1 := k - k5) (n1 := n - n6) (by omega) (by omega) ?_ ?_
  · rintro v h2 (⟨v9, e9, r1, e8, hq⟩ | ⟨ci9, q9, e9, -⟩)
    · cases e9
      subst e8
      replace H := H r1 h2 hq
      exact e_ireturn .int dJ16_checkIndex_6 rfl rfl H
    · cases e9
  · rintro q9 h9 (⟨v9, e9, -⟩ | ⟨ci9, q8, e9, -, -, hx⟩)
    · cases e9
    · exact hx.elim
theorem en_J16_checkIndex {l : Launch} {lo : Nat} {G : eG} {d : Nat} {P : eO → eH → Prop} (a0 : Int32) (a1 : Int32) {h : eH} {k n : Nat} (H : h_J16_checkIndex_0 (l, lo, G, d, P) a0 a1 h k n) : Ct l lo G d mJ16_checkIndex [.int a0, .int a1] h k n P := 
  Ct_of (eArL mJ16_checkIndex.2.2.2.1 [.int a0, .int a1]) (by decide) rfl (Nat.le_of_ble_eq_true rfl) (fun j w q => eArL_mem j w q) (E.less2 H (eS_s (eS_s eS_0)))
/-! J16_requireNonNull java/util/Objects.requireNonNull(Ljava/lang/Object;)Ljava/lang/Object; -/
def h_J16_requireNonNull_0 (c : cC) (a0 : Nat) (h : eH) (k n : Nat) : Prop := E c.1 c.2.1 c.2.2.1 c.2.2.2.1 mJ16_requireNonNull c.2.2.2.2 0 [some (.ref a0)] [] h k n
set_option maxHeartbeats 4000000 in
theorem s_J16_requireNonNull_0 (c : cC) (a0 : Nat) (h : eH) (k n : Nat) (H : c.2.2.2.2 (.inl (some (.ref a0))) h) : h_J16_requireNonNull_0 c a0 h k n := by
  refine e_aload_n dJ16_requireNonNull_0 rfl ?_
  refine e_ifnonnull (r := some a0) 12 dJ16_requireNonNull_1 (by decide) (fun o9 g => ?_) (fun g => by cases g)
  refine e_aload_n dJ16_requireNonNull_12 rfl ?_
  exact e_areturn (r := some a0) _ dJ16_requireNonNull_13 rfl (Or.inl ⟨_, rfl⟩) H
theorem en_J16_requireNonNull {l : Launch} {lo : Nat} {G : eG} {d : Nat} {P : eO → eH → Prop} (a0 : Nat) {h : eH} {k n : Nat} (H : h_J16_requireNonNull_0 (l, lo, G, d, P) a0 h k n) : Ct l lo G d mJ16_requireNonNull [.ref a0] h k n P := 
  Ct_of (eArL mJ16_requireNonNull.2.2.2.1 [.ref a0]) (by decide) rfl (Nat.le_of_ble_eq_true rfl) (fun j w q => eArL_mem j w q) (E.less2 H (eS_s eS_0))
