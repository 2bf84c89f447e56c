/-! segments: J3_init, J4_init, J4_put, J4_put_2, J4_addEntryToEmptyMap, J4_compare, J4_addEntry, J4_fixAfterInsertion, J4_parentOf, J4_leftOf, J4_rightOf, J4_colorOf, J4_setColor, J4_rotateLeft, J4_rotateRight, J4_keySet, J4_navigableKeySet, J4_keyIterator, J4_getFirstEntry, J4_successor, J4_get, J4_getEntry, J4_size, J15_init, J17_init, J18_init, J18_iterator, J19_init, J19_hasNext, J19_nextEntry, J20_init, J20_next -/
/-! J3_init java/util/AbstractMap.<init>()V -/
def h_J3_init_0 (c : cC) (a0 : Nat) (h : eH) (k n : Nat) : Prop := E c.1 c.2.1 c.2.2.1 c.2.2.2.1 mJ3_init c.2.2.2.2 0 [some (.ref a0)] [] h k n
set_option maxHeartbeats 4000000 in
theorem s_J3_init_0 (c : cC) (a0 : Nat) (h : eH) (k n : Nat) (H : 1 ≤ c.2.2.2.1 ∧ (c.2.2.2.2 (.inl none) h)) : h_J3_init_0 c a0 h k n := by
  refine e_aload_n dJ3_init_0 rfl ?_
  obtain ⟨g1, H⟩ := H
  refine e_objInit dJ3_init_1 q265 q192 q193 g1 (Nat.le_of_ble_eq_true rfl) ?_
  exact e_return dJ3_init_4 rfl H
theorem en_J3_init {l : Launch} {lo : Nat} {G : eG} {d : Nat} {P : eO → eH → Prop} (a0 : Nat) {h : eH} {k n : Nat} (H : h_J3_init_0 (l, lo, G, d, P) a0 h k n) : Ct l lo G d mJ3_init [.ref a0] h k n P := 
  Ct_of (eArL mJ3_init.2.2.2.1 [.ref a0]) (by decide) rfl (Nat.le_of_ble_eq_true rfl) (fun j w q => eArL_mem j w q) (E.less2 H (eS_s eS_0))
/-! J4_init java/util/TreeMap.<init>()V -/
def h_J4_init_0 (c : cC) (a0 : Nat) (h : eH) (k n : Nat) : Prop := E c.1 c.2.1 c.2.2.1 c.2.2.2.1 mJ4_init c.2.2.2.2 0 [some (.ref a0)] [] h k n
set_option maxHeartbeats 4000000 in
theorem s_J4_init_0 (c : cC) (a0 : Nat) (h : eH) (k n : Nat) (H : ∃ (d4 k5 n6 : Nat) (Q7 : eH → Prop), cV c.1 c.2.1 c.2.2.1 d4 mJ3_init [.ref a0] h k5 n6 Q7 cX0 ∧ d4 + 1 ≤ c.2.2.2.1 ∧ k5 ≤ k ∧ n6 ≤ n ∧ (∀ h2 : eH, Q7 h2 → (∃ fs8 : List Value, h2.1 a0 = some (.inr (16, fs8)) ∧ c.2.1 ≤ a0 ∧ 4 < fs8.length ∧ ∀ h10 : eH, h10 = eUp h2 a0 (.inr (16, fs8.set 4 (.int (0 : Int32)))) → (∃ fs11 : List Value, h10.1 a0 = some (.inr (16, fs11)) ∧ c.2.1 ≤ a0 ∧ 5 < fs11.length ∧ ∀ h13 : eH, h13 = eUp h10 a0 (.inr (16, fs11.set 5 (.int (0 : Int32)))) → (∃ fs14 : List Value, h13.1 a0 = some (.inr (16, fs14)) ∧ c.2.1 ≤ a0 ∧ 2 < fs14.length ∧ ∀ h16 : eH, h16 = eUp h13 a0 (.inr (16, fs14.set 2 (.null))) → (c.2.2.2.2 (.inl none) h16)))))) : h_J4_init_0 c a0 h k n := by
  refine e_aload_n dJ4_init_0 rfl ?_
  obtain ⟨d4, k5, n6, Q7, g3, g3d, g3k, g3n, H⟩ := H
  refine e_callI (As := []) g3 dJ4_init_1 wJ3_init rfl rfl rfl q262 q263 rfl g3d rfl (Nat.le_of_ble_eq_true rfl) (k1 := k - k5) (n1 := n - n6) (by omega) (by omega) ?_ ?_
  · rintro v h2 (⟨v9, e9, e8, hq⟩ | ⟨ci9, q9, e9, -⟩)
    · cases e9
      subst e8
      replace H := H h2 hq
      refine e_aload_n dJ4_init_4 rfl ?_
      refine e_iconst (0) dJ4_init_5 (by decide) ?_
      obtain ⟨fs8, g9, g9l, g9j, H⟩ := H
      refine e_put dJ4_init_6 fJ4_4 q268 (eFit_i _) g9 g9l g9j ?_
      replace H := H _ rfl
      generalize eUp h2 a0 _ = h10 at H ⊢
      refine e_aload_n dJ4_init_9 rfl ?_
      refine e_iconst (0) dJ4_init_10 (by decide) ?_
      obtain ⟨fs11, g12, g12l, g12j, H⟩ := H
      refine e_put dJ4_init_11 fJ4_5 q269 (eFit_i _) g12 g12l g12j ?_
      replace H := H _ rfl
      generalize eUp h10 a0 _ = h13 at H ⊢
      refine e_aload_n dJ4_init_14 rfl ?_
      refine e_null dJ4_init_15 ?_
      obtain ⟨fs14, g15, g15l, g15j, H⟩ := H
      refine e_putF dJ4_init_16 fJ4_2 q266 rfl rfl (eFit_o _ none) g15 g15l g15j ?_
      replace H := H _ rfl
      generalize eUp h13 a0 _ = h16 at H ⊢
      exact e_return dJ4_init_19 rfl H
    · cases e9
  · rintro q9 h9 (⟨v9, e9, -⟩ | ⟨ci9, q8, e9, -, -, hx⟩)
    · cases e9
    · exact hx.elim
theorem en_J4_init {l : Launch} {lo : Nat} {G : eG} {d : Nat} {P : eO → eH → Prop} (a0 : Nat) {h : eH} {k n : Nat} (H : h_J4_init_0 (l, lo, G, d, P) a0 h k n) : Ct l lo G d mJ4_init [.ref a0] h k n P := 
  Ct_of (eArL mJ4_init.2.2.2.1 [.ref a0]) (by decide) rfl (Nat.le_of_ble_eq_true rfl) (fun j w q => eArL_mem j w q) (E.less2 H (eS_s eS_0))
/-! J4_put java/util/TreeMap.put(Ljava/lang/Object;Ljava/lang/Object;)Ljava/lang/Object; -/
def h_J4_put_0 (c : cC) (a0 : Nat) (a1 : Nat) (a2 : Nat) (h : eH) (k n : Nat) : Prop := E c.1 c.2.1 c.2.2.1 c.2.2.2.1 mJ4_put c.2.2.2.2 0 [some (.ref a0), some (.ref a1), some (.ref a2)] [] h k n
set_option maxHeartbeats 4000000 in
theorem s_J4_put_0 (c : cC) (a0 : Nat) (a1 : Nat) (a2 : Nat) (h : eH) (k n : Nat) (H : ∃ fs8 : List Value, h.1 a0 = some (.inr (16, fs8)) ∧ ∃ (d4 k5 n6 : Nat) (Q7 : Option Nat → eH → Prop), cQ c.1 c.2.1 c.2.2.1 d4 mJ4_put_2 [.ref a0, .ref a1, .ref a2, .int (1 : Int32)] h k5 n6 Q7 cX0 ∧ d4 + 1 ≤ c.2.2.2.1 ∧ k5 ≤ k ∧ n6 ≤ n ∧ (∀ (r1 : Option Nat) (h2 : eH), Q7 r1 h2 → (c.2.2.2.2 (.inl (some (va_rf r1))) h2))) : h_J4_put_0 c a0 a1 a2 h k n := by
  refine e_aload_n dJ4_put_0 rfl ?_
  refine e_aload_n dJ4_put_1 rfl ?_
  refine e_aload_n dJ4_put_2 rfl ?_
  refine e_iconst (1) dJ4_put_3 (by decide) ?_
  obtain ⟨fsg3, g3o, H⟩ := H
  obtain ⟨d4, k5, n6, Q7, g3, g3d, g3k, g3n, H⟩ := H
  refine e_callV (r := (RJ4, TJ4, 9)) (As := [.ref a1, .ref a2, .int (1 : Int32)]) g3 dJ4_put_4 wJ4_put_2 q328 q330 qs0 g3o rfl rfl g3d rfl (Nat.le_of_ble_eq_true rfl) (k1 := k - k5) (n1 := n - n6) (by omega) (by omega) ?_ ?_
  · rintro v h2 (⟨v9, e9, r1, e8, hq⟩ | ⟨ci9, q9, e9, -⟩)
    · cases e9
      subst e8
      replace H := H r1 h2 hq
      exact e_areturn (r := r1) _ dJ4_put_7 rfl (Or.inl ⟨_, rfl⟩) H
    · cases e9
  · rintro q9 h9 (⟨v9, e9, -⟩ | ⟨ci9, q8, e9, -, -, hx⟩)
    · cases e9
    · exact hx.elim
theorem en_J4_put {l : Launch} {lo : Nat} {G : eG} {d : Nat} {P : eO → eH → Prop} (a0 : Nat) (a1 : Nat) (a2 : Nat) {h : eH} {k n : Nat} (H : h_J4_put_0 (l, lo, G, d, P) a0 a1 a2 h k n) : Ct l lo G d mJ4_put [.ref a0, .ref a1, .ref a2] h k n P := 
  Ct_of (eArL mJ4_put.2.2.2.1 [.ref a0, .ref a1, .ref a2]) (by decide) rfl (Nat.le_of_ble_eq_true rfl) (fun j w q => eArL_mem j w q) (E.less2 H (eS_s (eS_s (eS_s eS_0))))
/-! J4_put_2 java/util/TreeMap.put(Ljava/lang/Object;Ljava/lang/Object;Z)Ljava/lang/Object; -/
def h_J4_put_2_0 (c : cC) (a0 : Nat) (a1 : Nat) (a2 : Nat) (a3 : Int32) (h : eH) (k n : Nat) : Prop := E c.1 c.2.1 c.2.2.1 c.2.2.2.1 mJ4_put_2 c.2.2.2.2 0 [some (.ref a0), some (.ref a1), some (.ref a2), some (.int a3), none, none, none, none, none, none] [] h k n
def h_J4_put_2_30 (c : cC) (a0 : Nat) (a1 : Nat) (a2 : Nat) (a3 : Int32) (a4 : Option Nat) (a7 : Option Nat) (h : eH) (k n : Nat) : Prop := E c.1 c.2.1 c.2.2.1 c.2.2.2.1 mJ4_put_2 c.2.2.2.2 30 [some (.ref a0), some (.ref a1), some (.ref a2), some (.int a3), some (va_rf a4), none, none, some (va_rf a7), none, none] [] h k n
def h_J4_put_2_104 (c : cC) (a0 : Nat) (a1 : Nat) (a2 : Nat) (a3 : Int32) (a4 : Option Nat) (a5 : Int32) (a6 : Option Nat) (a7 : Option Nat) (h : eH) (k n : Nat) : Prop := E c.1 c.2.1 c.2.2.1 c.2.2.2.1 mJ4_put_2 c.2.2.2.2 104 [some (.ref a0), some (.ref a1), some (.ref a2), some (.int a3), some (va_rf a4), some (.int a5), some (va_rf a6), some (va_rf a7), none, none] [] h k n
def h_J4_put_2_123 (c : cC) (a0 : Nat) (a1 : Nat) (a2 : Nat) (a3 : Int32) (a4 : Option Nat) (a8 : Nat) (h : eH) (k n : Nat) : Prop := E c.1 c.2.1 c.2.2.1 c.2.2.2.1 mJ4_put_2 c.2.2.2.2 123 [some (.ref a0), some (.ref a1), some (.ref a2), some (.int a3), some (va_rf a4), none, none, none, some (.ref a8), none] [] h k n
def h_J4_put_2_196 (c : cC) (a0 : Nat) (a1 : Nat) (a2 : Nat) (a3 : Int32) (a4 : Option Nat) (a5 : Int32) (a6 : Option Nat) (a8 : Nat) (h : eH) (k n : Nat) : Prop := E c.1 c.2.1 c.2.2.1 c.2.2.2.1 mJ4_put_2 c.2.2.2.2 196 [some (.ref a0), some (.ref a1), some (.ref a2), some (.int a3), some (va_rf a4), some (.int a5), some (va_rf a6), none, some (.ref a8), none] [] h k n
def h_J4_put_2_201 (c : cC) (a0 : Nat) (a1 : Nat) (a2 : Nat) (a5 : Int32) (a6 : Option Nat) (h : eH) (k n : Nat) : Prop := E c.1 c.2.1 c.2.2.1 c.2.2.2.1 mJ4_put_2 c.2.2.2.2 201 [some (.ref a0), some (.ref a1), some (.ref a2), none, none, some (.int a5), some (va_rf a6), none, none, none] [] h k n
set_option maxHeartbeats 4000000 in
theorem s_J4_put_2_0 (c : cC) (a0 : Nat) (a1 : Nat) (a2 : Nat) (a3 : Int32) (h : eH) (k n : Nat) (H : ∃ x1 : Option Nat, fV h a0 16 3 (va_rf x1) ∧ ((x1 = none → ∃ fs8 : List Value, h.1 a0 = some (.inr (16, fs8)) ∧ ∃ (d8 k9 n10 : Nat) (Q11 : eH → Prop), cV c.1 c.2.1 c.2.2.1 d8 mJ4_addEntryToEmptyMap [.ref a0, .ref a1, .ref a2] h k9 n10 Q11 cX0 ∧ d8 + 1 ≤ c.2.2.2.1 ∧ k9 ≤ k ∧ n10 ≤ n ∧ (∀ h6 : eH, Q11 h6 → (c.2.2.2.2 (.inl (some (.null))) h6))) ∧ (∀ o3 : Nat, x1 = some o3 → ∃ x12 : Option Nat, fV h a0 16 2 (va_rf x12) ∧ ((x12 = none → ∃ (d19 k20 n21 : Nat) (Q22 : Nat → eH → Prop), cR c.1 c.2.1 c.2.2.1 d19 mJ16_requireNonNull [.ref a1] h k20 n21 Q22 cX0 ∧ d19 + 1 ≤ c.2.2.2.1 ∧ k20 ≤ k ∧ n21 ≤ n ∧ (∀ (r16 : Nat) (h17 : eH), Q22 r16 h17 → (eCs c.2.2.1 h17 a1 "java/lang/Comparable" ∧ (h_J4_put_2_123 c a0 a1 a2 a3 (some o3) a1 h17 (k - k20) (n - n21))))) ∧ (∀ o14 : Nat, x12 = some o14 → h_J4_put_2_30 c a0 a1 a2 a3 (some o3) (some o14) h k n))))) : h_J4_put_2_0 c a0 a1 a2 a3 h k n := by
  refine e_aload_n dJ4_put_2_0 rfl ?_
  obtain ⟨x1, ⟨fsx1, g2, g2v⟩, H⟩ := H
  refine e_get dJ4_put_2_1 fJ4_3 q267 g2 g2v ?_
  refine e_astoreR (r := x1) _ dJ4_put_2_4 (by decide) rfl rfl ?_
  refine e_aloadR (r := x1) dJ4_put_2_6 rfl ?_
  refine e_ifnonnull (r := x1) 19 dJ4_put_2_8 (by decide) (fun o3 g4 => ?_) (fun g4 => ?_)
  · subst g4
    replace H := H.2 o3 rfl
    refine e_aload_n dJ4_put_2_19 rfl ?_
    obtain ⟨x12, ⟨fsx12, g13, g13v⟩, H⟩ := H
    refine e_get dJ4_put_2_20 fJ4_2 q266 g13 g13v ?_
    refine e_astoreR (r := x12) _ dJ4_put_2_23 (by decide) trivial rfl ?_
    refine e_aloadR (r := x12) dJ4_put_2_25 rfl ?_
    refine e_ifnull (r := x12) 112 dJ4_put_2_27 (by decide) (fun g15 => ?_) (fun o14 g15 => ?_)
    · subst g15
      replace H := H.1 rfl
      refine e_aload_n dJ4_put_2_112 rfl ?_
      obtain ⟨d19, k20, n21, Q22, g18, g18d, g18k, g18n, H⟩ := H
      refine e_callS (As := [.ref a1]) g18 dJ4_put_2_113 wJ16_requireNonNull q638 q639 rfl g18d rfl (Nat.le_of_ble_eq_true rfl) (k1 := k - k20) (n1 := n - n21) (by omega) (by omega) ?_ ?_
      · rintro v h17 (⟨v9, e9, r16, e8, hq⟩ | ⟨ci9, q9, e9, -⟩)
        · cases e9
          subst e8
          replace H := H r16 h17 hq
          refine e_pop dJ4_put_2_116 rfl ?_
          refine e_aload_n dJ4_put_2_117 rfl ?_
          obtain ⟨g23, H⟩ := H
          refine c_castR dJ4_put_2_118 q340 g23 ?_
          refine e_astore _ dJ4_put_2_121 (by decide) (eRfC _) rfl ?_
          exact E.less2 H (eS_s (eS_s (eS_s (eS_s (eS_s (eS_n (eS_n (eS_n (eS_s (eS_n eS_0))))))))))
        · cases e9
      · rintro q9 h9 (⟨v9, e9, -⟩ | ⟨ci9, q8, e9, -, -, hx⟩)
        · cases e9
        · exact hx.elim
    · subst g15
      replace H := H.2 o14 rfl
      exact E.less2 H (eS_s (eS_s (eS_s (eS_s (eS_s (eS_n (eS_n (eS_s (eS_n (eS_n eS_0))))))))))
  · subst g4
    replace H := H.1 rfl
    refine e_aload_n dJ4_put_2_11 rfl ?_
    refine e_aload_n dJ4_put_2_12 rfl ?_
    refine e_aload_n dJ4_put_2_13 rfl ?_
    obtain ⟨fsg7, g7o, H⟩ := H
    obtain ⟨d8, k9, n10, Q11, g7, g7d, g7k, g7n, H⟩ := H
    refine e_callV (r := (RJ4, TJ4, 9)) (As := [.ref a1, .ref a2]) g7 dJ4_put_2_14 wJ4_addEntryToEmptyMap q332 q334 qs1 g7o rfl rfl g7d rfl (Nat.le_of_ble_eq_true rfl) (k1 := k - k9) (n1 := n - n10) (by omega) (by omega) ?_ ?_
    · rintro v h6 (⟨v9, e9, e8, hq⟩ | ⟨ci9, q9, e9, -⟩)
      · cases e9
        subst e8
        replace H := H h6 hq
        refine e_null dJ4_put_2_17 ?_
        exact e_areturn (r := none) _ dJ4_put_2_18 rfl (Or.inl ⟨_, rfl⟩) H
      · cases e9
    · rintro q9 h9 (⟨v9, e9, -⟩ | ⟨ci9, q8, e9, -, -, hx⟩)
      · cases e9
      · exact hx.elim
set_option maxHeartbeats 4000000 in
theorem s_J4_put_2_30 (c : cC) (a0 : Nat) (a1 : Nat) (a2 : Nat) (a3 : Int32) (a4 : Option Nat) (a7 : Option Nat) (h : eH) (k n : Nat) (H : ∃ o1 : Nat, a4 = some o1 ∧ ∃ x2 : Nat, fV h o1 19 0 (.ref x2) ∧ (∃ o4 : Nat, a7 = some o4 ∧ ∃ fs8 : List Value, h.1 o4 = some (.inr (4, fs8)) ∧ ∃ (d8 k9 n10 : Nat) (Q11 : Int32 → eH → Prop), cI c.1 c.2.1 c.2.2.1 d8 mX4_compare [.ref o4, .ref a1, .ref x2] h k9 n10 Q11 cX0 ∧ d8 + 1 ≤ c.2.2.2.1 ∧ k9 ≤ k ∧ n10 ≤ n ∧ (∀ (r5 : Int32) (h6 : eH), Q11 r5 h6 → ((0 ≤ r5 → (r5 ≤ 0 → ∃ x14 : Nat, fV h6 o1 19 1 (.ref x14) ∧ ((¬ a3 = 0 → ∃ fs17 : List Value, h6.1 o1 = some (.inr (19, fs17)) ∧ c.2.1 ≤ o1 ∧ 1 < fs17.length ∧ ∀ h19 : eH, h19 = eUp h6 o1 (.inr (19, fs17.set 1 (.ref a2))) → (c.2.2.2.2 (.inl (some (.ref x14))) h19)) ∧ (a3 = 0 → c.2.2.2.2 (.inl (some (.ref x14))) h6))) ∧ (¬ r5 ≤ 0 → ∃ x20 : Option Nat, fV h6 o1 19 3 (va_rf x20) ∧ (h_J4_put_2_104 c a0 a1 a2 a3 x20 r5 (some o1) (some o4) h6 (k - k9) (n - n10)))) ∧ (¬ 0 ≤ r5 → ∃ x22 : Option Nat, fV h6 o1 19 2 (va_rf x22) ∧ (h_J4_put_2_104 c a0 a1 a2 a3 x22 r5 (some o1) (some o4) h6 (k - k9) (n - n10))))))) : h_J4_put_2_30 c a0 a1 a2 a3 a4 a7 h k n := by
  refine e_aloadR (r := a4) dJ4_put_2_30 rfl ?_
  refine e_astoreR (r := a4) _ dJ4_put_2_32 (by decide) trivial rfl ?_
  refine e_aloadR (r := a7) dJ4_put_2_34 rfl ?_
  refine e_aload_n dJ4_put_2_36 rfl ?_
  refine e_aloadR (r := a4) dJ4_put_2_37 rfl ?_
  obtain ⟨o1, eo1, H⟩ := H
  subst eo1
  obtain ⟨x2, ⟨fsx2, g3, g3v⟩, H⟩ := H
  refine e_get dJ4_put_2_39 fJ15_0 q616 g3 g3v ?_
  obtain ⟨o4, eo4, H⟩ := H
  subst eo4
  obtain ⟨fsg7, g7o, H⟩ := H
  obtain ⟨d8, k9, n10, Q11, g7, g7d, g7k, g7n, H⟩ := H
  refine e_callF (i := 0) (r := ("TroupeSums$BySize", TX4, 0)) (As := [.ref a1, .ref x2]) g7 dJ4_put_2_42 wX4_compare rfl rfl q593 q599 q597 g7o rfl rfl g7d rfl (Nat.le_of_ble_eq_true rfl) (k1 := k - k9) (n1 := n - n10) (by omega) (by omega) ?_ ?_
  · rintro v h6 (⟨v9, e9, r5, e8, hq⟩ | ⟨ci9, q9, e9, -⟩)
    · cases e9
      subst e8
      replace H := H r5 h6 hq
      refine e_istore _ dJ4_put_2_47 (by decide) rfl rfl ?_
      refine e_iload dJ4_put_2_49 rfl ?_
      refine e_if_ge 64 dJ4_put_2_51 (by decide) (fun g12 => ?_) (fun g12 => ?_)
      · replace H := H.1 g12
        refine e_iload dJ4_put_2_64 rfl ?_
        refine e_if_le 79 dJ4_put_2_66 (by decide) (fun g13 => ?_) (fun g13 => ?_)
        · replace H := H.1 g13
          refine e_aload dJ4_put_2_79 rfl ?_
          obtain ⟨x14, ⟨fsx14, g15, g15v⟩, H⟩ := H
          refine e_get dJ4_put_2_81 fJ15_1 q618 g15 g15v ?_
          refine e_astore _ dJ4_put_2_84 (by decide) rfl rfl ?_
          refine e_iload_n dJ4_put_2_86 rfl ?_
          refine e_if_ne 95 dJ4_put_2_87 (by decide) (fun g16 => ?_) (fun g16 => ?_)
          · replace H := H.1 g16
            refine e_aload dJ4_put_2_95 rfl ?_
            refine e_aload_n dJ4_put_2_97 rfl ?_
            obtain ⟨fs17, g18, g18l, g18j, H⟩ := H
            refine e_put dJ4_put_2_98 fJ15_1 q618 (eFit_or _ _) g18 g18l g18j ?_
            replace H := H _ rfl
            generalize eUp h6 o1 _ = h19 at H ⊢
            refine e_aload dJ4_put_2_101 rfl ?_
            exact e_areturn (r := some x14) _ dJ4_put_2_103 rfl (Or.inl ⟨_, rfl⟩) H
          · replace H := H.2 g16
            refine e_aload dJ4_put_2_90 rfl ?_
            refine e_ifnonnull (r := some x14) 101 dJ4_put_2_92 (by decide) (fun o9 g => ?_) (fun g => by cases g)
            refine e_aload dJ4_put_2_101 rfl ?_
            exact e_areturn (r := some x14) _ dJ4_put_2_103 rfl (Or.inl ⟨_, rfl⟩) H
        · replace H := H.2 g13
          refine e_aload dJ4_put_2_69 rfl ?_
          obtain ⟨x20, ⟨fsx20, g21, g21v⟩, H⟩ := H
          refine e_get dJ4_put_2_71 fJ15_3 q620 g21 g21v ?_
          refine e_astoreR (r := x20) _ dJ4_put_2_74 (by decide) rfl rfl ?_
          refine e_goto 104 dJ4_put_2_76 (by decide) ?_
          exact E.less2 H (eS_s (eS_s (eS_s (eS_s (eS_s (eS_s (eS_s (eS_s (eS_n (eS_n eS_0))))))))))
      · replace H := H.2 g12
        refine e_aload dJ4_put_2_54 rfl ?_
        obtain ⟨x22, ⟨fsx22, g23, g23v⟩, H⟩ := H
        refine e_get dJ4_put_2_56 fJ15_2 q619 g23 g23v ?_
        refine e_astoreR (r := x22) _ dJ4_put_2_59 (by decide) rfl rfl ?_
        refine e_goto 104 dJ4_put_2_61 (by decide) ?_
        exact E.less2 H (eS_s (eS_s (eS_s (eS_s (eS_s (eS_s (eS_s (eS_s (eS_n (eS_n eS_0))))))))))
    · cases e9
  · rintro q9 h9 (⟨v9, e9, -⟩ | ⟨ci9, q8, e9, -, -, hx⟩)
    · cases e9
    · exact hx.elim
set_option maxHeartbeats 4000000 in
theorem s_J4_put_2_104 (c : cC) (a0 : Nat) (a1 : Nat) (a2 : Nat) (a3 : Int32) (a4 : Option Nat) (a5 : Int32) (a6 : Option Nat) (a7 : Option Nat) (h : eH) (k n : Nat) (H : (a4 = none → h_J4_put_2_201 c a0 a1 a2 a5 a6 h k n) ∧ (∀ o1 : Nat, a4 = some o1 → h_J4_put_2_30 c a0 a1 a2 a3 (some o1) a7 h k n)) : h_J4_put_2_104 c a0 a1 a2 a3 a4 a5 a6 a7 h k n := by
  refine e_aloadR (r := a4) dJ4_put_2_104 rfl ?_
  refine e_ifnonnull (r := a4) 30 dJ4_put_2_106 (by decide) (fun o1 g2 => ?_) (fun g2 => ?_)
  · subst g2
    replace H := H.2 o1 rfl
    exact E.less2 H (eS_s (eS_s (eS_s (eS_s (eS_s (eS_n (eS_n (eS_s (eS_n (eS_n eS_0))))))))))
  · subst g2
    replace H := H.1 rfl
    refine e_goto 201 dJ4_put_2_109 (by decide) ?_
    exact E.less2 H (eS_s (eS_s (eS_s (eS_n (eS_n (eS_s (eS_s (eS_n (eS_n (eS_n eS_0))))))))))
set_option maxHeartbeats 4000000 in
theorem s_J4_put_2_123 (c : cC) (a0 : Nat) (a1 : Nat) (a2 : Nat) (a3 : Int32) (a4 : Option Nat) (a8 : Nat) (h : eH) (k n : Nat) (H : ∃ o1 : Nat, a4 = some o1 ∧ ∃ x2 : Nat, fV h o1 19 0 (.ref x2) ∧ (∃ fs8 : List Value, h.1 a8 = some (.inr (2, fs8)) ∧ ∃ (d7 k8 n9 : Nat) (Q10 : Int32 → eH → Prop), cI c.1 c.2.1 c.2.2.1 d7 mX2_compareTo [.ref a8, .ref x2] h k8 n9 Q10 cX0 ∧ d7 + 1 ≤ c.2.2.2.1 ∧ k8 ≤ k ∧ n9 ≤ n ∧ (∀ (r4 : Int32) (h5 : eH), Q10 r4 h5 → ((0 ≤ r4 → (r4 ≤ 0 → ∃ x13 : Nat, fV h5 o1 19 1 (.ref x13) ∧ ((¬ a3 = 0 → ∃ fs16 : List Value, h5.1 o1 = some (.inr (19, fs16)) ∧ c.2.1 ≤ o1 ∧ 1 < fs16.length ∧ ∀ h18 : eH, h18 = eUp h5 o1 (.inr (19, fs16.set 1 (.ref a2))) → (c.2.2.2.2 (.inl (some (.ref x13))) h18)) ∧ (a3 = 0 → c.2.2.2.2 (.inl (some (.ref x13))) h5))) ∧ (¬ r4 ≤ 0 → ∃ x19 : Option Nat, fV h5 o1 19 3 (va_rf x19) ∧ (h_J4_put_2_196 c a0 a1 a2 a3 x19 r4 (some o1) a8 h5 (k - k8) (n - n9)))) ∧ (¬ 0 ≤ r4 → ∃ x21 : Option Nat, fV h5 o1 19 2 (va_rf x21) ∧ (h_J4_put_2_196 c a0 a1 a2 a3 x21 r4 (some o1) a8 h5 (k - k8) (n - n9))))))) : h_J4_put_2_123 c a0 a1 a2 a3 a4 a8 h k n := by
  refine e_aloadR (r := a4) dJ4_put_2_123 rfl ?_
  refine e_astoreR (r := a4) _ dJ4_put_2_125 (by decide) trivial rfl ?_
  refine e_aload dJ4_put_2_127 rfl ?_
  refine e_aloadR (r := a4) dJ4_put_2_129 rfl ?_
  obtain ⟨o1, eo1, H⟩ := H
  subst eo1
  obtain ⟨x2, ⟨fsx2, g3, g3v⟩, H⟩ := H
  refine e_get dJ4_put_2_131 fJ15_0 q616 g3 g3v ?_
  obtain ⟨fsg6, g6o, H⟩ := H
  obtain ⟨d7, k8, n9, Q10, g6, g6d, g6k, g6n, H⟩ := H
  refine e_callF (i := 1) (r := (RX2, TX2, 1)) (As := [.ref x2]) g6 dJ4_put_2_134 wX2_compareTo rfl rfl q342 q348 q346 g6o rfl rfl g6d rfl (Nat.le_of_ble_eq_true rfl) (k1 := k - k8) (n1 := n - n9) (by omega) (by omega) ?_ ?_
  · rintro v h5 (⟨v9, e9, r4, e8, hq⟩ | ⟨ci9, q9, e9, -⟩)
    · cases e9
      subst e8
      replace H := H r4 h5 hq
      refine e_istore _ dJ4_put_2_139 (by decide) rfl rfl ?_
      refine e_iload dJ4_put_2_141 rfl ?_
      refine e_if_ge 156 dJ4_put_2_143 (by decide) (fun g11 => ?_) (fun g11 => ?_)
      · replace H := H.1 g11
        refine e_iload dJ4_put_2_156 rfl ?_
        refine e_if_le 171 dJ4_put_2_158 (by decide) (fun g12 => ?_) (fun g12 => ?_)
        · replace H := H.1 g12
          refine e_aload dJ4_put_2_171 rfl ?_
          obtain ⟨x13, ⟨fsx13, g14, g14v⟩, H⟩ := H
          refine e_get dJ4_put_2_173 fJ15_1 q618 g14 g14v ?_
          refine e_astore _ dJ4_put_2_176 (by decide) rfl rfl ?_
          refine e_iload_n dJ4_put_2_178 rfl ?_
          refine e_if_ne 187 dJ4_put_2_179 (by decide) (fun g15 => ?_) (fun g15 => ?_)
          · replace H := H.1 g15
            refine e_aload dJ4_put_2_187 rfl ?_
            refine e_aload_n dJ4_put_2_189 rfl ?_
            obtain ⟨fs16, g17, g17l, g17j, H⟩ := H
            refine e_put dJ4_put_2_190 fJ15_1 q618 (eFit_or _ _) g17 g17l g17j ?_
            replace H := H _ rfl
            generalize eUp h5 o1 _ = h18 at H ⊢
            refine e_aload dJ4_put_2_193 rfl ?_
            exact e_areturn (r := some x13) _ dJ4_put_2_195 rfl (Or.inl ⟨_, rfl⟩) H
          · replace H := H.2 g15
            refine e_aload dJ4_put_2_182 rfl ?_
            refine e_ifnonnull (r := some x13) 193 dJ4_put_2_184 (by decide) (fun o9 g => ?_) (fun g => by cases g)
            refine e_aload dJ4_put_2_193 rfl ?_
            exact e_areturn (r := some x13) _ dJ4_put_2_195 rfl (Or.inl ⟨_, rfl⟩) H
        · replace H := H.2 g12
          refine e_aload dJ4_put_2_161 rfl ?_
          obtain ⟨x19, ⟨fsx19, g20, g20v⟩, H⟩ := H
          refine e_get dJ4_put_2_163 fJ15_3 q620 g20 g20v ?_
          refine e_astoreR (r := x19) _ dJ4_put_2_166 (by decide) rfl rfl ?_
          refine e_goto 196 dJ4_put_2_168 (by decide) ?_
          exact E.less2 H (eS_s (eS_s (eS_s (eS_s (eS_s (eS_s (eS_s (eS_n (eS_s (eS_n eS_0))))))))))
      · replace H := H.2 g11
        refine e_aload dJ4_put_2_146 rfl ?_
        obtain ⟨x21, ⟨fsx21, g22, g22v⟩, H⟩ := H
        refine e_get dJ4_put_2_148 fJ15_2 q619 g22 g22v ?_
        refine e_astoreR (r := x21) _ dJ4_put_2_151 (by decide) rfl rfl ?_
        refine e_goto 196 dJ4_put_2_153 (by decide) ?_
        exact E.less2 H (eS_s (eS_s (eS_s (eS_s (eS_s (eS_s (eS_s (eS_n (eS_s (eS_n eS_0))))))))))
    · cases e9
  · rintro q9 h9 (⟨v9, e9, -⟩ | ⟨ci9, q8, e9, -, -, hx⟩)
    · cases e9
    · exact hx.elim
set_option maxHeartbeats 4000000 in
theorem s_J4_put_2_196 (c : cC) (a0 : Nat) (a1 : Nat) (a2 : Nat) (a3 : Int32) (a4 : Option Nat) (a5 : Int32) (a6 : Option Nat) (a8 : Nat) (h : eH) (k n : Nat) (H : (a4 = none → h_J4_put_2_201 c a0 a1 a2 a5 a6 h k n) ∧ (∀ o1 : Nat, a4 = some o1 → h_J4_put_2_123 c a0 a1 a2 a3 (some o1) a8 h k n)) : h_J4_put_2_196 c a0 a1 a2 a3 a4 a5 a6 a8 h k n := by
  refine e_aloadR (r := a4) dJ4_put_2_196 rfl ?_
  refine e_ifnonnull (r := a4) 123 dJ4_put_2_198 (by decide) (fun o1 g2 => ?_) (fun g2 => ?_)
  · subst g2
    replace H := H.2 o1 rfl
    exact E.less2 H (eS_s (eS_s (eS_s (eS_s (eS_s (eS_n (eS_n (eS_n (eS_s (eS_n eS_0))))))))))
  · subst g2
    replace H := H.1 rfl
    exact E.less2 H (eS_s (eS_s (eS_s (eS_n (eS_n (eS_s (eS_s (eS_n (eS_n (eS_n eS_0))))))))))
set_option maxHeartbeats 4000000 in
theorem s_J4_put_2_201 (c : cC) (a0 : Nat) (a1 : Nat) (a2 : Nat) (a5 : Int32) (a6 : Option Nat) (h : eH) (k n : Nat) (H : (0 ≤ a5 → ∃ fs8 : List Value, h.1 a0 = some (.inr (16, fs8)) ∧ ∃ (d5 k6 n7 : Nat) (Q8 : eH → Prop), cV c.1 c.2.1 c.2.2.1 d5 mJ4_addEntry [.ref a0, .ref a1, .ref a2, va_rf a6, .int (0 : Int32)] h k6 n7 Q8 cX0 ∧ d5 + 1 ≤ c.2.2.2.1 ∧ k6 ≤ k ∧ n7 ≤ n ∧ (∀ h3 : eH, Q8 h3 → (c.2.2.2.2 (.inl (some (.null))) h3))) ∧ (¬ 0 ≤ a5 → ∃ fs8 : List Value, h.1 a0 = some (.inr (16, fs8)) ∧ ∃ (d12 k13 n14 : Nat) (Q15 : eH → Prop), cV c.1 c.2.1 c.2.2.1 d12 mJ4_addEntry [.ref a0, .ref a1, .ref a2, va_rf a6, .int (1 : Int32)] h k13 n14 Q15 cX0 ∧ d12 + 1 ≤ c.2.2.2.1 ∧ k13 ≤ k ∧ n14 ≤ n ∧ (∀ h10 : eH, Q15 h10 → (c.2.2.2.2 (.inl (some (.null))) h10)))) : h_J4_put_2_201 c a0 a1 a2 a5 a6 h k n := by
  refine e_aload_n dJ4_put_2_201 rfl ?_
  refine e_aload_n dJ4_put_2_202 rfl ?_
  refine e_aload_n dJ4_put_2_203 rfl ?_
  refine e_aloadR (r := a6) dJ4_put_2_204 rfl ?_
  refine e_iload dJ4_put_2_206 rfl ?_
  refine e_if_ge 215 dJ4_put_2_208 (by decide) (fun g1 => ?_) (fun g1 => ?_)
  · replace H := H.1 g1
    refine e_iconst (0) dJ4_put_2_215 (by decide) ?_
    obtain ⟨fsg4, g4o, H⟩ := H
    obtain ⟨d5, k6, n7, Q8, g4, g4d, g4k, g4n, H⟩ := H
    refine e_callV (r := (RJ4, TJ4, 9)) (As := [.ref a1, .ref a2, va_rf a6, .int (0 : Int32)]) g4 dJ4_put_2_216 wJ4_addEntry q641 q643 qs2 g4o rfl rfl g4d rfl (Nat.le_of_ble_eq_true rfl) (k1 := k - k6) (n1 := n - n7) (by omega) (by omega) ?_ ?_
    · rintro v h3 (⟨v9, e9, e8, hq⟩ | ⟨ci9, q9, e9, -⟩)
      · cases e9
        subst e8
        replace H := H h3 hq
        refine e_null dJ4_put_2_219 ?_
        exact e_areturn (r := none) _ dJ4_put_2_220 rfl (Or.inl ⟨_, rfl⟩) H
      · cases e9
    · rintro q9 h9 (⟨v9, e9, -⟩ | ⟨ci9, q8, e9, -, -, hx⟩)
      · cases e9
      · exact hx.elim
  · replace H := H.2 g1
    refine e_iconst (1) dJ4_put_2_211 (by decide) ?_
    refine e_goto 216 dJ4_put_2_212 (by decide) ?_
    obtain ⟨fsg11, g11o, H⟩ := H
    obtain ⟨d12, k13, n14, Q15, g11, g11d, g11k, g11n, H⟩ := H
    refine e_callV (r := (RJ4, TJ4, 9)) (As := [.ref a1, .ref a2, va_rf a6, .int (1 : Int32)]) g11 dJ4_put_2_216 wJ4_addEntry q641 q643 qs2 g11o rfl rfl g11d rfl (Nat.le_of_ble_eq_true rfl) (k1 := k - k13) (n1 := n - n14) (by omega) (by omega) ?_ ?_
    · rintro v h10 (⟨v9, e9, e8, hq⟩ | ⟨ci9, q9, e9, -⟩)
      · cases e9
        subst e8
        replace H := H h10 hq
        refine e_null dJ4_put_2_219 ?_
        exact e_areturn (r := none) _ dJ4_put_2_220 rfl (Or.inl ⟨_, rfl⟩) H
      · cases e9
    · rintro q9 h9 (⟨v9, e9, -⟩ | ⟨ci9, q8, e9, -, -, hx⟩)
      · cases e9
      · exact hx.elim
theorem en_J4_put_2 {l : Launch} {lo : Nat} {G : eG} {d : Nat} {P : eO → eH → Prop} (a0 : Nat) (a1 : Nat) (a2 : Nat) (a3 : Int32) {h : eH} {k n : Nat} (H : h_J4_put_2_0 (l, lo, G, d, P) a0 a1 a2 a3 h k n) : Ct l lo G d mJ4_put_2 [.ref a0, .ref a1, .ref a2, .int a3] h k n P := 
  Ct_of (eArL mJ4_put_2.2.2.2.1 [.ref a0, .ref a1, .ref a2, .int a3]) (by decide) rfl (Nat.le_of_ble_eq_true rfl) (fun j w q => eArL_mem j w q) (E.less2 H (eS_s (eS_s (eS_s (eS_s (eS_n (eS_n (eS_n (eS_n (eS_n (eS_n eS_0)))))))))))
/-! J4_addEntryToEmptyMap java/util/TreeMap.addEntryToEmptyMap(Ljava/lang/Object;Ljava/lang/Object;)V -/
def h_J4_addEntryToEmptyMap_0 (c : cC) (a0 : Nat) (a1 : Nat) (a2 : Nat) (h : eH) (k n : Nat) : Prop := E c.1 c.2.1 c.2.2.1 c.2.2.2.1 mJ4_addEntryToEmptyMap c.2.2.2.2 0 [some (.ref a0), some (.ref a1), some (.ref a2)] [] h k n
set_option maxHeartbeats 4000000 in
theorem s_J4_addEntryToEmptyMap_0 (c : cC) (a0 : Nat) (a1 : Nat) (a2 : Nat) (h : eH) (k n : Nat) (H : ∃ fs8 : List Value, h.1 a0 = some (.inr (16, fs8)) ∧ ∃ (d4 k5 n6 : Nat) (Q7 : Int32 → eH → Prop), cI c.1 c.2.1 c.2.2.1 d4 mJ4_compare [.ref a0, .ref a1, .ref a1] h k5 n6 Q7 cX0 ∧ d4 + 1 ≤ c.2.2.2.1 ∧ k5 ≤ k ∧ n6 ≤ n ∧ (∀ (r1 : Int32) (h2 : eH), Q7 r1 h2 → (1 ≤ k - k5 ∧ 6 ≤ n - n6 ∧ ∀ h8 : eH, h8 = eNw h2 (.inr (19, [.null, .null, .null, .null, .null, .int 0])) → (∃ (d13 k14 n15 : Nat) (Q16 : eH → Prop), cV c.1 c.2.1 c.2.2.1 d13 mJ15_init [.ref h2.2, .ref a1, .ref a2, .null] h8 k14 n15 Q16 cX0 ∧ d13 + 1 ≤ c.2.2.2.1 ∧ k14 ≤ k - k5 - 1 ∧ n15 ≤ n - n6 - 6 ∧ (∀ h11 : eH, Q16 h11 → (∃ fs17 : List Value, h11.1 a0 = some (.inr (16, fs17)) ∧ c.2.1 ≤ a0 ∧ 3 < fs17.length ∧ ∀ h19 : eH, h19 = eUp h11 a0 (.inr (16, fs17.set 3 (.ref h2.2))) → (∃ fs20 : List Value, h19.1 a0 = some (.inr (16, fs20)) ∧ c.2.1 ≤ a0 ∧ 4 < fs20.length ∧ ∀ h22 : eH, h22 = eUp h19 a0 (.inr (16, fs20.set 4 (.int (1 : Int32)))) → (∃ x23 : Int32, fV h22 a0 16 5 (.int x23) ∧ (∃ fs25 : List Value, h22.1 a0 = some (.inr (16, fs25)) ∧ c.2.1 ≤ a0 ∧ 5 < fs25.length ∧ ∀ h27 : eH, h27 = eUp h22 a0 (.inr (16, fs25.set 5 (.int (x23 + (1 : Int32))))) → (c.2.2.2.2 (.inl none) h27)))))))))) : h_J4_addEntryToEmptyMap_0 c a0 a1 a2 h k n := by
  refine e_aload_n dJ4_addEntryToEmptyMap_0 rfl ?_
  refine e_aload_n dJ4_addEntryToEmptyMap_1 rfl ?_
  refine e_aload_n dJ4_addEntryToEmptyMap_2 rfl ?_
  obtain ⟨fsg3, g3o, H⟩ := H
  obtain ⟨d4, k5, n6, Q7, g3, g3d, g3k, g3n, H⟩ := H
  refine e_callV (r := (RJ4, TJ4, 9)) (As := [.ref a1, .ref a1]) g3 dJ4_addEntryToEmptyMap_3 wJ4_compare q336 q337 q338 g3o rfl rfl g3d rfl (Nat.le_of_ble_eq_true rfl) (k1 := k - k5) (n1 := n - n6) (by omega) (by omega) ?_ ?_
  · rintro v h2 (⟨v9, e9, r1, e8, hq⟩ | ⟨ci9, q9, e9, -⟩)
    · cases e9
      subst e8
      replace H := H r1 h2 hq
      refine e_pop dJ4_addEntryToEmptyMap_6 rfl ?_
      refine e_aload_n dJ4_addEntryToEmptyMap_7 rfl ?_
      obtain ⟨g9, g9n, H⟩ := H
      refine e_new (ci := 19) (N := 6) (C := RJ15) (T := TJ15) tyJ15 (fs := [.null, .null, .null, .null, .null, .int 0]) dJ4_addEntryToEmptyMap_8 rfl in_J15 tyJ15_ok q608 q609 q154 (by decide) (k1 := k - k5 - 1) (n1 := n - n6 - 6) (by omega) (by omega) ?_
      replace H := H _ rfl
      generalize eNw h2 _ = h8 at H ⊢
      refine e_dup dJ4_addEntryToEmptyMap_11 rfl ?_
      refine e_aload_n dJ4_addEntryToEmptyMap_12 rfl ?_
      refine e_aload_n dJ4_addEntryToEmptyMap_13 rfl ?_
      refine e_null dJ4_addEntryToEmptyMap_14 ?_
      obtain ⟨d13, k14, n15, Q16, g12, g12d, g12k, g12n, H⟩ := H
      refine e_callI (As := [.ref a1, .ref a2, .null]) g12 dJ4_addEntryToEmptyMap_15 wJ15_init rfl rfl rfl q610 q611 rfl g12d rfl (Nat.le_of_ble_eq_true rfl) (k1 := k - k5 - 1 - k14) (n1 := n - n6 - 6 - n15) (by omega) (by omega) ?_ ?_
      · rintro v h11 (⟨v9, e9, e8, hq⟩ | ⟨ci9, q9, e9, -⟩)
        · cases e9
          subst e8
          replace H := H h11 hq
          obtain ⟨fs17, g18, g18l, g18j, H⟩ := H
          refine e_put dJ4_addEntryToEmptyMap_18 fJ4_3 q267 (eFit_or _ _) g18 g18l g18j ?_
          replace H := H _ rfl
          generalize eUp h11 a0 _ = h19 at H ⊢
          refine e_aload_n dJ4_addEntryToEmptyMap_21 rfl ?_
          refine e_iconst (1) dJ4_addEntryToEmptyMap_22 (by decide) ?_
          obtain ⟨fs20, g21, g21l, g21j, H⟩ := H
          refine e_put dJ4_addEntryToEmptyMap_23 fJ4_4 q268 (eFit_i _) g21 g21l g21j ?_
          replace H := H _ rfl
          generalize eUp h19 a0 _ = h22 at H ⊢
          refine e_aload_n dJ4_addEntryToEmptyMap_26 rfl ?_
          refine e_dup dJ4_addEntryToEmptyMap_27 rfl ?_
          obtain ⟨x23, ⟨fsx23, g24, g24v⟩, H⟩ := H
          refine e_get dJ4_addEntryToEmptyMap_28 fJ4_5 q269 g24 g24v ?_
          refine e_iconst (1) dJ4_addEntryToEmptyMap_31 (by decide) ?_
          refine e_iadd dJ4_addEntryToEmptyMap_32 ?_
          obtain ⟨fs25, g26, g26l, g26j, H⟩ := H
          refine e_put dJ4_addEntryToEmptyMap_33 fJ4_5 q269 (eFit_i _) g26 g26l g26j ?_
          replace H := H _ rfl
          generalize eUp h22 a0 _ = h27 at H ⊢
          exact e_return dJ4_addEntryToEmptyMap_36 rfl H
        · cases e9
      · rintro q9 h9 (⟨v9, e9, -⟩ | ⟨ci9, q8, e9, -, -, hx⟩)
        · cases e9
        · exact hx.elim
    · cases e9
  · rintro q9 h9 (⟨v9, e9, -⟩ | ⟨ci9, q8, e9, -, -, hx⟩)
    · cases e9
    · exact hx.elim
theorem en_J4_addEntryToEmptyMap {l : Launch} {lo : Nat} {G : eG} {d : Nat} {P : eO → eH → Prop} (a0 : Nat) (a1 : Nat) (a2 : Nat) {h : eH} {k n : Nat} (H : h_J4_addEntryToEmptyMap_0 (l, lo, G, d, P) a0 a1 a2 h k n) : Ct l lo G d mJ4_addEntryToEmptyMap [.ref a0, .ref a1, .ref a2] h k n P := 
  Ct_of (eArL mJ4_addEntryToEmptyMap.2.2.2.1 [.ref a0, .ref a1, .ref a2]) (by decide) rfl (Nat.le_of_ble_eq_true rfl) (fun j w q => eArL_mem j w q) (E.less2 H (eS_s (eS_s (eS_s eS_0))))
/-! J4_compare java/util/TreeMap.compare(Ljava/lang/Object;Ljava/lang/Object;)I -/
def h_J4_compare_0 (c : cC) (a0 : Nat) (a1 : Nat) (a2 : Nat) (h : eH) (k n : Nat) : Prop := E c.1 c.2.1 c.2.2.1 c.2.2.2.1 mJ4_compare c.2.2.2.2 0 [some (.ref a0), some (.ref a1), some (.ref a2)] [] h k n
set_option maxHeartbeats 4000000 in
theorem s_J4_compare_0 (c : cC) (a0 : Nat) (a1 : Nat) (a2 : Nat) (h : eH) (k n : Nat) (H : ∃ x1 : Option Nat, fV h a0 16 2 (va_rf x1) ∧ ((x1 = none → eCs c.2.2.1 h a1 "java/lang/Comparable" ∧ (∃ fs8 : List Value, h.1 a1 = some (.inr (2, fs8)) ∧ ∃ (d9 k10 n11 : Nat) (Q12 : Int32 → eH → Prop), cI c.1 c.2.1 c.2.2.1 d9 mX2_compareTo [.ref a1, .ref a2] h k10 n11 Q12 cX0 ∧ d9 + 1 ≤ c.2.2.2.1 ∧ k10 ≤ k ∧ n11 ≤ n ∧ (∀ (r6 : Int32) (h7 : eH), Q12 r6 h7 → (c.2.2.2.2 (.inl (some (.int r6))) h7)))) ∧ (∀ o3 : Nat, x1 = some o3 → ∃ x13 : Option Nat, fV h a0 16 2 (va_rf x13) ∧ (∃ o15 : Nat, x13 = some o15 ∧ ∃ fs8 : List Value, h.1 o15 = some (.inr (4, fs8)) ∧ ∃ (d19 k20 n21 : Nat) (Q22 : Int32 → eH → Prop), cI c.1 c.2.1 c.2.2.1 d19 mX4_compare [.ref o15, .ref a1, .ref a2] h k20 n21 Q22 cX0 ∧ d19 + 1 ≤ c.2.2.2.1 ∧ k20 ≤ k ∧ n21 ≤ n ∧ (∀ (r16 : Int32) (h17 : eH), Q22 r16 h17 → (c.2.2.2.2 (.inl (some (.int r16))) h17)))))) : h_J4_compare_0 c a0 a1 a2 h k n := by
  refine e_aload_n dJ4_compare_0 rfl ?_
  obtain ⟨x1, ⟨fsx1, g2, g2v⟩, H⟩ := H
  refine e_get dJ4_compare_1 fJ4_2 q266 g2 g2v ?_
  refine e_ifnonnull (r := x1) 20 dJ4_compare_4 (by decide) (fun o3 g4 => ?_) (fun g4 => ?_)
  · subst g4
    replace H := H.2 o3 rfl
    refine e_aload_n dJ4_compare_20 rfl ?_
    obtain ⟨x13, ⟨fsx13, g14, g14v⟩, H⟩ := H
    refine e_get dJ4_compare_21 fJ4_2 q266 g14 g14v ?_
    refine e_aload_n dJ4_compare_24 rfl ?_
    refine e_aload_n dJ4_compare_25 rfl ?_
    obtain ⟨o15, eo15, H⟩ := H
    subst eo15
    obtain ⟨fsg18, g18o, H⟩ := H
    obtain ⟨d19, k20, n21, Q22, g18, g18d, g18k, g18n, H⟩ := H
    refine e_callF (i := 0) (r := ("TroupeSums$BySize", TX4, 0)) (As := [.ref a1, .ref a2]) g18 dJ4_compare_26 wX4_compare rfl rfl q593 q599 q597 g18o rfl rfl g18d rfl (Nat.le_of_ble_eq_true rfl) (k1 := k - k20) (n1 := n - n21) (by omega) (by omega) ?_ ?_
    · rintro v h17 (⟨v9, e9, r16, e8, hq⟩ | ⟨ci9, q9, e9, -⟩)
      · cases e9
        subst e8
        replace H := H r16 h17 hq
        exact e_ireturn .int dJ4_compare_31 rfl rfl H
      · cases e9
    · rintro q9 h9 (⟨v9, e9, -⟩ | ⟨ci9, q8, e9, -, -, hx⟩)
      · cases e9
      · exact hx.elim
  · subst g4
    replace H := H.1 rfl
    refine e_aload_n dJ4_compare_7 rfl ?_
    obtain ⟨g5, H⟩ := H
    refine c_castR dJ4_compare_8 q340 g5 ?_
    refine e_aload_n dJ4_compare_11 rfl ?_
    obtain ⟨fsg8, g8o, H⟩ := H
    obtain ⟨d9, k10, n11, Q12, g8, g8d, g8k, g8n, H⟩ := H
    refine e_callF (i := 1) (r := (RX2, TX2, 1)) (As := [.ref a2]) g8 dJ4_compare_12 wX2_compareTo rfl rfl q342 q348 q346 g8o rfl rfl g8d rfl (Nat.le_of_ble_eq_true rfl) (k1 := k - k10) (n1 := n - n11) (by omega) (by omega) ?_ ?_
    · rintro v h7 (⟨v9, e9, r6, e8, hq⟩ | ⟨ci9, q9, e9, -⟩)
      · cases e9
        subst e8
        replace H := H r6 h7 hq
        refine e_goto 31 dJ4_compare_17 (by decide) ?_
        exact e_ireturn .int dJ4_compare_31 rfl rfl H
      · cases e9
    · rintro q9 h9 (⟨v9, e9, -⟩ | ⟨ci9, q8, e9, -, -, hx⟩)
      · cases e9
      · exact hx.elim
theorem en_J4_compare {l : Launch} {lo : Nat} {G : eG} {d : Nat} {P : eO → eH → Prop} (a0 : Nat) (a1 : Nat) (a2 : Nat) {h : eH} {k n : Nat} (H : h_J4_compare_0 (l, lo, G, d, P) a0 a1 a2 h k n) : Ct l lo G d mJ4_compare [.ref a0, .ref a1, .ref a2] h k n P := 
  Ct_of (eArL mJ4_compare.2.2.2.1 [.ref a0, .ref a1, .ref a2]) (by decide) rfl (Nat.le_of_ble_eq_true rfl) (fun j w q => eArL_mem j w q) (E.less2 H (eS_s (eS_s (eS_s eS_0))))
/-! J4_addEntry java/util/TreeMap.addEntry(Ljava/lang/Object;Ljava/lang/Object;Ljava/util/TreeMap$Entry;Z)V -/
def h_J4_addEntry_0 (c : cC) (a0 : Nat) (a1 : Nat) (a2 : Nat) (a3 : Nat) (a4 : Int32) (h : eH) (k n : Nat) : Prop := E c.1 c.2.1 c.2.2.1 c.2.2.2.1 mJ4_addEntry c.2.2.2.2 0 [some (.ref a0), some (.ref a1), some (.ref a2), some (.ref a3), some (.int a4), none] [] h k n
def h_J4_addEntry_32 (c : cC) (a0 : Nat) (a5 : Nat) (h : eH) (k n : Nat) : Prop := E c.1 c.2.1 c.2.2.1 c.2.2.2.1 mJ4_addEntry c.2.2.2.2 32 [some (.ref a0), none, none, none, none, some (.ref a5)] [] h k n
set_option maxHeartbeats 4000000 in
theorem s_J4_addEntry_0 (c : cC) (a0 : Nat) (a1 : Nat) (a2 : Nat) (a3 : Nat) (a4 : Int32) (h : eH) (k n : Nat) (H : 1 ≤ k ∧ 6 ≤ n ∧ ∀ h1 : eH, h1 = eNw h (.inr (19, [.null, .null, .null, .null, .null, .int 0])) → (∃ (d6 k7 n8 : Nat) (Q9 : eH → Prop), cV c.1 c.2.1 c.2.2.1 d6 mJ15_init [.ref h.2, .ref a1, .ref a2, .ref a3] h1 k7 n8 Q9 cX0 ∧ d6 + 1 ≤ c.2.2.2.1 ∧ k7 ≤ k - 1 ∧ n8 ≤ n - 6 ∧ (∀ h4 : eH, Q9 h4 → ((a4 = 0 → ∃ fs11 : List Value, h4.1 a3 = some (.inr (19, fs11)) ∧ c.2.1 ≤ a3 ∧ 3 < fs11.length ∧ ∀ h13 : eH, h13 = eUp h4 a3 (.inr (19, fs11.set 3 (.ref h.2))) → (h_J4_addEntry_32 c a0 h.2 h13 (k - 1 - k7) (n - 6 - n8))) ∧ (¬ a4 = 0 → ∃ fs14 : List Value, h4.1 a3 = some (.inr (19, fs14)) ∧ c.2.1 ≤ a3 ∧ 2 < fs14.length ∧ ∀ h16 : eH, h16 = eUp h4 a3 (.inr (19, fs14.set 2 (.ref h.2))) → (h_J4_addEntry_32 c a0 h.2 h16 (k - 1 - k7) (n - 6 - n8))))))) : h_J4_addEntry_0 c a0 a1 a2 a3 a4 h k n := by
  obtain ⟨g2, g2n, H⟩ := H
  refine e_new (ci := 19) (N := 6) (C := RJ15) (T := TJ15) tyJ15 (fs := [.null, .null, .null, .null, .null, .int 0]) dJ4_addEntry_0 rfl in_J15 tyJ15_ok q608 q609 q154 (by decide) (k1 := k - 1) (n1 := n - 6) (by omega) (by omega) ?_
  replace H := H _ rfl
  generalize eNw h _ = h1 at H ⊢
  refine e_dup dJ4_addEntry_3 rfl ?_
  refine e_aload_n dJ4_addEntry_4 rfl ?_
  refine e_aload_n dJ4_addEntry_5 rfl ?_
  refine e_aload_n dJ4_addEntry_6 rfl ?_
  obtain ⟨d6, k7, n8, Q9, g5, g5d, g5k, g5n, H⟩ := H
  refine e_callI (As := [.ref a1, .ref a2, .ref a3]) g5 dJ4_addEntry_7 wJ15_init rfl rfl rfl q610 q611 rfl g5d rfl (Nat.le_of_ble_eq_true rfl) (k1 := k - 1 - k7) (n1 := n - 6 - n8) (by omega) (by omega) ?_ ?_
  · rintro v h4 (⟨v9, e9, e8, hq⟩ | ⟨ci9, q9, e9, -⟩)
    · cases e9
      subst e8
      replace H := H h4 hq
      refine e_astore _ dJ4_addEntry_10 (by decide) rfl rfl ?_
      refine e_iload dJ4_addEntry_12 rfl ?_
      refine e_if_eq 26 dJ4_addEntry_14 (by decide) (fun g10 => ?_) (fun g10 => ?_)
      · replace H := H.1 g10
        refine e_aload_n dJ4_addEntry_26 rfl ?_
        refine e_aload dJ4_addEntry_27 rfl ?_
        obtain ⟨fs11, g12, g12l, g12j, H⟩ := H
        refine e_put dJ4_addEntry_29 fJ15_3 q620 (eFit_or _ _) g12 g12l g12j ?_
        replace H := H _ rfl
        generalize eUp h4 a3 _ = h13 at H ⊢
        exact E.less2 H (eS_s (eS_n (eS_n (eS_n (eS_n (eS_s eS_0))))))
      · replace H := H.2 g10
        refine e_aload_n dJ4_addEntry_17 rfl ?_
        refine e_aload dJ4_addEntry_18 rfl ?_
        obtain ⟨fs14, g15, g15l, g15j, H⟩ := H
        refine e_put dJ4_addEntry_20 fJ15_2 q619 (eFit_or _ _) g15 g15l g15j ?_
        replace H := H _ rfl
        generalize eUp h4 a3 _ = h16 at H ⊢
        refine e_goto 32 dJ4_addEntry_23 (by decide) ?_
        exact E.less2 H (eS_s (eS_n (eS_n (eS_n (eS_n (eS_s eS_0))))))
    · cases e9
  · rintro q9 h9 (⟨v9, e9, -⟩ | ⟨ci9, q8, e9, -, -, hx⟩)
    · cases e9
    · exact hx.elim
set_option maxHeartbeats 4000000 in
theorem s_J4_addEntry_32 (c : cC) (a0 : Nat) (a5 : Nat) (h : eH) (k n : Nat) (H : ∃ fs8 : List Value, h.1 a0 = some (.inr (16, fs8)) ∧ ∃ (d4 k5 n6 : Nat) (Q7 : eH → Prop), cV c.1 c.2.1 c.2.2.1 d4 mJ4_fixAfterInsertion [.ref a0, .ref a5] h k5 n6 Q7 cX0 ∧ d4 + 1 ≤ c.2.2.2.1 ∧ k5 ≤ k ∧ n6 ≤ n ∧ (∀ h2 : eH, Q7 h2 → (∃ x8 : Int32, fV h2 a0 16 4 (.int x8) ∧ (∃ fs10 : List Value, h2.1 a0 = some (.inr (16, fs10)) ∧ c.2.1 ≤ a0 ∧ 4 < fs10.length ∧ ∀ h12 : eH, h12 = eUp h2 a0 (.inr (16, fs10.set 4 (.int (x8 + (1 : Int32))))) → (∃ x13 : Int32, fV h12 a0 16 5 (.int x13) ∧ (∃ fs15 : List Value, h12.1 a0 = some (.inr (16, fs15)) ∧ c.2.1 ≤ a0 ∧ 5 < fs15.length ∧ ∀ h17 : eH, h17 = eUp h12 a0 (.inr (16, fs15.set 5 (.int (x13 + (1 : Int32))))) → (c.2.2.2.2 (.inl none) h17))))))) : h_J4_addEntry_32 c a0 a5 h k n := by
  refine e_aload_n dJ4_addEntry_32 rfl ?_
  refine e_aload dJ4_addEntry_33 rfl ?_
  obtain ⟨fsg3, g3o, H⟩ := H
  obtain ⟨d4, k5, n6, Q7, g3, g3d, g3k, g3n, H⟩ := H
  refine e_callV (r := (RJ4, TJ4, 9)) (As := [.ref a5]) g3 dJ4_addEntry_35 wJ4_fixAfterInsertion q645 q647 qs3 g3o rfl rfl g3d rfl (Nat.le_of_ble_eq_true rfl) (k1 := k - k5) (n1 := n - n6) (by omega) (by omega) ?_ ?_
  · rintro v h2 (⟨v9, e9, e8, hq⟩ | ⟨ci9, q9, e9, -⟩)
    · cases e9
      subst e8
      replace H := H h2 hq
      refine e_aload_n dJ4_addEntry_38 rfl ?_
      refine e_dup dJ4_addEntry_39 rfl ?_
      obtain ⟨x8, ⟨fsx8, g9, g9v⟩, H⟩ := H
      refine e_get dJ4_addEntry_40 fJ4_4 q268 g9 g9v ?_
      refine e_iconst (1) dJ4_addEntry_43 (by decide) ?_
      refine e_iadd dJ4_addEntry_44 ?_
      obtain ⟨fs10, g11, g11l, g11j, H⟩ := H
      refine e_put dJ4_addEntry_45 fJ4_4 q268 (eFit_i _) g11 g11l g11j ?_
      replace H := H _ rfl
      generalize eUp h2 a0 _ = h12 at H ⊢
      refine e_aload_n dJ4_addEntry_48 rfl ?_
      refine e_dup dJ4_addEntry_49 rfl ?_
      obtain ⟨x13, ⟨fsx13, g14, g14v⟩, H⟩ := H
      refine e_get dJ4_addEntry_50 fJ4_5 q269 g14 g14v ?_
      refine e_iconst (1) dJ4_addEntry_53 (by decide) ?_
      refine e_iadd dJ4_addEntry_54 ?_
      obtain ⟨fs15, g16, g16l, g16j, H⟩ := H
      refine e_put dJ4_addEntry_55 fJ4_5 q269 (eFit_i _) g16 g16l g16j ?_
      replace H := H _ rfl
      generalize eUp h12 a0 _ = h17 at H ⊢
      exact e_return dJ4_addEntry_58 rfl H
    · cases e9
  · rintro q9 h9 (⟨v9, e9, -⟩ | ⟨ci9, q8, e9, -, -, hx⟩)
    · cases e9
    · exact hx.elim
theorem en_J4_addEntry {l : Launch} {lo : Nat} {G : eG} {d : Nat} {P : eO → eH → Prop} (a0 : Nat) (a1 : Nat) (a2 : Nat) (a3 : Nat) (a4 : Int32) {h : eH} {k n : Nat} (H : h_J4_addEntry_0 (l, lo, G, d, P) a0 a1 a2 a3 a4 h k n) : Ct l lo G d mJ4_addEntry [.ref a0, .ref a1, .ref a2, .ref a3, .int a4] h k n P := 
  Ct_of (eArL mJ4_addEntry.2.2.2.1 [.ref a0, .ref a1, .ref a2, .ref a3, .int a4]) (by decide) rfl (Nat.le_of_ble_eq_true rfl) (fun j w q => eArL_mem j w q) (E.less2 H (eS_s (eS_s (eS_s (eS_s (eS_s (eS_n eS_0)))))))
/-! J4_fixAfterInsertion java/util/TreeMap.fixAfterInsertion(Ljava/util/TreeMap$Entry;)V -/
def h_J4_fixAfterInsertion_0 (c : cC) (a0 : Nat) (a1 : Nat) (h : eH) (k n : Nat) : Prop := E c.1 c.2.1 c.2.2.1 c.2.2.2.1 mJ4_fixAfterInsertion c.2.2.2.2 0 [some (.ref a0), some (.ref a1), none] [] h k n
def h_J4_fixAfterInsertion_5 (c : cC) (a0 : Nat) (a1 : Option Nat) (h : eH) (k n : Nat) : Prop := E c.1 c.2.1 c.2.2.1 c.2.2.2.1 mJ4_fixAfterInsertion c.2.2.2.2 5 [some (.ref a0), some (va_rf a1), none] [] h k n
def h_J4_fixAfterInsertion_118 (c : cC) (a0 : Nat) (a1 : Option Nat) (h : eH) (k n : Nat) : Prop := E c.1 c.2.1 c.2.2.1 c.2.2.2.1 mJ4_fixAfterInsertion c.2.2.2.2 118 [some (.ref a0), some (va_rf a1), none] [] h k n
def h_J4_fixAfterInsertion_148 (c : cC) (a0 : Nat) (a1 : Option Nat) (h : eH) (k n : Nat) : Prop := E c.1 c.2.1 c.2.2.1 c.2.2.2.1 mJ4_fixAfterInsertion c.2.2.2.2 148 [some (.ref a0), some (va_rf a1), none] [] h k n
def h_J4_fixAfterInsertion_225 (c : cC) (a0 : Nat) (a1 : Option Nat) (h : eH) (k n : Nat) : Prop := E c.1 c.2.1 c.2.2.1 c.2.2.2.1 mJ4_fixAfterInsertion c.2.2.2.2 225 [some (.ref a0), some (va_rf a1), none] [] h k n
def h_J4_fixAfterInsertion_255 (c : cC) (a0 : Nat) (a1 : Option Nat) (h : eH) (k n : Nat) : Prop := E c.1 c.2.1 c.2.2.1 c.2.2.2.1 mJ4_fixAfterInsertion c.2.2.2.2 255 [some (.ref a0), some (va_rf a1), none] [] h k n
def h_J4_fixAfterInsertion_258 (c : cC) (a0 : Nat) (h : eH) (k n : Nat) : Prop := E c.1 c.2.1 c.2.2.1 c.2.2.2.1 mJ4_fixAfterInsertion c.2.2.2.2 258 [some (.ref a0), none, none] [] h k n
set_option maxHeartbeats 4000000 in
theorem s_J4_fixAfterInsertion_0 (c : cC) (a0 : Nat) (a1 : Nat) (h : eH) (k n : Nat) (H : ∃ fs1 : List Value, h.1 a1 = some (.inr (19, fs1)) ∧ c.2.1 ≤ a1 ∧ 5 < fs1.length ∧ ∀ h3 : eH, h3 = eUp h a1 (.inr (19, fs1.set 5 (.int (0 : Int32)))) → (h_J4_fixAfterInsertion_5 c a0 (some a1) h3 k n)) : h_J4_fixAfterInsertion_0 c a0 a1 h k n := by
  refine e_aload_n dJ4_fixAfterInsertion_0 rfl ?_
  refine e_iconst (0) dJ4_fixAfterInsertion_1 (by decide) ?_
  obtain ⟨fs1, g2, g2l, g2j, H⟩ := H
  refine e_put dJ4_fixAfterInsertion_2 fJ15_5 q624 eFit_z0 g2 g2l g2j ?_
  replace H := H _ rfl
  generalize eUp h a1 _ = h3 at H ⊢
  exact E.less2 H (eS_s (eS_s (eS_n eS_0)))
set_option maxHeartbeats 4000000 in
theorem s_J4_fixAfterInsertion_5 (c : cC) (a0 : Nat) (a1 : Option Nat) (h : eH) (k n : Nat) (H : (a1 = none → h_J4_fixAfterInsertion_258 c a0 h k n) ∧ (∀ o1 : Nat, a1 = some o1 → ∃ x3 : Option Nat, fV h a0 16 3 (va_rf x3) ∧ ((some o1 = x3 → h_J4_fixAfterInsertion_258 c a0 h k n) ∧ (¬ some o1 = x3 → ∃ x6 : Option Nat, fV h o1 19 4 (va_rf x6) ∧ (∃ o8 : Nat, x6 = some o8 ∧ ∃ x9 : Int32, fV h o8 19 5 (.int x9) ∧ ((¬ x9 = 0 → h_J4_fixAfterInsertion_258 c a0 h k n) ∧ (x9 = 0 → ∃ (d15 k16 n17 : Nat) (Q18 : Option Nat → eH → Prop), cQ c.1 c.2.1 c.2.2.1 d15 mJ4_parentOf [.ref o1] h k16 n17 Q18 cX0 ∧ d15 + 1 ≤ c.2.2.2.1 ∧ k16 ≤ k ∧ n17 ≤ n ∧ (∀ (r12 : Option Nat) (h13 : eH), Q18 r12 h13 → (∃ (d22 k23 n24 : Nat) (Q25 : Option Nat → eH → Prop), cQ c.1 c.2.1 c.2.2.1 d22 mJ4_parentOf [.ref o1] h13 k23 n24 Q25 cX0 ∧ d22 + 1 ≤ c.2.2.2.1 ∧ k23 ≤ k - k16 ∧ n24 ≤ n - n17 ∧ (∀ (r19 : Option Nat) (h20 : eH), Q25 r19 h20 → (∃ (d29 k30 n31 : Nat) (Q32 : Option Nat → eH → Prop), cQ c.1 c.2.1 c.2.2.1 d29 mJ4_parentOf [va_rf r19] h20 k30 n31 Q32 cX0 ∧ d29 + 1 ≤ c.2.2.2.1 ∧ k30 ≤ k - k16 - k23 ∧ n31 ≤ n - n17 - n24 ∧ (∀ (r26 : Option Nat) (h27 : eH), Q32 r26 h27 → (∃ (d36 k37 n38 : Nat) (Q39 : Option Nat → eH → Prop), cQ c.1 c.2.1 c.2.2.1 d36 mJ4_leftOf [va_rf r26] h27 k37 n38 Q39 cX0 ∧ d36 + 1 ≤ c.2.2.2.1 ∧ k37 ≤ k - k16 - k23 - k30 ∧ n38 ≤ n - n17 - n24 - n31 ∧ (∀ (r33 : Option Nat) (h34 : eH), Q39 r33 h34 → ((¬ r12 = r33 → ∃ (d44 k45 n46 : Nat) (Q47 : Option Nat → eH → Prop), cQ c.1 c.2.1 c.2.2.1 d44 mJ4_parentOf [.ref o1] h34 k45 n46 Q47 cX0 ∧ d44 + 1 ≤ c.2.2.2.1 ∧ k45 ≤ k - k16 - k23 - k30 - k37 ∧ n46 ≤ n - n17 - n24 - n31 - n38 ∧ (∀ (r41 : Option Nat) (h42 : eH), Q47 r41 h42 → (∃ (d51 k52 n53 : Nat) (Q54 : Option Nat → eH → Prop), cQ c.1 c.2.1 c.2.2.1 d51 mJ4_parentOf [va_rf r41] h42 k52 n53 Q54 cX0 ∧ d51 + 1 ≤ c.2.2.2.1 ∧ k52 ≤ k - k16 - k23 - k30 - k37 - k45 ∧ n53 ≤ n - n17 - n24 - n31 - n38 - n46 ∧ (∀ (r48 : Option Nat) (h49 : eH), Q54 r48 h49 → (∃ (d58 k59 n60 : Nat) (Q61 : Option Nat → eH → Prop), cQ c.1 c.2.1 c.2.2.1 d58 mJ4_leftOf [va_rf r48] h49 k59 n60 Q61 cX0 ∧ d58 + 1 ≤ c.2.2.2.1 ∧ k59 ≤ k - k16 - k23 - k30 - k37 - k45 - k52 ∧ n60 ≤ n - n17 - n24 - n31 - n38 - n46 - n53 ∧ (∀ (r55 : Option Nat) (h56 : eH), Q61 r55 h56 → (∃ (d65 k66 n67 : Nat) (Q68 : Int32 → eH → Prop), cI c.1 c.2.1 c.2.2.1 d65 mJ4_colorOf [va_rf r55] h56 k66 n67 Q68 cX0 ∧ d65 + 1 ≤ c.2.2.2.1 ∧ k66 ≤ k - k16 - k23 - k30 - k37 - k45 - k52 - k59 ∧ n67 ≤ n - n17 - n24 - n31 - n38 - n46 - n53 - n60 ∧ (∀ (r62 : Int32) (h63 : eH), Q68 r62 h63 → ((¬ r62 = 0 → ∃ (d73 k74 n75 : Nat) (Q76 : Option Nat → eH → Prop), cQ c.1 c.2.1 c.2.2.1 d73 mJ4_parentOf [.ref o1] h63 k74 n75 Q76 cX0 ∧ d73 + 1 ≤ c.2.2.2.1 ∧ k74 ≤ k - k16 - k23 - k30 - k37 - k45 - k52 - k59 - k66 ∧ n75 ≤ n - n17 - n24 - n31 - n38 - n46 - n53 - n60 - n67 ∧ (∀ (r70 : Option Nat) (h71 : eH), Q76 r70 h71 → (∃ (d80 k81 n82 : Nat) (Q83 : Option Nat → eH → Prop), cQ c.1 c.2.1 c.2.2.1 d80 mJ4_leftOf [va_rf r70] h71 k81 n82 Q83 cX0 ∧ d80 + 1 ≤ c.2.2.2.1 ∧ k81 ≤ k - k16 - k23 - k30 - k37 - k45 - k52 - k59 - k66 - k74 ∧ n82 ≤ n - n17 - n24 - n31 - n38 - n46 - n53 - n60 - n67 - n75 ∧ (∀ (r77 : Option Nat) (h78 : eH), Q83 r77 h78 → ((¬ some o1 = r77 → h_J4_fixAfterInsertion_225 c a0 (some o1) h78 (k - k16 - k23 - k30 - k37 - k45 - k52 - k59 - k66 - k74 - k81) (n - n17 - n24 - n31 - n38 - n46 - n53 - n60 - n67 - n75 - n82)) ∧ (some o1 = r77 → ∃ (d88 k89 n90 : Nat) (Q91 : Option Nat → eH → Prop), cQ c.1 c.2.1 c.2.2.1 d88 mJ4_parentOf [.ref o1] h78 k89 n90 Q91 cX0 ∧ d88 + 1 ≤ c.2.2.2.1 ∧ k89 ≤ k - k16 - k23 - k30 - k37 - k45 - k52 - k59 - k66 - k74 - k81 ∧ n90 ≤ n - n17 - n24 - n31 - n38 - n46 - n53 - n60 - n67 - n75 - n82 ∧ (∀ (r85 : Option Nat) (h86 : eH), Q91 r85 h86 → (∃ fs8 : List Value, h86.1 a0 = some (.inr (16, fs8)) ∧ ∃ (d95 k96 n97 : Nat) (Q98 : eH → Prop), cV c.1 c.2.1 c.2.2.1 d95 mJ4_rotateRight [.ref a0, va_rf r85] h86 k96 n97 Q98 cX0 ∧ d95 + 1 ≤ c.2.2.2.1 ∧ k96 ≤ k - k16 - k23 - k30 - k37 - k45 - k52 - k59 - k66 - k74 - k81 - k89 ∧ n97 ≤ n - n17 - n24 - n31 - n38 - n46 - n53 - n60 - n67 - n75 - n82 - n90 ∧ (∀ h93 : eH, Q98 h93 → (h_J4_fixAfterInsertion_225 c a0 r85 h93 (k - k16 - k23 - k30 - k37 - k45 - k52 - k59 - k66 - k74 - k81 - k89 - k96) (n - n17 - n24 - n31 - n38 - n46 - n53 - n60 - n67 - n75 - n82 - n90 - n97))))))))))) ∧ (r62 = 0 → ∃ (d102 k103 n104 : Nat) (Q105 : Option Nat → eH → Prop), cQ c.1 c.2.1 c.2.2.1 d102 mJ4_parentOf [.ref o1] h63 k103 n104 Q105 cX0 ∧ d102 + 1 ≤ c.2.2.2.1 ∧ k103 ≤ k - k16 - k23 - k30 - k37 - k45 - k52 - k59 - k66 ∧ n104 ≤ n - n17 - n24 - n31 - n38 - n46 - n53 - n60 - n67 ∧ (∀ (r99 : Option Nat) (h100 : eH), Q105 r99 h100 → (∃ (d109 k110 n111 : Nat) (Q112 : eH → Prop), cV c.1 c.2.1 c.2.2.1 d109 mJ4_setColor [va_rf r99, .int (1 : Int32)] h100 k110 n111 Q112 cX0 ∧ d109 + 1 ≤ c.2.2.2.1 ∧ k110 ≤ k - k16 - k23 - k30 - k37 - k45 - k52 - k59 - k66 - k103 ∧ n111 ≤ n - n17 - n24 - n31 - n38 - n46 - n53 - n60 - n67 - n104 ∧ (∀ h107 : eH, Q112 h107 → (∃ (d116 k117 n118 : Nat) (Q119 : eH → Prop), cV c.1 c.2.1 c.2.2.1 d116 mJ4_setColor [va_rf r55, .int (1 : Int32)] h107 k117 n118 Q119 cX0 ∧ d116 + 1 ≤ c.2.2.2.1 ∧ k117 ≤ k - k16 - k23 - k30 - k37 - k45 - k52 - k59 - k66 - k103 - k110 ∧ n118 ≤ n - n17 - n24 - n31 - n38 - n46 - n53 - n60 - n67 - n104 - n111 ∧ (∀ h114 : eH, Q119 h114 → (∃ (d123 k124 n125 : Nat) (Q126 : Option Nat → eH → Prop), cQ c.1 c.2.1 c.2.2.1 d123 mJ4_parentOf [.ref o1] h114 k124 n125 Q126 cX0 ∧ d123 + 1 ≤ c.2.2.2.1 ∧ k124 ≤ k - k16 - k23 - k30 - k37 - k45 - k52 - k59 - k66 - k103 - k110 - k117 ∧ n125 ≤ n - n17 - n24 - n31 - n38 - n46 - n53 - n60 - n67 - n104 - n111 - n118 ∧ (∀ (r120 : Option Nat) (h121 : eH), Q126 r120 h121 → (∃ (d130 k131 n132 : Nat) (Q133 : Option Nat → eH → Prop), cQ c.1 c.2.1 c.2.2.1 d130 mJ4_parentOf [va_rf r120] h121 k131 n132 Q133 cX0 ∧ d130 + 1 ≤ c.2.2.2.1 ∧ k131 ≤ k - k16 - k23 - k30 - k37 - k45 - k52 - k59 - k66 - k103 - k110 - k117 - k124 ∧ n132 ≤ n - n17 - n24 - n31 - n38 - n46 - n53 - n60 - n67 - n104 - n111 - n118 - n125 ∧ (∀ (r127 : Option Nat) (h128 : eH), Q133 r127 h128 → (∃ (d137 k138 n139 : Nat) (Q140 : eH → Prop), cV c.1 c.2.1 c.2.2.1 d137 mJ4_setColor [va_rf r127, .int (0 : Int32)] h128 k138 n139 Q140 cX0 ∧ d137 + 1 ≤ c.2.2.2.1 ∧ k138 ≤ k - k16 - k23 - k30 - k37 - k45 - k52 - k59 - k66 - k103 - k110 - k117 - k124 - k131 ∧ n139 ≤ n - n17 - n24 - n31 - n38 - n46 - n53 - n60 - n67 - n104 - n111 - n118 - n125 - n132 ∧ (∀ h135 : eH, Q140 h135 → (∃ (d144 k145 n146 : Nat) (Q147 : Option Nat → eH → Prop), cQ c.1 c.2.1 c.2.2.1 d144 mJ4_parentOf [.ref o1] h135 k145 n146 Q147 cX0 ∧ d144 + 1 ≤ c.2.2.2.1 ∧ k145 ≤ k - k16 - k23 - k30 - k37 - k45 - k52 - k59 - k66 - k103 - k110 - k117 - k124 - k131 - k138 ∧ n146 ≤ n - n17 - n24 - n31 - n38 - n46 - n53 - n60 - n67 - n104 - n111 - n118 - n125 - n132 - n139 ∧ (∀ (r141 : Option Nat) (h142 : eH), Q147 r141 h142 → (∃ (d151 k152 n153 : Nat) (Q154 : Option Nat → eH → Prop), cQ c.1 c.2.1 c.2.2.1 d151 mJ4_parentOf [va_rf r141] h142 k152 n153 Q154 cX0 ∧ d151 + 1 ≤ c.2.2.2.1 ∧ k152 ≤ k - k16 - k23 - k30 - k37 - k45 - k52 - k59 - k66 - k103 - k110 - k117 - k124 - k131 - k138 - k145 ∧ n153 ≤ n - n17 - n24 - n31 - n38 - n46 - n53 - n60 - n67 - n104 - n111 - n118 - n125 - n132 - n139 - n146 ∧ (∀ (r148 : Option Nat) (h149 : eH), Q154 r148 h149 → (h_J4_fixAfterInsertion_255 c a0 r148 h149 (k - k16 - k23 - k30 - k37 - k45 - k52 - k59 - k66 - k103 - k110 - k117 - k124 - k131 - k138 - k145 - k152) (n - n17 - n24 - n31 - n38 - n46 - n53 - n60 - n67 - n104 - n111 - n118 - n125 - n132 - n139 - n146 - n153))))))))))))))))))))))))))) ∧ (r12 = r33 → ∃ (d158 k159 n160 : Nat) (Q161 : Option Nat → eH → Prop), cQ c.1 c.2.1 c.2.2.1 d158 mJ4_parentOf [.ref o1] h34 k159 n160 Q161 cX0 ∧ d158 + 1 ≤ c.2.2.2.1 ∧ k159 ≤ k - k16 - k23 - k30 - k37 ∧ n160 ≤ n - n17 - n24 - n31 - n38 ∧ (∀ (r155 : Option Nat) (h156 : eH), Q161 r155 h156 → (∃ (d165 k166 n167 : Nat) (Q168 : Option Nat → eH → Prop), cQ c.1 c.2.1 c.2.2.1 d165 mJ4_parentOf [va_rf r155] h156 k166 n167 Q168 cX0 ∧ d165 + 1 ≤ c.2.2.2.1 ∧ k166 ≤ k - k16 - k23 - k30 - k37 - k159 ∧ n167 ≤ n - n17 - n24 - n31 - n38 - n160 ∧ (∀ (r162 : Option Nat) (h163 : eH), Q168 r162 h163 → (∃ (d172 k173 n174 : Nat) (Q175 : Option Nat → eH → Prop), cQ c.1 c.2.1 c.2.2.1 d172 mJ4_rightOf [va_rf r162] h163 k173 n174 Q175 cX0 ∧ d172 + 1 ≤ c.2.2.2.1 ∧ k173 ≤ k - k16 - k23 - k30 - k37 - k159 - k166 ∧ n174 ≤ n - n17 - n24 - n31 - n38 - n160 - n167 ∧ (∀ (r169 : Option Nat) (h170 : eH), Q175 r169 h170 → (∃ (d179 k180 n181 : Nat) (Q182 : Int32 → eH → Prop), cI c.1 c.2.1 c.2.2.1 d179 mJ4_colorOf [va_rf r169] h170 k180 n181 Q182 cX0 ∧ d179 + 1 ≤ c.2.2.2.1 ∧ k180 ≤ k - k16 - k23 - k30 - k37 - k159 - k166 - k173 ∧ n181 ≤ n - n17 - n24 - n31 - n38 - n160 - n167 - n174 ∧ (∀ (r176 : Int32) (h177 : eH), Q182 r176 h177 → ((¬ r176 = 0 → ∃ (d187 k188 n189 : Nat) (Q190 : Option Nat → eH → Prop), cQ c.1 c.2.1 c.2.2.1 d187 mJ4_parentOf [.ref o1] h177 k188 n189 Q190 cX0 ∧ d187 + 1 ≤ c.2.2.2.1 ∧ k188 ≤ k - k16 - k23 - k30 - k37 - k159 - k166 - k173 - k180 ∧ n189 ≤ n - n17 - n24 - n31 - n38 - n160 - n167 - n174 - n181 ∧ (∀ (r184 : Option Nat) (h185 : eH), Q190 r184 h185 → (∃ (d194 k195 n196 : Nat) (Q197 : Option Nat → eH → Prop), cQ c.1 c.2.1 c.2.2.1 d194 mJ4_rightOf [va_rf r184] h185 k195 n196 Q197 cX0 ∧ d194 + 1 ≤ c.2.2.2.1 ∧ k195 ≤ k - k16 - k23 - k30 - k37 - k159 - k166 - k173 - k180 - k188 ∧ n196 ≤ n - n17 - n24 - n31 - n38 - n160 - n167 - n174 - n181 - n189 ∧ (∀ (r191 : Option Nat) (h192 : eH), Q197 r191 h192 → ((¬ some o1 = r191 → h_J4_fixAfterInsertion_118 c a0 (some o1) h192 (k - k16 - k23 - k30 - k37 - k159 - k166 - k173 - k180 - k188 - k195) (n - n17 - n24 - n31 - n38 - n160 - n167 - n174 - n181 - n189 - n196)) ∧ (some o1 = r191 → ∃ (d202 k203 n204 : Nat) (Q205 : Option Nat → eH → Prop), cQ c.1 c.2.1 c.2.2.1 d202 mJ4_parentOf [.ref o1] h192 k203 n204 Q205 cX0 ∧ d202 + 1 ≤ c.2.2.2.1 ∧ k203 ≤ k - k16 - k23 - k30 - k37 - k159 - k166 - k173 - k180 - k188 - k195 ∧ n204 ≤ n - n17 - n24 - n31 - n38 - n160 - n167 - n174 - n181 - n189 - n196 ∧ (∀ (r199 : Option Nat) (h200 : eH), Q205 r199 h200 → (∃ fs8 : List Value, h200.1 a0 = some (.inr (16, fs8)) ∧ ∃ (d209 k210 n211 : Nat) (Q212 : eH → Prop), cV c.1 c.2.1 c.2.2.1 d209 mJ4_rotateLeft [.ref a0, va_rf r199] h200 k210 n211 Q212 cX0 ∧ d209 + 1 ≤ c.2.2.2.1 ∧ k210 ≤ k - k16 - k23 - k30 - k37 - k159 - k166 - k173 - k180 - k188 - k195 - k203 ∧ n211 ≤ n - n17 - n24 - n31 - n38 - n160 - n167 - n174 - n181 - n189 - n196 - n204 ∧ (∀ h207 : eH, Q212 h207 → (h_J4_fixAfterInsertion_118 c a0 r199 h207 (k - k16 - k23 - k30 - k37 - k159 - k166 - k173 - k180 - k188 - k195 - k203 - k210) (n - n17 - n24 - n31 - n38 - n160 - n167 - n174 - n181 - n189 - n196 - n204 - n211))))))))))) ∧ (r176 = 0 → ∃ (d216 k217 n218 : Nat) (Q219 : Option Nat → eH → Prop), cQ c.1 c.2.1 c.2.2.1 d216 mJ4_parentOf [.ref o1] h177 k217 n218 Q219 cX0 ∧ d216 + 1 ≤ c.2.2.2.1 ∧ k217 ≤ k - k16 - k23 - k30 - k37 - k159 - k166 - k173 - k180 ∧ n218 ≤ n - n17 - n24 - n31 - n38 - n160 - n167 - n174 - n181 ∧ (∀ (r213 : Option Nat) (h214 : eH), Q219 r213 h214 → (∃ (d223 k224 n225 : Nat) (Q226 : eH → Prop), cV c.1 c.2.1 c.2.2.1 d223 mJ4_setColor [va_rf r213, .int (1 : Int32)] h214 k224 n225 Q226 cX0 ∧ d223 + 1 ≤ c.2.2.2.1 ∧ k224 ≤ k - k16 - k23 - k30 - k37 - k159 - k166 - k173 - k180 - k217 ∧ n225 ≤ n - n17 - n24 - n31 - n38 - n160 - n167 - n174 - n181 - n218 ∧ (∀ h221 : eH, Q226 h221 → (∃ (d230 k231 n232 : Nat) (Q233 : eH → Prop), cV c.1 c.2.1 c.2.2.1 d230 mJ4_setColor [va_rf r169, .int (1 : Int32)] h221 k231 n232 Q233 cX0 ∧ d230 + 1 ≤ c.2.2.2.1 ∧ k231 ≤ k - k16 - k23 - k30 - k37 - k159 - k166 - k173 - k180 - k217 - k224 ∧ n232 ≤ n - n17 - n24 - n31 - n38 - n160 - n167 - n174 - n181 - n218 - n225 ∧ (∀ h228 : eH, Q233 h228 → (∃ (d237 k238 n239 : Nat) (Q240 : Option Nat → eH → Prop), cQ c.1 c.2.1 c.2.2.1 d237 mJ4_parentOf [.ref o1] h228 k238 n239 Q240 cX0 ∧ d237 + 1 ≤ c.2.2.2.1 ∧ k238 ≤ k - k16 - k23 - k30 - k37 - k159 - k166 - k173 - k180 - k217 - k224 - k231 ∧ n239 ≤ n - n17 - n24 - n31 - n38 - n160 - n167 - n174 - n181 - n218 - n225 - n232 ∧ (∀ (r234 : Option Nat) (h235 : eH), Q240 r234 h235 → (∃ (d244 k245 n246 : Nat) (Q247 : Option Nat → eH → Prop), cQ c.1 c.2.1 c.2.2.1 d244 mJ4_parentOf [va_rf r234] h235 k245 n246 Q247 cX0 ∧ d244 + 1 ≤ c.2.2.2.1 ∧ k245 ≤ k - k16 - k23 - k30 - k37 - k159 - k166 - k173 - k180 - k217 - k224 - k231 - k238 ∧ n246 ≤ n - n17 - n24 - n31 - n38 - n160 - n167 - n174 - n181 - n218 - n225 - n232 - n239 ∧ (∀ (r241 : Option Nat) (h242 : eH), Q247 r241 h242 → (∃ (d251 k252 n253 : Nat) (Q254 : eH → Prop), cV c.1 c.2.1 c.2.2.1 d251 mJ4_setColor [va_rf r241, .int (0 : Int32)] h242 k252 n253 Q254 cX0 ∧ d251 + 1 ≤ c.2.2.2.1 ∧ k252 ≤ k - k16 - k23 - k30 - k37 - k159 - k166 - k173 - k180 - k217 - k224 - k231 - k238 - k245 ∧ n253 ≤ n - n17 - n24 - n31 - n38 - n160 - n167 - n174 - n181 - n218 - n225 - n232 - n239 - n246 ∧ (∀ h249 : eH, Q254 h249 → (∃ (d258 k259 n260 : Nat) (Q261 : Option Nat → eH → Prop), cQ c.1 c.2.1 c.2.2.1 d258 mJ4_parentOf [.ref o1] h249 k259 n260 Q261 cX0 ∧ d258 + 1 ≤ c.2.2.2.1 ∧ k259 ≤ k - k16 - k23 - k30 - k37 - k159 - k166 - k173 - k180 - k217 - k224 - k231 - k238 - k245 - k252 ∧ n260 ≤ n - n17 - n24 - n31 - n38 - n160 - n167 - n174 - n181 - n218 - n225 - n232 - n239 - n246 - n253 ∧ (∀ (r255 : Option Nat) (h256 : eH), Q261 r255 h256 → (∃ (d265 k266 n267 : Nat) (Q268 : Option Nat → eH → Prop), cQ c.1 c.2.1 c.2.2.1 d265 mJ4_parentOf [va_rf r255] h256 k266 n267 Q268 cX0 ∧ d265 + 1 ≤ c.2.2.2.1 ∧ k266 ≤ k - k16 - k23 - k30 - k37 - k159 - k166 - k173 - k180 - k217 - k224 - k231 - k238 - k245 - k252 - k259 ∧ n267 ≤ n - n17 - n24 - n31 - n38 - n160 - n167 - n174 - n181 - n218 - n225 - n232 - n239 - n246 - n253 - n260 ∧ (∀ (r262 : Option Nat) (h263 : eH), Q268 r262 h263 → (h_J4_fixAfterInsertion_148 c a0 r262 h263 (k - k16 - k23 - k30 - k37 - k159 - k166 - k173 - k180 - k217 - k224 - k231 - k238 - k245 - k252 - k259 - k266) (n - n17 - n24 - n31 - n38 - n160 - n167 - n174 - n181 - n218 - n225 - n232 - n239 - n246 - n253 - n260 - n267)))))))))))))))))))))))))))))))))))))))))) : h_J4_fixAfterInsertion_5 c a0 a1 h k n := by
  refine e_aloadR_n (r := a1) dJ4_fixAfterInsertion_5 rfl ?_
  refine e_ifnull (r := a1) 258 dJ4_fixAfterInsertion_6 (by decide) (fun g2 => ?_) (fun o1 g2 => ?_)
  · subst g2
    replace H := H.1 rfl
    exact E.less2 H (eS_s (eS_n (eS_n eS_0)))
  · subst g2
    replace H := H.2 o1 rfl
    refine e_aload_n dJ4_fixAfterInsertion_9 rfl ?_
    refine e_aload_n dJ4_fixAfterInsertion_10 rfl ?_
    obtain ⟨x3, ⟨fsx3, g4, g4v⟩, H⟩ := H
    refine e_get dJ4_fixAfterInsertion_11 fJ4_3 q267 g4 g4v ?_
    refine e_acmp_eq (rx := some o1) (ry := x3) 258 dJ4_fixAfterInsertion_14 (by decide) (fun g5 => ?_) (fun g5 => ?_)
    · replace H := H.1 g5
      exact E.less2 H (eS_s (eS_n (eS_n eS_0)))
    · replace H := H.2 g5
      refine e_aload_n dJ4_fixAfterInsertion_17 rfl ?_
      obtain ⟨x6, ⟨fsx6, g7, g7v⟩, H⟩ := H
      refine e_get dJ4_fixAfterInsertion_18 fJ15_4 q622 g7 g7v ?_
      obtain ⟨o8, eo8, H⟩ := H
      subst eo8
      obtain ⟨x9, ⟨fsx9, g10, g10v⟩, H⟩ := H
      refine e_get dJ4_fixAfterInsertion_21 fJ15_5 q624 g10 g10v ?_
      refine e_if_ne 258 dJ4_fixAfterInsertion_24 (by decide) (fun g11 => ?_) (fun g11 => ?_)
      · replace H := H.1 g11
        exact E.less2 H (eS_s (eS_n (eS_n eS_0)))
      · replace H := H.2 g11
        refine e_aload_n dJ4_fixAfterInsertion_27 rfl ?_
        obtain ⟨d15, k16, n17, Q18, g14, g14d, g14k, g14n, H⟩ := H
        refine e_callS (As := [.ref o1]) g14 dJ4_fixAfterInsertion_28 wJ4_parentOf q649 q650 rfl g14d rfl (Nat.le_of_ble_eq_true rfl) (k1 := k - k16) (n1 := n - n17) (by omega) (by omega) ?_ ?_
        · rintro v h13 (⟨v9, e9, r12, e8, hq⟩ | ⟨ci9, q9, e9, -⟩)
          · cases e9
            subst e8
            replace H := H r12 h13 hq
            refine e_aload_n dJ4_fixAfterInsertion_31 rfl ?_
            obtain ⟨d22, k23, n24, Q25, g21, g21d, g21k, g21n, H⟩ := H
            refine e_callS (As := [.ref o1]) g21 dJ4_fixAfterInsertion_32 wJ4_parentOf q649 q650 rfl g21d rfl (show ((([va_rf r12] : List Value).map fun v => v.category).sum ≤ 8) from by simp only [List.map_cons, List.map_nil, List.sum_cons, List.sum_nil, eRfC, eCtI, eCtL, eCtR, eCtN]; decide) (k1 := k - k16 - k23) (n1 := n - n17 - n24) (by omega) (by omega) ?_ ?_
            · rintro v h20 (⟨v9, e9, r19, e8, hq⟩ | ⟨ci9, q9, e9, -⟩)
              · cases e9
                subst e8
                replace H := H r19 h20 hq
                obtain ⟨d29, k30, n31, Q32, g28, g28d, g28k, g28n, H⟩ := H
                refine e_callS (As := [va_rf r19]) g28 dJ4_fixAfterInsertion_35 wJ4_parentOf q649 q650 rfl g28d rfl (show ((([va_rf r12] : List Value).map fun v => v.category).sum ≤ 8) from by simp only [List.map_cons, List.map_nil, List.sum_cons, List.sum_nil, eRfC, eCtI, eCtL, eCtR, eCtN]; decide) (k1 := k - k16 - k23 - k30) (n1 := n - n17 - n24 - n31) (by omega) (by omega) ?_ ?_
                · rintro v h27 (⟨v9, e9, r26, e8, hq⟩ | ⟨ci9, q9, e9, -⟩)
                  · cases e9
                    subst e8
                    replace H := H r26 h27 hq
                    obtain ⟨d36, k37, n38, Q39, g35, g35d, g35k, g35n, H⟩ := H
                    refine e_callS (As := [va_rf r26]) g35 dJ4_fixAfterInsertion_38 wJ4_leftOf q652 q653 rfl g35d rfl (show ((([va_rf r12] : List Value).map fun v => v.category).sum ≤ 8) from by simp only [List.map_cons, List.map_nil, List.sum_cons, List.sum_nil, eRfC, eCtI, eCtL, eCtR, eCtN]; decide) (k1 := k - k16 - k23 - k30 - k37) (n1 := n - n17 - n24 - n31 - n38) (by omega) (by omega) ?_ ?_
                    · rintro v h34 (⟨v9, e9, r33, e8, hq⟩ | ⟨ci9, q9, e9, -⟩)
                      · cases e9
                        subst e8
                        replace H := H r33 h34 hq
                        refine e_acmp_ne (rx := r12) (ry := r33) 151 dJ4_fixAfterInsertion_41 (by decide) (fun g40 => ?_) (fun g40 => ?_)
                        · replace H := H.1 g40
                          refine e_aload_n dJ4_fixAfterInsertion_151 rfl ?_
                          obtain ⟨d44, k45, n46, Q47, g43, g43d, g43k, g43n, H⟩ := H
                          refine e_callS (As := [.ref o1]) g43 dJ4_fixAfterInsertion_152 wJ4_parentOf q649 q650 rfl g43d rfl (Nat.le_of_ble_eq_true rfl) (k1 := k - k16 - k23 - k30 - k37 - k45) (n1 := n - n17 - n24 - n31 - n38 - n46) (by omega) (by omega) ?_ ?_
                          · rintro v h42 (⟨v9, e9, r41, e8, hq⟩ | ⟨ci9, q9, e9, -⟩)
                            · cases e9
                              subst e8
                              replace H := H r41 h42 hq
                              obtain ⟨d51, k52, n53, Q54, g50, g50d, g50k, g50n, H⟩ := H
                              refine e_callS (As := [va_rf r41]) g50 dJ4_fixAfterInsertion_155 wJ4_parentOf q649 q650 rfl g50d rfl (Nat.le_of_ble_eq_true rfl) (k1 := k - k16 - k23 - k30 - k37 - k45 - k52) (n1 := n - n17 - n24 - n31 - n38 - n46 - n53) (by omega) (by omega) ?_ ?_
                              · rintro v h49 (⟨v9, e9, r48, e8, hq⟩ | ⟨ci9, q9, e9, -⟩)
                                · cases e9
                                  subst e8
                                  replace H := H r48 h49 hq
                                  obtain ⟨d58, k59, n60, Q61, g57, g57d, g57k, g57n, H⟩ := H
                                  refine e_callS (As := [va_rf r48]) g57 dJ4_fixAfterInsertion_158 wJ4_leftOf q652 q653 rfl g57d rfl (Nat.le_of_ble_eq_true rfl) (k1 := k - k16 - k23 - k30 - k37 - k45 - k52 - k59) (n1 := n - n17 - n24 - n31 - n38 - n46 - n53 - n60) (by omega) (by omega) ?_ ?_
                                  · rintro v h56 (⟨v9, e9, r55, e8, hq⟩ | ⟨ci9, q9, e9, -⟩)
                                    · cases e9
                                      subst e8
                                      replace H := H r55 h56 hq
                                      refine e_astoreR_n (r := r55) _ dJ4_fixAfterInsertion_161 (by decide) rfl rfl ?_
                                      refine e_aloadR_n (r := r55) dJ4_fixAfterInsertion_162 rfl ?_
                                      obtain ⟨d65, k66, n67, Q68, g64, g64d, g64k, g64n, H⟩ := H
                                      refine e_callS (As := [va_rf r55]) g64 dJ4_fixAfterInsertion_163 wJ4_colorOf q658 q659 rfl g64d rfl (Nat.le_of_ble_eq_true rfl) (k1 := k - k16 - k23 - k30 - k37 - k45 - k52 - k59 - k66) (n1 := n - n17 - n24 - n31 - n38 - n46 - n53 - n60 - n67) (by omega) (by omega) ?_ ?_
                                      · rintro v h63 (⟨v9, e9, r62, e8, hq⟩ | ⟨ci9, q9, e9, -⟩)
                                        · cases e9
                                          subst e8
                                          replace H := H r62 h63 hq
                                          refine e_if_ne 204 dJ4_fixAfterInsertion_166 (by decide) (fun g69 => ?_) (fun g69 => ?_)
                                          · replace H := H.1 g69
                                            refine e_aload_n dJ4_fixAfterInsertion_204 rfl ?_
                                            refine e_aload_n dJ4_fixAfterInsertion_205 rfl ?_
                                            obtain ⟨d73, k74, n75, Q76, g72, g72d, g72k, g72n, H⟩ := H
                                            refine e_callS (As := [.ref o1]) g72 dJ4_fixAfterInsertion_206 wJ4_parentOf q649 q650 rfl g72d rfl (Nat.le_of_ble_eq_true rfl) (k1 := k - k16 - k23 - k30 - k37 - k45 - k52 - k59 - k66 - k74) (n1 := n - n17 - n24 - n31 - n38 - n46 - n53 - n60 - n67 - n75) (by omega) (by omega) ?_ ?_
                                            · rintro v h71 (⟨v9, e9, r70, e8, hq⟩ | ⟨ci9, q9, e9, -⟩)
                                              · cases e9
                                                subst e8
                                                replace H := H r70 h71 hq
                                                obtain ⟨d80, k81, n82, Q83, g79, g79d, g79k, g79n, H⟩ := H
                                                refine e_callS (As := [va_rf r70]) g79 dJ4_fixAfterInsertion_209 wJ4_leftOf q652 q653 rfl g79d rfl (Nat.le_of_ble_eq_true rfl) (k1 := k - k16 - k23 - k30 - k37 - k45 - k52 - k59 - k66 - k74 - k81) (n1 := n - n17 - n24 - n31 - n38 - n46 - n53 - n60 - n67 - n75 - n82) (by omega) (by omega) ?_ ?_
                                                · rintro v h78 (⟨v9, e9, r77, e8, hq⟩ | ⟨ci9, q9, e9, -⟩)
                                                  · cases e9
                                                    subst e8
                                                    replace H := H r77 h78 hq
                                                    refine e_acmp_ne (rx := some o1) (ry := r77) 225 dJ4_fixAfterInsertion_212 (by decide) (fun g84 => ?_) (fun g84 => ?_)
                                                    · replace H := H.1 g84
                                                      exact E.less2 H (eS_s (eS_s (eS_n eS_0)))
                                                    · replace H := H.2 g84
                                                      refine e_aload_n dJ4_fixAfterInsertion_215 rfl ?_
                                                      obtain ⟨d88, k89, n90, Q91, g87, g87d, g87k, g87n, H⟩ := H
                                                      refine e_callS (As := [.ref o1]) g87 dJ4_fixAfterInsertion_216 wJ4_parentOf q649 q650 rfl g87d rfl (Nat.le_of_ble_eq_true rfl) (k1 := k - k16 - k23 - k30 - k37 - k45 - k52 - k59 - k66 - k74 - k81 - k89) (n1 := n - n17 - n24 - n31 - n38 - n46 - n53 - n60 - n67 - n75 - n82 - n90) (by omega) (by omega) ?_ ?_
                                                      · rintro v h86 (⟨v9, e9, r85, e8, hq⟩ | ⟨ci9, q9, e9, -⟩)
                                                        · cases e9
                                                          subst e8
                                                          replace H := H r85 h86 hq
                                                          refine e_astoreR_n (r := r85) _ dJ4_fixAfterInsertion_219 (by decide) rfl rfl ?_
                                                          refine e_aload_n dJ4_fixAfterInsertion_220 rfl ?_
                                                          refine e_aloadR_n (r := r85) dJ4_fixAfterInsertion_221 rfl ?_
                                                          obtain ⟨fsg94, g94o, H⟩ := H
                                                          obtain ⟨d95, k96, n97, Q98, g94, g94d, g94k, g94n, H⟩ := H
                                                          refine e_callV (r := (RJ4, TJ4, 9)) (As := [va_rf r85]) g94 dJ4_fixAfterInsertion_222 wJ4_rotateRight q668 q670 qs5 g94o rfl rfl g94d rfl (Nat.le_of_ble_eq_true rfl) (k1 := k - k16 - k23 - k30 - k37 - k45 - k52 - k59 - k66 - k74 - k81 - k89 - k96) (n1 := n - n17 - n24 - n31 - n38 - n46 - n53 - n60 - n67 - n75 - n82 - n90 - n97) (by omega) (by omega) ?_ ?_
                                                          · rintro v h93 (⟨v9, e9, e8, hq⟩ | ⟨ci9, q9, e9, -⟩)
                                                            · cases e9
                                                              subst e8
                                                              replace H := H h93 hq
                                                              exact E.less2 H (eS_s (eS_s (eS_n eS_0)))
                                                            · cases e9
                                                          · rintro q9 h9 (⟨v9, e9, -⟩ | ⟨ci9, q8, e9, -, -, hx⟩)
                                                            · cases e9
                                                            · exact hx.elim
                                                        · cases e9
                                                      · rintro q9 h9 (⟨v9, e9, -⟩ | ⟨ci9, q8, e9, -, -, hx⟩)
                                                        · cases e9
                                                        · exact hx.elim
                                                  · cases e9
                                                · rintro q9 h9 (⟨v9, e9, -⟩ | ⟨ci9, q8, e9, -, -, hx⟩)
                                                  · cases e9
                                                  · exact hx.elim
                                              · cases e9
                                            · rintro q9 h9 (⟨v9, e9, -⟩ | ⟨ci9, q8, e9, -, -, hx⟩)
                                              · cases e9
                                              · exact hx.elim
                                          · replace H := H.2 g69
                                            refine e_aload_n dJ4_fixAfterInsertion_169 rfl ?_
                                            obtain ⟨d102, k103, n104, Q105, g101, g101d, g101k, g101n, H⟩ := H
                                            refine e_callS (As := [.ref o1]) g101 dJ4_fixAfterInsertion_170 wJ4_parentOf q649 q650 rfl g101d rfl (Nat.le_of_ble_eq_true rfl) (k1 := k - k16 - k23 - k30 - k37 - k45 - k52 - k59 - k66 - k103) (n1 := n - n17 - n24 - n31 - n38 - n46 - n53 - n60 - n67 - n104) (by omega) (by omega) ?_ ?_
                                            · rintro v h100 (⟨v9, e9, r99, e8, hq⟩ | ⟨ci9, q9, e9, -⟩)
                                              · cases e9
                                                subst e8
                                                replace H := H r99 h100 hq
                                                refine e_iconst (1) dJ4_fixAfterInsertion_173 (by decide) ?_
                                                obtain ⟨d109, k110, n111, Q112, g108, g108d, g108k, g108n, H⟩ := H
                                                refine e_callS (As := [va_rf r99, .int (1 : Int32)]) g108 dJ4_fixAfterInsertion_174 wJ4_setColor q661 q662 rfl g108d rfl (Nat.le_of_ble_eq_true rfl) (k1 := k - k16 - k23 - k30 - k37 - k45 - k52 - k59 - k66 - k103 - k110) (n1 := n - n17 - n24 - n31 - n38 - n46 - n53 - n60 - n67 - n104 - n111) (by omega) (by omega) ?_ ?_
                                                · rintro v h107 (⟨v9, e9, e8, hq⟩ | ⟨ci9, q9, e9, -⟩)
                                                  · cases e9
                                                    subst e8
                                                    replace H := H h107 hq
                                                    refine e_aloadR_n (r := r55) dJ4_fixAfterInsertion_177 rfl ?_
                                                    refine e_iconst (1) dJ4_fixAfterInsertion_178 (by decide) ?_
                                                    obtain ⟨d116, k117, n118, Q119, g115, g115d, g115k, g115n, H⟩ := H
                                                    refine e_callS (As := [va_rf r55, .int (1 : Int32)]) g115 dJ4_fixAfterInsertion_179 wJ4_setColor q661 q662 rfl g115d rfl (Nat.le_of_ble_eq_true rfl) (k1 := k - k16 - k23 - k30 - k37 - k45 - k52 - k59 - k66 - k103 - k110 - k117) (n1 := n - n17 - n24 - n31 - n38 - n46 - n53 - n60 - n67 - n104 - n111 - n118) (by omega) (by omega) ?_ ?_
                                                    · rintro v h114 (⟨v9, e9, e8, hq⟩ | ⟨ci9, q9, e9, -⟩)
                                                      · cases e9
                                                        subst e8
                                                        replace H := H h114 hq
                                                        refine e_aload_n dJ4_fixAfterInsertion_182 rfl ?_
                                                        obtain ⟨d123, k124, n125, Q126, g122, g122d, g122k, g122n, H⟩ := H
                                                        refine e_callS (As := [.ref o1]) g122 dJ4_fixAfterInsertion_183 wJ4_parentOf q649 q650 rfl g122d rfl (Nat.le_of_ble_eq_true rfl) (k1 := k - k16 - k23 - k30 - k37 - k45 - k52 - k59 - k66 - k103 - k110 - k117 - k124) (n1 := n - n17 - n24 - n31 - n38 - n46 - n53 - n60 - n67 - n104 - n111 - n118 - n125) (by omega) (by omega) ?_ ?_
                                                        · rintro v h121 (⟨v9, e9, r120, e8, hq⟩ | ⟨ci9, q9, e9, -⟩)
                                                          · cases e9
                                                            subst e8
                                                            replace H := H r120 h121 hq
                                                            obtain ⟨d130, k131, n132, Q133, g129, g129d, g129k, g129n, H⟩ := H
                                                            refine e_callS (As := [va_rf r120]) g129 dJ4_fixAfterInsertion_186 wJ4_parentOf q649 q650 rfl g129d rfl (Nat.le_of_ble_eq_true rfl) (k1 := k - k16 - k23 - k30 - k37 - k45 - k52 - k59 - k66 - k103 - k110 - k117 - k124 - k131) (n1 := n - n17 - n24 - n31 - n38 - n46 - n53 - n60 - n67 - n104 - n111 - n118 - n125 - n132) (by omega) (by omega) ?_ ?_
                                                            · rintro v h128 (⟨v9, e9, r127, e8, hq⟩ | ⟨ci9, q9, e9, -⟩)
                                                              · cases e9
                                                                subst e8
                                                                replace H := H r127 h128 hq
                                                                refine e_iconst (0) dJ4_fixAfterInsertion_189 (by decide) ?_
                                                                obtain ⟨d137, k138, n139, Q140, g136, g136d, g136k, g136n, H⟩ := H
                                                                refine e_callS (As := [va_rf r127, .int (0 : Int32)]) g136 dJ4_fixAfterInsertion_190 wJ4_setColor q661 q662 rfl g136d rfl (Nat.le_of_ble_eq_true rfl) (k1 := k - k16 - k23 - k30 - k37 - k45 - k52 - k59 - k66 - k103 - k110 - k117 - k124 - k131 - k138) (n1 := n - n17 - n24 - n31 - n38 - n46 - n53 - n60 - n67 - n104 - n111 - n118 - n125 - n132 - n139) (by omega) (by omega) ?_ ?_
                                                                · rintro v h135 (⟨v9, e9, e8, hq⟩ | ⟨ci9, q9, e9, -⟩)
                                                                  · cases e9
                                                                    subst e8
                                                                    replace H := H h135 hq
                                                                    refine e_aload_n dJ4_fixAfterInsertion_193 rfl ?_
                                                                    obtain ⟨d144, k145, n146, Q147, g143, g143d, g143k, g143n, H⟩ := H
                                                                    refine e_callS (As := [.ref o1]) g143 dJ4_fixAfterInsertion_194 wJ4_parentOf q649 q650 rfl g143d rfl (Nat.le_of_ble_eq_true rfl) (k1 := k - k16 - k23 - k30 - k37 - k45 - k52 - k59 - k66 - k103 - k110 - k117 - k124 - k131 - k138 - k145) (n1 := n - n17 - n24 - n31 - n38 - n46 - n53 - n60 - n67 - n104 - n111 - n118 - n125 - n132 - n139 - n146) (by omega) (by omega) ?_ ?_
                                                                    · rintro v h142 (⟨v9, e9, r141, e8, hq⟩ | ⟨ci9, q9, e9, -⟩)
                                                                      · cases e9
                                                                        subst e8
                                                                        replace H := H r141 h142 hq
                                                                        obtain ⟨d151, k152, n153, Q154, g150, g150d, g150k, g150n, H⟩ := H
                                                                        refine e_callS (As := [va_rf r141]) g150 dJ4_fixAfterInsertion_197 wJ4_parentOf q649 q650 rfl g150d rfl (Nat.le_of_ble_eq_true rfl) (k1 := k - k16 - k23 - k30 - k37 - k45 - k52 - k59 - k66 - k103 - k110 - k117 - k124 - k131 - k138 - k145 - k152) (n1 := n - n17 - n24 - n31 - n38 - n46 - n53 - n60 - n67 - n104 - n111 - n118 - n125 - n132 - n139 - n146 - n153) (by omega) (by omega) ?_ ?_
                                                                        · rintro v h149 (⟨v9, e9, r148, e8, hq⟩ | ⟨ci9, q9, e9, -⟩)
                                                                          · cases e9
                                                                            subst e8
                                                                            replace H := H r148 h149 hq
                                                                            refine e_astoreR_n (r := r148) _ dJ4_fixAfterInsertion_200 (by decide) rfl rfl ?_
                                                                            refine e_goto 255 dJ4_fixAfterInsertion_201 (by decide) ?_
                                                                            exact E.less2 H (eS_s (eS_s (eS_n eS_0)))
                                                                          · cases e9
                                                                        · rintro q9 h9 (⟨v9, e9, -⟩ | ⟨ci9, q8, e9, -, -, hx⟩)
                                                                          · cases e9
                                                                          · exact hx.elim
                                                                      · cases e9
                                                                    · rintro q9 h9 (⟨v9, e9, -⟩ | ⟨ci9, q8, e9, -, -, hx⟩)
                                                                      · cases e9
                                                                      · exact hx.elim
                                                                  · cases e9
                                                                · rintro q9 h9 (⟨v9, e9, -⟩ | ⟨ci9, q8, e9, -, -, hx⟩)
                                                                  · cases e9
                                                                  · exact hx.elim
                                                              · cases e9
                                                            · rintro q9 h9 (⟨v9, e9, -⟩ | ⟨ci9, q8, e9, -, -, hx⟩)
                                                              · cases e9
                                                              · exact hx.elim
                                                          · cases e9
                                                        · rintro q9 h9 (⟨v9, e9, -⟩ | ⟨ci9, q8, e9, -, -, hx⟩)
                                                          · cases e9
                                                          · exact hx.elim
                                                      · cases e9
                                                    · rintro q9 h9 (⟨v9, e9, -⟩ | ⟨ci9, q8, e9, -, -, hx⟩)
                                                      · cases e9
                                                      · exact hx.elim
                                                  · cases e9
                                                · rintro q9 h9 (⟨v9, e9, -⟩ | ⟨ci9, q8, e9, -, -, hx⟩)
                                                  · cases e9
                                                  · exact hx.elim
                                              · cases e9
                                            · rintro q9 h9 (⟨v9, e9, -⟩ | ⟨ci9, q8, e9, -, -, hx⟩)
                                              · cases e9
                                              · exact hx.elim
                                        · cases e9
                                      · rintro q9 h9 (⟨v9, e9, -⟩ | ⟨ci9, q8, e9, -, -, hx⟩)
                                        · cases e9
                                        · exact hx.elim
                                    · cases e9
                                  · rintro q9 h9 (⟨v9, e9, -⟩ | ⟨ci9, q8, e9, -, -, hx⟩)
                                    · cases e9
                                    · exact hx.elim
                                · cases e9
                              · rintro q9 h9 (⟨v9, e9, -⟩ | ⟨ci9, q8, e9, -, -, hx⟩)
                                · cases e9
                                · exact hx.elim
                            · cases e9
                          · rintro q9 h9 (⟨v9, e9, -⟩ | ⟨ci9, q8, e9, -, -, hx⟩)
                            · cases e9
                            · exact hx.elim
                        · replace H := H.2 g40
                          refine e_aload_n dJ4_fixAfterInsertion_44 rfl ?_
                          obtain ⟨d158, k159, n160, Q161, g157, g157d, g157k, g157n, H⟩ := H
                          refine e_callS (As := [.ref o1]) g157 dJ4_fixAfterInsertion_45 wJ4_parentOf q649 q650 rfl g157d rfl (Nat.le_of_ble_eq_true rfl) (k1 := k - k16 - k23 - k30 - k37 - k159) (n1 := n - n17 - n24 - n31 - n38 - n160) (by omega) (by omega) ?_ ?_
                          · rintro v h156 (⟨v9, e9, r155, e8, hq⟩ | ⟨ci9, q9, e9, -⟩)
                            · cases e9
                              subst e8
                              replace H := H r155 h156 hq
                              obtain ⟨d165, k166, n167, Q168, g164, g164d, g164k, g164n, H⟩ := H
                              refine e_callS (As := [va_rf r155]) g164 dJ4_fixAfterInsertion_48 wJ4_parentOf q649 q650 rfl g164d rfl (Nat.le_of_ble_eq_true rfl) (k1 := k - k16 - k23 - k30 - k37 - k159 - k166) (n1 := n - n17 - n24 - n31 - n38 - n160 - n167) (by omega) (by omega) ?_ ?_
                              · rintro v h163 (⟨v9, e9, r162, e8, hq⟩ | ⟨ci9, q9, e9, -⟩)
                                · cases e9
                                  subst e8
                                  replace H := H r162 h163 hq
                                  obtain ⟨d172, k173, n174, Q175, g171, g171d, g171k, g171n, H⟩ := H
                                  refine e_callS (As := [va_rf r162]) g171 dJ4_fixAfterInsertion_51 wJ4_rightOf q655 q656 rfl g171d rfl (Nat.le_of_ble_eq_true rfl) (k1 := k - k16 - k23 - k30 - k37 - k159 - k166 - k173) (n1 := n - n17 - n24 - n31 - n38 - n160 - n167 - n174) (by omega) (by omega) ?_ ?_
                                  · rintro v h170 (⟨v9, e9, r169, e8, hq⟩ | ⟨ci9, q9, e9, -⟩)
                                    · cases e9
                                      subst e8
                                      replace H := H r169 h170 hq
                                      refine e_astoreR_n (r := r169) _ dJ4_fixAfterInsertion_54 (by decide) rfl rfl ?_
                                      refine e_aloadR_n (r := r169) dJ4_fixAfterInsertion_55 rfl ?_
                                      obtain ⟨d179, k180, n181, Q182, g178, g178d, g178k, g178n, H⟩ := H
                                      refine e_callS (As := [va_rf r169]) g178 dJ4_fixAfterInsertion_56 wJ4_colorOf q658 q659 rfl g178d rfl (Nat.le_of_ble_eq_true rfl) (k1 := k - k16 - k23 - k30 - k37 - k159 - k166 - k173 - k180) (n1 := n - n17 - n24 - n31 - n38 - n160 - n167 - n174 - n181) (by omega) (by omega) ?_ ?_
                                      · rintro v h177 (⟨v9, e9, r176, e8, hq⟩ | ⟨ci9, q9, e9, -⟩)
                                        · cases e9
                                          subst e8
                                          replace H := H r176 h177 hq
                                          refine e_if_ne 97 dJ4_fixAfterInsertion_59 (by decide) (fun g183 => ?_) (fun g183 => ?_)
                                          · replace H := H.1 g183
                                            refine e_aload_n dJ4_fixAfterInsertion_97 rfl ?_
                                            refine e_aload_n dJ4_fixAfterInsertion_98 rfl ?_
                                            obtain ⟨d187, k188, n189, Q190, g186, g186d, g186k, g186n, H⟩ := H
                                            refine e_callS (As := [.ref o1]) g186 dJ4_fixAfterInsertion_99 wJ4_parentOf q649 q650 rfl g186d rfl (Nat.le_of_ble_eq_true rfl) (k1 := k - k16 - k23 - k30 - k37 - k159 - k166 - k173 - k180 - k188) (n1 := n - n17 - n24 - n31 - n38 - n160 - n167 - n174 - n181 - n189) (by omega) (by omega) ?_ ?_
                                            · rintro v h185 (⟨v9, e9, r184, e8, hq⟩ | ⟨ci9, q9, e9, -⟩)
                                              · cases e9
                                                subst e8
                                                replace H := H r184 h185 hq
                                                obtain ⟨d194, k195, n196, Q197, g193, g193d, g193k, g193n, H⟩ := H
                                                refine e_callS (As := [va_rf r184]) g193 dJ4_fixAfterInsertion_102 wJ4_rightOf q655 q656 rfl g193d rfl (Nat.le_of_ble_eq_true rfl) (k1 := k - k16 - k23 - k30 - k37 - k159 - k166 - k173 - k180 - k188 - k195) (n1 := n - n17 - n24 - n31 - n38 - n160 - n167 - n174 - n181 - n189 - n196) (by omega) (by omega) ?_ ?_
                                                · rintro v h192 (⟨v9, e9, r191, e8, hq⟩ | ⟨ci9, q9, e9, -⟩)
                                                  · cases e9
                                                    subst e8
                                                    replace H := H r191 h192 hq
                                                    refine e_acmp_ne (rx := some o1) (ry := r191) 118 dJ4_fixAfterInsertion_105 (by decide) (fun g198 => ?_) (fun g198 => ?_)
                                                    · replace H := H.1 g198
                                                      exact E.less2 H (eS_s (eS_s (eS_n eS_0)))
                                                    · replace H := H.2 g198
                                                      refine e_aload_n dJ4_fixAfterInsertion_108 rfl ?_
                                                      obtain ⟨d202, k203, n204, Q205, g201, g201d, g201k, g201n, H⟩ := H
                                                      refine e_callS (As := [.ref o1]) g201 dJ4_fixAfterInsertion_109 wJ4_parentOf q649 q650 rfl g201d rfl (Nat.le_of_ble_eq_true rfl) (k1 := k - k16 - k23 - k30 - k37 - k159 - k166 - k173 - k180 - k188 - k195 - k203) (n1 := n - n17 - n24 - n31 - n38 - n160 - n167 - n174 - n181 - n189 - n196 - n204) (by omega) (by omega) ?_ ?_
                                                      · rintro v h200 (⟨v9, e9, r199, e8, hq⟩ | ⟨ci9, q9, e9, -⟩)
                                                        · cases e9
                                                          subst e8
                                                          replace H := H r199 h200 hq
                                                          refine e_astoreR_n (r := r199) _ dJ4_fixAfterInsertion_112 (by decide) rfl rfl ?_
                                                          refine e_aload_n dJ4_fixAfterInsertion_113 rfl ?_
                                                          refine e_aloadR_n (r := r199) dJ4_fixAfterInsertion_114 rfl ?_
                                                          obtain ⟨fsg208, g208o, H⟩ := H
                                                          obtain ⟨d209, k210, n211, Q212, g208, g208d, g208k, g208n, H⟩ := H
                                                          refine e_callV (r := (RJ4, TJ4, 9)) (As := [va_rf r199]) g208 dJ4_fixAfterInsertion_115 wJ4_rotateLeft q664 q666 qs4 g208o rfl rfl g208d rfl (Nat.le_of_ble_eq_true rfl) (k1 := k - k16 - k23 - k30 - k37 - k159 - k166 - k173 - k180 - k188 - k195 - k203 - k210) (n1 := n - n17 - n24 - n31 - n38 - n160 - n167 - n174 - n181 - n189 - n196 - n204 - n211) (by omega) (by omega) ?_ ?_
                                                          · rintro v h207 (⟨v9, e9, e8, hq⟩ | ⟨ci9, q9, e9, -⟩)
                                                            · cases e9
                                                              subst e8
                                                              replace H := H h207 hq
                                                              exact E.less2 H (eS_s (eS_s (eS_n eS_0)))
                                                            · cases e9
                                                          · rintro q9 h9 (⟨v9, e9, -⟩ | ⟨ci9, q8, e9, -, -, hx⟩)
                                                            · cases e9
                                                            · exact hx.elim
                                                        · cases e9
                                                      · rintro q9 h9 (⟨v9, e9, -⟩ | ⟨ci9, q8, e9, -, -, hx⟩)
                                                        · cases e9
                                                        · exact hx.elim
                                                  · cases e9
                                                · rintro q9 h9 (⟨v9, e9, -⟩ | ⟨ci9, q8, e9, -, -, hx⟩)
                                                  · cases e9
                                                  · exact hx.elim
                                              · cases e9
                                            · rintro q9 h9 (⟨v9, e9, -⟩ | ⟨ci9, q8, e9, -, -, hx⟩)
                                              · cases e9
                                              · exact hx.elim
                                          · replace H := H.2 g183
                                            refine e_aload_n dJ4_fixAfterInsertion_62 rfl ?_
                                            obtain ⟨d216, k217, n218, Q219, g215, g215d, g215k, g215n, H⟩ := H
                                            refine e_callS (As := [.ref o1]) g215 dJ4_fixAfterInsertion_63 wJ4_parentOf q649 q650 rfl g215d rfl (Nat.le_of_ble_eq_true rfl) (k1 := k - k16 - k23 - k30 - k37 - k159 - k166 - k173 - k180 - k217) (n1 := n - n17 - n24 - n31 - n38 - n160 - n167 - n174 - n181 - n218) (by omega) (by omega) ?_ ?_
                                            · rintro v h214 (⟨v9, e9, r213, e8, hq⟩ | ⟨ci9, q9, e9, -⟩)
                                              · cases e9
                                                subst e8
                                                replace H := H r213 h214 hq
                                                refine e_iconst (1) dJ4_fixAfterInsertion_66 (by decide) ?_
                                                obtain ⟨d223, k224, n225, Q226, g222, g222d, g222k, g222n, H⟩ := H
                                                refine e_callS (As := [va_rf r213, .int (1 : Int32)]) g222 dJ4_fixAfterInsertion_67 wJ4_setColor q661 q662 rfl g222d rfl (Nat.le_of_ble_eq_true rfl) (k1 := k - k16 - k23 - k30 - k37 - k159 - k166 - k173 - k180 - k217 - k224) (n1 := n - n17 - n24 - n31 - n38 - n160 - n167 - n174 - n181 - n218 - n225) (by omega) (by omega) ?_ ?_
                                                · rintro v h221 (⟨v9, e9, e8, hq⟩ | ⟨ci9, q9, e9, -⟩)
                                                  · cases e9
                                                    subst e8
                                                    replace H := H h221 hq
                                                    refine e_aloadR_n (r := r169) dJ4_fixAfterInsertion_70 rfl ?_
                                                    refine e_iconst (1) dJ4_fixAfterInsertion_71 (by decide) ?_
                                                    obtain ⟨d230, k231, n232, Q233, g229, g229d, g229k, g229n, H⟩ := H
                                                    refine e_callS (As := [va_rf r169, .int (1 : Int32)]) g229 dJ4_fixAfterInsertion_72 wJ4_setColor q661 q662 rfl g229d rfl (Nat.le_of_ble_eq_true rfl) (k1 := k - k16 - k23 - k30 - k37 - k159 - k166 - k173 - k180 - k217 - k224 - k231) (n1 := n - n17 - n24 - n31 - n38 - n160 - n167 - n174 - n181 - n218 - n225 - n232) (by omega) (by omega) ?_ ?_
                                                    · rintro v h228 (⟨v9, e9, e8, hq⟩ | ⟨ci9, q9, e9, -⟩)
                                                      · cases e9
                                                        subst e8
                                                        replace H := H h228 hq
                                                        refine e_aload_n dJ4_fixAfterInsertion_75 rfl ?_
                                                        obtain ⟨d237, k238, n239, Q240, g236, g236d, g236k, g236n, H⟩ := H
                                                        refine e_callS (As := [.ref o1]) g236 dJ4_fixAfterInsertion_76 wJ4_parentOf q649 q650 rfl g236d rfl (Nat.le_of_ble_eq_true rfl) (k1 := k - k16 - k23 - k30 - k37 - k159 - k166 - k173 - k180 - k217 - k224 - k231 - k238) (n1 := n - n17 - n24 - n31 - n38 - n160 - n167 - n174 - n181 - n218 - n225 - n232 - n239) (by omega) (by omega) ?_ ?_
                                                        · rintro v h235 (⟨v9, e9, r234, e8, hq⟩ | ⟨ci9, q9, e9, -⟩)
                                                          · cases e9
                                                            subst e8
                                                            replace H := H r234 h235 hq
                                                            obtain ⟨d244, k245, n246, Q247, g243, g243d, g243k, g243n, H⟩ := H
                                                            refine e_callS (As := [va_rf r234]) g243 dJ4_fixAfterInsertion_79 wJ4_parentOf q649 q650 rfl g243d rfl (Nat.le_of_ble_eq_true rfl) (k1 := k - k16 - k23 - k30 - k37 - k159 - k166 - k173 - k180 - k217 - k224 - k231 - k238 - k245) (n1 := n - n17 - n24 - n31 - n38 - n160 - n167 - n174 - n181 - n218 - n225 - n232 - n239 - n246) (by omega) (by omega) ?_ ?_
                                                            · rintro v h242 (⟨v9, e9, r241, e8, hq⟩ | ⟨ci9, q9, e9, -⟩)
                                                              · cases e9
                                                                subst e8
                                                                replace H := H r241 h242 hq
                                                                refine e_iconst (0) dJ4_fixAfterInsertion_82 (by decide) ?_
                                                                obtain ⟨d251, k252, n253, Q254, g250, g250d, g250k, g250n, H⟩ := H
                                                                refine e_callS (As := [va_rf r241, .int (0 : Int32)]) g250 dJ4_fixAfterInsertion_83 wJ4_setColor q661 q662 rfl g250d rfl (Nat.le_of_ble_eq_true rfl) (k1 := k - k16 - k23 - k30 - k37 - k159 - k166 - k173 - k180 - k217 - k224 - k231 - k238 - k245 - k252) (n1 := n - n17 - n24 - n31 - n38 - n160 - n167 - n174 - n181 - n218 - n225 - n232 - n239 - n246 - n253) (by omega) (by omega) ?_ ?_
                                                                · rintro v h249 (⟨v9, e9, e8, hq⟩ | ⟨ci9, q9, e9, -⟩)
                                                                  · cases e9
                                                                    subst e8
                                                                    replace H := H h249 hq
                                                                    refine e_aload_n dJ4_fixAfterInsertion_86 rfl ?_
                                                                    obtain ⟨d258, k259, n260, Q261, g257, g257d, g257k, g257n, H⟩ := H
                                                                    refine e_callS (As := [.ref o1]) g257 dJ4_fixAfterInsertion_87 wJ4_parentOf q649 q650 rfl g257d rfl (Nat.le_of_ble_eq_true rfl) (k1 := k - k16 - k23 - k30 - k37 - k159 - k166 - k173 - k180 - k217 - k224 - k231 - k238 - k245 - k252 - k259) (n1 := n - n17 - n24 - n31 - n38 - n160 - n167 - n174 - n181 - n218 - n225 - n232 - n239 - n246 - n253 - n260) (by omega) (by omega) ?_ ?_
                                                                    · rintro v h256 (⟨v9, e9, r255, e8, hq⟩ | ⟨ci9, q9, e9, -⟩)
                                                                      · cases e9
                                                                        subst e8
                                                                        replace H := H r255 h256 hq
                                                                        obtain ⟨d265, k266, n267, Q268, g264, g264d, g264k, g264n, H⟩ := H
                                                                        refine e_callS (As := [va_rf r255]) g264 dJ4_fixAfterInsertion_90 wJ4_parentOf q649 q650 rfl g264d rfl (Nat.le_of_ble_eq_true rfl) (k1 := k - k16 - k23 - k30 - k37 - k159 - k166 - k173 - k180 - k217 - k224 - k231 - k238 - k245 - k252 - k259 - k266) (n1 := n - n17 - n24 - n31 - n38 - n160 - n167 - n174 - n181 - n218 - n225 - n232 - n239 - n246 - n253 - n260 - n267) (by omega) (by omega) ?_ ?_
                                                                        · rintro v h263 (⟨v9, e9, r262, e8, hq⟩ | ⟨ci9, q9, e9, -⟩)
                                                                          · cases e9
                                                                            subst e8
                                                                            replace H := H r262 h263 hq
                                                                            refine e_astoreR_n (r := r262) _ dJ4_fixAfterInsertion_93 (by decide) rfl rfl ?_
                                                                            refine e_goto 148 dJ4_fixAfterInsertion_94 (by decide) ?_
                                                                            exact E.less2 H (eS_s (eS_s (eS_n eS_0)))
                                                                          · cases e9
                                                                        · rintro q9 h9 (⟨v9, e9, -⟩ | ⟨ci9, q8, e9, -, -, hx⟩)
                                                                          · cases e9
                                                                          · exact hx.elim
                                                                      · cases e9
                                                                    · rintro q9 h9 (⟨v9, e9, -⟩ | ⟨ci9, q8, e9, -, -, hx⟩)
                                                                      · cases e9
                                                                      · exact hx.elim
                                                                  · cases e9
                                                                · rintro q9 h9 (⟨v9, e9, -⟩ | ⟨ci9, q8, e9, -, -, hx⟩)
                                                                  · cases e9
                                                                  · exact hx.elim
                                                              · cases e9
                                                            · rintro q9 h9 (⟨v9, e9, -⟩ | ⟨ci9, q8, e9, -, -, hx⟩)
                                                              · cases e9
                                                              · exact hx.elim
                                                          · cases e9
                                                        · rintro q9 h9 (⟨v9, e9, -⟩ | ⟨ci9, q8, e9, -, -, hx⟩)
                                                          · cases e9
                                                          · exact hx.elim
                                                      · cases e9
                                                    · rintro q9 h9 (⟨v9, e9, -⟩ | ⟨ci9, q8, e9, -, -, hx⟩)
                                                      · cases e9
                                                      · exact hx.elim
                                                  · cases e9
                                                · rintro q9 h9 (⟨v9, e9, -⟩ | ⟨ci9, q8, e9, -, -, hx⟩)
                                                  · cases e9
                                                  · exact hx.elim
                                              · cases e9
                                            · rintro q9 h9 (⟨v9, e9, -⟩ | ⟨ci9, q8, e9, -, -, hx⟩)
                                              · cases e9
                                              · exact hx.elim
                                        · cases e9
                                      · rintro q9 h9 (⟨v9, e9, -⟩ | ⟨ci9, q8, e9, -, -, hx⟩)
                                        · cases e9
                                        · exact hx.elim
                                    · cases e9
                                  · rintro q9 h9 (⟨v9, e9, -⟩ | ⟨ci9, q8, e9, -, -, hx⟩)
                                    · cases e9
                                    · exact hx.elim
                                · cases e9
                              · rintro q9 h9 (⟨v9, e9, -⟩ | ⟨ci9, q8, e9, -, -, hx⟩)
                                · cases e9
                                · exact hx.elim
                            · cases e9
                          · rintro q9 h9 (⟨v9, e9, -⟩ | ⟨ci9, q8, e9, -, -, hx⟩)
                            · cases e9
                            · exact hx.elim
                      · cases e9
                    · rintro q9 h9 (⟨v9, e9, -⟩ | ⟨ci9, q8, e9, -, -, hx⟩)
                      · cases e9
                      · exact hx.elim
                  · cases e9
                · rintro q9 h9 (⟨v9, e9, -⟩ | ⟨ci9, q8, e9, -, -, hx⟩)
                  · cases e9
                  · exact hx.elim
              · cases e9
            · rintro q9 h9 (⟨v9, e9, -⟩ | ⟨ci9, q8, e9, -, -, hx⟩)
              · cases e9
              · exact hx.elim
          · cases e9
        · rintro q9 h9 (⟨v9, e9, -⟩ | ⟨ci9, q8, e9, -, -, hx⟩)
          · cases e9
          · exact hx.elim
set_option maxHeartbeats 4000000 in
theorem s_J4_fixAfterInsertion_118 (c : cC) (a0 : Nat) (a1 : Option Nat) (h : eH) (k n : Nat) (H : ∃ (d4 k5 n6 : Nat) (Q7 : Option Nat → eH → Prop), cQ c.1 c.2.1 c.2.2.1 d4 mJ4_parentOf [va_rf a1] h k5 n6 Q7 cX0 ∧ d4 + 1 ≤ c.2.2.2.1 ∧ k5 ≤ k ∧ n6 ≤ n ∧ (∀ (r1 : Option Nat) (h2 : eH), Q7 r1 h2 → (∃ (d11 k12 n13 : Nat) (Q14 : eH → Prop), cV c.1 c.2.1 c.2.2.1 d11 mJ4_setColor [va_rf r1, .int (1 : Int32)] h2 k12 n13 Q14 cX0 ∧ d11 + 1 ≤ c.2.2.2.1 ∧ k12 ≤ k - k5 ∧ n13 ≤ n - n6 ∧ (∀ h9 : eH, Q14 h9 → (∃ (d18 k19 n20 : Nat) (Q21 : Option Nat → eH → Prop), cQ c.1 c.2.1 c.2.2.1 d18 mJ4_parentOf [va_rf a1] h9 k19 n20 Q21 cX0 ∧ d18 + 1 ≤ c.2.2.2.1 ∧ k19 ≤ k - k5 - k12 ∧ n20 ≤ n - n6 - n13 ∧ (∀ (r15 : Option Nat) (h16 : eH), Q21 r15 h16 → (∃ (d25 k26 n27 : Nat) (Q28 : Option Nat → eH → Prop), cQ c.1 c.2.1 c.2.2.1 d25 mJ4_parentOf [va_rf r15] h16 k26 n27 Q28 cX0 ∧ d25 + 1 ≤ c.2.2.2.1 ∧ k26 ≤ k - k5 - k12 - k19 ∧ n27 ≤ n - n6 - n13 - n20 ∧ (∀ (r22 : Option Nat) (h23 : eH), Q28 r22 h23 → (∃ (d32 k33 n34 : Nat) (Q35 : eH → Prop), cV c.1 c.2.1 c.2.2.1 d32 mJ4_setColor [va_rf r22, .int (0 : Int32)] h23 k33 n34 Q35 cX0 ∧ d32 + 1 ≤ c.2.2.2.1 ∧ k33 ≤ k - k5 - k12 - k19 - k26 ∧ n34 ≤ n - n6 - n13 - n20 - n27 ∧ (∀ h30 : eH, Q35 h30 → (∃ (d39 k40 n41 : Nat) (Q42 : Option Nat → eH → Prop), cQ c.1 c.2.1 c.2.2.1 d39 mJ4_parentOf [va_rf a1] h30 k40 n41 Q42 cX0 ∧ d39 + 1 ≤ c.2.2.2.1 ∧ k40 ≤ k - k5 - k12 - k19 - k26 - k33 ∧ n41 ≤ n - n6 - n13 - n20 - n27 - n34 ∧ (∀ (r36 : Option Nat) (h37 : eH), Q42 r36 h37 → (∃ (d46 k47 n48 : Nat) (Q49 : Option Nat → eH → Prop), cQ c.1 c.2.1 c.2.2.1 d46 mJ4_parentOf [va_rf r36] h37 k47 n48 Q49 cX0 ∧ d46 + 1 ≤ c.2.2.2.1 ∧ k47 ≤ k - k5 - k12 - k19 - k26 - k33 - k40 ∧ n48 ≤ n - n6 - n13 - n20 - n27 - n34 - n41 ∧ (∀ (r43 : Option Nat) (h44 : eH), Q49 r43 h44 → (∃ fs8 : List Value, h44.1 a0 = some (.inr (16, fs8)) ∧ ∃ (d53 k54 n55 : Nat) (Q56 : eH → Prop), cV c.1 c.2.1 c.2.2.1 d53 mJ4_rotateRight [.ref a0, va_rf r43] h44 k54 n55 Q56 cX0 ∧ d53 + 1 ≤ c.2.2.2.1 ∧ k54 ≤ k - k5 - k12 - k19 - k26 - k33 - k40 - k47 ∧ n55 ≤ n - n6 - n13 - n20 - n27 - n34 - n41 - n48 ∧ (∀ h51 : eH, Q56 h51 → (h_J4_fixAfterInsertion_148 c a0 a1 h51 (k - k5 - k12 - k19 - k26 - k33 - k40 - k47 - k54) (n - n6 - n13 - n20 - n27 - n34 - n41 - n48 - n55)))))))))))))))))) : h_J4_fixAfterInsertion_118 c a0 a1 h k n := by
  refine e_aloadR_n (r := a1) dJ4_fixAfterInsertion_118 rfl ?_
  obtain ⟨d4, k5, n6, Q7, g3, g3d, g3k, g3n, H⟩ := H
  refine e_callS (As := [va_rf a1]) g3 dJ4_fixAfterInsertion_119 wJ4_parentOf q649 q650 rfl g3d rfl (Nat.le_of_ble_eq_true rfl) (k1 := k - k5) (n1 := n - n6) (by omega) (by omega) ?_ ?_
  · rintro v h2 (⟨v9, e9, r1, e8, hq⟩ | ⟨ci9, q9, e9, -⟩)
    · cases e9
      subst e8
      replace H := H r1 h2 hq
      refine e_iconst (1) dJ4_fixAfterInsertion_122 (by decide) ?_
      obtain ⟨d11, k12, n13, Q14, g10, g10d, g10k, g10n, H⟩ := H
      refine e_callS (As := [va_rf r1, .int (1 : Int32)]) g10 dJ4_fixAfterInsertion_123 wJ4_setColor q661 q662 rfl g10d rfl (Nat.le_of_ble_eq_true rfl) (k1 := k - k5 - k12) (n1 := n - n6 - n13) (by omega) (by omega) ?_ ?_
      · rintro v h9 (⟨v9, e9, e8, hq⟩ | ⟨ci9, q9, e9, -⟩)
        · cases e9
          subst e8
          replace H := H h9 hq
          refine e_aloadR_n (r := a1) dJ4_fixAfterInsertion_126 rfl ?_
          obtain ⟨d18, k19, n20, Q21, g17, g17d, g17k, g17n, H⟩ := H
          refine e_callS (As := [va_rf a1]) g17 dJ4_fixAfterInsertion_127 wJ4_parentOf q649 q650 rfl g17d rfl (Nat.le_of_ble_eq_true rfl) (k1 := k - k5 - k12 - k19) (n1 := n - n6 - n13 - n20) (by omega) (by omega) ?_ ?_
          · rintro v h16 (⟨v9, e9, r15, e8, hq⟩ | ⟨ci9, q9, e9, -⟩)
            · cases e9
              subst e8
              replace H := H r15 h16 hq
              obtain ⟨d25, k26, n27, Q28, g24, g24d, g24k, g24n, H⟩ := H
              refine e_callS (As := [va_rf r15]) g24 dJ4_fixAfterInsertion_130 wJ4_parentOf q649 q650 rfl g24d rfl (Nat.le_of_ble_eq_true rfl) (k1 := k - k5 - k12 - k19 - k26) (n1 := n - n6 - n13 - n20 - n27) (by omega) (by omega) ?_ ?_
              · rintro v h23 (⟨v9, e9, r22, e8, hq⟩ | ⟨ci9, q9, e9, -⟩)
                · cases e9
                  subst e8
                  replace H := H r22 h23 hq
                  refine e_iconst (0) dJ4_fixAfterInsertion_133 (by decide) ?_
                  obtain ⟨d32, k33, n34, Q35, g31, g31d, g31k, g31n, H⟩ := H
                  refine e_callS (As := [va_rf r22, .int (0 : Int32)]) g31 dJ4_fixAfterInsertion_134 wJ4_setColor q661 q662 rfl g31d rfl (Nat.le_of_ble_eq_true rfl) (k1 := k - k5 - k12 - k19 - k26 - k33) (n1 := n - n6 - n13 - n20 - n27 - n34) (by omega) (by omega) ?_ ?_
                  · rintro v h30 (⟨v9, e9, e8, hq⟩ | ⟨ci9, q9, e9, -⟩)
                    · cases e9
                      subst e8
                      replace H := H h30 hq
                      refine e_aload_n dJ4_fixAfterInsertion_137 rfl ?_
                      refine e_aloadR_n (r := a1) dJ4_fixAfterInsertion_138 rfl ?_
                      obtain ⟨d39, k40, n41, Q42, g38, g38d, g38k, g38n, H⟩ := H
                      refine e_callS (As := [va_rf a1]) g38 dJ4_fixAfterInsertion_139 wJ4_parentOf q649 q650 rfl g38d rfl (Nat.le_of_ble_eq_true rfl) (k1 := k - k5 - k12 - k19 - k26 - k33 - k40) (n1 := n - n6 - n13 - n20 - n27 - n34 - n41) (by omega) (by omega) ?_ ?_
                      · rintro v h37 (⟨v9, e9, r36, e8, hq⟩ | ⟨ci9, q9, e9, -⟩)
                        · cases e9
                          subst e8
                          replace H := H r36 h37 hq
                          obtain ⟨d46, k47, n48, Q49, g45, g45d, g45k, g45n, H⟩ := H
                          refine e_callS (As := [va_rf r36]) g45 dJ4_fixAfterInsertion_142 wJ4_parentOf q649 q650 rfl g45d rfl (Nat.le_of_ble_eq_true rfl) (k1 := k - k5 - k12 - k19 - k26 - k33 - k40 - k47) (n1 := n - n6 - n13 - n20 - n27 - n34 - n41 - n48) (by omega) (by omega) ?_ ?_
                          · rintro v h44 (⟨v9, e9, r43, e8, hq⟩ | ⟨ci9, q9, e9, -⟩)
                            · cases e9
                              subst e8
                              replace H := H r43 h44 hq
                              obtain ⟨fsg52, g52o, H⟩ := H
                              obtain ⟨d53, k54, n55, Q56, g52, g52d, g52k, g52n, H⟩ := H
                              refine e_callV (r := (RJ4, TJ4, 9)) (As := [va_rf r43]) g52 dJ4_fixAfterInsertion_145 wJ4_rotateRight q668 q670 qs5 g52o rfl rfl g52d rfl (Nat.le_of_ble_eq_true rfl) (k1 := k - k5 - k12 - k19 - k26 - k33 - k40 - k47 - k54) (n1 := n - n6 - n13 - n20 - n27 - n34 - n41 - n48 - n55) (by omega) (by omega) ?_ ?_
                              · rintro v h51 (⟨v9, e9, e8, hq⟩ | ⟨ci9, q9, e9, -⟩)
                                · cases e9
                                  subst e8
                                  replace H := H h51 hq
                                  exact E.less2 H (eS_s (eS_s (eS_n eS_0)))
                                · cases e9
                              · rintro q9 h9 (⟨v9, e9, -⟩ | ⟨ci9, q8, e9, -, -, hx⟩)
                                · cases e9
                                · exact hx.elim
                            · cases e9
                          · rintro q9 h9 (⟨v9, e9, -⟩ | ⟨ci9, q8, e9, -, -, hx⟩)
                            · cases e9
                            · exact hx.elim
                        · cases e9
                      · rintro q9 h9 (⟨v9, e9, -⟩ | ⟨ci9, q8, e9, -, -, hx⟩)
                        · cases e9
                        · exact hx.elim
                    · cases e9
                  · rintro q9 h9 (⟨v9, e9, -⟩ | ⟨ci9, q8, e9, -, -, hx⟩)
                    · cases e9
                    · exact hx.elim
                · cases e9
              · rintro q9 h9 (⟨v9, e9, -⟩ | ⟨ci9, q8, e9, -, -, hx⟩)
                · cases e9
                · exact hx.elim
            · cases e9
          · rintro q9 h9 (⟨v9, e9, -⟩ | ⟨ci9, q8, e9, -, -, hx⟩)
            · cases e9
            · exact hx.elim
        · cases e9
      · rintro q9 h9 (⟨v9, e9, -⟩ | ⟨ci9, q8, e9, -, -, hx⟩)
        · cases e9
        · exact hx.elim
    · cases e9
  · rintro q9 h9 (⟨v9, e9, -⟩ | ⟨ci9, q8, e9, -, -, hx⟩)
    · cases e9
    · exact hx.elim
set_option maxHeartbeats 4000000 in
theorem s_J4_fixAfterInsertion_148 (c : cC) (a0 : Nat) (a1 : Option Nat) (h : eH) (k n : Nat) (H : h_J4_fixAfterInsertion_5 c a0 a1 h k n) : h_J4_fixAfterInsertion_148 c a0 a1 h k n := by
  refine e_goto 5 dJ4_fixAfterInsertion_148 (by decide) ?_
  exact E.less2 H (eS_s (eS_s (eS_n eS_0)))
set_option maxHeartbeats 4000000 in
theorem s_J4_fixAfterInsertion_225 (c : cC) (a0 : Nat) (a1 : Option Nat) (h : eH) (k n : Nat) (H : ∃ (d4 k5 n6 : Nat) (Q7 : Option Nat → eH → Prop), cQ c.1 c.2.1 c.2.2.1 d4 mJ4_parentOf [va_rf a1] h k5 n6 Q7 cX0 ∧ d4 + 1 ≤ c.2.2.2.1 ∧ k5 ≤ k ∧ n6 ≤ n ∧ (∀ (r1 : Option Nat) (h2 : eH), Q7 r1 h2 → (∃ (d11 k12 n13 : Nat) (Q14 : eH → Prop), cV c.1 c.2.1 c.2.2.1 d11 mJ4_setColor [va_rf r1, .int (1 : Int32)] h2 k12 n13 Q14 cX0 ∧ d11 + 1 ≤ c.2.2.2.1 ∧ k12 ≤ k - k5 ∧ n13 ≤ n - n6 ∧ (∀ h9 : eH, Q14 h9 → (∃ (d18 k19 n20 : Nat) (Q21 : Option Nat → eH → Prop), cQ c.1 c.2.1 c.2.2.1 d18 mJ4_parentOf [va_rf a1] h9 k19 n20 Q21 cX0 ∧ d18 + 1 ≤ c.2.2.2.1 ∧ k19 ≤ k - k5 - k12 ∧ n20 ≤ n - n6 - n13 ∧ (∀ (r15 : Option Nat) (h16 : eH), Q21 r15 h16 → (∃ (d25 k26 n27 : Nat) (Q28 : Option Nat → eH → Prop), cQ c.1 c.2.1 c.2.2.1 d25 mJ4_parentOf [va_rf r15] h16 k26 n27 Q28 cX0 ∧ d25 + 1 ≤ c.2.2.2.1 ∧ k26 ≤ k - k5 - k12 - k19 ∧ n27 ≤ n - n6 - n13 - n20 ∧ (∀ (r22 : Option Nat) (h23 : eH), Q28 r22 h23 → (∃ (d32 k33 n34 : Nat) (Q35 : eH → Prop), cV c.1 c.2.1 c.2.2.1 d32 mJ4_setColor [va_rf r22, .int (0 : Int32)] h23 k33 n34 Q35 cX0 ∧ d32 + 1 ≤ c.2.2.2.1 ∧ k33 ≤ k - k5 - k12 - k19 - k26 ∧ n34 ≤ n - n6 - n13 - n20 - n27 ∧ (∀ h30 : eH, Q35 h30 → (∃ (d39 k40 n41 : Nat) (Q42 : Option Nat → eH → Prop), cQ c.1 c.2.1 c.2.2.1 d39 mJ4_parentOf [va_rf a1] h30 k40 n41 Q42 cX0 ∧ d39 + 1 ≤ c.2.2.2.1 ∧ k40 ≤ k - k5 - k12 - k19 - k26 - k33 ∧ n41 ≤ n - n6 - n13 - n20 - n27 - n34 ∧ (∀ (r36 : Option Nat) (h37 : eH), Q42 r36 h37 → (∃ (d46 k47 n48 : Nat) (Q49 : Option Nat → eH → Prop), cQ c.1 c.2.1 c.2.2.1 d46 mJ4_parentOf [va_rf r36] h37 k47 n48 Q49 cX0 ∧ d46 + 1 ≤ c.2.2.2.1 ∧ k47 ≤ k - k5 - k12 - k19 - k26 - k33 - k40 ∧ n48 ≤ n - n6 - n13 - n20 - n27 - n34 - n41 ∧ (∀ (r43 : Option Nat) (h44 : eH), Q49 r43 h44 → (∃ fs8 : List Value, h44.1 a0 = some (.inr (16, fs8)) ∧ ∃ (d53 k54 n55 : Nat) (Q56 : eH → Prop), cV c.1 c.2.1 c.2.2.1 d53 mJ4_rotateLeft [.ref a0, va_rf r43] h44 k54 n55 Q56 cX0 ∧ d53 + 1 ≤ c.2.2.2.1 ∧ k54 ≤ k - k5 - k12 - k19 - k26 - k33 - k40 - k47 ∧ n55 ≤ n - n6 - n13 - n20 - n27 - n34 - n41 - n48 ∧ (∀ h51 : eH, Q56 h51 → (h_J4_fixAfterInsertion_255 c a0 a1 h51 (k - k5 - k12 - k19 - k26 - k33 - k40 - k47 - k54) (n - n6 - n13 - n20 - n27 - n34 - n41 - n48 - n55)))))))))))))))))) : h_J4_fixAfterInsertion_225 c a0 a1 h k n := by
  refine e_aloadR_n (r := a1) dJ4_fixAfterInsertion_225 rfl ?_
  obtain ⟨d4, k5, n6, Q7, g3, g3d, g3k, g3n, H⟩ := H
  refine e_callS (As := [va_rf a1]) g3 dJ4_fixAfterInsertion_226 wJ4_parentOf q649 q650 rfl g3d rfl (Nat.le_of_ble_eq_true rfl) (k1 := k - k5) (n1 := n - n6) (by omega) (by omega) ?_ ?_
  · rintro v h2 (⟨v9, e9, r1, e8, hq⟩ | ⟨ci9, q9, e9, -⟩)
    · cases e9
      subst e8
      replace H := H r1 h2 hq
      refine e_iconst (1) dJ4_fixAfterInsertion_229 (by decide) ?_
      obtain ⟨d11, k12, n13, Q14, g10, g10d, g10k, g10n, H⟩ := H
      refine e_callS (As := [va_rf r1, .int (1 : Int32)]) g10 dJ4_fixAfterInsertion_230 wJ4_setColor q661 q662 rfl g10d rfl (Nat.le_of_ble_eq_true rfl) (k1 := k - k5 - k12) (n1 := n - n6 - n13) (by omega) (by omega) ?_ ?_
      · rintro v h9 (⟨v9, e9, e8, hq⟩ | ⟨ci9, q9, e9, -⟩)
        · cases e9
          subst e8
          replace H := H h9 hq
          refine e_aloadR_n (r := a1) dJ4_fixAfterInsertion_233 rfl ?_
          obtain ⟨d18, k19, n20, Q21, g17, g17d, g17k, g17n, H⟩ := H
          refine e_callS (As := [va_rf a1]) g17 dJ4_fixAfterInsertion_234 wJ4_parentOf q649 q650 rfl g17d rfl (Nat.le_of_ble_eq_true rfl) (k1 := k - k5 - k12 - k19) (n1 := n - n6 - n13 - n20) (by omega) (by omega) ?_ ?_
          · rintro v h16 (⟨v9, e9, r15, e8, hq⟩ | ⟨ci9, q9, e9, -⟩)
            · cases e9
              subst e8
              replace H := H r15 h16 hq
              obtain ⟨d25, k26, n27, Q28, g24, g24d, g24k, g24n, H⟩ := H
              refine e_callS (As := [va_rf r15]) g24 dJ4_fixAfterInsertion_237 wJ4_parentOf q649 q650 rfl g24d rfl (Nat.le_of_ble_eq_true rfl) (k1 := k - k5 - k12 - k19 - k26) (n1 := n - n6 - n13 - n20 - n27) (by omega) (by omega) ?_ ?_
              · rintro v h23 (⟨v9, e9, r22, e8, hq⟩ | ⟨ci9, q9, e9, -⟩)
                · cases e9
                  subst e8
                  replace H := H r22 h23 hq
                  refine e_iconst (0) dJ4_fixAfterInsertion_240 (by decide) ?_
                  obtain ⟨d32, k33, n34, Q35, g31, g31d, g31k, g31n, H⟩ := H
                  refine e_callS (As := [va_rf r22, .int (0 : Int32)]) g31 dJ4_fixAfterInsertion_241 wJ4_setColor q661 q662 rfl g31d rfl (Nat.le_of_ble_eq_true rfl) (k1 := k - k5 - k12 - k19 - k26 - k33) (n1 := n - n6 - n13 - n20 - n27 - n34) (by omega) (by omega) ?_ ?_
                  · rintro v h30 (⟨v9, e9, e8, hq⟩ | ⟨ci9, q9, e9, -⟩)
                    · cases e9
                      subst e8
                      replace H := H h30 hq
                      refine e_aload_n dJ4_fixAfterInsertion_244 rfl ?_
                      refine e_aloadR_n (r := a1) dJ4_fixAfterInsertion_245 rfl ?_
                      obtain ⟨d39, k40, n41, Q42, g38, g38d, g38k, g38n, H⟩ := H
                      refine e_callS (As := [va_rf a1]) g38 dJ4_fixAfterInsertion_246 wJ4_parentOf q649 q650 rfl g38d rfl (Nat.le_of_ble_eq_true rfl) (k1 := k - k5 - k12 - k19 - k26 - k33 - k40) (n1 := n - n6 - n13 - n20 - n27 - n34 - n41) (by omega) (by omega) ?_ ?_
                      · rintro v h37 (⟨v9, e9, r36, e8, hq⟩ | ⟨ci9, q9, e9, -⟩)
                        · cases e9
                          subst e8
                          replace H := H r36 h37 hq
                          obtain ⟨d46, k47, n48, Q49, g45, g45d, g45k, g45n, H⟩ := H
                          refine e_callS (As := [va_rf r36]) g45 dJ4_fixAfterInsertion_249 wJ4_parentOf q649 q650 rfl g45d rfl (Nat.le_of_ble_eq_true rfl) (k1 := k - k5 - k12 - k19 - k26 - k33 - k40 - k47) (n1 := n - n6 - n13 - n20 - n27 - n34 - n41 - n48) (by omega) (by omega) ?_ ?_
                          · rintro v h44 (⟨v9, e9, r43, e8, hq⟩ | ⟨ci9, q9, e9, -⟩)
                            · cases e9
                              subst e8
                              replace H := H r43 h44 hq
                              obtain ⟨fsg52, g52o, H⟩ := H
                              obtain ⟨d53, k54, n55, Q56, g52, g52d, g52k, g52n, H⟩ := H
                              refine e_callV (r := (RJ4, TJ4, 9)) (As := [va_rf r43]) g52 dJ4_fixAfterInsertion_252 wJ4_rotateLeft q664 q666 qs4 g52o rfl rfl g52d rfl (Nat.le_of_ble_eq_true rfl) (k1 := k - k5 - k12 - k19 - k26 - k33 - k40 - k47 - k54) (n1 := n - n6 - n13 - n20 - n27 - n34 - n41 - n48 - n55) (by omega) (by omega) ?_ ?_
                              · rintro v h51 (⟨v9, e9, e8, hq⟩ | ⟨ci9, q9, e9, -⟩)
                                · cases e9
                                  subst e8
                                  replace H := H h51 hq
                                  exact E.less2 H (eS_s (eS_s (eS_n eS_0)))
                                · cases e9
                              · rintro q9 h9 (⟨v9, e9, -⟩ | ⟨ci9, q8, e9, -, -, hx⟩)
                                · cases e9
                                · exact hx.elim
                            · cases e9
                          · rintro q9 h9 (⟨v9, e9, -⟩ | ⟨ci9, q8, e9, -, -, hx⟩)
                            · cases e9
                            · exact hx.elim
                        · cases e9
                      · rintro q9 h9 (⟨v9, e9, -⟩ | ⟨ci9, q8, e9, -, -, hx⟩)
                        · cases e9
                        · exact hx.elim
                    · cases e9
                  · rintro q9 h9 (⟨v9, e9, -⟩ | ⟨ci9, q8, e9, -, -, hx⟩)
                    · cases e9
                    · exact hx.elim
                · cases e9
              · rintro q9 h9 (⟨v9, e9, -⟩ | ⟨ci9, q8, e9, -, -, hx⟩)
                · cases e9
                · exact hx.elim
            · cases e9
          · rintro q9 h9 (⟨v9, e9, -⟩ | ⟨ci9, q8, e9, -, -, hx⟩)
            · cases e9
            · exact hx.elim
        · cases e9
      · rintro q9 h9 (⟨v9, e9, -⟩ | ⟨ci9, q8, e9, -, -, hx⟩)
        · cases e9
        · exact hx.elim
    · cases e9
  · rintro q9 h9 (⟨v9, e9, -⟩ | ⟨ci9, q8, e9, -, -, hx⟩)
    · cases e9
    · exact hx.elim
set_option maxHeartbeats 4000000 in
theorem s_J4_fixAfterInsertion_255 (c : cC) (a0 : Nat) (a1 : Option Nat) (h : eH) (k n : Nat) (H : h_J4_fixAfterInsertion_5 c a0 a1 h k n) : h_J4_fixAfterInsertion_255 c a0 a1 h k n := by
  refine e_goto 5 dJ4_fixAfterInsertion_255 (by decide) ?_
  exact E.less2 H (eS_s (eS_s (eS_n eS_0)))
set_option maxHeartbeats 4000000 in
theorem s_J4_fixAfterInsertion_258 (c : cC) (a0 : Nat) (h : eH) (k n : Nat) (H : ∃ x1 : Option Nat, fV h a0 16 3 (va_rf x1) ∧ (∃ o3 : Nat, x1 = some o3 ∧ ∃ fs4 : List Value, h.1 o3 = some (.inr (19, fs4)) ∧ c.2.1 ≤ o3 ∧ 5 < fs4.length ∧ ∀ h6 : eH, h6 = eUp h o3 (.inr (19, fs4.set 5 (.int (1 : Int32)))) → (c.2.2.2.2 (.inl none) h6))) : h_J4_fixAfterInsertion_258 c a0 h k n := by
  refine e_aload_n dJ4_fixAfterInsertion_258 rfl ?_
  obtain ⟨x1, ⟨fsx1, g2, g2v⟩, H⟩ := H
  refine e_get dJ4_fixAfterInsertion_259 fJ4_3 q267 g2 g2v ?_
  refine e_iconst (1) dJ4_fixAfterInsertion_262 (by decide) ?_
  obtain ⟨o3, eo3, H⟩ := H
  subst eo3
  obtain ⟨fs4, g5, g5l, g5j, H⟩ := H
  refine e_put dJ4_fixAfterInsertion_263 fJ15_5 q624 eFit_z1 g5 g5l g5j ?_
  replace H := H _ rfl
  generalize eUp h o3 _ = h6 at H ⊢
  exact e_return dJ4_fixAfterInsertion_266 rfl H
theorem en_J4_fixAfterInsertion {l : Launch} {lo : Nat} {G : eG} {d : Nat} {P : eO → eH → Prop} (a0 : Nat) (a1 : Nat) {h : eH} {k n : Nat} (H : h_J4_fixAfterInsertion_0 (l, lo, G, d, P) a0 a1 h k n) : Ct l lo G d mJ4_fixAfterInsertion [.ref a0, .ref a1] h k n P := 
  Ct_of (eArL mJ4_fixAfterInsertion.2.2.2.1 [.ref a0, .ref a1]) (by decide) rfl (Nat.le_of_ble_eq_true rfl) (fun j w q => eArL_mem j w q) (E.less2 H (eS_s (eS_s (eS_n eS_0))))
/-! J4_parentOf java/util/TreeMap.parentOf(Ljava/util/TreeMap$Entry;)Ljava/util/TreeMap$Entry; -/
def h_J4_parentOf_0 (c : cC) (a0 : Option Nat) (h : eH) (k n : Nat) : Prop := E c.1 c.2.1 c.2.2.1 c.2.2.2.1 mJ4_parentOf c.2.2.2.2 0 [some (va_rf a0)] [] h k n
set_option maxHeartbeats 4000000 in
theorem s_J4_parentOf_0 (c : cC) (a0 : Option Nat) (h : eH) (k n : Nat) (H : (a0 = none → c.2.2.2.2 (.inl (some (.null))) h) ∧ (∀ o1 : Nat, a0 = some o1 → ∃ x3 : Option Nat, fV h o1 19 4 (va_rf x3) ∧ (c.2.2.2.2 (.inl (some (va_rf x3))) h))) : h_J4_parentOf_0 c a0 h k n := by
  refine e_aloadR_n (r := a0) dJ4_parentOf_0 rfl ?_
  refine e_ifnonnull (r := a0) 8 dJ4_parentOf_1 (by decide) (fun o1 g2 => ?_) (fun g2 => ?_)
  · subst g2
    replace H := H.2 o1 rfl
    refine e_aload_n dJ4_parentOf_8 rfl ?_
    obtain ⟨x3, ⟨fsx3, g4, g4v⟩, H⟩ := H
    refine e_get dJ4_parentOf_9 fJ15_4 q622 g4 g4v ?_
    exact e_areturn (r := x3) _ dJ4_parentOf_12 rfl (Or.inl ⟨_, rfl⟩) H
  · subst g2
    replace H := H.1 rfl
    refine e_null dJ4_parentOf_4 ?_
    refine e_goto 12 dJ4_parentOf_5 (by decide) ?_
    exact e_areturn (r := none) _ dJ4_parentOf_12 rfl (Or.inl ⟨_, rfl⟩) H
theorem en_J4_parentOf {l : Launch} {lo : Nat} {G : eG} {d : Nat} {P : eO → eH → Prop} (a0 : Option Nat) {h : eH} {k n : Nat} (H : h_J4_parentOf_0 (l, lo, G, d, P) a0 h k n) : Ct l lo G d mJ4_parentOf [va_rf a0] h k n P := by
  cases a0 with
  | none =>
    exact Ct_of (eArL mJ4_parentOf.2.2.2.1 [va_rf none]) (by decide) rfl (Nat.le_of_ble_eq_true rfl) (fun j w q => eArL_mem j w q) (E.less2 H (eS_s eS_0))
  | some a09 =>
    exact Ct_of (eArL mJ4_parentOf.2.2.2.1 [va_rf (some a09)]) (by decide) rfl (Nat.le_of_ble_eq_true rfl) (fun j w q => eArL_mem j w q) (E.less2 H (eS_s eS_0))
/-! J4_leftOf java/util/TreeMap.leftOf(Ljava/util/TreeMap$Entry;)Ljava/util/TreeMap$Entry; -/
def h_J4_leftOf_0 (c : cC) (a0 : Option Nat) (h : eH) (k n : Nat) : Prop := E c.1 c.2.1 c.2.2.1 c.2.2.2.1 mJ4_leftOf c.2.2.2.2 0 [some (va_rf a0)] [] h k n
set_option maxHeartbeats 4000000 in
theorem s_J4_leftOf_0 (c : cC) (a0 : Option Nat) (h : eH) (k n : Nat) (H : (a0 = none → c.2.2.2.2 (.inl (some (.null))) h) ∧ (∀ o1 : Nat, a0 = some o1 → ∃ x3 : Option Nat, fV h o1 19 2 (va_rf x3) ∧ (c.2.2.2.2 (.inl (some (va_rf x3))) h))) : h_J4_leftOf_0 c a0 h k n := by
  refine e_aloadR_n (r := a0) dJ4_leftOf_0 rfl ?_
  refine e_ifnonnull (r := a0) 8 dJ4_leftOf_1 (by decide) (fun o1 g2 => ?_) (fun g2 => ?_)
  · subst g2
    replace H := H.2 o1 rfl
    refine e_aload_n dJ4_leftOf_8 rfl ?_
    obtain ⟨x3, ⟨fsx3, g4, g4v⟩, H⟩ := H
    refine e_get dJ4_leftOf_9 fJ15_2 q619 g4 g4v ?_
    exact e_areturn (r := x3) _ dJ4_leftOf_12 rfl (Or.inl ⟨_, rfl⟩) H
  · subst g2
    replace H := H.1 rfl
    refine e_null dJ4_leftOf_4 ?_
    refine e_goto 12 dJ4_leftOf_5 (by decide) ?_
    exact e_areturn (r := none) _ dJ4_leftOf_12 rfl (Or.inl ⟨_, rfl⟩) H
theorem en_J4_leftOf {l : Launch} {lo : Nat} {G : eG} {d : Nat} {P : eO → eH → Prop} (a0 : Option Nat) {h : eH} {k n : Nat} (H : h_J4_leftOf_0 (l, lo, G, d, P) a0 h k n) : Ct l lo G d mJ4_leftOf [va_rf a0] h k n P := by
  cases a0 with
  | none =>
    exact Ct_of (eArL mJ4_leftOf.2.2.2.1 [va_rf none]) (by decide) rfl (Nat.le_of_ble_eq_true rfl) (fun j w q => eArL_mem j w q) (E.less2 H (eS_s eS_0))
  | some a09 =>
    exact Ct_of (eArL mJ4_leftOf.2.2.2.1 [va_rf (some a09)]) (by decide) rfl (Nat.le_of_ble_eq_true rfl) (fun j w q => eArL_mem j w q) (E.less2 H (eS_s eS_0))
/-! J4_rightOf java/util/TreeMap.rightOf(Ljava/util/TreeMap$Entry;)Ljava/util/TreeMap$Entry; -/
def h_J4_rightOf_0 (c : cC) (a0 : Option Nat) (h : eH) (k n : Nat) : Prop := E c.1 c.2.1 c.2.2.1 c.2.2.2.1 mJ4_rightOf c.2.2.2.2 0 [some (va_rf a0)] [] h k n
set_option maxHeartbeats 4000000 in
theorem s_J4_rightOf_0 (c : cC) (a0 : Option Nat) (h : eH) (k n : Nat) (H : (a0 = none → c.2.2.2.2 (.inl (some (.null))) h) ∧ (∀ o1 : Nat, a0 = some o1 → ∃ x3 : Option Nat, fV h o1 19 3 (va_rf x3) ∧ (c.2.2.2.2 (.inl (some (va_rf x3))) h))) : h_J4_rightOf_0 c a0 h k n := by
  refine e_aloadR_n (r := a0) dJ4_rightOf_0 rfl ?_
  refine e_ifnonnull (r := a0) 8 dJ4_rightOf_1 (by decide) (fun o1 g2 => ?_) (fun g2 => ?_)
  · subst g2
    replace H := H.2 o1 rfl
    refine e_aload_n dJ4_rightOf_8 rfl ?_
    obtain ⟨x3, ⟨fsx3, g4, g4v⟩, H⟩ := H
    refine e_get dJ4_rightOf_9 fJ15_3 q620 g4 g4v ?_
    exact e_areturn (r := x3) _ dJ4_rightOf_12 rfl (Or.inl ⟨_, rfl⟩) H
  · subst g2
    replace H := H.1 rfl
    refine e_null dJ4_rightOf_4 ?_
    refine e_goto 12 dJ4_rightOf_5 (by decide) ?_
    exact e_areturn (r := none) _ dJ4_rightOf_12 rfl (Or.inl ⟨_, rfl⟩) H
theorem en_J4_rightOf {l : Launch} {lo : Nat} {G : eG} {d : Nat} {P : eO → eH → Prop} (a0 : Option Nat) {h : eH} {k n : Nat} (H : h_J4_rightOf_0 (l, lo, G, d, P) a0 h k n) : Ct l lo G d mJ4_rightOf [va_rf a0] h k n P := by
  cases a0 with
  | none =>
    exact Ct_of (eArL mJ4_rightOf.2.2.2.1 [va_rf none]) (by decide) rfl (Nat.le_of_ble_eq_true rfl) (fun j w q => eArL_mem j w q) (E.less2 H (eS_s eS_0))
  | some a09 =>
    exact Ct_of (eArL mJ4_rightOf.2.2.2.1 [va_rf (some a09)]) (by decide) rfl (Nat.le_of_ble_eq_true rfl) (fun j w q => eArL_mem j w q) (E.less2 H (eS_s eS_0))
/-! J4_colorOf java/util/TreeMap.colorOf(Ljava/util/TreeMap$Entry;)Z -/
def h_J4_colorOf_0 (c : cC) (a0 : Option Nat) (h : eH) (k n : Nat) : Prop := E c.1 c.2.1 c.2.2.1 c.2.2.2.1 mJ4_colorOf c.2.2.2.2 0 [some (va_rf a0)] [] h k n
set_option maxHeartbeats 4000000 in
theorem s_J4_colorOf_0 (c : cC) (a0 : Option Nat) (h : eH) (k n : Nat) (H : (a0 = none → c.2.2.2.2 (.inl (some (.int (1 : Int32)))) h) ∧ (∀ o1 : Nat, a0 = some o1 → ∃ x3 : Int32, fV h o1 19 5 (.int x3) ∧ (narrow .boolean (.int x3) = .int x3 ∧ c.2.2.2.2 (.inl (some (.int x3))) h))) : h_J4_colorOf_0 c a0 h k n := by
  refine e_aloadR_n (r := a0) dJ4_colorOf_0 rfl ?_
  refine e_ifnonnull (r := a0) 8 dJ4_colorOf_1 (by decide) (fun o1 g2 => ?_) (fun g2 => ?_)
  · subst g2
    replace H := H.2 o1 rfl
    refine e_aload_n dJ4_colorOf_8 rfl ?_
    obtain ⟨x3, ⟨fsx3, g4, g4v⟩, H⟩ := H
    refine e_get dJ4_colorOf_9 fJ15_5 q624 g4 g4v ?_
    exact e_ireturn .boolean dJ4_colorOf_12 rfl H.1 H.2
  · subst g2
    replace H := H.1 rfl
    refine e_iconst (1) dJ4_colorOf_4 (by decide) ?_
    refine e_goto 12 dJ4_colorOf_5 (by decide) ?_
    exact e_ireturn .boolean dJ4_colorOf_12 rfl (by decide) H
theorem en_J4_colorOf {l : Launch} {lo : Nat} {G : eG} {d : Nat} {P : eO → eH → Prop} (a0 : Option Nat) {h : eH} {k n : Nat} (H : h_J4_colorOf_0 (l, lo, G, d, P) a0 h k n) : Ct l lo G d mJ4_colorOf [va_rf a0] h k n P := by
  cases a0 with
  | none =>
    exact Ct_of (eArL mJ4_colorOf.2.2.2.1 [va_rf none]) (by decide) rfl (Nat.le_of_ble_eq_true rfl) (fun j w q => eArL_mem j w q) (E.less2 H (eS_s eS_0))
  | some a09 =>
    exact Ct_of (eArL mJ4_colorOf.2.2.2.1 [va_rf (some a09)]) (by decide) rfl (Nat.le_of_ble_eq_true rfl) (fun j w q => eArL_mem j w q) (E.less2 H (eS_s eS_0))
/-! J4_setColor java/util/TreeMap.setColor(Ljava/util/TreeMap$Entry;Z)V -/
def h_J4_setColor_0 (c : cC) (a0 : Option Nat) (a1 : Int32) (h : eH) (k n : Nat) : Prop := E c.1 c.2.1 c.2.2.1 c.2.2.2.1 mJ4_setColor c.2.2.2.2 0 [some (va_rf a0), some (.int a1)] [] h k n
set_option maxHeartbeats 4000000 in
theorem s_J4_setColor_0 (c : cC) (a0 : Option Nat) (a1 : Int32) (h : eH) (k n : Nat) (H : (a0 = none → c.2.2.2.2 (.inl none) h) ∧ (∀ o1 : Nat, a0 = some o1 → eFit .boolean (.int a1) ∧ ∃ fs3 : List Value, h.1 o1 = some (.inr (19, fs3)) ∧ c.2.1 ≤ o1 ∧ 5 < fs3.length ∧ ∀ h5 : eH, h5 = eUp h o1 (.inr (19, fs3.set 5 (.int a1))) → (c.2.2.2.2 (.inl none) h5))) : h_J4_setColor_0 c a0 a1 h k n := by
  refine e_aloadR_n (r := a0) dJ4_setColor_0 rfl ?_
  refine e_ifnull (r := a0) 9 dJ4_setColor_1 (by decide) (fun g2 => ?_) (fun o1 g2 => ?_)
  · subst g2
    replace H := H.1 rfl
    exact e_return dJ4_setColor_9 rfl H
  · subst g2
    replace H := H.2 o1 rfl
    refine e_aload_n dJ4_setColor_4 rfl ?_
    refine e_iload_n dJ4_setColor_5 rfl ?_
    obtain ⟨g4f, H⟩ := H
    obtain ⟨fs3, g4, g4l, g4j, H⟩ := H
    refine e_put dJ4_setColor_6 fJ15_5 q624 g4f g4 g4l g4j ?_
    replace H := H _ rfl
    generalize eUp h o1 _ = h5 at H ⊢
    exact e_return dJ4_setColor_9 rfl H
theorem en_J4_setColor {l : Launch} {lo : Nat} {G : eG} {d : Nat} {P : eO → eH → Prop} (a0 : Option Nat) (a1 : Int32) {h : eH} {k n : Nat} (H : h_J4_setColor_0 (l, lo, G, d, P) a0 a1 h k n) : Ct l lo G d mJ4_setColor [va_rf a0, .int a1] h k n P := by
  cases a0 with
  | none =>
    exact Ct_of (eArL mJ4_setColor.2.2.2.1 [va_rf none, .int a1]) (by decide) rfl (Nat.le_of_ble_eq_true rfl) (fun j w q => eArL_mem j w q) (E.less2 H (eS_s (eS_s eS_0)))
  | some a09 =>
    exact Ct_of (eArL mJ4_setColor.2.2.2.1 [va_rf (some a09), .int a1]) (by decide) rfl (Nat.le_of_ble_eq_true rfl) (fun j w q => eArL_mem j w q) (E.less2 H (eS_s (eS_s eS_0)))
/-! J4_rotateLeft java/util/TreeMap.rotateLeft(Ljava/util/TreeMap$Entry;)V -/
def h_J4_rotateLeft_0 (c : cC) (a0 : Nat) (a1 : Option Nat) (h : eH) (k n : Nat) : Prop := E c.1 c.2.1 c.2.2.1 c.2.2.2.1 mJ4_rotateLeft c.2.2.2.2 0 [some (.ref a0), some (va_rf a1), none] [] h k n
def h_J4_rotateLeft_32 (c : cC) (a0 : Nat) (a1 : Option Nat) (a2 : Option Nat) (h : eH) (k n : Nat) : Prop := E c.1 c.2.1 c.2.2.1 c.2.2.2.1 mJ4_rotateLeft c.2.2.2.2 32 [some (.ref a0), some (va_rf a1), some (va_rf a2)] [] h k n
def h_J4_rotateLeft_85 (c : cC) (a1 : Option Nat) (a2 : Option Nat) (h : eH) (k n : Nat) : Prop := E c.1 c.2.1 c.2.2.1 c.2.2.2.1 mJ4_rotateLeft c.2.2.2.2 85 [none, some (va_rf a1), some (va_rf a2)] [] h k n
set_option maxHeartbeats 4000000 in
theorem s_J4_rotateLeft_0 (c : cC) (a0 : Nat) (a1 : Option Nat) (h : eH) (k n : Nat) (H : (a1 = none → c.2.2.2.2 (.inl none) h) ∧ (∀ o1 : Nat, a1 = some o1 → ∃ x3 : Option Nat, fV h o1 19 3 (va_rf x3) ∧ (∃ o5 : Nat, x3 = some o5 ∧ ∃ x6 : Option Nat, fV h o5 19 2 (va_rf x6) ∧ (∃ fs8 : List Value, h.1 o1 = some (.inr (19, fs8)) ∧ c.2.1 ≤ o1 ∧ 3 < fs8.length ∧ ∀ h10 : eH, h10 = eUp h o1 (.inr (19, fs8.set 3 (va_rf x6))) → (∃ x11 : Option Nat, fV h10 o5 19 2 (va_rf x11) ∧ ((x11 = none → h_J4_rotateLeft_32 c a0 (some o1) (some o5) h10 k n) ∧ (∀ o13 : Nat, x11 = some o13 → ∃ x15 : Option Nat, fV h10 o5 19 2 (va_rf x15) ∧ (∃ o17 : Nat, x15 = some o17 ∧ ∃ fs18 : List Value, h10.1 o17 = some (.inr (19, fs18)) ∧ c.2.1 ≤ o17 ∧ 4 < fs18.length ∧ ∀ h20 : eH, h20 = eUp h10 o17 (.inr (19, fs18.set 4 (.ref o1))) → (h_J4_rotateLeft_32 c a0 (some o1) (some o5) h20 k n))))))))) : h_J4_rotateLeft_0 c a0 a1 h k n := by
  refine e_aloadR_n (r := a1) dJ4_rotateLeft_0 rfl ?_
  refine e_ifnull (r := a1) 95 dJ4_rotateLeft_1 (by decide) (fun g2 => ?_) (fun o1 g2 => ?_)
  · subst g2
    replace H := H.1 rfl
    exact e_return dJ4_rotateLeft_95 rfl H
  · subst g2
    replace H := H.2 o1 rfl
    refine e_aload_n dJ4_rotateLeft_4 rfl ?_
    obtain ⟨x3, ⟨fsx3, g4, g4v⟩, H⟩ := H
    refine e_get dJ4_rotateLeft_5 fJ15_3 q620 g4 g4v ?_
    refine e_astoreR_n (r := x3) _ dJ4_rotateLeft_8 (by decide) rfl rfl ?_
    refine e_aload_n dJ4_rotateLeft_9 rfl ?_
    refine e_aloadR_n (r := x3) dJ4_rotateLeft_10 rfl ?_
    obtain ⟨o5, eo5, H⟩ := H
    subst eo5
    obtain ⟨x6, ⟨fsx6, g7, g7v⟩, H⟩ := H
    refine e_get dJ4_rotateLeft_11 fJ15_2 q619 g7 g7v ?_
    obtain ⟨fs8, g9, g9l, g9j, H⟩ := H
    refine e_put dJ4_rotateLeft_14 fJ15_3 q620 (eFit_o _ x6) g9 g9l g9j ?_
    replace H := H _ rfl
    generalize eUp h o1 _ = h10 at H ⊢
    refine e_aload_n dJ4_rotateLeft_17 rfl ?_
    obtain ⟨x11, ⟨fsx11, g12, g12v⟩, H⟩ := H
    refine e_get dJ4_rotateLeft_18 fJ15_2 q619 g12 g12v ?_
    refine e_ifnull (r := x11) 32 dJ4_rotateLeft_21 (by decide) (fun g14 => ?_) (fun o13 g14 => ?_)
    · subst g14
      replace H := H.1 rfl
      exact E.less2 H (eS_s (eS_s (eS_s eS_0)))
    · subst g14
      replace H := H.2 o13 rfl
      refine e_aload_n dJ4_rotateLeft_24 rfl ?_
      obtain ⟨x15, ⟨fsx15, g16, g16v⟩, H⟩ := H
      refine e_get dJ4_rotateLeft_25 fJ15_2 q619 g16 g16v ?_
      refine e_aload_n dJ4_rotateLeft_28 rfl ?_
      obtain ⟨o17, eo17, H⟩ := H
      subst eo17
      obtain ⟨fs18, g19, g19l, g19j, H⟩ := H
      refine e_put dJ4_rotateLeft_29 fJ15_4 q622 (eFit_or _ _) g19 g19l g19j ?_
      replace H := H _ rfl
      generalize eUp h10 o17 _ = h20 at H ⊢
      exact E.less2 H (eS_s (eS_s (eS_s eS_0)))
set_option maxHeartbeats 4000000 in
theorem s_J4_rotateLeft_32 (c : cC) (a0 : Nat) (a1 : Option Nat) (a2 : Option Nat) (h : eH) (k n : Nat) (H : ∃ o1 : Nat, a1 = some o1 ∧ ∃ x2 : Option Nat, fV h o1 19 4 (va_rf x2) ∧ (∃ o4 : Nat, a2 = some o4 ∧ ∃ fs5 : List Value, h.1 o4 = some (.inr (19, fs5)) ∧ c.2.1 ≤ o4 ∧ 4 < fs5.length ∧ ∀ h7 : eH, h7 = eUp h o4 (.inr (19, fs5.set 4 (va_rf x2))) → (∃ x8 : Option Nat, fV h7 o1 19 4 (va_rf x8) ∧ ((x8 = none → ∃ fs12 : List Value, h7.1 a0 = some (.inr (16, fs12)) ∧ c.2.1 ≤ a0 ∧ 3 < fs12.length ∧ ∀ h14 : eH, h14 = eUp h7 a0 (.inr (16, fs12.set 3 (.ref o4))) → (h_J4_rotateLeft_85 c (some o1) (some o4) h14 k n)) ∧ (∀ o10 : Nat, x8 = some o10 → ∃ x15 : Option Nat, fV h7 o1 19 4 (va_rf x15) ∧ (∃ o17 : Nat, x15 = some o17 ∧ ∃ x18 : Option Nat, fV h7 o17 19 2 (va_rf x18) ∧ ((¬ x18 = some o1 → ∃ x21 : Option Nat, fV h7 o1 19 4 (va_rf x21) ∧ (∃ o23 : Nat, x21 = some o23 ∧ ∃ fs24 : List Value, h7.1 o23 = some (.inr (19, fs24)) ∧ c.2.1 ≤ o23 ∧ 3 < fs24.length ∧ ∀ h26 : eH, h26 = eUp h7 o23 (.inr (19, fs24.set 3 (.ref o4))) → (h_J4_rotateLeft_85 c (some o1) (some o4) h26 k n))) ∧ (x18 = some o1 → ∃ x27 : Option Nat, fV h7 o1 19 4 (va_rf x27) ∧ (∃ o29 : Nat, x27 = some o29 ∧ ∃ fs30 : List Value, h7.1 o29 = some (.inr (19, fs30)) ∧ c.2.1 ≤ o29 ∧ 2 < fs30.length ∧ ∀ h32 : eH, h32 = eUp h7 o29 (.inr (19, fs30.set 2 (.ref o4))) → (h_J4_rotateLeft_85 c (some o1) (some o4) h32 k n)))))))))) : h_J4_rotateLeft_32 c a0 a1 a2 h k n := by
  refine e_aloadR_n (r := a2) dJ4_rotateLeft_32 rfl ?_
  refine e_aloadR_n (r := a1) dJ4_rotateLeft_33 rfl ?_
  obtain ⟨o1, eo1, H⟩ := H
  subst eo1
  obtain ⟨x2, ⟨fsx2, g3, g3v⟩, H⟩ := H
  refine e_get dJ4_rotateLeft_34 fJ15_4 q622 g3 g3v ?_
  obtain ⟨o4, eo4, H⟩ := H
  subst eo4
  obtain ⟨fs5, g6, g6l, g6j, H⟩ := H
  refine e_put dJ4_rotateLeft_37 fJ15_4 q622 (eFit_o _ x2) g6 g6l g6j ?_
  replace H := H _ rfl
  generalize eUp h o4 _ = h7 at H ⊢
  refine e_aload_n dJ4_rotateLeft_40 rfl ?_
  obtain ⟨x8, ⟨fsx8, g9, g9v⟩, H⟩ := H
  refine e_get dJ4_rotateLeft_41 fJ15_4 q622 g9 g9v ?_
  refine e_ifnonnull (r := x8) 55 dJ4_rotateLeft_44 (by decide) (fun o10 g11 => ?_) (fun g11 => ?_)
  · subst g11
    replace H := H.2 o10 rfl
    refine e_aload_n dJ4_rotateLeft_55 rfl ?_
    obtain ⟨x15, ⟨fsx15, g16, g16v⟩, H⟩ := H
    refine e_get dJ4_rotateLeft_56 fJ15_4 q622 g16 g16v ?_
    obtain ⟨o17, eo17, H⟩ := H
    subst eo17
    obtain ⟨x18, ⟨fsx18, g19, g19v⟩, H⟩ := H
    refine e_get dJ4_rotateLeft_59 fJ15_2 q619 g19 g19v ?_
    refine e_aload_n dJ4_rotateLeft_62 rfl ?_
    refine e_acmp_ne (rx := x18) (ry := some o1) 77 dJ4_rotateLeft_63 (by decide) (fun g20 => ?_) (fun g20 => ?_)
    · replace H := H.1 g20
      refine e_aload_n dJ4_rotateLeft_77 rfl ?_
      obtain ⟨x21, ⟨fsx21, g22, g22v⟩, H⟩ := H
      refine e_get dJ4_rotateLeft_78 fJ15_4 q622 g22 g22v ?_
      refine e_aload_n dJ4_rotateLeft_81 rfl ?_
      obtain ⟨o23, eo23, H⟩ := H
      subst eo23
      obtain ⟨fs24, g25, g25l, g25j, H⟩ := H
      refine e_put dJ4_rotateLeft_82 fJ15_3 q620 (eFit_or _ _) g25 g25l g25j ?_
      replace H := H _ rfl
      generalize eUp h7 o23 _ = h26 at H ⊢
      exact E.less2 H (eS_n (eS_s (eS_s eS_0)))
    · replace H := H.2 g20
      refine e_aload_n dJ4_rotateLeft_66 rfl ?_
      obtain ⟨x27, ⟨fsx27, g28, g28v⟩, H⟩ := H
      refine e_get dJ4_rotateLeft_67 fJ15_4 q622 g28 g28v ?_
      refine e_aload_n dJ4_rotateLeft_70 rfl ?_
      obtain ⟨o29, eo29, H⟩ := H
      subst eo29
      obtain ⟨fs30, g31, g31l, g31j, H⟩ := H
      refine e_put dJ4_rotateLeft_71 fJ15_2 q619 (eFit_or _ _) g31 g31l g31j ?_
      replace H := H _ rfl
      generalize eUp h7 o29 _ = h32 at H ⊢
      refine e_goto 85 dJ4_rotateLeft_74 (by decide) ?_
      exact E.less2 H (eS_n (eS_s (eS_s eS_0)))
  · subst g11
    replace H := H.1 rfl
    refine e_aload_n dJ4_rotateLeft_47 rfl ?_
    refine e_aload_n dJ4_rotateLeft_48 rfl ?_
    obtain ⟨fs12, g13, g13l, g13j, H⟩ := H
    refine e_put dJ4_rotateLeft_49 fJ4_3 q267 (eFit_or _ _) g13 g13l g13j ?_
    replace H := H _ rfl
    generalize eUp h7 a0 _ = h14 at H ⊢
    refine e_goto 85 dJ4_rotateLeft_52 (by decide) ?_
    exact E.less2 H (eS_n (eS_s (eS_s eS_0)))
set_option maxHeartbeats 4000000 in
theorem s_J4_rotateLeft_85 (c : cC) (a1 : Option Nat) (a2 : Option Nat) (h : eH) (k n : Nat) (H : ∃ o1 : Nat, a2 = some o1 ∧ ∃ fs2 : List Value, h.1 o1 = some (.inr (19, fs2)) ∧ c.2.1 ≤ o1 ∧ 2 < fs2.length ∧ ∀ h4 : eH, h4 = eUp h o1 (.inr (19, fs2.set 2 (va_rf a1))) → (∃ o5 : Nat, a1 = some o5 ∧ ∃ fs6 : List Value, h4.1 o5 = some (.inr (19, fs6)) ∧ c.2.1 ≤ o5 ∧ 4 < fs6.length ∧ ∀ h8 : eH, h8 = eUp h4 o5 (.inr (19, fs6.set 4 (.ref o1))) → (c.2.2.2.2 (.inl none) h8))) : h_J4_rotateLeft_85 c a1 a2 h k n := by
  refine e_aloadR_n (r := a2) dJ4_rotateLeft_85 rfl ?_
  refine e_aloadR_n (r := a1) dJ4_rotateLeft_86 rfl ?_
  obtain ⟨o1, eo1, H⟩ := H
  subst eo1
  obtain ⟨fs2, g3, g3l, g3j, H⟩ := H
  refine e_put dJ4_rotateLeft_87 fJ15_2 q619 (eFit_o _ a1) g3 g3l g3j ?_
  replace H := H _ rfl
  generalize eUp h o1 _ = h4 at H ⊢
  refine e_aloadR_n (r := a1) dJ4_rotateLeft_90 rfl ?_
  refine e_aload_n dJ4_rotateLeft_91 rfl ?_
  obtain ⟨o5, eo5, H⟩ := H
  subst eo5
  obtain ⟨fs6, g7, g7l, g7j, H⟩ := H
  refine e_put dJ4_rotateLeft_92 fJ15_4 q622 (eFit_or _ _) g7 g7l g7j ?_
  replace H := H _ rfl
  generalize eUp h4 o5 _ = h8 at H ⊢
  exact e_return dJ4_rotateLeft_95 rfl H
theorem en_J4_rotateLeft {l : Launch} {lo : Nat} {G : eG} {d : Nat} {P : eO → eH → Prop} (a0 : Nat) (a1 : Option Nat) {h : eH} {k n : Nat} (H : h_J4_rotateLeft_0 (l, lo, G, d, P) a0 a1 h k n) : Ct l lo G d mJ4_rotateLeft [.ref a0, va_rf a1] h k n P := by
  cases a1 with
  | none =>
    exact Ct_of (eArL mJ4_rotateLeft.2.2.2.1 [.ref a0, va_rf none]) (by decide) rfl (Nat.le_of_ble_eq_true rfl) (fun j w q => eArL_mem j w q) (E.less2 H (eS_s (eS_s (eS_n eS_0))))
  | some a19 =>
    exact Ct_of (eArL mJ4_rotateLeft.2.2.2.1 [.ref a0, va_rf (some a19)]) (by decide) rfl (Nat.le_of_ble_eq_true rfl) (fun j w q => eArL_mem j w q) (E.less2 H (eS_s (eS_s (eS_n eS_0))))
/-! J4_rotateRight java/util/TreeMap.rotateRight(Ljava/util/TreeMap$Entry;)V -/
def h_J4_rotateRight_0 (c : cC) (a0 : Nat) (a1 : Option Nat) (h : eH) (k n : Nat) : Prop := E c.1 c.2.1 c.2.2.1 c.2.2.2.1 mJ4_rotateRight c.2.2.2.2 0 [some (.ref a0), some (va_rf a1), none] [] h k n
def h_J4_rotateRight_32 (c : cC) (a0 : Nat) (a1 : Option Nat) (a2 : Option Nat) (h : eH) (k n : Nat) : Prop := E c.1 c.2.1 c.2.2.1 c.2.2.2.1 mJ4_rotateRight c.2.2.2.2 32 [some (.ref a0), some (va_rf a1), some (va_rf a2)] [] h k n
def h_J4_rotateRight_85 (c : cC) (a1 : Option Nat) (a2 : Option Nat) (h : eH) (k n : Nat) : Prop := E c.1 c.2.1 c.2.2.1 c.2.2.2.1 mJ4_rotateRight c.2.2.2.2 85 [none, some (va_rf a1), some (va_rf a2)] [] h k n
set_option maxHeartbeats 4000000 in
theorem s_J4_rotateRight_0 (c : cC) (a0 : Nat) (a1 : Option Nat) (h : eH) (k n : Nat) (H : (a1 = none → c.2.2.2.2 (.inl none) h) ∧ (∀ o1 : Nat, a1 = some o1 → ∃ x3 : Option Nat, fV h o1 19 2 (va_rf x3) ∧ (∃ o5 : Nat, x3 = some o5 ∧ ∃ x6 : Option Nat, fV h o5 19 3 (va_rf x6) ∧ (∃ fs8 : List Value, h.1 o1 = some (.inr (19, fs8)) ∧ c.2.1 ≤ o1 ∧ 2 < fs8.length ∧ ∀ h10 : eH, h10 = eUp h o1 (.inr (19, fs8.set 2 (va_rf x6))) → (∃ x11 : Option Nat, fV h10 o5 19 3 (va_rf x11) ∧ ((x11 = none → h_J4_rotateRight_32 c a0 (some o1) (some o5) h10 k n) ∧ (∀ o13 : Nat, x11 = some o13 → ∃ x15 : Option Nat, fV h10 o5 19 3 (va_rf x15) ∧ (∃ o17 : Nat, x15 = some o17 ∧ ∃ fs18 : List Value, h10.1 o17 = some (.inr (19, fs18)) ∧ c.2.1 ≤ o17 ∧ 4 < fs18.length ∧ ∀ h20 : eH, h20 = eUp h10 o17 (.inr (19, fs18.set 4 (.ref o1))) → (h_J4_rotateRight_32 c a0 (some o1) (some o5) h20 k n))))))))) : h_J4_rotateRight_0 c a0 a1 h k n := by
  refine e_aloadR_n (r := a1) dJ4_rotateRight_0 rfl ?_
  refine e_ifnull (r := a1) 95 dJ4_rotateRight_1 (by decide) (fun g2 => ?_) (fun o1 g2 => ?_)
  · subst g2
    replace H := H.1 rfl
    exact e_return dJ4_rotateRight_95 rfl H
  · subst g2
    replace H := H.2 o1 rfl
    refine e_aload_n dJ4_rotateRight_4 rfl ?_
    obtain ⟨x3, ⟨fsx3, g4, g4v⟩, H⟩ := H
    refine e_get dJ4_rotateRight_5 fJ15_2 q619 g4 g4v ?_
    refine e_astoreR_n (r := x3) _ dJ4_rotateRight_8 (by decide) rfl rfl ?_
    refine e_aload_n dJ4_rotateRight_9 rfl ?_
    refine e_aloadR_n (r := x3) dJ4_rotateRight_10 rfl ?_
    obtain ⟨o5, eo5, H⟩ := H
    subst eo5
    obtain ⟨x6, ⟨fsx6, g7, g7v⟩, H⟩ := H
    refine e_get dJ4_rotateRight_11 fJ15_3 q620 g7 g7v ?_
    obtain ⟨fs8, g9, g9l, g9j, H⟩ := H
    refine e_put dJ4_rotateRight_14 fJ15_2 q619 (eFit_o _ x6) g9 g9l g9j ?_
    replace H := H _ rfl
    generalize eUp h o1 _ = h10 at H ⊢
    refine e_aload_n dJ4_rotateRight_17 rfl ?_
    obtain ⟨x11, ⟨fsx11, g12, g12v⟩, H⟩ := H
    refine e_get dJ4_rotateRight_18 fJ15_3 q620 g12 g12v ?_
    refine e_ifnull (r := x11) 32 dJ4_rotateRight_21 (by decide) (fun g14 => ?_) (fun o13 g14 => ?_)
    · subst g14
      replace H := H.1 rfl
      exact E.less2 H (eS_s (eS_s (eS_s eS_0)))
    · subst g14
      replace H := H.2 o13 rfl
      refine e_aload_n dJ4_rotateRight_24 rfl ?_
      obtain ⟨x15, ⟨fsx15, g16, g16v⟩, H⟩ := H
      refine e_get dJ4_rotateRight_25 fJ15_3 q620 g16 g16v ?_
      refine e_aload_n dJ4_rotateRight_28 rfl ?_
      obtain ⟨o17, eo17, H⟩ := H
      subst eo17
      obtain ⟨fs18, g19, g19l, g19j, H⟩ := H
      refine e_put dJ4_rotateRight_29 fJ15_4 q622 (eFit_or _ _) g19 g19l g19j ?_
      replace H := H _ rfl
      generalize eUp h10 o17 _ = h20 at H ⊢
      exact E.less2 H (eS_s (eS_s (eS_s eS_0)))
set_option maxHeartbeats 4000000 in
theorem s_J4_rotateRight_32 (c : cC) (a0 : Nat) (a1 : Option Nat) (a2 : Option Nat) (h : eH) (k n : Nat) (H : ∃ o1 : Nat, a1 = some o1 ∧ ∃ x2 : Option Nat, fV h o1 19 4 (va_rf x2) ∧ (∃ o4 : Nat, a2 = some o4 ∧ ∃ fs5 : List Value, h.1 o4 = some (.inr (19, fs5)) ∧ c.2.1 ≤ o4 ∧ 4 < fs5.length ∧ ∀ h7 : eH, h7 = eUp h o4 (.inr (19, fs5.set 4 (va_rf x2))) → (∃ x8 : Option Nat, fV h7 o1 19 4 (va_rf x8) ∧ ((x8 = none → ∃ fs12 : List Value, h7.1 a0 = some (.inr (16, fs12)) ∧ c.2.1 ≤ a0 ∧ 3 < fs12.length ∧ ∀ h14 : eH, h14 = eUp h7 a0 (.inr (16, fs12.set 3 (.ref o4))) → (h_J4_rotateRight_85 c (some o1) (some o4) h14 k n)) ∧ (∀ o10 : Nat, x8 = some o10 → ∃ x15 : Option Nat, fV h7 o1 19 4 (va_rf x15) ∧ (∃ o17 : Nat, x15 = some o17 ∧ ∃ x18 : Option Nat, fV h7 o17 19 3 (va_rf x18) ∧ ((¬ x18 = some o1 → ∃ x21 : Option Nat, fV h7 o1 19 4 (va_rf x21) ∧ (∃ o23 : Nat, x21 = some o23 ∧ ∃ fs24 : List Value, h7.1 o23 = some (.inr (19, fs24)) ∧ c.2.1 ≤ o23 ∧ 2 < fs24.length ∧ ∀ h26 : eH, h26 = eUp h7 o23 (.inr (19, fs24.set 2 (.ref o4))) → (h_J4_rotateRight_85 c (some o1) (some o4) h26 k n))) ∧ (x18 = some o1 → ∃ x27 : Option Nat, fV h7 o1 19 4 (va_rf x27) ∧ (∃ o29 : Nat, x27 = some o29 ∧ ∃ fs30 : List Value, h7.1 o29 = some (.inr (19, fs30)) ∧ c.2.1 ≤ o29 ∧ 3 < fs30.length ∧ ∀ h32 : eH, h32 = eUp h7 o29 (.inr (19, fs30.set 3 (.ref o4))) → (h_J4_rotateRight_85 c (some o1) (some o4) h32 k n)))))))))) : h_J4_rotateRight_32 c a0 a1 a2 h k n := by
  refine e_aloadR_n (r := a2) dJ4_rotateRight_32 rfl ?_
  refine e_aloadR_n (r := a1) dJ4_rotateRight_33 rfl ?_
  obtain ⟨o1, eo1, H⟩ := H
  subst eo1
  obtain ⟨x2, ⟨fsx2, g3, g3v⟩, H⟩ := H
  refine e_get dJ4_rotateRight_34 fJ15_4 q622 g3 g3v ?_
  obtain ⟨o4, eo4, H⟩ := H
  subst eo4
  obtain ⟨fs5, g6, g6l, g6j, H⟩ := H
  refine e_put dJ4_rotateRight_37 fJ15_4 q622 (eFit_o _ x2) g6 g6l g6j ?_
  replace H := H _ rfl
  generalize eUp h o4 _ = h7 at H ⊢
  refine e_aload_n dJ4_rotateRight_40 rfl ?_
  obtain ⟨x8, ⟨fsx8, g9, g9v⟩, H⟩ := H
  refine e_get dJ4_rotateRight_41 fJ15_4 q622 g9 g9v ?_
  refine e_ifnonnull (r := x8) 55 dJ4_rotateRight_44 (by decide) (fun o10 g11 => ?_) (fun g11 => ?_)
  · subst g11
    replace H := H.2 o10 rfl
    refine e_aload_n dJ4_rotateRight_55 rfl ?_
    obtain ⟨x15, ⟨fsx15, g16, g16v⟩, H⟩ := H
    refine e_get dJ4_rotateRight_56 fJ15_4 q622 g16 g16v ?_
    obtain ⟨o17, eo17, H⟩ := H
    subst eo17
    obtain ⟨x18, ⟨fsx18, g19, g19v⟩, H⟩ := H
    refine e_get dJ4_rotateRight_59 fJ15_3 q620 g19 g19v ?_
    refine e_aload_n dJ4_rotateRight_62 rfl ?_
    refine e_acmp_ne (rx := x18) (ry := some o1) 77 dJ4_rotateRight_63 (by decide) (fun g20 => ?_) (fun g20 => ?_)
    · replace H := H.1 g20
      refine e_aload_n dJ4_rotateRight_77 rfl ?_
      obtain ⟨x21, ⟨fsx21, g22, g22v⟩, H⟩ := H
      refine e_get dJ4_rotateRight_78 fJ15_4 q622 g22 g22v ?_
      refine e_aload_n dJ4_rotateRight_81 rfl ?_
      obtain ⟨o23, eo23, H⟩ := H
      subst eo23
      obtain ⟨fs24, g25, g25l, g25j, H⟩ := H
      refine e_put dJ4_rotateRight_82 fJ15_2 q619 (eFit_or _ _) g25 g25l g25j ?_
      replace H := H _ rfl
      generalize eUp h7 o23 _ = h26 at H ⊢
      exact E.less2 H (eS_n (eS_s (eS_s eS_0)))
    · replace H := H.2 g20
      refine e_aload_n dJ4_rotateRight_66 rfl ?_
      obtain ⟨x27, ⟨fsx27, g28, g28v⟩, H⟩ := H
      refine e_get dJ4_rotateRight_67 fJ15_4 q622 g28 g28v ?_
      refine e_aload_n dJ4_rotateRight_70 rfl ?_
      obtain ⟨o29, eo29, H⟩ := H
      subst eo29
      obtain ⟨fs30, g31, g31l, g31j, H⟩ := H
      refine e_put dJ4_rotateRight_71 fJ15_3 q620 (eFit_or _ _) g31 g31l g31j ?_
      replace H := H _ rfl
      generalize eUp h7 o29 _ = h32 at H ⊢
      refine e_goto 85 dJ4_rotateRight_74 (by decide) ?_
      exact E.less2 H (eS_n (eS_s (eS_s eS_0)))
  · subst g11
    replace H := H.1 rfl
    refine e_aload_n dJ4_rotateRight_47 rfl ?_
    refine e_aload_n dJ4_rotateRight_48 rfl ?_
    obtain ⟨fs12, g13, g13l, g13j, H⟩ := H
    refine e_put dJ4_rotateRight_49 fJ4_3 q267 (eFit_or _ _) g13 g13l g13j ?_
    replace H := H _ rfl
    generalize eUp h7 a0 _ = h14 at H ⊢
    refine e_goto 85 dJ4_rotateRight_52 (by decide) ?_
    exact E.less2 H (eS_n (eS_s (eS_s eS_0)))
set_option maxHeartbeats 4000000 in
theorem s_J4_rotateRight_85 (c : cC) (a1 : Option Nat) (a2 : Option Nat) (h : eH) (k n : Nat) (H : ∃ o1 : Nat, a2 = some o1 ∧ ∃ fs2 : List Value, h.1 o1 = some (.inr (19, fs2)) ∧ c.2.1 ≤ o1 ∧ 3 < fs2.length ∧ ∀ h4 : eH, h4 = eUp h o1 (.inr (19, fs2.set 3 (va_rf a1))) → (∃ o5 : Nat, a1 = some o5 ∧ ∃ fs6 : List Value, h4.1 o5 = some (.inr (19, fs6)) ∧ c.2.1 ≤ o5 ∧ 4 < fs6.length ∧ ∀ h8 : eH, h8 = eUp h4 o5 (.inr (19, fs6.set 4 (.ref o1))) → (c.2.2.2.2 (.inl none) h8))) : h_J4_rotateRight_85 c a1 a2 h k n := by
  refine e_aloadR_n (r := a2) dJ4_rotateRight_85 rfl ?_
  refine e_aloadR_n (r := a1) dJ4_rotateRight_86 rfl ?_
  obtain ⟨o1, eo1, H⟩ := H
  subst eo1
  obtain ⟨fs2, g3, g3l, g3j, H⟩ := H
  refine e_put dJ4_rotateRight_87 fJ15_3 q620 (eFit_o _ a1) g3 g3l g3j ?_
  replace H := H _ rfl
  generalize eUp h o1 _ = h4 at H ⊢
  refine e_aloadR_n (r := a1) dJ4_rotateRight_90 rfl ?_
  refine e_aload_n dJ4_rotateRight_91 rfl ?_
  obtain ⟨o5, eo5, H⟩ := H
  subst eo5
  obtain ⟨fs6, g7, g7l, g7j, H⟩ := H
  refine e_put dJ4_rotateRight_92 fJ15_4 q622 (eFit_or _ _) g7 g7l g7j ?_
  replace H := H _ rfl
  generalize eUp h4 o5 _ = h8 at H ⊢
  exact e_return dJ4_rotateRight_95 rfl H
theorem en_J4_rotateRight {l : Launch} {lo : Nat} {G : eG} {d : Nat} {P : eO → eH → Prop} (a0 : Nat) (a1 : Option Nat) {h : eH} {k n : Nat} (H : h_J4_rotateRight_0 (l, lo, G, d, P) a0 a1 h k n) : Ct l lo G d mJ4_rotateRight [.ref a0, va_rf a1] h k n P := by
  cases a1 with
  | none =>
    exact Ct_of (eArL mJ4_rotateRight.2.2.2.1 [.ref a0, va_rf none]) (by decide) rfl (Nat.le_of_ble_eq_true rfl) (fun j w q => eArL_mem j w q) (E.less2 H (eS_s (eS_s (eS_n eS_0))))
  | some a19 =>
    exact Ct_of (eArL mJ4_rotateRight.2.2.2.1 [.ref a0, va_rf (some a19)]) (by decide) rfl (Nat.le_of_ble_eq_true rfl) (fun j w q => eArL_mem j w q) (E.less2 H (eS_s (eS_s (eS_n eS_0))))
/-! J4_keySet java/util/TreeMap.keySet()Ljava/util/Set; -/
def h_J4_keySet_0 (c : cC) (a0 : Nat) (h : eH) (k n : Nat) : Prop := E c.1 c.2.1 c.2.2.1 c.2.2.2.1 mJ4_keySet c.2.2.2.2 0 [some (.ref a0)] [] h k n
set_option maxHeartbeats 4000000 in
theorem s_J4_keySet_0 (c : cC) (a0 : Nat) (h : eH) (k n : Nat) (H : ∃ fs8 : List Value, h.1 a0 = some (.inr (16, fs8)) ∧ ∃ (d4 k5 n6 : Nat) (Q7 : Nat → eH → Prop), cR c.1 c.2.1 c.2.2.1 d4 mJ4_navigableKeySet [.ref a0] h k5 n6 Q7 cX0 ∧ d4 + 1 ≤ c.2.2.2.1 ∧ k5 ≤ k ∧ n6 ≤ n ∧ (∀ (r1 : Nat) (h2 : eH), Q7 r1 h2 → (c.2.2.2.2 (.inl (some (.ref r1))) h2))) : h_J4_keySet_0 c a0 h k n := by
  refine e_aload_n dJ4_keySet_0 rfl ?_
  obtain ⟨fsg3, g3o, H⟩ := H
  obtain ⟨d4, k5, n6, Q7, g3, g3d, g3k, g3n, H⟩ := H
  refine e_callV (r := (RJ4, TJ4, 9)) (As := []) g3 dJ4_keySet_1 wJ4_navigableKeySet q684 q685 q686 g3o rfl rfl g3d rfl (Nat.le_of_ble_eq_true rfl) (k1 := k - k5) (n1 := n - n6) (by omega) (by omega) ?_ ?_
  · rintro v h2 (⟨v9, e9, r1, e8, hq⟩ | ⟨ci9, q9, e9, -⟩)
    · cases e9
      subst e8
      replace H := H r1 h2 hq
      exact e_areturn (r := some r1) _ dJ4_keySet_4 rfl (Or.inl ⟨_, rfl⟩) H
    · cases e9
  · rintro q9 h9 (⟨v9, e9, -⟩ | ⟨ci9, q8, e9, -, -, hx⟩)
    · cases e9
    · exact hx.elim
theorem en_J4_keySet {l : Launch} {lo : Nat} {G : eG} {d : Nat} {P : eO → eH → Prop} (a0 : Nat) {h : eH} {k n : Nat} (H : h_J4_keySet_0 (l, lo, G, d, P) a0 h k n) : Ct l lo G d mJ4_keySet [.ref a0] h k n P := 
  Ct_of (eArL mJ4_keySet.2.2.2.1 [.ref a0]) (by decide) rfl (Nat.le_of_ble_eq_true rfl) (fun j w q => eArL_mem j w q) (E.less2 H (eS_s eS_0))
/-! J4_navigableKeySet java/util/TreeMap.navigableKeySet()Ljava/util/NavigableSet; -/
def h_J4_navigableKeySet_0 (c : cC) (a0 : Nat) (h : eH) (k n : Nat) : Prop := E c.1 c.2.1 c.2.2.1 c.2.2.2.1 mJ4_navigableKeySet c.2.2.2.2 0 [some (.ref a0), none] [] h k n
set_option maxHeartbeats 4000000 in
theorem s_J4_navigableKeySet_0 (c : cC) (a0 : Nat) (h : eH) (k n : Nat) (H : ∃ x1 : Option Nat, fV h a0 16 7 (va_rf x1) ∧ ((x1 = none → 1 ≤ k ∧ 1 ≤ n ∧ ∀ h5 : eH, h5 = eNw h (.inr (20, [.null])) → (∃ (d10 k11 n12 : Nat) (Q13 : eH → Prop), cV c.1 c.2.1 c.2.2.1 d10 mJ18_init [.ref h.2, .ref a0] h5 k11 n12 Q13 cX0 ∧ d10 + 1 ≤ c.2.2.2.1 ∧ k11 ≤ k - 1 ∧ n12 ≤ n - 1 ∧ (∀ h8 : eH, Q13 h8 → (∃ fs14 : List Value, h8.1 a0 = some (.inr (16, fs14)) ∧ c.2.1 ≤ a0 ∧ 7 < fs14.length ∧ ∀ h16 : eH, h16 = eUp h8 a0 (.inr (16, fs14.set 7 (.ref h.2))) → (c.2.2.2.2 (.inl (some (.ref h.2))) h16))))) ∧ (∀ o3 : Nat, x1 = some o3 → c.2.2.2.2 (.inl (some (.ref o3))) h))) : h_J4_navigableKeySet_0 c a0 h k n := by
  refine e_aload_n dJ4_navigableKeySet_0 rfl ?_
  obtain ⟨x1, ⟨fsx1, g2, g2v⟩, H⟩ := H
  refine e_get dJ4_navigableKeySet_1 fJ4_7 q271 g2 g2v ?_
  refine e_astoreR_n (r := x1) _ dJ4_navigableKeySet_4 (by decide) rfl rfl ?_
  refine e_aloadR_n (r := x1) dJ4_navigableKeySet_5 rfl ?_
  refine e_ifnull (r := x1) 13 dJ4_navigableKeySet_6 (by decide) (fun g4 => ?_) (fun o3 g4 => ?_)
  · subst g4
    replace H := H.1 rfl
    refine e_aload_n dJ4_navigableKeySet_13 rfl ?_
    obtain ⟨g6, g6n, H⟩ := H
    refine e_new (ci := 20) (N := 1) (C := RJ18) (T := TJ18) tyJ18 (fs := [.null]) dJ4_navigableKeySet_14 rfl in_J18 tyJ18_ok q688 q689 q158 (by decide) (k1 := k - 1) (n1 := n - 1) (by omega) (by omega) ?_
    replace H := H _ rfl
    generalize eNw h _ = h5 at H ⊢
    refine e_dup dJ4_navigableKeySet_17 rfl ?_
    refine e_aload_n dJ4_navigableKeySet_18 rfl ?_
    obtain ⟨d10, k11, n12, Q13, g9, g9d, g9k, g9n, H⟩ := H
    refine e_callI (As := [.ref a0]) g9 dJ4_navigableKeySet_19 wJ18_init rfl rfl rfl q690 q691 rfl g9d rfl (Nat.le_of_ble_eq_true rfl) (k1 := k - 1 - k11) (n1 := n - 1 - n12) (by omega) (by omega) ?_ ?_
    · rintro v h8 (⟨v9, e9, e8, hq⟩ | ⟨ci9, q9, e9, -⟩)
      · cases e9
        subst e8
        replace H := H h8 hq
        refine e_dup_x1 dJ4_navigableKeySet_22 rfl rfl ?_
        obtain ⟨fs14, g15, g15l, g15j, H⟩ := H
        refine e_put dJ4_navigableKeySet_23 fJ4_7 q271 (eFit_or _ _) g15 g15l g15j ?_
        replace H := H _ rfl
        generalize eUp h8 a0 _ = h16 at H ⊢
        exact e_areturn (r := some h.2) _ dJ4_navigableKeySet_26 rfl (Or.inl ⟨_, rfl⟩) H
      · cases e9
    · rintro q9 h9 (⟨v9, e9, -⟩ | ⟨ci9, q8, e9, -, -, hx⟩)
      · cases e9
      · exact hx.elim
  · subst g4
    replace H := H.2 o3 rfl
    refine e_aload_n dJ4_navigableKeySet_9 rfl ?_
    refine e_goto 26 dJ4_navigableKeySet_10 (by decide) ?_
    exact e_areturn (r := some o3) _ dJ4_navigableKeySet_26 rfl (Or.inl ⟨_, rfl⟩) H
theorem en_J4_navigableKeySet {l : Launch} {lo : Nat} {G : eG} {d : Nat} {P : eO → eH → Prop} (a0 : Nat) {h : eH} {k n : Nat} (H : h_J4_navigableKeySet_0 (l, lo, G, d, P) a0 h k n) : Ct l lo G d mJ4_navigableKeySet [.ref a0] h k n P := 
  Ct_of (eArL mJ4_navigableKeySet.2.2.2.1 [.ref a0]) (by decide) rfl (Nat.le_of_ble_eq_true rfl) (fun j w q => eArL_mem j w q) (E.less2 H (eS_s (eS_n eS_0)))
/-! J4_keyIterator java/util/TreeMap.keyIterator()Ljava/util/Iterator; -/
def h_J4_keyIterator_0 (c : cC) (a0 : Nat) (h : eH) (k n : Nat) : Prop := E c.1 c.2.1 c.2.2.1 c.2.2.2.1 mJ4_keyIterator c.2.2.2.2 0 [some (.ref a0)] [] h k n
set_option maxHeartbeats 4000000 in
theorem s_J4_keyIterator_0 (c : cC) (a0 : Nat) (h : eH) (k n : Nat) (H : 1 ≤ k ∧ 4 ≤ n ∧ ∀ h1 : eH, h1 = eNw h (.inr (21, [.null, .null, .int 0, .null])) → (∃ fs8 : List Value, h1.1 a0 = some (.inr (16, fs8)) ∧ ∃ (d6 k7 n8 : Nat) (Q9 : Option Nat → eH → Prop), cQ c.1 c.2.1 c.2.2.1 d6 mJ4_getFirstEntry [.ref a0] h1 k7 n8 Q9 cX0 ∧ d6 + 1 ≤ c.2.2.2.1 ∧ k7 ≤ k - 1 ∧ n8 ≤ n - 4 ∧ (∀ (r3 : Option Nat) (h4 : eH), Q9 r3 h4 → (∃ (d13 k14 n15 : Nat) (Q16 : eH → Prop), cV c.1 c.2.1 c.2.2.1 d13 mJ20_init [.ref h.2, .ref a0, va_rf r3] h4 k14 n15 Q16 cX0 ∧ d13 + 1 ≤ c.2.2.2.1 ∧ k14 ≤ k - 1 - k7 ∧ n15 ≤ n - 4 - n8 ∧ (∀ h11 : eH, Q16 h11 → (c.2.2.2.2 (.inl (some (.ref h.2))) h11)))))) : h_J4_keyIterator_0 c a0 h k n := by
  obtain ⟨g2, g2n, H⟩ := H
  refine e_new (ci := 21) (N := 4) (C := RJ20) (T := TJ20) tyJ20 (fs := [.null, .null, .int 0, .null]) dJ4_keyIterator_0 rfl in_J20 tyJ20_ok q716 q717 q160 (by decide) (k1 := k - 1) (n1 := n - 4) (by omega) (by omega) ?_
  replace H := H _ rfl
  generalize eNw h _ = h1 at H ⊢
  refine e_dup dJ4_keyIterator_3 rfl ?_
  refine e_aload_n dJ4_keyIterator_4 rfl ?_
  refine e_aload_n dJ4_keyIterator_5 rfl ?_
  obtain ⟨fsg5, g5o, H⟩ := H
  obtain ⟨d6, k7, n8, Q9, g5, g5d, g5k, g5n, H⟩ := H
  refine e_callV (r := (RJ4, TJ4, 9)) (As := []) g5 dJ4_keyIterator_6 wJ4_getFirstEntry q718 q719 q720 g5o rfl rfl g5d rfl (Nat.le_of_ble_eq_true rfl) (k1 := k - 1 - k7) (n1 := n - 4 - n8) (by omega) (by omega) ?_ ?_
  · rintro v h4 (⟨v9, e9, r3, e8, hq⟩ | ⟨ci9, q9, e9, -⟩)
    · cases e9
      subst e8
      replace H := H r3 h4 hq
      obtain ⟨d13, k14, n15, Q16, g12, g12d, g12k, g12n, H⟩ := H
      refine e_callI (As := [.ref a0, va_rf r3]) g12 dJ4_keyIterator_9 wJ20_init rfl rfl rfl q722 q723 rfl g12d rfl (Nat.le_of_ble_eq_true rfl) (k1 := k - 1 - k7 - k14) (n1 := n - 4 - n8 - n15) (by omega) (by omega) ?_ ?_
      · rintro v h11 (⟨v9, e9, e8, hq⟩ | ⟨ci9, q9, e9, -⟩)
        · cases e9
          subst e8
          replace H := H h11 hq
          exact e_areturn (r := some h.2) _ dJ4_keyIterator_12 rfl (Or.inl ⟨_, rfl⟩) H
        · cases e9
      · rintro q9 h9 (⟨v9, e9, -⟩ | ⟨ci9, q8, e9, -, -, hx⟩)
        · cases e9
        · exact hx.elim
    · cases e9
  · rintro q9 h9 (⟨v9, e9, -⟩ | ⟨ci9, q8, e9, -, -, hx⟩)
    · cases e9
    · exact hx.elim
theorem en_J4_keyIterator {l : Launch} {lo : Nat} {G : eG} {d : Nat} {P : eO → eH → Prop} (a0 : Nat) {h : eH} {k n : Nat} (H : h_J4_keyIterator_0 (l, lo, G, d, P) a0 h k n) : Ct l lo G d mJ4_keyIterator [.ref a0] h k n P := 
  Ct_of (eArL mJ4_keyIterator.2.2.2.1 [.ref a0]) (by decide) rfl (Nat.le_of_ble_eq_true rfl) (fun j w q => eArL_mem j w q) (E.less2 H (eS_s eS_0))
/-! J4_getFirstEntry java/util/TreeMap.getFirstEntry()Ljava/util/TreeMap$Entry; -/
def h_J4_getFirstEntry_0 (c : cC) (a0 : Nat) (h : eH) (k n : Nat) : Prop := E c.1 c.2.1 c.2.2.1 c.2.2.2.1 mJ4_getFirstEntry c.2.2.2.2 0 [some (.ref a0), none] [] h k n
def h_J4_getFirstEntry_9 (c : cC) (a1 : Option Nat) (h : eH) (k n : Nat) : Prop := E c.1 c.2.1 c.2.2.1 c.2.2.2.1 mJ4_getFirstEntry c.2.2.2.2 9 [none, some (va_rf a1)] [] h k n
set_option maxHeartbeats 4000000 in
theorem s_J4_getFirstEntry_0 (c : cC) (a0 : Nat) (h : eH) (k n : Nat) (H : ∃ x1 : Option Nat, fV h a0 16 3 (va_rf x1) ∧ ((x1 = none → c.2.2.2.2 (.inl (some (.null))) h) ∧ (∀ o3 : Nat, x1 = some o3 → h_J4_getFirstEntry_9 c (some o3) h k n))) : h_J4_getFirstEntry_0 c a0 h k n := by
  refine e_aload_n dJ4_getFirstEntry_0 rfl ?_
  obtain ⟨x1, ⟨fsx1, g2, g2v⟩, H⟩ := H
  refine e_get dJ4_getFirstEntry_1 fJ4_3 q267 g2 g2v ?_
  refine e_astoreR_n (r := x1) _ dJ4_getFirstEntry_4 (by decide) rfl rfl ?_
  refine e_aloadR_n (r := x1) dJ4_getFirstEntry_5 rfl ?_
  refine e_ifnull (r := x1) 24 dJ4_getFirstEntry_6 (by decide) (fun g4 => ?_) (fun o3 g4 => ?_)
  · subst g4
    replace H := H.1 rfl
    refine e_aloadR_n (r := none) dJ4_getFirstEntry_24 rfl ?_
    exact e_areturn (r := none) _ dJ4_getFirstEntry_25 rfl (Or.inl ⟨_, rfl⟩) H
  · subst g4
    replace H := H.2 o3 rfl
    exact E.less2 H (eS_n (eS_s eS_0))
set_option maxHeartbeats 4000000 in
theorem s_J4_getFirstEntry_9 (c : cC) (a1 : Option Nat) (h : eH) (k n : Nat) (H : ∃ o1 : Nat, a1 = some o1 ∧ ∃ x2 : Option Nat, fV h o1 19 2 (va_rf x2) ∧ ((x2 = none → c.2.2.2.2 (.inl (some (.ref o1))) h) ∧ (∀ o4 : Nat, x2 = some o4 → ∃ x6 : Option Nat, fV h o1 19 2 (va_rf x6) ∧ (h_J4_getFirstEntry_9 c x6 h k n)))) : h_J4_getFirstEntry_9 c a1 h k n := by
  refine e_aloadR_n (r := a1) dJ4_getFirstEntry_9 rfl ?_
  obtain ⟨o1, eo1, H⟩ := H
  subst eo1
  obtain ⟨x2, ⟨fsx2, g3, g3v⟩, H⟩ := H
  refine e_get dJ4_getFirstEntry_10 fJ15_2 q619 g3 g3v ?_
  refine e_ifnull (r := x2) 24 dJ4_getFirstEntry_13 (by decide) (fun g5 => ?_) (fun o4 g5 => ?_)
  · subst g5
    replace H := H.1 rfl
    refine e_aload_n dJ4_getFirstEntry_24 rfl ?_
    exact e_areturn (r := some o1) _ dJ4_getFirstEntry_25 rfl (Or.inl ⟨_, rfl⟩) H
  · subst g5
    replace H := H.2 o4 rfl
    refine e_aload_n dJ4_getFirstEntry_16 rfl ?_
    obtain ⟨x6, ⟨fsx6, g7, g7v⟩, H⟩ := H
    refine e_get dJ4_getFirstEntry_17 fJ15_2 q619 g7 g7v ?_
    refine e_astoreR_n (r := x6) _ dJ4_getFirstEntry_20 (by decide) trivial rfl ?_
    refine e_goto 9 dJ4_getFirstEntry_21 (by decide) ?_
    exact E.less2 H (eS_n (eS_s eS_0))
theorem en_J4_getFirstEntry {l : Launch} {lo : Nat} {G : eG} {d : Nat} {P : eO → eH → Prop} (a0 : Nat) {h : eH} {k n : Nat} (H : h_J4_getFirstEntry_0 (l, lo, G, d, P) a0 h k n) : Ct l lo G d mJ4_getFirstEntry [.ref a0] h k n P := 
  Ct_of (eArL mJ4_getFirstEntry.2.2.2.1 [.ref a0]) (by decide) rfl (Nat.le_of_ble_eq_true rfl) (fun j w q => eArL_mem j w q) (E.less2 H (eS_s (eS_n eS_0)))
/-! J4_successor java/util/TreeMap.successor(Ljava/util/TreeMap$Entry;)Ljava/util/TreeMap$Entry; -/
def h_J4_successor_0 (c : cC) (a0 : Option Nat) (h : eH) (k n : Nat) : Prop := E c.1 c.2.1 c.2.2.1 c.2.2.2.1 mJ4_successor c.2.2.2.2 0 [some (va_rf a0), none, none] [] h k n
def h_J4_successor_18 (c : cC) (a1 : Option Nat) (h : eH) (k n : Nat) : Prop := E c.1 c.2.1 c.2.2.1 c.2.2.2.1 mJ4_successor c.2.2.2.2 18 [none, some (va_rf a1), none] [] h k n
def h_J4_successor_42 (c : cC) (a1 : Option Nat) (a2 : Option Nat) (h : eH) (k n : Nat) : Prop := E c.1 c.2.1 c.2.2.1 c.2.2.2.1 mJ4_successor c.2.2.2.2 42 [none, some (va_rf a1), some (va_rf a2)] [] h k n
set_option maxHeartbeats 4000000 in
theorem s_J4_successor_0 (c : cC) (a0 : Option Nat) (h : eH) (k n : Nat) (H : (a0 = none → c.2.2.2.2 (.inl (some (.null))) h) ∧ (∀ o1 : Nat, a0 = some o1 → ∃ x3 : Option Nat, fV h o1 19 3 (va_rf x3) ∧ ((x3 = none → ∃ x7 : Option Nat, fV h o1 19 4 (va_rf x7) ∧ (h_J4_successor_42 c x7 (some o1) h k n)) ∧ (∀ o5 : Nat, x3 = some o5 → ∃ x9 : Option Nat, fV h o1 19 3 (va_rf x9) ∧ (h_J4_successor_18 c x9 h k n))))) : h_J4_successor_0 c a0 h k n := by
  refine e_aloadR_n (r := a0) dJ4_successor_0 rfl ?_
  refine e_ifnonnull (r := a0) 6 dJ4_successor_1 (by decide) (fun o1 g2 => ?_) (fun g2 => ?_)
  · subst g2
    replace H := H.2 o1 rfl
    refine e_aload_n dJ4_successor_6 rfl ?_
    obtain ⟨x3, ⟨fsx3, g4, g4v⟩, H⟩ := H
    refine e_get dJ4_successor_7 fJ15_3 q620 g4 g4v ?_
    refine e_ifnull (r := x3) 35 dJ4_successor_10 (by decide) (fun g6 => ?_) (fun o5 g6 => ?_)
    · subst g6
      replace H := H.1 rfl
      refine e_aload_n dJ4_successor_35 rfl ?_
      obtain ⟨x7, ⟨fsx7, g8, g8v⟩, H⟩ := H
      refine e_get dJ4_successor_36 fJ15_4 q622 g8 g8v ?_
      refine e_astoreR_n (r := x7) _ dJ4_successor_39 (by decide) rfl rfl ?_
      refine e_aload_n dJ4_successor_40 rfl ?_
      refine e_astore_n _ dJ4_successor_41 (by decide) (eRfC _) rfl ?_
      exact E.less2 H (eS_n (eS_s (eS_s eS_0)))
    · subst g6
      replace H := H.2 o5 rfl
      refine e_aload_n dJ4_successor_13 rfl ?_
      obtain ⟨x9, ⟨fsx9, g10, g10v⟩, H⟩ := H
      refine e_get dJ4_successor_14 fJ15_3 q620 g10 g10v ?_
      refine e_astoreR_n (r := x9) _ dJ4_successor_17 (by decide) rfl rfl ?_
      exact E.less2 H (eS_n (eS_s (eS_n eS_0)))
  · subst g2
    replace H := H.1 rfl
    refine e_null dJ4_successor_4 ?_
    exact e_areturn (r := none) _ dJ4_successor_5 rfl (Or.inl ⟨_, rfl⟩) H
set_option maxHeartbeats 4000000 in
theorem s_J4_successor_18 (c : cC) (a1 : Option Nat) (h : eH) (k n : Nat) (H : ∃ o1 : Nat, a1 = some o1 ∧ ∃ x2 : Option Nat, fV h o1 19 2 (va_rf x2) ∧ ((x2 = none → c.2.2.2.2 (.inl (some (.ref o1))) h) ∧ (∀ o4 : Nat, x2 = some o4 → ∃ x6 : Option Nat, fV h o1 19 2 (va_rf x6) ∧ (h_J4_successor_18 c x6 h k n)))) : h_J4_successor_18 c a1 h k n := by
  refine e_aloadR_n (r := a1) dJ4_successor_18 rfl ?_
  obtain ⟨o1, eo1, H⟩ := H
  subst eo1
  obtain ⟨x2, ⟨fsx2, g3, g3v⟩, H⟩ := H
  refine e_get dJ4_successor_19 fJ15_2 q619 g3 g3v ?_
  refine e_ifnull (r := x2) 33 dJ4_successor_22 (by decide) (fun g5 => ?_) (fun o4 g5 => ?_)
  · subst g5
    replace H := H.1 rfl
    refine e_aload_n dJ4_successor_33 rfl ?_
    exact e_areturn (r := some o1) _ dJ4_successor_34 rfl (Or.inl ⟨_, rfl⟩) H
  · subst g5
    replace H := H.2 o4 rfl
    refine e_aload_n dJ4_successor_25 rfl ?_
    obtain ⟨x6, ⟨fsx6, g7, g7v⟩, H⟩ := H
    refine e_get dJ4_successor_26 fJ15_2 q619 g7 g7v ?_
    refine e_astoreR_n (r := x6) _ dJ4_successor_29 (by decide) trivial rfl ?_
    refine e_goto 18 dJ4_successor_30 (by decide) ?_
    exact E.less2 H (eS_n (eS_s (eS_n eS_0)))
set_option maxHeartbeats 4000000 in
theorem s_J4_successor_42 (c : cC) (a1 : Option Nat) (a2 : Option Nat) (h : eH) (k n : Nat) (H : (a1 = none → c.2.2.2.2 (.inl (some (.null))) h) ∧ (∀ o1 : Nat, a1 = some o1 → ∃ x3 : Option Nat, fV h o1 19 3 (va_rf x3) ∧ ((¬ a2 = x3 → c.2.2.2.2 (.inl (some (.ref o1))) h) ∧ (a2 = x3 → ∃ x6 : Option Nat, fV h o1 19 4 (va_rf x6) ∧ (h_J4_successor_42 c x6 (some o1) h k n))))) : h_J4_successor_42 c a1 a2 h k n := by
  refine e_aloadR_n (r := a1) dJ4_successor_42 rfl ?_
  refine e_ifnull (r := a1) 64 dJ4_successor_43 (by decide) (fun g2 => ?_) (fun o1 g2 => ?_)
  · subst g2
    replace H := H.1 rfl
    refine e_aloadR_n (r := none) dJ4_successor_64 rfl ?_
    exact e_areturn (r := none) _ dJ4_successor_65 rfl (Or.inl ⟨_, rfl⟩) H
  · subst g2
    replace H := H.2 o1 rfl
    refine e_aloadR_n (r := a2) dJ4_successor_46 rfl ?_
    refine e_aload_n dJ4_successor_47 rfl ?_
    obtain ⟨x3, ⟨fsx3, g4, g4v⟩, H⟩ := H
    refine e_get dJ4_successor_48 fJ15_3 q620 g4 g4v ?_
    refine e_acmp_ne (rx := a2) (ry := x3) 64 dJ4_successor_51 (by decide) (fun g5 => ?_) (fun g5 => ?_)
    · replace H := H.1 g5
      refine e_aload_n dJ4_successor_64 rfl ?_
      exact e_areturn (r := some o1) _ dJ4_successor_65 rfl (Or.inl ⟨_, rfl⟩) H
    · replace H := H.2 g5
      refine e_aload_n dJ4_successor_54 rfl ?_
      refine e_astore_n _ dJ4_successor_55 (by decide) rfl rfl ?_
      refine e_aload_n dJ4_successor_56 rfl ?_
      obtain ⟨x6, ⟨fsx6, g7, g7v⟩, H⟩ := H
      refine e_get dJ4_successor_57 fJ15_4 q622 g7 g7v ?_
      refine e_astoreR_n (r := x6) _ dJ4_successor_60 (by decide) trivial rfl ?_
      refine e_goto 42 dJ4_successor_61 (by decide) ?_
      exact E.less2 H (eS_n (eS_s (eS_s eS_0)))
theorem en_J4_successor {l : Launch} {lo : Nat} {G : eG} {d : Nat} {P : eO → eH → Prop} (a0 : Option Nat) {h : eH} {k n : Nat} (H : h_J4_successor_0 (l, lo, G, d, P) a0 h k n) : Ct l lo G d mJ4_successor [va_rf a0] h k n P := by
  cases a0 with
  | none =>
    exact Ct_of (eArL mJ4_successor.2.2.2.1 [va_rf none]) (by decide) rfl (Nat.le_of_ble_eq_true rfl) (fun j w q => eArL_mem j w q) (E.less2 H (eS_s (eS_n (eS_n eS_0))))
  | some a09 =>
    exact Ct_of (eArL mJ4_successor.2.2.2.1 [va_rf (some a09)]) (by decide) rfl (Nat.le_of_ble_eq_true rfl) (fun j w q => eArL_mem j w q) (E.less2 H (eS_s (eS_n (eS_n eS_0))))
/-! J4_get java/util/TreeMap.get(Ljava/lang/Object;)Ljava/lang/Object; -/
def h_J4_get_0 (c : cC) (a0 : Nat) (a1 : Nat) (h : eH) (k n : Nat) : Prop := E c.1 c.2.1 c.2.2.1 c.2.2.2.1 mJ4_get c.2.2.2.2 0 [some (.ref a0), some (.ref a1), none] [] h k n
set_option maxHeartbeats 4000000 in
theorem s_J4_get_0 (c : cC) (a0 : Nat) (a1 : Nat) (h : eH) (k n : Nat) (H : ∃ fs8 : List Value, h.1 a0 = some (.inr (16, fs8)) ∧ ∃ (d4 k5 n6 : Nat) (Q7 : Option Nat → eH → Prop), cQ c.1 c.2.1 c.2.2.1 d4 mJ4_getEntry [.ref a0, .ref a1] h k5 n6 Q7 cX0 ∧ d4 + 1 ≤ c.2.2.2.1 ∧ k5 ≤ k ∧ n6 ≤ n ∧ (∀ (r1 : Option Nat) (h2 : eH), Q7 r1 h2 → ((r1 = none → c.2.2.2.2 (.inl (some (.null))) h2) ∧ (∀ o8 : Nat, r1 = some o8 → ∃ x10 : Nat, fV h2 o8 19 1 (.ref x10) ∧ (c.2.2.2.2 (.inl (some (.ref x10))) h2))))) : h_J4_get_0 c a0 a1 h k n := by
  refine e_aload_n dJ4_get_0 rfl ?_
  refine e_aload_n dJ4_get_1 rfl ?_
  obtain ⟨fsg3, g3o, H⟩ := H
  obtain ⟨d4, k5, n6, Q7, g3, g3d, g3k, g3n, H⟩ := H
  refine e_callV (r := (RJ4, TJ4, 9)) (As := [.ref a1]) g3 dJ4_get_2 wJ4_getEntry q911 q912 q913 g3o rfl rfl g3d rfl (Nat.le_of_ble_eq_true rfl) (k1 := k - k5) (n1 := n - n6) (by omega) (by omega) ?_ ?_
  · rintro v h2 (⟨v9, e9, r1, e8, hq⟩ | ⟨ci9, q9, e9, -⟩)
    · cases e9
      subst e8
      replace H := H r1 h2 hq
      refine e_astoreR_n (r := r1) _ dJ4_get_5 (by decide) rfl rfl ?_
      refine e_aloadR_n (r := r1) dJ4_get_6 rfl ?_
      refine e_ifnonnull (r := r1) 14 dJ4_get_7 (by decide) (fun o8 g9 => ?_) (fun g9 => ?_)
      · subst g9
        replace H := H.2 o8 rfl
        refine e_aload_n dJ4_get_14 rfl ?_
        obtain ⟨x10, ⟨fsx10, g11, g11v⟩, H⟩ := H
        refine e_get dJ4_get_15 fJ15_1 q618 g11 g11v ?_
        exact e_areturn (r := some x10) _ dJ4_get_18 rfl (Or.inl ⟨_, rfl⟩) H
      · subst g9
        replace H := H.1 rfl
        refine e_null dJ4_get_10 ?_
        refine e_goto 18 dJ4_get_11 (by decide) ?_
        exact e_areturn (r := none) _ dJ4_get_18 rfl (Or.inl ⟨_, rfl⟩) H
    · cases e9
  · rintro q9 h9 (⟨v9, e9, -⟩ | ⟨ci9, q8, e9, -, -, hx⟩)
    · cases e9
    · exact hx.elim
theorem en_J4_get {l : Launch} {lo : Nat} {G : eG} {d : Nat} {P : eO → eH → Prop} (a0 : Nat) (a1 : Nat) {h : eH} {k n : Nat} (H : h_J4_get_0 (l, lo, G, d, P) a0 a1 h k n) : Ct l lo G d mJ4_get [.ref a0, .ref a1] h k n P := 
  Ct_of (eArL mJ4_get.2.2.2.1 [.ref a0, .ref a1]) (by decide) rfl (Nat.le_of_ble_eq_true rfl) (fun j w q => eArL_mem j w q) (E.less2 H (eS_s (eS_s (eS_n eS_0))))
/-! J4_getEntry java/util/TreeMap.getEntry(Ljava/lang/Object;)Ljava/util/TreeMap$Entry; -/
def h_J4_getEntry_0 (c : cC) (a0 : Nat) (a1 : Nat) (h : eH) (k n : Nat) : Prop := E c.1 c.2.1 c.2.2.1 c.2.2.2.1 mJ4_getEntry c.2.2.2.2 0 [some (.ref a0), some (.ref a1), none, none, none] [] h k n
def h_J4_getEntry_28 (c : cC) (a2 : Nat) (a3 : Option Nat) (h : eH) (k n : Nat) : Prop := E c.1 c.2.1 c.2.2.1 c.2.2.2.1 mJ4_getEntry c.2.2.2.2 28 [none, none, some (.ref a2), some (va_rf a3), none] [] h k n
def h_J4_getEntry_72 (c : cC) (a2 : Nat) (a3 : Option Nat) (h : eH) (k n : Nat) : Prop := E c.1 c.2.1 c.2.2.1 c.2.2.2.1 mJ4_getEntry c.2.2.2.2 72 [none, none, some (.ref a2), some (va_rf a3), none] [] h k n
set_option maxHeartbeats 4000000 in
theorem s_J4_getEntry_0 (c : cC) (a0 : Nat) (a1 : Nat) (h : eH) (k n : Nat) (H : ∃ x1 : Option Nat, fV h a0 16 2 (va_rf x1) ∧ ((x1 = none → ∃ (d8 k9 n10 : Nat) (Q11 : Nat → eH → Prop), cR c.1 c.2.1 c.2.2.1 d8 mJ16_requireNonNull [.ref a1] h k9 n10 Q11 cX0 ∧ d8 + 1 ≤ c.2.2.2.1 ∧ k9 ≤ k ∧ n10 ≤ n ∧ (∀ (r5 : Nat) (h6 : eH), Q11 r5 h6 → (eCs c.2.2.1 h6 a1 "java/lang/Comparable" ∧ (∃ x13 : Option Nat, fV h6 a0 16 3 (va_rf x13) ∧ (h_J4_getEntry_28 c a1 x13 h6 (k - k9) (n - n10)))))) ∧ (∀ o3 : Nat, x1 = some o3 → ∃ fs8 : List Value, h.1 a0 = some (.inr (16, fs8)) ∧ ∃ (d18 k19 n20 : Nat) (Q21 : Option Nat → eH → Prop), cQ c.1 c.2.1 c.2.2.1 d18 mJ4_getEntryUsingComparator [.ref a0, .ref a1] h k19 n20 Q21 cX0 ∧ d18 + 1 ≤ c.2.2.2.1 ∧ k19 ≤ k ∧ n20 ≤ n ∧ (∀ (r15 : Option Nat) (h16 : eH), Q21 r15 h16 → (c.2.2.2.2 (.inl (some (va_rf r15))) h16))))) : h_J4_getEntry_0 c a0 a1 h k n := by
  refine e_aload_n dJ4_getEntry_0 rfl ?_
  obtain ⟨x1, ⟨fsx1, g2, g2v⟩, H⟩ := H
  refine e_get dJ4_getEntry_1 fJ4_2 q266 g2 g2v ?_
  refine e_ifnull (r := x1) 13 dJ4_getEntry_4 (by decide) (fun g4 => ?_) (fun o3 g4 => ?_)
  · subst g4
    replace H := H.1 rfl
    refine e_aload_n dJ4_getEntry_13 rfl ?_
    obtain ⟨d8, k9, n10, Q11, g7, g7d, g7k, g7n, H⟩ := H
    refine e_callS (As := [.ref a1]) g7 dJ4_getEntry_14 wJ16_requireNonNull q638 q639 rfl g7d rfl (Nat.le_of_ble_eq_true rfl) (k1 := k - k9) (n1 := n - n10) (by omega) (by omega) ?_ ?_
    · rintro v h6 (⟨v9, e9, r5, e8, hq⟩ | ⟨ci9, q9, e9, -⟩)
      · cases e9
        subst e8
        replace H := H r5 h6 hq
        refine e_pop dJ4_getEntry_17 rfl ?_
        refine e_aload_n dJ4_getEntry_18 rfl ?_
        obtain ⟨g12, H⟩ := H
        refine c_castR dJ4_getEntry_19 q340 g12 ?_
        refine e_astore_n _ dJ4_getEntry_22 (by decide) rfl rfl ?_
        refine e_aload_n dJ4_getEntry_23 rfl ?_
        obtain ⟨x13, ⟨fsx13, g14, g14v⟩, H⟩ := H
        refine e_get dJ4_getEntry_24 fJ4_3 q267 g14 g14v ?_
        refine e_astoreR_n (r := x13) _ dJ4_getEntry_27 (by decide) rfl rfl ?_
        exact E.less2 H (eS_n (eS_n (eS_s (eS_s (eS_n eS_0)))))
      · cases e9
    · rintro q9 h9 (⟨v9, e9, -⟩ | ⟨ci9, q8, e9, -, -, hx⟩)
      · cases e9
      · exact hx.elim
  · subst g4
    replace H := H.2 o3 rfl
    refine e_aload_n dJ4_getEntry_7 rfl ?_
    refine e_aload_n dJ4_getEntry_8 rfl ?_
    obtain ⟨fsg17, g17o, H⟩ := H
    obtain ⟨d18, k19, n20, Q21, g17, g17d, g17k, g17n, H⟩ := H
    refine e_callV (r := (RJ4, TJ4, 9)) (As := [.ref a1]) g17 dJ4_getEntry_9 wJ4_getEntryUsingComparator q915 q916 q917 g17o rfl rfl g17d rfl (Nat.le_of_ble_eq_true rfl) (k1 := k - k19) (n1 := n - n20) (by omega) (by omega) ?_ ?_
    · rintro v h16 (⟨v9, e9, r15, e8, hq⟩ | ⟨ci9, q9, e9, -⟩)
      · cases e9
        subst e8
        replace H := H r15 h16 hq
        exact e_areturn (r := r15) _ dJ4_getEntry_12 rfl (Or.inl ⟨_, rfl⟩) H
      · cases e9
    · rintro q9 h9 (⟨v9, e9, -⟩ | ⟨ci9, q8, e9, -, -, hx⟩)
      · cases e9
      · exact hx.elim
set_option maxHeartbeats 4000000 in
theorem s_J4_getEntry_28 (c : cC) (a2 : Nat) (a3 : Option Nat) (h : eH) (k n : Nat) (H : (a3 = none → c.2.2.2.2 (.inl (some (.null))) h) ∧ (∀ o1 : Nat, a3 = some o1 → ∃ x3 : Nat, fV h o1 19 0 (.ref x3) ∧ (∃ fs8 : List Value, h.1 a2 = some (.inr (2, fs8)) ∧ ∃ (d8 k9 n10 : Nat) (Q11 : Int32 → eH → Prop), cI c.1 c.2.1 c.2.2.1 d8 mX2_compareTo [.ref a2, .ref x3] h k9 n10 Q11 cX0 ∧ d8 + 1 ≤ c.2.2.2.1 ∧ k9 ≤ k ∧ n10 ≤ n ∧ (∀ (r5 : Int32) (h6 : eH), Q11 r5 h6 → ((0 ≤ r5 → (r5 ≤ 0 → c.2.2.2.2 (.inl (some (.ref o1))) h6) ∧ (¬ r5 ≤ 0 → ∃ x14 : Option Nat, fV h6 o1 19 3 (va_rf x14) ∧ (h_J4_getEntry_72 c a2 x14 h6 (k - k9) (n - n10)))) ∧ (¬ 0 ≤ r5 → ∃ x16 : Option Nat, fV h6 o1 19 2 (va_rf x16) ∧ (h_J4_getEntry_72 c a2 x16 h6 (k - k9) (n - n10)))))))) : h_J4_getEntry_28 c a2 a3 h k n := by
  refine e_aloadR_n (r := a3) dJ4_getEntry_28 rfl ?_
  refine e_ifnull (r := a3) 75 dJ4_getEntry_29 (by decide) (fun g2 => ?_) (fun o1 g2 => ?_)
  · subst g2
    replace H := H.1 rfl
    refine e_null dJ4_getEntry_75 ?_
    exact e_areturn (r := none) _ dJ4_getEntry_76 rfl (Or.inl ⟨_, rfl⟩) H
  · subst g2
    replace H := H.2 o1 rfl
    refine e_aload_n dJ4_getEntry_32 rfl ?_
    refine e_aload_n dJ4_getEntry_33 rfl ?_
    obtain ⟨x3, ⟨fsx3, g4, g4v⟩, H⟩ := H
    refine e_get dJ4_getEntry_34 fJ15_0 q616 g4 g4v ?_
    obtain ⟨fsg7, g7o, H⟩ := H
    obtain ⟨d8, k9, n10, Q11, g7, g7d, g7k, g7n, H⟩ := H
    refine e_callF (i := 1) (r := (RX2, TX2, 1)) (As := [.ref x3]) g7 dJ4_getEntry_37 wX2_compareTo rfl rfl q342 q348 q346 g7o rfl rfl g7d rfl (Nat.le_of_ble_eq_true rfl) (k1 := k - k9) (n1 := n - n10) (by omega) (by omega) ?_ ?_
    · rintro v h6 (⟨v9, e9, r5, e8, hq⟩ | ⟨ci9, q9, e9, -⟩)
      · cases e9
        subst e8
        replace H := H r5 h6 hq
        refine e_istore _ dJ4_getEntry_42 (by decide) rfl rfl ?_
        refine e_iload dJ4_getEntry_44 rfl ?_
        refine e_if_ge 57 dJ4_getEntry_46 (by decide) (fun g12 => ?_) (fun g12 => ?_)
        · replace H := H.1 g12
          refine e_iload dJ4_getEntry_57 rfl ?_
          refine e_if_le 70 dJ4_getEntry_59 (by decide) (fun g13 => ?_) (fun g13 => ?_)
          · replace H := H.1 g13
            refine e_aload_n dJ4_getEntry_70 rfl ?_
            exact e_areturn (r := some o1) _ dJ4_getEntry_71 rfl (Or.inl ⟨_, rfl⟩) H
          · replace H := H.2 g13
            refine e_aload_n dJ4_getEntry_62 rfl ?_
            obtain ⟨x14, ⟨fsx14, g15, g15v⟩, H⟩ := H
            refine e_get dJ4_getEntry_63 fJ15_3 q620 g15 g15v ?_
            refine e_astoreR_n (r := x14) _ dJ4_getEntry_66 (by decide) rfl rfl ?_
            refine e_goto 72 dJ4_getEntry_67 (by decide) ?_
            exact E.less2 H (eS_n (eS_n (eS_s (eS_s (eS_n eS_0)))))
        · replace H := H.2 g12
          refine e_aload_n dJ4_getEntry_49 rfl ?_
          obtain ⟨x16, ⟨fsx16, g17, g17v⟩, H⟩ := H
          refine e_get dJ4_getEntry_50 fJ15_2 q619 g17 g17v ?_
          refine e_astoreR_n (r := x16) _ dJ4_getEntry_53 (by decide) rfl rfl ?_
          refine e_goto 72 dJ4_getEntry_54 (by decide) ?_
          exact E.less2 H (eS_n (eS_n (eS_s (eS_s (eS_n eS_0)))))
      · cases e9
    · rintro q9 h9 (⟨v9, e9, -⟩ | ⟨ci9, q8, e9, -, -, hx⟩)
      · cases e9
      · exact hx.elim
set_option maxHeartbeats 4000000 in
theorem s_J4_getEntry_72 (c : cC) (a2 : Nat) (a3 : Option Nat) (h : eH) (k n : Nat) (H : h_J4_getEntry_28 c a2 a3 h k n) : h_J4_getEntry_72 c a2 a3 h k n := by
  refine e_goto 28 dJ4_getEntry_72 (by decide) ?_
  exact E.less2 H (eS_n (eS_n (eS_s (eS_s (eS_n eS_0)))))
theorem en_J4_getEntry {l : Launch} {lo : Nat} {G : eG} {d : Nat} {P : eO → eH → Prop} (a0 : Nat) (a1 : Nat) {h : eH} {k n : Nat} (H : h_J4_getEntry_0 (l, lo, G, d, P) a0 a1 h k n) : Ct l lo G d mJ4_getEntry [.ref a0, .ref a1] h k n P := 
  Ct_of (eArL mJ4_getEntry.2.2.2.1 [.ref a0, .ref a1]) (by decide) rfl (Nat.le_of_ble_eq_true rfl) (fun j w q => eArL_mem j w q) (E.less2 H (eS_s (eS_s (eS_n (eS_n (eS_n eS_0))))))
/-! J4_size java/util/TreeMap.size()I -/
def h_J4_size_0 (c : cC) (a0 : Nat) (h : eH) (k n : Nat) : Prop := E c.1 c.2.1 c.2.2.1 c.2.2.2.1 mJ4_size c.2.2.2.2 0 [some (.ref a0)] [] h k n
set_option maxHeartbeats 4000000 in
theorem s_J4_size_0 (c : cC) (a0 : Nat) (h : eH) (k n : Nat) (H : ∃ x1 : Int32, fV h a0 16 4 (.int x1) ∧ (c.2.2.2.2 (.inl (some (.int x1))) h)) : h_J4_size_0 c a0 h k n := by
  refine e_aload_n dJ4_size_0 rfl ?_
  obtain ⟨x1, ⟨fsx1, g2, g2v⟩, H⟩ := H
  refine e_get dJ4_size_1 fJ4_4 q268 g2 g2v ?_
  exact e_ireturn .int dJ4_size_4 rfl rfl H
theorem en_J4_size {l : Launch} {lo : Nat} {G : eG} {d : Nat} {P : eO → eH → Prop} (a0 : Nat) {h : eH} {k n : Nat} (H : h_J4_size_0 (l, lo, G, d, P) a0 h k n) : Ct l lo G d mJ4_size [.ref a0] h k n P := 
  Ct_of (eArL mJ4_size.2.2.2.1 [.ref a0]) (by decide) rfl (Nat.le_of_ble_eq_true rfl) (fun j w q => eArL_mem j w q) (E.less2 H (eS_s eS_0))
/-! J15_init java/util/TreeMap$Entry.<init>(Ljava/lang/Object;Ljava/lang/Object;Ljava/util/TreeMap$Entry;)V -/
def h_J15_init_0 (c : cC) (a0 : Nat) (a1 : Nat) (a2 : Nat) (a3 : Option Nat) (h : eH) (k n : Nat) : Prop := E c.1 c.2.1 c.2.2.1 c.2.2.2.1 mJ15_init c.2.2.2.2 0 [some (.ref a0), some (.ref a1), some (.ref a2), some (va_rf a3)] [] h k n
set_option maxHeartbeats 4000000 in
theorem s_J15_init_0 (c : cC) (a0 : Nat) (a1 : Nat) (a2 : Nat) (a3 : Option Nat) (h : eH) (k n : Nat) (H : 1 ≤ c.2.2.2.1 ∧ (∃ fs2 : List Value, h.1 a0 = some (.inr (19, fs2)) ∧ c.2.1 ≤ a0 ∧ 5 < fs2.length ∧ ∀ h4 : eH, h4 = eUp h a0 (.inr (19, fs2.set 5 (.int (1 : Int32)))) → (∃ fs5 : List Value, h4.1 a0 = some (.inr (19, fs5)) ∧ c.2.1 ≤ a0 ∧ 0 < fs5.length ∧ ∀ h7 : eH, h7 = eUp h4 a0 (.inr (19, fs5.set 0 (.ref a1))) → (∃ fs8 : List Value, h7.1 a0 = some (.inr (19, fs8)) ∧ c.2.1 ≤ a0 ∧ 1 < fs8.length ∧ ∀ h10 : eH, h10 = eUp h7 a0 (.inr (19, fs8.set 1 (.ref a2))) → (∃ fs11 : List Value, h10.1 a0 = some (.inr (19, fs11)) ∧ c.2.1 ≤ a0 ∧ 4 < fs11.length ∧ ∀ h13 : eH, h13 = eUp h10 a0 (.inr (19, fs11.set 4 (va_rf a3))) → (c.2.2.2.2 (.inl none) h13)))))) : h_J15_init_0 c a0 a1 a2 a3 h k n := by
  refine e_aload_n dJ15_init_0 rfl ?_
  obtain ⟨g1, H⟩ := H
  refine e_objInit dJ15_init_1 q613 q192 q193 g1 (Nat.le_of_ble_eq_true rfl) ?_
  refine e_aload_n dJ15_init_4 rfl ?_
  refine e_iconst (1) dJ15_init_5 (by decide) ?_
  obtain ⟨fs2, g3, g3l, g3j, H⟩ := H
  refine e_put dJ15_init_6 fJ15_5 q623 eFit_z1 g3 g3l g3j ?_
  replace H := H _ rfl
  generalize eUp h a0 _ = h4 at H ⊢
  refine e_aload_n dJ15_init_9 rfl ?_
  refine e_aload_n dJ15_init_10 rfl ?_
  obtain ⟨fs5, g6, g6l, g6j, H⟩ := H
  refine e_put dJ15_init_11 fJ15_0 q614 (eFit_or _ _) g6 g6l g6j ?_
  replace H := H _ rfl
  generalize eUp h4 a0 _ = h7 at H ⊢
  refine e_aload_n dJ15_init_14 rfl ?_
  refine e_aload_n dJ15_init_15 rfl ?_
  obtain ⟨fs8, g9, g9l, g9j, H⟩ := H
  refine e_put dJ15_init_16 fJ15_1 q617 (eFit_or _ _) g9 g9l g9j ?_
  replace H := H _ rfl
  generalize eUp h7 a0 _ = h10 at H ⊢
  refine e_aload_n dJ15_init_19 rfl ?_
  refine e_aloadR_n (r := a3) dJ15_init_20 rfl ?_
  obtain ⟨fs11, g12, g12l, g12j, H⟩ := H
  refine e_put dJ15_init_21 fJ15_4 q621 (eFit_o _ a3) g12 g12l g12j ?_
  replace H := H _ rfl
  generalize eUp h10 a0 _ = h13 at H ⊢
  exact e_return dJ15_init_24 rfl H
theorem en_J15_init {l : Launch} {lo : Nat} {G : eG} {d : Nat} {P : eO → eH → Prop} (a0 : Nat) (a1 : Nat) (a2 : Nat) (a3 : Option Nat) {h : eH} {k n : Nat} (H : h_J15_init_0 (l, lo, G, d, P) a0 a1 a2 a3 h k n) : Ct l lo G d mJ15_init [.ref a0, .ref a1, .ref a2, va_rf a3] h k n P := by
  cases a3 with
  | none =>
    exact Ct_of (eArL mJ15_init.2.2.2.1 [.ref a0, .ref a1, .ref a2, va_rf none]) (by decide) rfl (Nat.le_of_ble_eq_true rfl) (fun j w q => eArL_mem j w q) (E.less2 H (eS_s (eS_s (eS_s (eS_s eS_0)))))
  | some a39 =>
    exact Ct_of (eArL mJ15_init.2.2.2.1 [.ref a0, .ref a1, .ref a2, va_rf (some a39)]) (by decide) rfl (Nat.le_of_ble_eq_true rfl) (fun j w q => eArL_mem j w q) (E.less2 H (eS_s (eS_s (eS_s (eS_s eS_0)))))
/-! J17_init java/util/AbstractSet.<init>()V -/
def h_J17_init_0 (c : cC) (a0 : Nat) (h : eH) (k n : Nat) : Prop := E c.1 c.2.1 c.2.2.1 c.2.2.2.1 mJ17_init c.2.2.2.2 0 [some (.ref a0)] [] h k n
set_option maxHeartbeats 4000000 in
theorem s_J17_init_0 (c : cC) (a0 : Nat) (h : eH) (k n : Nat) (H : ∃ (d4 k5 n6 : Nat) (Q7 : eH → Prop), cV c.1 c.2.1 c.2.2.1 d4 mJ0_init [.ref a0] h k5 n6 Q7 cX0 ∧ d4 + 1 ≤ c.2.2.2.1 ∧ k5 ≤ k ∧ n6 ≤ n ∧ (∀ h2 : eH, Q7 h2 → (c.2.2.2.2 (.inl none) h2))) : h_J17_init_0 c a0 h k n := by
  refine e_aload_n dJ17_init_0 rfl ?_
  obtain ⟨d4, k5, n6, Q7, g3, g3d, g3k, g3n, H⟩ := H
  refine e_callI (As := []) g3 dJ17_init_1 wJ0_init rfl rfl rfl q696 q212 rfl g3d rfl (Nat.le_of_ble_eq_true rfl) (k1 := k - k5) (n1 := n - n6) (by omega) (by omega) ?_ ?_
  · rintro v h2 (⟨v9, e9, e8, hq⟩ | ⟨ci9, q9, e9, -⟩)
    · cases e9
      subst e8
      replace H := H h2 hq
      exact e_return dJ17_init_4 rfl H
    · cases e9
  · rintro q9 h9 (⟨v9, e9, -⟩ | ⟨ci9, q8, e9, -, -, hx⟩)
    · cases e9
    · exact hx.elim
theorem en_J17_init {l : Launch} {lo : Nat} {G : eG} {d : Nat} {P : eO → eH → Prop} (a0 : Nat) {h : eH} {k n : Nat} (H : h_J17_init_0 (l, lo, G, d, P) a0 h k n) : Ct l lo G d mJ17_init [.ref a0] h k n P := 
  Ct_of (eArL mJ17_init.2.2.2.1 [.ref a0]) (by decide) rfl (Nat.le_of_ble_eq_true rfl) (fun j w q => eArL_mem j w q) (E.less2 H (eS_s eS_0))
/-! J18_init java/util/TreeMap$KeySet.<init>(Ljava/util/NavigableMap;)V -/
def h_J18_init_0 (c : cC) (a0 : Nat) (a1 : Nat) (h : eH) (k n : Nat) : Prop := E c.1 c.2.1 c.2.2.1 c.2.2.2.1 mJ18_init c.2.2.2.2 0 [some (.ref a0), some (.ref a1)] [] h k n
set_option maxHeartbeats 4000000 in
theorem s_J18_init_0 (c : cC) (a0 : Nat) (a1 : Nat) (h : eH) (k n : Nat) (H : ∃ (d4 k5 n6 : Nat) (Q7 : eH → Prop), cV c.1 c.2.1 c.2.2.1 d4 mJ17_init [.ref a0] h k5 n6 Q7 cX0 ∧ d4 + 1 ≤ c.2.2.2.1 ∧ k5 ≤ k ∧ n6 ≤ n ∧ (∀ h2 : eH, Q7 h2 → (∃ fs8 : List Value, h2.1 a0 = some (.inr (20, fs8)) ∧ c.2.1 ≤ a0 ∧ 0 < fs8.length ∧ ∀ h10 : eH, h10 = eUp h2 a0 (.inr (20, fs8.set 0 (.ref a1))) → (c.2.2.2.2 (.inl none) h10)))) : h_J18_init_0 c a0 a1 h k n := by
  refine e_aload_n dJ18_init_0 rfl ?_
  obtain ⟨d4, k5, n6, Q7, g3, g3d, g3k, g3n, H⟩ := H
  refine e_callI (As := []) g3 dJ18_init_1 wJ17_init rfl rfl rfl q693 q694 rfl g3d rfl (Nat.le_of_ble_eq_true rfl) (k1 := k - k5) (n1 := n - n6) (by omega) (by omega) ?_ ?_
  · rintro v h2 (⟨v9, e9, e8, hq⟩ | ⟨ci9, q9, e9, -⟩)
    · cases e9
      subst e8
      replace H := H h2 hq
      refine e_aload_n dJ18_init_4 rfl ?_
      refine e_aload_n dJ18_init_5 rfl ?_
      obtain ⟨fs8, g9, g9l, g9j, H⟩ := H
      refine e_putF dJ18_init_6 fJ18_0 q697 rfl rfl (eFit_or _ _) g9 g9l g9j ?_
      replace H := H _ rfl
      generalize eUp h2 a0 _ = h10 at H ⊢
      exact e_return dJ18_init_9 rfl H
    · cases e9
  · rintro q9 h9 (⟨v9, e9, -⟩ | ⟨ci9, q8, e9, -, -, hx⟩)
    · cases e9
    · exact hx.elim
theorem en_J18_init {l : Launch} {lo : Nat} {G : eG} {d : Nat} {P : eO → eH → Prop} (a0 : Nat) (a1 : Nat) {h : eH} {k n : Nat} (H : h_J18_init_0 (l, lo, G, d, P) a0 a1 h k n) : Ct l lo G d mJ18_init [.ref a0, .ref a1] h k n P := 
  Ct_of (eArL mJ18_init.2.2.2.1 [.ref a0, .ref a1]) (by decide) rfl (Nat.le_of_ble_eq_true rfl) (fun j w q => eArL_mem j w q) (E.less2 H (eS_s (eS_s eS_0)))
/-! J18_iterator java/util/TreeMap$KeySet.iterator()Ljava/util/Iterator; -/
def h_J18_iterator_0 (c : cC) (a0 : Nat) (h : eH) (k n : Nat) : Prop := E c.1 c.2.1 c.2.2.1 c.2.2.2.1 mJ18_iterator c.2.2.2.2 0 [some (.ref a0)] [] h k n
set_option maxHeartbeats 4000000 in
theorem s_J18_iterator_0 (c : cC) (a0 : Nat) (h : eH) (k n : Nat) (H : ∃ x1 : Nat, fV h a0 20 0 (.ref x1) ∧ (eIs c.2.2.1 h x1 "java/util/TreeMap" ∧ (((1 : Int32) = 0 → ∃ x5 : Nat, fV h a0 20 0 (.ref x5) ∧ (eCs c.2.2.1 h x5 "java/util/TreeMap$NavigableSubMap" ∧ (False))) ∧ (¬ (1 : Int32) = 0 → ∃ x8 : Nat, fV h a0 20 0 (.ref x8) ∧ (eCs c.2.2.1 h x8 "java/util/TreeMap" ∧ (∃ fs8 : List Value, h.1 x8 = some (.inr (16, fs8)) ∧ ∃ (d14 k15 n16 : Nat) (Q17 : Nat → eH → Prop), cR c.1 c.2.1 c.2.2.1 d14 mJ4_keyIterator [.ref x8] h k15 n16 Q17 cX0 ∧ d14 + 1 ≤ c.2.2.2.1 ∧ k15 ≤ k ∧ n16 ≤ n ∧ (∀ (r11 : Nat) (h12 : eH), Q17 r11 h12 → (c.2.2.2.2 (.inl (some (.ref r11))) h12)))))))) : h_J18_iterator_0 c a0 h k n := by
  refine e_aload_n dJ18_iterator_0 rfl ?_
  obtain ⟨x1, ⟨fsx1, g2, g2v⟩, H⟩ := H
  refine e_get dJ18_iterator_1 fJ18_0 q697 g2 g2v ?_
  obtain ⟨g3, H⟩ := H
  refine e_instE dJ18_iterator_4 q711 g3 ?_
  refine e_if_eq 21 dJ18_iterator_7 (by decide) (fun g4 => ?_) (fun g4 => ?_)
  · replace H := H.1 g4
    refine e_aload_n dJ18_iterator_21 rfl ?_
    obtain ⟨x5, ⟨fsx5, g6, g6v⟩, H⟩ := H
    refine e_get dJ18_iterator_22 fJ18_0 q697 g6 g6v ?_
    obtain ⟨g7, H⟩ := H
    refine c_castR dJ18_iterator_25 q742 g7 ?_
    exact H.elim
  · replace H := H.2 g4
    refine e_aload_n dJ18_iterator_10 rfl ?_
    obtain ⟨x8, ⟨fsx8, g9, g9v⟩, H⟩ := H
    refine e_get dJ18_iterator_11 fJ18_0 q697 g9 g9v ?_
    obtain ⟨g10, H⟩ := H
    refine c_castR dJ18_iterator_14 q711 g10 ?_
    obtain ⟨fsg13, g13o, H⟩ := H
    obtain ⟨d14, k15, n16, Q17, g13, g13d, g13k, g13n, H⟩ := H
    refine e_callV (r := (RJ4, TJ4, 9)) (As := []) g13 dJ18_iterator_17 wJ4_keyIterator q712 q713 q714 g13o rfl rfl g13d rfl (Nat.le_of_ble_eq_true rfl) (k1 := k - k15) (n1 := n - n16) (by omega) (by omega) ?_ ?_
    · rintro v h12 (⟨v9, e9, r11, e8, hq⟩ | ⟨ci9, q9, e9, -⟩)
      · cases e9
        subst e8
        replace H := H r11 h12 hq
        exact e_areturn (r := some r11) _ dJ18_iterator_20 rfl (Or.inl ⟨_, rfl⟩) H
      · cases e9
    · rintro q9 h9 (⟨v9, e9, -⟩ | ⟨ci9, q8, e9, -, -, hx⟩)
      · cases e9
      · exact hx.elim
theorem en_J18_iterator {l : Launch} {lo : Nat} {G : eG} {d : Nat} {P : eO → eH → Prop} (a0 : Nat) {h : eH} {k n : Nat} (H : h_J18_iterator_0 (l, lo, G, d, P) a0 h k n) : Ct l lo G d mJ18_iterator [.ref a0] h k n P := 
  Ct_of (eArL mJ18_iterator.2.2.2.1 [.ref a0]) (by decide) rfl (Nat.le_of_ble_eq_true rfl) (fun j w q => eArL_mem j w q) (E.less2 H (eS_s eS_0))
/-! J19_init java/util/TreeMap$PrivateEntryIterator.<init>(Ljava/util/TreeMap;Ljava/util/TreeMap$Entry;)V -/
def h_J19_init_0 (c : cC) (a0 : Nat) (a1 : Nat) (a2 : Option Nat) (h : eH) (k n : Nat) : Prop := E c.1 c.2.1 c.2.2.1 c.2.2.2.1 mJ19_init c.2.2.2.2 0 [some (.ref a0), some (.ref a1), some (va_rf a2)] [] h k n
set_option maxHeartbeats 4000000 in
theorem s_J19_init_0 (c : cC) (a0 : Nat) (a1 : Nat) (a2 : Option Nat) (h : eH) (k n : Nat) (H : ∃ fs1 : List Value, h.1 a0 = some (.inr (21, fs1)) ∧ c.2.1 ≤ a0 ∧ 3 < fs1.length ∧ ∀ h3 : eH, h3 = eUp h a0 (.inr (21, fs1.set 3 (.ref a1))) → (1 ≤ c.2.2.2.1 ∧ (∃ x5 : Int32, fV h3 a1 16 5 (.int x5) ∧ (∃ fs7 : List Value, h3.1 a0 = some (.inr (21, fs7)) ∧ c.2.1 ≤ a0 ∧ 2 < fs7.length ∧ ∀ h9 : eH, h9 = eUp h3 a0 (.inr (21, fs7.set 2 (.int x5))) → (∃ fs10 : List Value, h9.1 a0 = some (.inr (21, fs10)) ∧ c.2.1 ≤ a0 ∧ 1 < fs10.length ∧ ∀ h12 : eH, h12 = eUp h9 a0 (.inr (21, fs10.set 1 (.null))) → (∃ fs13 : List Value, h12.1 a0 = some (.inr (21, fs13)) ∧ c.2.1 ≤ a0 ∧ 0 < fs13.length ∧ ∀ h15 : eH, h15 = eUp h12 a0 (.inr (21, fs13.set 0 (va_rf a2))) → (c.2.2.2.2 (.inl none) h15))))))) : h_J19_init_0 c a0 a1 a2 h k n := by
  refine e_aload_n dJ19_init_0 rfl ?_
  refine e_aload_n dJ19_init_1 rfl ?_
  obtain ⟨fs1, g2, g2l, g2j, H⟩ := H
  refine e_putF dJ19_init_2 fJ20_3 q732 rfl rfl (eFit_or _ _) g2 g2l g2j ?_
  replace H := H _ rfl
  generalize eUp h a0 _ = h3 at H ⊢
  refine e_aload_n dJ19_init_5 rfl ?_
  obtain ⟨g4, H⟩ := H
  refine e_objInit dJ19_init_6 q728 q192 q193 g4 (Nat.le_of_ble_eq_true rfl) ?_
  refine e_aload_n dJ19_init_9 rfl ?_
  refine e_aload_n dJ19_init_10 rfl ?_
  obtain ⟨x5, ⟨fsx5, g6, g6v⟩, H⟩ := H
  refine e_getN dJ19_init_11 fJ4_5 q270 g6 g6v ?_
  obtain ⟨fs7, g8, g8l, g8j, H⟩ := H
  refine e_put dJ19_init_14 fJ20_2 q731 (eFit_i _) g8 g8l g8j ?_
  replace H := H _ rfl
  generalize eUp h3 a0 _ = h9 at H ⊢
  refine e_aload_n dJ19_init_17 rfl ?_
  refine e_null dJ19_init_18 ?_
  obtain ⟨fs10, g11, g11l, g11j, H⟩ := H
  refine e_put dJ19_init_19 fJ20_1 q730 (eFit_o _ none) g11 g11l g11j ?_
  replace H := H _ rfl
  generalize eUp h9 a0 _ = h12 at H ⊢
  refine e_aload_n dJ19_init_22 rfl ?_
  refine e_aloadR_n (r := a2) dJ19_init_23 rfl ?_
  obtain ⟨fs13, g14, g14l, g14j, H⟩ := H
  refine e_put dJ19_init_24 fJ20_0 q729 (eFit_o _ a2) g14 g14l g14j ?_
  replace H := H _ rfl
  generalize eUp h12 a0 _ = h15 at H ⊢
  exact e_return dJ19_init_27 rfl H
theorem en_J19_init {l : Launch} {lo : Nat} {G : eG} {d : Nat} {P : eO → eH → Prop} (a0 : Nat) (a1 : Nat) (a2 : Option Nat) {h : eH} {k n : Nat} (H : h_J19_init_0 (l, lo, G, d, P) a0 a1 a2 h k n) : Ct l lo G d mJ19_init [.ref a0, .ref a1, va_rf a2] h k n P := by
  cases a2 with
  | none =>
    exact Ct_of (eArL mJ19_init.2.2.2.1 [.ref a0, .ref a1, va_rf none]) (by decide) rfl (Nat.le_of_ble_eq_true rfl) (fun j w q => eArL_mem j w q) (E.less2 H (eS_s (eS_s (eS_s eS_0))))
  | some a29 =>
    exact Ct_of (eArL mJ19_init.2.2.2.1 [.ref a0, .ref a1, va_rf (some a29)]) (by decide) rfl (Nat.le_of_ble_eq_true rfl) (fun j w q => eArL_mem j w q) (E.less2 H (eS_s (eS_s (eS_s eS_0))))
/-! J19_hasNext java/util/TreeMap$PrivateEntryIterator.hasNext()Z -/
def h_J19_hasNext_0 (c : cC) (a0 : Nat) (h : eH) (k n : Nat) : Prop := E c.1 c.2.1 c.2.2.1 c.2.2.2.1 mJ19_hasNext c.2.2.2.2 0 [some (.ref a0)] [] h k n
set_option maxHeartbeats 4000000 in
theorem s_J19_hasNext_0 (c : cC) (a0 : Nat) (h : eH) (k n : Nat) (H : ∃ x1 : Option Nat, fV h a0 21 0 (va_rf x1) ∧ ((x1 = none → c.2.2.2.2 (.inl (some (.int (0 : Int32)))) h) ∧ (∀ o3 : Nat, x1 = some o3 → c.2.2.2.2 (.inl (some (.int (1 : Int32)))) h))) : h_J19_hasNext_0 c a0 h k n := by
  refine e_aload_n dJ19_hasNext_0 rfl ?_
  obtain ⟨x1, ⟨fsx1, g2, g2v⟩, H⟩ := H
  refine e_get dJ19_hasNext_1 fJ20_0 q729 g2 g2v ?_
  refine e_ifnull (r := x1) 11 dJ19_hasNext_4 (by decide) (fun g4 => ?_) (fun o3 g4 => ?_)
  · subst g4
    replace H := H.1 rfl
    refine e_iconst (0) dJ19_hasNext_11 (by decide) ?_
    exact e_ireturn .boolean dJ19_hasNext_12 rfl (by decide) H
  · subst g4
    replace H := H.2 o3 rfl
    refine e_iconst (1) dJ19_hasNext_7 (by decide) ?_
    refine e_goto 12 dJ19_hasNext_8 (by decide) ?_
    exact e_ireturn .boolean dJ19_hasNext_12 rfl (by decide) H
theorem en_J19_hasNext {l : Launch} {lo : Nat} {G : eG} {d : Nat} {P : eO → eH → Prop} (a0 : Nat) {h : eH} {k n : Nat} (H : h_J19_hasNext_0 (l, lo, G, d, P) a0 h k n) : Ct l lo G d mJ19_hasNext [.ref a0] h k n P := 
  Ct_of (eArL mJ19_hasNext.2.2.2.1 [.ref a0]) (by decide) rfl (Nat.le_of_ble_eq_true rfl) (fun j w q => eArL_mem j w q) (E.less2 H (eS_s eS_0))
/-! J19_nextEntry java/util/TreeMap$PrivateEntryIterator.nextEntry()Ljava/util/TreeMap$Entry; -/
def h_J19_nextEntry_0 (c : cC) (a0 : Nat) (h : eH) (k n : Nat) : Prop := E c.1 c.2.1 c.2.2.1 c.2.2.2.1 mJ19_nextEntry c.2.2.2.2 0 [some (.ref a0), none] [] h k n
set_option maxHeartbeats 4000000 in
theorem s_J19_nextEntry_0 (c : cC) (a0 : Nat) (h : eH) (k n : Nat) (H : ∃ x1 : Option Nat, fV h a0 21 0 (va_rf x1) ∧ ((x1 = none → False) ∧ (∀ o3 : Nat, x1 = some o3 → ∃ x5 : Nat, fV h a0 21 3 (.ref x5) ∧ (∃ x7 : Int32, fV h x5 16 5 (.int x7) ∧ (∃ x9 : Int32, fV h a0 21 2 (.int x9) ∧ ((x7 = x9 → ∃ (d15 k16 n17 : Nat) (Q18 : Option Nat → eH → Prop), cQ c.1 c.2.1 c.2.2.1 d15 mJ4_successor [.ref o3] h k16 n17 Q18 cX0 ∧ d15 + 1 ≤ c.2.2.2.1 ∧ k16 ≤ k ∧ n17 ≤ n ∧ (∀ (r12 : Option Nat) (h13 : eH), Q18 r12 h13 → (∃ fs19 : List Value, h13.1 a0 = some (.inr (21, fs19)) ∧ c.2.1 ≤ a0 ∧ 0 < fs19.length ∧ ∀ h21 : eH, h21 = eUp h13 a0 (.inr (21, fs19.set 0 (va_rf r12))) → (∃ fs22 : List Value, h21.1 a0 = some (.inr (21, fs22)) ∧ c.2.1 ≤ a0 ∧ 1 < fs22.length ∧ ∀ h24 : eH, h24 = eUp h21 a0 (.inr (21, fs22.set 1 (.ref o3))) → (c.2.2.2.2 (.inl (some (.ref o3))) h24))))) ∧ (¬ x7 = x9 → False))))))) : h_J19_nextEntry_0 c a0 h k n := by
  refine e_aload_n dJ19_nextEntry_0 rfl ?_
  obtain ⟨x1, ⟨fsx1, g2, g2v⟩, H⟩ := H
  refine e_get dJ19_nextEntry_1 fJ20_0 q729 g2 g2v ?_
  refine e_astoreR_n (r := x1) _ dJ19_nextEntry_4 (by decide) rfl rfl ?_
  refine e_aloadR_n (r := x1) dJ19_nextEntry_5 rfl ?_
  refine e_ifnonnull (r := x1) 17 dJ19_nextEntry_6 (by decide) (fun o3 g4 => ?_) (fun g4 => ?_)
  · subst g4
    replace H := H.2 o3 rfl
    refine e_aload_n dJ19_nextEntry_17 rfl ?_
    obtain ⟨x5, ⟨fsx5, g6, g6v⟩, H⟩ := H
    refine e_get dJ19_nextEntry_18 fJ20_3 q732 g6 g6v ?_
    obtain ⟨x7, ⟨fsx7, g8, g8v⟩, H⟩ := H
    refine e_getN dJ19_nextEntry_21 fJ4_5 q270 g8 g8v ?_
    refine e_aload_n dJ19_nextEntry_24 rfl ?_
    obtain ⟨x9, ⟨fsx9, g10, g10v⟩, H⟩ := H
    refine e_get dJ19_nextEntry_25 fJ20_2 q731 g10 g10v ?_
    refine e_icmp_eq 39 dJ19_nextEntry_28 (by decide) (fun g11 => ?_) (fun g11 => ?_)
    · replace H := H.1 g11
      refine e_aload_n dJ19_nextEntry_39 rfl ?_
      refine e_aload_n dJ19_nextEntry_40 rfl ?_
      obtain ⟨d15, k16, n17, Q18, g14, g14d, g14k, g14n, H⟩ := H
      refine e_callS (As := [.ref o3]) g14 dJ19_nextEntry_41 wJ4_successor q786 q787 rfl g14d rfl (Nat.le_of_ble_eq_true rfl) (k1 := k - k16) (n1 := n - n17) (by omega) (by omega) ?_ ?_
      · rintro v h13 (⟨v9, e9, r12, e8, hq⟩ | ⟨ci9, q9, e9, -⟩)
        · cases e9
          subst e8
          replace H := H r12 h13 hq
          obtain ⟨fs19, g20, g20l, g20j, H⟩ := H
          refine e_put dJ19_nextEntry_44 fJ20_0 q729 (eFit_o _ r12) g20 g20l g20j ?_
          replace H := H _ rfl
          generalize eUp h13 a0 _ = h21 at H ⊢
          refine e_aload_n dJ19_nextEntry_47 rfl ?_
          refine e_aload_n dJ19_nextEntry_48 rfl ?_
          obtain ⟨fs22, g23, g23l, g23j, H⟩ := H
          refine e_put dJ19_nextEntry_49 fJ20_1 q730 (eFit_or _ _) g23 g23l g23j ?_
          replace H := H _ rfl
          generalize eUp h21 a0 _ = h24 at H ⊢
          refine e_aload_n dJ19_nextEntry_52 rfl ?_
          exact e_areturn (r := some o3) _ dJ19_nextEntry_53 rfl (Or.inl ⟨_, rfl⟩) H
        · cases e9
      · rintro q9 h9 (⟨v9, e9, -⟩ | ⟨ci9, q8, e9, -, -, hx⟩)
        · cases e9
        · exact hx.elim
    · replace H := H.2 g11
      exact H.elim
  · subst g4
    replace H := H.1 rfl
    exact H.elim
theorem en_J19_nextEntry {l : Launch} {lo : Nat} {G : eG} {d : Nat} {P : eO → eH → Prop} (a0 : Nat) {h : eH} {k n : Nat} (H : h_J19_nextEntry_0 (l, lo, G, d, P) a0 h k n) : Ct l lo G d mJ19_nextEntry [.ref a0] h k n P := 
  Ct_of (eArL mJ19_nextEntry.2.2.2.1 [.ref a0]) (by decide) rfl (Nat.le_of_ble_eq_true rfl) (fun j w q => eArL_mem j w q) (E.less2 H (eS_s (eS_n eS_0)))
/-! J20_init java/util/TreeMap$KeyIterator.<init>(Ljava/util/TreeMap;Ljava/util/TreeMap$Entry;)V -/
def h_J20_init_0 (c : cC) (a0 : Nat) (a1 : Nat) (a2 : Option Nat) (h : eH) (k n : Nat) : Prop := E c.1 c.2.1 c.2.2.1 c.2.2.2.1 mJ20_init c.2.2.2.2 0 [some (.ref a0), some (.ref a1), some (va_rf a2)] [] h k n
set_option maxHeartbeats 4000000 in
theorem s_J20_init_0 (c : cC) (a0 : Nat) (a1 : Nat) (a2 : Option Nat) (h : eH) (k n : Nat) (H : ∃ (d4 k5 n6 : Nat) (Q7 : eH → Prop), cV c.1 c.2.1 c.2.2.1 d4 mJ19_init [.ref a0, .ref a1, va_rf a2] h k5 n6 Q7 cX0 ∧ d4 + 1 ≤ c.2.2.2.1 ∧ k5 ≤ k ∧ n6 ≤ n ∧ (∀ h2 : eH, Q7 h2 → (c.2.2.2.2 (.inl none) h2))) : h_J20_init_0 c a0 a1 a2 h k n := by
  refine e_aload_n dJ20_init_0 rfl ?_
  refine e_aload_n dJ20_init_1 rfl ?_
  refine e_aloadR_n (r := a2) dJ20_init_2 rfl ?_
  obtain ⟨d4, k5, n6, Q7, g3, g3d, g3k, g3n, H⟩ := H
  refine e_callI (As := [.ref a1, va_rf a2]) g3 dJ20_init_3 wJ19_init rfl rfl rfl q725 q726 rfl g3d rfl (Nat.le_of_ble_eq_true rfl) (k1 := k - k5) (n1 := n - n6) (by omega) (by omega) ?_ ?_
  · rintro v h2 (⟨v9, e9, e8, hq⟩ | ⟨ci9, q9, e9, -⟩)
    · cases e9
      subst e8
      replace H := H h2 hq
      exact e_return dJ20_init_6 rfl H
    · cases e9
  · rintro q9 h9 (⟨v9, e9, -⟩ | ⟨ci9, q8, e9, -, -, hx⟩)
    · cases e9
    · exact hx.elim
theorem en_J20_init {l : Launch} {lo : Nat} {G : eG} {d : Nat} {P : eO → eH → Prop} (a0 : Nat) (a1 : Nat) (a2 : Option Nat) {h : eH} {k n : Nat} (H : h_J20_init_0 (l, lo, G, d, P) a0 a1 a2 h k n) : Ct l lo G d mJ20_init [.ref a0, .ref a1, va_rf a2] h k n P := by
  cases a2 with
  | none =>
    exact Ct_of (eArL mJ20_init.2.2.2.1 [.ref a0, .ref a1, va_rf none]) (by decide) rfl (Nat.le_of_ble_eq_true rfl) (fun j w q => eArL_mem j w q) (E.less2 H (eS_s (eS_s (eS_s eS_0))))
  | some a29 =>
    exact Ct_of (eArL mJ20_init.2.2.2.1 [.ref a0, .ref a1, va_rf (some a29)]) (by decide) rfl (Nat.le_of_ble_eq_true rfl) (fun j w q => eArL_mem j w q) (E.less2 H (eS_s (eS_s (eS_s eS_0))))
/-! J20_next java/util/TreeMap$KeyIterator.next()Ljava/lang/Object; -/
def h_J20_next_0 (c : cC) (a0 : Nat) (h : eH) (k n : Nat) : Prop := E c.1 c.2.1 c.2.2.1 c.2.2.2.1 mJ20_next c.2.2.2.2 0 [some (.ref a0)] [] h k n
set_option maxHeartbeats 4000000 in
theorem s_J20_next_0 (c : cC) (a0 : Nat) (h : eH) (k n : Nat) (H : ∃ fs8 : List Value, h.1 a0 = some (.inr (21, fs8)) ∧ ∃ (d4 k5 n6 : Nat) (Q7 : Nat → eH → Prop), cR c.1 c.2.1 c.2.2.1 d4 mJ19_nextEntry [.ref a0] h k5 n6 Q7 cX0 ∧ d4 + 1 ≤ c.2.2.2.1 ∧ k5 ≤ k ∧ n6 ≤ n ∧ (∀ (r1 : Nat) (h2 : eH), Q7 r1 h2 → (∃ x8 : Nat, fV h2 r1 19 0 (.ref x8) ∧ (c.2.2.2.2 (.inl (some (.ref x8))) h2)))) : h_J20_next_0 c a0 h k n := by
  refine e_aload_n dJ20_next_0 rfl ?_
  obtain ⟨fsg3, g3o, H⟩ := H
  obtain ⟨d4, k5, n6, Q7, g3, g3d, g3k, g3n, H⟩ := H
  refine e_callU (r := (RJ20, TJ20, 4)) (As := []) g3 dJ20_next_1 wJ19_nextEntry rfl rfl q780 q781 q784 q783 g3o rfl rfl g3d rfl (Nat.le_of_ble_eq_true rfl) (k1 := k - k5) (n1 := n - n6) (by omega) (by omega) ?_ ?_
  · rintro v h2 (⟨v9, e9, r1, e8, hq⟩ | ⟨ci9, q9, e9, -⟩)
    · cases e9
      subst e8
      replace H := H r1 h2 hq
      obtain ⟨x8, ⟨fsx8, g9, g9v⟩, H⟩ := H
      refine e_get dJ20_next_4 fJ15_0 q615 g9 g9v ?_
      exact e_areturn (r := some x8) _ dJ20_next_7 rfl (Or.inl ⟨_, rfl⟩) H
    · cases e9
  · rintro q9 h9 (⟨v9, e9, -⟩ | ⟨ci9, q8, e9, -, -, hx⟩)
    · cases e9
    · exact hx.elim
theorem en_J20_next {l : Launch} {lo : Nat} {G : eG} {d : Nat} {P : eO → eH → Prop} (a0 : Nat) {h : eH} {k n : Nat} (H : h_J20_next_0 (l, lo, G, d, P) a0 h k n) : Ct l lo G d mJ20_next [.ref a0] h k n P := 
  Ct_of (eArL mJ20_next.2.2.2.1 [.ref a0]) (by decide) rfl (Nat.le_of_ble_eq_true rfl) (fun j w q => eArL_mem j w q) (E.less2 H (eS_s eS_0))
