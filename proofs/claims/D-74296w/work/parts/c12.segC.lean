/-! segments: J22_init, J22_remove@J23, J23_init, J23_init_2, J23_init_3, J23_add, J23_offer, J23_grow, J23_siftUp, J23_siftUpUsingComparator, J23_siftUpComparable, J23_size, J23_poll, J23_siftDownComparable, J23_siftDownUsingComparator, J25_init, J25_size, J25_sub, J25_clear, J25_circularClear, J25_addLast, J25_inc, J25_removeFirst, J25_pollFirst, J25_elementAt, J25_isEmpty, J25_removeLast, J25_pollLast, J25_dec -/
/-! J22_init java/util/AbstractQueue.<init>()V -/
def h_J22_init_0 (c : cC) (a0 : Nat) (h : eH) (k n : Nat) : Prop := E c.1 c.2.1 c.2.2.1 c.2.2.2.1 mJ22_init c.2.2.2.2 0 [some (.ref a0)] [] h k n
set_option maxHeartbeats 4000000 in
theorem s_J22_init_0 (c : cC) (a0 : Nat) (h : eH) (k n : Nat) (H : ∃ (d4 k5 n6 : Nat) (Q7 : eH → Prop), cV c.1 c.2.1 c.2.2.1 d4 mJ0_init [.ref a0] h k5 n6 Q7 cX0 ∧ d4 + 1 ≤ c.2.2.2.1 ∧ k5 ≤ k ∧ n6 ≤ n ∧ (∀ h2 : eH, Q7 h2 → (c.2.2.2.2 (.inl none) h2))) : h_J22_init_0 c a0 h k n := by
  refine e_aload_n dJ22_init_0 rfl ?_
  obtain ⟨d4, k5, n6, Q7, g3, g3d, g3k, g3n, H⟩ := H
  refine e_callI (As := []) g3 dJ22_init_1 wJ0_init rfl rfl rfl q1012 q212 rfl g3d rfl (Nat.le_of_ble_eq_true rfl) (k1 := k - k5) (n1 := n - n6) (by omega) (by omega) ?_ ?_
  · rintro v h2 (⟨v9, e9, e8, hq⟩ | ⟨ci9, q9, e9, -⟩)
    · cases e9
      subst e8
      replace H := H h2 hq
      exact e_return dJ22_init_4 rfl H
    · cases e9
  · rintro q9 h9 (⟨v9, e9, -⟩ | ⟨ci9, q8, e9, -, -, hx⟩)
    · cases e9
    · exact hx.elim
theorem en_J22_init {l : Launch} {lo : Nat} {G : eG} {d : Nat} {P : eO → eH → Prop} (a0 : Nat) {h : eH} {k n : Nat} (H : h_J22_init_0 (l, lo, G, d, P) a0 h k n) : Ct l lo G d mJ22_init [.ref a0] h k n P := 
  Ct_of (eArL mJ22_init.2.2.2.1 [.ref a0]) (by decide) rfl (Nat.le_of_ble_eq_true rfl) (fun j w q => eArL_mem j w q) (E.less2 H (eS_s eS_0))
/-! J22_remove@J23 java/util/AbstractQueue.remove()Ljava/lang/Object; -/
def h_J22_remove_J23_0 (c : cC) (a0 : Nat) (h : eH) (k n : Nat) : Prop := E c.1 c.2.1 c.2.2.1 c.2.2.2.1 mJ22_remove c.2.2.2.2 0 [some (.ref a0), none] [] h k n
set_option maxHeartbeats 4000000 in
theorem s_J22_remove_J23_0 (c : cC) (a0 : Nat) (h : eH) (k n : Nat) (H : ∃ fs8 : List Value, h.1 a0 = some (.inr (22, fs8)) ∧ ∃ (d4 k5 n6 : Nat) (Q7 : Option Nat → eH → Prop), cQ c.1 c.2.1 c.2.2.1 d4 mJ23_poll [.ref a0] h k5 n6 Q7 cX0 ∧ d4 + 1 ≤ c.2.2.2.1 ∧ k5 ≤ k ∧ n6 ≤ n ∧ (∀ (r1 : Option Nat) (h2 : eH), Q7 r1 h2 → ((r1 = none → False) ∧ (∀ o8 : Nat, r1 = some o8 → c.2.2.2.2 (.inl (some (.ref o8))) h2)))) : h_J22_remove_J23_0 c a0 h k n := by
  refine e_aload_n dJ22_remove_0 rfl ?_
  obtain ⟨fsg3, g3o, H⟩ := H
  obtain ⟨d4, k5, n6, Q7, g3, g3d, g3k, g3n, H⟩ := H
  refine e_callO (owner := "java/util/Queue") (r := (RJ23, TJ23, 4)) (As := []) g3 dJ22_remove_1 wJ23_poll rfl qd0 qd1 (by decide) (Or.inl q1164) q1166 q1165 g3o rfl rfl g3d rfl (Nat.le_of_ble_eq_true rfl) (k1 := k - k5) (n1 := n - n6) (by omega) (by omega) ?_ ?_
  · rintro v h2 (⟨v9, e9, r1, e8, hq⟩ | ⟨ci9, q9, e9, -⟩)
    · cases e9
      subst e8
      replace H := H r1 h2 hq
      refine e_astoreR_n (r := r1) _ dJ22_remove_4 (by decide) rfl rfl ?_
      refine e_aloadR_n (r := r1) dJ22_remove_5 rfl ?_
      refine e_ifnull (r := r1) 11 dJ22_remove_6 (by decide) (fun g9 => ?_) (fun o8 g9 => ?_)
      · subst g9
        replace H := H.1 rfl
        exact H.elim
      · subst g9
        replace H := H.2 o8 rfl
        refine e_aload_n dJ22_remove_9 rfl ?_
        exact e_areturn (r := some o8) _ dJ22_remove_10 rfl (Or.inl ⟨_, rfl⟩) H
    · cases e9
  · rintro q9 h9 (⟨v9, e9, -⟩ | ⟨ci9, q8, e9, -, -, hx⟩)
    · cases e9
    · exact hx.elim
theorem en_J22_remove_J23 {l : Launch} {lo : Nat} {G : eG} {d : Nat} {P : eO → eH → Prop} (a0 : Nat) {h : eH} {k n : Nat} (H : h_J22_remove_J23_0 (l, lo, G, d, P) a0 h k n) : Ct l lo G d mJ22_remove [.ref a0] h k n P := 
  Ct_of (eArL mJ22_remove.2.2.2.1 [.ref a0]) (by decide) rfl (Nat.le_of_ble_eq_true rfl) (fun j w q => eArL_mem j w q) (E.less2 H (eS_s (eS_n eS_0)))
/-! J23_init java/util/PriorityQueue.<init>(Ljava/util/Comparator;)V -/
def h_J23_init_0 (c : cC) (a0 : Nat) (a1 : Nat) (h : eH) (k n : Nat) : Prop := E c.1 c.2.1 c.2.2.1 c.2.2.2.1 mJ23_init c.2.2.2.2 0 [some (.ref a0), some (.ref a1)] [] h k n
set_option maxHeartbeats 4000000 in
theorem s_J23_init_0 (c : cC) (a0 : Nat) (a1 : Nat) (h : eH) (k n : Nat) (H : ∃ (d4 k5 n6 : Nat) (Q7 : eH → Prop), cV c.1 c.2.1 c.2.2.1 d4 mJ23_init_2 [.ref a0, .int (11 : Int32), .ref a1] h k5 n6 Q7 cX0 ∧ d4 + 1 ≤ c.2.2.2.1 ∧ k5 ≤ k ∧ n6 ≤ n ∧ (∀ h2 : eH, Q7 h2 → (c.2.2.2.2 (.inl none) h2))) : h_J23_init_0 c a0 a1 h k n := by
  refine e_aload_n dJ23_init_0 rfl ?_
  refine e_bipush (11) dJ23_init_1 (by decide) ?_
  refine e_aload_n dJ23_init_3 rfl ?_
  obtain ⟨d4, k5, n6, Q7, g3, g3d, g3k, g3n, H⟩ := H
  refine e_callI (As := [.int (11 : Int32), .ref a1]) g3 dJ23_init_4 wJ23_init_2 rfl rfl rfl q1006 q1007 rfl g3d rfl (Nat.le_of_ble_eq_true rfl) (k1 := k - k5) (n1 := n - n6) (by omega) (by omega) ?_ ?_
  · rintro v h2 (⟨v9, e9, e8, hq⟩ | ⟨ci9, q9, e9, -⟩)
    · cases e9
      subst e8
      replace H := H h2 hq
      exact e_return dJ23_init_7 rfl H
    · cases e9
  · rintro q9 h9 (⟨v9, e9, -⟩ | ⟨ci9, q8, e9, -, -, hx⟩)
    · cases e9
    · exact hx.elim
theorem en_J23_init {l : Launch} {lo : Nat} {G : eG} {d : Nat} {P : eO → eH → Prop} (a0 : Nat) (a1 : Nat) {h : eH} {k n : Nat} (H : h_J23_init_0 (l, lo, G, d, P) a0 a1 h k n) : Ct l lo G d mJ23_init [.ref a0, .ref a1] h k n P := 
  Ct_of (eArL mJ23_init.2.2.2.1 [.ref a0, .ref a1]) (by decide) rfl (Nat.le_of_ble_eq_true rfl) (fun j w q => eArL_mem j w q) (E.less2 H (eS_s (eS_s eS_0)))
/-! J23_init_2 java/util/PriorityQueue.<init>(ILjava/util/Comparator;)V -/
def h_J23_init_2_0 (c : cC) (a0 : Nat) (a1 : Int32) (a2 : Option Nat) (h : eH) (k n : Nat) : Prop := E c.1 c.2.1 c.2.2.1 c.2.2.2.1 mJ23_init_2 c.2.2.2.2 0 [some (.ref a0), some (.int a1), some (va_rf a2)] [] h k n
set_option maxHeartbeats 4000000 in
theorem s_J23_init_2_0 (c : cC) (a0 : Nat) (a1 : Int32) (a2 : Option Nat) (h : eH) (k n : Nat) (H : ∃ (d4 k5 n6 : Nat) (Q7 : eH → Prop), cV c.1 c.2.1 c.2.2.1 d4 mJ22_init [.ref a0] h k5 n6 Q7 cX0 ∧ d4 + 1 ≤ c.2.2.2.1 ∧ k5 ≤ k ∧ n6 ≤ n ∧ (∀ h2 : eH, Q7 h2 → (((1 : Int32) ≤ a1 → ∃ N11 : Nat, a1 = nI N11 ∧ N11 ≤ 10000000 ∧ 1 ≤ k - k5 ∧ N11 ≤ n - n6 ∧ ∀ h9 : eH, h9 = eNw h2 (.inl (c.2.2.1.2.1 3, N11, .inr (.inr (.inr (.inr (fun _ => none)))))) → (∃ fs12 : List Value, h9.1 a0 = some (.inr (22, fs12)) ∧ c.2.1 ≤ a0 ∧ 0 < fs12.length ∧ ∀ h14 : eH, h14 = eUp h9 a0 (.inr (22, fs12.set 0 (.ref h2.2))) → (∃ fs15 : List Value, h14.1 a0 = some (.inr (22, fs15)) ∧ c.2.1 ≤ a0 ∧ 2 < fs15.length ∧ ∀ h17 : eH, h17 = eUp h14 a0 (.inr (22, fs15.set 2 (va_rf a2))) → (c.2.2.2.2 (.inl none) h17)))) ∧ (¬ (1 : Int32) ≤ a1 → False)))) : h_J23_init_2_0 c a0 a1 a2 h k n := by
  refine e_aload_n dJ23_init_2_0 rfl ?_
  obtain ⟨d4, k5, n6, Q7, g3, g3d, g3k, g3n, H⟩ := H
  refine e_callI (As := []) g3 dJ23_init_2_1 wJ22_init rfl rfl rfl q1009 q1010 rfl g3d rfl (Nat.le_of_ble_eq_true rfl) (k1 := k - k5) (n1 := n - n6) (by omega) (by omega) ?_ ?_
  · rintro v h2 (⟨v9, e9, e8, hq⟩ | ⟨ci9, q9, e9, -⟩)
    · cases e9
      subst e8
      replace H := H h2 hq
      refine e_iload_n dJ23_init_2_4 rfl ?_
      refine e_iconst (1) dJ23_init_2_5 (by decide) ?_
      refine e_icmp_ge 17 dJ23_init_2_6 (by decide) (fun g8 => ?_) (fun g8 => ?_)
      · replace H := H.1 g8
        refine e_aload_n dJ23_init_2_17 rfl ?_
        refine e_iload_n dJ23_init_2_18 rfl ?_
        obtain ⟨N11, g10i, g10b, g10, g10n, H⟩ := H
        refine c_anewarray dJ23_init_2_19 q1013 q862 g10i g10b g10 g10n ?_
        replace H := H _ rfl
        generalize eNw h2 _ = h9 at H ⊢
        obtain ⟨fs12, g13, g13l, g13j, H⟩ := H
        refine e_put dJ23_init_2_22 fJ23_0 q1014 (eFit_ar _ _) g13 g13l g13j ?_
        replace H := H _ rfl
        generalize eUp h9 a0 _ = h14 at H ⊢
        refine e_aload_n dJ23_init_2_25 rfl ?_
        refine e_aloadR_n (r := a2) dJ23_init_2_26 rfl ?_
        obtain ⟨fs15, g16, g16l, g16j, H⟩ := H
        refine e_putF dJ23_init_2_27 fJ23_2 q1016 rfl rfl (eFit_o _ a2) g16 g16l g16j ?_
        replace H := H _ rfl
        generalize eUp h14 a0 _ = h17 at H ⊢
        exact e_return dJ23_init_2_30 rfl H
      · replace H := H.2 g8
        exact H.elim
    · cases e9
  · rintro q9 h9 (⟨v9, e9, -⟩ | ⟨ci9, q8, e9, -, -, hx⟩)
    · cases e9
    · exact hx.elim
theorem en_J23_init_2 {l : Launch} {lo : Nat} {G : eG} {d : Nat} {P : eO → eH → Prop} (a0 : Nat) (a1 : Int32) (a2 : Option Nat) {h : eH} {k n : Nat} (H : h_J23_init_2_0 (l, lo, G, d, P) a0 a1 a2 h k n) : Ct l lo G d mJ23_init_2 [.ref a0, .int a1, va_rf a2] h k n P := by
  cases a2 with
  | none =>
    exact Ct_of (eArL mJ23_init_2.2.2.2.1 [.ref a0, .int a1, va_rf none]) (by decide) rfl (Nat.le_of_ble_eq_true rfl) (fun j w q => eArL_mem j w q) (E.less2 H (eS_s (eS_s (eS_s eS_0))))
  | some a29 =>
    exact Ct_of (eArL mJ23_init_2.2.2.2.1 [.ref a0, .int a1, va_rf (some a29)]) (by decide) rfl (Nat.le_of_ble_eq_true rfl) (fun j w q => eArL_mem j w q) (E.less2 H (eS_s (eS_s (eS_s eS_0))))
/-! J23_init_3 java/util/PriorityQueue.<init>()V -/
def h_J23_init_3_0 (c : cC) (a0 : Nat) (h : eH) (k n : Nat) : Prop := E c.1 c.2.1 c.2.2.1 c.2.2.2.1 mJ23_init_3 c.2.2.2.2 0 [some (.ref a0)] [] h k n
set_option maxHeartbeats 4000000 in
theorem s_J23_init_3_0 (c : cC) (a0 : Nat) (h : eH) (k n : Nat) (H : ∃ (d4 k5 n6 : Nat) (Q7 : eH → Prop), cV c.1 c.2.1 c.2.2.1 d4 mJ23_init_2 [.ref a0, .int (11 : Int32), .null] h k5 n6 Q7 cX0 ∧ d4 + 1 ≤ c.2.2.2.1 ∧ k5 ≤ k ∧ n6 ≤ n ∧ (∀ h2 : eH, Q7 h2 → (c.2.2.2.2 (.inl none) h2))) : h_J23_init_3_0 c a0 h k n := by
  refine e_aload_n dJ23_init_3_0 rfl ?_
  refine e_bipush (11) dJ23_init_3_1 (by decide) ?_
  refine e_null dJ23_init_3_3 ?_
  obtain ⟨d4, k5, n6, Q7, g3, g3d, g3k, g3n, H⟩ := H
  refine e_callI (As := [.int (11 : Int32), .null]) g3 dJ23_init_3_4 wJ23_init_2 rfl rfl rfl q1006 q1007 rfl g3d rfl (Nat.le_of_ble_eq_true rfl) (k1 := k - k5) (n1 := n - n6) (by omega) (by omega) ?_ ?_
  · rintro v h2 (⟨v9, e9, e8, hq⟩ | ⟨ci9, q9, e9, -⟩)
    · cases e9
      subst e8
      replace H := H h2 hq
      exact e_return dJ23_init_3_7 rfl H
    · cases e9
  · rintro q9 h9 (⟨v9, e9, -⟩ | ⟨ci9, q8, e9, -, -, hx⟩)
    · cases e9
    · exact hx.elim
theorem en_J23_init_3 {l : Launch} {lo : Nat} {G : eG} {d : Nat} {P : eO → eH → Prop} (a0 : Nat) {h : eH} {k n : Nat} (H : h_J23_init_3_0 (l, lo, G, d, P) a0 h k n) : Ct l lo G d mJ23_init_3 [.ref a0] h k n P := 
  Ct_of (eArL mJ23_init_3.2.2.2.1 [.ref a0]) (by decide) rfl (Nat.le_of_ble_eq_true rfl) (fun j w q => eArL_mem j w q) (E.less2 H (eS_s eS_0))
/-! J23_add java/util/PriorityQueue.add(Ljava/lang/Object;)Z -/
def h_J23_add_0 (c : cC) (a0 : Nat) (a1 : Nat) (h : eH) (k n : Nat) : Prop := E c.1 c.2.1 c.2.2.1 c.2.2.2.1 mJ23_add c.2.2.2.2 0 [some (.ref a0), some (.ref a1)] [] h k n
set_option maxHeartbeats 4000000 in
theorem s_J23_add_0 (c : cC) (a0 : Nat) (a1 : Nat) (h : eH) (k n : Nat) (H : ∃ fs8 : List Value, h.1 a0 = some (.inr (22, fs8)) ∧ ∃ (d4 k5 n6 : Nat) (Q7 : Int32 → eH → Prop), cI c.1 c.2.1 c.2.2.1 d4 mJ23_offer [.ref a0, .ref a1] h k5 n6 Q7 cX0 ∧ d4 + 1 ≤ c.2.2.2.1 ∧ k5 ≤ k ∧ n6 ≤ n ∧ (∀ (r1 : Int32) (h2 : eH), Q7 r1 h2 → (narrow .boolean (.int r1) = .int r1 ∧ c.2.2.2.2 (.inl (some (.int r1))) h2))) : h_J23_add_0 c a0 a1 h k n := by
  refine e_aload_n dJ23_add_0 rfl ?_
  refine e_aload_n dJ23_add_1 rfl ?_
  obtain ⟨fsg3, g3o, H⟩ := H
  obtain ⟨d4, k5, n6, Q7, g3, g3d, g3k, g3n, H⟩ := H
  refine e_callV (r := (RJ23, TJ23, 4)) (As := [.ref a1]) g3 dJ23_add_2 wJ23_offer q1101 q1102 q1103 g3o rfl rfl g3d rfl (Nat.le_of_ble_eq_true rfl) (k1 := k - k5) (n1 := n - n6) (by omega) (by omega) ?_ ?_
  · rintro v h2 (⟨v9, e9, r1, e8, hq⟩ | ⟨ci9, q9, e9, -⟩)
    · cases e9
      subst e8
      replace H := H r1 h2 hq
      exact e_ireturn .boolean dJ23_add_5 rfl H.1 H.2
    · cases e9
  · rintro q9 h9 (⟨v9, e9, -⟩ | ⟨ci9, q8, e9, -, -, hx⟩)
    · cases e9
    · exact hx.elim
theorem en_J23_add {l : Launch} {lo : Nat} {G : eG} {d : Nat} {P : eO → eH → Prop} (a0 : Nat) (a1 : Nat) {h : eH} {k n : Nat} (H : h_J23_add_0 (l, lo, G, d, P) a0 a1 h k n) : Ct l lo G d mJ23_add [.ref a0, .ref a1] h k n P := 
  Ct_of (eArL mJ23_add.2.2.2.1 [.ref a0, .ref a1]) (by decide) rfl (Nat.le_of_ble_eq_true rfl) (fun j w q => eArL_mem j w q) (E.less2 H (eS_s (eS_s eS_0)))
/-! J23_offer java/util/PriorityQueue.offer(Ljava/lang/Object;)Z -/
def h_J23_offer_0 (c : cC) (a0 : Nat) (a1 : Nat) (h : eH) (k n : Nat) : Prop := E c.1 c.2.1 c.2.2.1 c.2.2.2.1 mJ23_offer c.2.2.2.2 0 [some (.ref a0), some (.ref a1), none] [] h k n
def h_J23_offer_43 (c : cC) (a0 : Nat) (a1 : Nat) (a2 : Int32) (h : eH) (k n : Nat) : Prop := E c.1 c.2.1 c.2.2.1 c.2.2.2.1 mJ23_offer c.2.2.2.2 43 [some (.ref a0), some (.ref a1), some (.int a2)] [] h k n
set_option maxHeartbeats 4000000 in
theorem s_J23_offer_0 (c : cC) (a0 : Nat) (a1 : Nat) (h : eH) (k n : Nat) (H : ∃ x1 : Int32, fV h a0 22 3 (.int x1) ∧ (∃ fs3 : List Value, h.1 a0 = some (.inr (22, fs3)) ∧ c.2.1 ≤ a0 ∧ 3 < fs3.length ∧ ∀ h5 : eH, h5 = eUp h a0 (.inr (22, fs3.set 3 (.int (x1 + (1 : Int32))))) → (∃ x6 : Int32, fV h5 a0 22 1 (.int x6) ∧ (∃ x8 : Nat, fV h5 a0 22 0 (.ref x8) ∧ (∃ v10 : vp_A, h5.1 x8 = some (.inl (c.2.2.1.2.1 3, v10)) ∧ ((x6 < (nI v10.1) → h_J23_offer_43 c a0 a1 x6 h5 k n) ∧ (¬ x6 < (nI v10.1) → ∃ fs8 : List Value, h5.1 a0 = some (.inr (22, fs8)) ∧ ∃ (d16 k17 n18 : Nat) (Q19 : eH → Prop), cV c.1 c.2.1 c.2.2.1 d16 mJ23_grow [.ref a0, .int (x6 + (1 : Int32))] h5 k17 n18 Q19 cX0 ∧ d16 + 1 ≤ c.2.2.2.1 ∧ k17 ≤ k ∧ n18 ≤ n ∧ (∀ h14 : eH, Q19 h14 → (h_J23_offer_43 c a0 a1 x6 h14 (k - k17) (n - n18)))))))))) : h_J23_offer_0 c a0 a1 h k n := by
  refine e_aload_n dJ23_offer_0 rfl ?_
  refine e_ifnonnull (r := some a1) 12 dJ23_offer_1 (by decide) (fun o9 g => ?_) (fun g => by cases g)
  refine e_aload_n dJ23_offer_12 rfl ?_
  refine e_dup dJ23_offer_13 rfl ?_
  obtain ⟨x1, ⟨fsx1, g2, g2v⟩, H⟩ := H
  refine e_get dJ23_offer_14 fJ23_3 q1017 g2 g2v ?_
  refine e_iconst (1) dJ23_offer_17 (by decide) ?_
  refine e_iadd dJ23_offer_18 ?_
  obtain ⟨fs3, g4, g4l, g4j, H⟩ := H
  refine e_put dJ23_offer_19 fJ23_3 q1017 (eFit_i _) g4 g4l g4j ?_
  replace H := H _ rfl
  generalize eUp h a0 _ = h5 at H ⊢
  refine e_aload_n dJ23_offer_22 rfl ?_
  obtain ⟨x6, ⟨fsx6, g7, g7v⟩, H⟩ := H
  refine e_get dJ23_offer_23 fJ23_1 q1015 g7 g7v ?_
  refine e_istore_n _ dJ23_offer_26 (by decide) rfl rfl ?_
  refine e_iload_n dJ23_offer_27 rfl ?_
  refine e_aload_n dJ23_offer_28 rfl ?_
  obtain ⟨x8, ⟨fsx8, g9, g9v⟩, H⟩ := H
  refine e_get dJ23_offer_29 fJ23_0 q1014 g9 g9v ?_
  obtain ⟨v10, g11, H⟩ := H
  refine e_alen (t := 3) dJ23_offer_32 (fun _ => rfl) g11 ?_
  refine e_icmp_lt 43 dJ23_offer_33 (by decide) (fun g12 => ?_) (fun g12 => ?_)
  · replace H := H.1 g12
    exact E.less2 H (eS_s (eS_s (eS_s eS_0)))
  · replace H := H.2 g12
    refine e_aload_n dJ23_offer_36 rfl ?_
    refine e_iload_n dJ23_offer_37 rfl ?_
    refine e_iconst (1) dJ23_offer_38 (by decide) ?_
    refine e_iadd dJ23_offer_39 ?_
    obtain ⟨fsg15, g15o, H⟩ := H
    obtain ⟨d16, k17, n18, Q19, g15, g15d, g15k, g15n, H⟩ := H
    refine e_callV (r := (RJ23, TJ23, 4)) (As := [.int (x6 + (1 : Int32))]) g15 dJ23_offer_40 wJ23_grow q1105 q1107 qs12 g15o rfl rfl g15d rfl (Nat.le_of_ble_eq_true rfl) (k1 := k - k17) (n1 := n - n18) (by omega) (by omega) ?_ ?_
    · rintro v h14 (⟨v9, e9, e8, hq⟩ | ⟨ci9, q9, e9, -⟩)
      · cases e9
        subst e8
        replace H := H h14 hq
        exact E.less2 H (eS_s (eS_s (eS_s eS_0)))
      · cases e9
    · rintro q9 h9 (⟨v9, e9, -⟩ | ⟨ci9, q8, e9, -, -, hx⟩)
      · cases e9
      · exact hx.elim
set_option maxHeartbeats 4000000 in
theorem s_J23_offer_43 (c : cC) (a0 : Nat) (a1 : Nat) (a2 : Int32) (h : eH) (k n : Nat) (H : ∃ fs8 : List Value, h.1 a0 = some (.inr (22, fs8)) ∧ ∃ (d4 k5 n6 : Nat) (Q7 : eH → Prop), cV c.1 c.2.1 c.2.2.1 d4 mJ23_siftUp [.ref a0, .int a2, .ref a1] h k5 n6 Q7 cX0 ∧ d4 + 1 ≤ c.2.2.2.1 ∧ k5 ≤ k ∧ n6 ≤ n ∧ (∀ h2 : eH, Q7 h2 → (∃ fs8 : List Value, h2.1 a0 = some (.inr (22, fs8)) ∧ c.2.1 ≤ a0 ∧ 1 < fs8.length ∧ ∀ h10 : eH, h10 = eUp h2 a0 (.inr (22, fs8.set 1 (.int (a2 + (1 : Int32))))) → (c.2.2.2.2 (.inl (some (.int (1 : Int32)))) h10)))) : h_J23_offer_43 c a0 a1 a2 h k n := by
  refine e_aload_n dJ23_offer_43 rfl ?_
  refine e_iload_n dJ23_offer_44 rfl ?_
  refine e_aload_n dJ23_offer_45 rfl ?_
  obtain ⟨fsg3, g3o, H⟩ := H
  obtain ⟨d4, k5, n6, Q7, g3, g3d, g3k, g3n, H⟩ := H
  refine e_callV (r := (RJ23, TJ23, 4)) (As := [.int a2, .ref a1]) g3 dJ23_offer_46 wJ23_siftUp q1111 q1113 qs13 g3o rfl rfl g3d rfl (Nat.le_of_ble_eq_true rfl) (k1 := k - k5) (n1 := n - n6) (by omega) (by omega) ?_ ?_
  · rintro v h2 (⟨v9, e9, e8, hq⟩ | ⟨ci9, q9, e9, -⟩)
    · cases e9
      subst e8
      replace H := H h2 hq
      refine e_aload_n dJ23_offer_49 rfl ?_
      refine e_iload_n dJ23_offer_50 rfl ?_
      refine e_iconst (1) dJ23_offer_51 (by decide) ?_
      refine e_iadd dJ23_offer_52 ?_
      obtain ⟨fs8, g9, g9l, g9j, H⟩ := H
      refine e_put dJ23_offer_53 fJ23_1 q1015 (eFit_i _) g9 g9l g9j ?_
      replace H := H _ rfl
      generalize eUp h2 a0 _ = h10 at H ⊢
      refine e_iconst (1) dJ23_offer_56 (by decide) ?_
      exact e_ireturn .boolean dJ23_offer_57 rfl (by decide) H
    · cases e9
  · rintro q9 h9 (⟨v9, e9, -⟩ | ⟨ci9, q8, e9, -, -, hx⟩)
    · cases e9
    · exact hx.elim
theorem en_J23_offer {l : Launch} {lo : Nat} {G : eG} {d : Nat} {P : eO → eH → Prop} (a0 : Nat) (a1 : Nat) {h : eH} {k n : Nat} (H : h_J23_offer_0 (l, lo, G, d, P) a0 a1 h k n) : Ct l lo G d mJ23_offer [.ref a0, .ref a1] h k n P := 
  Ct_of (eArL mJ23_offer.2.2.2.1 [.ref a0, .ref a1]) (by decide) rfl (Nat.le_of_ble_eq_true rfl) (fun j w q => eArL_mem j w q) (E.less2 H (eS_s (eS_s (eS_n eS_0))))
/-! J23_grow java/util/PriorityQueue.grow(I)V -/
def h_J23_grow_0 (c : cC) (a0 : Nat) (a1 : Int32) (h : eH) (k n : Nat) : Prop := E c.1 c.2.1 c.2.2.1 c.2.2.2.1 mJ23_grow c.2.2.2.2 0 [some (.ref a0), some (.int a1), none, none] [] h k n
set_option maxHeartbeats 4000000 in
theorem s_J23_grow_0 (c : cC) (a0 : Nat) (a1 : Int32) (h : eH) (k n : Nat) (H : ∃ x1 : Nat, fV h a0 22 0 (.ref x1) ∧ (∃ v3 : vp_A, h.1 x1 = some (.inl (c.2.2.1.2.1 3, v3)) ∧ (((64 : Int32) ≤ (nI v3.1) → ∃ (d9 k10 n11 : Nat) (Q12 : Int32 → eH → Prop), cI c.1 c.2.1 c.2.2.1 d9 mJ10_newLength [.int (nI v3.1), .int (a1 - (nI v3.1)), .int ((nI v3.1) >>> ((1 : Int32) &&& 31))] h k10 n11 Q12 cX0 ∧ d9 + 1 ≤ c.2.2.2.1 ∧ k10 ≤ k ∧ n11 ≤ n ∧ (∀ (r6 : Int32) (h7 : eH), Q12 r6 h7 → (∃ x13 : Nat, fV h7 a0 22 0 (.ref x13) ∧ (∃ (d18 k19 n20 : Nat) (Q21 : Nat → eH → Prop), cR c.1 c.2.1 c.2.2.1 d18 mJ21_copyOf [.ref x13, .int r6] h7 k19 n20 Q21 cX0 ∧ d18 + 1 ≤ c.2.2.2.1 ∧ k19 ≤ k - k10 ∧ n20 ≤ n - n11 ∧ (∀ (r15 : Nat) (h16 : eH), Q21 r15 h16 → (∃ fs22 : List Value, h16.1 a0 = some (.inr (22, fs22)) ∧ c.2.1 ≤ a0 ∧ 0 < fs22.length ∧ ∀ h24 : eH, h24 = eUp h16 a0 (.inr (22, fs22.set 0 (.ref r15))) → (c.2.2.2.2 (.inl none) h24))))))) ∧ (¬ (64 : Int32) ≤ (nI v3.1) → ∃ (d28 k29 n30 : Nat) (Q31 : Int32 → eH → Prop), cI c.1 c.2.1 c.2.2.1 d28 mJ10_newLength [.int (nI v3.1), .int (a1 - (nI v3.1)), .int ((nI v3.1) + (2 : Int32))] h k29 n30 Q31 cX0 ∧ d28 + 1 ≤ c.2.2.2.1 ∧ k29 ≤ k ∧ n30 ≤ n ∧ (∀ (r25 : Int32) (h26 : eH), Q31 r25 h26 → (∃ x32 : Nat, fV h26 a0 22 0 (.ref x32) ∧ (∃ (d37 k38 n39 : Nat) (Q40 : Nat → eH → Prop), cR c.1 c.2.1 c.2.2.1 d37 mJ21_copyOf [.ref x32, .int r25] h26 k38 n39 Q40 cX0 ∧ d37 + 1 ≤ c.2.2.2.1 ∧ k38 ≤ k - k29 ∧ n39 ≤ n - n30 ∧ (∀ (r34 : Nat) (h35 : eH), Q40 r34 h35 → (∃ fs41 : List Value, h35.1 a0 = some (.inr (22, fs41)) ∧ c.2.1 ≤ a0 ∧ 0 < fs41.length ∧ ∀ h43 : eH, h43 = eUp h35 a0 (.inr (22, fs41.set 0 (.ref r34))) → (c.2.2.2.2 (.inl none) h43)))))))))) : h_J23_grow_0 c a0 a1 h k n := by
  refine e_aload_n dJ23_grow_0 rfl ?_
  obtain ⟨x1, ⟨fsx1, g2, g2v⟩, H⟩ := H
  refine e_get dJ23_grow_1 fJ23_0 q1014 g2 g2v ?_
  obtain ⟨v3, g4, H⟩ := H
  refine e_alen (t := 3) dJ23_grow_4 (fun _ => rfl) g4 ?_
  refine e_istore_n _ dJ23_grow_5 (by decide) rfl rfl ?_
  refine e_iload_n dJ23_grow_6 rfl ?_
  refine e_iload_n dJ23_grow_7 rfl ?_
  refine e_iload_n dJ23_grow_8 rfl ?_
  refine e_isub dJ23_grow_9 ?_
  refine e_iload_n dJ23_grow_10 rfl ?_
  refine e_bipush (64) dJ23_grow_11 (by decide) ?_
  refine e_icmp_ge 22 dJ23_grow_13 (by decide) (fun g5 => ?_) (fun g5 => ?_)
  · replace H := H.1 g5
    refine e_iload_n dJ23_grow_22 rfl ?_
    refine e_iconst (1) dJ23_grow_23 (by decide) ?_
    refine e_ishr dJ23_grow_24 ?_
    obtain ⟨d9, k10, n11, Q12, g8, g8d, g8k, g8n, H⟩ := H
    refine e_callS (As := [.int (nI v3.1), .int (a1 - (nI v3.1)), .int ((nI v3.1) >>> ((1 : Int32) &&& 31))]) g8 dJ23_grow_25 wJ10_newLength q1109 q813 rfl g8d rfl (Nat.le_of_ble_eq_true rfl) (k1 := k - k10) (n1 := n - n11) (by omega) (by omega) ?_ ?_
    · rintro v h7 (⟨v9, e9, r6, e8, hq⟩ | ⟨ci9, q9, e9, -⟩)
      · cases e9
        subst e8
        replace H := H r6 h7 hq
        refine e_istore_n _ dJ23_grow_28 (by decide) rfl rfl ?_
        refine e_aload_n dJ23_grow_29 rfl ?_
        refine e_aload_n dJ23_grow_30 rfl ?_
        obtain ⟨x13, ⟨fsx13, g14, g14v⟩, H⟩ := H
        refine e_get dJ23_grow_31 fJ23_0 q1014 g14 g14v ?_
        refine e_iload_n dJ23_grow_34 rfl ?_
        obtain ⟨d18, k19, n20, Q21, g17, g17d, g17k, g17n, H⟩ := H
        refine e_callS (As := [.ref x13, .int r6]) g17 dJ23_grow_35 wJ21_copyOf q1110 q823 rfl g17d rfl (Nat.le_of_ble_eq_true rfl) (k1 := k - k10 - k19) (n1 := n - n11 - n20) (by omega) (by omega) ?_ ?_
        · rintro v h16 (⟨v9, e9, r15, e8, hq⟩ | ⟨ci9, q9, e9, -⟩)
          · cases e9
            subst e8
            replace H := H r15 h16 hq
            obtain ⟨fs22, g23, g23l, g23j, H⟩ := H
            refine e_put dJ23_grow_38 fJ23_0 q1014 (eFit_ar _ _) g23 g23l g23j ?_
            replace H := H _ rfl
            generalize eUp h16 a0 _ = h24 at H ⊢
            exact e_return dJ23_grow_41 rfl H
          · cases e9
        · rintro q9 h9 (⟨v9, e9, -⟩ | ⟨ci9, q8, e9, -, -, hx⟩)
          · cases e9
          · exact hx.elim
      · cases e9
    · rintro q9 h9 (⟨v9, e9, -⟩ | ⟨ci9, q8, e9, -, -, hx⟩)
      · cases e9
      · exact hx.elim
  · replace H := H.2 g5
    refine e_iload_n dJ23_grow_16 rfl ?_
    refine e_iconst (2) dJ23_grow_17 (by decide) ?_
    refine e_iadd dJ23_grow_18 ?_
    refine e_goto 25 dJ23_grow_19 (by decide) ?_
    obtain ⟨d28, k29, n30, Q31, g27, g27d, g27k, g27n, H⟩ := H
    refine e_callS (As := [.int (nI v3.1), .int (a1 - (nI v3.1)), .int ((nI v3.1) + (2 : Int32))]) g27 dJ23_grow_25 wJ10_newLength q1109 q813 rfl g27d rfl (Nat.le_of_ble_eq_true rfl) (k1 := k - k29) (n1 := n - n30) (by omega) (by omega) ?_ ?_
    · rintro v h26 (⟨v9, e9, r25, e8, hq⟩ | ⟨ci9, q9, e9, -⟩)
      · cases e9
        subst e8
        replace H := H r25 h26 hq
        refine e_istore_n _ dJ23_grow_28 (by decide) rfl rfl ?_
        refine e_aload_n dJ23_grow_29 rfl ?_
        refine e_aload_n dJ23_grow_30 rfl ?_
        obtain ⟨x32, ⟨fsx32, g33, g33v⟩, H⟩ := H
        refine e_get dJ23_grow_31 fJ23_0 q1014 g33 g33v ?_
        refine e_iload_n dJ23_grow_34 rfl ?_
        obtain ⟨d37, k38, n39, Q40, g36, g36d, g36k, g36n, H⟩ := H
        refine e_callS (As := [.ref x32, .int r25]) g36 dJ23_grow_35 wJ21_copyOf q1110 q823 rfl g36d rfl (Nat.le_of_ble_eq_true rfl) (k1 := k - k29 - k38) (n1 := n - n30 - n39) (by omega) (by omega) ?_ ?_
        · rintro v h35 (⟨v9, e9, r34, e8, hq⟩ | ⟨ci9, q9, e9, -⟩)
          · cases e9
            subst e8
            replace H := H r34 h35 hq
            obtain ⟨fs41, g42, g42l, g42j, H⟩ := H
            refine e_put dJ23_grow_38 fJ23_0 q1014 (eFit_ar _ _) g42 g42l g42j ?_
            replace H := H _ rfl
            generalize eUp h35 a0 _ = h43 at H ⊢
            exact e_return dJ23_grow_41 rfl H
          · cases e9
        · rintro q9 h9 (⟨v9, e9, -⟩ | ⟨ci9, q8, e9, -, -, hx⟩)
          · cases e9
          · exact hx.elim
      · cases e9
    · rintro q9 h9 (⟨v9, e9, -⟩ | ⟨ci9, q8, e9, -, -, hx⟩)
      · cases e9
      · exact hx.elim
theorem en_J23_grow {l : Launch} {lo : Nat} {G : eG} {d : Nat} {P : eO → eH → Prop} (a0 : Nat) (a1 : Int32) {h : eH} {k n : Nat} (H : h_J23_grow_0 (l, lo, G, d, P) a0 a1 h k n) : Ct l lo G d mJ23_grow [.ref a0, .int a1] h k n P := 
  Ct_of (eArL mJ23_grow.2.2.2.1 [.ref a0, .int a1]) (by decide) rfl (Nat.le_of_ble_eq_true rfl) (fun j w q => eArL_mem j w q) (E.less2 H (eS_s (eS_s (eS_n (eS_n eS_0)))))
/-! J23_siftUp java/util/PriorityQueue.siftUp(ILjava/lang/Object;)V -/
def h_J23_siftUp_0 (c : cC) (a0 : Nat) (a1 : Int32) (a2 : Nat) (h : eH) (k n : Nat) : Prop := E c.1 c.2.1 c.2.2.1 c.2.2.2.1 mJ23_siftUp c.2.2.2.2 0 [some (.ref a0), some (.int a1), some (.ref a2)] [] h k n
set_option maxHeartbeats 4000000 in
theorem s_J23_siftUp_0 (c : cC) (a0 : Nat) (a1 : Int32) (a2 : Nat) (h : eH) (k n : Nat) (H : ∃ x1 : Option Nat, fV h a0 22 2 (va_rf x1) ∧ ((x1 = none → ∃ x5 : Nat, fV h a0 22 0 (.ref x5) ∧ (∃ (d10 k11 n12 : Nat) (Q13 : eH → Prop), cV c.1 c.2.1 c.2.2.1 d10 mJ23_siftUpComparable [.int a1, .ref a2, .ref x5] h k11 n12 Q13 cX0 ∧ d10 + 1 ≤ c.2.2.2.1 ∧ k11 ≤ k ∧ n12 ≤ n ∧ (∀ h8 : eH, Q13 h8 → (c.2.2.2.2 (.inl none) h8)))) ∧ (∀ o3 : Nat, x1 = some o3 → ∃ x14 : Nat, fV h a0 22 0 (.ref x14) ∧ (∃ x16 : Option Nat, fV h a0 22 2 (va_rf x16) ∧ (∃ (d21 k22 n23 : Nat) (Q24 : eH → Prop), cV c.1 c.2.1 c.2.2.1 d21 mJ23_siftUpUsingComparator [.int a1, .ref a2, .ref x14, va_rf x16] h k22 n23 Q24 cX0 ∧ d21 + 1 ≤ c.2.2.2.1 ∧ k22 ≤ k ∧ n23 ≤ n ∧ (∀ h19 : eH, Q24 h19 → (c.2.2.2.2 (.inl none) h19))))))) : h_J23_siftUp_0 c a0 a1 a2 h k n := by
  refine e_aload_n dJ23_siftUp_0 rfl ?_
  obtain ⟨x1, ⟨fsx1, g2, g2v⟩, H⟩ := H
  refine e_get dJ23_siftUp_1 fJ23_2 q1016 g2 g2v ?_
  refine e_ifnull (r := x1) 23 dJ23_siftUp_4 (by decide) (fun g4 => ?_) (fun o3 g4 => ?_)
  · subst g4
    replace H := H.1 rfl
    refine e_iload_n dJ23_siftUp_23 rfl ?_
    refine e_aload_n dJ23_siftUp_24 rfl ?_
    refine e_aload_n dJ23_siftUp_25 rfl ?_
    obtain ⟨x5, ⟨fsx5, g6, g6v⟩, H⟩ := H
    refine e_get dJ23_siftUp_26 fJ23_0 q1014 g6 g6v ?_
    obtain ⟨d10, k11, n12, Q13, g9, g9d, g9k, g9n, H⟩ := H
    refine e_callS (As := [.int a1, .ref a2, .ref x5]) g9 dJ23_siftUp_29 wJ23_siftUpComparable q1120 q1121 rfl g9d rfl (Nat.le_of_ble_eq_true rfl) (k1 := k - k11) (n1 := n - n12) (by omega) (by omega) ?_ ?_
    · rintro v h8 (⟨v9, e9, e8, hq⟩ | ⟨ci9, q9, e9, -⟩)
      · cases e9
        subst e8
        replace H := H h8 hq
        exact e_return dJ23_siftUp_32 rfl H
      · cases e9
    · rintro q9 h9 (⟨v9, e9, -⟩ | ⟨ci9, q8, e9, -, -, hx⟩)
      · cases e9
      · exact hx.elim
  · subst g4
    replace H := H.2 o3 rfl
    refine e_iload_n dJ23_siftUp_7 rfl ?_
    refine e_aload_n dJ23_siftUp_8 rfl ?_
    refine e_aload_n dJ23_siftUp_9 rfl ?_
    obtain ⟨x14, ⟨fsx14, g15, g15v⟩, H⟩ := H
    refine e_get dJ23_siftUp_10 fJ23_0 q1014 g15 g15v ?_
    refine e_aload_n dJ23_siftUp_13 rfl ?_
    obtain ⟨x16, ⟨fsx16, g17, g17v⟩, H⟩ := H
    refine e_get dJ23_siftUp_14 fJ23_2 q1016 g17 g17v ?_
    obtain ⟨d21, k22, n23, Q24, g20, g20d, g20k, g20n, H⟩ := H
    refine e_callS (As := [.int a1, .ref a2, .ref x14, va_rf x16]) g20 dJ23_siftUp_17 wJ23_siftUpUsingComparator q1115 q1116 rfl g20d rfl (Nat.le_of_ble_eq_true rfl) (k1 := k - k22) (n1 := n - n23) (by omega) (by omega) ?_ ?_
    · rintro v h19 (⟨v9, e9, e8, hq⟩ | ⟨ci9, q9, e9, -⟩)
      · cases e9
        subst e8
        replace H := H h19 hq
        refine e_goto 32 dJ23_siftUp_20 (by decide) ?_
        exact e_return dJ23_siftUp_32 rfl H
      · cases e9
    · rintro q9 h9 (⟨v9, e9, -⟩ | ⟨ci9, q8, e9, -, -, hx⟩)
      · cases e9
      · exact hx.elim
theorem en_J23_siftUp {l : Launch} {lo : Nat} {G : eG} {d : Nat} {P : eO → eH → Prop} (a0 : Nat) (a1 : Int32) (a2 : Nat) {h : eH} {k n : Nat} (H : h_J23_siftUp_0 (l, lo, G, d, P) a0 a1 a2 h k n) : Ct l lo G d mJ23_siftUp [.ref a0, .int a1, .ref a2] h k n P := 
  Ct_of (eArL mJ23_siftUp.2.2.2.1 [.ref a0, .int a1, .ref a2]) (by decide) rfl (Nat.le_of_ble_eq_true rfl) (fun j w q => eArL_mem j w q) (E.less2 H (eS_s (eS_s (eS_s eS_0))))
/-! J23_siftUpUsingComparator java/util/PriorityQueue.siftUpUsingComparator(ILjava/lang/Object;[Ljava/lang/Object;Ljava/util/Comparator;)V -/
def h_J23_siftUpUsingComparator_0 (c : cC) (a0 : Int32) (a1 : Nat) (a2 : Nat) (a3 : Nat) (h : eH) (k n : Nat) : Prop := E c.1 c.2.1 c.2.2.1 c.2.2.2.1 mJ23_siftUpUsingComparator c.2.2.2.2 0 [some (.int a0), some (.ref a1), some (.ref a2), some (.ref a3), none, none] [] h k n
set_option maxHeartbeats 4000000 in
theorem s_J23_siftUpUsingComparator_0 (c : cC) (a0 : Int32) (a1 : Nat) (a2 : Nat) (a3 : Nat) (h : eH) (k n : Nat) (H : (a0 ≤ 0 → ∃ C9 : String, eIs c.2.2.1 h a1 C9 ∧ Cond.castable C9 "java/lang/Object" ∈ lw_tbl ∧ ∃ (N2 : Nat) (f3 : Nat → Option Nat), h.1 a2 = some (.inl (c.2.2.1.2.1 3, N2, .inr (.inr (.inr (.inr f3))))) ∧ c.2.1 ≤ a2 ∧ vp_in a0 N2 ∧ ∀ h5 : eH, h5 = eUp h a2 (.inl (c.2.2.1.2.1 3, N2, .inr (.inr (.inr (.inr (va_up f3 a0.toNatClampNeg (some a1))))))) → (c.2.2.2.2 (.inl none) h5)) ∧ (¬ a0 ≤ 0 → ∃ (N6 : Nat) (f7 : Nat → Option Nat), h.1 a2 = some (.inl (c.2.2.1.2.1 3, N6, .inr (.inr (.inr (.inr f7))))) ∧ vp_in (((a0 - (1 : Int32)).toUInt32 >>> ((1 : Int32).toUInt32 &&& Int32.toUInt32 31)).toInt32) N6 ∧ ∃ r9 : Nat, f7 (((a0 - (1 : Int32)).toUInt32 >>> ((1 : Int32).toUInt32 &&& Int32.toUInt32 31)).toInt32).toNatClampNeg = some r9 ∧ (∃ fs8 : List Value, h.1 a3 = some (.inr (4, fs8)) ∧ ∃ (d13 k14 n15 : Nat) (Q16 : Int32 → eH → Prop), cI c.1 c.2.1 c.2.2.1 d13 mX4_compare [.ref a3, .ref a1, .ref r9] h k14 n15 Q16 cX0 ∧ d13 + 1 ≤ c.2.2.2.1 ∧ k14 ≤ k ∧ n15 ≤ n ∧ (∀ (r10 : Int32) (h11 : eH), Q16 r10 h11 → ((r10 < 0 → ∃ C9 : String, eIs c.2.2.1 h11 r9 C9 ∧ Cond.castable C9 "java/lang/Object" ∈ lw_tbl ∧ ∃ (N18 : Nat) (f19 : Nat → Option Nat), h11.1 a2 = some (.inl (c.2.2.1.2.1 3, N18, .inr (.inr (.inr (.inr f19))))) ∧ c.2.1 ≤ a2 ∧ vp_in a0 N18 ∧ ∀ h21 : eH, h21 = eUp h11 a2 (.inl (c.2.2.1.2.1 3, N18, .inr (.inr (.inr (.inr (va_up f19 a0.toNatClampNeg (some r9))))))) → (h_J23_siftUpUsingComparator_0 c (((a0 - (1 : Int32)).toUInt32 >>> ((1 : Int32).toUInt32 &&& Int32.toUInt32 31)).toInt32) a1 a2 a3 h21 (k - k14) (n - n15))) ∧ (¬ r10 < 0 → ∃ C9 : String, eIs c.2.2.1 h11 a1 C9 ∧ Cond.castable C9 "java/lang/Object" ∈ lw_tbl ∧ ∃ (N22 : Nat) (f23 : Nat → Option Nat), h11.1 a2 = some (.inl (c.2.2.1.2.1 3, N22, .inr (.inr (.inr (.inr f23))))) ∧ c.2.1 ≤ a2 ∧ vp_in a0 N22 ∧ ∀ h25 : eH, h25 = eUp h11 a2 (.inl (c.2.2.1.2.1 3, N22, .inr (.inr (.inr (.inr (va_up f23 a0.toNatClampNeg (some a1))))))) → (c.2.2.2.2 (.inl none) h25))))))) : h_J23_siftUpUsingComparator_0 c a0 a1 a2 a3 h k n := by
  refine e_iload_n dJ23_siftUpUsingComparator_0 rfl ?_
  refine e_if_le 43 dJ23_siftUpUsingComparator_1 (by decide) (fun g1 => ?_) (fun g1 => ?_)
  · replace H := H.1 g1
    refine e_aload_n dJ23_siftUpUsingComparator_43 rfl ?_
    refine e_iload_n dJ23_siftUpUsingComparator_44 rfl ?_
    refine e_aload_n dJ23_siftUpUsingComparator_45 rfl ?_
    obtain ⟨Cg4, g4v, g4w, H⟩ := H
    obtain ⟨N2, f3, g4, g4l, g4i, H⟩ := H
    refine e_aastore dJ23_siftUpUsingComparator_46 g4 g4l g4v g4w g4i ?_
    replace H := H _ rfl
    generalize eUp h a2 _ = h5 at H ⊢
    exact e_return dJ23_siftUpUsingComparator_47 rfl H
  · replace H := H.2 g1
    refine e_iload_n dJ23_siftUpUsingComparator_4 rfl ?_
    refine e_iconst (1) dJ23_siftUpUsingComparator_5 (by decide) ?_
    refine e_isub dJ23_siftUpUsingComparator_6 ?_
    refine e_iconst (1) dJ23_siftUpUsingComparator_7 (by decide) ?_
    refine e_iushr dJ23_siftUpUsingComparator_8 ?_
    refine e_istore _ dJ23_siftUpUsingComparator_9 (by decide) rfl rfl ?_
    refine e_aload_n dJ23_siftUpUsingComparator_11 rfl ?_
    refine e_iload dJ23_siftUpUsingComparator_12 rfl ?_
    obtain ⟨N6, f7, g8, g8i, r9, g8r, H⟩ := H
    refine e_aaload 3 dJ23_siftUpUsingComparator_14 (fun _ => rfl) rfl g8 g8i ?_
    rw [g8r]
    refine e_astore _ dJ23_siftUpUsingComparator_15 (by decide) rfl rfl ?_
    refine e_aload_n dJ23_siftUpUsingComparator_17 rfl ?_
    refine e_aload_n dJ23_siftUpUsingComparator_18 rfl ?_
    refine e_aload dJ23_siftUpUsingComparator_19 rfl ?_
    obtain ⟨fsg12, g12o, H⟩ := H
    obtain ⟨d13, k14, n15, Q16, g12, g12d, g12k, g12n, H⟩ := H
    refine e_callF (i := 0) (r := ("TroupeSums$BySize", TX4, 0)) (As := [.ref a1, .ref r9]) g12 dJ23_siftUpUsingComparator_21 wX4_compare rfl rfl q1119 q599 q597 g12o rfl rfl g12d rfl (Nat.le_of_ble_eq_true rfl) (k1 := k - k14) (n1 := n - n15) (by omega) (by omega) ?_ ?_
    · rintro v h11 (⟨v9, e9, r10, e8, hq⟩ | ⟨ci9, q9, e9, -⟩)
      · cases e9
        subst e8
        replace H := H r10 h11 hq
        refine e_if_lt 32 dJ23_siftUpUsingComparator_26 (by decide) (fun g17 => ?_) (fun g17 => ?_)
        · replace H := H.1 g17
          refine e_aload_n dJ23_siftUpUsingComparator_32 rfl ?_
          refine e_iload_n dJ23_siftUpUsingComparator_33 rfl ?_
          refine e_aload dJ23_siftUpUsingComparator_34 rfl ?_
          obtain ⟨Cg20, g20v, g20w, H⟩ := H
          obtain ⟨N18, f19, g20, g20l, g20i, H⟩ := H
          refine e_aastore dJ23_siftUpUsingComparator_36 g20 g20l g20v g20w g20i ?_
          replace H := H _ rfl
          generalize eUp h11 a2 _ = h21 at H ⊢
          refine e_iload dJ23_siftUpUsingComparator_37 rfl ?_
          refine e_istore_n _ dJ23_siftUpUsingComparator_39 (by decide) trivial rfl ?_
          refine e_goto 0 dJ23_siftUpUsingComparator_40 (by decide) ?_
          exact E.less2 H (eS_s (eS_s (eS_s (eS_s (eS_n (eS_n eS_0))))))
        · replace H := H.2 g17
          refine e_goto 43 dJ23_siftUpUsingComparator_29 (by decide) ?_
          refine e_aload_n dJ23_siftUpUsingComparator_43 rfl ?_
          refine e_iload_n dJ23_siftUpUsingComparator_44 rfl ?_
          refine e_aload_n dJ23_siftUpUsingComparator_45 rfl ?_
          obtain ⟨Cg24, g24v, g24w, H⟩ := H
          obtain ⟨N22, f23, g24, g24l, g24i, H⟩ := H
          refine e_aastore dJ23_siftUpUsingComparator_46 g24 g24l g24v g24w g24i ?_
          replace H := H _ rfl
          generalize eUp h11 a2 _ = h25 at H ⊢
          exact e_return dJ23_siftUpUsingComparator_47 rfl H
      · cases e9
    · rintro q9 h9 (⟨v9, e9, -⟩ | ⟨ci9, q8, e9, -, -, hx⟩)
      · cases e9
      · exact hx.elim
theorem en_J23_siftUpUsingComparator {l : Launch} {lo : Nat} {G : eG} {d : Nat} {P : eO → eH → Prop} (a0 : Int32) (a1 : Nat) (a2 : Nat) (a3 : Nat) {h : eH} {k n : Nat} (H : h_J23_siftUpUsingComparator_0 (l, lo, G, d, P) a0 a1 a2 a3 h k n) : Ct l lo G d mJ23_siftUpUsingComparator [.int a0, .ref a1, .ref a2, .ref a3] h k n P := 
  Ct_of (eArL mJ23_siftUpUsingComparator.2.2.2.1 [.int a0, .ref a1, .ref a2, .ref a3]) (by decide) rfl (Nat.le_of_ble_eq_true rfl) (fun j w q => eArL_mem j w q) (E.less2 H (eS_s (eS_s (eS_s (eS_s (eS_n (eS_n eS_0)))))))
/-! J23_siftUpComparable java/util/PriorityQueue.siftUpComparable(ILjava/lang/Object;[Ljava/lang/Object;)V -/
def h_J23_siftUpComparable_0 (c : cC) (a0 : Int32) (a1 : Nat) (a2 : Nat) (h : eH) (k n : Nat) : Prop := E c.1 c.2.1 c.2.2.1 c.2.2.2.1 mJ23_siftUpComparable c.2.2.2.2 0 [some (.int a0), some (.ref a1), some (.ref a2), none, none, none] [] h k n
def h_J23_siftUpComparable_5 (c : cC) (a0 : Int32) (a2 : Nat) (a3 : Nat) (h : eH) (k n : Nat) : Prop := E c.1 c.2.1 c.2.2.1 c.2.2.2.1 mJ23_siftUpComparable c.2.2.2.2 5 [some (.int a0), none, some (.ref a2), some (.ref a3), none, none] [] h k n
set_option maxHeartbeats 4000000 in
theorem s_J23_siftUpComparable_0 (c : cC) (a0 : Int32) (a1 : Nat) (a2 : Nat) (h : eH) (k n : Nat) (H : eCs c.2.2.1 h a1 "java/lang/Comparable" ∧ (h_J23_siftUpComparable_5 c a0 a2 a1 h k n)) : h_J23_siftUpComparable_0 c a0 a1 a2 h k n := by
  refine e_aload_n dJ23_siftUpComparable_0 rfl ?_
  obtain ⟨g1, H⟩ := H
  refine c_castR dJ23_siftUpComparable_1 q1123 g1 ?_
  refine e_astore_n _ dJ23_siftUpComparable_4 (by decide) rfl rfl ?_
  exact E.less2 H (eS_s (eS_n (eS_s (eS_s (eS_n (eS_n eS_0))))))
set_option maxHeartbeats 4000000 in
theorem s_J23_siftUpComparable_5 (c : cC) (a0 : Int32) (a2 : Nat) (a3 : Nat) (h : eH) (k n : Nat) (H : (a0 ≤ 0 → ∃ C9 : String, eIs c.2.2.1 h a3 C9 ∧ Cond.castable C9 "java/lang/Object" ∈ lw_tbl ∧ ∃ (N2 : Nat) (f3 : Nat → Option Nat), h.1 a2 = some (.inl (c.2.2.1.2.1 3, N2, .inr (.inr (.inr (.inr f3))))) ∧ c.2.1 ≤ a2 ∧ vp_in a0 N2 ∧ ∀ h5 : eH, h5 = eUp h a2 (.inl (c.2.2.1.2.1 3, N2, .inr (.inr (.inr (.inr (va_up f3 a0.toNatClampNeg (some a3))))))) → (c.2.2.2.2 (.inl none) h5)) ∧ (¬ a0 ≤ 0 → ∃ (N6 : Nat) (f7 : Nat → Option Nat), h.1 a2 = some (.inl (c.2.2.1.2.1 3, N6, .inr (.inr (.inr (.inr f7))))) ∧ vp_in (((a0 - (1 : Int32)).toUInt32 >>> ((1 : Int32).toUInt32 &&& Int32.toUInt32 31)).toInt32) N6 ∧ ∃ r9 : Nat, f7 (((a0 - (1 : Int32)).toUInt32 >>> ((1 : Int32).toUInt32 &&& Int32.toUInt32 31)).toInt32).toNatClampNeg = some r9 ∧ (∃ fs8 : List Value, h.1 a3 = some (.inr (14, fs8)) ∧ ∃ (d13 k14 n15 : Nat) (Q16 : Int32 → eH → Prop), cI c.1 c.2.1 c.2.2.1 d13 mX14_compareTo [.ref a3, .ref r9] h k14 n15 Q16 cX0 ∧ d13 + 1 ≤ c.2.2.2.1 ∧ k14 ≤ k ∧ n15 ≤ n ∧ (∀ (r10 : Int32) (h11 : eH), Q16 r10 h11 → ((r10 < 0 → ∃ C9 : String, eIs c.2.2.1 h11 r9 C9 ∧ Cond.castable C9 "java/lang/Object" ∈ lw_tbl ∧ ∃ (N18 : Nat) (f19 : Nat → Option Nat), h11.1 a2 = some (.inl (c.2.2.1.2.1 3, N18, .inr (.inr (.inr (.inr f19))))) ∧ c.2.1 ≤ a2 ∧ vp_in a0 N18 ∧ ∀ h21 : eH, h21 = eUp h11 a2 (.inl (c.2.2.1.2.1 3, N18, .inr (.inr (.inr (.inr (va_up f19 a0.toNatClampNeg (some r9))))))) → (h_J23_siftUpComparable_5 c (((a0 - (1 : Int32)).toUInt32 >>> ((1 : Int32).toUInt32 &&& Int32.toUInt32 31)).toInt32) a2 a3 h21 (k - k14) (n - n15))) ∧ (¬ r10 < 0 → ∃ C9 : String, eIs c.2.2.1 h11 a3 C9 ∧ Cond.castable C9 "java/lang/Object" ∈ lw_tbl ∧ ∃ (N22 : Nat) (f23 : Nat → Option Nat), h11.1 a2 = some (.inl (c.2.2.1.2.1 3, N22, .inr (.inr (.inr (.inr f23))))) ∧ c.2.1 ≤ a2 ∧ vp_in a0 N22 ∧ ∀ h25 : eH, h25 = eUp h11 a2 (.inl (c.2.2.1.2.1 3, N22, .inr (.inr (.inr (.inr (va_up f23 a0.toNatClampNeg (some a3))))))) → (c.2.2.2.2 (.inl none) h25))))))) : h_J23_siftUpComparable_5 c a0 a2 a3 h k n := by
  refine e_iload_n dJ23_siftUpComparable_5 rfl ?_
  refine e_if_le 47 dJ23_siftUpComparable_6 (by decide) (fun g1 => ?_) (fun g1 => ?_)
  · replace H := H.1 g1
    refine e_aload_n dJ23_siftUpComparable_47 rfl ?_
    refine e_iload_n dJ23_siftUpComparable_48 rfl ?_
    refine e_aload_n dJ23_siftUpComparable_49 rfl ?_
    obtain ⟨Cg4, g4v, g4w, H⟩ := H
    obtain ⟨N2, f3, g4, g4l, g4i, H⟩ := H
    refine e_aastore dJ23_siftUpComparable_50 g4 g4l g4v g4w g4i ?_
    replace H := H _ rfl
    generalize eUp h a2 _ = h5 at H ⊢
    exact e_return dJ23_siftUpComparable_51 rfl H
  · replace H := H.2 g1
    refine e_iload_n dJ23_siftUpComparable_9 rfl ?_
    refine e_iconst (1) dJ23_siftUpComparable_10 (by decide) ?_
    refine e_isub dJ23_siftUpComparable_11 ?_
    refine e_iconst (1) dJ23_siftUpComparable_12 (by decide) ?_
    refine e_iushr dJ23_siftUpComparable_13 ?_
    refine e_istore _ dJ23_siftUpComparable_14 (by decide) rfl rfl ?_
    refine e_aload_n dJ23_siftUpComparable_16 rfl ?_
    refine e_iload dJ23_siftUpComparable_17 rfl ?_
    obtain ⟨N6, f7, g8, g8i, r9, g8r, H⟩ := H
    refine e_aaload 3 dJ23_siftUpComparable_19 (fun _ => rfl) rfl g8 g8i ?_
    rw [g8r]
    refine e_astore _ dJ23_siftUpComparable_20 (by decide) rfl rfl ?_
    refine e_aload_n dJ23_siftUpComparable_22 rfl ?_
    refine e_aload dJ23_siftUpComparable_23 rfl ?_
    obtain ⟨fsg12, g12o, H⟩ := H
    obtain ⟨d13, k14, n15, Q16, g12, g12d, g12k, g12n, H⟩ := H
    refine e_callF (i := 2) (r := (RX14, TX14, 1)) (As := [.ref r9]) g12 dJ23_siftUpComparable_25 wX14_compareTo rfl rfl q1125 q359 q357 g12o rfl rfl g12d rfl (Nat.le_of_ble_eq_true rfl) (k1 := k - k14) (n1 := n - n15) (by omega) (by omega) ?_ ?_
    · rintro v h11 (⟨v9, e9, r10, e8, hq⟩ | ⟨ci9, q9, e9, -⟩)
      · cases e9
        subst e8
        replace H := H r10 h11 hq
        refine e_if_lt 36 dJ23_siftUpComparable_30 (by decide) (fun g17 => ?_) (fun g17 => ?_)
        · replace H := H.1 g17
          refine e_aload_n dJ23_siftUpComparable_36 rfl ?_
          refine e_iload_n dJ23_siftUpComparable_37 rfl ?_
          refine e_aload dJ23_siftUpComparable_38 rfl ?_
          obtain ⟨Cg20, g20v, g20w, H⟩ := H
          obtain ⟨N18, f19, g20, g20l, g20i, H⟩ := H
          refine e_aastore dJ23_siftUpComparable_40 g20 g20l g20v g20w g20i ?_
          replace H := H _ rfl
          generalize eUp h11 a2 _ = h21 at H ⊢
          refine e_iload dJ23_siftUpComparable_41 rfl ?_
          refine e_istore_n _ dJ23_siftUpComparable_43 (by decide) trivial rfl ?_
          refine e_goto 5 dJ23_siftUpComparable_44 (by decide) ?_
          exact E.less2 H (eS_s (eS_n (eS_s (eS_s (eS_n (eS_n eS_0))))))
        · replace H := H.2 g17
          refine e_goto 47 dJ23_siftUpComparable_33 (by decide) ?_
          refine e_aload_n dJ23_siftUpComparable_47 rfl ?_
          refine e_iload_n dJ23_siftUpComparable_48 rfl ?_
          refine e_aload_n dJ23_siftUpComparable_49 rfl ?_
          obtain ⟨Cg24, g24v, g24w, H⟩ := H
          obtain ⟨N22, f23, g24, g24l, g24i, H⟩ := H
          refine e_aastore dJ23_siftUpComparable_50 g24 g24l g24v g24w g24i ?_
          replace H := H _ rfl
          generalize eUp h11 a2 _ = h25 at H ⊢
          exact e_return dJ23_siftUpComparable_51 rfl H
      · cases e9
    · rintro q9 h9 (⟨v9, e9, -⟩ | ⟨ci9, q8, e9, -, -, hx⟩)
      · cases e9
      · exact hx.elim
theorem en_J23_siftUpComparable {l : Launch} {lo : Nat} {G : eG} {d : Nat} {P : eO → eH → Prop} (a0 : Int32) (a1 : Nat) (a2 : Nat) {h : eH} {k n : Nat} (H : h_J23_siftUpComparable_0 (l, lo, G, d, P) a0 a1 a2 h k n) : Ct l lo G d mJ23_siftUpComparable [.int a0, .ref a1, .ref a2] h k n P := 
  Ct_of (eArL mJ23_siftUpComparable.2.2.2.1 [.int a0, .ref a1, .ref a2]) (by decide) rfl (Nat.le_of_ble_eq_true rfl) (fun j w q => eArL_mem j w q) (E.less2 H (eS_s (eS_s (eS_s (eS_n (eS_n (eS_n eS_0)))))))
/-! J23_size java/util/PriorityQueue.size()I -/
def h_J23_size_0 (c : cC) (a0 : Nat) (h : eH) (k n : Nat) : Prop := E c.1 c.2.1 c.2.2.1 c.2.2.2.1 mJ23_size c.2.2.2.2 0 [some (.ref a0)] [] h k n
set_option maxHeartbeats 4000000 in
theorem s_J23_size_0 (c : cC) (a0 : Nat) (h : eH) (k n : Nat) (H : ∃ x1 : Int32, fV h a0 22 1 (.int x1) ∧ (c.2.2.2.2 (.inl (some (.int x1))) h)) : h_J23_size_0 c a0 h k n := by
  refine e_aload_n dJ23_size_0 rfl ?_
  obtain ⟨x1, ⟨fsx1, g2, g2v⟩, H⟩ := H
  refine e_get dJ23_size_1 fJ23_1 q1015 g2 g2v ?_
  exact e_ireturn .int dJ23_size_4 rfl rfl H
theorem en_J23_size {l : Launch} {lo : Nat} {G : eG} {d : Nat} {P : eO → eH → Prop} (a0 : Nat) {h : eH} {k n : Nat} (H : h_J23_size_0 (l, lo, G, d, P) a0 h k n) : Ct l lo G d mJ23_size [.ref a0] h k n P := 
  Ct_of (eArL mJ23_size.2.2.2.1 [.ref a0]) (by decide) rfl (Nat.le_of_ble_eq_true rfl) (fun j w q => eArL_mem j w q) (E.less2 H (eS_s eS_0))
/-! J23_poll java/util/PriorityQueue.poll()Ljava/lang/Object; -/
def h_J23_poll_0 (c : cC) (a0 : Nat) (h : eH) (k n : Nat) : Prop := E c.1 c.2.1 c.2.2.1 c.2.2.2.1 mJ23_poll c.2.2.2.2 0 [some (.ref a0), none, none, none, none, none] [] h k n
set_option maxHeartbeats 4000000 in
theorem s_J23_poll_0 (c : cC) (a0 : Nat) (h : eH) (k n : Nat) (H : ∃ x1 : Nat, fV h a0 22 0 (.ref x1) ∧ (∃ (N3 : Nat) (f4 : Nat → Option Nat), h.1 x1 = some (.inl (c.2.2.1.2.1 3, N3, .inr (.inr (.inr (.inr f4))))) ∧ vp_in (0 : Int32) N3 ∧ ∃ r6 : Option Nat, f4 (0 : Int32).toNatClampNeg = r6 ∧ ((r6 = none → c.2.2.2.2 (.inl (some (.null))) h) ∧ (∀ o7 : Nat, r6 = some o7 → ∃ x9 : Int32, fV h a0 22 3 (.int x9) ∧ (∃ fs11 : List Value, h.1 a0 = some (.inr (22, fs11)) ∧ c.2.1 ≤ a0 ∧ 3 < fs11.length ∧ ∀ h13 : eH, h13 = eUp h a0 (.inr (22, fs11.set 3 (.int (x9 + (1 : Int32))))) → (∃ x14 : Int32, fV h13 a0 22 1 (.int x14) ∧ (∃ fs16 : List Value, h13.1 a0 = some (.inr (22, fs16)) ∧ c.2.1 ≤ a0 ∧ 1 < fs16.length ∧ ∀ h18 : eH, h18 = eUp h13 a0 (.inr (22, fs16.set 1 (.int (x14 - (1 : Int32))))) → (∃ (N19 : Nat) (f20 : Nat → Option Nat), h18.1 x1 = some (.inl (c.2.2.1.2.1 3, N19, .inr (.inr (.inr (.inr f20))))) ∧ vp_in (x14 - (1 : Int32)) N19 ∧ ∃ r22 : Option Nat, f20 (x14 - (1 : Int32)).toNatClampNeg = r22 ∧ (∃ (N23 : Nat) (f24 : Nat → Option Nat), h18.1 x1 = some (.inl (c.2.2.1.2.1 3, N23, .inr (.inr (.inr (.inr f24))))) ∧ c.2.1 ≤ x1 ∧ vp_in (x14 - (1 : Int32)) N23 ∧ ∀ h26 : eH, h26 = eUp h18 x1 (.inl (c.2.2.1.2.1 3, N23, .inr (.inr (.inr (.inr (va_up f24 (x14 - (1 : Int32)).toNatClampNeg none)))))) → (((x14 - (1 : Int32)) ≤ 0 → c.2.2.2.2 (.inl (some (.ref o7))) h26) ∧ (¬ (x14 - (1 : Int32)) ≤ 0 → ∃ x28 : Option Nat, fV h26 a0 22 2 (va_rf x28) ∧ ((x28 = none → ∃ (d35 k36 n37 : Nat) (Q38 : eH → Prop), cV c.1 c.2.1 c.2.2.1 d35 mJ23_siftDownComparable [.int (0 : Int32), va_rf r22, .ref x1, .int (x14 - (1 : Int32))] h26 k36 n37 Q38 cX0 ∧ d35 + 1 ≤ c.2.2.2.1 ∧ k36 ≤ k ∧ n37 ≤ n ∧ (∀ h33 : eH, Q38 h33 → (c.2.2.2.2 (.inl (some (.ref o7))) h33))) ∧ (∀ o30 : Nat, x28 = some o30 → ∃ (d42 k43 n44 : Nat) (Q45 : eH → Prop), cV c.1 c.2.1 c.2.2.1 d42 mJ23_siftDownUsingComparator [.int (0 : Int32), va_rf r22, .ref x1, .int (x14 - (1 : Int32)), .ref o30] h26 k43 n44 Q45 cX0 ∧ d42 + 1 ≤ c.2.2.2.1 ∧ k43 ≤ k ∧ n44 ≤ n ∧ (∀ h40 : eH, Q45 h40 → (c.2.2.2.2 (.inl (some (.ref o7))) h40))))))))))))))) : h_J23_poll_0 c a0 h k n := by
  refine e_aload_n dJ23_poll_0 rfl ?_
  obtain ⟨x1, ⟨fsx1, g2, g2v⟩, H⟩ := H
  refine e_get dJ23_poll_1 fJ23_0 q1014 g2 g2v ?_
  refine e_dup dJ23_poll_4 rfl ?_
  refine e_astore_n _ dJ23_poll_5 (by decide) rfl rfl ?_
  refine e_iconst (0) dJ23_poll_6 (by decide) ?_
  obtain ⟨N3, f4, g5, g5i, r6, g5r, H⟩ := H
  refine e_aaload 3 dJ23_poll_7 (fun _ => rfl) rfl g5 g5i ?_
  rw [g5r]
  refine e_dup dJ23_poll_8 (eRfC _) ?_
  refine e_astoreR_n (r := r6) _ dJ23_poll_9 (by decide) rfl rfl ?_
  refine e_ifnull (r := r6) 79 dJ23_poll_10 (by decide) (fun g8 => ?_) (fun o7 g8 => ?_)
  · subst g8
    replace H := H.1 rfl
    refine e_aloadR_n (r := none) dJ23_poll_79 rfl ?_
    exact e_areturn (r := none) _ dJ23_poll_80 rfl (Or.inl ⟨_, rfl⟩) H
  · subst g8
    replace H := H.2 o7 rfl
    refine e_aload_n dJ23_poll_13 rfl ?_
    refine e_dup dJ23_poll_14 rfl ?_
    obtain ⟨x9, ⟨fsx9, g10, g10v⟩, H⟩ := H
    refine e_get dJ23_poll_15 fJ23_3 q1017 g10 g10v ?_
    refine e_iconst (1) dJ23_poll_18 (by decide) ?_
    refine e_iadd dJ23_poll_19 ?_
    obtain ⟨fs11, g12, g12l, g12j, H⟩ := H
    refine e_put dJ23_poll_20 fJ23_3 q1017 (eFit_i _) g12 g12l g12j ?_
    replace H := H _ rfl
    generalize eUp h a0 _ = h13 at H ⊢
    refine e_aload_n dJ23_poll_23 rfl ?_
    refine e_aload_n dJ23_poll_24 rfl ?_
    refine e_dup dJ23_poll_25 rfl ?_
    obtain ⟨x14, ⟨fsx14, g15, g15v⟩, H⟩ := H
    refine e_get dJ23_poll_26 fJ23_1 q1015 g15 g15v ?_
    refine e_iconst (1) dJ23_poll_29 (by decide) ?_
    refine e_isub dJ23_poll_30 ?_
    refine e_dup_x1 dJ23_poll_31 rfl rfl ?_
    obtain ⟨fs16, g17, g17l, g17j, H⟩ := H
    refine e_put dJ23_poll_32 fJ23_1 q1015 (eFit_i _) g17 g17l g17j ?_
    replace H := H _ rfl
    generalize eUp h13 a0 _ = h18 at H ⊢
    refine e_dup dJ23_poll_35 rfl ?_
    refine e_istore_n _ dJ23_poll_36 (by decide) rfl rfl ?_
    obtain ⟨N19, f20, g21, g21i, r22, g21r, H⟩ := H
    refine e_aaload 3 dJ23_poll_37 (fun _ => rfl) rfl g21 g21i ?_
    rw [g21r]
    refine e_astoreR (r := r22) _ dJ23_poll_38 (by decide) rfl rfl ?_
    refine e_aload_n dJ23_poll_40 rfl ?_
    refine e_iload_n dJ23_poll_41 rfl ?_
    refine e_null dJ23_poll_42 ?_
    obtain ⟨N23, f24, g25, g25l, g25i, H⟩ := H
    refine e_aastoreN dJ23_poll_43 g25 g25l g25i ?_
    replace H := H _ rfl
    generalize eUp h18 x1 _ = h26 at H ⊢
    refine e_iload_n dJ23_poll_44 rfl ?_
    refine e_if_le 79 dJ23_poll_45 (by decide) (fun g27 => ?_) (fun g27 => ?_)
    · replace H := H.1 g27
      refine e_aload_n dJ23_poll_79 rfl ?_
      exact e_areturn (r := some o7) _ dJ23_poll_80 rfl (Or.inl ⟨_, rfl⟩) H
    · replace H := H.2 g27
      refine e_aload_n dJ23_poll_48 rfl ?_
      obtain ⟨x28, ⟨fsx28, g29, g29v⟩, H⟩ := H
      refine e_get dJ23_poll_49 fJ23_2 q1016 g29 g29v ?_
      refine e_dup dJ23_poll_52 (eRfC _) ?_
      refine e_astoreR (r := x28) _ dJ23_poll_53 (by decide) (eRfC _) rfl ?_
      refine e_ifnonnull (r := x28) 69 dJ23_poll_55 (by decide) (fun o30 g31 => ?_) (fun g31 => ?_)
      · subst g31
        replace H := H.2 o30 rfl
        refine e_iconst (0) dJ23_poll_69 (by decide) ?_
        refine e_aloadR (r := r22) dJ23_poll_70 rfl ?_
        refine e_aload_n dJ23_poll_72 rfl ?_
        refine e_iload_n dJ23_poll_73 rfl ?_
        refine e_aload dJ23_poll_74 rfl ?_
        obtain ⟨d42, k43, n44, Q45, g41, g41d, g41k, g41n, H⟩ := H
        refine e_callS (As := [.int (0 : Int32), va_rf r22, .ref x1, .int (x14 - (1 : Int32)), .ref o30]) g41 dJ23_poll_76 wJ23_siftDownUsingComparator q1171 q1172 rfl g41d rfl (Nat.le_of_ble_eq_true rfl) (k1 := k - k43) (n1 := n - n44) (by omega) (by omega) ?_ ?_
        · rintro v h40 (⟨v9, e9, e8, hq⟩ | ⟨ci9, q9, e9, -⟩)
          · cases e9
            subst e8
            replace H := H h40 hq
            refine e_aload_n dJ23_poll_79 rfl ?_
            exact e_areturn (r := some o7) _ dJ23_poll_80 rfl (Or.inl ⟨_, rfl⟩) H
          · cases e9
        · rintro q9 h9 (⟨v9, e9, -⟩ | ⟨ci9, q8, e9, -, -, hx⟩)
          · cases e9
          · exact hx.elim
      · subst g31
        replace H := H.1 rfl
        refine e_iconst (0) dJ23_poll_58 (by decide) ?_
        refine e_aloadR (r := r22) dJ23_poll_59 rfl ?_
        refine e_aload_n dJ23_poll_61 rfl ?_
        refine e_iload_n dJ23_poll_62 rfl ?_
        obtain ⟨d35, k36, n37, Q38, g34, g34d, g34k, g34n, H⟩ := H
        refine e_callS (As := [.int (0 : Int32), va_rf r22, .ref x1, .int (x14 - (1 : Int32))]) g34 dJ23_poll_63 wJ23_siftDownComparable q1168 q1169 rfl g34d rfl (Nat.le_of_ble_eq_true rfl) (k1 := k - k36) (n1 := n - n37) (by omega) (by omega) ?_ ?_
        · rintro v h33 (⟨v9, e9, e8, hq⟩ | ⟨ci9, q9, e9, -⟩)
          · cases e9
            subst e8
            replace H := H h33 hq
            refine e_goto 79 dJ23_poll_66 (by decide) ?_
            refine e_aload_n dJ23_poll_79 rfl ?_
            exact e_areturn (r := some o7) _ dJ23_poll_80 rfl (Or.inl ⟨_, rfl⟩) H
          · cases e9
        · rintro q9 h9 (⟨v9, e9, -⟩ | ⟨ci9, q8, e9, -, -, hx⟩)
          · cases e9
          · exact hx.elim
theorem en_J23_poll {l : Launch} {lo : Nat} {G : eG} {d : Nat} {P : eO → eH → Prop} (a0 : Nat) {h : eH} {k n : Nat} (H : h_J23_poll_0 (l, lo, G, d, P) a0 h k n) : Ct l lo G d mJ23_poll [.ref a0] h k n P := 
  Ct_of (eArL mJ23_poll.2.2.2.1 [.ref a0]) (by decide) rfl (Nat.le_of_ble_eq_true rfl) (fun j w q => eArL_mem j w q) (E.less2 H (eS_s (eS_n (eS_n (eS_n (eS_n (eS_n eS_0)))))))
/-! J23_siftDownComparable java/util/PriorityQueue.siftDownComparable(ILjava/lang/Object;[Ljava/lang/Object;I)V -/
def h_J23_siftDownComparable_0 (c : cC) (a0 : Int32) (a1 : Nat) (a2 : Nat) (a3 : Int32) (h : eH) (k n : Nat) : Prop := E c.1 c.2.1 c.2.2.1 c.2.2.2.1 mJ23_siftDownComparable c.2.2.2.2 0 [some (.int a0), some (.ref a1), some (.ref a2), some (.int a3), none, none, none, none, none] [] h k n
def h_J23_siftDownComparable_11 (c : cC) (a0 : Int32) (a2 : Nat) (a3 : Int32) (a4 : Nat) (a5 : Int32) (h : eH) (k n : Nat) : Prop := E c.1 c.2.1 c.2.2.1 c.2.2.2.1 mJ23_siftDownComparable c.2.2.2.2 11 [some (.int a0), none, some (.ref a2), some (.int a3), some (.ref a4), some (.int a5), none, none, none] [] h k n
def h_J23_siftDownComparable_68 (c : cC) (a0 : Int32) (a2 : Nat) (a3 : Int32) (a4 : Nat) (a5 : Int32) (a6 : Int32) (a7 : Nat) (h : eH) (k n : Nat) : Prop := E c.1 c.2.1 c.2.2.1 c.2.2.2.1 mJ23_siftDownComparable c.2.2.2.2 68 [some (.int a0), none, some (.ref a2), some (.int a3), some (.ref a4), some (.int a5), some (.int a6), some (.ref a7), none] [] h k n
set_option maxHeartbeats 4000000 in
theorem s_J23_siftDownComparable_0 (c : cC) (a0 : Int32) (a1 : Nat) (a2 : Nat) (a3 : Int32) (h : eH) (k n : Nat) (H : eCs c.2.2.1 h a1 "java/lang/Comparable" ∧ (h_J23_siftDownComparable_11 c a0 a2 a3 a1 ((a3.toUInt32 >>> ((1 : Int32).toUInt32 &&& Int32.toUInt32 31)).toInt32) h k n)) : h_J23_siftDownComparable_0 c a0 a1 a2 a3 h k n := by
  refine e_aload_n dJ23_siftDownComparable_0 rfl ?_
  obtain ⟨g1, H⟩ := H
  refine c_castR dJ23_siftDownComparable_1 q1123 g1 ?_
  refine e_astore _ dJ23_siftDownComparable_4 (by decide) rfl rfl ?_
  refine e_iload_n dJ23_siftDownComparable_6 rfl ?_
  refine e_iconst (1) dJ23_siftDownComparable_7 (by decide) ?_
  refine e_iushr dJ23_siftDownComparable_8 ?_
  refine e_istore _ dJ23_siftDownComparable_9 (by decide) rfl rfl ?_
  exact E.less2 H (eS_s (eS_n (eS_s (eS_s (eS_s (eS_s (eS_n (eS_n (eS_n eS_0)))))))))
set_option maxHeartbeats 4000000 in
theorem s_J23_siftDownComparable_11 (c : cC) (a0 : Int32) (a2 : Nat) (a3 : Int32) (a4 : Nat) (a5 : Int32) (h : eH) (k n : Nat) (H : (a5 ≤ a0 → ∃ C9 : String, eIs c.2.2.1 h a4 C9 ∧ Cond.castable C9 "java/lang/Object" ∈ lw_tbl ∧ ∃ (N2 : Nat) (f3 : Nat → Option Nat), h.1 a2 = some (.inl (c.2.2.1.2.1 3, N2, .inr (.inr (.inr (.inr f3))))) ∧ c.2.1 ≤ a2 ∧ vp_in a0 N2 ∧ ∀ h5 : eH, h5 = eUp h a2 (.inl (c.2.2.1.2.1 3, N2, .inr (.inr (.inr (.inr (va_up f3 a0.toNatClampNeg (some a4))))))) → (c.2.2.2.2 (.inl none) h5)) ∧ (¬ a5 ≤ a0 → ∃ (N6 : Nat) (f7 : Nat → Option Nat), h.1 a2 = some (.inl (c.2.2.1.2.1 3, N6, .inr (.inr (.inr (.inr f7))))) ∧ vp_in ((a0 <<< ((1 : Int32) &&& 31)) + (1 : Int32)) N6 ∧ ∃ r9 : Nat, f7 ((a0 <<< ((1 : Int32) &&& 31)) + (1 : Int32)).toNatClampNeg = some r9 ∧ ((a3 ≤ (((a0 <<< ((1 : Int32) &&& 31)) + (1 : Int32)) + (1 : Int32)) → h_J23_siftDownComparable_68 c a0 a2 a3 a4 a5 ((a0 <<< ((1 : Int32) &&& 31)) + (1 : Int32)) r9 h k n) ∧ (¬ a3 ≤ (((a0 <<< ((1 : Int32) &&& 31)) + (1 : Int32)) + (1 : Int32)) → eCs c.2.2.1 h r9 "java/lang/Comparable" ∧ (∃ (N12 : Nat) (f13 : Nat → Option Nat), h.1 a2 = some (.inl (c.2.2.1.2.1 3, N12, .inr (.inr (.inr (.inr f13))))) ∧ vp_in (((a0 <<< ((1 : Int32) &&& 31)) + (1 : Int32)) + (1 : Int32)) N12 ∧ ∃ r15 : Nat, f13 (((a0 <<< ((1 : Int32) &&& 31)) + (1 : Int32)) + (1 : Int32)).toNatClampNeg = some r15 ∧ (∃ fs8 : List Value, h.1 r9 = some (.inr (14, fs8)) ∧ ∃ (d19 k20 n21 : Nat) (Q22 : Int32 → eH → Prop), cI c.1 c.2.1 c.2.2.1 d19 mX14_compareTo [.ref r9, .ref r15] h k20 n21 Q22 cX0 ∧ d19 + 1 ≤ c.2.2.2.1 ∧ k20 ≤ k ∧ n21 ≤ n ∧ (∀ (r16 : Int32) (h17 : eH), Q22 r16 h17 → ((r16 ≤ 0 → h_J23_siftDownComparable_68 c a0 a2 a3 a4 a5 ((a0 <<< ((1 : Int32) &&& 31)) + (1 : Int32)) r9 h17 (k - k20) (n - n21)) ∧ (¬ r16 ≤ 0 → ∃ (N24 : Nat) (f25 : Nat → Option Nat), h17.1 a2 = some (.inl (c.2.2.1.2.1 3, N24, .inr (.inr (.inr (.inr f25))))) ∧ vp_in (((a0 <<< ((1 : Int32) &&& 31)) + (1 : Int32)) + (1 : Int32)) N24 ∧ ∃ r27 : Nat, f25 (((a0 <<< ((1 : Int32) &&& 31)) + (1 : Int32)) + (1 : Int32)).toNatClampNeg = some r27 ∧ (h_J23_siftDownComparable_68 c a0 a2 a3 a4 a5 (((a0 <<< ((1 : Int32) &&& 31)) + (1 : Int32)) + (1 : Int32)) r27 h17 (k - k20) (n - n21))))))))))) : h_J23_siftDownComparable_11 c a0 a2 a3 a4 a5 h k n := by
  refine e_iload_n dJ23_siftDownComparable_11 rfl ?_
  refine e_iload dJ23_siftDownComparable_12 rfl ?_
  refine e_icmp_ge 94 dJ23_siftDownComparable_14 (by decide) (fun g1 => ?_) (fun g1 => ?_)
  · replace H := H.1 g1
    refine e_aload_n dJ23_siftDownComparable_94 rfl ?_
    refine e_iload_n dJ23_siftDownComparable_95 rfl ?_
    refine e_aload dJ23_siftDownComparable_96 rfl ?_
    obtain ⟨Cg4, g4v, g4w, H⟩ := H
    obtain ⟨N2, f3, g4, g4l, g4i, H⟩ := H
    refine e_aastore dJ23_siftDownComparable_98 g4 g4l g4v g4w g4i ?_
    replace H := H _ rfl
    generalize eUp h a2 _ = h5 at H ⊢
    exact e_return dJ23_siftDownComparable_99 rfl H
  · replace H := H.2 g1
    refine e_iload_n dJ23_siftDownComparable_17 rfl ?_
    refine e_iconst (1) dJ23_siftDownComparable_18 (by decide) ?_
    refine e_ishl dJ23_siftDownComparable_19 ?_
    refine e_iconst (1) dJ23_siftDownComparable_20 (by decide) ?_
    refine e_iadd dJ23_siftDownComparable_21 ?_
    refine e_istore _ dJ23_siftDownComparable_22 (by decide) rfl rfl ?_
    refine e_aload_n dJ23_siftDownComparable_24 rfl ?_
    refine e_iload dJ23_siftDownComparable_25 rfl ?_
    obtain ⟨N6, f7, g8, g8i, r9, g8r, H⟩ := H
    refine e_aaload 3 dJ23_siftDownComparable_27 (fun _ => rfl) rfl g8 g8i ?_
    rw [g8r]
    refine e_astore _ dJ23_siftDownComparable_28 (by decide) rfl rfl ?_
    refine e_iload dJ23_siftDownComparable_30 rfl ?_
    refine e_iconst (1) dJ23_siftDownComparable_32 (by decide) ?_
    refine e_iadd dJ23_siftDownComparable_33 ?_
    refine e_istore _ dJ23_siftDownComparable_34 (by decide) rfl rfl ?_
    refine e_iload dJ23_siftDownComparable_36 rfl ?_
    refine e_iload_n dJ23_siftDownComparable_38 rfl ?_
    refine e_icmp_ge 68 dJ23_siftDownComparable_39 (by decide) (fun g10 => ?_) (fun g10 => ?_)
    · replace H := H.1 g10
      exact E.less2 H (eS_s (eS_n (eS_s (eS_s (eS_s (eS_s (eS_s (eS_s (eS_n eS_0)))))))))
    · replace H := H.2 g10
      refine e_aload dJ23_siftDownComparable_42 rfl ?_
      obtain ⟨g11, H⟩ := H
      refine c_castR dJ23_siftDownComparable_44 q1123 g11 ?_
      refine e_aload_n dJ23_siftDownComparable_47 rfl ?_
      refine e_iload dJ23_siftDownComparable_48 rfl ?_
      obtain ⟨N12, f13, g14, g14i, r15, g14r, H⟩ := H
      refine e_aaload 3 dJ23_siftDownComparable_50 (fun _ => rfl) rfl g14 g14i ?_
      rw [g14r]
      obtain ⟨fsg18, g18o, H⟩ := H
      obtain ⟨d19, k20, n21, Q22, g18, g18d, g18k, g18n, H⟩ := H
      refine e_callF (i := 2) (r := (RX14, TX14, 1)) (As := [.ref r15]) g18 dJ23_siftDownComparable_51 wX14_compareTo rfl rfl q1125 q359 q357 g18o rfl rfl g18d rfl (Nat.le_of_ble_eq_true rfl) (k1 := k - k20) (n1 := n - n21) (by omega) (by omega) ?_ ?_
      · rintro v h17 (⟨v9, e9, r16, e8, hq⟩ | ⟨ci9, q9, e9, -⟩)
        · cases e9
          subst e8
          replace H := H r16 h17 hq
          refine e_if_le 68 dJ23_siftDownComparable_56 (by decide) (fun g23 => ?_) (fun g23 => ?_)
          · replace H := H.1 g23
            exact E.less2 H (eS_s (eS_n (eS_s (eS_s (eS_s (eS_s (eS_s (eS_s (eS_n eS_0)))))))))
          · replace H := H.2 g23
            refine e_aload_n dJ23_siftDownComparable_59 rfl ?_
            refine e_iload dJ23_siftDownComparable_60 rfl ?_
            refine e_dup dJ23_siftDownComparable_62 rfl ?_
            refine e_istore _ dJ23_siftDownComparable_63 (by decide) rfl rfl ?_
            obtain ⟨N24, f25, g26, g26i, r27, g26r, H⟩ := H
            refine e_aaload 3 dJ23_siftDownComparable_65 (fun _ => rfl) rfl g26 g26i ?_
            rw [g26r]
            refine e_astore _ dJ23_siftDownComparable_66 (by decide) rfl rfl ?_
            exact E.less2 H (eS_s (eS_n (eS_s (eS_s (eS_s (eS_s (eS_s (eS_s (eS_n eS_0)))))))))
        · cases e9
      · rintro q9 h9 (⟨v9, e9, -⟩ | ⟨ci9, q8, e9, -, -, hx⟩)
        · cases e9
        · exact hx.elim
set_option maxHeartbeats 4000000 in
theorem s_J23_siftDownComparable_68 (c : cC) (a0 : Int32) (a2 : Nat) (a3 : Int32) (a4 : Nat) (a5 : Int32) (a6 : Int32) (a7 : Nat) (h : eH) (k n : Nat) (H : ∃ fs8 : List Value, h.1 a4 = some (.inr (14, fs8)) ∧ ∃ (d4 k5 n6 : Nat) (Q7 : Int32 → eH → Prop), cI c.1 c.2.1 c.2.2.1 d4 mX14_compareTo [.ref a4, .ref a7] h k5 n6 Q7 cX0 ∧ d4 + 1 ≤ c.2.2.2.1 ∧ k5 ≤ k ∧ n6 ≤ n ∧ (∀ (r1 : Int32) (h2 : eH), Q7 r1 h2 → ((0 < r1 → ∃ C9 : String, eIs c.2.2.1 h2 a7 C9 ∧ Cond.castable C9 "java/lang/Object" ∈ lw_tbl ∧ ∃ (N9 : Nat) (f10 : Nat → Option Nat), h2.1 a2 = some (.inl (c.2.2.1.2.1 3, N9, .inr (.inr (.inr (.inr f10))))) ∧ c.2.1 ≤ a2 ∧ vp_in a0 N9 ∧ ∀ h12 : eH, h12 = eUp h2 a2 (.inl (c.2.2.1.2.1 3, N9, .inr (.inr (.inr (.inr (va_up f10 a0.toNatClampNeg (some a7))))))) → (h_J23_siftDownComparable_11 c a6 a2 a3 a4 a5 h12 (k - k5) (n - n6))) ∧ (¬ 0 < r1 → ∃ C9 : String, eIs c.2.2.1 h2 a4 C9 ∧ Cond.castable C9 "java/lang/Object" ∈ lw_tbl ∧ ∃ (N13 : Nat) (f14 : Nat → Option Nat), h2.1 a2 = some (.inl (c.2.2.1.2.1 3, N13, .inr (.inr (.inr (.inr f14))))) ∧ c.2.1 ≤ a2 ∧ vp_in a0 N13 ∧ ∀ h16 : eH, h16 = eUp h2 a2 (.inl (c.2.2.1.2.1 3, N13, .inr (.inr (.inr (.inr (va_up f14 a0.toNatClampNeg (some a4))))))) → (c.2.2.2.2 (.inl none) h16))))) : h_J23_siftDownComparable_68 c a0 a2 a3 a4 a5 a6 a7 h k n := by
  refine e_aload dJ23_siftDownComparable_68 rfl ?_
  refine e_aload dJ23_siftDownComparable_70 rfl ?_
  obtain ⟨fsg3, g3o, H⟩ := H
  obtain ⟨d4, k5, n6, Q7, g3, g3d, g3k, g3n, H⟩ := H
  refine e_callF (i := 2) (r := (RX14, TX14, 1)) (As := [.ref a7]) g3 dJ23_siftDownComparable_72 wX14_compareTo rfl rfl q1125 q359 q357 g3o rfl rfl g3d rfl (Nat.le_of_ble_eq_true rfl) (k1 := k - k5) (n1 := n - n6) (by omega) (by omega) ?_ ?_
  · rintro v h2 (⟨v9, e9, r1, e8, hq⟩ | ⟨ci9, q9, e9, -⟩)
    · cases e9
      subst e8
      replace H := H r1 h2 hq
      refine e_if_gt 83 dJ23_siftDownComparable_77 (by decide) (fun g8 => ?_) (fun g8 => ?_)
      · replace H := H.1 g8
        refine e_aload_n dJ23_siftDownComparable_83 rfl ?_
        refine e_iload_n dJ23_siftDownComparable_84 rfl ?_
        refine e_aload dJ23_siftDownComparable_85 rfl ?_
        obtain ⟨Cg11, g11v, g11w, H⟩ := H
        obtain ⟨N9, f10, g11, g11l, g11i, H⟩ := H
        refine e_aastore dJ23_siftDownComparable_87 g11 g11l g11v g11w g11i ?_
        replace H := H _ rfl
        generalize eUp h2 a2 _ = h12 at H ⊢
        refine e_iload dJ23_siftDownComparable_88 rfl ?_
        refine e_istore_n _ dJ23_siftDownComparable_90 (by decide) trivial rfl ?_
        refine e_goto 11 dJ23_siftDownComparable_91 (by decide) ?_
        exact E.less2 H (eS_s (eS_n (eS_s (eS_s (eS_s (eS_s (eS_n (eS_n (eS_n eS_0)))))))))
      · replace H := H.2 g8
        refine e_goto 94 dJ23_siftDownComparable_80 (by decide) ?_
        refine e_aload_n dJ23_siftDownComparable_94 rfl ?_
        refine e_iload_n dJ23_siftDownComparable_95 rfl ?_
        refine e_aload dJ23_siftDownComparable_96 rfl ?_
        obtain ⟨Cg15, g15v, g15w, H⟩ := H
        obtain ⟨N13, f14, g15, g15l, g15i, H⟩ := H
        refine e_aastore dJ23_siftDownComparable_98 g15 g15l g15v g15w g15i ?_
        replace H := H _ rfl
        generalize eUp h2 a2 _ = h16 at H ⊢
        exact e_return dJ23_siftDownComparable_99 rfl H
    · cases e9
  · rintro q9 h9 (⟨v9, e9, -⟩ | ⟨ci9, q8, e9, -, -, hx⟩)
    · cases e9
    · exact hx.elim
theorem en_J23_siftDownComparable {l : Launch} {lo : Nat} {G : eG} {d : Nat} {P : eO → eH → Prop} (a0 : Int32) (a1 : Nat) (a2 : Nat) (a3 : Int32) {h : eH} {k n : Nat} (H : h_J23_siftDownComparable_0 (l, lo, G, d, P) a0 a1 a2 a3 h k n) : Ct l lo G d mJ23_siftDownComparable [.int a0, .ref a1, .ref a2, .int a3] h k n P := 
  Ct_of (eArL mJ23_siftDownComparable.2.2.2.1 [.int a0, .ref a1, .ref a2, .int a3]) (by decide) rfl (Nat.le_of_ble_eq_true rfl) (fun j w q => eArL_mem j w q) (E.less2 H (eS_s (eS_s (eS_s (eS_s (eS_n (eS_n (eS_n (eS_n (eS_n eS_0))))))))))
/-! J23_siftDownUsingComparator java/util/PriorityQueue.siftDownUsingComparator(ILjava/lang/Object;[Ljava/lang/Object;ILjava/util/Comparator;)V -/
def h_J23_siftDownUsingComparator_0 (c : cC) (a0 : Int32) (a1 : Nat) (a2 : Nat) (a3 : Int32) (a4 : Nat) (h : eH) (k n : Nat) : Prop := E c.1 c.2.1 c.2.2.1 c.2.2.2.1 mJ23_siftDownUsingComparator c.2.2.2.2 0 [some (.int a0), some (.ref a1), some (.ref a2), some (.int a3), some (.ref a4), none, none, none, none] [] h k n
def h_J23_siftDownUsingComparator_5 (c : cC) (a0 : Int32) (a1 : Nat) (a2 : Nat) (a3 : Int32) (a4 : Nat) (a5 : Int32) (h : eH) (k n : Nat) : Prop := E c.1 c.2.1 c.2.2.1 c.2.2.2.1 mJ23_siftDownUsingComparator c.2.2.2.2 5 [some (.int a0), some (.ref a1), some (.ref a2), some (.int a3), some (.ref a4), some (.int a5), none, none, none] [] h k n
def h_J23_siftDownUsingComparator_61 (c : cC) (a0 : Int32) (a1 : Nat) (a2 : Nat) (a3 : Int32) (a4 : Nat) (a5 : Int32) (a6 : Int32) (a7 : Nat) (h : eH) (k n : Nat) : Prop := E c.1 c.2.1 c.2.2.1 c.2.2.2.1 mJ23_siftDownUsingComparator c.2.2.2.2 61 [some (.int a0), some (.ref a1), some (.ref a2), some (.int a3), some (.ref a4), some (.int a5), some (.int a6), some (.ref a7), none] [] h k n
set_option maxHeartbeats 4000000 in
theorem s_J23_siftDownUsingComparator_0 (c : cC) (a0 : Int32) (a1 : Nat) (a2 : Nat) (a3 : Int32) (a4 : Nat) (h : eH) (k n : Nat) (H : h_J23_siftDownUsingComparator_5 c a0 a1 a2 a3 a4 ((a3.toUInt32 >>> ((1 : Int32).toUInt32 &&& Int32.toUInt32 31)).toInt32) h k n) : h_J23_siftDownUsingComparator_0 c a0 a1 a2 a3 a4 h k n := by
  refine e_iload_n dJ23_siftDownUsingComparator_0 rfl ?_
  refine e_iconst (1) dJ23_siftDownUsingComparator_1 (by decide) ?_
  refine e_iushr dJ23_siftDownUsingComparator_2 ?_
  refine e_istore _ dJ23_siftDownUsingComparator_3 (by decide) rfl rfl ?_
  exact E.less2 H (eS_s (eS_s (eS_s (eS_s (eS_s (eS_s (eS_n (eS_n (eS_n eS_0)))))))))
set_option maxHeartbeats 4000000 in
theorem s_J23_siftDownUsingComparator_5 (c : cC) (a0 : Int32) (a1 : Nat) (a2 : Nat) (a3 : Int32) (a4 : Nat) (a5 : Int32) (h : eH) (k n : Nat) (H : (a5 ≤ a0 → ∃ C9 : String, eIs c.2.2.1 h a1 C9 ∧ Cond.castable C9 "java/lang/Object" ∈ lw_tbl ∧ ∃ (N2 : Nat) (f3 : Nat → Option Nat), h.1 a2 = some (.inl (c.2.2.1.2.1 3, N2, .inr (.inr (.inr (.inr f3))))) ∧ c.2.1 ≤ a2 ∧ vp_in a0 N2 ∧ ∀ h5 : eH, h5 = eUp h a2 (.inl (c.2.2.1.2.1 3, N2, .inr (.inr (.inr (.inr (va_up f3 a0.toNatClampNeg (some a1))))))) → (c.2.2.2.2 (.inl none) h5)) ∧ (¬ a5 ≤ a0 → ∃ (N6 : Nat) (f7 : Nat → Option Nat), h.1 a2 = some (.inl (c.2.2.1.2.1 3, N6, .inr (.inr (.inr (.inr f7))))) ∧ vp_in ((a0 <<< ((1 : Int32) &&& 31)) + (1 : Int32)) N6 ∧ ∃ r9 : Nat, f7 ((a0 <<< ((1 : Int32) &&& 31)) + (1 : Int32)).toNatClampNeg = some r9 ∧ ((a3 ≤ (((a0 <<< ((1 : Int32) &&& 31)) + (1 : Int32)) + (1 : Int32)) → h_J23_siftDownUsingComparator_61 c a0 a1 a2 a3 a4 a5 ((a0 <<< ((1 : Int32) &&& 31)) + (1 : Int32)) r9 h k n) ∧ (¬ a3 ≤ (((a0 <<< ((1 : Int32) &&& 31)) + (1 : Int32)) + (1 : Int32)) → ∃ (N11 : Nat) (f12 : Nat → Option Nat), h.1 a2 = some (.inl (c.2.2.1.2.1 3, N11, .inr (.inr (.inr (.inr f12))))) ∧ vp_in (((a0 <<< ((1 : Int32) &&& 31)) + (1 : Int32)) + (1 : Int32)) N11 ∧ ∃ r14 : Nat, f12 (((a0 <<< ((1 : Int32) &&& 31)) + (1 : Int32)) + (1 : Int32)).toNatClampNeg = some r14 ∧ (∃ fs8 : List Value, h.1 a4 = some (.inr (4, fs8)) ∧ ∃ (d18 k19 n20 : Nat) (Q21 : Int32 → eH → Prop), cI c.1 c.2.1 c.2.2.1 d18 mX4_compare [.ref a4, .ref r9, .ref r14] h k19 n20 Q21 cX0 ∧ d18 + 1 ≤ c.2.2.2.1 ∧ k19 ≤ k ∧ n20 ≤ n ∧ (∀ (r15 : Int32) (h16 : eH), Q21 r15 h16 → ((r15 ≤ 0 → h_J23_siftDownUsingComparator_61 c a0 a1 a2 a3 a4 a5 ((a0 <<< ((1 : Int32) &&& 31)) + (1 : Int32)) r9 h16 (k - k19) (n - n20)) ∧ (¬ r15 ≤ 0 → ∃ (N23 : Nat) (f24 : Nat → Option Nat), h16.1 a2 = some (.inl (c.2.2.1.2.1 3, N23, .inr (.inr (.inr (.inr f24))))) ∧ vp_in (((a0 <<< ((1 : Int32) &&& 31)) + (1 : Int32)) + (1 : Int32)) N23 ∧ ∃ r26 : Nat, f24 (((a0 <<< ((1 : Int32) &&& 31)) + (1 : Int32)) + (1 : Int32)).toNatClampNeg = some r26 ∧ (h_J23_siftDownUsingComparator_61 c a0 a1 a2 a3 a4 a5 (((a0 <<< ((1 : Int32) &&& 31)) + (1 : Int32)) + (1 : Int32)) r26 h16 (k - k19) (n - n20)))))))))) : h_J23_siftDownUsingComparator_5 c a0 a1 a2 a3 a4 a5 h k n := by
  refine e_iload_n dJ23_siftDownUsingComparator_5 rfl ?_
  refine e_iload dJ23_siftDownUsingComparator_6 rfl ?_
  refine e_icmp_ge 88 dJ23_siftDownUsingComparator_8 (by decide) (fun g1 => ?_) (fun g1 => ?_)
  · replace H := H.1 g1
    refine e_aload_n dJ23_siftDownUsingComparator_88 rfl ?_
    refine e_iload_n dJ23_siftDownUsingComparator_89 rfl ?_
    refine e_aload_n dJ23_siftDownUsingComparator_90 rfl ?_
    obtain ⟨Cg4, g4v, g4w, H⟩ := H
    obtain ⟨N2, f3, g4, g4l, g4i, H⟩ := H
    refine e_aastore dJ23_siftDownUsingComparator_91 g4 g4l g4v g4w g4i ?_
    replace H := H _ rfl
    generalize eUp h a2 _ = h5 at H ⊢
    exact e_return dJ23_siftDownUsingComparator_92 rfl H
  · replace H := H.2 g1
    refine e_iload_n dJ23_siftDownUsingComparator_11 rfl ?_
    refine e_iconst (1) dJ23_siftDownUsingComparator_12 (by decide) ?_
    refine e_ishl dJ23_siftDownUsingComparator_13 ?_
    refine e_iconst (1) dJ23_siftDownUsingComparator_14 (by decide) ?_
    refine e_iadd dJ23_siftDownUsingComparator_15 ?_
    refine e_istore _ dJ23_siftDownUsingComparator_16 (by decide) rfl rfl ?_
    refine e_aload_n dJ23_siftDownUsingComparator_18 rfl ?_
    refine e_iload dJ23_siftDownUsingComparator_19 rfl ?_
    obtain ⟨N6, f7, g8, g8i, r9, g8r, H⟩ := H
    refine e_aaload 3 dJ23_siftDownUsingComparator_21 (fun _ => rfl) rfl g8 g8i ?_
    rw [g8r]
    refine e_astore _ dJ23_siftDownUsingComparator_22 (by decide) rfl rfl ?_
    refine e_iload dJ23_siftDownUsingComparator_24 rfl ?_
    refine e_iconst (1) dJ23_siftDownUsingComparator_26 (by decide) ?_
    refine e_iadd dJ23_siftDownUsingComparator_27 ?_
    refine e_istore _ dJ23_siftDownUsingComparator_28 (by decide) rfl rfl ?_
    refine e_iload dJ23_siftDownUsingComparator_30 rfl ?_
    refine e_iload_n dJ23_siftDownUsingComparator_32 rfl ?_
    refine e_icmp_ge 61 dJ23_siftDownUsingComparator_33 (by decide) (fun g10 => ?_) (fun g10 => ?_)
    · replace H := H.1 g10
      exact E.less2 H (eS_s (eS_s (eS_s (eS_s (eS_s (eS_s (eS_s (eS_s (eS_n eS_0)))))))))
    · replace H := H.2 g10
      refine e_aload dJ23_siftDownUsingComparator_36 rfl ?_
      refine e_aload dJ23_siftDownUsingComparator_38 rfl ?_
      refine e_aload_n dJ23_siftDownUsingComparator_40 rfl ?_
      refine e_iload dJ23_siftDownUsingComparator_41 rfl ?_
      obtain ⟨N11, f12, g13, g13i, r14, g13r, H⟩ := H
      refine e_aaload 3 dJ23_siftDownUsingComparator_43 (fun _ => rfl) rfl g13 g13i ?_
      rw [g13r]
      obtain ⟨fsg17, g17o, H⟩ := H
      obtain ⟨d18, k19, n20, Q21, g17, g17d, g17k, g17n, H⟩ := H
      refine e_callF (i := 0) (r := ("TroupeSums$BySize", TX4, 0)) (As := [.ref r9, .ref r14]) g17 dJ23_siftDownUsingComparator_44 wX4_compare rfl rfl q1119 q599 q597 g17o rfl rfl g17d rfl (Nat.le_of_ble_eq_true rfl) (k1 := k - k19) (n1 := n - n20) (by omega) (by omega) ?_ ?_
      · rintro v h16 (⟨v9, e9, r15, e8, hq⟩ | ⟨ci9, q9, e9, -⟩)
        · cases e9
          subst e8
          replace H := H r15 h16 hq
          refine e_if_le 61 dJ23_siftDownUsingComparator_49 (by decide) (fun g22 => ?_) (fun g22 => ?_)
          · replace H := H.1 g22
            exact E.less2 H (eS_s (eS_s (eS_s (eS_s (eS_s (eS_s (eS_s (eS_s (eS_n eS_0)))))))))
          · replace H := H.2 g22
            refine e_aload_n dJ23_siftDownUsingComparator_52 rfl ?_
            refine e_iload dJ23_siftDownUsingComparator_53 rfl ?_
            refine e_dup dJ23_siftDownUsingComparator_55 rfl ?_
            refine e_istore _ dJ23_siftDownUsingComparator_56 (by decide) rfl rfl ?_
            obtain ⟨N23, f24, g25, g25i, r26, g25r, H⟩ := H
            refine e_aaload 3 dJ23_siftDownUsingComparator_58 (fun _ => rfl) rfl g25 g25i ?_
            rw [g25r]
            refine e_astore _ dJ23_siftDownUsingComparator_59 (by decide) rfl rfl ?_
            exact E.less2 H (eS_s (eS_s (eS_s (eS_s (eS_s (eS_s (eS_s (eS_s (eS_n eS_0)))))))))
        · cases e9
      · rintro q9 h9 (⟨v9, e9, -⟩ | ⟨ci9, q8, e9, -, -, hx⟩)
        · cases e9
        · exact hx.elim
set_option maxHeartbeats 4000000 in
theorem s_J23_siftDownUsingComparator_61 (c : cC) (a0 : Int32) (a1 : Nat) (a2 : Nat) (a3 : Int32) (a4 : Nat) (a5 : Int32) (a6 : Int32) (a7 : Nat) (h : eH) (k n : Nat) (H : ∃ fs8 : List Value, h.1 a4 = some (.inr (4, fs8)) ∧ ∃ (d4 k5 n6 : Nat) (Q7 : Int32 → eH → Prop), cI c.1 c.2.1 c.2.2.1 d4 mX4_compare [.ref a4, .ref a1, .ref a7] h k5 n6 Q7 cX0 ∧ d4 + 1 ≤ c.2.2.2.1 ∧ k5 ≤ k ∧ n6 ≤ n ∧ (∀ (r1 : Int32) (h2 : eH), Q7 r1 h2 → ((0 < r1 → ∃ C9 : String, eIs c.2.2.1 h2 a7 C9 ∧ Cond.castable C9 "java/lang/Object" ∈ lw_tbl ∧ ∃ (N9 : Nat) (f10 : Nat → Option Nat), h2.1 a2 = some (.inl (c.2.2.1.2.1 3, N9, .inr (.inr (.inr (.inr f10))))) ∧ c.2.1 ≤ a2 ∧ vp_in a0 N9 ∧ ∀ h12 : eH, h12 = eUp h2 a2 (.inl (c.2.2.1.2.1 3, N9, .inr (.inr (.inr (.inr (va_up f10 a0.toNatClampNeg (some a7))))))) → (h_J23_siftDownUsingComparator_5 c a6 a1 a2 a3 a4 a5 h12 (k - k5) (n - n6))) ∧ (¬ 0 < r1 → ∃ C9 : String, eIs c.2.2.1 h2 a1 C9 ∧ Cond.castable C9 "java/lang/Object" ∈ lw_tbl ∧ ∃ (N13 : Nat) (f14 : Nat → Option Nat), h2.1 a2 = some (.inl (c.2.2.1.2.1 3, N13, .inr (.inr (.inr (.inr f14))))) ∧ c.2.1 ≤ a2 ∧ vp_in a0 N13 ∧ ∀ h16 : eH, h16 = eUp h2 a2 (.inl (c.2.2.1.2.1 3, N13, .inr (.inr (.inr (.inr (va_up f14 a0.toNatClampNeg (some a1))))))) → (c.2.2.2.2 (.inl none) h16))))) : h_J23_siftDownUsingComparator_61 c a0 a1 a2 a3 a4 a5 a6 a7 h k n := by
  refine e_aload dJ23_siftDownUsingComparator_61 rfl ?_
  refine e_aload_n dJ23_siftDownUsingComparator_63 rfl ?_
  refine e_aload dJ23_siftDownUsingComparator_64 rfl ?_
  obtain ⟨fsg3, g3o, H⟩ := H
  obtain ⟨d4, k5, n6, Q7, g3, g3d, g3k, g3n, H⟩ := H
  refine e_callF (i := 0) (r := ("TroupeSums$BySize", TX4, 0)) (As := [.ref a1, .ref a7]) g3 dJ23_siftDownUsingComparator_66 wX4_compare rfl rfl q1119 q599 q597 g3o rfl rfl g3d rfl (Nat.le_of_ble_eq_true rfl) (k1 := k - k5) (n1 := n - n6) (by omega) (by omega) ?_ ?_
  · rintro v h2 (⟨v9, e9, r1, e8, hq⟩ | ⟨ci9, q9, e9, -⟩)
    · cases e9
      subst e8
      replace H := H r1 h2 hq
      refine e_if_gt 77 dJ23_siftDownUsingComparator_71 (by decide) (fun g8 => ?_) (fun g8 => ?_)
      · replace H := H.1 g8
        refine e_aload_n dJ23_siftDownUsingComparator_77 rfl ?_
        refine e_iload_n dJ23_siftDownUsingComparator_78 rfl ?_
        refine e_aload dJ23_siftDownUsingComparator_79 rfl ?_
        obtain ⟨Cg11, g11v, g11w, H⟩ := H
        obtain ⟨N9, f10, g11, g11l, g11i, H⟩ := H
        refine e_aastore dJ23_siftDownUsingComparator_81 g11 g11l g11v g11w g11i ?_
        replace H := H _ rfl
        generalize eUp h2 a2 _ = h12 at H ⊢
        refine e_iload dJ23_siftDownUsingComparator_82 rfl ?_
        refine e_istore_n _ dJ23_siftDownUsingComparator_84 (by decide) trivial rfl ?_
        refine e_goto 5 dJ23_siftDownUsingComparator_85 (by decide) ?_
        exact E.less2 H (eS_s (eS_s (eS_s (eS_s (eS_s (eS_s (eS_n (eS_n (eS_n eS_0)))))))))
      · replace H := H.2 g8
        refine e_goto 88 dJ23_siftDownUsingComparator_74 (by decide) ?_
        refine e_aload_n dJ23_siftDownUsingComparator_88 rfl ?_
        refine e_iload_n dJ23_siftDownUsingComparator_89 rfl ?_
        refine e_aload_n dJ23_siftDownUsingComparator_90 rfl ?_
        obtain ⟨Cg15, g15v, g15w, H⟩ := H
        obtain ⟨N13, f14, g15, g15l, g15i, H⟩ := H
        refine e_aastore dJ23_siftDownUsingComparator_91 g15 g15l g15v g15w g15i ?_
        replace H := H _ rfl
        generalize eUp h2 a2 _ = h16 at H ⊢
        exact e_return dJ23_siftDownUsingComparator_92 rfl H
    · cases e9
  · rintro q9 h9 (⟨v9, e9, -⟩ | ⟨ci9, q8, e9, -, -, hx⟩)
    · cases e9
    · exact hx.elim
theorem en_J23_siftDownUsingComparator {l : Launch} {lo : Nat} {G : eG} {d : Nat} {P : eO → eH → Prop} (a0 : Int32) (a1 : Nat) (a2 : Nat) (a3 : Int32) (a4 : Nat) {h : eH} {k n : Nat} (H : h_J23_siftDownUsingComparator_0 (l, lo, G, d, P) a0 a1 a2 a3 a4 h k n) : Ct l lo G d mJ23_siftDownUsingComparator [.int a0, .ref a1, .ref a2, .int a3, .ref a4] h k n P := 
  Ct_of (eArL mJ23_siftDownUsingComparator.2.2.2.1 [.int a0, .ref a1, .ref a2, .int a3, .ref a4]) (by decide) rfl (Nat.le_of_ble_eq_true rfl) (fun j w q => eArL_mem j w q) (E.less2 H (eS_s (eS_s (eS_s (eS_s (eS_s (eS_n (eS_n (eS_n (eS_n eS_0))))))))))
/-! J25_init java/util/ArrayDeque.<init>()V -/
def h_J25_init_0 (c : cC) (a0 : Nat) (h : eH) (k n : Nat) : Prop := E c.1 c.2.1 c.2.2.1 c.2.2.2.1 mJ25_init c.2.2.2.2 0 [some (.ref a0)] [] h k n
set_option maxHeartbeats 4000000 in
theorem s_J25_init_0 (c : cC) (a0 : Nat) (h : eH) (k n : Nat) (H : ∃ (d4 k5 n6 : Nat) (Q7 : eH → Prop), cV c.1 c.2.1 c.2.2.1 d4 mJ0_init [.ref a0] h k5 n6 Q7 cX0 ∧ d4 + 1 ≤ c.2.2.2.1 ∧ k5 ≤ k ∧ n6 ≤ n ∧ (∀ h2 : eH, Q7 h2 → (∃ N10 : Nat, (17 : Int32) = nI N10 ∧ N10 ≤ 10000000 ∧ 1 ≤ k - k5 ∧ N10 ≤ n - n6 ∧ ∀ h8 : eH, h8 = eNw h2 (.inl (c.2.2.1.2.1 3, N10, .inr (.inr (.inr (.inr (fun _ => none)))))) → (∃ fs11 : List Value, h8.1 a0 = some (.inr (24, fs11)) ∧ c.2.1 ≤ a0 ∧ 0 < fs11.length ∧ ∀ h13 : eH, h13 = eUp h8 a0 (.inr (24, fs11.set 0 (.ref h2.2))) → (c.2.2.2.2 (.inl none) h13))))) : h_J25_init_0 c a0 h k n := by
  refine e_aload_n dJ25_init_0 rfl ?_
  obtain ⟨d4, k5, n6, Q7, g3, g3d, g3k, g3n, H⟩ := H
  refine e_callI (As := []) g3 dJ25_init_1 wJ0_init rfl rfl rfl q1222 q212 rfl g3d rfl (Nat.le_of_ble_eq_true rfl) (k1 := k - k5) (n1 := n - n6) (by omega) (by omega) ?_ ?_
  · rintro v h2 (⟨v9, e9, e8, hq⟩ | ⟨ci9, q9, e9, -⟩)
    · cases e9
      subst e8
      replace H := H h2 hq
      refine e_aload_n dJ25_init_4 rfl ?_
      refine e_bipush (17) dJ25_init_5 (by decide) ?_
      obtain ⟨N10, g9i, g9b, g9, g9n, H⟩ := H
      refine c_anewarray dJ25_init_7 q1223 q862 g9i g9b g9 g9n ?_
      replace H := H _ rfl
      generalize eNw h2 _ = h8 at H ⊢
      obtain ⟨fs11, g12, g12l, g12j, H⟩ := H
      refine e_put dJ25_init_10 fJ25_0 q1224 (eFit_ar _ _) g12 g12l g12j ?_
      replace H := H _ rfl
      generalize eUp h8 a0 _ = h13 at H ⊢
      exact e_return dJ25_init_13 rfl H
    · cases e9
  · rintro q9 h9 (⟨v9, e9, -⟩ | ⟨ci9, q8, e9, -, -, hx⟩)
    · cases e9
    · exact hx.elim
theorem en_J25_init {l : Launch} {lo : Nat} {G : eG} {d : Nat} {P : eO → eH → Prop} (a0 : Nat) {h : eH} {k n : Nat} (H : h_J25_init_0 (l, lo, G, d, P) a0 h k n) : Ct l lo G d mJ25_init [.ref a0] h k n P := 
  Ct_of (eArL mJ25_init.2.2.2.1 [.ref a0]) (by decide) rfl (Nat.le_of_ble_eq_true rfl) (fun j w q => eArL_mem j w q) (E.less2 H (eS_s eS_0))
/-! J25_size java/util/ArrayDeque.size()I -/
def h_J25_size_0 (c : cC) (a0 : Nat) (h : eH) (k n : Nat) : Prop := E c.1 c.2.1 c.2.2.1 c.2.2.2.1 mJ25_size c.2.2.2.2 0 [some (.ref a0)] [] h k n
set_option maxHeartbeats 4000000 in
theorem s_J25_size_0 (c : cC) (a0 : Nat) (h : eH) (k n : Nat) (H : ∃ x1 : Int32, fV h a0 24 2 (.int x1) ∧ (∃ x3 : Int32, fV h a0 24 1 (.int x3) ∧ (∃ x5 : Nat, fV h a0 24 0 (.ref x5) ∧ (∃ v7 : vp_A, h.1 x5 = some (.inl (c.2.2.1.2.1 3, v7)) ∧ (∃ (d12 k13 n14 : Nat) (Q15 : Int32 → eH → Prop), cI c.1 c.2.1 c.2.2.1 d12 mJ25_sub [.int x1, .int x3, .int (nI v7.1)] h k13 n14 Q15 cX0 ∧ d12 + 1 ≤ c.2.2.2.1 ∧ k13 ≤ k ∧ n14 ≤ n ∧ (∀ (r9 : Int32) (h10 : eH), Q15 r9 h10 → (c.2.2.2.2 (.inl (some (.int r9))) h10))))))) : h_J25_size_0 c a0 h k n := by
  refine e_aload_n dJ25_size_0 rfl ?_
  obtain ⟨x1, ⟨fsx1, g2, g2v⟩, H⟩ := H
  refine e_get dJ25_size_1 fJ25_2 q1226 g2 g2v ?_
  refine e_aload_n dJ25_size_4 rfl ?_
  obtain ⟨x3, ⟨fsx3, g4, g4v⟩, H⟩ := H
  refine e_get dJ25_size_5 fJ25_1 q1225 g4 g4v ?_
  refine e_aload_n dJ25_size_8 rfl ?_
  obtain ⟨x5, ⟨fsx5, g6, g6v⟩, H⟩ := H
  refine e_get dJ25_size_9 fJ25_0 q1224 g6 g6v ?_
  obtain ⟨v7, g8, H⟩ := H
  refine e_alen (t := 3) dJ25_size_12 (fun _ => rfl) g8 ?_
  obtain ⟨d12, k13, n14, Q15, g11, g11d, g11k, g11n, H⟩ := H
  refine e_callS (As := [.int x1, .int x3, .int (nI v7.1)]) g11 dJ25_size_13 wJ25_sub q1138 q1139 rfl g11d rfl (Nat.le_of_ble_eq_true rfl) (k1 := k - k13) (n1 := n - n14) (by omega) (by omega) ?_ ?_
  · rintro v h10 (⟨v9, e9, r9, e8, hq⟩ | ⟨ci9, q9, e9, -⟩)
    · cases e9
      subst e8
      replace H := H r9 h10 hq
      exact e_ireturn .int dJ25_size_16 rfl rfl H
    · cases e9
  · rintro q9 h9 (⟨v9, e9, -⟩ | ⟨ci9, q8, e9, -, -, hx⟩)
    · cases e9
    · exact hx.elim
theorem en_J25_size {l : Launch} {lo : Nat} {G : eG} {d : Nat} {P : eO → eH → Prop} (a0 : Nat) {h : eH} {k n : Nat} (H : h_J25_size_0 (l, lo, G, d, P) a0 h k n) : Ct l lo G d mJ25_size [.ref a0] h k n P := 
  Ct_of (eArL mJ25_size.2.2.2.1 [.ref a0]) (by decide) rfl (Nat.le_of_ble_eq_true rfl) (fun j w q => eArL_mem j w q) (E.less2 H (eS_s eS_0))
/-! J25_sub java/util/ArrayDeque.sub(III)I -/
def h_J25_sub_0 (c : cC) (a0 : Int32) (a1 : Int32) (a2 : Int32) (h : eH) (k n : Nat) : Prop := E c.1 c.2.1 c.2.2.1 c.2.2.2.1 mJ25_sub c.2.2.2.2 0 [some (.int a0), some (.int a1), some (.int a2)] [] h k n
set_option maxHeartbeats 4000000 in
theorem s_J25_sub_0 (c : cC) (a0 : Int32) (a1 : Int32) (a2 : Int32) (h : eH) (k n : Nat) (H : (0 ≤ (a0 - a1) → c.2.2.2.2 (.inl (some (.int (a0 - a1)))) h) ∧ (¬ 0 ≤ (a0 - a1) → c.2.2.2.2 (.inl (some (.int ((a0 - a1) + a2)))) h)) : h_J25_sub_0 c a0 a1 a2 h k n := by
  refine e_iload_n dJ25_sub_0 rfl ?_
  refine e_iload_n dJ25_sub_1 rfl ?_
  refine e_isub dJ25_sub_2 ?_
  refine e_dup dJ25_sub_3 rfl ?_
  refine e_istore_n _ dJ25_sub_4 (by decide) trivial rfl ?_
  refine e_if_ge 12 dJ25_sub_5 (by decide) (fun g1 => ?_) (fun g1 => ?_)
  · replace H := H.1 g1
    refine e_iload_n dJ25_sub_12 rfl ?_
    exact e_ireturn .int dJ25_sub_13 rfl rfl H
  · replace H := H.2 g1
    refine e_iload_n dJ25_sub_8 rfl ?_
    refine e_iload_n dJ25_sub_9 rfl ?_
    refine e_iadd dJ25_sub_10 ?_
    refine e_istore_n _ dJ25_sub_11 (by decide) trivial rfl ?_
    refine e_iload_n dJ25_sub_12 rfl ?_
    exact e_ireturn .int dJ25_sub_13 rfl rfl H
theorem en_J25_sub {l : Launch} {lo : Nat} {G : eG} {d : Nat} {P : eO → eH → Prop} (a0 : Int32) (a1 : Int32) (a2 : Int32) {h : eH} {k n : Nat} (H : h_J25_sub_0 (l, lo, G, d, P) a0 a1 a2 h k n) : Ct l lo G d mJ25_sub [.int a0, .int a1, .int a2] h k n P := 
  Ct_of (eArL mJ25_sub.2.2.2.1 [.int a0, .int a1, .int a2]) (by decide) rfl (Nat.le_of_ble_eq_true rfl) (fun j w q => eArL_mem j w q) (E.less2 H (eS_s (eS_s (eS_s eS_0))))
/-! J25_clear java/util/ArrayDeque.clear()V -/
def h_J25_clear_0 (c : cC) (a0 : Nat) (h : eH) (k n : Nat) : Prop := E c.1 c.2.1 c.2.2.1 c.2.2.2.1 mJ25_clear c.2.2.2.2 0 [some (.ref a0)] [] h k n
set_option maxHeartbeats 4000000 in
theorem s_J25_clear_0 (c : cC) (a0 : Nat) (h : eH) (k n : Nat) (H : ∃ x1 : Nat, fV h a0 24 0 (.ref x1) ∧ (∃ x3 : Int32, fV h a0 24 1 (.int x3) ∧ (∃ x5 : Int32, fV h a0 24 2 (.int x5) ∧ (∃ (d10 k11 n12 : Nat) (Q13 : eH → Prop), cV c.1 c.2.1 c.2.2.1 d10 mJ25_circularClear [.ref x1, .int x3, .int x5] h k11 n12 Q13 cX0 ∧ d10 + 1 ≤ c.2.2.2.1 ∧ k11 ≤ k ∧ n12 ≤ n ∧ (∀ h8 : eH, Q13 h8 → (∃ fs14 : List Value, h8.1 a0 = some (.inr (24, fs14)) ∧ c.2.1 ≤ a0 ∧ 2 < fs14.length ∧ ∀ h16 : eH, h16 = eUp h8 a0 (.inr (24, fs14.set 2 (.int (0 : Int32)))) → (∃ fs17 : List Value, h16.1 a0 = some (.inr (24, fs17)) ∧ c.2.1 ≤ a0 ∧ 1 < fs17.length ∧ ∀ h19 : eH, h19 = eUp h16 a0 (.inr (24, fs17.set 1 (.int (0 : Int32)))) → (c.2.2.2.2 (.inl none) h19)))))))) : h_J25_clear_0 c a0 h k n := by
  refine e_aload_n dJ25_clear_0 rfl ?_
  obtain ⟨x1, ⟨fsx1, g2, g2v⟩, H⟩ := H
  refine e_get dJ25_clear_1 fJ25_0 q1224 g2 g2v ?_
  refine e_aload_n dJ25_clear_4 rfl ?_
  obtain ⟨x3, ⟨fsx3, g4, g4v⟩, H⟩ := H
  refine e_get dJ25_clear_5 fJ25_1 q1225 g4 g4v ?_
  refine e_aload_n dJ25_clear_8 rfl ?_
  obtain ⟨x5, ⟨fsx5, g6, g6v⟩, H⟩ := H
  refine e_get dJ25_clear_9 fJ25_2 q1226 g6 g6v ?_
  obtain ⟨d10, k11, n12, Q13, g9, g9d, g9k, g9n, H⟩ := H
  refine e_callS (As := [.ref x1, .int x3, .int x5]) g9 dJ25_clear_12 wJ25_circularClear q1923 q1924 rfl g9d rfl (Nat.le_of_ble_eq_true rfl) (k1 := k - k11) (n1 := n - n12) (by omega) (by omega) ?_ ?_
  · rintro v h8 (⟨v9, e9, e8, hq⟩ | ⟨ci9, q9, e9, -⟩)
    · cases e9
      subst e8
      replace H := H h8 hq
      refine e_aload_n dJ25_clear_15 rfl ?_
      refine e_aload_n dJ25_clear_16 rfl ?_
      refine e_iconst (0) dJ25_clear_17 (by decide) ?_
      refine e_dup_x1 dJ25_clear_18 rfl rfl ?_
      obtain ⟨fs14, g15, g15l, g15j, H⟩ := H
      refine e_put dJ25_clear_19 fJ25_2 q1226 (eFit_i _) g15 g15l g15j ?_
      replace H := H _ rfl
      generalize eUp h8 a0 _ = h16 at H ⊢
      obtain ⟨fs17, g18, g18l, g18j, H⟩ := H
      refine e_put dJ25_clear_22 fJ25_1 q1225 (eFit_i _) g18 g18l g18j ?_
      replace H := H _ rfl
      generalize eUp h16 a0 _ = h19 at H ⊢
      exact e_return dJ25_clear_25 rfl H
    · cases e9
  · rintro q9 h9 (⟨v9, e9, -⟩ | ⟨ci9, q8, e9, -, -, hx⟩)
    · cases e9
    · exact hx.elim
theorem en_J25_clear {l : Launch} {lo : Nat} {G : eG} {d : Nat} {P : eO → eH → Prop} (a0 : Nat) {h : eH} {k n : Nat} (H : h_J25_clear_0 (l, lo, G, d, P) a0 h k n) : Ct l lo G d mJ25_clear [.ref a0] h k n P := 
  Ct_of (eArL mJ25_clear.2.2.2.1 [.ref a0]) (by decide) rfl (Nat.le_of_ble_eq_true rfl) (fun j w q => eArL_mem j w q) (E.less2 H (eS_s eS_0))
/-! J25_circularClear java/util/ArrayDeque.circularClear([Ljava/lang/Object;II)V -/
def h_J25_circularClear_0 (c : cC) (a0 : Nat) (a1 : Int32) (a2 : Int32) (h : eH) (k n : Nat) : Prop := E c.1 c.2.1 c.2.2.1 c.2.2.2.1 mJ25_circularClear c.2.2.2.2 0 [some (.ref a0), some (.int a1), some (.int a2), none] [] h k n
def h_J25_circularClear_12 (c : cC) (a0 : Nat) (a1 : Int32) (a2 : Int32) (a3 : Int32) (h : eH) (k n : Nat) : Prop := E c.1 c.2.1 c.2.2.1 c.2.2.2.1 mJ25_circularClear c.2.2.2.2 12 [some (.ref a0), some (.int a1), some (.int a2), some (.int a3)] [] h k n
set_option maxHeartbeats 4000000 in
theorem s_J25_circularClear_0 (c : cC) (a0 : Nat) (a1 : Int32) (a2 : Int32) (h : eH) (k n : Nat) (H : (a2 < a1 → ∃ v2 : vp_A, h.1 a0 = some (.inl (c.2.2.1.2.1 3, v2)) ∧ (h_J25_circularClear_12 c a0 a1 a2 (nI v2.1) h k n)) ∧ (¬ a2 < a1 → h_J25_circularClear_12 c a0 a1 a2 a2 h k n)) : h_J25_circularClear_0 c a0 a1 a2 h k n := by
  refine e_iload_n dJ25_circularClear_0 rfl ?_
  refine e_iload_n dJ25_circularClear_1 rfl ?_
  refine e_icmp_gt 9 dJ25_circularClear_2 (by decide) (fun g1 => ?_) (fun g1 => ?_)
  · replace H := H.1 g1
    refine e_aload_n dJ25_circularClear_9 rfl ?_
    obtain ⟨v2, g3, H⟩ := H
    refine e_alen (t := 3) dJ25_circularClear_10 (fun _ => rfl) g3 ?_
    refine e_istore_n _ dJ25_circularClear_11 (by decide) rfl rfl ?_
    exact E.less2 H (eS_s (eS_s (eS_s (eS_s eS_0))))
  · replace H := H.2 g1
    refine e_iload_n dJ25_circularClear_5 rfl ?_
    refine e_goto 11 dJ25_circularClear_6 (by decide) ?_
    refine e_istore_n _ dJ25_circularClear_11 (by decide) rfl rfl ?_
    exact E.less2 H (eS_s (eS_s (eS_s (eS_s eS_0))))
set_option maxHeartbeats 4000000 in
theorem s_J25_circularClear_12 (c : cC) (a0 : Nat) (a1 : Int32) (a2 : Int32) (a3 : Int32) (h : eH) (k n : Nat) (H : (a3 ≤ a1 → (¬ a3 = a2 → h_J25_circularClear_12 c a0 (0 : Int32) a2 a2 h k n) ∧ (a3 = a2 → c.2.2.2.2 (.inl none) h)) ∧ (¬ a3 ≤ a1 → ∃ (N3 : Nat) (f4 : Nat → Option Nat), h.1 a0 = some (.inl (c.2.2.1.2.1 3, N3, .inr (.inr (.inr (.inr f4))))) ∧ c.2.1 ≤ a0 ∧ vp_in a1 N3 ∧ ∀ h6 : eH, h6 = eUp h a0 (.inl (c.2.2.1.2.1 3, N3, .inr (.inr (.inr (.inr (va_up f4 a1.toNatClampNeg none)))))) → (h_J25_circularClear_12 c a0 (a1 + 1) a2 a3 h6 k n))) : h_J25_circularClear_12 c a0 a1 a2 a3 h k n := by
  refine e_iload_n dJ25_circularClear_12 rfl ?_
  refine e_iload_n dJ25_circularClear_13 rfl ?_
  refine e_icmp_ge 27 dJ25_circularClear_14 (by decide) (fun g1 => ?_) (fun g1 => ?_)
  · replace H := H.1 g1
    refine e_iload_n dJ25_circularClear_27 rfl ?_
    refine e_iload_n dJ25_circularClear_28 rfl ?_
    refine e_icmp_ne 35 dJ25_circularClear_29 (by decide) (fun g2 => ?_) (fun g2 => ?_)
    · replace H := H.1 g2
      refine e_iconst (0) dJ25_circularClear_35 (by decide) ?_
      refine e_istore_n _ dJ25_circularClear_36 (by decide) rfl rfl ?_
      refine e_iload_n dJ25_circularClear_37 rfl ?_
      refine e_istore_n _ dJ25_circularClear_38 (by decide) rfl rfl ?_
      refine e_goto 12 dJ25_circularClear_39 (by decide) ?_
      exact E.less2 H (eS_s (eS_s (eS_s (eS_s eS_0))))
    · replace H := H.2 g2
      refine e_goto 42 dJ25_circularClear_32 (by decide) ?_
      exact e_return dJ25_circularClear_42 rfl H
  · replace H := H.2 g1
    refine e_aload_n dJ25_circularClear_17 rfl ?_
    refine e_iload_n dJ25_circularClear_18 rfl ?_
    refine e_null dJ25_circularClear_19 ?_
    obtain ⟨N3, f4, g5, g5l, g5i, H⟩ := H
    refine e_aastoreN dJ25_circularClear_20 g5 g5l g5i ?_
    replace H := H _ rfl
    generalize eUp h a0 _ = h6 at H ⊢
    refine e_iinc (a1 + 1) _ dJ25_circularClear_21 rfl rfl (by decide) rfl rfl ?_
    refine e_goto 12 dJ25_circularClear_24 (by decide) ?_
    exact E.less2 H (eS_s (eS_s (eS_s (eS_s eS_0))))
theorem en_J25_circularClear {l : Launch} {lo : Nat} {G : eG} {d : Nat} {P : eO → eH → Prop} (a0 : Nat) (a1 : Int32) (a2 : Int32) {h : eH} {k n : Nat} (H : h_J25_circularClear_0 (l, lo, G, d, P) a0 a1 a2 h k n) : Ct l lo G d mJ25_circularClear [.ref a0, .int a1, .int a2] h k n P := 
  Ct_of (eArL mJ25_circularClear.2.2.2.1 [.ref a0, .int a1, .int a2]) (by decide) rfl (Nat.le_of_ble_eq_true rfl) (fun j w q => eArL_mem j w q) (E.less2 H (eS_s (eS_s (eS_s (eS_n eS_0)))))
/-! J25_addLast java/util/ArrayDeque.addLast(Ljava/lang/Object;)V -/
def h_J25_addLast_0 (c : cC) (a0 : Nat) (a1 : Nat) (h : eH) (k n : Nat) : Prop := E c.1 c.2.1 c.2.2.1 c.2.2.2.1 mJ25_addLast c.2.2.2.2 0 [some (.ref a0), some (.ref a1), none] [] h k n
set_option maxHeartbeats 4000000 in
theorem s_J25_addLast_0 (c : cC) (a0 : Nat) (a1 : Nat) (h : eH) (k n : Nat) (H : ∃ x1 : Nat, fV h a0 24 0 (.ref x1) ∧ (∃ x3 : Int32, fV h a0 24 2 (.int x3) ∧ (∃ C9 : String, eIs c.2.2.1 h a1 C9 ∧ Cond.castable C9 "java/lang/Object" ∈ lw_tbl ∧ ∃ (N5 : Nat) (f6 : Nat → Option Nat), h.1 x1 = some (.inl (c.2.2.1.2.1 3, N5, .inr (.inr (.inr (.inr f6))))) ∧ c.2.1 ≤ x1 ∧ vp_in x3 N5 ∧ ∀ h8 : eH, h8 = eUp h x1 (.inl (c.2.2.1.2.1 3, N5, .inr (.inr (.inr (.inr (va_up f6 x3.toNatClampNeg (some a1))))))) → (∃ x9 : Int32, fV h8 a0 24 1 (.int x9) ∧ (∃ x11 : Int32, fV h8 a0 24 2 (.int x11) ∧ (∃ v13 : vp_A, h8.1 x1 = some (.inl (c.2.2.1.2.1 3, v13)) ∧ (∃ (d18 k19 n20 : Nat) (Q21 : Int32 → eH → Prop), cI c.1 c.2.1 c.2.2.1 d18 mJ25_inc [.int x11, .int (nI v13.1)] h8 k19 n20 Q21 cX0 ∧ d18 + 1 ≤ c.2.2.2.1 ∧ k19 ≤ k ∧ n20 ≤ n ∧ (∀ (r15 : Int32) (h16 : eH), Q21 r15 h16 → (∃ fs22 : List Value, h16.1 a0 = some (.inr (24, fs22)) ∧ c.2.1 ≤ a0 ∧ 2 < fs22.length ∧ ∀ h24 : eH, h24 = eUp h16 a0 (.inr (24, fs22.set 2 (.int r15))) → ((¬ x9 = r15 → c.2.2.2.2 (.inl none) h24) ∧ (x9 = r15 → ∃ fs8 : List Value, h24.1 a0 = some (.inr (24, fs8)) ∧ ∃ (d29 k30 n31 : Nat) (Q32 : eH → Prop), cV c.1 c.2.1 c.2.2.1 d29 mJ25_grow [.ref a0, .int (1 : Int32)] h24 k30 n31 Q32 cX0 ∧ d29 + 1 ≤ c.2.2.2.1 ∧ k30 ≤ k - k19 ∧ n31 ≤ n - n20 ∧ (∀ h27 : eH, Q32 h27 → (c.2.2.2.2 (.inl none) h27))))))))))))) : h_J25_addLast_0 c a0 a1 h k n := by
  refine e_aload_n dJ25_addLast_0 rfl ?_
  refine e_ifnonnull (r := some a1) 12 dJ25_addLast_1 (by decide) (fun o9 g => ?_) (fun g => by cases g)
  refine e_aload_n dJ25_addLast_12 rfl ?_
  obtain ⟨x1, ⟨fsx1, g2, g2v⟩, H⟩ := H
  refine e_get dJ25_addLast_13 fJ25_0 q1224 g2 g2v ?_
  refine e_astore_n _ dJ25_addLast_16 (by decide) rfl rfl ?_
  refine e_aload_n dJ25_addLast_17 rfl ?_
  refine e_aload_n dJ25_addLast_18 rfl ?_
  obtain ⟨x3, ⟨fsx3, g4, g4v⟩, H⟩ := H
  refine e_get dJ25_addLast_19 fJ25_2 q1226 g4 g4v ?_
  refine e_aload_n dJ25_addLast_22 rfl ?_
  obtain ⟨Cg7, g7v, g7w, H⟩ := H
  obtain ⟨N5, f6, g7, g7l, g7i, H⟩ := H
  refine e_aastore dJ25_addLast_23 g7 g7l g7v g7w g7i ?_
  replace H := H _ rfl
  generalize eUp h x1 _ = h8 at H ⊢
  refine e_aload_n dJ25_addLast_24 rfl ?_
  obtain ⟨x9, ⟨fsx9, g10, g10v⟩, H⟩ := H
  refine e_get dJ25_addLast_25 fJ25_1 q1225 g10 g10v ?_
  refine e_aload_n dJ25_addLast_28 rfl ?_
  refine e_aload_n dJ25_addLast_29 rfl ?_
  obtain ⟨x11, ⟨fsx11, g12, g12v⟩, H⟩ := H
  refine e_get dJ25_addLast_30 fJ25_2 q1226 g12 g12v ?_
  refine e_aload_n dJ25_addLast_33 rfl ?_
  obtain ⟨v13, g14, H⟩ := H
  refine e_alen (t := 3) dJ25_addLast_34 (fun _ => rfl) g14 ?_
  obtain ⟨d18, k19, n20, Q21, g17, g17d, g17k, g17n, H⟩ := H
  refine e_callS (As := [.int x11, .int (nI v13.1)]) g17 dJ25_addLast_35 wJ25_inc q2325 q2326 rfl g17d rfl (Nat.le_of_ble_eq_true rfl) (k1 := k - k19) (n1 := n - n20) (by omega) (by omega) ?_ ?_
  · rintro v h16 (⟨v9, e9, r15, e8, hq⟩ | ⟨ci9, q9, e9, -⟩)
    · cases e9
      subst e8
      replace H := H r15 h16 hq
      refine e_dup_x1 dJ25_addLast_38 rfl rfl ?_
      obtain ⟨fs22, g23, g23l, g23j, H⟩ := H
      refine e_put dJ25_addLast_39 fJ25_2 q1226 (eFit_i _) g23 g23l g23j ?_
      replace H := H _ rfl
      generalize eUp h16 a0 _ = h24 at H ⊢
      refine e_icmp_ne 50 dJ25_addLast_42 (by decide) (fun g25 => ?_) (fun g25 => ?_)
      · replace H := H.1 g25
        exact e_return dJ25_addLast_50 rfl H
      · replace H := H.2 g25
        refine e_aload_n dJ25_addLast_45 rfl ?_
        refine e_iconst (1) dJ25_addLast_46 (by decide) ?_
        obtain ⟨fsg28, g28o, H⟩ := H
        obtain ⟨d29, k30, n31, Q32, g28, g28d, g28k, g28n, H⟩ := H
        refine e_callV (r := (RJ25, TJ25, 3)) (As := [.int (1 : Int32)]) g28 dJ25_addLast_47 wJ25_grow q2328 q2330 qs52 g28o rfl rfl g28d rfl (Nat.le_of_ble_eq_true rfl) (k1 := k - k19 - k30) (n1 := n - n20 - n31) (by omega) (by omega) ?_ ?_
        · rintro v h27 (⟨v9, e9, e8, hq⟩ | ⟨ci9, q9, e9, -⟩)
          · cases e9
            subst e8
            replace H := H h27 hq
            exact e_return dJ25_addLast_50 rfl H
          · cases e9
        · rintro q9 h9 (⟨v9, e9, -⟩ | ⟨ci9, q8, e9, -, -, hx⟩)
          · cases e9
          · exact hx.elim
    · cases e9
  · rintro q9 h9 (⟨v9, e9, -⟩ | ⟨ci9, q8, e9, -, -, hx⟩)
    · cases e9
    · exact hx.elim
theorem en_J25_addLast {l : Launch} {lo : Nat} {G : eG} {d : Nat} {P : eO → eH → Prop} (a0 : Nat) (a1 : Nat) {h : eH} {k n : Nat} (H : h_J25_addLast_0 (l, lo, G, d, P) a0 a1 h k n) : Ct l lo G d mJ25_addLast [.ref a0, .ref a1] h k n P := 
  Ct_of (eArL mJ25_addLast.2.2.2.1 [.ref a0, .ref a1]) (by decide) rfl (Nat.le_of_ble_eq_true rfl) (fun j w q => eArL_mem j w q) (E.less2 H (eS_s (eS_s (eS_n eS_0))))
/-! J25_inc java/util/ArrayDeque.inc(II)I -/
def h_J25_inc_0 (c : cC) (a0 : Int32) (a1 : Int32) (h : eH) (k n : Nat) : Prop := E c.1 c.2.1 c.2.2.1 c.2.2.2.1 mJ25_inc c.2.2.2.2 0 [some (.int a0), some (.int a1)] [] h k n
set_option maxHeartbeats 4000000 in
theorem s_J25_inc_0 (c : cC) (a0 : Int32) (a1 : Int32) (h : eH) (k n : Nat) (H : ((a0 + 1) < a1 → c.2.2.2.2 (.inl (some (.int (a0 + 1)))) h) ∧ (¬ (a0 + 1) < a1 → c.2.2.2.2 (.inl (some (.int (0 : Int32)))) h)) : h_J25_inc_0 c a0 a1 h k n := by
  refine e_iinc (a0 + 1) _ dJ25_inc_0 rfl rfl (by decide) trivial rfl ?_
  refine e_iload_n dJ25_inc_3 rfl ?_
  refine e_iload_n dJ25_inc_4 rfl ?_
  refine e_icmp_lt 10 dJ25_inc_5 (by decide) (fun g1 => ?_) (fun g1 => ?_)
  · replace H := H.1 g1
    refine e_iload_n dJ25_inc_10 rfl ?_
    exact e_ireturn .int dJ25_inc_11 rfl rfl H
  · replace H := H.2 g1
    refine e_iconst (0) dJ25_inc_8 (by decide) ?_
    refine e_istore_n _ dJ25_inc_9 (by decide) trivial rfl ?_
    refine e_iload_n dJ25_inc_10 rfl ?_
    exact e_ireturn .int dJ25_inc_11 rfl rfl H
theorem en_J25_inc {l : Launch} {lo : Nat} {G : eG} {d : Nat} {P : eO → eH → Prop} (a0 : Int32) (a1 : Int32) {h : eH} {k n : Nat} (H : h_J25_inc_0 (l, lo, G, d, P) a0 a1 h k n) : Ct l lo G d mJ25_inc [.int a0, .int a1] h k n P := 
  Ct_of (eArL mJ25_inc.2.2.2.1 [.int a0, .int a1]) (by decide) rfl (Nat.le_of_ble_eq_true rfl) (fun j w q => eArL_mem j w q) (E.less2 H (eS_s (eS_s eS_0)))
/-! J25_removeFirst java/util/ArrayDeque.removeFirst()Ljava/lang/Object; -/
def h_J25_removeFirst_0 (c : cC) (a0 : Nat) (h : eH) (k n : Nat) : Prop := E c.1 c.2.1 c.2.2.1 c.2.2.2.1 mJ25_removeFirst c.2.2.2.2 0 [some (.ref a0), none] [] h k n
set_option maxHeartbeats 4000000 in
theorem s_J25_removeFirst_0 (c : cC) (a0 : Nat) (h : eH) (k n : Nat) (H : ∃ fs8 : List Value, h.1 a0 = some (.inr (24, fs8)) ∧ ∃ (d4 k5 n6 : Nat) (Q7 : Option Nat → eH → Prop), cQ c.1 c.2.1 c.2.2.1 d4 mJ25_pollFirst [.ref a0] h k5 n6 Q7 cX0 ∧ d4 + 1 ≤ c.2.2.2.1 ∧ k5 ≤ k ∧ n6 ≤ n ∧ (∀ (r1 : Option Nat) (h2 : eH), Q7 r1 h2 → ((r1 = none → False) ∧ (∀ o8 : Nat, r1 = some o8 → c.2.2.2.2 (.inl (some (.ref o8))) h2)))) : h_J25_removeFirst_0 c a0 h k n := by
  refine e_aload_n dJ25_removeFirst_0 rfl ?_
  obtain ⟨fsg3, g3o, H⟩ := H
  obtain ⟨d4, k5, n6, Q7, g3, g3d, g3k, g3n, H⟩ := H
  refine e_callV (r := (RJ25, TJ25, 3)) (As := []) g3 dJ25_removeFirst_1 wJ25_pollFirst q2344 q2345 q2346 g3o rfl rfl g3d rfl (Nat.le_of_ble_eq_true rfl) (k1 := k - k5) (n1 := n - n6) (by omega) (by omega) ?_ ?_
  · rintro v h2 (⟨v9, e9, r1, e8, hq⟩ | ⟨ci9, q9, e9, -⟩)
    · cases e9
      subst e8
      replace H := H r1 h2 hq
      refine e_astoreR_n (r := r1) _ dJ25_removeFirst_4 (by decide) rfl rfl ?_
      refine e_aloadR_n (r := r1) dJ25_removeFirst_5 rfl ?_
      refine e_ifnonnull (r := r1) 17 dJ25_removeFirst_6 (by decide) (fun o8 g9 => ?_) (fun g9 => ?_)
      · subst g9
        replace H := H.2 o8 rfl
        refine e_aload_n dJ25_removeFirst_17 rfl ?_
        exact e_areturn (r := some o8) _ dJ25_removeFirst_18 rfl (Or.inl ⟨_, rfl⟩) H
      · subst g9
        replace H := H.1 rfl
        exact H.elim
    · cases e9
  · rintro q9 h9 (⟨v9, e9, -⟩ | ⟨ci9, q8, e9, -, -, hx⟩)
    · cases e9
    · exact hx.elim
theorem en_J25_removeFirst {l : Launch} {lo : Nat} {G : eG} {d : Nat} {P : eO → eH → Prop} (a0 : Nat) {h : eH} {k n : Nat} (H : h_J25_removeFirst_0 (l, lo, G, d, P) a0 h k n) : Ct l lo G d mJ25_removeFirst [.ref a0] h k n P := 
  Ct_of (eArL mJ25_removeFirst.2.2.2.1 [.ref a0]) (by decide) rfl (Nat.le_of_ble_eq_true rfl) (fun j w q => eArL_mem j w q) (E.less2 H (eS_s (eS_n eS_0)))
/-! J25_pollFirst java/util/ArrayDeque.pollFirst()Ljava/lang/Object; -/
def h_J25_pollFirst_0 (c : cC) (a0 : Nat) (h : eH) (k n : Nat) : Prop := E c.1 c.2.1 c.2.2.1 c.2.2.2.1 mJ25_pollFirst c.2.2.2.2 0 [some (.ref a0), none, none, none] [] h k n
set_option maxHeartbeats 4000000 in
theorem s_J25_pollFirst_0 (c : cC) (a0 : Nat) (h : eH) (k n : Nat) (H : ∃ x1 : Nat, fV h a0 24 0 (.ref x1) ∧ (∃ x3 : Int32, fV h a0 24 1 (.int x3) ∧ (∃ (d8 k9 n10 : Nat) (Q11 : Option Nat → eH → Prop), cQ c.1 c.2.1 c.2.2.1 d8 mJ25_elementAt [.ref x1, .int x3] h k9 n10 Q11 cX0 ∧ d8 + 1 ≤ c.2.2.2.1 ∧ k9 ≤ k ∧ n10 ≤ n ∧ (∀ (r5 : Option Nat) (h6 : eH), Q11 r5 h6 → ((r5 = none → c.2.2.2.2 (.inl (some (.null))) h6) ∧ (∀ o12 : Nat, r5 = some o12 → ∃ (N14 : Nat) (f15 : Nat → Option Nat), h6.1 x1 = some (.inl (c.2.2.1.2.1 3, N14, .inr (.inr (.inr (.inr f15))))) ∧ c.2.1 ≤ x1 ∧ vp_in x3 N14 ∧ ∀ h17 : eH, h17 = eUp h6 x1 (.inl (c.2.2.1.2.1 3, N14, .inr (.inr (.inr (.inr (va_up f15 x3.toNatClampNeg none)))))) → (∃ v18 : vp_A, h17.1 x1 = some (.inl (c.2.2.1.2.1 3, v18)) ∧ (∃ (d23 k24 n25 : Nat) (Q26 : Int32 → eH → Prop), cI c.1 c.2.1 c.2.2.1 d23 mJ25_inc [.int x3, .int (nI v18.1)] h17 k24 n25 Q26 cX0 ∧ d23 + 1 ≤ c.2.2.2.1 ∧ k24 ≤ k - k9 ∧ n25 ≤ n - n10 ∧ (∀ (r20 : Int32) (h21 : eH), Q26 r20 h21 → (∃ fs27 : List Value, h21.1 a0 = some (.inr (24, fs27)) ∧ c.2.1 ≤ a0 ∧ 1 < fs27.length ∧ ∀ h29 : eH, h29 = eUp h21 a0 (.inr (24, fs27.set 1 (.int r20))) → (c.2.2.2.2 (.inl (some (.ref o12))) h29))))))))))) : h_J25_pollFirst_0 c a0 h k n := by
  refine e_aload_n dJ25_pollFirst_0 rfl ?_
  obtain ⟨x1, ⟨fsx1, g2, g2v⟩, H⟩ := H
  refine e_get dJ25_pollFirst_1 fJ25_0 q1224 g2 g2v ?_
  refine e_dup dJ25_pollFirst_4 rfl ?_
  refine e_astore_n _ dJ25_pollFirst_5 (by decide) rfl rfl ?_
  refine e_aload_n dJ25_pollFirst_6 rfl ?_
  obtain ⟨x3, ⟨fsx3, g4, g4v⟩, H⟩ := H
  refine e_get dJ25_pollFirst_7 fJ25_1 q1225 g4 g4v ?_
  refine e_dup dJ25_pollFirst_10 rfl ?_
  refine e_istore_n _ dJ25_pollFirst_11 (by decide) rfl rfl ?_
  obtain ⟨d8, k9, n10, Q11, g7, g7d, g7k, g7n, H⟩ := H
  refine e_callS (As := [.ref x1, .int x3]) g7 dJ25_pollFirst_12 wJ25_elementAt q2348 q2349 rfl g7d rfl (Nat.le_of_ble_eq_true rfl) (k1 := k - k9) (n1 := n - n10) (by omega) (by omega) ?_ ?_
  · rintro v h6 (⟨v9, e9, r5, e8, hq⟩ | ⟨ci9, q9, e9, -⟩)
    · cases e9
      subst e8
      replace H := H r5 h6 hq
      refine e_astoreR_n (r := r5) _ dJ25_pollFirst_15 (by decide) rfl rfl ?_
      refine e_aloadR_n (r := r5) dJ25_pollFirst_16 rfl ?_
      refine e_ifnull (r := r5) 34 dJ25_pollFirst_17 (by decide) (fun g13 => ?_) (fun o12 g13 => ?_)
      · subst g13
        replace H := H.1 rfl
        refine e_aloadR_n (r := none) dJ25_pollFirst_34 rfl ?_
        exact e_areturn (r := none) _ dJ25_pollFirst_35 rfl (Or.inl ⟨_, rfl⟩) H
      · subst g13
        replace H := H.2 o12 rfl
        refine e_aload_n dJ25_pollFirst_20 rfl ?_
        refine e_iload_n dJ25_pollFirst_21 rfl ?_
        refine e_null dJ25_pollFirst_22 ?_
        obtain ⟨N14, f15, g16, g16l, g16i, H⟩ := H
        refine e_aastoreN dJ25_pollFirst_23 g16 g16l g16i ?_
        replace H := H _ rfl
        generalize eUp h6 x1 _ = h17 at H ⊢
        refine e_aload_n dJ25_pollFirst_24 rfl ?_
        refine e_iload_n dJ25_pollFirst_25 rfl ?_
        refine e_aload_n dJ25_pollFirst_26 rfl ?_
        obtain ⟨v18, g19, H⟩ := H
        refine e_alen (t := 3) dJ25_pollFirst_27 (fun _ => rfl) g19 ?_
        obtain ⟨d23, k24, n25, Q26, g22, g22d, g22k, g22n, H⟩ := H
        refine e_callS (As := [.int x3, .int (nI v18.1)]) g22 dJ25_pollFirst_28 wJ25_inc q2325 q2326 rfl g22d rfl (Nat.le_of_ble_eq_true rfl) (k1 := k - k9 - k24) (n1 := n - n10 - n25) (by omega) (by omega) ?_ ?_
        · rintro v h21 (⟨v9, e9, r20, e8, hq⟩ | ⟨ci9, q9, e9, -⟩)
          · cases e9
            subst e8
            replace H := H r20 h21 hq
            obtain ⟨fs27, g28, g28l, g28j, H⟩ := H
            refine e_put dJ25_pollFirst_31 fJ25_1 q1225 (eFit_i _) g28 g28l g28j ?_
            replace H := H _ rfl
            generalize eUp h21 a0 _ = h29 at H ⊢
            refine e_aload_n dJ25_pollFirst_34 rfl ?_
            exact e_areturn (r := some o12) _ dJ25_pollFirst_35 rfl (Or.inl ⟨_, rfl⟩) H
          · cases e9
        · rintro q9 h9 (⟨v9, e9, -⟩ | ⟨ci9, q8, e9, -, -, hx⟩)
          · cases e9
          · exact hx.elim
    · cases e9
  · rintro q9 h9 (⟨v9, e9, -⟩ | ⟨ci9, q8, e9, -, -, hx⟩)
    · cases e9
    · exact hx.elim
theorem en_J25_pollFirst {l : Launch} {lo : Nat} {G : eG} {d : Nat} {P : eO → eH → Prop} (a0 : Nat) {h : eH} {k n : Nat} (H : h_J25_pollFirst_0 (l, lo, G, d, P) a0 h k n) : Ct l lo G d mJ25_pollFirst [.ref a0] h k n P := 
  Ct_of (eArL mJ25_pollFirst.2.2.2.1 [.ref a0]) (by decide) rfl (Nat.le_of_ble_eq_true rfl) (fun j w q => eArL_mem j w q) (E.less2 H (eS_s (eS_n (eS_n (eS_n eS_0)))))
/-! J25_elementAt java/util/ArrayDeque.elementAt([Ljava/lang/Object;I)Ljava/lang/Object; -/
def h_J25_elementAt_0 (c : cC) (a0 : Nat) (a1 : Int32) (h : eH) (k n : Nat) : Prop := E c.1 c.2.1 c.2.2.1 c.2.2.2.1 mJ25_elementAt c.2.2.2.2 0 [some (.ref a0), some (.int a1)] [] h k n
set_option maxHeartbeats 4000000 in
theorem s_J25_elementAt_0 (c : cC) (a0 : Nat) (a1 : Int32) (h : eH) (k n : Nat) (H : ∃ (N1 : Nat) (f2 : Nat → Option Nat), h.1 a0 = some (.inl (c.2.2.1.2.1 3, N1, .inr (.inr (.inr (.inr f2))))) ∧ vp_in a1 N1 ∧ ∃ r4 : Option Nat, f2 a1.toNatClampNeg = r4 ∧ (c.2.2.2.2 (.inl (some (va_rf r4))) h)) : h_J25_elementAt_0 c a0 a1 h k n := by
  refine e_aload_n dJ25_elementAt_0 rfl ?_
  refine e_iload_n dJ25_elementAt_1 rfl ?_
  obtain ⟨N1, f2, g3, g3i, r4, g3r, H⟩ := H
  refine e_aaload 3 dJ25_elementAt_2 (fun _ => rfl) rfl g3 g3i ?_
  rw [g3r]
  exact e_areturn (r := r4) _ dJ25_elementAt_3 rfl (Or.inl ⟨_, rfl⟩) H
theorem en_J25_elementAt {l : Launch} {lo : Nat} {G : eG} {d : Nat} {P : eO → eH → Prop} (a0 : Nat) (a1 : Int32) {h : eH} {k n : Nat} (H : h_J25_elementAt_0 (l, lo, G, d, P) a0 a1 h k n) : Ct l lo G d mJ25_elementAt [.ref a0, .int a1] h k n P := 
  Ct_of (eArL mJ25_elementAt.2.2.2.1 [.ref a0, .int a1]) (by decide) rfl (Nat.le_of_ble_eq_true rfl) (fun j w q => eArL_mem j w q) (E.less2 H (eS_s (eS_s eS_0)))
/-! J25_isEmpty java/util/ArrayDeque.isEmpty()Z -/
def h_J25_isEmpty_0 (c : cC) (a0 : Nat) (h : eH) (k n : Nat) : Prop := E c.1 c.2.1 c.2.2.1 c.2.2.2.1 mJ25_isEmpty c.2.2.2.2 0 [some (.ref a0)] [] h k n
set_option maxHeartbeats 4000000 in
theorem s_J25_isEmpty_0 (c : cC) (a0 : Nat) (h : eH) (k n : Nat) (H : ∃ x1 : Int32, fV h a0 24 1 (.int x1) ∧ (∃ x3 : Int32, fV h a0 24 2 (.int x3) ∧ ((¬ x1 = x3 → c.2.2.2.2 (.inl (some (.int (0 : Int32)))) h) ∧ (x1 = x3 → c.2.2.2.2 (.inl (some (.int (1 : Int32)))) h)))) : h_J25_isEmpty_0 c a0 h k n := by
  refine e_aload_n dJ25_isEmpty_0 rfl ?_
  obtain ⟨x1, ⟨fsx1, g2, g2v⟩, H⟩ := H
  refine e_get dJ25_isEmpty_1 fJ25_1 q1225 g2 g2v ?_
  refine e_aload_n dJ25_isEmpty_4 rfl ?_
  obtain ⟨x3, ⟨fsx3, g4, g4v⟩, H⟩ := H
  refine e_get dJ25_isEmpty_5 fJ25_2 q1226 g4 g4v ?_
  refine e_icmp_ne 15 dJ25_isEmpty_8 (by decide) (fun g5 => ?_) (fun g5 => ?_)
  · replace H := H.1 g5
    refine e_iconst (0) dJ25_isEmpty_15 (by decide) ?_
    exact e_ireturn .boolean dJ25_isEmpty_16 rfl (by decide) H
  · replace H := H.2 g5
    refine e_iconst (1) dJ25_isEmpty_11 (by decide) ?_
    refine e_goto 16 dJ25_isEmpty_12 (by decide) ?_
    exact e_ireturn .boolean dJ25_isEmpty_16 rfl (by decide) H
theorem en_J25_isEmpty {l : Launch} {lo : Nat} {G : eG} {d : Nat} {P : eO → eH → Prop} (a0 : Nat) {h : eH} {k n : Nat} (H : h_J25_isEmpty_0 (l, lo, G, d, P) a0 h k n) : Ct l lo G d mJ25_isEmpty [.ref a0] h k n P := 
  Ct_of (eArL mJ25_isEmpty.2.2.2.1 [.ref a0]) (by decide) rfl (Nat.le_of_ble_eq_true rfl) (fun j w q => eArL_mem j w q) (E.less2 H (eS_s eS_0))
/-! J25_removeLast java/util/ArrayDeque.removeLast()Ljava/lang/Object; -/
def h_J25_removeLast_0 (c : cC) (a0 : Nat) (h : eH) (k n : Nat) : Prop := E c.1 c.2.1 c.2.2.1 c.2.2.2.1 mJ25_removeLast c.2.2.2.2 0 [some (.ref a0), none] [] h k n
set_option maxHeartbeats 4000000 in
theorem s_J25_removeLast_0 (c : cC) (a0 : Nat) (h : eH) (k n : Nat) (H : ∃ fs8 : List Value, h.1 a0 = some (.inr (24, fs8)) ∧ ∃ (d4 k5 n6 : Nat) (Q7 : Option Nat → eH → Prop), cQ c.1 c.2.1 c.2.2.1 d4 mJ25_pollLast [.ref a0] h k5 n6 Q7 cX0 ∧ d4 + 1 ≤ c.2.2.2.1 ∧ k5 ≤ k ∧ n6 ≤ n ∧ (∀ (r1 : Option Nat) (h2 : eH), Q7 r1 h2 → ((r1 = none → False) ∧ (∀ o8 : Nat, r1 = some o8 → c.2.2.2.2 (.inl (some (.ref o8))) h2)))) : h_J25_removeLast_0 c a0 h k n := by
  refine e_aload_n dJ25_removeLast_0 rfl ?_
  obtain ⟨fsg3, g3o, H⟩ := H
  obtain ⟨d4, k5, n6, Q7, g3, g3d, g3k, g3n, H⟩ := H
  refine e_callV (r := (RJ25, TJ25, 3)) (As := []) g3 dJ25_removeLast_1 wJ25_pollLast q2413 q2414 q2415 g3o rfl rfl g3d rfl (Nat.le_of_ble_eq_true rfl) (k1 := k - k5) (n1 := n - n6) (by omega) (by omega) ?_ ?_
  · rintro v h2 (⟨v9, e9, r1, e8, hq⟩ | ⟨ci9, q9, e9, -⟩)
    · cases e9
      subst e8
      replace H := H r1 h2 hq
      refine e_astoreR_n (r := r1) _ dJ25_removeLast_4 (by decide) rfl rfl ?_
      refine e_aloadR_n (r := r1) dJ25_removeLast_5 rfl ?_
      refine e_ifnonnull (r := r1) 17 dJ25_removeLast_6 (by decide) (fun o8 g9 => ?_) (fun g9 => ?_)
      · subst g9
        replace H := H.2 o8 rfl
        refine e_aload_n dJ25_removeLast_17 rfl ?_
        exact e_areturn (r := some o8) _ dJ25_removeLast_18 rfl (Or.inl ⟨_, rfl⟩) H
      · subst g9
        replace H := H.1 rfl
        exact H.elim
    · cases e9
  · rintro q9 h9 (⟨v9, e9, -⟩ | ⟨ci9, q8, e9, -, -, hx⟩)
    · cases e9
    · exact hx.elim
theorem en_J25_removeLast {l : Launch} {lo : Nat} {G : eG} {d : Nat} {P : eO → eH → Prop} (a0 : Nat) {h : eH} {k n : Nat} (H : h_J25_removeLast_0 (l, lo, G, d, P) a0 h k n) : Ct l lo G d mJ25_removeLast [.ref a0] h k n P := 
  Ct_of (eArL mJ25_removeLast.2.2.2.1 [.ref a0]) (by decide) rfl (Nat.le_of_ble_eq_true rfl) (fun j w q => eArL_mem j w q) (E.less2 H (eS_s (eS_n eS_0)))
/-! J25_pollLast java/util/ArrayDeque.pollLast()Ljava/lang/Object; -/
def h_J25_pollLast_0 (c : cC) (a0 : Nat) (h : eH) (k n : Nat) : Prop := E c.1 c.2.1 c.2.2.1 c.2.2.2.1 mJ25_pollLast c.2.2.2.2 0 [some (.ref a0), none, none, none] [] h k n
set_option maxHeartbeats 4000000 in
theorem s_J25_pollLast_0 (c : cC) (a0 : Nat) (h : eH) (k n : Nat) (H : ∃ x1 : Nat, fV h a0 24 0 (.ref x1) ∧ (∃ x3 : Int32, fV h a0 24 2 (.int x3) ∧ (∃ v5 : vp_A, h.1 x1 = some (.inl (c.2.2.1.2.1 3, v5)) ∧ (∃ (d10 k11 n12 : Nat) (Q13 : Int32 → eH → Prop), cI c.1 c.2.1 c.2.2.1 d10 mJ25_dec [.int x3, .int (nI v5.1)] h k11 n12 Q13 cX0 ∧ d10 + 1 ≤ c.2.2.2.1 ∧ k11 ≤ k ∧ n12 ≤ n ∧ (∀ (r7 : Int32) (h8 : eH), Q13 r7 h8 → (∃ (d17 k18 n19 : Nat) (Q20 : Option Nat → eH → Prop), cQ c.1 c.2.1 c.2.2.1 d17 mJ25_elementAt [.ref x1, .int r7] h8 k18 n19 Q20 cX0 ∧ d17 + 1 ≤ c.2.2.2.1 ∧ k18 ≤ k - k11 ∧ n19 ≤ n - n12 ∧ (∀ (r14 : Option Nat) (h15 : eH), Q20 r14 h15 → ((r14 = none → c.2.2.2.2 (.inl (some (.null))) h15) ∧ (∀ o21 : Nat, r14 = some o21 → ∃ fs23 : List Value, h15.1 a0 = some (.inr (24, fs23)) ∧ c.2.1 ≤ a0 ∧ 2 < fs23.length ∧ ∀ h25 : eH, h25 = eUp h15 a0 (.inr (24, fs23.set 2 (.int r7))) → (∃ (N26 : Nat) (f27 : Nat → Option Nat), h25.1 x1 = some (.inl (c.2.2.1.2.1 3, N26, .inr (.inr (.inr (.inr f27))))) ∧ c.2.1 ≤ x1 ∧ vp_in r7 N26 ∧ ∀ h29 : eH, h29 = eUp h25 x1 (.inl (c.2.2.1.2.1 3, N26, .inr (.inr (.inr (.inr (va_up f27 r7.toNatClampNeg none)))))) → (c.2.2.2.2 (.inl (some (.ref o21))) h29))))))))))) : h_J25_pollLast_0 c a0 h k n := by
  refine e_aload_n dJ25_pollLast_0 rfl ?_
  obtain ⟨x1, ⟨fsx1, g2, g2v⟩, H⟩ := H
  refine e_get dJ25_pollLast_1 fJ25_0 q1224 g2 g2v ?_
  refine e_dup dJ25_pollLast_4 rfl ?_
  refine e_astore_n _ dJ25_pollLast_5 (by decide) rfl rfl ?_
  refine e_aload_n dJ25_pollLast_6 rfl ?_
  obtain ⟨x3, ⟨fsx3, g4, g4v⟩, H⟩ := H
  refine e_get dJ25_pollLast_7 fJ25_2 q1226 g4 g4v ?_
  refine e_aload_n dJ25_pollLast_10 rfl ?_
  obtain ⟨v5, g6, H⟩ := H
  refine e_alen (t := 3) dJ25_pollLast_11 (fun _ => rfl) g6 ?_
  obtain ⟨d10, k11, n12, Q13, g9, g9d, g9k, g9n, H⟩ := H
  refine e_callS (As := [.int x3, .int (nI v5.1)]) g9 dJ25_pollLast_12 wJ25_dec q2417 q2418 rfl g9d rfl (Nat.le_of_ble_eq_true rfl) (k1 := k - k11) (n1 := n - n12) (by omega) (by omega) ?_ ?_
  · rintro v h8 (⟨v9, e9, r7, e8, hq⟩ | ⟨ci9, q9, e9, -⟩)
    · cases e9
      subst e8
      replace H := H r7 h8 hq
      refine e_dup dJ25_pollLast_15 rfl ?_
      refine e_istore_n _ dJ25_pollLast_16 (by decide) rfl rfl ?_
      obtain ⟨d17, k18, n19, Q20, g16, g16d, g16k, g16n, H⟩ := H
      refine e_callS (As := [.ref x1, .int r7]) g16 dJ25_pollLast_17 wJ25_elementAt q2348 q2349 rfl g16d rfl (Nat.le_of_ble_eq_true rfl) (k1 := k - k11 - k18) (n1 := n - n12 - n19) (by omega) (by omega) ?_ ?_
      · rintro v h15 (⟨v9, e9, r14, e8, hq⟩ | ⟨ci9, q9, e9, -⟩)
        · cases e9
          subst e8
          replace H := H r14 h15 hq
          refine e_astoreR_n (r := r14) _ dJ25_pollLast_20 (by decide) rfl rfl ?_
          refine e_aloadR_n (r := r14) dJ25_pollLast_21 rfl ?_
          refine e_ifnull (r := r14) 34 dJ25_pollLast_22 (by decide) (fun g22 => ?_) (fun o21 g22 => ?_)
          · subst g22
            replace H := H.1 rfl
            refine e_aloadR_n (r := none) dJ25_pollLast_34 rfl ?_
            exact e_areturn (r := none) _ dJ25_pollLast_35 rfl (Or.inl ⟨_, rfl⟩) H
          · subst g22
            replace H := H.2 o21 rfl
            refine e_aload_n dJ25_pollLast_25 rfl ?_
            refine e_aload_n dJ25_pollLast_26 rfl ?_
            refine e_iload_n dJ25_pollLast_27 rfl ?_
            refine e_dup_x1 dJ25_pollLast_28 rfl rfl ?_
            obtain ⟨fs23, g24, g24l, g24j, H⟩ := H
            refine e_put dJ25_pollLast_29 fJ25_2 q1226 (eFit_i _) g24 g24l g24j ?_
            replace H := H _ rfl
            generalize eUp h15 a0 _ = h25 at H ⊢
            refine e_null dJ25_pollLast_32 ?_
            obtain ⟨N26, f27, g28, g28l, g28i, H⟩ := H
            refine e_aastoreN dJ25_pollLast_33 g28 g28l g28i ?_
            replace H := H _ rfl
            generalize eUp h25 x1 _ = h29 at H ⊢
            refine e_aload_n dJ25_pollLast_34 rfl ?_
            exact e_areturn (r := some o21) _ dJ25_pollLast_35 rfl (Or.inl ⟨_, rfl⟩) H
        · cases e9
      · rintro q9 h9 (⟨v9, e9, -⟩ | ⟨ci9, q8, e9, -, -, hx⟩)
        · cases e9
        · exact hx.elim
    · cases e9
  · rintro q9 h9 (⟨v9, e9, -⟩ | ⟨ci9, q8, e9, -, -, hx⟩)
    · cases e9
    · exact hx.elim
theorem en_J25_pollLast {l : Launch} {lo : Nat} {G : eG} {d : Nat} {P : eO → eH → Prop} (a0 : Nat) {h : eH} {k n : Nat} (H : h_J25_pollLast_0 (l, lo, G, d, P) a0 h k n) : Ct l lo G d mJ25_pollLast [.ref a0] h k n P := 
  Ct_of (eArL mJ25_pollLast.2.2.2.1 [.ref a0]) (by decide) rfl (Nat.le_of_ble_eq_true rfl) (fun j w q => eArL_mem j w q) (E.less2 H (eS_s (eS_n (eS_n (eS_n eS_0)))))
/-! J25_dec java/util/ArrayDeque.dec(II)I -/
def h_J25_dec_0 (c : cC) (a0 : Int32) (a1 : Int32) (h : eH) (k n : Nat) : Prop := E c.1 c.2.1 c.2.2.1 c.2.2.2.1 mJ25_dec c.2.2.2.2 0 [some (.int a0), some (.int a1)] [] h k n
set_option maxHeartbeats 4000000 in
theorem s_J25_dec_0 (c : cC) (a0 : Int32) (a1 : Int32) (h : eH) (k n : Nat) (H : (0 ≤ (a0 + (-1)) → c.2.2.2.2 (.inl (some (.int (a0 + (-1))))) h) ∧ (¬ 0 ≤ (a0 + (-1)) → c.2.2.2.2 (.inl (some (.int (a1 - (1 : Int32))))) h)) : h_J25_dec_0 c a0 a1 h k n := by
  refine e_iinc (a0 + (-1)) _ dJ25_dec_0 rfl rfl (by decide) trivial rfl ?_
  refine e_iload_n dJ25_dec_3 rfl ?_
  refine e_if_ge 11 dJ25_dec_4 (by decide) (fun g1 => ?_) (fun g1 => ?_)
  · replace H := H.1 g1
    refine e_iload_n dJ25_dec_11 rfl ?_
    exact e_ireturn .int dJ25_dec_12 rfl rfl H
  · replace H := H.2 g1
    refine e_iload_n dJ25_dec_7 rfl ?_
    refine e_iconst (1) dJ25_dec_8 (by decide) ?_
    refine e_isub dJ25_dec_9 ?_
    refine e_istore_n _ dJ25_dec_10 (by decide) trivial rfl ?_
    refine e_iload_n dJ25_dec_11 rfl ?_
    exact e_ireturn .int dJ25_dec_12 rfl rfl H
theorem en_J25_dec {l : Launch} {lo : Nat} {G : eG} {d : Nat} {P : eO → eH → Prop} (a0 : Int32) (a1 : Int32) {h : eH} {k n : Nat} (H : h_J25_dec_0 (l, lo, G, d, P) a0 a1 h k n) : Ct l lo G d mJ25_dec [.int a0, .int a1] h k n P := 
  Ct_of (eArL mJ25_dec.2.2.2.1 [.int a0, .int a1]) (by decide) rfl (Nat.le_of_ble_eq_true rfl) (fun j w q => eArL_mem j w q) (E.less2 H (eS_s (eS_s eS_0)))
