/-! isIn (JJJ)Z level 0 -/
def h_isIn_0 (c : tCs) (x0 : Int64) (x2 : Int64) (x4 : Int64) : Prop := E c.1 c.2.1 c.2.2.1 c.2.2.2.2.1 mX6_isIn (tPs c) 0 [some (.long x0), none, some (.long x2), none, some (.long x4), none] [] c.2.2.2.1 0 0
set_option maxHeartbeats 2000000 in
theorem s_isIn_0 (c : tCs) (x0 : Int64) (x2 : Int64) (x4 : Int64) (H : ((lg_cmp x0 x2) < 0 → Value.int (0 : Int32) = c.2.2.2.2.2) ∧ (¬ (lg_cmp x0 x2) < 0 → (0 < (lg_cmp x0 x4) → Value.int (0 : Int32) = c.2.2.2.2.2) ∧ (¬ 0 < (lg_cmp x0 x4) → Value.int (1 : Int32) = c.2.2.2.2.2))) : h_isIn_0 c x0 x2 x4 := by
  refine e_lload_n dX6_isIn_0 rfl ?_
  refine e_lload_n dX6_isIn_1 rfl ?_
  refine e_lcmp dX6_isIn_2 ?_
  refine e_if_lt 17 dX6_isIn_3 (by decide) (fun g1 => ?_) (fun g1 => ?_)
  · replace H := H.1 g1
    refine e_iconst (0) dX6_isIn_17 (by decide) ?_
    exact e_ireturn .boolean dX6_isIn_18 rfl (by decide) ⟨congrArg (fun z => Sum.inl (some z)) H, rfl⟩
  · replace H := H.2 g1
    refine e_lload_n dX6_isIn_6 rfl ?_
    refine e_lload dX6_isIn_7 rfl ?_
    refine e_lcmp dX6_isIn_9 ?_
    refine e_if_gt 17 dX6_isIn_10 (by decide) (fun g2 => ?_) (fun g2 => ?_)
    · replace H := H.1 g2
      refine e_iconst (0) dX6_isIn_17 (by decide) ?_
      exact e_ireturn .boolean dX6_isIn_18 rfl (by decide) ⟨congrArg (fun z => Sum.inl (some z)) H, rfl⟩
    · replace H := H.2 g2
      refine e_iconst (1) dX6_isIn_13 (by decide) ?_
      refine e_goto 18 dX6_isIn_14 (by decide) ?_
      exact e_ireturn .boolean dX6_isIn_18 rfl (by decide) ⟨congrArg (fun z => Sum.inl (some z)) H, rfl⟩

theorem en_isIn (x0 : Int64) (x2 : Int64) (x4 : Int64) (r : Value) (H : ∀ c : tCs, c.2.2.2.2.2 = r → h_isIn_0 c x0 x2 x4) : tMs mX6_isIn 0 [.long x0, .long x2, .long x4] r :=
  tMs_of (by decide) rfl (Nat.le_of_ble_eq_true rfl) (fun c hc => E.less2 (H c hc) (eS_s (eS_n (eS_s (eS_n (eS_s (eS_n eS_0)))))))
/-! truth (Z)I level 0 -/
def h_truth_0 (c : tCs) (x0 : Int32) : Prop := E c.1 c.2.1 c.2.2.1 c.2.2.2.2.1 mX6_truth (tPs c) 0 [some (.int x0)] [] c.2.2.2.1 0 0
set_option maxHeartbeats 2000000 in
theorem s_truth_0 (c : tCs) (x0 : Int32) (H : (x0 = 0 → Value.int (0 : Int32) = c.2.2.2.2.2) ∧ (¬ x0 = 0 → Value.int (1 : Int32) = c.2.2.2.2.2)) : h_truth_0 c x0 := by
  refine e_iload_n dX6_truth_0 rfl ?_
  refine e_if_eq 8 dX6_truth_1 (by decide) (fun g1 => ?_) (fun g1 => ?_)
  · replace H := H.1 g1
    refine e_iconst (0) dX6_truth_8 (by decide) ?_
    exact e_ireturn .int dX6_truth_9 rfl rfl ⟨congrArg (fun z => Sum.inl (some z)) H, rfl⟩
  · replace H := H.2 g1
    refine e_iconst (1) dX6_truth_4 (by decide) ?_
    refine e_goto 9 dX6_truth_5 (by decide) ?_
    exact e_ireturn .int dX6_truth_9 rfl rfl ⟨congrArg (fun z => Sum.inl (some z)) H, rfl⟩

theorem en_truth (x0 : Int32) (r : Value) (H : ∀ c : tCs, c.2.2.2.2.2 = r → h_truth_0 c x0) : tMs mX6_truth 0 [.int x0] r :=
  tMs_of (by decide) rfl (Nat.le_of_ble_eq_true rfl) (fun c hc => E.less2 (H c hc) (eS_s eS_0))
/-! holds (II)Z level 0 -/
def h_holds_0 (c : tCs) (x0 : Int32) (x1 : Int32) : Prop := E c.1 c.2.1 c.2.2.1 c.2.2.2.2.1 mX6_holds (tPs c) 0 [some (.int x0), some (.int x1)] [] c.2.2.2.1 0 0
set_option maxHeartbeats 2000000 in
theorem s_holds_0 (c : tCs) (x0 : Int32) (x1 : Int32) (H : (¬ ((x0 >>> (x1 &&& 31)) &&& (1 : Int32)) = (1 : Int32) → Value.int (0 : Int32) = c.2.2.2.2.2) ∧ (((x0 >>> (x1 &&& 31)) &&& (1 : Int32)) = (1 : Int32) → Value.int (1 : Int32) = c.2.2.2.2.2)) : h_holds_0 c x0 x1 := by
  refine e_iload_n dX6_holds_0 rfl ?_
  refine e_iload_n dX6_holds_1 rfl ?_
  refine e_ishr dX6_holds_2 ?_
  refine e_iconst (1) dX6_holds_3 (by decide) ?_
  refine e_iand dX6_holds_4 ?_
  refine e_iconst (1) dX6_holds_5 (by decide) ?_
  refine e_icmp_ne 13 dX6_holds_6 (by decide) (fun g1 => ?_) (fun g1 => ?_)
  · replace H := H.1 g1
    refine e_iconst (0) dX6_holds_13 (by decide) ?_
    exact e_ireturn .boolean dX6_holds_14 rfl (by decide) ⟨congrArg (fun z => Sum.inl (some z)) H, rfl⟩
  · replace H := H.2 g1
    refine e_iconst (1) dX6_holds_9 (by decide) ?_
    refine e_goto 14 dX6_holds_10 (by decide) ?_
    exact e_ireturn .boolean dX6_holds_14 rfl (by decide) ⟨congrArg (fun z => Sum.inl (some z)) H, rfl⟩

theorem en_holds (x0 : Int32) (x1 : Int32) (r : Value) (H : ∀ c : tCs, c.2.2.2.2.2 = r → h_holds_0 c x0 x1) : tMs mX6_holds 0 [.int x0, .int x1] r :=
  tMs_of (by decide) rfl (Nat.le_of_ble_eq_true rfl) (fun c hc => E.less2 (H c hc) (eS_s (eS_s eS_0)))
/-! ones (I)I level 0 -/
def h_ones_0 (c : tCs) (x0 : Int32) : Prop := E c.1 c.2.1 c.2.2.1 c.2.2.2.2.1 mX6_ones (tPs c) 0 [some (.int x0), none, none] [] c.2.2.2.1 0 0
def h_ones_4 (c : tCs) (x0 : Int32) (x1 : Int32) (x2 : Int32) : Prop := E c.1 c.2.1 c.2.2.1 c.2.2.2.2.1 mX6_ones (tPs c) 4 [some (.int x0), some (.int x1), some (.int x2)] [] c.2.2.2.1 0 0
set_option maxHeartbeats 2000000 in
theorem s_ones_0 (c : tCs) (x0 : Int32) (H : h_ones_4 c x0 (0 : Int32) (0 : Int32)) : h_ones_0 c x0 := by
  refine e_iconst (0) dX6_ones_0 (by decide) ?_
  refine e_istore_n _ dX6_ones_1 (by decide) rfl rfl ?_
  refine e_iconst (0) dX6_ones_2 (by decide) ?_
  refine e_istore_n _ dX6_ones_3 (by decide) rfl rfl ?_
  exact H

set_option maxHeartbeats 2000000 in
theorem s_ones_4 (c : tCs) (x0 : Int32) (x1 : Int32) (x2 : Int32) (H : ((31 : Int32) ≤ x2 → Value.int x1 = c.2.2.2.2.2) ∧ (¬ (31 : Int32) ≤ x2 → h_ones_4 c x0 (x1 + ((x0 >>> (x2 &&& 31)) &&& (1 : Int32))) (x2 + 1))) : h_ones_4 c x0 x1 x2 := by
  refine e_iload_n dX6_ones_4 rfl ?_
  refine e_bipush (31) dX6_ones_5 (by decide) ?_
  refine e_icmp_ge 24 dX6_ones_7 (by decide) (fun g1 => ?_) (fun g1 => ?_)
  · replace H := H.1 g1
    refine e_iload_n dX6_ones_24 rfl ?_
    exact e_ireturn .int dX6_ones_25 rfl rfl ⟨congrArg (fun z => Sum.inl (some z)) H, rfl⟩
  · replace H := H.2 g1
    refine e_iload_n dX6_ones_10 rfl ?_
    refine e_iload_n dX6_ones_11 rfl ?_
    refine e_iload_n dX6_ones_12 rfl ?_
    refine e_ishr dX6_ones_13 ?_
    refine e_iconst (1) dX6_ones_14 (by decide) ?_
    refine e_iand dX6_ones_15 ?_
    refine e_iadd dX6_ones_16 ?_
    refine e_istore_n _ dX6_ones_17 (by decide) rfl rfl ?_
    refine e_iinc (x2 + 1) _ dX6_ones_18 rfl rfl (by decide) rfl rfl ?_
    refine e_goto 4 dX6_ones_21 (by decide) ?_
    exact H

theorem en_ones (x0 : Int32) (r : Value) (H : ∀ c : tCs, c.2.2.2.2.2 = r → h_ones_0 c x0) : tMs mX6_ones 0 [.int x0] r :=
  tMs_of (by decide) rfl (Nat.le_of_ble_eq_true rfl) (fun c hc => E.less2 (H c hc) (eS_s (eS_n (eS_n eS_0))))
/-! isLetter (I)Z level 0 -/
def h_isLetter_0 (c : tCs) (x0 : Int32) : Prop := E c.1 c.2.1 c.2.2.1 c.2.2.2.2.1 mX6_isLetter (tPs c) 0 [some (.int x0)] [] c.2.2.2.1 0 0
set_option maxHeartbeats 2000000 in
theorem s_isLetter_0 (c : tCs) (x0 : Int32) (H : (x0 < (97 : Int32) → Value.int (0 : Int32) = c.2.2.2.2.2) ∧ (¬ x0 < (97 : Int32) → ((122 : Int32) < x0 → Value.int (0 : Int32) = c.2.2.2.2.2) ∧ (¬ (122 : Int32) < x0 → Value.int (1 : Int32) = c.2.2.2.2.2))) : h_isLetter_0 c x0 := by
  refine e_iload_n dX6_isLetter_0 rfl ?_
  refine e_bipush (97) dX6_isLetter_1 (by decide) ?_
  refine e_icmp_lt 16 dX6_isLetter_3 (by decide) (fun g1 => ?_) (fun g1 => ?_)
  · replace H := H.1 g1
    refine e_iconst (0) dX6_isLetter_16 (by decide) ?_
    exact e_ireturn .boolean dX6_isLetter_17 rfl (by decide) ⟨congrArg (fun z => Sum.inl (some z)) H, rfl⟩
  · replace H := H.2 g1
    refine e_iload_n dX6_isLetter_6 rfl ?_
    refine e_bipush (122) dX6_isLetter_7 (by decide) ?_
    refine e_icmp_gt 16 dX6_isLetter_9 (by decide) (fun g2 => ?_) (fun g2 => ?_)
    · replace H := H.1 g2
      refine e_iconst (0) dX6_isLetter_16 (by decide) ?_
      exact e_ireturn .boolean dX6_isLetter_17 rfl (by decide) ⟨congrArg (fun z => Sum.inl (some z)) H, rfl⟩
    · replace H := H.2 g2
      refine e_iconst (1) dX6_isLetter_12 (by decide) ?_
      refine e_goto 17 dX6_isLetter_13 (by decide) ?_
      exact e_ireturn .boolean dX6_isLetter_17 rfl (by decide) ⟨congrArg (fun z => Sum.inl (some z)) H, rfl⟩

theorem en_isLetter (x0 : Int32) (r : Value) (H : ∀ c : tCs, c.2.2.2.2.2 = r → h_isLetter_0 c x0) : tMs mX6_isLetter 0 [.int x0] r :=
  tMs_of (by decide) rfl (Nat.le_of_ble_eq_true rfl) (fun c hc => E.less2 (H c hc) (eS_s eS_0))
/-! isDigit (I)Z level 0 -/
def h_isDigit_0 (c : tCs) (x0 : Int32) : Prop := E c.1 c.2.1 c.2.2.1 c.2.2.2.2.1 mX6_isDigit (tPs c) 0 [some (.int x0)] [] c.2.2.2.1 0 0
set_option maxHeartbeats 2000000 in
theorem s_isDigit_0 (c : tCs) (x0 : Int32) (H : (x0 < (48 : Int32) → Value.int (0 : Int32) = c.2.2.2.2.2) ∧ (¬ x0 < (48 : Int32) → ((57 : Int32) < x0 → Value.int (0 : Int32) = c.2.2.2.2.2) ∧ (¬ (57 : Int32) < x0 → Value.int (1 : Int32) = c.2.2.2.2.2))) : h_isDigit_0 c x0 := by
  refine e_iload_n dX6_isDigit_0 rfl ?_
  refine e_bipush (48) dX6_isDigit_1 (by decide) ?_
  refine e_icmp_lt 16 dX6_isDigit_3 (by decide) (fun g1 => ?_) (fun g1 => ?_)
  · replace H := H.1 g1
    refine e_iconst (0) dX6_isDigit_16 (by decide) ?_
    exact e_ireturn .boolean dX6_isDigit_17 rfl (by decide) ⟨congrArg (fun z => Sum.inl (some z)) H, rfl⟩
  · replace H := H.2 g1
    refine e_iload_n dX6_isDigit_6 rfl ?_
    refine e_bipush (57) dX6_isDigit_7 (by decide) ?_
    refine e_icmp_gt 16 dX6_isDigit_9 (by decide) (fun g2 => ?_) (fun g2 => ?_)
    · replace H := H.1 g2
      refine e_iconst (0) dX6_isDigit_16 (by decide) ?_
      exact e_ireturn .boolean dX6_isDigit_17 rfl (by decide) ⟨congrArg (fun z => Sum.inl (some z)) H, rfl⟩
    · replace H := H.2 g2
      refine e_iconst (1) dX6_isDigit_12 (by decide) ?_
      refine e_goto 17 dX6_isDigit_13 (by decide) ?_
      exact e_ireturn .boolean dX6_isDigit_17 rfl (by decide) ⟨congrArg (fun z => Sum.inl (some z)) H, rfl⟩

theorem en_isDigit (x0 : Int32) (r : Value) (H : ∀ c : tCs, c.2.2.2.2.2 = r → h_isDigit_0 c x0) : tMs mX6_isDigit 0 [.int x0] r :=
  tMs_of (by decide) rfl (Nat.le_of_ble_eq_true rfl) (fun c hc => E.less2 (H c hc) (eS_s eS_0))
/-! isSign (I)Z level 0 -/
def h_isSign_0 (c : tCs) (x0 : Int32) : Prop := E c.1 c.2.1 c.2.2.1 c.2.2.2.2.1 mX6_isSign (tPs c) 0 [some (.int x0)] [] c.2.2.2.1 0 0
set_option maxHeartbeats 2000000 in
theorem s_isSign_0 (c : tCs) (x0 : Int32) (H : (x0 = (61 : Int32) → Value.int (1 : Int32) = c.2.2.2.2.2) ∧ (¬ x0 = (61 : Int32) → (x0 = (43 : Int32) → Value.int (1 : Int32) = c.2.2.2.2.2) ∧ (¬ x0 = (43 : Int32) → (x0 = (42 : Int32) → Value.int (1 : Int32) = c.2.2.2.2.2) ∧ (¬ x0 = (42 : Int32) → (x0 = (45 : Int32) → Value.int (1 : Int32) = c.2.2.2.2.2) ∧ (¬ x0 = (45 : Int32) → (x0 = (94 : Int32) → Value.int (1 : Int32) = c.2.2.2.2.2) ∧ (¬ x0 = (94 : Int32) → (x0 = (40 : Int32) → Value.int (1 : Int32) = c.2.2.2.2.2) ∧ (¬ x0 = (40 : Int32) → (x0 = (41 : Int32) → Value.int (1 : Int32) = c.2.2.2.2.2) ∧ (¬ x0 = (41 : Int32) → (¬ x0 = (59 : Int32) → Value.int (0 : Int32) = c.2.2.2.2.2) ∧ (x0 = (59 : Int32) → Value.int (1 : Int32) = c.2.2.2.2.2))))))))) : h_isSign_0 c x0 := by
  refine e_iload_n dX6_isSign_0 rfl ?_
  refine e_bipush (61) dX6_isSign_1 (by decide) ?_
  refine e_icmp_eq 48 dX6_isSign_3 (by decide) (fun g1 => ?_) (fun g1 => ?_)
  · replace H := H.1 g1
    refine e_iconst (1) dX6_isSign_48 (by decide) ?_
    refine e_goto 53 dX6_isSign_49 (by decide) ?_
    exact e_ireturn .boolean dX6_isSign_53 rfl (by decide) ⟨congrArg (fun z => Sum.inl (some z)) H, rfl⟩
  · replace H := H.2 g1
    refine e_iload_n dX6_isSign_6 rfl ?_
    refine e_bipush (43) dX6_isSign_7 (by decide) ?_
    refine e_icmp_eq 48 dX6_isSign_9 (by decide) (fun g2 => ?_) (fun g2 => ?_)
    · replace H := H.1 g2
      refine e_iconst (1) dX6_isSign_48 (by decide) ?_
      refine e_goto 53 dX6_isSign_49 (by decide) ?_
      exact e_ireturn .boolean dX6_isSign_53 rfl (by decide) ⟨congrArg (fun z => Sum.inl (some z)) H, rfl⟩
    · replace H := H.2 g2
      refine e_iload_n dX6_isSign_12 rfl ?_
      refine e_bipush (42) dX6_isSign_13 (by decide) ?_
      refine e_icmp_eq 48 dX6_isSign_15 (by decide) (fun g3 => ?_) (fun g3 => ?_)
      · replace H := H.1 g3
        refine e_iconst (1) dX6_isSign_48 (by decide) ?_
        refine e_goto 53 dX6_isSign_49 (by decide) ?_
        exact e_ireturn .boolean dX6_isSign_53 rfl (by decide) ⟨congrArg (fun z => Sum.inl (some z)) H, rfl⟩
      · replace H := H.2 g3
        refine e_iload_n dX6_isSign_18 rfl ?_
        refine e_bipush (45) dX6_isSign_19 (by decide) ?_
        refine e_icmp_eq 48 dX6_isSign_21 (by decide) (fun g4 => ?_) (fun g4 => ?_)
        · replace H := H.1 g4
          refine e_iconst (1) dX6_isSign_48 (by decide) ?_
          refine e_goto 53 dX6_isSign_49 (by decide) ?_
          exact e_ireturn .boolean dX6_isSign_53 rfl (by decide) ⟨congrArg (fun z => Sum.inl (some z)) H, rfl⟩
        · replace H := H.2 g4
          refine e_iload_n dX6_isSign_24 rfl ?_
          refine e_bipush (94) dX6_isSign_25 (by decide) ?_
          refine e_icmp_eq 48 dX6_isSign_27 (by decide) (fun g5 => ?_) (fun g5 => ?_)
          · replace H := H.1 g5
            refine e_iconst (1) dX6_isSign_48 (by decide) ?_
            refine e_goto 53 dX6_isSign_49 (by decide) ?_
            exact e_ireturn .boolean dX6_isSign_53 rfl (by decide) ⟨congrArg (fun z => Sum.inl (some z)) H, rfl⟩
          · replace H := H.2 g5
            refine e_iload_n dX6_isSign_30 rfl ?_
            refine e_bipush (40) dX6_isSign_31 (by decide) ?_
            refine e_icmp_eq 48 dX6_isSign_33 (by decide) (fun g6 => ?_) (fun g6 => ?_)
            · replace H := H.1 g6
              refine e_iconst (1) dX6_isSign_48 (by decide) ?_
              refine e_goto 53 dX6_isSign_49 (by decide) ?_
              exact e_ireturn .boolean dX6_isSign_53 rfl (by decide) ⟨congrArg (fun z => Sum.inl (some z)) H, rfl⟩
            · replace H := H.2 g6
              refine e_iload_n dX6_isSign_36 rfl ?_
              refine e_bipush (41) dX6_isSign_37 (by decide) ?_
              refine e_icmp_eq 48 dX6_isSign_39 (by decide) (fun g7 => ?_) (fun g7 => ?_)
              · replace H := H.1 g7
                refine e_iconst (1) dX6_isSign_48 (by decide) ?_
                refine e_goto 53 dX6_isSign_49 (by decide) ?_
                exact e_ireturn .boolean dX6_isSign_53 rfl (by decide) ⟨congrArg (fun z => Sum.inl (some z)) H, rfl⟩
              · replace H := H.2 g7
                refine e_iload_n dX6_isSign_42 rfl ?_
                refine e_bipush (59) dX6_isSign_43 (by decide) ?_
                refine e_icmp_ne 52 dX6_isSign_45 (by decide) (fun g8 => ?_) (fun g8 => ?_)
                · replace H := H.1 g8
                  refine e_iconst (0) dX6_isSign_52 (by decide) ?_
                  exact e_ireturn .boolean dX6_isSign_53 rfl (by decide) ⟨congrArg (fun z => Sum.inl (some z)) H, rfl⟩
                · replace H := H.2 g8
                  refine e_iconst (1) dX6_isSign_48 (by decide) ?_
                  refine e_goto 53 dX6_isSign_49 (by decide) ?_
                  exact e_ireturn .boolean dX6_isSign_53 rfl (by decide) ⟨congrArg (fun z => Sum.inl (some z)) H, rfl⟩

theorem en_isSign (x0 : Int32) (r : Value) (H : ∀ c : tCs, c.2.2.2.2.2 = r → h_isSign_0 c x0) : tMs mX6_isSign 0 [.int x0] r :=
  tMs_of (by decide) rfl (Nat.le_of_ble_eq_true rfl) (fun c hc => E.less2 (H c hc) (eS_s eS_0))
/-! isPrime (I)Z level 0 -/
def h_isPrime_0 (c : tCs) (x0 : Int32) : Prop := E c.1 c.2.1 c.2.2.1 c.2.2.2.2.1 mX6_isPrime (tPs c) 0 [some (.int x0)] [] c.2.2.2.1 0 0
set_option maxHeartbeats 2000000 in
theorem s_isPrime_0 (c : tCs) (x0 : Int32) (H : (x0 = (2 : Int32) → Value.int (1 : Int32) = c.2.2.2.2.2) ∧ (¬ x0 = (2 : Int32) → (x0 = (3 : Int32) → Value.int (1 : Int32) = c.2.2.2.2.2) ∧ (¬ x0 = (3 : Int32) → (¬ x0 = (5 : Int32) → Value.int (0 : Int32) = c.2.2.2.2.2) ∧ (x0 = (5 : Int32) → Value.int (1 : Int32) = c.2.2.2.2.2)))) : h_isPrime_0 c x0 := by
  refine e_iload_n dX6_isPrime_0 rfl ?_
  refine e_iconst (2) dX6_isPrime_1 (by decide) ?_
  refine e_icmp_eq 15 dX6_isPrime_2 (by decide) (fun g1 => ?_) (fun g1 => ?_)
  · replace H := H.1 g1
    refine e_iconst (1) dX6_isPrime_15 (by decide) ?_
    refine e_goto 20 dX6_isPrime_16 (by decide) ?_
    exact e_ireturn .boolean dX6_isPrime_20 rfl (by decide) ⟨congrArg (fun z => Sum.inl (some z)) H, rfl⟩
  · replace H := H.2 g1
    refine e_iload_n dX6_isPrime_5 rfl ?_
    refine e_iconst (3) dX6_isPrime_6 (by decide) ?_
    refine e_icmp_eq 15 dX6_isPrime_7 (by decide) (fun g2 => ?_) (fun g2 => ?_)
    · replace H := H.1 g2
      refine e_iconst (1) dX6_isPrime_15 (by decide) ?_
      refine e_goto 20 dX6_isPrime_16 (by decide) ?_
      exact e_ireturn .boolean dX6_isPrime_20 rfl (by decide) ⟨congrArg (fun z => Sum.inl (some z)) H, rfl⟩
    · replace H := H.2 g2
      refine e_iload_n dX6_isPrime_10 rfl ?_
      refine e_iconst (5) dX6_isPrime_11 (by decide) ?_
      refine e_icmp_ne 19 dX6_isPrime_12 (by decide) (fun g3 => ?_) (fun g3 => ?_)
      · replace H := H.1 g3
        refine e_iconst (0) dX6_isPrime_19 (by decide) ?_
        exact e_ireturn .boolean dX6_isPrime_20 rfl (by decide) ⟨congrArg (fun z => Sum.inl (some z)) H, rfl⟩
      · replace H := H.2 g3
        refine e_iconst (1) dX6_isPrime_15 (by decide) ?_
        refine e_goto 20 dX6_isPrime_16 (by decide) ?_
        exact e_ireturn .boolean dX6_isPrime_20 rfl (by decide) ⟨congrArg (fun z => Sum.inl (some z)) H, rfl⟩

theorem en_isPrime (x0 : Int32) (r : Value) (H : ∀ c : tCs, c.2.2.2.2.2 = r → h_isPrime_0 c x0) : tMs mX6_isPrime 0 [.int x0] r :=
  tMs_of (by decide) rfl (Nat.le_of_ble_eq_true rfl) (fun c hc => E.less2 (H c hc) (eS_s eS_0))
/-! divisor (JJ)J level 0 -/
def h_divisor_0 (c : tCs) (x0 : Int64) (x2 : Int64) : Prop := E c.1 c.2.1 c.2.2.1 c.2.2.2.2.1 mX6_divisor (tPs c) 0 [some (.long x0), none, some (.long x2), none, none, none, none, none, none, none] [] c.2.2.2.1 0 0
def h_divisor_17 (c : tCs) (x4 : Int64) (x6 : Int64) : Prop := E c.1 c.2.1 c.2.2.1 c.2.2.2.2.1 mX6_divisor (tPs c) 17 [none, none, none, none, some (.long x4), none, some (.long x6), none, none, none] [] c.2.2.2.1 0 0
set_option maxHeartbeats 2000000 in
theorem s_divisor_0 (c : tCs) (x0 : Int64) (x2 : Int64) (H : (0 ≤ (lg_cmp x0 (0 : Int64)) → h_divisor_17 c x0 x2) ∧ (¬ 0 ≤ (lg_cmp x0 (0 : Int64)) → h_divisor_17 c (-x0) x2)) : h_divisor_0 c x0 x2 := by
  refine e_lload_n dX6_divisor_0 rfl ?_
  refine e_lconst 0 dX6_divisor_1 (by decide) ?_
  refine e_lcmp dX6_divisor_2 ?_
  refine e_if_ge 11 dX6_divisor_3 (by decide) (fun g1 => ?_) (fun g1 => ?_)
  · replace H := H.1 g1
    refine e_lload_n dX6_divisor_11 rfl ?_
    refine e_lstore _ dX6_divisor_12 (by decide) trivial rfl ?_
    refine e_lload_n dX6_divisor_14 rfl ?_
    refine e_lstore _ dX6_divisor_15 (by decide) trivial rfl ?_
    exact E.less2 H (eS_n (eS_n (eS_n (eS_n (eS_s (eS_n (eS_s (eS_n (eS_n (eS_n eS_0))))))))))
  · replace H := H.2 g1
    refine e_lload_n dX6_divisor_6 rfl ?_
    refine e_lneg dX6_divisor_7 ?_
    refine e_goto 12 dX6_divisor_8 (by decide) ?_
    refine e_lstore _ dX6_divisor_12 (by decide) trivial rfl ?_
    refine e_lload_n dX6_divisor_14 rfl ?_
    refine e_lstore _ dX6_divisor_15 (by decide) trivial rfl ?_
    exact E.less2 H (eS_n (eS_n (eS_n (eS_n (eS_s (eS_n (eS_s (eS_n (eS_n (eS_n eS_0))))))))))

set_option maxHeartbeats 2000000 in
theorem s_divisor_17 (c : tCs) (x4 : Int64) (x6 : Int64) (H : ((lg_cmp x6 (0 : Int64)) = 0 → Value.long x4 = c.2.2.2.2.2) ∧ (¬ (lg_cmp x6 (0 : Int64)) = 0 → ¬ x6 = 0 ∧ (h_divisor_17 c x6 (x4 - x4 / x6 * x6)))) : h_divisor_17 c x4 x6 := by
  refine e_lload dX6_divisor_17 rfl ?_
  refine e_lconst 0 dX6_divisor_19 (by decide) ?_
  refine e_lcmp dX6_divisor_20 ?_
  refine e_if_eq 42 dX6_divisor_21 (by decide) (fun g1 => ?_) (fun g1 => ?_)
  · replace H := H.1 g1
    refine e_lload dX6_divisor_42 rfl ?_
    exact e_lreturn dX6_divisor_44 rfl ⟨congrArg (fun z => Sum.inl (some z)) H, rfl⟩
  · replace H := H.2 g1
    refine e_lload dX6_divisor_24 rfl ?_
    refine e_lload dX6_divisor_26 rfl ?_
    obtain ⟨g2, H⟩ := H
    refine e_lrem dX6_divisor_28 g2 ?_
    refine e_lstore _ dX6_divisor_29 (by decide) trivial rfl ?_
    refine e_lload dX6_divisor_31 rfl ?_
    refine e_lstore _ dX6_divisor_33 (by decide) trivial rfl ?_
    refine e_lload dX6_divisor_35 rfl ?_
    refine e_lstore _ dX6_divisor_37 (by decide) trivial rfl ?_
    refine e_goto 17 dX6_divisor_39 (by decide) ?_
    exact E.less2 H (eS_n (eS_n (eS_n (eS_n (eS_s (eS_n (eS_s (eS_n (eS_n (eS_n eS_0))))))))))

theorem en_divisor (x0 : Int64) (x2 : Int64) (r : Value) (H : ∀ c : tCs, c.2.2.2.2.2 = r → h_divisor_0 c x0 x2) : tMs mX6_divisor 0 [.long x0, .long x2] r :=
  tMs_of (by decide) rfl (Nat.le_of_ble_eq_true rfl) (fun c hc => E.less2 (H c hc) (eS_s (eS_n (eS_s (eS_n (eS_n (eS_n (eS_n (eS_n (eS_n (eS_n eS_0)))))))))))
