/-! the twin answers: sorts; subgroups within; products, pairs -/
theorem ss_and {a b : Nat} : (a &&& b = a) ↔ ss a b := by
  constructor
  · intro e k hk
    rw [← e, Nat.testBit_and, Bool.and_eq_true] at hk
    exact hk.2
  · intro h
    refine bits_ext fun k => ?_
    rw [Nat.testBit_and, Bool.and_eq_true]
    exact ⟨fun q => q.1, fun q => ⟨q, h k q⟩⟩
noncomputable def sortV (n : Nat) (mul : Nat → Nat → Nat) (inv : Nat → Nat) (L F : List Nat) (i : Nat) (a : Int32) : Int32 := if a = 0 then nI (pop 31 (F.getD i 0)) else if a = 1 then nI (cnt (fun k => F.idxOf (ft n mul inv (L.getD k 0)) == i) L.length) else if a = 2 then nI (F.getD i 0) else if a = 3 then nI (pop 31 (nmB n mul inv (F.getD i 0))) else if a = 4 then bI (isOne n mul (F.getD i 0)) else if a = 5 then bI (isAlk n mul (F.getD i 0)) else -1
theorem ct_sort {T0 : tS} {n : Nat} {mul : Nat → Nat → Nat} {inv : Nat → Nat} {L F : List Nat} (h : tGrp T0 n mul inv L F) (hF : F.length ≤ 60) (a b : Int32) : tMi mX6_sort 3 (fun _ => [.int a, .int b]) T0 (fun r T' => ((∃ i, i < F.length ∧ a = nI i ∧ r = sortV n mul inv L F i b) ∨ (¬ (∃ i, i < F.length ∧ a = nI i) ∧ r = -1)) ∧ T' = T0) := by
  have g6 := h.2.2.2.2.2.1
  have g8 := h.2.2.2.2.2.2.2.1
  have h1 := h.1
  have hn := h1.2.1
  refine en_sort _ _ T0 _ (fun c hc => s_sort_0 c _ _ T0 ?_)
  rw [g6.1]
  refine ⟨fun e => ?_, fun e => ?_⟩
  · rw [zI_n0, zRng (by omega)] at e
    obtain ⟨i, hi, rfl⟩ := e
    have hs := (tGrp_sg h hi).1
    have e29 : T0.2.2.1 29 (nI i).toNatClampNeg = nI (F.getD i 0) := by rw [nI_clamp (by omega)]; exact g6.2 i hi
    have hv : vp_in (nI i) 64 := vpI (by omega)
    rw [e29, hc]
    have fin : ∀ v T', v = sortV n mul inv L F i b → T' = T0 → ∃ r, some (Value.int v) = some (Value.int r) ∧ ((∃ i', i' < F.length ∧ nI i = nI i' ∧ r = sortV n mul inv L F i' b) ∨ (¬ (∃ i', i' < F.length ∧ nI i = nI i') ∧ r = -1)) ∧ T' = T0 := fun v T' e1 e2 => ⟨v, rfl, Or.inl ⟨i, hi, rfl, e1⟩, e2⟩
    refine ⟨fun e => fin _ _ ?_ rfl, ?_⟩
    · have q : ∀ k, k ≤ 5 → ¬ b = nI k := fun k hk => nI_out hk (by omega) e
      unfold sortV
      rw [if_neg (show ¬ b = 0 from q 0 (by omega)), if_neg (show ¬ b = 1 from q 1 (by omega)), if_neg (show ¬ b = 2 from q 2 (by omega)), if_neg (show ¬ b = 3 from q 3 (by omega)), if_neg (show ¬ b = 4 from q 4 (by omega)), if_neg (show ¬ b = 5 from q 5 (by omega))]
    · refine ⟨?_, ?_, ?_, ?_, ?_, ?_⟩ <;> intro e <;> subst e <;> refine ⟨hv, ?_⟩
      · exact fin _ _ (x_ones (pow31 hs hn)) rfl
      · refine fin _ _ ?_ rfl
        rw [nI_clamp (by omega)]
        exact g8 i hi
      · exact fin _ _ rfl rfl
      · refine ⟨_, ct_normOf h1 hs, ?_⟩
        rintro r T15 ⟨rfl, rfl⟩
        exact fin _ _ (x_ones (pow31 nmB_lt hn)) rfl
      · refine ⟨_, ct_isOfOne h1 hs, ?_⟩
        rintro r T15 ⟨q, rfl⟩
        exact fin _ _ (bI_of q) rfl
      · refine ⟨_, ct_areAlike h1 hs, ?_⟩
        rintro r T15 ⟨q, rfl⟩
        exact fin _ _ (bI_of q) rfl
  · rw [zI_0, zRng (by omega)] at e
    rw [hc]
    exact ⟨_, rfl, Or.inr ⟨e, rfl⟩, rfl⟩
def witP (n : Nat) (mul : Nat → Nat → Nat) (inv : Nat → Nat) (L F : List Nat) (i j k : Nat) : Bool := F.idxOf (ft n mul inv (L.getD k 0)) == i && (L.getD k 0 &&& F.getD j 0) == L.getD k 0
theorem tGrp_sgL {T : tS} {n : Nat} {mul : Nat → Nat → Nat} {inv : Nat → Nat} {L F : List Nat} (h : tGrp T n mul inv L F) {k : Nat} (hk : k < L.length) : sg n mul (L.getD k 0) := by
  obtain ⟨g1, g2, rfl, rfl, -⟩ := h
  exact (subsL_ok g1.1 g2).1.2.1 _ (gD_mem hk)
theorem tGrp_len {T : tS} {n : Nat} {mul : Nat → Nat → Nat} {inv : Nat → Nat} {L F : List Nat} (h : tGrp T n mul inv L F) : L.length ≤ 60 := by
  obtain ⟨g1, g2, rfl, rfl, -⟩ := h
  exact (subsL_ok g1.1 g2).1.len g2
theorem ct_within {T0 : tS} {n : Nat} {mul : Nat → Nat → Nat} {inv : Nat → Nat} {L F : List Nat} (h : tGrp T0 n mul inv L F) (hF : F.length ≤ 60) (a b : Int32) : tMi mX6_within 2 (fun _ => [.int a, .int b]) T0 (fun r T' => ((∃ i j, i < F.length ∧ j < F.length ∧ a = nI i ∧ b = nI j ∧ r = nI (cnt (witP n mul inv L F i j) L.length)) ∨ (¬ (∃ i j, i < F.length ∧ j < F.length ∧ a = nI i ∧ b = nI j) ∧ r = -1)) ∧ T' = T0) := by
  have g5 := h.2.2.2.2.1
  have g6 := h.2.2.2.2.2.1
  have g7 := h.2.2.2.2.2.2.1
  have h1 := h.1
  have hn := h1.2.1
  have hL := tGrp_len h
  refine en_within _ _ T0 _ (fun c hc => s_within_0 c _ _ T0 ?_)
  rw [g6.1]
  refine ⟨fun e => ?_, fun e => ⟨fun e2 => ?_, fun e2 => ?_⟩⟩
  · rw [zI_0, zRng (by omega)] at e
    rw [hc]
    exact ⟨_, rfl, Or.inr ⟨fun ⟨i, j, hi, _, q, _⟩ => e ⟨i, hi, q⟩, rfl⟩, rfl⟩
  · rw [zI_n0, zRng (by omega)] at e e2
    obtain ⟨i, hi, rfl⟩ := e
    obtain ⟨j, hj, rfl⟩ := e2
    have e29 : T0.2.2.1 29 (nI j).toNatClampNeg = nI (F.getD j 0) := by rw [nI_clamp (by omega)]; exact g6.2 j hj
    refine loopUp (N := L.length) (P := fun k => h_within_23 c (nI i) (nI j) (nI (cnt (witP n mul inv L F i j) k)) (nI k) T0) ?_ ?_ 0 (Nat.zero_le _)
    · refine s_within_23 c _ _ _ _ T0 ⟨fun _ => ?_, fun e => absurd (by rw [g5.1]; exact Int32.le_refl _) e⟩
      rw [hc]
      exact ⟨_, rfl, Or.inl ⟨i, j, hi, hj, rfl, rfl, rfl⟩, rfl⟩
    · intro k hk nx
      have hsk := (tGrp_sgL h hk).1
      refine s_within_23 c _ _ _ _ T0 ⟨fun e => absurd e (by rw [g5.1]; exact nI_ge hk (by omega)), fun _ => ⟨vpI (by omega), ?_⟩⟩
      have hix : F.idxOf (ft n mul inv (L.getD k 0)) ≤ F.length := List.idxOf_le_length
      rw [nI_clamp (show k < 2 ^ 31 by omega), g7 k hk, g5.2 k hk, e29, x_inj (by omega) (by omega), x_sub (pow31 hsk hn), nI_1]
      have no : ¬ witP n mul inv L F i j k = true → h_within_23 c (nI i) (nI j) (nI (cnt (witP n mul inv L F i j) k) + zI (¬ (0 : Int32) = 0)) (nI (k + 1)) T0 := fun q => by
        rw [zI_f (by decide), show (0 : Int32) = nI 0 from rfl, nI_add]
        rw [cnt_f q] at nx
        exact nx
      refine ⟨fun e => no ?_, fun e => ⟨vpI (by omega), vpI (by omega), fun e2 => no ?_, fun e2 => ?_⟩⟩
      · intro q
        unfold witP at q
        rw [Bool.and_eq_true, beq_iff_eq] at q
        exact e q.1
      · intro q
        unfold witP at q
        rw [Bool.and_eq_true, beq_iff_eq, beq_iff_eq, ss_and] at q
        exact e2 q.2
      · rw [zI_t (by decide), show (1 : Int32) = nI 1 from rfl, nI_add]
        have : witP n mul inv L F i j k = true := by
          unfold witP
          rw [Bool.and_eq_true, beq_iff_eq, beq_iff_eq, ss_and]
          exact ⟨e, e2⟩
        rw [cnt_t this] at nx
        exact nx
  · rw [zI_0, zRng (by omega)] at e2
    rw [hc]
    exact ⟨_, rfl, Or.inr ⟨fun ⟨i, j, _, hj, _, q⟩ => e2 ⟨j, hj, q⟩, rfl⟩, rfl⟩
def prdM (mk : Nat → Nat → Nat) (i j k : Nat) : Int64 := kL (mk i k) * kL (mk j k)
theorem ct_worksProduct {T0 : tS} {S : Nat} {mk : Nat → Nat → Nat} (h : tMk T0 S mk) {i j : Nat} (hi : i < S) (hj : j < S) : tMv mX6_worksProduct 1 (fun _ => [.int (nI i), .int (nI j)]) T0 (fun T' => tEq [34, 48] T0 T' ∧ tSeg T' 48 0 S (slv S mk (prdM mk i j))) := by
  obtain ⟨s1, s60, h26, h31, hd⟩ := id h
  refine en_worksProduct _ _ T0 _ (fun c hc => s_worksProduct_0 c _ _ T0 ?_)
  refine loopUp (N := S) (P := fun k => ∀ T, tEq [34] T0 T → tSeg T 34 0 k (prdM mk i j) → h_worksProduct_2 c (nI i) (nI j) (nI k) T) ?_ ?_ 0 (Nat.zero_le _) T0 (tEq.refl _ _) (fun t ht => absurd ht (Nat.not_lt_zero _))
  · intro T e hs
    refine s_worksProduct_2 c _ _ _ T ⟨fun _ => ⟨_, ct_numbers (h.same e (by decide) (by decide)) (fa := 34) (ft := 48) (o := 0) (by decide) (by decide) (by decide) (by decide) (by decide) (by show S ≤ 64; omega) (by show 0 + S ≤ 64; omega) hs, ?_⟩, fun q => absurd (by rw [e.i 26 (by decide), h26]; exact Int32.le_refl _) q⟩
    rintro T5 ⟨w1, w2, -⟩
    rw [hc]
    exact ⟨rfl, (e.mono (by decide)).trans (w2.mono (by decide)), w1⟩
  · intro k hk nx T e hs
    refine s_worksProduct_2 c _ _ _ T ⟨fun q => absurd q (by rw [e.i 26 (by decide), h26]; exact nI_ge hk (by omega)), fun _ => ?_⟩
    rw [tIx64, tIx64, nI_clamp (show 64 * i + k < 2 ^ 31 by omega), nI_clamp (show 64 * j + k < 2 ^ 31 by omega), nI_clamp (show k < 2 ^ 31 by omega), e.a 31 (by decide), h31 i k hi hk, h31 j k hj hk, nI_1]
    refine ⟨vpI (by omega), vpI (by omega), vpI (by omega), nx _ (e.trans (tEq.sB _ _ (by decide))) (fun t ht => ?_)⟩
    rw [tB_bs]
    by_cases q : t = k
    · subst q; rw [Nat.zero_add, up_self]; rfl
    · rw [up_ne (by omega)]; exact hs t (by omega)
theorem ct_product {T0 : tS} {S : Nat} {mk : Nat → Nat → Nat} (h : tMk T0 S mk) (a b d : Int32) : tMi mX6_product 2 (fun _ => [.int a, .int b, .int d]) T0 (fun r T' => ((∃ i j k, i < S ∧ j < S ∧ k < S ∧ a = nI i ∧ b = nI j ∧ d = nI k ∧ r = (slv S mk (prdM mk i j) k).toInt32) ∨ (¬ (∃ i j k, i < S ∧ j < S ∧ k < S ∧ a = nI i ∧ b = nI j ∧ d = nI k) ∧ r = -1)) ∧ tEq [34, 48] T0 T') := by
  obtain ⟨s1, s60, h26, h31, hd⟩ := id h
  refine en_product _ _ _ T0 _ (fun c hc => s_product_0 c _ _ _ T0 ?_)
  rw [h26]
  refine ⟨fun e => ?_, fun e => ⟨fun e2 => ?_, fun e2 => ⟨fun e3 => ?_, fun e3 => ?_⟩⟩⟩
  · rw [zI_0, zRng (by omega)] at e
    rw [hc]
    exact ⟨_, rfl, Or.inr ⟨fun ⟨i, j, k, hi, _, _, q, _⟩ => e ⟨i, hi, q⟩, rfl⟩, tEq.refl _ _⟩
  · rw [zI_0, zRng (by omega)] at e2
    rw [hc]
    exact ⟨_, rfl, Or.inr ⟨fun ⟨i, j, k, _, hj, _, _, q, _⟩ => e2 ⟨j, hj, q⟩, rfl⟩, tEq.refl _ _⟩
  · rw [zI_n0, zRng (by omega)] at e e2 e3
    obtain ⟨i, hi, rfl⟩ := e
    obtain ⟨j, hj, rfl⟩ := e2
    obtain ⟨k, hk, rfl⟩ := e3
    refine ⟨_, ct_worksProduct h hi hj, ?_⟩
    rintro T19 ⟨w1, w2⟩
    rw [nI_clamp (by omega), hc]
    have := w2 k hk
    rw [Nat.zero_add] at this
    rw [this]
    exact ⟨vpI (by omega), _, rfl, Or.inl ⟨i, j, k, hi, hj, hk, rfl, rfl, rfl, rfl⟩, w1⟩
  · rw [zI_0, zRng (by omega)] at e3
    rw [hc]
    exact ⟨_, rfl, Or.inr ⟨fun ⟨i, j, k, _, _, hk, _, _, q⟩ => e3 ⟨k, hk, q⟩, rfl⟩, tEq.refl _ _⟩
theorem ct_pairs {T0 : tS} {S : Nat} {mk : Nat → Nat → Nat} (h : tMk T0 S mk) (a b : Int32) : tMi mX6_pairs 2 (fun _ => [.int a, .int b]) T0 (fun r T' => ((∃ i j, i < S ∧ j < S ∧ a = nI i ∧ b = nI j ∧ r = (sumR (slv S mk (prdM mk i j)) S).toInt32) ∨ (¬ (∃ i j, i < S ∧ j < S ∧ a = nI i ∧ b = nI j) ∧ r = -1)) ∧ tEq [34, 48] T0 T') := by
  obtain ⟨s1, s60, h26, h31, hd⟩ := id h
  refine en_pairs _ _ T0 _ (fun c hc => s_pairs_0 c _ _ T0 ?_)
  rw [h26]
  refine ⟨fun e => ?_, fun e => ⟨fun e2 => ?_, fun e2 => ?_⟩⟩
  · rw [zI_0, zRng (by omega)] at e
    rw [hc]
    exact ⟨_, rfl, Or.inr ⟨fun ⟨i, j, hi, _, q, _⟩ => e ⟨i, hi, q⟩, rfl⟩, tEq.refl _ _⟩
  · rw [zI_n0, zRng (by omega)] at e e2
    obtain ⟨i, hi, rfl⟩ := e
    obtain ⟨j, hj, rfl⟩ := e2
    refine ⟨_, ct_worksProduct h hi hj, ?_⟩
    rintro T14 ⟨w1, w2⟩
    refine loopUp (N := S) (P := fun k => h_pairs_29 c (sumR (slv S mk (prdM mk i j)) k) (nI k) T14) ?_ ?_ 0 (Nat.zero_le _)
    · refine s_pairs_29 c _ _ T14 ⟨fun _ => ?_, fun q => absurd (by rw [w1.i 26 (by decide), h26]; exact Int32.le_refl _) q⟩
      rw [hc]
      exact ⟨_, rfl, Or.inl ⟨i, j, hi, hj, rfl, rfl, rfl⟩, w1⟩
    · intro k hk nx
      refine s_pairs_29 c _ _ T14 ⟨fun q => absurd q (by rw [w1.i 26 (by decide), h26]; exact nI_ge hk (by omega)), fun _ => ⟨vpI (by omega), ?_⟩⟩
      have := w2 k hk
      rw [Nat.zero_add] at this
      rw [nI_clamp (by omega), this, nI_1]
      exact nx
  · rw [zI_0, zRng (by omega)] at e2
    rw [hc]
    exact ⟨_, rfl, Or.inr ⟨fun ⟨i, j, _, hj, _, q⟩ => e2 ⟨j, hj, q⟩, rfl⟩, tEq.refl _ _⟩
