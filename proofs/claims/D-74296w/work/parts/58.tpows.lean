/-! the twin's pile: powers, signs turned -/
theorem inL_mul {a b : Int64} (ha : inL a) (hb : inL b) (h : ¬ bigP a b) : inL (a * b) := by
  rw [inL_iff] at ha hb ⊢
  unfold bigP at h
  rw [Int64.toInt_mul]
  have e : (a.toInt * b.toInt).natAbs ≤ 1000000000000 := by rw [Int.natAbs_mul]; omega
  generalize a.toInt * b.toInt = z at e ⊢
  rw [show z.bmod (2 ^ 64) = z from by rw [Int.bmod_eq_of_le (by omega) (by omega)]]
  omega
theorem inL_1 : inL 1 := by decide
theorem inL_0 : inL 0 := by decide
theorem inL_neg {a : Int64} (h : inL a) : inL (-a) := by
  rw [inL_iff] at h ⊢
  rw [Int64.toInt_neg, show (-a.toInt).bmod (2 ^ 64) = -a.toInt from by rw [Int.bmod_eq_of_le (by omega) (by omega)]]
  omega
theorem i64_neg_mul (a b : Int64) : -a * b = -(a * b) := by
  apply Int64.toBitVec_inj.mp
  simp only [Int64.toBitVec_mul, Int64.toBitVec_neg]
  rw [BitVec.neg_mul]
theorem i64_neg_add (a b : Int64) : -a + -b = -(a + b) := by
  apply Int64.toBitVec_inj.mp
  simp only [Int64.toBitVec_add, Int64.toBitVec_neg]
  rw [BitVec.neg_add, BitVec.sub_eq_add_neg]
theorem mkAt_neg {S : Nat} {mk : Nat → Nat → Nat} {r : Nat → Int64} {j : Nat} : mkAt S mk (fun k => -r k) j = - mkAt S mk r j := by
  unfold mkAt
  generalize S = n
  induction n with
  | zero => simp [sumR]
  | succ n ih =>
    unfold sumR
    rw [ih, i64_neg_mul, i64_neg_add]
theorem fitS_neg {S : Nat} {mk : Nat → Nat → Nat} {r : Nat → Int64} (h : fitS S mk r) : fitS S mk (fun k => -r k) := ⟨fun i hi => inL_neg (h.1 i hi), fun j hj => by rw [mkAt_neg]; exact inL_neg (h.2 j hj)⟩
theorem sumR_zero {f : Nat → Int64} : ∀ {n : Nat}, (∀ i, i < n → f i = 0) → sumR f n = 0 := by
  intro n
  induction n with
  | zero => intro _; rfl
  | succ n ih => intro h; unfold sumR; rw [ih (fun i hi => h i (by omega)), h n (by omega)]; rfl
/-- all but the last are nothing -/
theorem sumR_last {f : Nat → Int64} {n : Nat} (h : ∀ i, i < n → f i = 0) : sumR f (n + 1) = f n := by
  unfold sumR
  rw [sumR_zero h]
  exact Int64.zero_add _
theorem kL_1 : kL 1 = 1 := by decide
/-- the whole group's sort: all its marks are 1 -/
theorem slv_one {S : Nat} {mk : Nat → Nat → Nat} (hS : 1 ≤ S) (hu : ∀ j, j < S → mk (S - 1) j = 1) {j : Nat} (hj : j < S) : slv S mk (fun _ => 1) j = dlS (S - 1) 1 j := by
  refine isSlv_uniq (a := fun _ => 1) (a' := fun _ => 1) (fun _ _ => rfl) (slv_ok S mk _) (fun j hj => ?_) j hj
  by_cases e : j = S - 1
  · subst e
    rw [show S - (S - 1 + 1) = 0 by omega, hu _ hj, kL_1]
    simp [dlS, sumR]
  · have h2 : S - (j + 1) = (S - (j + 1) - 1) + 1 := by omega
    rw [h2, sumR_last (fun i hi => by unfold dlS; rw [if_neg (by omega)]; exact Int64.zero_mul)]
    rw [show j + 1 + (S - (j + 1) - 1) = S - 1 by omega, hu _ hj, kL_1]
    unfold dlS
    rw [if_neg e, if_pos rfl]
    simp
theorem fit_one {S : Nat} {mk : Nat → Nat → Nat} (hS : 1 ≤ S) (hu : ∀ j, j < S → mk (S - 1) j = 1) : fitS S mk (dlS (S - 1) 1) := by
  refine ⟨fun i hi => ?_, fun j hj => ?_⟩
  · unfold dlS; split
    · exact inL_1
    · exact inL_0
  · have : mkAt S mk (dlS (S - 1) 1) j = 1 := by
      unfold mkAt
      rw [show S = S - 1 + 1 by omega, sumR_last (fun i hi => by unfold dlS; rw [if_neg (by omega)]; exact Int64.zero_mul)]
      unfold dlS
      rw [show S - 1 + 1 - 1 = S - 1 by omega, if_pos rfl, hu j hj, kL_1]
      rfl
    rw [this]
    exact inL_1
/-- a power's marks -/
def pwM (m : Nat → Int64) : Nat → Nat → Int64
  | 0 => fun _ => 1
  | k + 1 => fun j => pwM m k j * m j
def pwOk (S : Nat) (mk : Nat → Nat → Nat) (m : Nat → Int64) (n : Nat) : Prop := ∀ k, k < n → mulOk S (pwM m k) m ∧ fitS S mk (slv S mk (pwM m (k + 1)))
theorem pwM_in {S : Nat} {mk : Nat → Nat → Nat} {m : Nat → Int64} (hm : ∀ j, j < S → inL (m j)) : ∀ k, pwOk S mk m k → ∀ j, j < S → inL (pwM m k j) := by
  intro k
  induction k with
  | zero => intro _ j _; exact inL_1
  | succ k ih => intro h j hj; exact inL_mul (ih (fun i hi => h i (by omega)) j hj) (hm j hj) ((h k (by omega)).1 j hj)
theorem ct_powers {T0 : tS} {S : Nat} {mk : Nat → Nat → Nat} (hM : tMk T0 S mk) (hu : ∀ j, j < S → mk (S - 1) j = 1) {h : Nat} {pl : Nat → Nat → Int64} (hP : tPl T0 S mk (h + 1) pl) {n : Nat} (hn : n ≤ 9) : tMv mX6_powers 3 (fun _ => [.int (nI n)]) T0 (fun T' => tEq [33, 34, 35, 39] T0 T' ∧ (T'.1 39 = 0 ↔ T0.1 39 = 0 ∧ pwOk S mk (mkAt S mk (pl h)) n) ∧ tPl T' S mk (h + 1) (va_up pl h (slv S mk (pwM (mkAt S mk (pl h)) n)))) := by
  obtain ⟨s1, s60, h26, h31, hd⟩ := id hM
  obtain ⟨p1, p2, p3, p4⟩ := id hP
  refine en_powers _ T0 _ (fun c hc => s_powers_0 c _ T0 ?_)
  rw [p2, nI_pred]
  refine ⟨_, ct_marksOf hM (l := h) (ft := 35) (by omega) (by decide) (by decide) (by decide) (show S ≤ 64 by omega), ?_⟩
  rintro T4 ⟨e4, m4⟩
  have hm : T0.1 39 = 0 → ∀ j, j < S → inL (mkAt S mk (pl h) j) := fun q j hj => (p4 q h (by omega)).2.2 j hj
  have m35 : T0.1 39 = 0 → tSeg T4 35 0 S (mkAt S mk (pl h)) := fun q j hj => by rw [m4 j hj]; exact mkAt_congr (fun i hi => (p4 q h (by omega)).1 i hi)
  generalize mkAt S mk (pl h) = m at *
  refine loopUp (N := S) (P := fun j => ∀ T, tEq [34] T4 T → (∀ i, i < j → T.2.2.2 34 i = 1) → h_powers_16 c (nI n) (nI j) T) ?_ ?_ 0 (Nat.zero_le _) T4 (tEq.refl _ _) (fun i hi => absurd hi (Nat.not_lt_zero _))
  · intro T1 e1 o1
    have e01 : tEq [34, 35] T0 T1 := (e4.mono (by decide)).trans (e1.mono (by decide))
    refine s_powers_16 c _ _ T1 ⟨fun _ => ?_, fun e => absurd (by rw [e01.i 26 (by decide), h26]; exact Int32.le_refl _) e⟩
    refine loopUp (N := n) (P := fun k => ∀ T, tEq [33, 34, 39] T1 T → (T.1 39 = 0 ∨ T.1 39 = 1) → (T.1 39 = 0 ↔ T0.1 39 = 0 ∧ pwOk S mk m k) → (T.1 39 = 0 → tSeg T 34 0 S (pwM m k)) → (T.1 39 = 0 → ∀ l, l < h → tSeg T 33 (64 * l) S (pl l)) → (0 < k → T.1 39 = 0 → tSeg T 33 (64 * h) S (slv S mk (pwM m k)) ∧ fitS S mk (slv S mk (pwM m k))) → h_powers_39 c (nI n) (nI k) T) ?_ ?_ 0 (Nat.zero_le _) T1 (tEq.refl _ _) (by rw [e01.i 39 (by decide)]; exact p3) ?_ (fun _ i hi => by rw [Nat.zero_add]; exact o1 i hi) (fun q l hl => ?_) (fun q => absurd q (Nat.lt_irrefl _))
    · intro T he b1 b2 b3 b4 b5
      have e02 : tEq [33, 34, 35, 39] T0 T := (e01.mono (by decide)).trans (he.mono (by decide))
      have h38 : T.1 38 = nI (h + 1) := by rw [e02.i 38 (by decide)]; exact p2
      refine s_powers_39 c _ _ T ⟨fun _ => ⟨fun e => ?_, fun e => ?_⟩, fun e => absurd (Int32.le_refl _) e⟩
      · rw [hc]
        have n0 : 0 < n := by
          rcases Nat.eq_zero_or_pos n with q | q
          · subst q; exact absurd rfl e
          · exact q
        refine ⟨rfl, e02, b2, p1, h38, b1, fun q l hl => ?_⟩
        by_cases e : l = h
        · subst e; rw [up_self]; exact b5 n0 q
        · rw [up_ne e]; exact ⟨b4 q l (by omega), (p4 (b2.mp q).1 l (by omega)).2⟩
      · have n0 : n = 0 := (x_inj (b := 0) (by omega) (by decide)).mp e
        subst n0
        rw [h38, nI_pred, tIm64]
        refine ⟨_, ct_numbers (hM.same e02 (by decide) (by decide)) (fa := 34) (ft := 33) (o := 64 * h) (a := T.2.2.2 34) (by decide) (by decide) (by decide) (by decide) (by decide) (show S ≤ 64 by omega) (show 64 * h + S ≤ 2560 by omega) (fun j hj => by rw [Nat.zero_add]), ?_⟩
        rintro T6 ⟨n1, n2, n3⟩
        rw [hc]
        have h39 : T6.1 39 = T.1 39 := n2.i 39 (by decide)
        refine ⟨rfl, e02.trans (n2.mono (by decide)), by rw [h39]; exact b2, p1, by rw [n2.i 38 (by decide)]; exact h38, by rw [h39]; exact b1, fun q l hl => ?_⟩
        rw [h39] at q
        by_cases e : l = h
        · subst e
          rw [up_self]
          refine ⟨fun j hj => ?_, (fitS_congr (fun i hi => slv_one s1 hu hi)).mpr (fit_one s1 hu)⟩
          rw [n1 j hj]
          exact slv_congr (fun i hi => by have := b3 q i hi; rw [Nat.zero_add] at this; exact this) hj
        · rw [up_ne e]
          exact ⟨fun j hj => by rw [n3 _ (by omega)]; exact b4 q l (by omega) j hj, (p4 (b2.mp q).1 l (by omega)).2⟩
    · intro k hk nx T he b1 b2 b3 b4 b5
      have e02 : tEq [33, 34, 35, 39] T0 T := (e01.mono (by decide)).trans (he.mono (by decide))
      refine s_powers_39 c _ _ T ⟨fun e => absurd e (nI_ge hk (by omega)), fun _ => ?_⟩
      refine ⟨_, ct_multiplies (S := S) (a := pwM m k) (b := m) (by rw [e02.i 26 (by decide)]; exact h26) s60 b1 (fun q => ⟨b3 q, fun j hj => ?_, fun j hj => ⟨pwM_in (hm (b2.mp q).1) k (b2.mp q).2 j hj, hm (b2.mp q).1 j hj⟩⟩), ?_⟩
      · rw [he.b 35 (by decide), e1.b 35 (by decide)]; exact m35 (b2.mp q).1 j hj
      · rintro T12 ⟨e12, g1, g2, g3⟩
        have e03 : tEq [33, 34, 39] T1 T12 := he.trans (e12.mono (by decide))
        have e04 : tEq [33, 34, 35, 39] T0 T12 := (e01.mono (by decide)).trans (e03.mono (by decide))
        rw [e04.i 38 (by decide), p2, nI_pred, tIm64]
        refine ⟨_, ct_numbers (hM.same e04 (by decide) (by decide)) (fa := 34) (ft := 33) (o := 64 * h) (a := T12.2.2.2 34) (by decide) (by decide) (by decide) (by decide) (by decide) (show S ≤ 64 by omega) (show 64 * h + S ≤ 2560 by omega) (fun j hj => by rw [Nat.zero_add]), ?_⟩
        rintro T18 ⟨n1, n2, n3⟩
        have e05 : tEq [33, 34, 39] T1 T18 := e03.trans (n2.mono (by decide))
        have e06 : tEq [33, 34, 35, 39] T0 T18 := (e01.mono (by decide)).trans (e05.mono (by decide))
        have h39 : T18.1 39 = T12.1 39 := n2.i 39 (by decide)
        refine ⟨_, ct_looks (hM.same e06 (by decide) (by decide)) (h := h) (pl := pl) (r := slv S mk (pwM m (k + 1))) (by omega) (by rw [e06.i 38 (by decide)]; exact p2) (by rw [h39]; exact g1) (fun q => ?_), ?_⟩
        · rw [h39] at q
          have q1 := (g2.mp q).1
          refine ⟨fun l hl => ⟨fun j hj => ?_, (p4 (b2.mp q1).1 l (by omega)).2⟩, fun j hj => ?_⟩
          · rw [n3 _ (by omega), e12.b 33 (by decide)]; exact b4 q1 l hl j hj
          · rw [n1 j hj]
            exact slv_congr (fun i hi => by have := g3 q i hi; rw [Nat.zero_add] at this; exact this) hj
        · rintro T24 ⟨q1, q2, q3⟩
          rw [nI_1]
          have iff1 : T24.1 39 = 0 ↔ T0.1 39 = 0 ∧ pwOk S mk m (k + 1) := by
            rw [q2, h39, g2, b2]
            constructor
            · rintro ⟨⟨⟨x1, x2⟩, x3⟩, x4⟩
              refine ⟨x1, fun i hi => ?_⟩
              by_cases e : i = k
              · subst e; exact ⟨x3, x4⟩
              · exact x2 i (by omega)
            · rintro ⟨x1, x2⟩
              exact ⟨⟨⟨x1, fun i hi => x2 i (by omega)⟩, (x2 k (by omega)).1⟩, (x2 k (by omega)).2⟩
          refine nx T24 (e05.trans (q1.mono (by decide))) q3.2.2.1 iff1 (fun q => ?_) (fun q l hl => ?_) (fun _ q => ?_)
          · intro j hj
            rw [q1.b 34 (by decide), n2.b 34 (by decide)]
            have z := (q2.mp q).1
            rw [h39] at z
            exact g3 z j hj
          · have := (q3.2.2.2 q l (by omega)).1
            rw [up_ne (by omega)] at this
            exact this
          · have := q3.2.2.2 q h (by omega)
            rw [up_self] at this
            exact this
    · rw [e01.i 39 (by decide)]
      exact ⟨fun q => ⟨q, fun i hi => absurd hi (Nat.not_lt_zero _)⟩, fun q => q.1⟩
    · rw [e01.i 39 (by decide)] at q
      intro j hj
      rw [e01.b 33 (by decide)]
      exact (p4 q l (by omega)).1 j hj
  · intro j hj nx T he ho
    refine s_powers_16 c _ _ T ⟨fun e => absurd e (by rw [he.i 26 (by decide), e4.i 26 (by decide), h26]; exact nI_ge hj (by omega)), fun _ => ⟨vpI (by omega), ?_⟩⟩
    rw [nI_1, nI_clamp (show j < 2 ^ 31 by omega)]
    refine nx _ (he.trans (tEq.sB _ _ (by decide))) (fun i hi => ?_)
    rw [tB_bs]
    by_cases e : i = j
    · subst e; exact up_self
    · rw [up_ne e]; exact ho i (by omega)
theorem ct_negates {T0 : tS} {S : Nat} {mk : Nat → Nat → Nat} (hM : tMk T0 S mk) {h : Nat} {pl : Nat → Nat → Int64} (hP : tPl T0 S mk (h + 1) pl) : tMv mX6_negates 0 (fun _ => []) T0 (fun T' => tEq [33] T0 T' ∧ tPl T' S mk (h + 1) (va_up pl h (fun k => -pl h k))) := by
  obtain ⟨s1, s60, h26, h31, hd⟩ := id hM
  obtain ⟨p1, p2, p3, p4⟩ := id hP
  refine en_negates T0 _ (fun c hc => s_negates_0 c T0 ?_)
  refine loopUp (N := S) (P := fun k => ∀ T, tEq [33] T0 T → (∀ j, j < k → T.2.2.2 33 (64 * h + j) = -T0.2.2.2 33 (64 * h + j)) → (∀ j, j < 64 * h ∨ 64 * h + k ≤ j → T.2.2.2 33 j = T0.2.2.2 33 j) → h_negates_2 c (nI k) T) ?_ ?_ 0 (Nat.zero_le _) T0 (tEq.refl _ _) (fun j hj => absurd hj (Nat.not_lt_zero _)) (fun j hj => rfl)
  · intro T he hr hlow
    refine s_negates_2 c _ T ⟨fun _ => ?_, fun e => absurd (by rw [he.i 26 (by decide), h26]; exact Int32.le_refl _) e⟩
    rw [hc]
    refine ⟨rfl, he, p1, by rw [he.i 38 (by decide)]; exact p2, by rw [he.i 39 (by decide)]; exact p3, fun q l hl => ?_⟩
    rw [he.i 39 (by decide)] at q
    by_cases e : l = h
    · subst e
      rw [up_self]
      exact ⟨fun j hj => by rw [hr j hj, (p4 q l hl).1 j hj], fitS_neg (p4 q l hl).2⟩
    · rw [up_ne e]
      exact ⟨fun j hj => by rw [hlow _ (by omega)]; exact (p4 q l hl).1 j hj, (p4 q l hl).2⟩
  · intro k hk nx T he hr hlow
    refine s_negates_2 c _ T ⟨fun e => absurd e (by rw [he.i 26 (by decide), h26]; exact nI_ge hk (by omega)), fun _ => ?_⟩
    rw [he.i 38 (by decide), p2, nI_pred, tIx64, nI_1, nI_clamp (show 64 * h + k < 2 ^ 31 by omega)]
    refine ⟨vpI (by omega), vpI (by omega), nx _ (he.trans (tEq.sB _ _ (by decide))) (fun j hj => ?_) (fun j hj => ?_)⟩
    · rw [tB_bs]
      by_cases e : j = k
      · subst e; rw [up_self, hlow _ (by omega)]
      · rw [up_ne (by omega)]; exact hr j (by omega)
    · rw [tB_bs, up_ne (by omega)]; exact hlow j (by omega)
