/-! the twin builds the members -/
def tMemF (T : tS) (p N : Nat) (f : Nat → List Nat) : Prop := ∀ m, m < N → ∀ i, i < p → T.2.2.1 21 (6 * m + i) = nI (rAt (f m) i)
def tCom (T : tS) (p : Nat) (r : List Nat) : Prop := ∀ i, i < p → T.2.2.1 22 i = nI (rAt r i)
theorem tMemF.same {S : List Nat} {T T' : tS} {p N : Nat} {f : Nat → List Nat} (h : tMemF T p N f) (e : tEq S T T') (h1 : 21 ∉ S) : tMemF T' p N f := fun m hm i hi => by rw [e.a 21 h1]; exact h m hm i hi
theorem ct_indexOf {T : tS} {p N : Nat} {f : Nat → List Nat} {r : List Nat} (hp : p ≤ 6) (h12 : T.1 12 = nI p) (hN : N ≤ 24) (h20 : T.1 20 = nI N) (hf : tMemF T p N f) (hok : ∀ m, m < N → rOk p (f m)) (hr : rOk p r) (hc0 : tCom T p r) : tMi mX6_indexOf 0 (fun _ => []) T (fun x T' => ((∃ m, m < N ∧ f m = r ∧ x = nI m) ∨ ((∀ m, m < N → f m ≠ r) ∧ x = -1)) ∧ T' = T) := by
  refine en_indexOf T _ (fun c hc => s_indexOf_0 c T ?_)
  have key : ∀ m, m ≤ N → (∀ j, j < m → f j ≠ r) → h_indexOf_2 c (nI m) T := by
    refine loopUp (N := N) (P := fun m => (∀ j, j < m → f j ≠ r) → h_indexOf_2 c (nI m) T) ?_ ?_
    · intro hj
      refine s_indexOf_2 c _ T ⟨fun _ => ?_, fun e => absurd (by rw [h20]; exact Int32.le_refl _) e⟩
      rw [hc]
      exact ⟨_, rfl, Or.inr ⟨hj, rfl⟩, rfl⟩
    · intro m hm next hj
      have bad : f m ≠ r → ∀ i, i ≤ p → h_indexOf_14 c (nI m) 0 (nI i) T := by
        intro hne
        refine loopUp (N := p) (P := fun i => h_indexOf_14 c (nI m) 0 (nI i) T) ?_ ?_
        · refine s_indexOf_14 c _ _ _ T ⟨fun _ => ⟨fun _ => ?_, fun e => absurd rfl e⟩, fun e => absurd (by rw [h12]; exact Int32.le_refl _) e⟩
          rw [nI_1]
          refine next (fun j hj1 => ?_)
          by_cases e : j = m
          · subst e; exact hne
          · exact hj j (by omega)
        · intro i hi nx
          refine s_indexOf_14 c _ _ _ T ⟨fun e => absurd e (by rw [h12]; exact nI_ge hi (by omega)), fun _ => ⟨fun _ => s_indexOf_50 c _ _ T (by rw [nI_1]; exact nx), fun e => absurd rfl e⟩⟩
      have good : ∀ i, i ≤ p → (∀ j, j < i → rAt (f m) j = rAt r j) → h_indexOf_14 c (nI m) 1 (nI i) T := by
        refine loopUp (N := p) (P := fun i => (∀ j, j < i → rAt (f m) j = rAt r j) → h_indexOf_14 c (nI m) 1 (nI i) T) ?_ ?_
        · intro he
          refine s_indexOf_14 c _ _ _ T ⟨fun _ => ⟨fun e => absurd e (by decide), fun _ => ?_⟩, fun e => absurd (by rw [h12]; exact Int32.le_refl _) e⟩
          rw [hc]
          refine ⟨_, rfl, Or.inl ⟨m, hm, ?_, rfl⟩, rfl⟩
          exact r_ext (by rw [(hok m hm).1, hr.1]) (fun i hi => he i (by rw [(hok m hm).1] at hi; exact hi))
        · intro i hi nx he
          refine s_indexOf_14 c _ _ _ T ⟨fun e => absurd e (by rw [h12]; exact nI_ge hi (by omega)), fun _ => ⟨fun e => absurd e (by decide), fun _ => ?_⟩⟩
          have b1 := (hok m hm).2.1 i hi
          have b2 := hr.2.1 i hi
          rw [tIx6, nI_clamp (show 6 * m + i < 2 ^ 31 by omega), nI_clamp (show i < 2 ^ 31 by omega), hf m hm i hi, hc0 i hi, x_inj (by omega) (by omega)]
          refine ⟨vpI (by omega), vpI (by omega), fun g => s_indexOf_50 c _ _ T ?_, fun g => ?_⟩
          · rw [nI_1]
            exact bad (fun q => g (by rw [q])) _ (by omega)
          · rw [nI_1]
            refine nx (fun j hj1 => ?_)
            by_cases e : j = i
            · subst e; exact g
            · exact he j (by omega)
      exact s_indexOf_2 c _ T ⟨fun e => absurd e (by rw [h20]; exact nI_ge hm (by omega)), fun _ => good 0 (Nat.zero_le _) (fun j hj => by omega)⟩
  exact key 0 (Nat.zero_le _) (fun j hj => by omega)
theorem ct_isBehind {T : tS} {p N : Nat} {f : Nat → List Nat} (hp : p ≤ 6) (h12 : T.1 12 = nI p) (hN : N ≤ 24) (hf : tMemF T p N f) (hok : ∀ m, m < N → rOk p (f m)) {a b : Nat} (ha : a < N) (hb : b < N) : tMi mX6_isBehind 0 (fun _ => [.int (nI a), .int (nI b)]) T (fun x T' => ((rlt p (f b) (f a) ∧ x = 1) ∨ (¬ rlt p (f b) (f a) ∧ x = 0)) ∧ T' = T) := by
  refine en_isBehind _ _ T _ (fun c hc => s_isBehind_0 c _ _ T ?_)
  have key : ∀ i, i ≤ p → (∀ j, j < i → rAt (f a) j = rAt (f b) j) → h_isBehind_2 c (nI a) (nI b) (nI i) T := by
    refine loopUp (N := p) (P := fun i => (∀ j, j < i → rAt (f a) j = rAt (f b) j) → h_isBehind_2 c (nI a) (nI b) (nI i) T) ?_ ?_
    · intro he
      refine s_isBehind_2 c _ _ _ T ⟨fun _ => ?_, fun e => absurd (by rw [h12]; exact Int32.le_refl _) e⟩
      rw [hc]
      refine ⟨_, rfl, Or.inr ⟨?_, rfl⟩, rfl⟩
      rintro ⟨k, k1, k2, k3⟩
      rw [he k k1] at k3
      omega
    · intro i hi nx he
      have b1 := (hok a ha).2.1 i hi
      have b2 := (hok b hb).2.1 i hi
      refine s_isBehind_2 c _ _ _ T ⟨fun e => absurd e (by rw [h12]; exact nI_ge hi (by omega)), fun _ => ?_⟩
      rw [tIx6, tIx6, nI_clamp (show 6 * a + i < 2 ^ 31 by omega), nI_clamp (show 6 * b + i < 2 ^ 31 by omega), hf a ha i hi, hf b hb i hi, x_inj (by omega) (by omega), nI_leI (by omega) (by omega)]
      refine ⟨vpI (by omega), vpI (by omega), fun g => ?_, fun g => ⟨vpI (by omega), vpI (by omega), fun g2 => ?_, fun g2 => ?_⟩⟩
      · rw [nI_1]
        refine nx (fun j hj1 => ?_)
        by_cases e : j = i
        · subst e; exact g
        · exact he j (by omega)
      · rw [hc]
        refine ⟨_, rfl, Or.inr ⟨?_, rfl⟩, rfl⟩
        rintro ⟨k, k1, k2, k3⟩
        rcases Nat.lt_trichotomy k i with q | q | q
        · rw [he k q] at k3; omega
        · subst q; omega
        · exact g (k2 i q).symm
      · rw [hc]
        exact ⟨_, rfl, Or.inl ⟨⟨i, hi, fun j hj => (he j hj).symm, by omega⟩, rfl⟩, rfl⟩
  exact key 0 (Nat.zero_le _) (fun j hj => by omega)
/-- two rows exchanged -/
def swF (f : Nat → List Nat) (a b : Nat) : Nat → List Nat := fun m => if m = a then f b else if m = b then f a else f m
theorem ct_exchanges {T : tS} {p N : Nat} {f : Nat → List Nat} (hp : p ≤ 6) (hN : N ≤ 24) (hf : tMemF T p N f) {a b : Nat} (ha : a < N) (hb : b < N) (hab : a ≠ b) : tMv mX6_exchanges 0 (fun _ => [.int (nI a), .int (nI b)]) T (fun T' => tMemF T' p N (swF f a b) ∧ tEq [21] T T') := by
  refine en_exchanges _ _ T _ (fun c hc => s_exchanges_0 c _ _ T ?_)
  have key : ∀ i, i ≤ 6 → ∀ T1, tEq [21] T T1 → (∀ j, j < 6 → T1.2.2.1 21 (6 * a + j) = if j < i then T.2.2.1 21 (6 * b + j) else T.2.2.1 21 (6 * a + j)) → (∀ j, j < 6 → T1.2.2.1 21 (6 * b + j) = if j < i then T.2.2.1 21 (6 * a + j) else T.2.2.1 21 (6 * b + j)) → (∀ m j, m ≠ a → m ≠ b → j < 6 → T1.2.2.1 21 (6 * m + j) = T.2.2.1 21 (6 * m + j)) → h_exchanges_2 c (nI a) (nI b) (nI i) T1 := by
    refine loopUp (N := 6) (P := fun i => ∀ T1, tEq [21] T T1 → (∀ j, j < 6 → T1.2.2.1 21 (6 * a + j) = if j < i then T.2.2.1 21 (6 * b + j) else T.2.2.1 21 (6 * a + j)) → (∀ j, j < 6 → T1.2.2.1 21 (6 * b + j) = if j < i then T.2.2.1 21 (6 * a + j) else T.2.2.1 21 (6 * b + j)) → (∀ m j, m ≠ a → m ≠ b → j < 6 → T1.2.2.1 21 (6 * m + j) = T.2.2.1 21 (6 * m + j)) → h_exchanges_2 c (nI a) (nI b) (nI i) T1) ?_ ?_
    · intro T1 he h1 h2 h3
      refine s_exchanges_2 c _ _ _ T1 ⟨fun _ => ?_, fun e => absurd (Int32.le_refl _) e⟩
      rw [hc]
      refine ⟨rfl, fun m hm i hi => ?_, he⟩
      unfold swF
      split
      · rename_i e; subst e
        rw [h1 i (by omega), if_pos (by omega)]
        exact hf b hb i hi
      · split
        · rename_i e; subst e
          rw [h2 i (by omega), if_pos (by omega)]
          exact hf a ha i hi
        · rename_i e1 e2
          rw [h3 m i e1 e2 (by omega)]
          exact hf m hm i hi
    · intro i hi nx T1 he h1 h2 h3
      refine s_exchanges_2 c _ _ _ T1 ⟨fun e => absurd e (nI_ge hi (by decide)), fun _ => ?_⟩
      rw [tIx6, tIx6, nI_clamp (show 6 * a + i < 2 ^ 31 by omega), nI_clamp (show 6 * b + i < 2 ^ 31 by omega), nI_1]
      refine ⟨vpI (by omega), vpI (by omega), vpI (by omega), vpI (by omega), nx _ ((he.trans (tEq.sA _ _ (by decide))).trans (tEq.sA _ _ (by decide))) (fun j hj => ?_) (fun j hj => ?_) (fun m j m1 m2 hj => ?_)⟩
      · rw [tA_as, up_ne (show 6 * a + j ≠ 6 * b + i by omega)]
        by_cases e : j = i
        · subst e
          rw [up_self, h2 j hj, if_neg (by omega), if_pos (by omega)]
        · rw [up_ne (show 6 * a + j ≠ 6 * a + i by omega), h1 j hj]
          by_cases q : j < i
          · rw [if_pos q, if_pos (by omega)]
          · rw [if_neg q, if_neg (by omega)]
      · rw [tA_as]
        by_cases e : j = i
        · subst e
          rw [up_self, h1 j hj, if_neg (by omega), if_pos (by omega)]
        · rw [up_ne (show 6 * b + j ≠ 6 * b + i by omega), up_ne (show 6 * b + j ≠ 6 * a + i by omega), h2 j hj]
          by_cases q : j < i
          · rw [if_pos q, if_pos (by omega)]
          · rw [if_neg q, if_neg (by omega)]
      · rw [tA_as, up_ne (show 6 * m + j ≠ 6 * b + i by omega), up_ne (show 6 * m + j ≠ 6 * a + i by omega)]
        exact h3 m j m1 m2 hj
  exact key 0 (by omega) T (tEq.refl _ _) (fun j hj => by simp) (fun j hj => by simp) (fun m j _ _ _ => rfl)
