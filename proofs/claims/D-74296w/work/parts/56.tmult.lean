/-! the twin's sums: products -/
theorem s_mult (c : tC) (x : Int32) (T : tS) (hv : vp_in x 64) (H1 : (0 < ab64 (T.2.2.2 34 x.toNatClampNeg) ∧ (1000000000000 : Int64) / ab64 (T.2.2.2 34 x.toNatClampNeg) < ab64 (T.2.2.2 35 x.toNatClampNeg)) → h_multiplies_89 c x (tI T 39 1)) (H2 : ¬ (0 < ab64 (T.2.2.2 34 x.toNatClampNeg) ∧ (1000000000000 : Int64) / ab64 (T.2.2.2 34 x.toNatClampNeg) < ab64 (T.2.2.2 35 x.toNatClampNeg)) → h_multiplies_89 c x T) (hx : ¬ T.1 26 ≤ x) : h_multiplies_2 c x T := by
  refine s_multiplies_2 c x T ⟨fun e => absurd e hx, fun _ => ⟨hv, ?_⟩⟩
  generalize T.2.2.2 34 x.toNatClampNeg = a at *
  generalize T.2.2.2 35 x.toNatClampNeg = b at *
  have n0 : ∀ z : Int64, 0 < z → ¬ z = 0 := fun z h e => by subst e; exact absurd h (by decide)
  have core : ∀ z w : Int64, ab64 a = z → ab64 b = w → (lg_cmp z 0 ≤ 0 → h_multiplies_89 c x T) ∧ (¬ lg_cmp z 0 ≤ 0 → ¬ z = 0 ∧ ((lg_cmp w (1000000000000 / z) ≤ 0 → h_multiplies_89 c x T) ∧ (¬ lg_cmp w (1000000000000 / z) ≤ 0 → h_multiplies_89 c x (tI T 39 1)))) := by
    intro z w hz hw
    rw [hz, hw] at H1 H2
    refine ⟨fun e => H2 (fun q => ?_), fun e => ?_⟩
    · rw [lg_cmp_le, Int64.le_iff_toInt_le] at e
      rw [Int64.lt_iff_toInt_lt] at q
      omega
    · rw [lg_cmp_le, Int64.le_iff_toInt_le] at e
      have zp : 0 < z := by rw [Int64.lt_iff_toInt_lt]; omega
      refine ⟨n0 z zp, fun e2 => H2 (fun q => ?_), fun e2 => H1 ⟨zp, ?_⟩⟩
      · rw [lg_cmp_le, Int64.le_iff_toInt_le] at e2
        have := q.2
        rw [Int64.lt_iff_toInt_lt] at this
        omega
      · rw [lg_cmp_le, Int64.le_iff_toInt_le] at e2
        rw [Int64.lt_iff_toInt_lt]
        omega
  have abp : ∀ z : Int64, 0 ≤ lg_cmp z 0 → ab64 z = z := fun z e => by
    rw [lg_cmp_ge, Int64.le_iff_toInt_le] at e
    unfold ab64
    rw [if_neg (by rw [Int64.lt_iff_toInt_lt]; omega)]
  have abn : ∀ z : Int64, ¬ 0 ≤ lg_cmp z 0 → ab64 z = -z := fun z e => by
    rw [lg_cmp_ge, Int64.le_iff_toInt_le] at e
    unfold ab64
    rw [if_pos (by rw [Int64.lt_iff_toInt_lt]; omega)]
  refine ⟨fun e => ⟨hv, hv, fun e2 => ⟨hv, core _ _ (abp a e) (abp b e2)⟩, fun e2 => ⟨hv, core _ _ (abp a e) (abn b e2)⟩⟩, fun e => ⟨hv, hv, fun e2 => ⟨hv, core _ _ (abn a e) (abp b e2)⟩, fun e2 => ⟨hv, core _ _ (abn a e) (abn b e2)⟩⟩⟩
/-- two rows may be multiplied -/
def mulOk (S : Nat) (a b : Nat → Int64) : Prop := ∀ j, j < S → ¬ bigP (a j) (b j)
theorem ct_multiplies {T0 : tS} {S : Nat} (h26 : T0.1 26 = nI S) (hS : S ≤ 60) (h39 : T0.1 39 = 0 ∨ T0.1 39 = 1) {a b : Nat → Int64} (hA : T0.1 39 = 0 → tSeg T0 34 0 S a ∧ tSeg T0 35 0 S b ∧ ∀ j, j < S → inL (a j) ∧ inL (b j)) : tMv mX6_multiplies 0 (fun _ => []) T0 (fun T' => tEq [34, 39] T0 T' ∧ (T'.1 39 = 0 ∨ T'.1 39 = 1) ∧ (T'.1 39 = 0 ↔ T0.1 39 = 0 ∧ mulOk S a b) ∧ (T'.1 39 = 0 → tSeg T' 34 0 S (fun j => a j * b j))) := by
  refine en_multiplies T0 _ (fun c hc => s_multiplies_0 c T0 ?_)
  have bad : ¬ (T0.1 39 = 0 ∧ mulOk S a b) → ∀ j, j ≤ S → ∀ T, tEq [34, 39] T0 T → T.1 39 = 1 → h_multiplies_2 c (nI j) T := by
    intro hbad
    refine loopUp (N := S) (P := fun j => ∀ T, tEq [34, 39] T0 T → T.1 39 = 1 → h_multiplies_2 c (nI j) T) ?_ ?_
    · intro T he hb
      refine s_multiplies_2 c _ T ⟨fun _ => ?_, fun e => absurd (by rw [he.i 26 (by decide), h26]; exact Int32.le_refl _) e⟩
      rw [hc]
      refine ⟨rfl, he, Or.inr hb, ⟨fun e => by rw [hb] at e; exact absurd e (by decide), fun e => absurd e hbad⟩, fun e => by rw [hb] at e; exact absurd e (by decide)⟩
    · intro j hj nx T he hb
      have go : ∀ T, tEq [34, 39] T0 T → T.1 39 = 1 → h_multiplies_89 c (nI j) T := by
        intro T he hb
        refine s_multiplies_89 c _ T ⟨fun e => by rw [hb] at e; exact absurd e (by decide), fun _ => ⟨vpI (by omega), ?_⟩⟩
        rw [nI_1]
        exact nx _ (he.trans (tEq.sB _ _ (by decide))) hb
      refine s_mult c _ T (vpI (by omega)) (fun _ => go _ (he.trans (tEq.sI _ _ (by decide))) tI_is) (fun _ => go T he hb) (by rw [he.i 26 (by decide), h26]; exact nI_ge hj (by omega))
  rcases h39 with h0 | h1
  · obtain ⟨hA1, hA2, hA3⟩ := hA h0
    refine loopUp (N := S) (P := fun j => ∀ T, tEq [34, 39] T0 T → T.1 39 = 0 → (∀ i, i < j → T.2.2.2 34 i = a i * b i ∧ ¬ bigP (a i) (b i)) → (∀ i, j ≤ i → i < S → T.2.2.2 34 i = a i) → h_multiplies_2 c (nI j) T) ?_ ?_ 0 (Nat.zero_le _) T0 (tEq.refl _ _) h0 (fun i hi => absurd hi (Nat.not_lt_zero _)) (fun i _ hi => by rw [← hA1 i hi, Nat.zero_add])
    · intro T he hb hd _
      refine s_multiplies_2 c _ T ⟨fun _ => ?_, fun e => absurd (by rw [he.i 26 (by decide), h26]; exact Int32.le_refl _) e⟩
      rw [hc]
      exact ⟨rfl, he, Or.inl hb, ⟨fun _ => ⟨h0, fun j hj => (hd j hj).2⟩, fun _ => hb⟩, fun _ i hi => by rw [Nat.zero_add]; exact (hd i hi).1⟩
    · intro j hj nx T he hb hd hr
      have ea : T.2.2.2 34 (nI j).toNatClampNeg = a j := by rw [nI_clamp (by omega)]; exact hr j (Nat.le_refl _) hj
      have eb : T.2.2.2 35 (nI j).toNatClampNeg = b j := by rw [nI_clamp (by omega), he.b 35 (by decide), ← hA2 j hj, Nat.zero_add]
      have hin := hA3 j hj
      refine s_mult c _ T (vpI (by omega)) (fun g => ?_) (fun g => ?_) (by rw [he.i 26 (by decide), h26]; exact nI_ge hj (by omega))
      · rw [ea, eb, bigP_div hin.1 hin.2] at g
        refine s_multiplies_89 c _ _ ⟨fun e => by rw [tI_is] at e; exact absurd e (by decide), fun _ => ⟨vpI (by omega), ?_⟩⟩
        rw [nI_1]
        exact bad (fun q => q.2 j hj g) (j + 1) hj _ ((he.trans (tEq.sI _ _ (by decide))).trans (tEq.sB _ _ (by decide))) (by rw [tB_i, tI_is])
      · rw [ea, eb, bigP_div hin.1 hin.2] at g
        refine s_multiplies_89 c _ _ ⟨fun _ => ⟨vpI (by omega), vpI (by omega), vpI (by omega), ?_⟩, fun e => absurd hb e⟩
        rw [ea, eb, nI_1, nI_clamp (by omega)]
        refine nx _ (he.trans (tEq.sB _ _ (by decide))) (by rw [tB_i]; exact hb) (fun i hi => ?_) (fun i hi1 hi2 => ?_)
        · rw [tB_bs]
          by_cases e : i = j
          · subst e; exact ⟨up_self, g⟩
          · rw [up_ne e]; exact hd i (by omega)
        · rw [tB_bs, up_ne (by omega)]; exact hr i (by omega) hi2
  · exact bad (fun q => by rw [h1] at q; exact absurd q.1 (by decide)) 0 (Nat.zero_le _) T0 (tEq.refl _ _) h1
theorem ct_marksOf {T0 : tS} {S : Nat} {mk : Nat → Nat → Nat} (h : tMk T0 S mk) {l ft : Nat} (hl : l < 40) (ha : ft < 66) (hk : tKd ft = 3) (hne : ft ≠ 33) (hS : S ≤ tLn ft) : tMv mX6_marksOf 1 (fun b => [.int (nI l), .ref (tAd b ft)]) T0 (fun T' => tEq [ft] T0 T' ∧ tSeg T' ft 0 S (mkAt S mk (fun i => T0.2.2.2 33 (64 * l + i)))) := by
  obtain ⟨s1, s60, h26, h31, hd⟩ := id h
  have hl2 := tLn_lt ft ha
  have n26 : 26 ∉ [ft] := fun q => by rw [List.mem_singleton] at q; subst q; exact absurd hk (by decide)
  have n31 : 31 ∉ [ft] := fun q => by rw [List.mem_singleton] at q; subst q; exact absurd hk (by decide)
  refine en_marksOf _ ft T0 _ (fun c hc => s_marksOf_0 c _ _ T0 ha hk ?_)
  refine loopUp (N := S) (P := fun j => ∀ T, tEq [ft] T0 T → (∀ i, i < j → T.2.2.2 ft i = mkAt S mk (fun i => T0.2.2.2 33 (64 * l + i)) i) → h_marksOf_2 c (nI l) ft (nI j) T) ?_ ?_ 0 (Nat.zero_le _) T0 (tEq.refl _ _) (fun i hi => absurd hi (Nat.not_lt_zero _))
  · intro T he hd
    refine s_marksOf_2 c _ _ _ T ha hk ⟨fun _ => ?_, fun e => absurd (by rw [he.i 26 n26, h26]; exact Int32.le_refl _) e⟩
    rw [hc]
    exact ⟨rfl, he, fun i hi => by rw [Nat.zero_add]; exact hd i hi⟩
  · intro j hj nx T he hd
    refine s_marksOf_2 c _ _ _ T ha hk ⟨fun e => absurd e (by rw [he.i 26 n26, h26]; exact nI_ge hj (by omega)), fun _ => ?_⟩
    rw [show (64 : Int32) * nI l = nI (64 * l) from by rw [show (64 : Int32) = nI 64 from rfl, pk_mul]]
    refine ⟨_, ct_markAt (h.same he n26 n31) (by decide) (by decide) (show 64 * l + S ≤ tLn 33 from by show _ ≤ 2560; omega) hj, ?_⟩
    rintro r T5 ⟨rfl, rfl⟩
    rw [nI_1, nI_clamp (show j < 2 ^ 31 by omega)]
    refine ⟨vpI (by omega) (by omega), nx _ (he.trans (tEq.sB _ _ (by simp))) (fun i hi => ?_)⟩
    rw [tB_bs]
    by_cases e : i = j
    · subst e
      rw [up_self, he.b 33 (by simpa using hne.symm)]
    · rw [up_ne e]; exact hd i (by omega)
