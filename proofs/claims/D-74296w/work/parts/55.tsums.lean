/-! the twin's sums -/
theorem kL_int {m : Nat} (h : m < 2 ^ 31) : (kL m).toInt = m := by unfold kL; rw [nI_l h, lN_toInt h]
theorem kL_n0 {m : Nat} (h1 : 1 ≤ m) (h : m < 2 ^ 31) : ¬ kL m = 0 := fun e => by
  have := kL_int h
  rw [e] at this
  have h0 : (0 : Int64).toInt = 0 := by decide
  rw [h0] at this
  omega
theorem tLn_lt : ∀ f, f < 66 → tLn f < 65537 := by decide +kernel
def tMk (T : tS) (S : Nat) (mk : Nat → Nat → Nat) : Prop := 1 ≤ S ∧ S ≤ 60 ∧ T.1 26 = nI S ∧ (∀ i j, i < S → j < S → T.2.2.1 31 (64 * i + j) = nI (mk i j)) ∧ ∀ j, j < S → 1 ≤ mk j j ∧ mk j j ≤ 24
theorem tMk.same {S : List Nat} {T T' : tS} {n : Nat} {mk : Nat → Nat → Nat} (h : tMk T n mk) (e : tEq S T T') (h1 : 26 ∉ S) (h2 : 31 ∉ S) : tMk T' n mk := ⟨h.1, h.2.1, by rw [e.i 26 h1]; exact h.2.2.1, fun i j hi hj => by rw [e.a 31 h2]; exact h.2.2.2.1 i j hi hj, h.2.2.2.2⟩
theorem ct_markAt {T : tS} {S : Nat} {mk : Nat → Nat → Nat} (h : tMk T S mk) {fa o j : Nat} (ha : fa < 66) (hk : tKd fa = 3) (ho : o + S ≤ tLn fa) (hj : j < S) : tMl mX6_markAt 0 (fun b => [.ref (tAd b fa), .int (nI o), .int (nI j)]) T (fun r T' => r = mkAt S mk (fun i => T.2.2.2 fa (o + i)) j ∧ T' = T) := by
  obtain ⟨s1, s60, h26, h31, hd⟩ := h
  have hl := tLn_lt fa ha
  refine en_markAt fa _ _ T _ (fun c hc => s_markAt_0 c _ _ _ T ha hk ?_)
  refine loopUp (N := S) (P := fun i => h_markAt_6 c fa (nI o) (nI j) (sumR (fun i => T.2.2.2 fa (o + i) * kL (mk i j)) i) (nI i) T) ?_ ?_ 0 (Nat.zero_le _)
  · refine s_markAt_6 c _ _ _ _ _ T ha hk ⟨fun _ => ?_, fun e => absurd (by rw [h26]; exact Int32.le_refl _) e⟩
    rw [hc]
    exact ⟨_, rfl, rfl, rfl⟩
  · intro i hi nx
    refine s_markAt_6 c _ _ _ _ _ T ha hk ⟨fun e => absurd e (by rw [h26]; exact nI_ge hi (by omega)), fun _ => ?_⟩
    rw [nI_add, tIx64, nI_clamp (show o + i < 2 ^ 31 by omega), nI_clamp (show 64 * i + j < 2 ^ 31 by omega), h31 i j hi hj, nI_1]
    exact ⟨vpI (by omega) (by omega), vpI (by omega), nx⟩
theorem ct_isFit {T : tS} {S : Nat} {mk : Nat → Nat → Nat} (h : tMk T S mk) {fa o : Nat} (ha : fa < 66) (hk : tKd fa = 3) (ho : o + S ≤ tLn fa) : tMi mX6_isFit 1 (fun b => [.ref (tAd b fa), .int (nI o)]) T (fun r T' => ((fitS S mk (fun i => T.2.2.2 fa (o + i)) ∧ r = 1) ∨ (¬ fitS S mk (fun i => T.2.2.2 fa (o + i)) ∧ r = 0)) ∧ T' = T) := by
  obtain ⟨s1, s60, h26, h31, hd⟩ := id h
  have hl := tLn_lt fa ha
  refine en_isFit fa _ T _ (fun c hc => s_isFit_0 c _ _ T ha hk ?_)
  have bad2 : ¬ fitS S mk (fun i => T.2.2.2 fa (o + i)) → ∀ j, j ≤ S → h_isFit_51 c fa (nI o) 0 (nI j) T := by
    intro hn j hj
    have fin : narrow .boolean (.int (0 : Int32)) = .int 0 ∧ c.2.2.2.2.2.2 (some (.int 0)) T := by
      rw [hc]
      exact ⟨by decide, _, rfl, Or.inr ⟨hn, rfl⟩, rfl⟩
    exact s_isFit_51 c _ _ _ _ T ha hk ⟨fun _ => fin, fun _ => ⟨fun _ => fin, fun e => absurd rfl e⟩⟩
  have good2 : (∀ i, i < S → inL (T.2.2.2 fa (o + i))) → ∀ j, j ≤ S → (∀ k, k < j → inL (mkAt S mk (fun i => T.2.2.2 fa (o + i)) k)) → h_isFit_51 c fa (nI o) 1 (nI j) T := by
    intro hr
    refine loopUp (N := S) (P := fun j => (∀ k, k < j → inL (mkAt S mk (fun i => T.2.2.2 fa (o + i)) k)) → h_isFit_51 c fa (nI o) 1 (nI j) T) ?_ ?_
    · intro hm
      refine s_isFit_51 c _ _ _ _ T ha hk ⟨fun _ => ?_, fun e => absurd (by rw [h26]; exact Int32.le_refl _) e⟩
      rw [hc]
      exact ⟨by decide, _, rfl, Or.inl ⟨⟨hr, hm⟩, rfl⟩, rfl⟩
    · intro j hj nx hm
      refine s_isFit_51 c _ _ _ _ T ha hk ⟨fun e => absurd e (by rw [h26]; exact nI_ge hj (by omega)), fun _ => ⟨fun e => absurd e (by decide), fun _ => ⟨_, ct_markAt h ha hk ho hj, ?_⟩⟩⟩
      rintro r T6 ⟨rfl, rfl⟩
      rw [nI_1]
      by_cases q : inL (mkAt S mk (fun i => T6.2.2.2 fa (o + i)) j)
      · rw [zI_t q]
        refine nx (fun k hk => ?_)
        by_cases e : k = j
        · subst e; exact q
        · exact hm k (by omega)
      · rw [zI_f q]
        exact bad2 (fun z => q (z.2 j hj)) (j + 1) hj
  have bad1 : ¬ fitS S mk (fun i => T.2.2.2 fa (o + i)) → ∀ i, i ≤ S → h_isFit_5 c fa (nI o) 0 (nI i) T := by
    intro hn
    refine loopUp (N := S) (P := fun i => h_isFit_5 c fa (nI o) 0 (nI i) T) ?_ ?_
    · exact s_isFit_5 c _ _ _ _ T ha hk ⟨fun _ => bad2 hn 0 (Nat.zero_le _), fun e => absurd (by rw [h26]; exact Int32.le_refl _) e⟩
    · intro i hi nx
      refine s_isFit_5 c _ _ _ _ T ha hk ⟨fun e => absurd e (by rw [h26]; exact nI_ge hi (by omega)), fun _ => ⟨fun _ => s_isFit_40 c _ _ _ T ha hk ?_, fun e => absurd rfl e⟩⟩
      rw [nI_1]
      exact nx
  refine loopUp (N := S) (P := fun i => (∀ k, k < i → inL (T.2.2.2 fa (o + k))) → h_isFit_5 c fa (nI o) 1 (nI i) T) ?_ ?_ 0 (Nat.zero_le _) (fun k hk => absurd hk (Nat.not_lt_zero _))
  · intro hr
    exact s_isFit_5 c _ _ _ _ T ha hk ⟨fun _ => good2 hr 0 (Nat.zero_le _) (fun k hk => absurd hk (Nat.not_lt_zero _)), fun e => absurd (by rw [h26]; exact Int32.le_refl _) e⟩
  · intro i hi nx hr
    refine s_isFit_5 c _ _ _ _ T ha hk ⟨fun e => absurd e (by rw [h26]; exact nI_ge hi (by omega)), fun _ => ⟨fun e => absurd e (by decide), fun _ => ?_⟩⟩
    rw [nI_add, nI_clamp (show o + i < 2 ^ 31 by omega)]
    refine ⟨vpI (by omega) (by omega), fun e => s_isFit_40 c _ _ _ T ha hk ?_, fun e => ?_⟩
    · rw [zI_0] at e
      rw [nI_1]
      exact bad1 (fun z => e (z.1 i hi)) (i + 1) hi
    · rw [zI_n0] at e
      rw [nI_1]
      refine nx (fun k hk => ?_)
      by_cases q : k = i
      · subst q; exact e
      · exact hr k (by omega)
/-- a stretch of a long array -/
def tSeg (T : tS) (fa o S : Nat) (v : Nat → Int64) : Prop := ∀ i, i < S → T.2.2.2 fa (o + i) = v i
theorem ct_numbers {T0 : tS} {S : Nat} {mk : Nat → Nat → Nat} (h : tMk T0 S mk) {fa ft o : Nat} (ha : fa < 66) (hk : tKd fa = 3) (ha2 : ft < 66) (hk2 : tKd ft = 3) (hne : fa ≠ ft) (hS : S ≤ tLn fa) (ho : o + S ≤ tLn ft) {a : Nat → Int64} (hA : tSeg T0 fa 0 S a) : tMv mX6_numbers 0 (fun b => [.ref (tAd b fa), .ref (tAd b ft), .int (nI o)]) T0 (fun T' => tSeg T' ft o S (slv S mk a) ∧ tEq [ft] T0 T' ∧ ∀ k, k < o ∨ o + S ≤ k → T'.2.2.2 ft k = T0.2.2.2 ft k) := by
  obtain ⟨s1, s60, h26, h31, hd⟩ := id h
  have hl := tLn_lt fa ha
  have hl2 := tLn_lt ft ha2
  refine en_numbers fa ft _ T0 _ (fun c hc => s_numbers_0 c _ _ _ T0 ha hk ha2 hk2 ?_)
  have key : ∀ d, d ≤ S → ∀ T, tEq [ft] T0 T → (∀ k, k < o ∨ o + S ≤ k → T.2.2.2 ft k = T0.2.2.2 ft k) → (∀ j, d ≤ j → j < S → T.2.2.2 ft (o + j) = slv S mk a j) → h_numbers_8 c fa ft (nI o) (nI d - 1) T := by
    intro d
    induction d with
    | zero =>
      intro _ T he hout hin
      refine s_numbers_8 c _ _ _ _ T ha hk ha2 hk2 ⟨fun _ => ?_, fun e => absurd (by decide) e⟩
      rw [hc]
      exact ⟨rfl, fun i hi => hin i (Nat.zero_le _) hi, he, hout⟩
    | succ d ih =>
      intro hd1 T he hout hin
      have h26' : T.1 26 = nI S := by rw [he.i 26]; exact h26; intro q; rw [List.mem_singleton] at q; subst q; exact absurd hk2 (by decide)
      have h31' : T.2.2.1 31 = T0.2.2.1 31 := he.a 31 (by intro q; rw [List.mem_singleton] at q; subst q; exact absurd hk2 (by decide))
      have hA' : T.2.2.2 fa = T0.2.2.2 fa := he.b fa (by simpa using hne)
      rw [nI_pred]
      refine s_numbers_8 c _ _ _ _ T ha hk ha2 hk2 ⟨fun e => absurd e (nI_pos (by omega)), fun _ => ⟨vpI (by omega) (by omega), ?_⟩⟩
      have inner : ∀ i, i ≤ S - (d + 1) → h_numbers_25 c fa ft (nI o) (nI d) (a d - sumR (fun t => slv S mk a (d + 1 + t) * kL (mk (d + 1 + t) d)) i) (nI (d + 1 + i)) T := by
        refine loopUp (N := S - (d + 1)) (P := fun i => h_numbers_25 c fa ft (nI o) (nI d) (a d - sumR (fun t => slv S mk a (d + 1 + t) * kL (mk (d + 1 + t) d)) i) (nI (d + 1 + i)) T) ?_ ?_
        · refine s_numbers_25 c _ _ _ _ _ _ T ha hk ha2 hk2 ⟨fun _ => ?_, fun e => absurd (by rw [h26', show d + 1 + (S - (d + 1)) = S by omega]; exact Int32.le_refl _) e⟩
          rw [tIx64, nI_add, nI_clamp (show 64 * d + d < 2 ^ 31 by omega), nI_clamp (show o + d < 2 ^ 31 by omega), h31', h31 d d (by omega) (by omega)]
          have hdd := hd d (by omega)
          refine ⟨vpI (by omega), kL_n0 hdd.1 (by omega), vpI (by omega) (by omega), ?_⟩
          have em : nI d + (-1) = nI d - 1 := by rw [Int32.sub_eq_add_neg]
          rw [em]
          refine ih (by omega) _ (he.trans (tEq.sB _ _ (by simp))) (fun k hk1 => ?_) (fun j hj1 hj2 => ?_)
          · rw [tB_bs, up_ne (by omega)]; exact hout k hk1
          · rw [tB_bs]
            by_cases e : j = d
            · subst e; rw [up_self, slv_ok S mk a j hj2]; rfl
            · rw [up_ne (by omega)]; exact hin j (by omega) hj2
        · intro i hi nx
          refine s_numbers_25 c _ _ _ _ _ _ T ha hk ha2 hk2 ⟨fun e => absurd e (by rw [h26']; exact nI_ge (by omega) (by omega)), fun _ => ?_⟩
          rw [tIx64, nI_add, nI_clamp (show 64 * (d + 1 + i) + d < 2 ^ 31 by omega), nI_clamp (show o + (d + 1 + i) < 2 ^ 31 by omega), h31', h31 (d + 1 + i) d (by omega) (by omega), nI_1, hin (d + 1 + i) (by omega) (by omega), i64_subsub]
          exact ⟨vpI (by omega) (by omega), vpI (by omega), nx⟩
      have := inner 0 (Nat.zero_le _)
      rw [show sumR (fun t => slv S mk a (d + 1 + t) * kL (mk (d + 1 + t) d)) 0 = 0 from rfl, i64_sub0] at this
      rw [nI_1, nI_clamp (show d < 2 ^ 31 by omega), hA', ← Nat.zero_add d, hA d (by omega), Nat.zero_add]
      exact this
  have := key S (Nat.le_refl _) T0 (tEq.refl _ _) (fun _ _ => rfl) (fun j h1 h2 => by omega)
  rw [h26]
  exact this
