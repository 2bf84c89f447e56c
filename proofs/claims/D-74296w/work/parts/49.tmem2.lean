/-! the twin builds the members: the whole -/
def tMov (T : tS) (p q : Nat) (mv : Nat → List Nat) : Prop := 1 ≤ p ∧ p ≤ 6 ∧ q ≤ 4 ∧ (∀ k, k < q → rOk p (mv k)) ∧ T.1 12 = nI p ∧ T.1 13 = nI q ∧ ∀ k i, k < q → i < p → T.2.2.1 15 (6 * k + i) = nI (rAt (mv k) i)
theorem tMov.same {S : List Nat} {T T' : tS} {p q : Nat} {mv : Nat → List Nat} (h : tMov T p q mv) (e : tEq S T T') (h1 : 12 ∉ S) (h2 : 13 ∉ S) (h3 : 15 ∉ S) : tMov T' p q mv := by
  obtain ⟨a1, a2, a3, a4, a5, a6, a7⟩ := h
  exact ⟨a1, a2, a3, a4, by rw [e.i 12 h1]; exact a5, by rw [e.i 13 h2]; exact a6, fun k i hk hi => by rw [e.a 15 h3]; exact a7 k i hk hi⟩
abbrev tSm : List Nat := [20, 21, 22, 23, 24]
/-- what is found so far -/
def tFnd (T : tS) (p q : Nat) (mv : Nat → List Nat) (N : Nat) (f : Nat → List Nat) : Prop := 1 ≤ N ∧ N ≤ 24 ∧ T.1 20 = nI N ∧ tMemF T p N f ∧ (∀ i, i < N → Rch p q mv (f i)) ∧ (∀ i j, i < N → j < N → f i = f j → i = j) ∧ ∃ i, i < N ∧ f i = List.range p
theorem tFnd.same {S : List Nat} {T T' : tS} {p q : Nat} {mv : Nat → List Nat} {N : Nat} {f : Nat → List Nat} (h : tFnd T p q mv N f) (e : tEq S T T') (h1 : 20 ∉ S) (h2 : 21 ∉ S) : tFnd T' p q mv N f := ⟨h.1, h.2.1, by rw [e.i 20 h1]; exact h.2.2.1, h.2.2.2.1.same e h2, h.2.2.2.2⟩
theorem notFew {p q : Nat} {mv : Nat → List Nat} {f : Nat → List Nat} {r : List Nat} (h1 : ∀ i, i < 24 → Rch p q mv (f i)) (h2 : ∀ i j, i < 24 → j < 24 → f i = f j → i = j) (hr : Rch p q mv r) (hn : ∀ i, i < 24 → f i ≠ r) : ¬ rFew p q mv := by
  rintro ⟨M, m1, m2⟩
  have nd : (r :: (List.range 24).map f).Nodup := by
    rw [List.nodup_cons]
    refine ⟨fun hm => ?_, ?_⟩
    · obtain ⟨x, hx, e⟩ := List.mem_map.mp hm
      exact hn x (List.mem_range.mp hx) e
    · rw [List.nodup_iff_pairwise_ne, List.pairwise_map]
      refine List.Pairwise.imp_of_mem ?_ (List.nodup_range (n := 24))
      intro a b ha hb hab e
      exact hab (h2 a b (List.mem_range.mp ha) (List.mem_range.mp hb) e)
  have := nodup_le nd (M := M) (fun x hx => by
    rcases List.mem_cons.mp hx with e | hx
    · rw [e]; exact m1 r hr
    · obtain ⟨z, hz, e⟩ := List.mem_map.mp hx
      exact m1 x (e ▸ h1 z (List.mem_range.mp hz)))
  simp at this
  omega
/-- the last part: what comes of two, which undoes one -/
theorem t_prods {c : tC} {p q : Nat} {mv : Nat → List Nat} {N : Nat} {f : Nat → List Nat} {T0 : tS} (hm : tMov T0 p q mv) (hg : rGrp p q mv N f) (hf : tMemF T0 p N f) (h20 : T0.1 20 = nI N) (next : ∀ T, tEq [22, 23, 24] T0 T → tTab T N (mulF f N) (invF f N) → c.2.2.2.2.2.2 (some (.int 1)) T) :
    ∀ a, a ≤ N → ∀ T, tEq [22, 23, 24] T0 T → (∀ x y, x < a → y < N → T.2.2.1 23 (24 * x + y) = nI (mulF f N x y)) → (∀ x, x < a → T.2.2.1 24 x = nI (invF f N x)) → h_buildsMembers_220 c (nI a) T := by
  have hN := hg.1
  obtain ⟨p1, p6, q4, mok, h12, h13, h15⟩ := id hm
  have ok : ∀ x, x < N → rOk p (f x) := fun x hx => ((hg.2.1 _).mpr ⟨x, hx, rfl⟩).ok mok
  refine loopUp (N := N) (P := fun a => ∀ T, tEq [22, 23, 24] T0 T → (∀ x y, x < a → y < N → T.2.2.1 23 (24 * x + y) = nI (mulF f N x y)) → (∀ x, x < a → T.2.2.1 24 x = nI (invF f N x)) → h_buildsMembers_220 c (nI a) T) ?_ ?_
  · intro T he h1 h2
    have h20' : T.1 20 = nI N := by rw [he.i 20 (by decide)]; exact h20
    exact s_buildsMembers_220 c _ T ⟨fun _ => next T he ⟨hg.isG mok, hN, h20', h1, h2⟩, fun e => absurd (by rw [h20']; exact Int32.le_refl _) e⟩
  · intro a ha nx T he h1 h2
    have h20' : T.1 20 = nI N := by rw [he.i 20 (by decide)]; exact h20
    refine s_buildsMembers_220 c _ T ⟨fun e => absurd e (by rw [h20']; exact nI_ge ha (by omega)), fun _ => ?_⟩
    obtain ⟨iv1, iv2⟩ := invF_ok mok hg ha
    refine loopUp (N := N) (P := fun b => ∀ T, tEq [22, 23, 24] T0 T → (∀ x y, (x < a ∧ y < N) ∨ (x = a ∧ y < b) → T.2.2.1 23 (24 * x + y) = nI (mulF f N x y)) → (∀ x, x < a → T.2.2.1 24 x = nI (invF f N x)) → (invF f N a < b → T.2.2.1 24 a = nI (invF f N a)) → h_buildsMembers_230 c (nI a) (nI b) T) ?_ ?_ 0 (Nat.zero_le _) T he (fun x y h => h1 x y (by omega) (by omega)) h2 (fun h => by omega)
    · intro T he h1 h2 h3
      have h20' : T.1 20 = nI N := by rw [he.i 20 (by decide)]; exact h20
      refine s_buildsMembers_230 c _ _ T ⟨fun _ => ?_, fun e => absurd (by rw [h20']; exact Int32.le_refl _) e⟩
      rw [nI_1]
      refine nx T he (fun x y hx hy => h1 x y (by omega)) (fun x hx => ?_)
      by_cases e : x = a
      · subst e; exact h3 iv1
      · exact h2 x (by omega)
    · intro b hb nx2 T he h1 h2 h3
      have h20' : T.1 20 = nI N := by rw [he.i 20 (by decide)]; exact h20
      refine s_buildsMembers_230 c _ _ T ⟨fun e => absurd e (by rw [h20']; exact nI_ge hb (by omega)), fun _ => ?_⟩
      refine loopUp (N := p) (P := fun i => ∀ T, tEq [22, 23, 24] T0 T → (∀ j, j < i → T.2.2.1 22 j = nI (rAt (thn (f a) (f b)) j)) → (∀ x y, (x < a ∧ y < N) ∨ (x = a ∧ y < b) → T.2.2.1 23 (24 * x + y) = nI (mulF f N x y)) → (∀ x, x < a → T.2.2.1 24 x = nI (invF f N x)) → (invF f N a < b → T.2.2.1 24 a = nI (invF f N a)) → h_buildsMembers_240 c (nI a) (nI b) (nI i) T) ?_ ?_ 0 (Nat.zero_le _) T he (fun j hj => by omega) h1 h2 h3
      · intro T he hcm h1 h2 h3
        have hm' := hm.same he (by decide) (by decide) (by decide)
        have h20' : T.1 20 = nI N := by rw [he.i 20 (by decide)]; exact h20
        refine s_buildsMembers_240 c _ _ _ T ⟨fun _ => ?_, fun e => absurd (by rw [hm'.2.2.2.2.1]; exact Int32.le_refl _) e⟩
        refine ⟨_, ct_indexOf p6 hm'.2.2.2.2.1 hN h20' (hf.same he (by decide)) ok (rOk_thn (ok a ha) (ok b hb)) hcm, ?_⟩
        rintro r T5 ⟨hx, rfl⟩
        have hr : r = nI (mulF f N a b) := by
          obtain ⟨l1, l2⟩ := mulF_ok mok hg ha hb
          rcases hx with ⟨m, m1, m2, m3⟩ | ⟨m1, -⟩
          · rw [m3, mulF_uniq hg m1 m2]
          · exact absurd l2 (m1 _ l1)
        have hml := (mulF_ok mok hg ha hb).1
        rw [hr, tIx, up_self, nI_clamp (show 24 * a + b < 2 ^ 31 by omega), nI_clamp (show a < 2 ^ 31 by omega), show (0 : Int32) = nI 0 from rfl, x_inj (by omega) (by omega)]
        have g1 : ∀ x y, (x < a ∧ y < N) ∨ (x = a ∧ y < b + 1) → va_up (T5.2.2.1 23) (24 * a + b) (nI (mulF f N a b)) (24 * x + y) = nI (mulF f N x y) := by
          intro x y h
          by_cases e : x = a ∧ y = b
          · obtain ⟨rfl, rfl⟩ := e; exact up_self
          · rw [up_ne (by omega)]; exact h1 x y (by omega)
        refine ⟨vpI (by omega), vpI (by omega), fun g => s_buildsMembers_317 c _ _ _ ?_, fun g => ⟨vpI (by omega), s_buildsMembers_317 c _ _ _ ?_⟩⟩
        · rw [nI_1]
          refine nx2 _ (he.trans (tEq.sA _ _ (by decide))) (fun x y h => by rw [tA_as]; exact g1 x y h) (fun x hx => by rw [tA_an (by decide)]; exact h2 x hx) (fun hlt => ?_)
          rw [tA_an (by decide)]
          refine h3 ?_
          have : invF f N a ≠ b := fun q => g (q ▸ iv2)
          omega
        · rw [nI_1]
          have hb' : invF f N a = b := mulF_canc mok hg ha iv1 hb (iv2.trans g.symm)
          refine nx2 _ ((he.trans (tEq.sA _ _ (by decide))).trans (tEq.sA _ _ (by decide))) (fun x y h => by rw [tA_an (by decide), tA_as]; exact g1 x y h) (fun x hx => ?_) (fun _ => ?_)
          · rw [tA_as, up_ne (by omega)]; exact h2 x hx
          · rw [tA_as, up_self, hb']
      · intro i hi nx3 T he hcm h1 h2 h3
        have hm' := hm.same he (by decide) (by decide) (by decide)
        have hf' := hf.same he (by decide)
        have b1 := (ok a ha).2.1 i hi
        refine s_buildsMembers_240 c _ _ _ T ⟨fun e => absurd e (by rw [hm'.2.2.2.2.1]; exact nI_ge hi (by omega)), fun _ => ?_⟩
        rw [tIx6, nI_clamp (show 6 * a + i < 2 ^ 31 by omega), hf' a ha i hi, tIx6, nI_clamp (show 6 * b + rAt (f a) i < 2 ^ 31 by omega), hf' b hb _ b1, nI_1, nI_clamp (show i < 2 ^ 31 by omega)]
        refine ⟨vpI (by omega), vpI (by omega), vpI (by omega), nx3 _ (he.trans (tEq.sA _ _ (by decide))) (fun j hj => ?_) (fun x y h => by rw [tA_an (by decide)]; exact h1 x y h) (fun x hx => by rw [tA_an (by decide)]; exact h2 x hx) (fun h => by rw [tA_an (by decide)]; exact h3 h)⟩
        rw [tA_as]
        by_cases e : j = i
        · subst e; rw [up_self, thn_at (by rw [(ok a ha).1]; exact hi)]
        · rw [up_ne e]; exact hcm j (by omega)
/-- members in order -/
theorem t_sortM {c : tC} {p q : Nat} {mv : Nat → List Nat} {N : Nat} {T0 : tS} (hm : tMov T0 p q mv) (hN : N ≤ 24) (h20 : T0.1 20 = nI N) (next : ∀ T f, tEq [21] T0 T → tMemF T p N f → rGrp p q mv N f → h_buildsMembers_220 c 0 T) :
    ∀ a, a ≤ N → ∀ T f, tEq [21] T0 T → tMemF T p N f → (∀ r, Rch p q mv r ↔ ∃ i, i < N ∧ f i = r) → (∀ i j, i < N → j < N → f i = f j → i = j) → (∀ i j, i < a → i < j → j < N → rlt p (f i) (f j)) → h_buildsMembers_171 c (nI a) T := by
  obtain ⟨p1, p6, q4, mok, h12, h13, h15⟩ := id hm
  refine loopUp (N := N) (P := fun a => ∀ T f, tEq [21] T0 T → tMemF T p N f → (∀ r, Rch p q mv r ↔ ∃ i, i < N ∧ f i = r) → (∀ i j, i < N → j < N → f i = f j → i = j) → (∀ i j, i < a → i < j → j < N → rlt p (f i) (f j)) → h_buildsMembers_171 c (nI a) T) ?_ ?_
  · intro T f he hf h1 h2 h3
    have h20' : T.1 20 = nI N := by rw [he.i 20 (by decide)]; exact h20
    exact s_buildsMembers_171 c _ T ⟨fun _ => next T f he hf ⟨hN, h1, fun i j hij hj => h3 i j (by omega) hij hj⟩, fun e => absurd (by rw [h20']; exact Int32.le_refl _) e⟩
  · intro a ha nx T f he hf h1 h2 h3
    have h20' : T.1 20 = nI N := by rw [he.i 20 (by decide)]; exact h20
    refine s_buildsMembers_171 c _ T ⟨fun e => absurd e (by rw [h20']; exact nI_ge ha (by omega)), fun _ => ?_⟩
    rw [nI_1]
    have inner : ∀ b, b ≤ N → a < b → ∀ T f, tEq [21] T0 T → tMemF T p N f → (∀ r, Rch p q mv r ↔ ∃ i, i < N ∧ f i = r) → (∀ i j, i < N → j < N → f i = f j → i = j) → (∀ i j, i < a → i < j → j < N → rlt p (f i) (f j)) → (∀ j, a < j → j < b → rlt p (f a) (f j)) → h_buildsMembers_183 c (nI a) (nI b) T := by
      refine loopUp (N := N) (P := fun b => a < b → ∀ T f, tEq [21] T0 T → tMemF T p N f → (∀ r, Rch p q mv r ↔ ∃ i, i < N ∧ f i = r) → (∀ i j, i < N → j < N → f i = f j → i = j) → (∀ i j, i < a → i < j → j < N → rlt p (f i) (f j)) → (∀ j, a < j → j < b → rlt p (f a) (f j)) → h_buildsMembers_183 c (nI a) (nI b) T) ?_ ?_
      · intro _ T f he hf h1 h2 h3 h4
        have h20' : T.1 20 = nI N := by rw [he.i 20 (by decide)]; exact h20
        refine s_buildsMembers_183 c _ _ T ⟨fun _ => ?_, fun e => absurd (by rw [h20']; exact Int32.le_refl _) e⟩
        rw [nI_1]
        refine nx T f he hf h1 h2 (fun i j hi hij hj => ?_)
        by_cases e : i = a
        · subst e; exact h4 j hij hj
        · exact h3 i j (by omega) hij hj
      · intro b hb nx2 hab T f he hf h1 h2 h3 h4
        have h20' : T.1 20 = nI N := by rw [he.i 20 (by decide)]; exact h20
        have hm' := hm.same he (by decide) (by decide) (by decide)
        have ok : ∀ x, x < N → rOk p (f x) := fun x hx => ((h1 _).mpr ⟨x, hx, rfl⟩).ok mok
        refine s_buildsMembers_183 c _ _ T ⟨fun e => absurd e (by rw [h20']; exact nI_ge hb (by omega)), fun _ => ?_⟩
        refine ⟨_, ct_isBehind p6 hm'.2.2.2.2.1 hN hf ok ha hb, ?_⟩
        rintro r T5 ⟨hx, rfl⟩
        refine ⟨fun g => s_buildsMembers_206 c _ _ _ ?_, fun g => ?_⟩
        · rw [nI_1]
          have hnl : ¬ rlt p (f b) (f a) := by
            rcases hx with ⟨-, q⟩ | ⟨q, -⟩
            · rw [q] at g; exact absurd g (by decide)
            · exact q
          refine nx2 (by omega) _ f he hf h1 h2 h3 (fun j hj1 hj2 => ?_)
          by_cases e : j = b
          · subst e
            rcases rlt_tot (ok a ha).1 (ok j hb).1 (fun q => by have := h2 a j ha hb q; omega) with q | q
            · exact q
            · exact absurd q hnl
          · exact h4 j hj1 (by omega)
        · have hl : rlt p (f b) (f a) := by
            rcases hx with ⟨q, -⟩ | ⟨-, q⟩
            · exact q
            · exact absurd q g
          refine ⟨_, ct_exchanges p6 hN hf ha hb (by omega), ?_⟩
          rintro T12 ⟨e1, e2⟩
          refine s_buildsMembers_206 c _ _ _ ?_
          rw [nI_1]
          have sa : swF f a b a = f b := by simp [swF]
          have sb : swF f a b b = f a := by unfold swF; rw [if_neg (by omega), if_pos rfl]
          have sn : ∀ i, i ≠ a → i ≠ b → swF f a b i = f i := fun i q1 q2 => by unfold swF; rw [if_neg q1, if_neg q2]
          refine nx2 (by omega) T12 (swF f a b) (he.trans e2) e1 (fun r => ?_) (fun i j hi hj e => ?_) (fun i j hi hij hj => ?_) (fun j hj1 hj2 => ?_)
          · rw [h1]
            constructor
            · rintro ⟨i, hi, rfl⟩
              by_cases q1 : i = a
              · subst q1; exact ⟨b, hb, sb⟩
              · by_cases q2 : i = b
                · subst q2; exact ⟨a, ha, sa⟩
                · exact ⟨i, hi, sn i q1 q2⟩
            · rintro ⟨i, hi, rfl⟩
              by_cases q1 : i = a
              · subst q1; exact ⟨b, hb, sa.symm⟩
              · by_cases q2 : i = b
                · subst q2; exact ⟨a, ha, sb.symm⟩
                · exact ⟨i, hi, (sn i q1 q2).symm⟩
          · have val : ∀ i, i < N → ∃ k, k < N ∧ swF f a b i = f k ∧ ((i = a ∧ k = b) ∨ (i = b ∧ k = a) ∨ (i ≠ a ∧ i ≠ b ∧ k = i)) := by
              intro i hi
              by_cases q1 : i = a
              · subst q1; exact ⟨b, hb, sa, Or.inl ⟨rfl, rfl⟩⟩
              · by_cases q2 : i = b
                · subst q2; exact ⟨a, ha, sb, Or.inr (Or.inl ⟨rfl, rfl⟩)⟩
                · exact ⟨i, hi, sn i q1 q2, Or.inr (Or.inr ⟨q1, q2, rfl⟩)⟩
            obtain ⟨k1, u1, u2, u3⟩ := val i hi
            obtain ⟨k2, v1, v2, v3⟩ := val j hj
            have := h2 k1 k2 u1 v1 (by rw [← u2, ← v2]; exact e)
            omega
          · rw [sn i (by omega) (by omega)]
            by_cases q1 : j = a
            · subst q1; rw [sa]; exact h3 i b hi (by omega) hb
            · by_cases q2 : j = b
              · subst q2; rw [sb]; exact h3 i a hi (by omega) ha
              · rw [sn j q1 q2]; exact h3 i j hi hij hj
          · rw [sa]
            by_cases q2 : j = b
            · subst q2; rw [sb]; exact hl
            · rw [sn j (by omega) q2]
              exact rlt_trans hl (h4 j hj1 (by omega))
    exact inner (a + 1) (by omega) (by omega) T f he hf h1 h2 h3 (fun j h5 h6 => by omega)
