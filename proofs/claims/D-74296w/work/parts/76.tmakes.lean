/-! the twin: a sum is told -/
noncomputable def mkR (bt : Nat → Nat) (n : Nat) (X : rX) : (Nat × Nat) ⊕ (Nat → Int64) :=
  Sum.casesOn (rdF (bt, n, X.2.2) 0) (fun e => .inl e) (fun y => cIf (tkS bt n y.2.1 = 0) (Option.casesOn y.1 (.inl (6, 0)) (fun s => .inr s)) (.inl (wk bt n y.2.1 2, tkP bt n y.2.1)))
abbrev mkS : List Nat := [1, 2, 3, 4, 5, 6, 7, 8, 9, 10, 11, 33, 34, 35, 38, 39, 40, 41, 42, 43]
theorem ct_makes {T0 : tS} {bt : Nat → Nat} {n na : Nat} {X : rX} {ps : Nat → Nat → Int64} (h1 : T0.1 1 = nI n) (hn : n ≤ 700) (hb : ∀ k, bt k < 256) (h0 : ∀ k, k < n → T0.2.2.1 0 k = nI (bt k)) (hN : tNv X T0) (hA : tPast T0 na ps) : tMi mX6_makes 8 (fun _ => []) T0 (fun r T' => T'.1 1 = 0 ∧
    (∀ s, mkR bt n X = .inr s → r = nI (prtS s (xS X)) ∧ T'.1 9 = 0 ∧ T'.1 10 = -1 ∧ tEq (mkS ++ [36, 59, 60]) T0 T' ∧ tPast T' (actN na) (actP na ps (T0.2.2.2 36)) ∧ tSeg T' 36 0 (xS X) s ∧ ∀ i, xS X ≤ i → T'.2.2.2 36 i = T0.2.2.2 36 i) ∧
    ∀ k l, mkR bt n X = .inl (k, l) → r = -1 ∧ T'.1 9 = nI k ∧ T'.1 10 = nI l ∧ tEq mkS T0 T') := by
  refine en_makes T0 _ (fun c hc => s_makes_0 c T0 ⟨_, ct_begins h1 hn hb h0, ?_⟩)
  rintro T4 ⟨e4, b1, b2, b3, b4, b5⟩
  have hE : tEnv (bt, n, X.2.2) T4 := ⟨b1, hN.same e4 (by decide) (by decide) (by decide) (by decide) (by decide)⟩
  refine ⟨_, ct_formula hE b2 (Nat.zero_le _) b4, ?_⟩
  rintro T10 ⟨e10, f1, f2⟩
  have e010 : tEq mkS T0 T10 := (e4.mono (by decide)).trans (e10.mono (by decide))
  have g1 : T10.1 1 = 0 := by rw [e10.i 1 (by decide)]; exact b3
  -- it is wrong
  have bad48 : ∀ (T : tS) (k l : Nat), mkR bt n X = .inl (k, l) → tEq mkS T0 T → T.1 1 = 0 → tFlt T k l → h_makes_48 c T := by
    intro T k l x1 x2 x3 x4
    refine s_makes_48 c T ⟨_, ct_tells T, ?_⟩
    rintro T5 ⟨t1, t2, t3⟩
    have h7 := (x4.same t1 (by decide) (by decide))
    refine ⟨fun w => absurd w h7.nle, fun _ => ?_⟩
    rw [hc]
    refine ⟨_, rfl, by rw [t1.i 1 (by decide)]; exact x3, ?_, ?_⟩
    · intro s z
      rw [x1] at z
      cases z
    · intro k' l' z
      rw [x1] at z
      cases z
      exact ⟨rfl, by rw [t2, x4.2.2.1], by rw [t3, x4.2.2.2], x2.trans (t1.mono (by decide))⟩
  have bad27 : ∀ (T : tS) (k l : Nat), mkR bt n X = .inl (k, l) → tEq mkS T0 T → T.1 1 = 0 → tFlt T k l → h_makes_27 c T := fun T k l x1 x2 x3 x4 => s_makes_27 c T ⟨fun _ => bad48 T k l x1 x2 x3 x4, fun w => absurd (zI_n0.mp w) x4.bad⟩
  cases hr : rdF (bt, n, X.2.2) 0 with
  | inl e =>
    have hf := f2 e.1 e.2 hr
    have hm : mkR bt n X = .inl (e.1, e.2) := by unfold mkR; rw [hr]
    exact ⟨fun _ => bad27 T10 _ _ hm e010 g1 hf, fun w => absurd (zI_n0.mp w) hf.bad⟩
  | inr y =>
    obtain ⟨c1, c2, c3, c4, c5, c6, c7⟩ := f1 y.1 y.2.1 y.2.2 hr
    have hm : mkR bt n X = cIf (tkS bt n y.2.1 = 0) (Option.casesOn y.1 (.inl (6, 0)) (fun s => .inr s)) (.inl (wk bt n y.2.1 2, tkP bt n y.2.1)) := by unfold mkR; rw [hr]
    refine ⟨fun w => absurd c3 (zI_0.mp w), fun _ => ?_⟩
    rw [show (0 : Int32) = nI 0 from rfl, c2.sort (by omega)]
    refine ⟨fun w => ?_, fun w => ⟨_, ct_wrong c2 c3 (k := 2) (by omega), ?_⟩⟩
    · have hm2 := hm.trans (cIf_t w)
      refine s_makes_27 c T10 ⟨fun w => absurd c3 (zI_0.mp w), fun _ => ⟨fun q => ?_, fun q => ⟨_, ct_wrongAt c3 (k := 6) (pl := 0) (by omega), ?_⟩⟩⟩
      · cases hv : y.1 with
        | none => exact absurd hv (c6.mp q)
        | some s =>
          have hm3 : mkR bt n X = .inr s := by rw [hm2, hv]
          obtain ⟨d1, d2⟩ := c7 s hv
          refine s_makes_48 c T10 ⟨_, ct_tells T10, ?_⟩
          rintro T5 ⟨t1, t2, t3⟩
          have e05 : tEq mkS T0 T5 := e010.trans (t1.mono (by decide))
          refine ⟨fun _ => ⟨_, ct_act (hA.same e05 (by decide) (by decide)), ?_⟩, fun w => absurd (by rw [t1.i 7 (by decide), c3]; exact Int32.le_refl _) w⟩
          rintro T11 ⟨a1, a2⟩
          have e011 : tEq (mkS ++ [36, 59, 60]) T0 T11 := (e05.mono (by decide)).trans (a1.mono (by decide))
          have h26 : T11.1 26 = nI (xS X) := by rw [e011.i 26 (by decide)]; exact hN.1.2.2.1
          have s60 := hN.1.2.1
          have e33 : T11.2.2.2 33 = T10.2.2.2 33 := by rw [a1.b 33 (by decide), t1.b 33 (by decide)]
          have e36 : T11.2.2.2 36 = T0.2.2.2 36 := by rw [a1.b 36 (by decide), e05.b 36 (by decide)]
          refine loopUp (N := xS X) (P := fun i => ∀ T, tEq [36] T11 T → (∀ j, j < i → T.2.2.2 36 j = s j) → (∀ j, i ≤ j → T.2.2.2 36 j = T0.2.2.2 36 j) → h_makes_67 c (nI i) T) ?_ ?_ 0 (Nat.zero_le _) T11 (tEq.refl _ _) (fun j hj => absurd hj (Nat.not_lt_zero _)) (fun j _ => by rw [e36])
          · intro T he k1 k2
            have h26' : T.1 26 = nI (xS X) := by rw [he.i 26 (by decide)]; exact h26
            refine s_makes_67 c _ T ⟨fun _ => ⟨_, ct_parts h26' s60 (v := s) (fun j hj => by rw [Nat.zero_add]; exact k1 j hj), ?_⟩, fun e => absurd (by rw [h26']; exact Int32.le_refl _) e⟩
            rintro r T6 ⟨rfl, rfl⟩
            rw [hc]
            have e0T : tEq (mkS ++ [36, 59, 60]) T0 T6 := e011.trans (he.mono (by decide))
            refine ⟨_, rfl, by rw [he.i 1 (by decide), a1.i 1 (by decide), t1.i 1 (by decide)]; exact g1, ?_, ?_⟩
            · intro s' z
              rw [hm3] at z
              cases z
              refine ⟨rfl, by rw [he.i 9 (by decide), a1.i 9 (by decide), t2, c3], by rw [he.i 10 (by decide), a1.i 10 (by decide), t3, c4, b5], e0T, ?_, fun j hj => by rw [Nat.zero_add]; exact k1 j hj, k2⟩
              have := a2.same he (by decide) (by decide)
              rw [e05.b 36 (by decide)] at this
              exact this
            · intro k l z
              rw [hm3] at z
              cases z
          · intro i hi nx T he k1 k2
            refine s_makes_67 c _ T ⟨fun e => absurd e (by rw [he.i 26 (by decide), h26]; exact nI_ge hi (by omega)), fun _ => ⟨vpI (by omega), vpI (by omega), ?_⟩⟩
            rw [nI_1, nI_clamp (show i < 2 ^ 31 by omega)]
            refine nx _ (he.trans (tEq.sB _ _ (by decide))) (fun j hj => ?_) (fun j hj => ?_)
            · rw [tB_bs]
              by_cases e : j = i
              · subst e
                rw [up_self, he.b 33 (by decide), e33]
                have := d1 j hi
                rw [Nat.zero_add] at this
                exact this
              · rw [up_ne e]; exact k1 j (by omega)
            · rw [tB_bs, up_ne (by omega)]; exact k2 j (by omega)
      · rintro T11 ⟨w1, w2⟩
        have hv : y.1 = none := Classical.byContradiction (fun z => q (c6.mpr z))
        exact bad48 T11 _ _ (by rw [hm2, hv]) (e010.trans (w1.mono (by decide))) (by rw [w1.i 1 (by decide)]; exact g1) w2
    · rintro T22 ⟨w1, w2⟩
      exact bad27 T22 _ _ (hm.trans (cIf_f w)) (e010.trans (w1.mono (by decide))) (by rw [w1.i 1 (by decide)]; exact g1) w2
