/-! the twin reads a line of a name -/
abbrev ltS : List Nat := [3, 4, 5, 6, 7, 8, 11, 14, 33, 34, 35, 38, 39, 40, 41, 42, 43, 44, 45]
/-- a name more -/
def xAdd (X : rX) (w : List Nat) (s : Nat → Int64) : rX := (X.1, X.2.1, X.2.2.1, X.2.2.2.1, X.2.2.2.2.1 ++ [w], fun k => if k = X.2.2.2.2.1.length then s else X.2.2.2.2.2 k)
abbrev rL : Type := (Nat × Nat) ⊕ (List Nat × (Nat → Int64) × Nat)
noncomputable def ltV (X : rX) (p p1 : Nat) (y : rV × Nat × Nat) : rL := cIf (isSn X.1 X.2.1 y.2.1 59) (Option.casesOn y.1 (.inl (6, tkP X.1 X.2.1 p)) (fun s => .inr (tkW X.1 X.2.1 p1, s, tkE X.1 X.2.1 y.2.1))) (.inl (wk X.1 X.2.1 y.2.1 2, tkP X.1 X.2.1 y.2.1))
noncomputable def ltR (X : rX) (p : Nat) : rL := cIf (X.2.2.2.2.1.length = 8) (.inl (5, tkP X.1 X.2.1 p))
  (cIf (¬ isNm X.1 X.2.1 (tkE X.1 X.2.1 p)) (.inl (wk X.1 X.2.1 (tkE X.1 X.2.1 p) 2, tkP X.1 X.2.1 (tkE X.1 X.2.1 p)))
    (cIf (tkW X.1 X.2.1 (tkE X.1 X.2.1 p) ∈ X.2.2.2.2.1) (.inl (3, tkP X.1 X.2.1 (tkE X.1 X.2.1 p)))
      (cIf (isSn X.1 X.2.1 (tkE X.1 X.2.1 (tkE X.1 X.2.1 p)) 61)
        (Sum.casesOn (rdF X (tkE X.1 X.2.1 (tkE X.1 X.2.1 (tkE X.1 X.2.1 p)))) (fun e => .inl e) (fun y => ltV X p (tkE X.1 X.2.1 p) y))
        (.inl (wk X.1 X.2.1 (tkE X.1 X.2.1 (tkE X.1 X.2.1 p)) 2, tkP X.1 X.2.1 (tkE X.1 X.2.1 (tkE X.1 X.2.1 p)))))))
theorem gdA {L : List (List Nat)} {w : List Nat} : (L ++ [w]).getD L.length [] = w := by
  rw [List.getD_eq_getElem?_getD, List.getElem?_append_right (Nat.le_refl _)]
  simp
theorem gdB {L : List (List Nat)} {w : List Nat} {k : Nat} (h : k < L.length) : (L ++ [w]).getD k [] = L.getD k [] := by
  rw [List.getD_eq_getElem?_getD, List.getElem?_append_left h, ← List.getD_eq_getElem?_getD]
theorem ct_letLine {X : rX} {T0 : tS} (hE : tEnv X T0) {p : Nat} (ht : tTok T0 (xB X) (xN X) p) (hp : p ≤ xN X) (h1 : tkS (xB X) (xN X) p = 1) (h7 : T0.1 7 = 0) : tMv mX6_letLine 8 (fun _ => []) T0 (fun T' => tEq ltS T0 T' ∧ (∀ w s p5, ltR X p = .inr (w, s, p5) → p5 ≤ xN X ∧ p < p5 ∧ tTok T' (xB X) (xN X) p5 ∧ T'.1 7 = 0 ∧ T'.1 8 = T0.1 8 ∧ tEnv (xAdd X w s) T') ∧ ∀ k l, ltR X p = .inl (k, l) → tFlt T' k l) := by
  obtain ⟨tp, hM, hu1, hNm, hSm⟩ := id hE
  obtain ⟨n8, h14, h44⟩ := id hNm
  refine en_letLine T0 _ (fun c hc => s_letLine_0 c T0 ?_)
  have bad : ∀ (T : tS) (k l : Nat), ltR X p = .inl (k, l) → tEq ltS T0 T → tFlt T k l → c.2.2.2.2.2.2 none T := by
    intro T k l e1 e2 e3
    rw [hc]
    refine ⟨rfl, e2, ?_, ?_⟩
    · intro w s p5 z
      rw [e1] at z
      cases z
    · intro k' l' z
      rw [e1] at z
      cases z
      exact e3
  have f69 : ∀ (T : tS) (x : Int32) (k l : Nat), ltR X p = .inl (k, l) → tEq ltS T0 T → tFlt T k l → h_letLine_69 c x T := fun T x k l e1 e2 e3 => s_letLine_69 c _ T ⟨fun z => absurd z e3.nle, fun _ => bad _ _ _ e1 e2 e3⟩
  have f49 : ∀ (T : tS) (x : Int32) (k l : Nat), ltR X p = .inl (k, l) → tEq ltS T0 T → tFlt T k l → h_letLine_49 c x T := fun T x k l e1 e2 e3 => s_letLine_49 c _ T ⟨fun _ => f69 T x k l e1 e2 e3, fun z => absurd (zI_n0.mp z) e3.bad⟩
  have f30 : ∀ (T : tS) (x : Int32) (k l : Nat), ltR X p = .inl (k, l) → tEq ltS T0 T → tFlt T k l → h_letLine_30 c x T := fun T x k l e1 e2 e3 => s_letLine_30 c _ T ⟨fun _ => f49 T x k l e1 e2 e3, fun z => absurd (zI_n0.mp z) e3.bad⟩
  have f123 : ∀ (T : tS) (x : Int64) (k l : Nat), ltR X p = .inl (k, l) → tEq ltS T0 T → tFlt T k l → h_letLine_123 c x T := fun T x k l e1 e2 e3 => s_letLine_123 c _ T ⟨fun z => absurd z e3.nle, fun _ => bad _ _ _ e1 e2 e3⟩
  have hle := tkE_le (bt := xB X) hp
  have hgt := tkE_gt (bt := xB X) (n := xN X) (p := p) (by rw [h1]; decide)
  rw [h14, show (8 : Int32) = nI 8 from rfl, x_inj (by omega) (by omega), ht.1]
  refine ⟨fun hq => ?_, fun hq => ⟨_, ct_wrong ht h7 (k := 5) (by omega), ?_⟩⟩
  · have r1 : ltR X p = _ := cIf_f hq
    refine s_letLine_19 c _ T0 ⟨fun z => absurd h7 (zI_0.mp z), fun _ => ⟨_, ct_goOn2 tp ht hp, ?_⟩⟩
    rintro T9 ⟨e9, t9⟩
    have g7 : T9.1 7 = 0 := by rw [e9.i 7 (by decide)]; exact h7
    refine s_letLine_30 c _ T9 ⟨fun z => absurd g7 (zI_0.mp z), fun _ => ⟨fun z => ?_, fun z => ?_⟩⟩
    · rw [zI_n0, t9.name] at z
      have r2 := r1.trans (cIf_f (fun q => q z))
      refine s_letLine_49 c _ T9 ⟨fun z => absurd g7 (zI_0.mp z), fun _ => ⟨_, ct_nameAt (hNm.same e9 (by decide) (by decide)) t9 z.1, ?_⟩⟩
      rintro r TT ⟨rfl, hx⟩
      rcases hx with ⟨x1, rfl⟩ | ⟨x1, rfl⟩
      · have hidx : (xNm X).idxOf (tkW (xB X) (xN X) (tkE (xB X) (xN X) p)) < (xNm X).length := List.idxOf_lt_length_of_mem x1
        refine ⟨fun w => absurd w (nI_nm1 (by omega)), fun _ => ⟨_, ct_wrong t9 g7 (k := 3) (by omega), ?_⟩⟩
        rintro T16 ⟨w1, w2⟩
        have ew : wk (xB X) (xN X) (tkE (xB X) (xN X) p) 3 = 3 := if_neg (by rw [z.1]; decide)
        rw [ew] at w2
        exact f69 T16 _ _ _ (r2.trans (cIf_t x1)) ((e9.mono (by decide)).trans (w1.mono (by decide))) w2
      · have r3 := r2.trans (cIf_f x1)
        refine ⟨fun _ => ?_, fun w => absurd rfl w⟩
        refine s_letLine_69 c _ _ ⟨fun _ => ?_, fun w => absurd (by rw [g7]; exact Int32.le_refl _) w⟩
        have hword : TT.2.1 11 = lN (encL (tkW (xB X) (xN X) (tkE (xB X) (xN X) p))) := (t9.word (tkW_wd z.1) z.1).mpr rfl
        rw [hword]
        refine ⟨_, ct_goOn2 (tp.same e9 (by decide) (by decide)) t9 hle, ?_⟩
        rintro T5 ⟨e5, t5⟩
        have e05 : tEq tSt T0 T5 := e9.trans e5
        have g75 : T5.1 7 = 0 := by rw [e5.i 7 (by decide)]; exact g7
        have hle2 := tkE_le (bt := xB X) hle
        have hgt2 := tkE_gt (bt := xB X) (n := xN X) (p := tkE (xB X) (xN X) p) (by rw [z.1]; decide)
        refine ⟨_, ct_must (tp.same e05 (by decide) (by decide)) t5 hle2 g75 (x := 61) (by omega), ?_⟩
        rintro T11 hy
        rcases hy with ⟨y1, y2, y3⟩ | ⟨y1, y2, y3⟩
        · have r4 := r3.trans (cIf_t y1)
          have e11 : tEq tSt T0 T11 := e05.trans y2
          have g711 : T11.1 7 = 0 := by rw [y2.i 7 (by decide)]; exact g75
          have hle3 := tkE_le (bt := xB X) hle2
          have hgt3 := tkE_gt (bt := xB X) (n := xN X) (p := tkE (xB X) (xN X) (tkE (xB X) (xN X) p)) (isSn_n0 y1)
          have hE11 := hE.same e11
          refine ⟨_, ct_formula hE11 y3 hle3 g711, ?_⟩
          rintro T17 ⟨e17, ok17, er17⟩
          have e017 : tEq ltS T0 T17 := (e11.mono (by decide)).trans (e17.mono (by decide))
          cases hrd : rdF X (tkE (xB X) (xN X) (tkE (xB X) (xN X) (tkE (xB X) (xN X) p))) with
          | inl e =>
            have hf := er17 e.1 e.2 hrd
            have r5 : ltR X p = .inl (e.1, e.2) := by
              rw [r4]
              rw [show rdF X (tkE X.1 X.2.1 (tkE X.1 X.2.1 (tkE X.1 X.2.1 p))) = _ from hrd]
            refine ⟨_, ct_must' hf _, ?_⟩
            rintro T23 rfl
            exact ⟨fun _ => f123 _ _ _ _ r5 e017 hf, fun w => absurd (zI_n0.mp w) hf.bad⟩
          | inr y =>
            obtain ⟨a1, a2, a3, a38, a4, a5, a6⟩ := ok17 y.1 y.2.1 y.2.2 hrd
            have hpos := rd_pos X (5 * X.2.1 + 4) 0 none _ 0 0 _ hle3 (by omega) hrd
            have hpos3 := hpos.2.2.1 (by decide)
            have r5 : ltR X p = ltV X p (tkE X.1 X.2.1 p) y := by
              rw [r4]
              rw [show rdF X (tkE X.1 X.2.1 (tkE X.1 X.2.1 (tkE X.1 X.2.1 p))) = _ from hrd]
            have hE17 := hE11.same e17
            refine ⟨_, ct_must hE17.1 a2 a1 a3 (x := 59) (by omega), ?_⟩
            rintro T23 hw
            rcases hw with ⟨w1, w2, w3⟩ | ⟨w1, w2, w3⟩
            · have r6 := r5.trans (cIf_t w1)
              have g23 : T23.1 7 = 0 := by rw [w2.i 7 (by decide)]; exact a3
              have e23 : tEq ltS T0 T23 := e017.trans (w2.mono (by decide))
              have h39 : T23.1 39 = T17.1 39 := w2.i 39 (by decide)
              have hle4 := tkE_le (bt := xB X) a1
              have hgt4 := tkE_gt (bt := xB X) (n := xN X) (p := y.2.1) (isSn_n0 w1)
              have hE23 := hE17.same w2
              refine ⟨fun w => absurd g23 (zI_0.mp w), fun _ => ⟨fun w => ?_, fun w => ?_⟩⟩
              · -- all is right
                rw [h39] at w
                cases hv : y.1 with
                | none => exact absurd hv (a5.mp w)
                | some s =>
                  obtain ⟨b1, b2⟩ := a6 s hv
                  have r7 : ltR X p = .inr (tkW (xB X) (xN X) (tkE (xB X) (xN X) p), s, tkE (xB X) (xN X) y.2.1) := by
                    rw [r6, hv]
                  obtain ⟨s1, s60, h26, h31, hdd⟩ := id hE23.2.1
                  have k14 : T23.1 14 = nI (xNm X).length := hE23.2.2.2.1.2.1
                  have hlt8 : (xNm X).length < 8 := by
                    have : (xNm X).length ≠ 8 := hq
                    omega
                  refine s_letLine_123 c _ T23 ⟨fun _ => ?_, fun w => absurd (by rw [g23]; exact Int32.le_refl _) w⟩
                  rw [k14, nI_clamp (show (xNm X).length < 2 ^ 31 by omega)]
                  refine ⟨vpI (by omega), ?_⟩
                  have eN : tEq [44] T23 (tB T23 44 (va_up (T23.2.2.2 44) (xNm X).length (lN (encL (tkW (xB X) (xN X) (tkE (xB X) (xN X) p)))))) := tEq.sB _ _ (by decide)
                  have kN : (tB T23 44 (va_up (T23.2.2.2 44) (xNm X).length (lN (encL (tkW (xB X) (xN X) (tkE (xB X) (xN X) p)))))).2.2.2 44 = va_up (T23.2.2.2 44) (xNm X).length (lN (encL (tkW (xB X) (xN X) (tkE (xB X) (xN X) p)))) := tB_bs
                  generalize (tB T23 44 (va_up (T23.2.2.2 44) (xNm X).length (lN (encL (tkW (xB X) (xN X) (tkE (xB X) (xN X) p)))))) = TN at eN kN
                  refine loopUp (N := xS X) (P := fun i => ∀ T, tEq [45] TN T → (∀ j, j < i → T.2.2.2 45 (64 * (xNm X).length + j) = s j) → (∀ j, j < 64 * (xNm X).length → T.2.2.2 45 j = TN.2.2.2 45 j) → h_letLine_144 c (nI i) T) ?_ ?_ 0 (Nat.zero_le _) TN (tEq.refl _ _) (fun j hj => absurd hj (Nat.not_lt_zero _)) (fun j hj => rfl)
                  · intro T q1 q2 q3
                    have e2 : tEq [44, 45] T23 T := (eN.mono (by decide)).trans (q1.mono (by decide))
                    have eF : tEq [14, 44, 45] T23 (tI T 14 (nI ((xNm X).length + 1))) := (e2.mono (by decide)).trans (tEq.sI _ _ (by decide))
                    refine s_letLine_144 c _ T ⟨fun _ => ?_, fun w => absurd (by rw [e2.i 26 (by decide), h26]; exact Int32.le_refl _) w⟩
                    rw [e2.i 14 (by decide), k14, nI_1, hc]
                    refine ⟨rfl, e23.trans (eF.mono (by decide)), ?_, ?_⟩
                    · intro w' s' p5 q
                      rw [r7] at q
                      cases q
                      refine ⟨hle4, by have : tkE X.1 X.2.1 (tkE X.1 X.2.1 (tkE X.1 X.2.1 p)) < y.2.1 := hpos3; omega, w3.same eF (by decide) (by decide) (by decide) (by decide) (by decide), by rw [eF.i 7 (by decide)]; exact g23, by rw [eF.i 8 (by decide), w2.i 8 (by decide), a38, e11.i 8 (by decide)], ?_⟩
                      refine ⟨hE23.1.same eF (by decide) (by decide), hE23.2.1.same eF (by decide) (by decide), hu1, ⟨(show (xNm X ++ [tkW (xB X) (xN X) (tkE (xB X) (xN X) p)]).length ≤ 8 from by rw [List.length_append, List.length_singleton]; omega), (by rw [tI_is]; show _ = nI (xNm X ++ [tkW (xB X) (xN X) (tkE (xB X) (xN X) p)]).length; rw [List.length_append, List.length_singleton]), fun k hk => ?_⟩, fun k hk => ?_⟩
                      · have hk2 : k < (xNm X).length + 1 := by have q : k < (xNm X ++ [tkW (xB X) (xN X) (tkE (xB X) (xN X) p)]).length := hk; rw [List.length_append, List.length_singleton] at q; exact q
                        have e44 : (tI T 14 (nI ((xNm X).length + 1))).2.2.2 44 k = va_up (T23.2.2.2 44) (xNm X).length (lN (encL (tkW (xB X) (xN X) (tkE (xB X) (xN X) p)))) k := by
                          rw [tI_l, q1.b 44 (by decide), kN]
                        rw [e44]
                        by_cases q : k = (xNm X).length
                        · subst q
                          have eg : (xNm (xAdd X (tkW (xB X) (xN X) (tkE (xB X) (xN X) p)) s)).getD (xNm X).length [] = tkW (xB X) (xN X) (tkE (xB X) (xN X) p) := gdA
                          rw [eg, up_self]
                          exact ⟨tkW_wd z.1, rfl⟩
                        · have eg : (xNm (xAdd X (tkW (xB X) (xN X) (tkE (xB X) (xN X) p)) s)).getD k [] = (xNm X).getD k [] := gdB (show k < (xNm X).length by omega)
                          rw [eg, up_ne q]
                          exact hE23.2.2.2.1.2.2 k (by omega)
                      · have hk2 : k < (xNm X).length + 1 := by have q : k < (xNm X ++ [tkW (xB X) (xN X) (tkE (xB X) (xN X) p)]).length := hk; rw [List.length_append, List.length_singleton] at q; exact q
                        by_cases q : k = (xNm X).length
                        · subst q
                          have eg : xSm (xAdd X (tkW (xB X) (xN X) (tkE (xB X) (xN X) p)) s) (xNm X).length = s := if_pos rfl
                          rw [eg]
                          exact ⟨b2, fun i hi => q2 i hi⟩
                        · have eg : xSm (xAdd X (tkW (xB X) (xN X) (tkE (xB X) (xN X) p)) s) k = xSm X k := by
                            show (if k = X.2.2.2.2.1.length then s else X.2.2.2.2.2 k) = _
                            rw [if_neg q]
                          rw [eg]
                          refine ⟨(hE23.2.2.2.2 k (by omega)).1, fun i hi => ?_⟩
                          have hi' : i < xS X := hi
                          have e45 : (tI T 14 (nI ((xNm X).length + 1))).2.2.2 45 (64 * k + i) = T23.2.2.2 45 (64 * k + i) := by
                            rw [tI_l, q3 _ (by omega), eN.b 45 (by decide)]
                          rw [e45]
                          exact (hE23.2.2.2.2 k (by omega)).2 i hi
                    · intro k l q
                      rw [r7] at q
                      cases q
                  · intro i hi nx T q1 q2 q3
                    have e2 : tEq [44, 45] T23 T := (eN.mono (by decide)).trans (q1.mono (by decide))
                    refine s_letLine_144 c _ T ⟨fun w => absurd w (by rw [e2.i 26 (by decide), h26]; exact nI_ge hi (by omega)), fun _ => ?_⟩
                    rw [e2.i 14 (by decide), k14, tIx64, nI_1, nI_clamp (show 64 * (xNm X).length + i < 2 ^ 31 by omega), nI_clamp (show i < 2 ^ 31 by omega)]
                    refine ⟨vpI (by omega), vpI (by omega), nx _ (q1.trans (tEq.sB _ _ (by decide))) (fun j hj => ?_) (fun j hj => ?_)⟩
                    · rw [tB_bs]
                      by_cases q : j = i
                      · subst q
                        rw [up_self, e2.b 33 (by decide), w2.b 33 (by decide)]
                        have := b1 j hi
                        rw [Nat.zero_add] at this
                        exact this
                      · rw [up_ne (by omega)]; exact q2 j (by omega)
                    · rw [tB_bs, up_ne (by omega)]; exact q3 j hj
              · -- too great
                rw [h39] at w
                have hv : y.1 = none := Classical.byContradiction (fun q => w (a5.mpr q))
                refine ⟨_, ct_wrongAt g23 (k := 6) (by omega), ?_⟩
                rintro T35 ⟨v1, v2⟩
                exact f123 T35 _ _ _ (by rw [r6, hv]) (e23.trans (v1.mono (by decide))) v2
            · exact ⟨fun _ => f123 T23 _ _ _ (r5.trans (cIf_f w1)) (e017.trans (w2.mono (by decide))) w3, fun w => absurd (zI_n0.mp w) w3.bad⟩
        · have r4 := r3.trans (cIf_f y1)
          refine ⟨_, ct_formula' y3, ?_⟩
          rintro T17 ⟨e17, hf⟩
          refine ⟨_, ct_must' hf _, ?_⟩
          rintro T23 rfl
          exact ⟨fun _ => f123 _ _ _ _ r4 (((e05.mono (by decide)).trans (y2.mono (by decide))).trans (e17.mono (by decide))) hf, fun w => absurd (zI_n0.mp w) hf.bad⟩
    · rw [zI_0, t9.name] at z
      refine ⟨_, ct_wrong t9 g7 (k := 2) (by omega), ?_⟩
      rintro T14 ⟨w1, w2⟩
      exact f49 T14 _ _ _ (r1.trans (cIf_t z)) ((e9.mono (by decide)).trans (w1.mono (by decide))) w2
  · rintro T5 ⟨y1, y2⟩
    have ew : wk (xB X) (xN X) p 5 = 5 := if_neg (by omega)
    rw [ew] at y2
    have hrd : ltR X p = .inl (5, tkP X.1 X.2.1 p) := cIf_t hq
    refine s_letLine_19 c _ T5 ⟨fun _ => f30 T5 _ _ _ hrd (y1.mono (by decide)) y2, fun w => absurd (zI_n0.mp w) y2.bad⟩
