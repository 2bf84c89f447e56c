/-! the twin reads a line of a move -/
theorem ct_formula' {T0 : tS} {k0 pl0 : Nat} (h : tFlt T0 k0 pl0) : tMv mX6_formula 7 (fun _ => []) T0 (fun T' => tEq [38, 39, 41, 42, 43] T0 T' ∧ tFlt T' k0 pl0) := by
  refine en_formula T0 _ (fun c hc => s_formula_0 c T0 ?_)
  have eB : tEq [38, 39, 41, 42, 43] T0 (tI (tI (tI (tI (tI T0 38 (0 : Int32)) 41 (0 : Int32)) 42 (0 : Int32)) 43 (0 : Int32)) 39 (0 : Int32)) := ((((tEq.sI _ _ (by decide)).trans (tEq.sI _ _ (by decide))).trans (tEq.sI _ _ (by decide))).trans (tEq.sI _ _ (by decide))).trans (tEq.sI _ _ (by decide))
  have h2 := h.same eB (by decide) (by decide)
  refine s_formula_27 c _ _ ⟨fun _ => s_formula_171 c _ ⟨fun _ => s_formula_190 c _ ⟨fun _ => ?_, fun z => absurd (zI_n0.mp z) h2.bad⟩, fun z => absurd (zI_n0.mp z) h2.bad⟩, fun z => absurd (zI_n0.mp z) h2.bad⟩
  rw [hc]
  exact ⟨rfl, eB, h2⟩
theorem tFlt.nle {T : tS} {k pl : Nat} (h : tFlt T k pl) : ¬ T.1 7 ≤ 0 := by rw [h.2.2.1]; exact nI_nle (by have := h.1; omega) (by have := h.2.1; omega)
/-- what a move's line says: the places one after another -/
noncomputable def mrow (bt : Nat → Nat) (n pl : Nat) : Nat → List Nat → Nat → (Nat × Nat) ⊕ (List Nat × Nat)
  | 0, row, p => .inr (row, p)
  | r + 1, row, p => cIf (tkS bt n p = 2) (cIf (tkV bt n p < pl ∧ tkV bt n p ∉ row) (mrow bt n pl r (row ++ [tkV bt n p]) (tkE bt n p)) (.inl (4, tkP bt n p))) (.inl (wk bt n p 2, tkP bt n p))
noncomputable def mvR (bt : Nat → Nat) (n pl q p : Nat) : (Nat × Nat) ⊕ (List Nat × Nat) := cIf (q = 4) (.inl (5, tkP bt n p))
  (Sum.casesOn (mrow bt n pl pl [] (tkE bt n p)) (fun e => .inl e) (fun y => cIf (isSn bt n y.2 59) (.inr (y.1, tkE bt n y.2)) (.inl (wk bt n y.2 2, tkP bt n y.2))))
abbrev mvS : List Nat := [3, 4, 5, 6, 7, 8, 11, 13, 15, 20, 21, 22, 23, 24]
abbrev mvG : List Nat := [3, 4, 5, 6, 11, 13, 15, 20, 21, 22, 23, 24]
theorem ct_moveLine {T0 : tS} {bt : Nat → Nat} {n p pl q : Nat} {mv : Nat → List Nat} (tp : tTp T0 bt n) (ht : tTok T0 bt n p) (hp : p ≤ n) (h1 : tkS bt n p = 1) (h7 : T0.1 7 = 0) (hm : tMov T0 pl q mv) : tMv mX6_moveLine 3 (fun _ => []) T0 (fun T' => tEq mvS T0 T' ∧ (∀ row p3, mvR bt n pl q p = .inr (row, p3) → (rFew pl (q + 1) (moF mv q row) → p3 ≤ n ∧ p < p3 ∧ tTok T' bt n p3 ∧ T'.1 7 = 0 ∧ T'.1 8 = T0.1 8 ∧ tMov T' pl (q + 1) (moF mv q row)) ∧ (¬ rFew pl (q + 1) (moF mv q row) → tFlt T' 5 (tkP bt n p))) ∧ ∀ k l, mvR bt n pl q p = .inl (k, l) → tFlt T' k l) := by
  obtain ⟨p1, p6, q4, mok, h12, h13, h15⟩ := id hm
  refine en_moveLine T0 _ (fun c hc => s_moveLine_0 c T0 ?_)
  have hgt := tkE_gt (bt := bt) (n := n) (p := p) (by rw [h1]; decide)
  have bad : ∀ (T : tS) (k l : Nat), mvR bt n pl q p = .inl (k, l) → tEq mvS T0 T → tFlt T k l → c.2.2.2.2.2.2 none T := by
    intro T k l e1 e2 e3
    rw [hc]
    refine ⟨rfl, e2, ?_, ?_⟩
    · intro row p3 z
      rw [e1] at z
      cases z
    · intro k' l' z
      rw [e1] at z
      cases z
      exact e3
  rw [h13, show (4 : Int32) = nI 4 from rfl, x_inj (by omega) (by omega), ht.1]
  -- a fault runs to the end
  have f138 : ∀ (T : tS) (x : Int32) (k l : Nat), mvR bt n pl q p = .inl (k, l) → tEq mvS T0 T → tFlt T k l → h_moveLine_138 c x T := by
    intro T x k l e1 e2 e3
    refine s_moveLine_138 c x T ⟨_, ct_must' e3 _, ?_⟩
    rintro T4 rfl
    exact ⟨fun z => absurd z e3.nle, fun _ => bad _ _ _ e1 e2 e3⟩
  have f97 : ∀ (T : tS) (x x2 x3 x4 : Int32) (k l : Nat), mvR bt n pl q p = .inl (k, l) → tEq mvS T0 T → tFlt T k l → h_moveLine_97 c x x2 x3 x4 T := fun T x x2 x3 x4 k l e1 e2 e3 => s_moveLine_97 c _ _ _ _ T ⟨fun z => absurd z e3.nle, fun _ => bad _ _ _ e1 e2 e3⟩
  refine ⟨fun hq => ?_, fun hq => ⟨_, ct_wrong ht h7 (k := 5) (by omega), ?_⟩⟩
  · have hrd : mvR bt n pl q p = Sum.casesOn (mrow bt n pl pl [] (tkE bt n p)) (fun e => .inl e) (fun y => cIf (isSn bt n y.2 59) (.inr (y.1, tkE bt n y.2)) (.inl (wk bt n y.2 2, tkP bt n y.2))) := cIf_f hq
    refine s_moveLine_18 c _ T0 ⟨fun z => absurd h7 (zI_0.mp z), fun _ => ⟨_, ct_goOn2 tp ht hp, ?_⟩⟩
    rintro T9 ⟨e9, t9⟩
    refine s_moveLine_29 c _ T9 ?_
    -- the places
    have key : ∀ r, ∀ (i : Nat) (row : List Nat) (m p' : Nat) (T : tS), r + i = pl → row.length = i → (∀ v, v ∈ row → v < pl) → row.Nodup → (∀ v, v < 31 → (m.testBit v = true ↔ v ∈ row)) → m < 2 ^ 6 → tEq mvG T0 T → T.1 13 = nI q → tTok T bt n p' → p' ≤ n → p < p' → T.1 7 = 0 → (∀ k j, k < q → j < pl → T.2.2.1 15 (6 * k + j) = nI (rAt (mv k) j)) → (∀ j, j < i → T.2.2.1 15 (6 * q + j) = nI (rAt row j)) → mrow bt n pl pl [] (tkE bt n p) = mrow bt n pl r row p' → h_moveLine_33 c (nI (tkP bt n p)) (nI m) (nI i) T := by
      intro r
      induction r with
      | zero =>
        intro i row m p' T hri hlen hlt hnd hbit hm6 he g13 gt gp gpp g7 g15 gnew hrow
        have hi : i = pl := by omega
        have h12' : T.1 12 = nI pl := by rw [he.i 12 (by decide)]; exact h12
        refine s_moveLine_33 c _ _ _ T ⟨fun _ => ?_, fun z => absurd (by rw [h12', hi]; exact Int32.le_refl _) z⟩
        have hrd2 : mvR bt n pl q p = cIf (isSn bt n p' 59) (.inr (row, tkE bt n p')) (.inl (wk bt n p' 2, tkP bt n p')) := by rw [hrd, hrow]; rfl
        have hok : rOk pl row := by
          refine ⟨by omega, fun j hj => ?_, fun a b ha hb e => ?_⟩
          · exact hlt _ (by unfold rAt; exact gD_mem (by omega))
          · unfold rAt at e
            rw [gD_at (by omega), gD_at (by omega)] at e
            exact (List.getElem_inj hnd).mp e
        refine s_moveLine_138 c _ T ⟨_, ct_must (tp.same he (by decide) (by decide)) gt gp g7 (x := 59) (by omega), ?_⟩
        rintro T4 hx
        rcases hx with ⟨x1, x2, x3⟩ | ⟨x1, x2, x3⟩
        · have g74 : T4.1 7 = 0 := by rw [x2.i 7 (by decide)]; exact g7
          refine ⟨fun _ => ?_, fun z => absurd (by rw [g74]; exact Int32.le_refl _) z⟩
          have e4 : tEq mvG T0 T4 := he.trans (x2.mono (by decide))
          have e13 : T4.1 13 = nI q := by rw [x2.i 13 (by decide)]; exact g13
          rw [e13, nI_1]
          have e5 : tEq mvG T0 (tI T4 13 (nI (q + 1))) := e4.trans (tEq.sI _ _ (by decide))
          have hm5 : tMov (tI T4 13 (nI (q + 1))) pl (q + 1) (moF mv q row) := by
            refine ⟨p1, p6, by omega, fun k hk => ?_, by rw [e5.i 12 (by decide)]; exact h12, tI_is, fun k j hk hj => ?_⟩
            · by_cases z : k = q
              · subst z; rw [moF_s]; exact hok
              · rw [moF_n (by omega)]; exact mok k (by omega)
            · rw [tI_l, x2.a 15 (by decide)]
              by_cases z : k = q
              · subst z; rw [moF_s]; exact gnew j (by omega)
              · rw [moF_n (by omega)]; exact g15 k j (by omega) hj
          refine ⟨_, ct_buildsMembers hm5, ?_⟩
          rintro r T11 ⟨y1, y2⟩
          have e6 : tEq mvG T0 T11 := e5.trans (y1.mono (by decide))
          have hrd3 : mvR bt n pl q p = .inr (row, tkE bt n p') := by rw [hrd2, cIf_t x1]
          have g711 : T11.1 7 = 0 := by rw [y1.i 7 (by decide), tI_in (by decide)]; exact g74
          rcases y2 with ⟨z1, rfl, -⟩ | ⟨z1, rfl⟩
          · refine ⟨fun _ => ?_, fun z => absurd z (by decide)⟩
            rw [hc]
            refine ⟨rfl, e6.mono (by decide), ?_, ?_⟩
            · intro row' p3 z
              rw [hrd3] at z
              cases z
              have hgt2 := tkE_gt (bt := bt) (n := n) (p := p') (isSn_n0 x1)
              refine ⟨fun _ => ⟨tkE_le gp, by omega, (x3.same (tEq.sI (S := [13]) _ _ (by decide)) (by decide) (by decide) (by decide) (by decide) (by decide)).same y1 (by decide) (by decide) (by decide) (by decide) (by decide), g711, e6.i 8 (by decide), hm5.same y1 (by decide) (by decide) (by decide)⟩, fun z => absurd z1 z⟩
            · intro k l z
              rw [hrd3] at z
              cases z
          · refine ⟨fun z => absurd rfl z, fun _ => ⟨_, ct_wrongAt g711 (k := 5) (by omega), ?_⟩⟩
            rintro T18 ⟨w1, w2⟩
            rw [hc]
            refine ⟨rfl, (e6.mono (by decide)).trans (w1.mono (by decide)), ?_, ?_⟩
            · intro row' p3 z
              rw [hrd3] at z
              cases z
              exact ⟨fun z => absurd z z1, fun _ => w2⟩
            · intro k l z
              rw [hrd3] at z
              cases z
        · refine ⟨fun z => absurd z x3.nle, fun _ => bad _ _ _ (by rw [hrd2, cIf_f x1]) ((he.mono (by decide)).trans (x2.mono (by decide))) x3⟩
      | succ r ih =>
        intro i row m p' T hri hlen hlt hnd hbit hm6 he g13 gt gp gpp g7 g15 gnew hrow
        have h12' : T.1 12 = nI pl := by rw [he.i 12 (by decide)]; exact h12
        refine s_moveLine_33 c _ _ _ T ⟨fun z => absurd z (by rw [h12']; exact nI_ge (by omega) (by omega)), fun _ => ⟨fun z => absurd g7 (zI_0.mp z), fun _ => ⟨fun z => ?_, fun z => ?_⟩⟩⟩
        · rw [show (2 : Int32) = nI 2 from rfl, gt.sort (by omega)] at z
          have hv := tkV_lt z
          have h6 := gt.2.2.2.1 (Or.inl z)
          have bad4 : ¬ (tkV bt n p' < pl ∧ tkV bt n p' ∉ row) → h_moveLine_92 c (nI (tkP bt n p)) (nI m) (nI i) (nI (tkV bt n p')) T := by
            intro hno
            refine s_moveLine_92 c _ _ _ _ T ⟨_, ct_wrong gt g7 (k := 4) (by omega), ?_⟩
            rintro T4 ⟨w1, w2⟩
            have ew : wk bt n p' 4 = 4 := if_neg (by omega)
            rw [ew] at w2
            refine f97 T4 _ _ _ _ _ _ ?_ ((he.mono (by decide)).trans (w1.mono (by decide))) w2
            rw [hrd, hrow]
            unfold mrow
            rw [cIf_t z, cIf_f hno]
          refine s_moveLine_61 c _ _ _ T ⟨fun z => absurd g7 (zI_0.mp z), fun _ => ?_⟩
          rw [h6, h12', nI_leI (by omega) (by omega)]
          refine ⟨fun zl => bad4 (fun w => by have := w.1; omega), fun zl => ⟨fun zb => ?_, fun zb => bad4 (fun w => ?_)⟩⟩
          · rw [zI_0, x_bit (by omega) (by omega), hbit _ (by omega)] at zb
            refine s_moveLine_97 c _ _ _ _ T ⟨fun _ => ?_, fun w => absurd (by rw [g7]; exact Int32.le_refl _) w⟩
            rw [g13, tIx6, nI_clamp (show 6 * q + i < 2 ^ 31 by omega), x_orbit (by omega), nI_1]
            have eA : tEq [15] T (tA T 15 (va_up (T.2.2.1 15) (6 * q + i) (nI (tkV bt n p')))) := tEq.sA _ _ (by decide)
            have e2 : tEq mvG T0 (tA T 15 (va_up (T.2.2.1 15) (6 * q + i) (nI (tkV bt n p')))) := he.trans (eA.mono (by decide))
            refine ⟨vpI (by omega), _, ct_goOn2 (tp.same e2 (by decide) (by decide)) (gt.same eA (by decide) (by decide) (by decide) (by decide) (by decide)) gp, ?_⟩
            rintro T6 ⟨w1, w2⟩
            have hgt2 := tkE_gt (bt := bt) (n := n) (p := p') (by rw [z]; decide)
            refine ih (i + 1) (row ++ [tkV bt n p']) (m ||| 2 ^ tkV bt n p') (tkE bt n p') T6 (by omega) (by simp; omega) (fun v hv2 => ?_) ?_ (fun v hv2 => ?_) ?_ (e2.trans (w1.mono (by decide))) (by rw [w1.i 13 (by decide), tA_i]; exact g13) w2 (tkE_le gp) (by omega) (by rw [w1.i 7 (by decide), tA_i]; exact g7) (fun k j hk hj => ?_) (fun j hj => ?_) ?_
            · rcases List.mem_append.mp hv2 with w | w
              · exact hlt v w
              · rw [List.mem_singleton] at w; subst w; omega
            · rw [List.nodup_append]
              exact ⟨hnd, by simp, fun a ha b hb => by rw [List.mem_singleton] at hb; subst hb; exact fun w => zb (w ▸ ha)⟩
            · rw [Nat.testBit_or, Bool.or_eq_true, hbit v hv2, List.mem_append, List.mem_singleton, Nat.testBit_two_pow]
              simp only [decide_eq_true_eq]
              exact ⟨fun w => w.elim Or.inl (fun w => Or.inr w.symm), fun w => w.elim Or.inl (fun w => Or.inr w.symm)⟩
            · exact or_lt hm6 (pow_lt (by omega))
            · rw [w1.a 15 (by decide), tA_as, up_ne (by omega)]; exact g15 k j hk hj
            · rw [w1.a 15 (by decide), tA_as]
              by_cases w : j = i
              · subst w
                rw [up_self]
                unfold rAt
                rw [gD_at (by simp; omega), List.getElem_append_right (by omega)]
                simp [hlen]
              · rw [up_ne (by omega), gnew j (by omega)]
                unfold rAt
                rw [gD_app (by omega)]
            · rw [hrow]
              show mrow bt n pl (r + 1) row p' = _
              exact (cIf_t z).trans (cIf_t ⟨by omega, zb⟩)
          · rw [zI_n0, x_bit (by omega) (by omega), hbit _ (by omega)] at zb
            exact w.2 zb
        · rw [show (2 : Int32) = nI 2 from rfl, gt.sort (by omega)] at z
          refine ⟨_, ct_wrong gt g7 (k := 2) (by omega), ?_⟩
          rintro T11 ⟨w1, w2⟩
          refine s_moveLine_61 c _ _ _ T11 ⟨fun _ => f97 T11 _ _ _ _ _ _ ?_ ((he.mono (by decide)).trans (w1.mono (by decide))) w2, fun w => absurd (zI_n0.mp w) w2.bad⟩
          rw [hrd, hrow]
          have : mrow bt n pl (r + 1) row p' = .inl (wk bt n p' 2, tkP bt n p') := cIf_f z
          rw [this]
    refine key pl 0 [] 0 (tkE bt n p) T9 (by omega) rfl (fun v hv => by cases hv) (by simp) (fun v _ => by simp) (by decide) (e9.mono (by decide)) (by rw [e9.i 13 (by decide)]; exact h13) t9 (tkE_le hp) hgt (by rw [e9.i 7 (by decide)]; exact h7) (fun k j hk hj => by rw [e9.a 15 (by decide)]; exact h15 k j hk hj) (fun j hj => absurd hj (Nat.not_lt_zero _)) rfl
  · rintro T5 ⟨y1, y2⟩
    have ew : wk bt n p 5 = 5 := if_neg (by omega)
    rw [ew] at y2
    have hrd : mvR bt n pl q p = .inl (5, tkP bt n p) := cIf_t hq
    have e5 : tEq mvS T0 T5 := y1.mono (by decide)
    refine s_moveLine_18 c _ T5 ⟨fun _ => s_moveLine_29 c _ T5 (s_moveLine_33 c _ _ _ T5 ⟨fun _ => f138 T5 _ _ _ hrd e5 y2, fun _ => ⟨fun _ => f138 T5 _ _ _ hrd e5 y2, fun z => absurd (zI_n0.mp z) y2.bad⟩⟩), fun z => absurd (zI_n0.mp z) y2.bad⟩
