/-! the twin: a troupe is told -/
/-- marks, names, sums (tEnv but for the bytes) -/
def tNv (X : rX) (T : tS) : Prop := tMk T (xS X) (xM X) ∧ (∀ j, j < xS X → xM X (xS X - 1) j = 1) ∧ tNms T (xNm X) ∧ ∀ k, k < (xNm X).length → fitS (xS X) (xM X) (xSm X k) ∧ ∀ i, i < xS X → T.2.2.2 45 (64 * k + i) = xSm X k i
theorem tNv.same {S : List Nat} {X : rX} {T T' : tS} (h : tNv X T) (e : tEq S T T') (h1 : 26 ∉ S) (h2 : 31 ∉ S) (h3 : 14 ∉ S) (h4 : 44 ∉ S) (h5 : 45 ∉ S) : tNv X T' := ⟨h.1.same e h1 h2, h.2.1, h.2.2.1.same e h3 h4, fun k hk => ⟨(h.2.2.2 k hk).1, fun i hi => by rw [e.b 45 h5]; exact (h.2.2.2 k hk).2 i hi⟩⟩
/-- a troupe in force -/
def tIn (T : tS) (pl q : Nat) (mv : Nat → List Nat) (X : rX) : Prop := tMov T pl q mv ∧ rFew pl q mv ∧ tG T pl q mv ∧ tNv X T ∧ xS X = gS pl q mv ∧ xM X = gMk pl q mv ∧ T.1 16 = T.1 12 ∧ T.1 17 = T.1 13 ∧ T.1 18 = T.1 14 ∧ (∀ j, j < 24 → T.2.2.1 19 j = T.2.2.1 15 j) ∧ (∀ j, j < 8 → T.2.2.2 46 j = T.2.2.2 44 j) ∧ ∀ j, j < 512 → T.2.2.2 47 j = T.2.2.2 45 j
theorem ltsR_x {pl q : Nat} {mv : Nat → List Nat} : ∀ f X p X' p', ltsR f X p = .inr (X', p') → xS X = gS pl q mv → xM X = gMk pl q mv → xS X' = gS pl q mv ∧ xM X' = gMk pl q mv := by
  intro f
  induction f with
  | zero => intro X p X' p' h; cases h
  | succ f ih =>
    intro X p X' p' h h1 h2
    by_cases z : isW X.1 X.2.1 p wLt
    · have hrd : ltsR (f + 1) X p = _ := cIf_t z
      cases hl : ltR X p with
      | inl e => rw [hrd, hl] at h; cases h
      | inr y =>
        rw [hrd, hl] at h
        exact ih (xAdd X y.1 y.2.1) y.2.2 X' p' h h1 h2
    · have hrd : ltsR (f + 1) X p = _ := cIf_f z
      rw [hrd] at h
      by_cases y : tkS X.1 X.2.1 p = 0
      · rw [cIf_t y] at h; cases h; exact ⟨h1, h2⟩
      · rw [cIf_f y] at h; cases h
theorem txR_x {bt : Nat → Nat} {n pl q : Nat} {mv : Nat → List Nat} {X : rX} (h : txR bt n = .inr (pl, q, mv, X)) : xS X = gS pl q mv ∧ xM X = gMk pl q mv := by
  unfold txR at h
  by_cases a1 : isW bt n 0 wPl
  · rw [cIf_t a1] at h
    by_cases a2 : tkS bt n (tkE bt n 0) = 2
    · rw [cIf_t a2] at h
      by_cases a3 : 1 ≤ tkV bt n (tkE bt n 0) ∧ tkV bt n (tkE bt n 0) ≤ 6
      · rw [cIf_t a3] at h
        by_cases a4 : isSn bt n (tkE bt n (tkE bt n 0)) 59
        · rw [cIf_t a4] at h
          cases hm : mvsR bt n (tkV bt n (tkE bt n 0)) (n + 1) 0 (fun _ => []) (tkE bt n (tkE bt n (tkE bt n 0))) with
          | inl e => rw [hm] at h; cases h
          | inr y =>
            rw [hm] at h
            simp only at h
            cases hl : ltsR (n + 1) (x0 bt n (tkV bt n (tkE bt n 0)) y.1 y.2.1) y.2.2 with
            | inl e => rw [hl] at h; cases h
            | inr z =>
              rw [hl] at h
              cases h
              exact ltsR_x _ _ _ _ _ hl rfl rfl
        · rw [cIf_f a4] at h; cases h
      · rw [cIf_f a3] at h; cases h
    · rw [cIf_f a2] at h; cases h
  · rw [cIf_f a1] at h; cases h
abbrev trS : List Nat := [1, 2, 3, 4, 5, 6, 7, 8, 9, 10, 11, 12, 13, 14, 15, 20, 21, 22, 23, 24, 25, 26, 27, 28, 29, 30, 31, 32, 33, 34, 35, 38, 39, 40, 41, 42, 43, 44, 45]
theorem ct_goesBack2 (AF : AllFew) {T0 : tS} {p q : Nat} {mv : Nat → List Nat} (hm : tMovF T0 p q mv) (hfew : rFew p q mv) : tMv mX6_goesBack 4 (fun _ => []) T0 (fun T' => tEq tSg T0 T' ∧ tMov T' p q mv ∧ T'.1 14 = T0.1 18 ∧ T'.1 58 = 0 ∧ (∀ j, j < 24 → T'.2.2.1 15 j = T0.2.2.1 19 j) ∧ (∀ j, j < 8 → T'.2.2.2 44 j = T0.2.2.2 46 j) ∧ (∀ j, j < 512 → T'.2.2.2 45 j = T0.2.2.2 47 j) ∧ tG T' p q mv) := by
  obtain ⟨p1, p6, q4, mok, h16, h17, h19⟩ := id hm
  refine en_goesBack T0 _ (fun c hc => s_goesBack_0 c T0 ?_)
  have hb : tEq [12, 13, 14] T0 (tI (tI (tI T0 12 (T0.1 16)) 13 (T0.1 17)) 14 (T0.1 18)) := ((tEq.sI _ _ (by decide)).trans (tEq.sI _ _ (by decide))).trans (tEq.sI _ _ (by decide))
  have g12 : (tI (tI (tI T0 12 (T0.1 16)) 13 (T0.1 17)) 14 (T0.1 18)).1 12 = T0.1 16 := by rw [tI_in (by decide), tI_in (by decide), tI_is]
  have g13 : (tI (tI (tI T0 12 (T0.1 16)) 13 (T0.1 17)) 14 (T0.1 18)).1 13 = T0.1 17 := by rw [tI_in (by decide), tI_is]
  have g14 : (tI (tI (tI T0 12 (T0.1 16)) 13 (T0.1 17)) 14 (T0.1 18)).1 14 = T0.1 18 := by rw [tI_is]
  generalize (tI (tI (tI T0 12 (T0.1 16)) 13 (T0.1 17)) 14 (T0.1 18)) = TB at hb g12 g13 g14
  refine loopUp (N := 24) (P := fun i => ∀ T, tEq [15] TB T → (∀ j, j < i → T.2.2.1 15 j = T0.2.2.1 19 j) → h_goesBack_26 c (nI i) T) ?_ ?_ 0 (Nat.zero_le _) TB (tEq.refl _ _) (fun j hj => absurd hj (Nat.not_lt_zero _))
  · intro T1 e1 a1
    refine s_goesBack_26 c _ T1 ⟨fun _ => ?_, fun e => absurd (Int32.le_refl _) e⟩
    refine loopUp (N := 8) (P := fun i => ∀ T, tEq [44] T1 T → (∀ j, j < i → T.2.2.2 44 j = T0.2.2.2 46 j) → h_goesBack_52 c (nI i) T) ?_ ?_ 0 (Nat.zero_le _) T1 (tEq.refl _ _) (fun j hj => absurd hj (Nat.not_lt_zero _))
    · intro T2 e2 a2
      refine s_goesBack_52 c _ T2 ⟨fun _ => ?_, fun e => absurd (Int32.le_refl _) e⟩
      refine loopUp (N := 512) (P := fun i => ∀ T, tEq [45] T2 T → (∀ j, j < i → T.2.2.2 45 j = T0.2.2.2 47 j) → h_goesBack_78 c (nI i) T) ?_ ?_ 0 (Nat.zero_le _) T2 (tEq.refl _ _) (fun j hj => absurd hj (Nat.not_lt_zero _))
      · intro T3 e3 a3
        have b13 : tEq [44, 45] T1 T3 := (e2.mono (by decide)).trans (e3.mono (by decide))
        have bb3 : tEq [15, 44, 45] TB T3 := (e1.mono (by decide)).trans (b13.mono (by decide))
        have m3 : tMov T3 p q mv := ⟨p1, p6, q4, mok, by rw [bb3.i 12 (by decide), g12, h16], by rw [bb3.i 13 (by decide), g13, h17], fun k i hk hi => by rw [b13.a 15 (by decide), a1 _ (by omega)]; exact h19 k i hk hi⟩
        refine s_goesBack_78 c _ T3 ⟨fun _ => ⟨_, ct_builds2 m3 hfew (AF p q mv p1 p6 q4 mok hfew), ?_⟩, fun e => absurd (Int32.le_refl _) e⟩
        rintro T5 ⟨e5, f3⟩
        rw [hc]
        have e58 : tEq [58] T5 (tI T5 58 0) := tEq.sI _ _ (by decide)
        refine ⟨rfl, (((hb.mono (by decide)).trans (bb3.mono (by decide))).trans (e5.mono (by decide))).trans (e58.mono (by decide)), (m3.same e5 (by decide) (by decide) (by decide)).same e58 (by decide) (by decide) (by decide), ?_, tI_is, fun j hj => ?_, fun j hj => ?_, fun j hj => ?_, f3.same e58 (by decide)⟩
        · rw [tI_in (by decide), e5.i 14 (by decide), bb3.i 14 (by decide), g14]
        · rw [tI_l, e5.a 15 (by decide), b13.a 15 (by decide)]; exact a1 j hj
        · rw [tI_l, e5.b 44 (by decide), e3.b 44 (by decide)]; exact a2 j hj
        · rw [tI_l, e5.b 45 (by decide)]; exact a3 j hj
      · intro i hi nx T e a
        refine s_goesBack_78 c _ T ⟨fun e => absurd e (nI_ge hi (by decide)), fun _ => ⟨vpI (by omega), vpI (by omega), ?_⟩⟩
        rw [nI_1, nI_clamp (show i < 2 ^ 31 by omega)]
        refine nx _ (e.trans (tEq.sB _ _ (by decide))) (fun j hj => ?_)
        rw [tB_bs]
        by_cases q : j = i
        · subst q; rw [up_self, e.b 47 (by decide), e2.b 47 (by decide), e1.b 47 (by decide), hb.b 47 (by decide)]
        · rw [up_ne q]; exact a j (by omega)
    · intro i hi nx T e a
      refine s_goesBack_52 c _ T ⟨fun e => absurd e (nI_ge hi (by decide)), fun _ => ⟨vpI (by omega), vpI (by omega), ?_⟩⟩
      rw [nI_1, nI_clamp (show i < 2 ^ 31 by omega)]
      refine nx _ (e.trans (tEq.sB _ _ (by decide))) (fun j hj => ?_)
      rw [tB_bs]
      by_cases q : j = i
      · subst q; rw [up_self, e.b 46 (by decide), e1.b 46 (by decide), hb.b 46 (by decide)]
      · rw [up_ne q]; exact a j (by omega)
  · intro i hi nx T e a
    refine s_goesBack_26 c _ T ⟨fun e => absurd e (nI_ge hi (by decide)), fun _ => ⟨vpI (by omega), vpI (by omega), ?_⟩⟩
    rw [nI_1, nI_clamp (show i < 2 ^ 31 by omega)]
    refine nx _ (e.trans (tEq.sA _ _ (by decide))) (fun j hj => ?_)
    rw [tA_as]
    by_cases q : j = i
    · subst q; rw [up_self, e.a 19 (by decide), hb.a 19 (by decide)]
    · rw [up_ne q]; exact a j (by omega)
theorem ct_troupe (AF : AllFew) {T0 : tS} {bt : Nat → Nat} {n pl0 q0 : Nat} {mv0 : Nat → List Nat} {X0 : rX} (h1 : T0.1 1 = nI n) (hn : n ≤ 700) (hb : ∀ k, bt k < 256) (h0 : ∀ k, k < n → T0.2.2.1 0 k = nI (bt k)) (hI0 : tIn T0 pl0 q0 mv0 X0) : tMi mX6_troupe 10 (fun _ => []) T0 (fun r T' => T'.1 1 = 0 ∧ T'.1 58 = 0 ∧
    (∀ pl q mv X, txR bt n = .inr (pl, q, mv, X) → r = nI (gN pl q mv) ∧ T'.1 9 = 0 ∧ T'.1 10 = -1 ∧ tIn T' pl q mv X ∧ T'.1 60 = 0 ∧ ∀ j, j < 64 → T'.2.2.2 36 j = 0) ∧
    ∀ k l, txR bt n = .inl (k, l) → r = -1 ∧ T'.1 9 = nI k ∧ T'.1 10 = nI l ∧ tIn T' pl0 q0 mv0 X0 ∧ tEq (trS ++ [58]) T0 T') := by
  refine en_troupe T0 _ (fun c hc => s_troupe_0 c T0 ?_)
  have eA : tEq [12, 13, 14] T0 (tI (tI (tI T0 12 (1 : Int32)) 13 (0 : Int32)) 14 (0 : Int32)) := ((tEq.sI _ _ (by decide)).trans (tEq.sI _ _ (by decide))).trans (tEq.sI _ _ (by decide))
  have k13 : (tI (tI (tI T0 12 (1 : Int32)) 13 (0 : Int32)) 14 (0 : Int32)).1 13 = 0 := by rw [tI_in (by decide), tI_is]
  have k14 : (tI (tI (tI T0 12 (1 : Int32)) 13 (0 : Int32)) 14 (0 : Int32)).1 14 = 0 := tI_is
  generalize (tI (tI (tI T0 12 (1 : Int32)) 13 (0 : Int32)) 14 (0 : Int32)) = TA at eA k13 k14
  refine ⟨_, ct_begins (by rw [eA.i 1 (by decide)]; exact h1) hn hb (fun k hk => by rw [eA.a 0 (by decide)]; exact h0 k hk), ?_⟩
  rintro T4 ⟨e4, b1, b2, b3, b4, b5⟩
  have e04 : tEq trS T0 T4 := (eA.mono (by decide)).trans (e4.mono (by decide))
  refine ⟨_, ct_reads AF b1 b2 b4 (by rw [e4.i 13 (by decide)]; exact k13) (by rw [e4.i 14 (by decide)]; exact k14), ?_⟩
  rintro T10 ⟨e10, r1, r2⟩
  have e010 : tEq trS T0 T10 := e04.trans (e10.mono (by decide))
  refine ⟨_, ct_tells T10, ?_⟩
  rintro T16 ⟨e16, t1, t2⟩
  have e016 : tEq trS T0 T16 := e010.trans (e16.mono (by decide))
  have g1 : T16.1 1 = 0 := by rw [e16.i 1 (by decide), e10.i 1 (by decide)]; exact b3
  cases hx : txR bt n with
  | inr y =>
    obtain ⟨c1, c2, c3, c4, c5⟩ := r1 y.1 y.2.1 y.2.2.1 y.2.2.2 hx
    obtain ⟨x1, x2⟩ := txR_x hx
    refine ⟨fun _ => ⟨_, ct_inForce T16, ?_⟩, fun w => absurd (by rw [e16.i 7 (by decide), c1]; exact Int32.le_refl _) w⟩
    rintro T23 ⟨e23, i16, i17, i18, i58, i60, i19, i46, i47, i36⟩
    have e1023 : tEq [9, 10, 16, 17, 18, 19, 36, 46, 47, 58, 60] T10 T23 := (e16.mono (by decide)).trans (e23.mono (by decide))
    have hG := c4.same e1023 (by decide)
    rw [hc]
    refine ⟨_, rfl, by rw [e23.i 1 (by decide)]; exact g1, i58, ?_, ?_⟩
    · intro pl q mv X z
      rw [hx] at z
      cases z
      refine ⟨hG.2.2.1.2.2.1, by rw [e23.i 9 (by decide), t1, c1], by rw [e23.i 10 (by decide), t2, c2, b5], ⟨c3.same e1023 (by decide) (by decide) (by decide), rFew_grp c4, hG, tNv.same c5.2 e1023 (by decide) (by decide) (by decide) (by decide) (by decide), x1, x2, ?_, ?_, ?_, fun j hj => ?_, fun j hj => ?_, fun j hj => ?_⟩, i60, i36⟩
      · rw [i16, e23.i 12 (by decide)]
      · rw [i17, e23.i 13 (by decide)]
      · rw [i18, e23.i 14 (by decide)]
      · rw [i19 j hj, e23.a 15 (by decide)]
      · rw [i46 j hj, e23.b 44 (by decide)]
      · rw [i47 j hj, e23.b 45 (by decide)]
    · intro k l z
      rw [hx] at z
      cases z
  | inl y =>
    have hf := r2 y.1 y.2 hx
    have hf16 := hf.same e16 (by decide) (by decide)
    obtain ⟨a1, a2, a3, a4, a5, a6, a7, a8, a9, a10, a11, a12⟩ := id hI0
    have hmF : tMovF T16 pl0 q0 mv0 := ⟨a1.1, a1.2.1, a1.2.2.1, a1.2.2.2.1, by rw [e016.i 16 (by decide), a7]; exact a1.2.2.2.2.1, by rw [e016.i 17 (by decide), a8]; exact a1.2.2.2.2.2.1, fun k i hk hi => by
      have h6 := a1.2.1
      have h4 := a1.2.2.1
      rw [e016.a 19 (by decide), a10 _ (by omega)]; exact a1.2.2.2.2.2.2 k i hk hi⟩
    refine ⟨fun w => absurd w hf16.nle, fun _ => ⟨_, ct_goesBack2 AF hmF a2, ?_⟩⟩
    rintro T29 ⟨e29, m29, i14, i58, i15, i44, i45, hG⟩
    have e029 : tEq (trS ++ [58]) T0 T29 := (e016.mono (by decide)).trans (e29.mono (by decide))
    rw [hc]
    refine ⟨_, rfl, by rw [e29.i 1 (by decide)]; exact g1, i58, ?_, ?_⟩
    · intro pl q mv X z
      rw [hx] at z
      cases z
    · intro k l z
      rw [hx] at z
      cases z
      obtain ⟨mk1, mk2⟩ := tG_mk hG
      refine ⟨rfl, by rw [e29.i 9 (by decide), t1, hf.2.2.1], by rw [e29.i 10 (by decide), t2, hf.2.2.2], ⟨m29, a2, hG, ⟨by rw [a5, a6]; exact mk1, a4.2.1, ⟨a4.2.2.1.1, ?_, fun k hk => ⟨(a4.2.2.1.2.2 k hk).1, ?_⟩⟩, fun k hk => ⟨(a4.2.2.2 k hk).1, fun i hi => ?_⟩⟩, a5, a6, ?_, ?_, ?_, fun j hj => ?_, fun j hj => ?_, fun j hj => ?_⟩, e029⟩
      · rw [i14, e016.i 18 (by decide), a9]; exact a4.2.2.1.2.1
      · have := a4.2.2.1.1
        rw [i44 k (by omega), e016.b 46 (by decide), a11 k (by omega)]; exact (a4.2.2.1.2.2 k hk).2
      · have := a4.2.2.1.1
        have hs : xS X0 ≤ 60 := a4.1.2.1
        rw [i45 _ (by omega), e016.b 47 (by decide), a12 _ (by omega)]; exact (a4.2.2.2 k hk).2 i hi
      · rw [e29.i 16 (by decide), m29.2.2.2.2.1]; exact hmF.2.2.2.2.1
      · rw [e29.i 17 (by decide), m29.2.2.2.2.2.1]; exact hmF.2.2.2.2.2.1
      · rw [e29.i 18 (by decide), i14]
      · rw [e29.a 19 (by decide), i15 j hj]
      · rw [e29.b 46 (by decide), i44 j hj]
      · rw [e29.b 47 (by decide), i45 j hj]
