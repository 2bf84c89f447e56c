/-! the twin reads a formula: operands -/
noncomputable def thX (X : rX) (p u : Nat) : rR := cIf (tkS X.1 X.2.1 p = 2) (.inr (vLay X (X.2.2.1 - 1) (lN (tkV X.1 X.2.1 p)), tkE X.1 X.2.1 p, u + 1)) (cIf (isNm X.1 X.2.1 p) (.inr (some (X.2.2.2.2.2 (X.2.2.2.2.1.idxOf (tkW X.1 X.2.1 p))), tkE X.1 X.2.1 p, u + 1)) (rNum X (tkE X.1 X.2.1 p) (X.2.2.1 - 1) fun i q => .inr (vLay X i 1, q, u + 1)))
def badNm (X : rX) (p : Nat) : Prop := isNm X.1 X.2.1 p ∧ tkW X.1 X.2.1 p ∉ X.2.2.2.2.1
theorem rd_e2 {X : rX} {p u d : Nat} (h : ¬ isOp X p) (v : rV) (f : Nat) : rd X (f + 1) 4 v p u d = rEr X p 2 := cIf_t h
theorem rd_e3 {X : rX} {p u d : Nat} (h : isOp X p) (h2 : badNm X p) (v : rV) (f : Nat) : rd X (f + 1) 4 v p u d = rEr X p 3 := (cIf_f (fun q => q h)).trans (cIf_t h2)
theorem rd_e5 {X : rX} {p u d : Nat} (h : isOp X p) (h2 : ¬ badNm X p) (h3 : ¬ countOk u d) (v : rV) (f : Nat) : rd X (f + 1) 4 v p u d = rEr X p 5 := (cIf_f (fun q => q h)).trans ((cIf_f h2).trans (cIf_t h3))
theorem rd_neg {X : rX} {p u d : Nat} (h : isOp X p) (h2 : ¬ badNm X p) (h3 : countOk u d) (h4 : isSn X.1 X.2.1 p 45) (v : rV) (f : Nat) : rd X (f + 1) 4 v p u d = bindR (rd X f 4 none (tkE X.1 X.2.1 p) (u + 1) (d + 1)) fun v1 p1 u1 => .inr (vNeg v1, p1, u1) := (cIf_f (fun q => q h)).trans ((cIf_f h2).trans ((cIf_f (fun q => q h3)).trans (cIf_t h4)))
theorem rd_par {X : rX} {p u d : Nat} (h : isOp X p) (h2 : ¬ badNm X p) (h3 : countOk u d) (h4 : ¬ isSn X.1 X.2.1 p 45) (h5 : isSn X.1 X.2.1 p 40) (v : rV) (f : Nat) : rd X (f + 1) 4 v p u d = bindR (bindR (rd X f 0 none (tkE X.1 X.2.1 p) (u + 1) (d + 1)) fun v1 p1 u1 => cIf (isSn X.1 X.2.1 p1 41) (.inr (v1, tkE X.1 X.2.1 p1, u1)) (rEr X p1 2)) (fun v1 p1 u1 => clX X v1 p1 u1) := by
  refine (cIf_f (fun q => q h)).trans ((cIf_f h2).trans ((cIf_f (fun q => q h3)).trans ((cIf_f h4).trans ?_)))
  exact congrArg (fun z => bindR z (fun v1 p1 u1 => clX X v1 p1 u1)) (cIf_t h5)
theorem rd_th {X : rX} {p u d : Nat} (h : isOp X p) (h2 : ¬ badNm X p) (h3 : countOk u d) (h4 : ¬ isSn X.1 X.2.1 p 45) (h5 : ¬ isSn X.1 X.2.1 p 40) (v : rV) (f : Nat) : rd X (f + 1) 4 v p u d = bindR (thX X p u) (fun v1 p1 u1 => clX X v1 p1 u1) := by
  refine (cIf_f (fun q => q h)).trans ((cIf_f h2).trans ((cIf_f (fun q => q h3)).trans ((cIf_f h4).trans ?_)))
  exact congrArg (fun z => bindR z (fun v1 p1 u1 => clX X v1 p1 u1)) (cIf_f h5)
theorem isSn_uniq {bt : Nat → Nat} {n p a b : Nat} (h : isSn bt n p a) (h2 : isSn bt n p b) : a = b := h.2.symm.trans h2.2
theorem ct_operand {X : rX} {T0 : tS} (hE : tEnv X T0) {u d p : Nat} {W : List Nat} {h : Nat} {pe : Nat → rV} {T : tS} (hf : tFm X T0 T W h pe u d p 0) : tMi mX6_operand 4 (fun _ => []) T (fun r T' =>
    (∃ k pl, (∀ v f, rd X (f + 1) 4 v p u d = .inl (k, pl)) ∧ tEq fmS T0 T' ∧ tFlt T' k pl) ∨
    (isSn (xB X) (xN X) p 45 ∧ countOk u d ∧ r = 0 ∧ tFm X T0 T' (1 :: W) h pe (u + 1) (d + 1) (tkE (xB X) (xN X) p) 0) ∨
    (isSn (xB X) (xN X) p 40 ∧ countOk u d ∧ r = 0 ∧ tFm X T0 T' (0 :: W) h pe (u + 1) (d + 1) (tkE (xB X) (xN X) p) 0) ∨
    (r = 1 ∧ ∃ v1 p1, (∀ v f, rd X (f + 1) 4 v p u d = clX X v1 p1 (u + 1)) ∧ p < p1 ∧ tFm X T0 T' W (h + 1) (va_up pe h v1) (u + 1) d p1 2)) := by
  obtain ⟨f1, f2, f3, f4, f5, f6, f7, f8, f9, f10, f11, f12⟩ := id hf
  have hE1 := hE.same f1
  obtain ⟨tp, hM, hu1, hNm, hSm⟩ := id hE1
  obtain ⟨s1, s60, h26, -, -⟩ := id hM
  have hb := tp.2.1
  refine en_operand T _ (fun c hc => ?_)
  have ret : ∀ r T', _ → c.2.2.2.2.2.2 (some (.int r)) T' := fun r T' q => by rw [hc]; exact ⟨r, rfl, q⟩
  have sg : ∀ x : Nat, x < 300 → ((T.1 7 = 0 ∧ T.1 5 = 3 ∧ T.1 6 = nI x) ↔ isSn (xB X) (xN X) p x) := fun x hx => ⟨fun q => (f2.sign hb hx).mp q.2, fun q => ⟨f4, (f2.sign hb hx).mpr q⟩⟩
  -- a fault is told
  have e311 : ∀ (T' : tS) (k pl : Nat), (∀ v f, rd X (f + 1) 4 v p u d = .inl (k, pl)) → tEq fmS T0 T' → tFlt T' k pl → h_operand_311 c T' := fun T' k pl q1 q2 q3 => s_operand_311 c T' ⟨fun _ => ret _ _ (Or.inl ⟨k, pl, q1, q2, q3⟩), fun z => absurd (zI_n0.mp z) q3.bad⟩
  -- a value lies on the pile, its last token is gone over
  have v311 : ∀ (T' : tS) (v1 : rV) (p0 : Nat), (∀ v f, rd X (f + 1) 4 v p u d = clX X v1 (tkE (xB X) (xN X) p0) (u + 1)) → p < tkE (xB X) (xN X) p0 → tFm X T0 T' W (h + 1) (va_up pe h v1) (u + 1) d p0 2 → h_operand_311 c T' := by
    intro T' v1 p0 q1 q2 q3
    obtain ⟨g1, g2, g3, g4, -⟩ := id q3
    refine s_operand_311 c T' ⟨fun z => absurd g4 (zI_0.mp z), fun _ => ⟨_, ct_goOn2 ((hE.same g1).1) g2 g3, ?_⟩⟩
    rintro T9 ⟨y1, y2⟩
    exact ret _ _ (Or.inr (Or.inr (Or.inr ⟨rfl, v1, _, q1, q2, q3.go y1 y2 (tkE_le g3) (Nat.le_refl _)⟩)))
  -- signs
  have sgn : ∀ (w : Nat) (cd : Nat), (w = 1 ∧ cd = 45) ∨ (w = 0 ∧ cd = 40) → isSn (xB X) (xN X) p cd → ∃ Q2 : tS → Prop, tMv mX6_countsUnit 2 (fun b => []) T Q2 ∧ ∀ T5 : tS, Q2 T5 → vp_in (T5.1 41) 80 ∧ (((zI ((tI (tI (tA T5 40 (va_up (T5.2.2.1 40) (T5.1 41).toNatClampNeg (nI w))) 41 ((T5.1 41) + (1 : Int32))) 42 ((T5.1 42) + (1 : Int32))).1 7 = 0)) = 0 → c.2.2.2.2.2.2 (some (.int (0 : Int32))) (tI (tI (tA T5 40 (va_up (T5.2.2.1 40) (T5.1 41).toNatClampNeg (nI w))) 41 ((T5.1 41) + (1 : Int32))) 42 ((T5.1 42) + (1 : Int32)))) ∧ (¬ (zI ((tI (tI (tA T5 40 (va_up (T5.2.2.1 40) (T5.1 41).toNatClampNeg (nI w))) 41 ((T5.1 41) + (1 : Int32))) 42 ((T5.1 42) + (1 : Int32))).1 7 = 0)) = 0 → ∃ Q15 : tS → Prop, tMv mX6_goOn 1 (fun b => []) (tI (tI (tA T5 40 (va_up (T5.2.2.1 40) (T5.1 41).toNatClampNeg (nI w))) 41 ((T5.1 41) + (1 : Int32))) 42 ((T5.1 42) + (1 : Int32))) Q15 ∧ ∀ T18 : tS, Q15 T18 → c.2.2.2.2.2.2 (some (.int (0 : Int32))) T18)) := by
    intro w cd hw hsn
    have hop : isOp X p := by
      rcases hw with ⟨-, rfl⟩ | ⟨-, rfl⟩
      · exact Or.inr (Or.inl hsn)
      · exact Or.inr (Or.inr (Or.inl hsn))
    have hnb : ¬ badNm X p := fun q => by have h1 := q.1.1; have h2 := hsn.1; rw [h1] at h2; exact absurd h2 (by decide)
    refine ⟨_, ct_countsUnit f2 f4 f8 f7 f11 (by omega), ?_⟩
    rintro T5 hx
    have h41 : T5.1 41 = nI W.length := by
      rcases hx with ⟨-, q, -⟩ | ⟨-, q, -⟩
      · rw [q.i 41 (by decide)]; exact f6.1
      · rw [q.i 41 (by decide)]; exact f6.1
    have h42 : T5.1 42 = nI d := by
      rcases hx with ⟨-, q, -⟩ | ⟨-, q, -⟩
      · rw [q.i 42 (by decide)]; exact f7
      · rw [q.i 42 (by decide)]; exact f7
    rw [h41, h42, nI_clamp (show W.length < 2 ^ 31 by omega), nI_1, nI_1]
    have ep : tEq [40, 41, 42] T5 (tI (tI (tA T5 40 (va_up (T5.2.2.1 40) W.length (nI w))) 41 (nI (W.length + 1))) 42 (nI (d + 1))) := ((tEq.sA _ _ (by decide)).trans (tEq.sI _ _ (by decide))).trans (tEq.sI _ _ (by decide))
    refine ⟨vpI (by omega), ?_⟩
    rcases hx with ⟨c1, c2, c3⟩ | ⟨c1, c2, c3⟩
    · have e2 : tEq [40, 41, 42, 43] T (tI (tI (tA T5 40 (va_up (T5.2.2.1 40) W.length (nI w))) 41 (nI (W.length + 1))) 42 (nI (d + 1))) := (c2.mono (by decide)).trans (ep.mono (by decide))
      have w4 : w ≤ 4 := by omega
      have hfp : tFm X T0 (tI (tI (tA T5 40 (va_up (T5.2.2.1 40) W.length (nI w))) 41 (nI (W.length + 1))) 42 (nI (d + 1))) (w :: W) h pe (u + 1) (d + 1) p 0 := ⟨(f1.mono (by decide)).trans (e2.mono (by decide)), f2.same e2 (by decide) (by decide) (by decide) (by decide) (by decide), f3, by rw [e2.i 7 (by decide)]; exact f4, f5.same e2 (by decide) (by decide) (by decide), ((f6.same c2 (by decide) (by decide)).push w4).same (tEq.sI (S := [42]) _ _ (by decide)) (by decide) (by decide), tI_is, by rw [ep.i 43 (by decide)]; exact c3, by omega, by omega, by have := c1.1; omega, by simp; omega⟩
      obtain ⟨g1, g2, g3, g4, -⟩ := id hfp
      refine ⟨fun z => absurd g4 (zI_0.mp z), fun _ => ⟨_, ct_goOn2 ((hE.same g1).1) g2 g3, ?_⟩⟩
      rintro T18 ⟨y1, y2⟩
      have hg := hfp.go (z' := 0) y1 y2 (tkE_le g3) (Nat.le_refl _)
      rcases hw with ⟨rfl, rfl⟩ | ⟨rfl, rfl⟩
      · exact ret _ _ (Or.inr (Or.inl ⟨hsn, c1, rfl, hg⟩))
      · exact ret _ _ (Or.inr (Or.inr (Or.inl ⟨hsn, c1, rfl, hg⟩)))
    · have c4 := c3.same ep (by decide) (by decide)
      exact ⟨fun _ => ret _ _ (Or.inl ⟨_, _, fun v f => rd_e5 hop hnb c1 v f, ((f1.mono (by decide)).trans (c2.mono (by decide))).trans (ep.mono (by decide)), c4⟩), fun z => absurd (zI_n0.mp z) c4.bad⟩
  have h18 : isSn (xB X) (xN X) p 45 ∨ isSn (xB X) (xN X) p 40 → h_operand_18 c T := by
    intro q
    refine s_operand_18 c T ⟨fun e => ?_, fun e => ?_⟩
    · have q45 : isSn (xB X) (xN X) p 45 := by
        rcases q with q | q
        · exact q
        · exact absurd ((sg 40 (by omega)).mpr q).2.2 e
      obtain ⟨Q2, y1, y2⟩ := sgn 1 45 (by omega) q45
      exact ⟨Q2, y1, fun T5 h5 => ⟨fun _ => y2 T5 h5, fun z => absurd rfl z⟩⟩
    · have q40 : isSn (xB X) (xN X) p 40 := by
        rcases q with q | q
        · have := ((sg 45 (by omega)).mpr q).2.2
          rw [e] at this
          exact absurd this (by decide)
        · exact q
      obtain ⟨Q2, y1, y2⟩ := sgn 0 40 (by omega) q40
      exact ⟨Q2, y1, fun T5 h5 => ⟨fun z => absurd z (by decide), fun _ => y2 T5 h5⟩⟩
  -- words, and what may not stand here
  have h125 : ¬ isSn (xB X) (xN X) p 45 → ¬ isSn (xB X) (xN X) p 40 → ¬ tkS (xB X) (xN X) p = 2 → h_operand_125 c T := by
    intro n45 n40 n2
    have wso : (T.1 7 = 0 ∧ T.1 5 = 1 ∧ T.2.1 11 = (1936683636 : Int64)) ↔ isW (xB X) (xN X) p wSo := by
      rw [w_all.2.2.2]
      exact ⟨fun q => (f2.isw wd_all.2.2.2).mp q.2, fun q => ⟨f4, (f2.isw wd_all.2.2.2).mpr q⟩⟩
    refine s_operand_125 c T ⟨fun e => ⟨fun z => absurd f4 (zI_0.mp z), fun _ => ⟨fun en => ?_, fun en => ?_⟩⟩, fun e => ?_⟩
    · -- nothing that may stand here
      rw [zI_0, wso] at e
      rw [zI_0, f2.name] at en
      have hno : ¬ isOp X p := fun q => by
        rcases q with q | q | q | q | q
        · exact n2 q
        · exact n45 q
        · exact n40 q
        · exact e q
        · exact en q
      refine s_operand_306 c T ⟨_, ct_wrong f2 f4 (k := 2) (by omega), ?_⟩
      rintro T4 ⟨y1, y2⟩
      exact e311 T4 _ _ (fun v f => rd_e2 hno v f) ((f1.mono (by decide)).trans (y1.mono (by decide))) y2
    · -- a name
      rw [zI_0, wso] at e
      rw [zI_n0, f2.name] at en
      have hop : isOp X p := Or.inr (Or.inr (Or.inr (Or.inr en)))
      refine ⟨_, ct_nameAt hNm f2 en.1, ?_⟩
      rintro r T19 ⟨rfl, hx⟩
      rcases hx with ⟨x1, rfl⟩ | ⟨x1, rfl⟩
      · have hidx : (xNm X).idxOf (tkW (xB X) (xN X) p) < (xNm X).length := List.idxOf_lt_length_of_mem x1
        have hl8 := hNm.1
        refine ⟨fun _ => s_operand_241 c _ _ ⟨_, ct_countsUnit f2 f4 f8 f7 f11 (by omega), ?_⟩, fun z => absurd z (nI_nm1 (by omega))⟩
        rintro T4 hy
        rcases hy with ⟨c1, c2, c3⟩ | ⟨c1, c2, c3⟩
        · have c7 : T4.1 7 = 0 := by rw [c2.i 7 (by decide)]; exact f4
          refine ⟨fun z => absurd c7 (zI_0.mp z), fun _ => ?_⟩
          have hfit := (hSm _ hidx).1
          have hrow := (hSm _ hidx).2
          have c11 := c1.1
          refine loopUp (N := xS X) (P := fun i => ∀ T5, tEq [33] T4 T5 → (∀ j, j < i → T5.2.2.2 33 (64 * h + j) = xSm X ((xNm X).idxOf (tkW (xB X) (xN X) p)) j) → (∀ j, j < 64 * h → T5.2.2.2 33 j = T4.2.2.2 33 j) → h_operand_254 c (nI ((xNm X).idxOf (tkW (xB X) (xN X) p))) (nI i) T5) ?_ ?_ 0 (Nat.zero_le _) T4 (tEq.refl _ _) (fun j hj => absurd hj (Nat.not_lt_zero _)) (fun j hj => rfl)
          · intro T5 k1 k2 k3
            have k26 : T5.1 26 = nI (xS X) := by rw [k1.i 26 (by decide), c2.i 26 (by decide)]; exact h26
            have k38 : T5.1 38 = nI h := by rw [k1.i 38 (by decide), c2.i 38 (by decide)]; exact f5.2.1
            refine s_operand_254 c _ _ T5 ⟨fun _ => s_operand_303 c _ ?_, fun z => absurd (by rw [k26]; exact Int32.le_refl _) z⟩
            rw [k38, nI_1]
            have e5 : tEq [33, 38, 43] T19 (tI T5 38 (nI (h + 1))) := ((c2.mono (by decide)).trans (k1.mono (by decide))).trans (tEq.sI _ _ (by decide))
            have hvp : tVP (tI T5 38 (nI (h + 1))) (xS X) (xM X) (h + 1) (va_up pe h (some (xSm X ((xNm X).idxOf (tkW (xB X) (xN X) p))))) := by
              refine ⟨by omega, tI_is, by rw [e5.i 39 (by decide)]; exact f5.2.2.1, ?_, fun l hl r hr q => ?_⟩
              · rw [e5.i 39 (by decide), f5.2.2.2.1]
                constructor
                · intro q l hl
                  by_cases z : l = h
                  · subst z; rw [up_self]; simp
                  · rw [up_ne z]; exact q l (by omega)
                · intro q l hl
                  have := q l (by omega)
                  rw [up_ne (by omega)] at this
                  exact this
              · rw [e5.i 39 (by decide)] at q
                by_cases z : l = h
                · subst z
                  rw [up_self] at hr
                  cases hr
                  exact ⟨fun j hj => k2 j hj, hfit⟩
                · rw [up_ne z] at hr
                  have := f5.2.2.2.2 l (by omega) r hr q
                  refine ⟨fun j hj => ?_, this.2⟩
                  have e33 : (tI T5 38 (nI (h + 1))).2.2.2 33 (64 * l + j) = T4.2.2.2 33 (64 * l + j) := k3 _ (by omega)
                  rw [e33, c2.b 33 (by decide)]
                  exact this.1 j hj
            refine v311 _ _ p (fun v f => ?_) (tkE_gt (by rw [en.1]; decide)) ⟨(f1.mono (by decide)).trans (e5.mono (by decide)), f2.same e5 (by decide) (by decide) (by decide) (by decide) (by decide), f3, by rw [e5.i 7 (by decide)]; exact f4, hvp, f6.same e5 (by decide) (by decide), by rw [e5.i 42 (by decide)]; exact f7, by rw [tI_in (by decide), k1.i 43 (by decide)]; exact c3, by omega, by omega, by omega, by omega⟩
            rw [rd_th hop (fun q => q.2 x1) c1 n45 n40 v f]
            unfold thX
            rw [cIf_f n2, cIf_t en]
            rfl
          · intro i hi nx T5 k1 k2 k3
            have k26 : T5.1 26 = nI (xS X) := by rw [k1.i 26 (by decide), c2.i 26 (by decide)]; exact h26
            have k38 : T5.1 38 = nI h := by rw [k1.i 38 (by decide), c2.i 38 (by decide)]; exact f5.2.1
            refine s_operand_254 c _ _ T5 ⟨fun z => absurd z (by rw [k26]; exact nI_ge hi (by omega)), fun _ => ?_⟩
            rw [k38, tIx64, tIx64, nI_1, nI_clamp (show 64 * h + i < 2 ^ 31 by omega), nI_clamp (show 64 * (xNm X).idxOf (tkW (xB X) (xN X) p) + i < 2 ^ 31 by omega)]
            refine ⟨vpI (by omega), vpI (by omega), nx _ (k1.trans (tEq.sB _ _ (by decide))) (fun j hj => ?_) (fun j hj => ?_)⟩
            · rw [tB_bs]
              by_cases z : j = i
              · subst z
                rw [up_self, k1.b 45 (by decide), c2.b 45 (by decide)]
                exact hrow j hi
              · rw [up_ne (by omega)]; exact k2 j (by omega)
            · rw [tB_bs, up_ne (by omega)]; exact k3 j hj
        · exact ⟨fun _ => s_operand_303 c _ (e311 T4 _ _ (fun v f => rd_e5 hop (fun q => q.2 x1) c1 v f) ((f1.mono (by decide)).trans (c2.mono (by decide))) c3), fun z => absurd (zI_n0.mp z) c3.bad⟩
      · refine ⟨fun z => absurd rfl z, fun _ => ⟨_, ct_wrong f2 f4 (k := 3) (by omega), ?_⟩⟩
        rintro T26 ⟨y1, y2⟩
        refine s_operand_241 c _ _ ⟨_, ct_countsUnit' y2, ?_⟩
        rintro T4 ⟨z1, z2⟩
        exact ⟨fun _ => s_operand_303 c _ (e311 T4 _ _ (fun v f => rd_e3 hop ⟨en, x1⟩ v f) (((f1.mono (by decide)).trans (y1.mono (by decide))).trans (z1.mono (by decide))) z2), fun z => absurd (zI_n0.mp z) z2.bad⟩
    · -- a sort
      rw [zI_n0, wso] at e
      have hop : isOp X p := Or.inr (Or.inr (Or.inr (Or.inl e)))
      have nnm : ¬ isNm (xB X) (xN X) p := fun q => q.2.2.2.2 e.2
      have hnb : ¬ badNm X p := fun q => nnm q.1
      have e193 : ∀ (T' : tS) (k pl : Nat), (∀ v f, rd X (f + 1) 4 v p u d = .inl (k, pl)) → tEq fmS T0 T' → tFlt T' k pl → h_operand_193 c T' := fun T' k pl q1 q2 q3 => s_operand_193 c T' ⟨fun _ => e311 T' k pl q1 q2 q3, fun z => absurd (zI_n0.mp z) q3.bad⟩
      have e170 : ∀ (T' : tS) (k pl : Nat), (∀ v f, rd X (f + 1) 4 v p u d = .inl (k, pl)) → tEq fmS T0 T' → tFlt T' k pl → h_operand_170 c T' := fun T' k pl q1 q2 q3 => s_operand_170 c T' ⟨fun _ => e193 T' k pl q1 q2 q3, fun z => absurd (zI_n0.mp z) q3.bad⟩
      have e150 : ∀ (T' : tS) (k pl : Nat), (∀ v f, rd X (f + 1) 4 v p u d = .inl (k, pl)) → tEq fmS T0 T' → tFlt T' k pl → h_operand_150 c T' := fun T' k pl q1 q2 q3 => s_operand_150 c T' ⟨fun _ => e170 T' k pl q1 q2 q3, fun z => absurd (zI_n0.mp z) q3.bad⟩
      refine ⟨_, ct_countsUnit f2 f4 f8 f7 f11 (by omega), ?_⟩
      rintro T32 hy
      rcases hy with ⟨c1, c2, c3⟩ | ⟨c1, c2, c3⟩
      · have hf2 : tFm X T0 T32 W h pe (u + 1) d p 2 := ⟨(f1.mono (by decide)).trans (c2.mono (by decide)), f2.same c2 (by decide) (by decide) (by decide) (by decide) (by decide), f3, by rw [c2.i 7 (by decide)]; exact f4, f5.same c2 (by decide) (by decide) (by decide), f6.same c2 (by decide) (by decide), by rw [c2.i 42 (by decide)]; exact f7, c3, by omega, by omega, by have := c1.1; omega, by omega⟩
        obtain ⟨g1, g2, g3, g4, -⟩ := id hf2
        have rdth : ∀ v f, rd X (f + 1) 4 v p u d = bindR (rNum X (tkE X.1 X.2.1 p) (X.2.2.1 - 1) fun i q => .inr (vLay X i 1, q, u + 1)) (fun v1 p1 u1 => clX X v1 p1 u1) := by
          intro v f
          rw [rd_th hop hnb c1 n45 n40 v f]
          unfold thX
          rw [cIf_f n2, cIf_f nnm]
        refine ⟨fun z => absurd g4 (zI_0.mp z), fun _ => ⟨_, ct_goOn2 ((hE.same g1).1) g2 g3, ?_⟩⟩
        rintro T43 ⟨y1, y2⟩
        have hf3 := hf2.go (z' := 2) y1 y2 (tkE_le g3) (Nat.le_refl _)
        obtain ⟨k1, k2, k3, k4, k5, k6, k7, k8, k9, k10, k11, k12⟩ := id hf3
        have k26 : T43.1 26 = nI (xS X) := (hE.same k1).2.1.2.2.1
        refine s_operand_150 c T43 ⟨fun z => absurd k4 (zI_0.mp z), fun _ => ⟨fun z2 => ?_, fun z2 => ?_⟩⟩
        · rw [show (2 : Int32) = nI 2 from rfl, k2.sort (by omega)] at z2
          have hv := tkV_lt z2
          have h6 := k2.2.2.2.1 (Or.inl z2)
          refine s_operand_170 c T43 ⟨fun z => absurd k4 (zI_0.mp z), fun _ => ?_⟩
          rw [h6, k26, nI_ltI (by omega) (by omega)]
          refine ⟨fun zl => ?_, fun zl => ⟨_, ct_wrong k2 k4 (k := 4) (by omega), ?_⟩⟩
          · refine s_operand_193 c T43 ⟨fun z => absurd k4 (zI_0.mp z), fun _ => ?_⟩
            rw [h6]
            refine ⟨_, ct_lays ((hE.same k1).2.1) k5.pl (by omega) (by omega) 1, ?_⟩
            rintro T9 ⟨o1, o2, o3⟩
            refine v311 T9 _ _ (fun v f => ?_) ?_ ⟨(k1.mono (by decide)).trans (o1.mono (by decide)), k2.same o1 (by decide) (by decide) (by decide) (by decide) (by decide), k3, by rw [o1.i 7 (by decide)]; exact k4, vp_lay k5 o2 o3, k6.same o1 (by decide) (by decide), by rw [o1.i 42 (by decide)]; exact k7, by rw [o1.i 43 (by decide)]; exact k8, by omega, k10, k11, k12⟩
            · rw [rdth v f]
              unfold rNum
              rw [cIf_t z2, cIf_t (show tkV (xB X) (xN X) (tkE (xB X) (xN X) p) ≤ xS X - 1 by omega)]
              rfl
            · have q1 := tkE_gt (bt := xB X) (n := xN X) (p := p) (by rw [e.1]; decide)
              have q2 := tkE_gt (bt := xB X) (n := xN X) (p := tkE (xB X) (xN X) p) (by rw [z2]; decide)
              omega
          · rintro T10 ⟨o1, o2⟩
            refine e193 T10 _ _ (fun v f => ?_) ((k1.mono (by decide)).trans (o1.mono (by decide))) o2
            rw [rdth v f]
            unfold rNum
            rw [cIf_t z2, cIf_f (show ¬ tkV (xB X) (xN X) (tkE (xB X) (xN X) p) ≤ xS X - 1 by omega)]
            rfl
        · rw [show (2 : Int32) = nI 2 from rfl, k2.sort (by omega)] at z2
          refine ⟨_, ct_wrong k2 k4 (k := 2) (by omega), ?_⟩
          rintro T10 ⟨o1, o2⟩
          refine e170 T10 _ _ (fun v f => ?_) ((k1.mono (by decide)).trans (o1.mono (by decide))) o2
          rw [rdth v f]
          unfold rNum
          rw [cIf_f z2]
          rfl
      · exact ⟨fun _ => e150 T32 _ _ (fun v f => rd_e5 hop hnb c1 v f) ((f1.mono (by decide)).trans (c2.mono (by decide))) c3, fun z => absurd (zI_n0.mp z) c3.bad⟩
  refine s_operand_0 c T ⟨fun e => h18 (Or.inl ((sg 45 (by omega)).mp (zI_n0.mp e))), fun e45 => ⟨fun e40 => ⟨fun z => absurd f4 (zI_0.mp z), fun _ => ⟨fun e2 => ?_, fun e2 => ?_⟩⟩, fun e => h18 (Or.inr ((sg 40 (by omega)).mp (zI_n0.mp e)))⟩⟩
  · rw [show (2 : Int32) = nI 2 from rfl, f2.sort (by omega)] at e2
    exact h125 (fun q => (zI_0.mp e45) ((sg 45 (by omega)).mpr q)) (fun q => (zI_0.mp e40) ((sg 40 (by omega)).mpr q)) e2
  · rw [show (2 : Int32) = nI 2 from rfl, f2.sort (by omega)] at e2
    have n45 : ¬ isSn (xB X) (xN X) p 45 := fun q => (zI_0.mp e45) ((sg 45 (by omega)).mpr q)
    have n40 : ¬ isSn (xB X) (xN X) p 40 := fun q => (zI_0.mp e40) ((sg 40 (by omega)).mpr q)
    have hop : isOp X p := Or.inl e2
    have hnb : ¬ badNm X p := fun q => by have := q.1.1; have h2 : tkS X.1 X.2.1 p = 2 := e2; rw [h2] at this; exact absurd this (by decide)
    have hv := tkV_lt e2
    have h6 := f2.2.2.2.1 (Or.inl e2)
    refine ⟨_, ct_countsUnit f2 f4 f8 f7 f11 (by omega), ?_⟩
    rintro T20 hy
    have k26 : T20.1 26 = nI (xS X) := by
      rcases hy with ⟨-, q, -⟩ | ⟨-, q, -⟩
      · rw [q.i 26 (by decide)]; exact h26
      · rw [q.i 26 (by decide)]; exact h26
    have k6 : T20.1 6 = nI (tkV (xB X) (xN X) p) := by
      rcases hy with ⟨-, q, -⟩ | ⟨-, q, -⟩
      · rw [q.i 6 (by decide)]; exact h6
      · rw [q.i 6 (by decide)]; exact h6
    have hM2 : tMk T20 (xS X) (xM X) := by
      rcases hy with ⟨-, q, -⟩ | ⟨-, q, -⟩
      · exact hM.same q (by decide) (by decide)
      · exact hM.same q (by decide) (by decide)
    have hP2 : tVP T20 (xS X) (xM X) h pe := by
      rcases hy with ⟨-, q, -⟩ | ⟨-, q, -⟩
      · exact f5.same q (by decide) (by decide) (by decide)
      · exact f5.same q (by decide) (by decide) (by decide)
    rw [k26, k6, show (1 : Int32) = nI 1 from rfl, pk_sub s1, nI_l (by omega)]
    refine ⟨_, ct_lays hM2 hP2.pl (by omega) (by omega) _, ?_⟩
    rintro T26 ⟨o1, o2, o3⟩
    rcases hy with ⟨c1, c2, c3⟩ | ⟨c1, c2, c3⟩
    · have e3 : tEq [33, 38, 39, 43] T T26 := (c2.mono (by decide)).trans (o1.mono (by decide))
      refine v311 T26 _ p (fun v f => ?_) (tkE_gt (by rw [e2]; decide)) ⟨(f1.mono (by decide)).trans (e3.mono (by decide)), f2.same e3 (by decide) (by decide) (by decide) (by decide) (by decide), f3, by rw [e3.i 7 (by decide)]; exact f4, vp_lay hP2 o2 o3, f6.same e3 (by decide) (by decide), by rw [e3.i 42 (by decide)]; exact f7, by rw [o1.i 43 (by decide)]; exact c3, by omega, by omega, by have := c1.1; omega, by omega⟩
      rw [rd_th hop hnb c1 n45 n40 v f]
      unfold thX
      rw [cIf_t e2]
      rfl
    · exact e311 T26 _ _ (fun v f => rd_e5 hop hnb c1 v f) (((f1.mono (by decide)).trans (c2.mono (by decide))).trans (o1.mono (by decide))) (c3.same o1 (by decide) (by decide))
