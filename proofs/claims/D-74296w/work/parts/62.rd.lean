/-! formulas: what they come to, where they are wrong -/
noncomputable def cIf {α : Type} (p : Prop) (a b : α) : α := @ite α p (Classical.propDecidable p) a b
theorem cIf_t {α : Type} {p : Prop} {a b : α} (h : p) : cIf p a b = a := @if_pos p (Classical.propDecidable p) h α a b
theorem cIf_f {α : Type} {p : Prop} {a b : α} (h : ¬ p) : cIf p a b = b := @if_neg p (Classical.propDecidable p) h α a b
abbrev rV : Type := Option (Nat → Int64)
/-- bytes, how many; sorts, marks; names, their sums -/
abbrev rX : Type := (Nat → Nat) × Nat × Nat × (Nat → Nat → Nat) × List (List Nat) × (Nat → Nat → Int64)
abbrev rR : Type := (Nat × Nat) ⊕ (rV × Nat × Nat)
noncomputable def okV (p : Prop) (r : Nat → Int64) : rV := cIf p (some r) none
noncomputable def vLay (X : rX) (i : Nat) (n : Int64) : rV := okV (fitS X.2.2.1 X.2.2.2.1 (dlS i n)) (dlS i n)
noncomputable def vAdd (X : rX) (a b : rV) (g : Int64) : rV := a.bind fun x => b.bind fun y => okV (fitS X.2.2.1 X.2.2.2.1 (fun k => x k + g * y k)) (fun k => x k + g * y k)
def vNeg (a : rV) : rV := a.map fun x k => -x k
noncomputable def vMul (X : rX) (a b : rV) : rV := a.bind fun x => b.bind fun y => okV (mulOk X.2.2.1 (mkAt X.2.2.1 X.2.2.2.1 x) (mkAt X.2.2.1 X.2.2.2.1 y) ∧ fitS X.2.2.1 X.2.2.2.1 (slv X.2.2.1 X.2.2.2.1 (fun j => mkAt X.2.2.1 X.2.2.2.1 x j * mkAt X.2.2.1 X.2.2.2.1 y j))) (slv X.2.2.1 X.2.2.2.1 (fun j => mkAt X.2.2.1 X.2.2.2.1 x j * mkAt X.2.2.1 X.2.2.2.1 y j))
noncomputable def vPow (X : rX) (a : rV) (n : Nat) : rV := a.bind fun x => okV (pwOk X.2.2.1 X.2.2.2.1 (mkAt X.2.2.1 X.2.2.2.1 x) n) (slv X.2.2.1 X.2.2.2.1 (pwM (mkAt X.2.2.1 X.2.2.2.1 x) n))
def bindR (x : rR) (f : rV → Nat → Nat → rR) : rR := Sum.casesOn x (fun e => .inl e) (fun y => f y.1 y.2.1 y.2.2)
theorem bindR_l {e : Nat × Nat} {f : rV → Nat → Nat → rR} : bindR (.inl e) f = .inl e := rfl
theorem bindR_r {v : rV} {p u : Nat} {f : rV → Nat → Nat → rR} : bindR (.inr (v, p, u)) f = f v p u := rfl
theorem bindR_ok {x : rR} {f : rV → Nat → Nat → rR} {y : rV × Nat × Nat} (h : bindR x f = .inr y) : ∃ v p u, x = .inr (v, p, u) ∧ f v p u = .inr y := by
  cases x with
  | inl e => cases h
  | inr z => exact ⟨z.1, z.2.1, z.2.2, rfl, h⟩
theorem bindR_err {x : rR} {f : rV → Nat → Nat → rR} {y : Nat × Nat} (h : bindR x f = .inl y) : x = .inl y ∨ ∃ v p u, x = .inr (v, p, u) ∧ f v p u = .inl y := by
  cases x with
  | inl e => exact Or.inl h
  | inr z => exact Or.inr ⟨z.1, z.2.1, z.2.2, rfl, h⟩
def rEr (X : rX) (p k : Nat) : rR := .inl (wk X.1 X.2.1 p k, tkP X.1 X.2.1 p)
/-- what may begin an operand -/
def isOp (X : rX) (p : Nat) : Prop := tkS X.1 X.2.1 p = 2 ∨ isSn X.1 X.2.1 p 45 ∨ isSn X.1 X.2.1 p 40 ∨ isW X.1 X.2.1 p wSo ∨ isNm X.1 X.2.1 p
noncomputable def rNum (X : rX) (p most : Nat) (f : Nat → Nat → rR) : rR := cIf (tkS X.1 X.2.1 p = 2) (cIf (tkV X.1 X.2.1 p ≤ most) (f (tkV X.1 X.2.1 p) (tkE X.1 X.2.1 p)) (rEr X p 4)) (rEr X p 2)
/-- 0 a sum, 1 its rest, 2 a product, 3 its rest, 4 a factor -/
noncomputable def rd (X : rX) : Nat → Nat → rV → Nat → Nat → Nat → rR
  | 0, _, _, _, _, _ => .inl (9, 0)
  | f + 1, 0, v, p, u, d => bindR (rd X f 2 v p u d) fun v1 p1 u1 => rd X f 1 v1 p1 u1 d
  | f + 1, 1, v, p, u, d => cIf (isSn X.1 X.2.1 p 43) (bindR (rd X f 2 none (tkE X.1 X.2.1 p) u d) fun v1 p1 u1 => rd X f 1 (vAdd X v v1 1) p1 u1 d)
      (cIf (isSn X.1 X.2.1 p 45) (bindR (rd X f 2 none (tkE X.1 X.2.1 p) u d) fun v1 p1 u1 => rd X f 1 (vAdd X v v1 (-1)) p1 u1 d) (.inr (v, p, u)))
  | f + 1, 2, v, p, u, d => bindR (rd X f 4 v p u d) fun v1 p1 u1 => rd X f 3 v1 p1 u1 d
  | f + 1, 3, v, p, u, d => cIf (isSn X.1 X.2.1 p 42) (bindR (rd X f 4 none (tkE X.1 X.2.1 p) u d) fun v1 p1 u1 => rd X f 3 (vMul X v v1) p1 u1 d) (.inr (v, p, u))
  | f + 1, _, _, p, u, d => cIf (¬ isOp X p) (rEr X p 2) (cIf (isNm X.1 X.2.1 p ∧ tkW X.1 X.2.1 p ∉ X.2.2.2.2.1) (rEr X p 3) (cIf (¬ countOk u d) (rEr X p 5)
      (cIf (isSn X.1 X.2.1 p 45) (bindR (rd X f 4 none (tkE X.1 X.2.1 p) (u + 1) (d + 1)) fun v1 p1 u1 => .inr (vNeg v1, p1, u1))
        (bindR (cIf (isSn X.1 X.2.1 p 40) (bindR (rd X f 0 none (tkE X.1 X.2.1 p) (u + 1) (d + 1)) fun v1 p1 u1 => cIf (isSn X.1 X.2.1 p1 41) (.inr (v1, tkE X.1 X.2.1 p1, u1)) (rEr X p1 2))
            (cIf (tkS X.1 X.2.1 p = 2) (.inr (vLay X (X.2.2.1 - 1) (lN (tkV X.1 X.2.1 p)), tkE X.1 X.2.1 p, u + 1))
              (cIf (isNm X.1 X.2.1 p) (.inr (some (X.2.2.2.2.2 (X.2.2.2.2.1.idxOf (tkW X.1 X.2.1 p))), tkE X.1 X.2.1 p, u + 1))
                (rNum X (tkE X.1 X.2.1 p) (X.2.2.1 - 1) fun i q => .inr (vLay X i 1, q, u + 1)))))
          fun v1 p1 u1 => cIf (isSn X.1 X.2.1 p1 94) (rNum X (tkE X.1 X.2.1 p1) 9 fun i q => .inr (vPow X v1 i, q, u1)) (.inr (v1, p1, u1))))))
theorem rNum_ok {X : rX} {p most : Nat} {f : Nat → Nat → rR} {y : rV × Nat × Nat} (h : rNum X p most f = .inr y) : tkS X.1 X.2.1 p = 2 ∧ tkV X.1 X.2.1 p ≤ most ∧ f (tkV X.1 X.2.1 p) (tkE X.1 X.2.1 p) = .inr y := by
  unfold rNum at h
  by_cases h1 : tkS X.1 X.2.1 p = 2
  · rw [cIf_t h1] at h
    by_cases h2 : tkV X.1 X.2.1 p ≤ most
    · rw [cIf_t h2] at h; exact ⟨h1, h2, h⟩
    · rw [cIf_f h2] at h; cases h
  · rw [cIf_f h1] at h; cases h
theorem isSn_n0 {bt : Nat → Nat} {n p c : Nat} (h : isSn bt n p c) : tkS bt n p ≠ 0 := by rw [h.1]; decide
/-- reading goes on and on -/
theorem rd_pos (X : rX) : ∀ f m v p u d y, p ≤ X.2.1 → m ≤ 4 → rd X f m v p u d = .inr y → y.2.1 ≤ X.2.1 ∧ p ≤ y.2.1 ∧ (m % 2 = 0 → p < y.2.1) ∧ u ≤ y.2.2 ∧ (m % 2 = 0 → u < y.2.2) ∧ (u ≤ 30 → y.2.2 ≤ 30) := by
  intro f
  induction f with
  | zero => intro m v p u d y _ _ h; simp [rd] at h
  | succ f ih =>
    intro m v p u d y hp hm h
    rcases (show m = 0 ∨ m = 1 ∨ m = 2 ∨ m = 3 ∨ m = 4 by omega) with rfl | rfl | rfl | rfl | rfl
    · obtain ⟨v1, p1, u1, e1, e2⟩ := bindR_ok h
      have i1 := ih _ _ _ _ _ _ hp (by omega) e1
      simp only at i1
      have i2 := ih _ _ _ _ _ _ i1.1 (by omega) e2
      have i3 := i1.2.2.1 (by decide)
      have i4 := i1.2.2.2.2.1 (by decide)
      omega
    · have one : ∀ g, bindR (rd X f 2 none (tkE X.1 X.2.1 p) u d) (fun v1 p1 u1 => rd X f 1 (vAdd X v v1 g) p1 u1 d) = .inr y → y.2.1 ≤ X.2.1 ∧ p ≤ y.2.1 ∧ (1 % 2 = 0 → p < y.2.1) ∧ u ≤ y.2.2 ∧ (1 % 2 = 0 → u < y.2.2) ∧ (u ≤ 30 → y.2.2 ≤ 30) := by
        intro g h
        obtain ⟨v1, p1, u1, e1, e2⟩ := bindR_ok h
        have i0 := tkE_le (bt := X.1) hp
        have hge : p ≤ tkE X.1 X.2.1 p := by unfold tkE tkP; omega
        have i1 := ih _ _ _ _ _ _ i0 (by omega) e1
        simp only at i1
        have i2 := ih _ _ _ _ _ _ i1.1 (by omega) e2
        omega
      by_cases h1 : isSn X.1 X.2.1 p 43
      · exact one 1 ((show rd X (f + 1) 1 v p u d = _ from cIf_t h1) ▸ h)
      · by_cases h2 : isSn X.1 X.2.1 p 45
        · exact one (-1) ((show rd X (f + 1) 1 v p u d = _ from (cIf_f h1).trans (cIf_t h2)) ▸ h)
        · have e : rd X (f + 1) 1 v p u d = .inr (v, p, u) := (cIf_f h1).trans (cIf_f h2)
          rw [e] at h
          cases h
          simp only
          omega
    · obtain ⟨v1, p1, u1, e1, e2⟩ := bindR_ok h
      have i1 := ih _ _ _ _ _ _ hp (by omega) e1
      simp only at i1
      have i2 := ih _ _ _ _ _ _ i1.1 (by omega) e2
      have i3 := i1.2.2.1 (by decide)
      have i4 := i1.2.2.2.2.1 (by decide)
      omega
    · by_cases h1 : isSn X.1 X.2.1 p 42
      · have h := (show rd X (f + 1) 3 v p u d = _ from cIf_t h1) ▸ h
        obtain ⟨v1, p1, u1, e1, e2⟩ := bindR_ok h
        have i0 := tkE_le (bt := X.1) hp
        have hge : p ≤ tkE X.1 X.2.1 p := by unfold tkE tkP; omega
        have i1 := ih _ _ _ _ _ _ i0 (by omega) e1
        simp only at i1
        have i2 := ih _ _ _ _ _ _ i1.1 (by omega) e2
        omega
      · have e : rd X (f + 1) 3 v p u d = .inr (v, p, u) := cIf_f h1
        rw [e] at h
        cases h
        simp only
        omega
    · have i0 := tkE_le (bt := X.1) hp
      by_cases h1 : ¬ isOp X p
      · have h := (show rd X (f + 1) 4 v p u d = _ from cIf_t h1) ▸ h
        cases h
      · have h := (show rd X (f + 1) 4 v p u d = _ from cIf_f h1) ▸ h
        have hgt : p < tkE X.1 X.2.1 p := by
          refine tkE_gt ?_
          rcases Classical.not_not.mp h1 with q | q | q | q | q
          · omega
          · exact isSn_n0 q
          · exact isSn_n0 q
          · have := q.1; omega
          · have := q.1; omega
        by_cases h2 : isNm X.1 X.2.1 p ∧ tkW X.1 X.2.1 p ∉ X.2.2.2.2.1
        · rw [cIf_t h2] at h; cases h
        · rw [cIf_f h2] at h
          by_cases h3 : ¬ countOk u d
          · rw [cIf_t h3] at h; cases h
          · rw [cIf_f h3] at h
            have hu := (Classical.not_not.mp h3).1
            by_cases h4 : isSn X.1 X.2.1 p 45
            · rw [cIf_t h4] at h
              obtain ⟨v1, p1, u1, e1, e2⟩ := bindR_ok h
              have i1 := ih _ _ _ _ _ _ i0 (by omega) e1
              cases e2
              simp only at i1 ⊢
              omega
            · rw [cIf_f h4] at h
              obtain ⟨v1, p1, u1, e1, e2⟩ := bindR_ok h
              have j1 : p1 ≤ X.2.1 ∧ p < p1 ∧ u < u1 ∧ (u ≤ 30 → u1 ≤ 30) := by
                by_cases h5 : isSn X.1 X.2.1 p 40
                · rw [cIf_t h5] at e1
                  obtain ⟨v2, p2, u2, e3, e4⟩ := bindR_ok e1
                  have i1 := ih _ _ _ _ _ _ i0 (by omega) e3
                  simp only at i1
                  by_cases h6 : isSn X.1 X.2.1 p2 41
                  · rw [cIf_t h6] at e4
                    cases e4
                    have := tkE_le (bt := X.1) i1.1
                    have : p2 ≤ tkE X.1 X.2.1 p2 := by unfold tkE tkP; omega
                    omega
                  · rw [cIf_f h6] at e4; cases e4
                · rw [cIf_f h5] at e1
                  by_cases h6 : tkS X.1 X.2.1 p = 2
                  · rw [cIf_t h6] at e1
                    cases e1
                    omega
                  · rw [cIf_f h6] at e1
                    by_cases h7 : isNm X.1 X.2.1 p
                    · rw [cIf_t h7] at e1
                      cases e1
                      omega
                    · rw [cIf_f h7] at e1
                      obtain ⟨q1, q2, q3⟩ := rNum_ok e1
                      cases q3
                      have := tkE_le (bt := X.1) i0
                      have : tkE X.1 X.2.1 p ≤ tkE X.1 X.2.1 (tkE X.1 X.2.1 p) := by
                        have := tkE_gt (bt := X.1) (n := X.2.1) (p := tkE X.1 X.2.1 p) (by omega)
                        omega
                      omega
              by_cases h8 : isSn X.1 X.2.1 p1 94
              · rw [cIf_t h8] at e2
                obtain ⟨q1, q2, q3⟩ := rNum_ok e2
                cases q3
                have k1 := tkE_le (bt := X.1) j1.1
                have k2 := tkE_le (bt := X.1) k1
                have k3 := tkE_gt (bt := X.1) (n := X.2.1) (p := p1) (isSn_n0 h8)
                have k4 := tkE_gt (bt := X.1) (n := X.2.1) (p := tkE X.1 X.2.1 p1) (by omega)
                simp only
                omega
              · rw [cIf_f h8] at e2
                cases e2
                simp only
                omega
