/-! the twin reads a formula: the contract -/
noncomputable def rdF (X : rX) (p : Nat) : rR := rd X (5 * X.2.1 + 4) 0 none p 0 0
theorem ct_formula {X : rX} {T0 : tS} (hE : tEnv X T0) {p : Nat} (ht : tTok T0 (xB X) (xN X) p) (hp : p ≤ xN X) (h7 : T0.1 7 = 0) : tMv mX6_formula 7 (fun _ => []) T0 (fun T' => tEq fmS T0 T' ∧ (∀ v p1 u1, rdF X p = .inr (v, p1, u1) → p1 ≤ xN X ∧ tTok T' (xB X) (xN X) p1 ∧ T'.1 7 = 0 ∧ T'.1 8 = T0.1 8 ∧ (T'.1 39 = 0 ∨ T'.1 39 = 1) ∧ (T'.1 39 = 0 ↔ v ≠ none) ∧ ∀ r, v = some r → tSeg T' 33 0 (xS X) r ∧ fitS (xS X) (xM X) r) ∧ ∀ k pl, rdF X p = .inl (k, pl) → tFlt T' k pl) := by
  refine en_formula T0 _ (fun c hc => s_formula_0 c T0 ?_)
  have eB : tEq [38, 39, 41, 42, 43] T0 (tI (tI (tI (tI (tI T0 38 (0 : Int32)) 41 (0 : Int32)) 42 (0 : Int32)) 43 (0 : Int32)) 39 (0 : Int32)) := ((((tEq.sI _ _ (by decide)).trans (tEq.sI _ _ (by decide))).trans (tEq.sI _ _ (by decide))).trans (tEq.sI _ _ (by decide))).trans (tEq.sI _ _ (by decide))
  have k38 : (tI (tI (tI (tI (tI T0 38 (0 : Int32)) 41 (0 : Int32)) 42 (0 : Int32)) 43 (0 : Int32)) 39 (0 : Int32)).1 38 = nI 0 := by rw [tI_in (by decide), tI_in (by decide), tI_in (by decide), tI_in (by decide), tI_is]; rfl
  have k41 : (tI (tI (tI (tI (tI T0 38 (0 : Int32)) 41 (0 : Int32)) 42 (0 : Int32)) 43 (0 : Int32)) 39 (0 : Int32)).1 41 = nI 0 := by rw [tI_in (by decide), tI_in (by decide), tI_in (by decide), tI_is]; rfl
  have k42 : (tI (tI (tI (tI (tI T0 38 (0 : Int32)) 41 (0 : Int32)) 42 (0 : Int32)) 43 (0 : Int32)) 39 (0 : Int32)).1 42 = nI 0 := by rw [tI_in (by decide), tI_in (by decide), tI_is]; rfl
  have k43 : (tI (tI (tI (tI (tI T0 38 (0 : Int32)) 41 (0 : Int32)) 42 (0 : Int32)) 43 (0 : Int32)) 39 (0 : Int32)).1 43 = nI 0 := by rw [tI_in (by decide), tI_is]; rfl
  have k39 : (tI (tI (tI (tI (tI T0 38 (0 : Int32)) 41 (0 : Int32)) 42 (0 : Int32)) 43 (0 : Int32)) 39 (0 : Int32)).1 39 = 0 := tI_is
  generalize (tI (tI (tI (tI (tI T0 38 (0 : Int32)) 41 (0 : Int32)) 42 (0 : Int32)) 43 (0 : Int32)) 39 (0 : Int32)) = TB at eB k38 k39 k41 k42 k43
  have hB : tFm X T0 TB [] 0 (fun _ => none) 0 0 p 0 := ⟨eB.mono (by decide), ht.same eB (by decide) (by decide) (by decide) (by decide) (by decide), hp, by rw [eB.i 7 (by decide)]; exact h7, ⟨by omega, k38, Or.inl k39, ⟨fun _ l hl => absurd hl (Nat.not_lt_zero _), fun _ => k39⟩, fun l hl => absurd hl (Nat.not_lt_zero _)⟩, ⟨k41, (fun x hx => by cases hx), fun i hi => absurd hi (Nat.not_lt_zero _)⟩, k42, k43, by omega, by omega, by omega, by simp⟩
  have he : ∀ T k pl, rdF X p = .inl (k, pl) → tEq fmS T0 T → tFlt T k pl → c.2.2.2.2.2.2 none T := by
    intro T k pl e1 e2 e3
    rw [hc]
    refine ⟨rfl, e2, ?_, ?_⟩
    · intro v p1 u1 q
      rw [e1] at q
      cases q
    · intro k' pl' q
      rw [e1] at q
      cases q
      exact e3
  refine s_formula_27 c _ TB ⟨fun z => absurd hB.2.2.2.1 (zI_0.mp z), fun _ => ⟨fun z => absurd z (by decide), fun _ => ?_⟩⟩
  refine (ff_all hE he (5 * X.2.1 + 4)).2.2.2.2 [] 0 (fun _ => none) 0 0 p TB trivial hB ?_ (fun v p1 u1 e T' hT' => ?_) (fun k pl e => e)
  · have : xN X - p ≤ X.2.1 := Nat.sub_le _ _
    omega
  · obtain ⟨W1, h1, pe1, a1, a2, a3, a4, a5, a6⟩ := hT'
    obtain ⟨g1, g2, g3, g4, g5, g6, g7, g8, g9, g10, g11, g12⟩ := id a1
    have n0 : 0 ∉ W1 := fun q => by have := a6.mp q; cases this
    have e171 : h_formula_171 c T' := by
      refine s_formula_171 c T' ⟨fun z => absurd g4 (zI_0.mp z), fun _ => ⟨_, ct_isOpen g6 (by omega), ?_⟩⟩
      rintro r T9 ⟨rfl, hy⟩
      rcases hy with ⟨y, -⟩ | ⟨-, rfl⟩
      · exact absurd y n0
      · refine ⟨fun _ => s_formula_190 c _ ⟨fun z => absurd g4 (zI_0.mp z), fun _ => ⟨_, ct_works hE (least := 2) (by omega) W1 h1 pe1 T9 a1 a2, ?_⟩⟩, fun z => absurd rfl z⟩
        rintro T5 hw
        rw [a3, a4] at hw
        obtain ⟨m1, m2, m3, m4, m5, m6, m7, m8, m9, m10, m11, m12⟩ := tFm_congr hw a5
        rw [hc]
        refine ⟨rfl, m1.mono (by decide), ?_, ?_⟩
        · intro v' p1' u1' q
          rw [show rdF X p = .inr (v, p1, u1) from e] at q
          cases q
          refine ⟨m3, m2, m4, m1.i 8 (by decide), m5.2.2.1, ?_, fun r hr => ?_⟩
          · rw [m5.2.2.2.1]
            constructor
            · intro q
              have := q 0 (by omega)
              rw [up_self] at this
              exact this
            · intro q l hl
              have : l = 0 := by omega
              subst this
              rw [up_self]
              exact q
          · have h39 : T5.1 39 = 0 := m5.2.2.2.1.mpr (fun l hl => by
              have : l = 0 := by omega
              subst this
              rw [up_self, hr]
              simp)
            exact m5.2.2.2.2 0 (by omega) r (by rw [up_self]; exact hr) h39
        · intro k pl q
          rw [show rdF X p = .inr (v, p1, u1) from e] at q
          cases q
    have e27 : h_formula_27 c 0 T' := s_formula_27 c _ T' ⟨fun z => absurd g4 (zI_0.mp z), fun _ => ⟨fun _ => e171, fun z => absurd rfl z⟩⟩
    refine s_formula_88 c _ T' ⟨fun z => absurd g4 (zI_0.mp z), fun _ => ⟨fun z => absurd rfl z, fun _ => ⟨fun _ => e27, fun _ => ⟨_, ct_isOpen g6 (by omega), ?_⟩⟩⟩⟩
    rintro r T15 ⟨rfl, hy⟩
    rcases hy with ⟨y, -⟩ | ⟨-, rfl⟩
    · exact absurd y n0
    · exact ⟨fun _ => e27, fun z => absurd rfl z⟩
