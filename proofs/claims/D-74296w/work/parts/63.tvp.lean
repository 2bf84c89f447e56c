/-! the twin's pile, told by values -/
def gV (pe : Nat → rV) : Nat → Nat → Int64 := fun l => (pe l).getD (fun _ => 0)
def tVP (T : tS) (S : Nat) (mk : Nat → Nat → Nat) (h : Nat) (pe : Nat → rV) : Prop := h ≤ 40 ∧ T.1 38 = nI h ∧ (T.1 39 = 0 ∨ T.1 39 = 1) ∧ (T.1 39 = 0 ↔ ∀ l, l < h → pe l ≠ none) ∧ ∀ l, l < h → ∀ r, pe l = some r → T.1 39 = 0 → tSeg T 33 (64 * l) S r ∧ fitS S mk r
theorem tVP.same {L : List Nat} {T T' : tS} {S : Nat} {mk : Nat → Nat → Nat} {h : Nat} {pe : Nat → rV} (x : tVP T S mk h pe) (e : tEq L T T') (h1 : 33 ∉ L) (h2 : 38 ∉ L) (h3 : 39 ∉ L) : tVP T' S mk h pe := ⟨x.1, by rw [e.i 38 h2]; exact x.2.1, by rw [e.i 39 h3]; exact x.2.2.1, by rw [e.i 39 h3]; exact x.2.2.2.1, fun l hl r hr q => by
  rw [e.i 39 h3] at q
  have := x.2.2.2.2 l hl r hr q
  exact ⟨fun i hi => by rw [e.b 33 h1]; exact this.1 i hi, this.2⟩⟩
theorem tVP.pl {T : tS} {S : Nat} {mk : Nat → Nat → Nat} {h : Nat} {pe : Nat → rV} (x : tVP T S mk h pe) : tPl T S mk h (gV pe) := ⟨x.1, x.2.1, x.2.2.1, fun q l hl => by
  cases e : pe l with
  | none => exact absurd e (x.2.2.2.1.mp q l hl)
  | some r =>
    have := x.2.2.2.2 l hl r e q
    unfold gV
    rw [e]
    exact this⟩
theorem mkVP {T0 T' : tS} {S : Nat} {mk : Nat → Nat → Nat} {h k : Nat} {pe : Nat → rV} {r : Nat → Int64} {C : Prop} {w : rV} (h0 : tVP T0 S mk (h + k) pe) (h1 : tPl T' S mk (h + 1) (va_up (gV pe) h r)) (h2 : T'.1 39 = 0 ↔ T0.1 39 = 0 ∧ C) (h3 : w ≠ none ↔ (∀ l, h ≤ l → l < h + k → pe l ≠ none) ∧ C) (h4 : ∀ x, w = some x → x = r) : tVP T' S mk (h + 1) (va_up pe h w) := by
  obtain ⟨a1, a2, a3, a4⟩ := h1
  refine ⟨a1, a2, a3, ?_, fun l hl x hx q => ?_⟩
  · rw [h2, h0.2.2.2.1]
    constructor
    · rintro ⟨q1, q2⟩ l hl
      by_cases e : l = h
      · subst e; rw [up_self]; exact h3.mpr ⟨fun l _ q => q1 l q, q2⟩
      · rw [up_ne e]; exact q1 l (by omega)
    · intro q
      have q0 := q h (by omega)
      rw [up_self] at q0
      obtain ⟨q1, q2⟩ := h3.mp q0
      refine ⟨fun l hl => ?_, q2⟩
      by_cases e : l < h
      · have := q l (by omega)
        rw [up_ne (by omega)] at this
        exact this
      · exact q1 l (by omega) hl
  · have b := a4 q l hl
    by_cases e : l = h
    · subst e
      rw [up_self] at hx b
      rw [h4 x hx]
      exact b
    · rw [up_ne e] at hx b
      unfold gV at b
      rw [hx] at b
      exact b
theorem okV_n {p : Prop} {r : Nat → Int64} : okV p r ≠ none ↔ p := by
  unfold okV
  by_cases h : p
  · rw [cIf_t h]; simp [h]
  · rw [cIf_f h]; simp [h]
theorem okV_s {p : Prop} {r x : Nat → Int64} (h : okV p r = some x) : x = r := by
  unfold okV at h
  by_cases q : p
  · rw [cIf_t q] at h; cases h; rfl
  · rw [cIf_f q] at h; cases h
theorem gV_s {pe : Nat → rV} {l : Nat} {a : Nat → Int64} (h : pe l = some a) : gV pe l = a := by unfold gV; rw [h]; rfl
abbrev xS (X : rX) : Nat := X.2.2.1
abbrev xM (X : rX) : Nat → Nat → Nat := X.2.2.2.1
theorem vp_lay {X : rX} {T0 T' : tS} {h : Nat} {pe : Nat → rV} {i : Nat} {n : Int64} (hP : tVP T0 (xS X) (xM X) h pe) (e2 : T'.1 39 = 0 ↔ T0.1 39 = 0 ∧ fitS (xS X) (xM X) (dlS i n)) (e3 : tPl T' (xS X) (xM X) (h + 1) (va_up (gV pe) h (dlS i n))) : tVP T' (xS X) (xM X) (h + 1) (va_up pe h (vLay X i n)) :=
  mkVP (k := 0) hP e3 e2 (by unfold vLay; rw [okV_n]; exact ⟨fun q => ⟨fun l h1 h2 => absurd h2 (by omega), q⟩, fun q => q.2⟩) (fun x hx => okV_s hx)
theorem vp_add {X : rX} {T0 T' : tS} {h : Nat} {pe : Nat → rV} {g : Int64} (hP : tVP T0 (xS X) (xM X) (h + 2) pe) (e2 : T'.1 39 = 0 ↔ T0.1 39 = 0 ∧ fitS (xS X) (xM X) (fun k => gV pe h k + g * gV pe (h + 1) k)) (e3 : tPl T' (xS X) (xM X) (h + 1) (va_up (gV pe) h (fun k => gV pe h k + g * gV pe (h + 1) k))) : tVP T' (xS X) (xM X) (h + 1) (va_up pe h (vAdd X (pe h) (pe (h + 1)) g)) := by
  refine mkVP hP e3 e2 ?_ ?_
  · cases ea : pe h with
    | none => exact ⟨fun q => absurd rfl q, fun q => absurd ea (q.1 h (by omega) (by omega))⟩
    | some a =>
      cases eb : pe (h + 1) with
      | none => exact ⟨fun q => absurd rfl q, fun q => absurd eb (q.1 (h + 1) (by omega) (by omega))⟩
      | some b =>
        rw [gV_s ea, gV_s eb]
        show okV _ _ ≠ none ↔ _
        rw [okV_n]
        refine ⟨fun q => ⟨fun l h1 h2 => ?_, q⟩, fun q => q.2⟩
        rcases (show l = h ∨ l = h + 1 by omega) with rfl | rfl
        · rw [ea]; simp
        · rw [eb]; simp
  · intro x hx
    cases ea : pe h with
    | none => rw [ea] at hx; cases hx
    | some a =>
      cases eb : pe (h + 1) with
      | none => rw [ea, eb] at hx; cases hx
      | some b =>
        rw [ea, eb] at hx
        rw [gV_s ea, gV_s eb]
        exact okV_s hx
theorem vp_mul {X : rX} {T0 T' : tS} {h : Nat} {pe : Nat → rV} (hP : tVP T0 (xS X) (xM X) (h + 2) pe) (e2 : T'.1 39 = 0 ↔ T0.1 39 = 0 ∧ mulOk (xS X) (mkAt (xS X) (xM X) (gV pe h)) (mkAt (xS X) (xM X) (gV pe (h + 1))) ∧ fitS (xS X) (xM X) (slv (xS X) (xM X) (fun j => mkAt (xS X) (xM X) (gV pe h) j * mkAt (xS X) (xM X) (gV pe (h + 1)) j))) (e3 : tPl T' (xS X) (xM X) (h + 1) (va_up (gV pe) h (slv (xS X) (xM X) (fun j => mkAt (xS X) (xM X) (gV pe h) j * mkAt (xS X) (xM X) (gV pe (h + 1)) j)))) : tVP T' (xS X) (xM X) (h + 1) (va_up pe h (vMul X (pe h) (pe (h + 1)))) := by
  refine mkVP hP e3 e2 ?_ ?_
  · cases ea : pe h with
    | none => exact ⟨fun q => absurd rfl q, fun q => absurd ea (q.1 h (by omega) (by omega))⟩
    | some a =>
      cases eb : pe (h + 1) with
      | none => exact ⟨fun q => absurd rfl q, fun q => absurd eb (q.1 (h + 1) (by omega) (by omega))⟩
      | some b =>
        rw [gV_s ea, gV_s eb]
        show okV _ _ ≠ none ↔ _
        rw [okV_n]
        refine ⟨fun q => ⟨fun l h1 h2 => ?_, q⟩, fun q => q.2⟩
        rcases (show l = h ∨ l = h + 1 by omega) with rfl | rfl
        · rw [ea]; simp
        · rw [eb]; simp
  · intro x hx
    cases ea : pe h with
    | none => rw [ea] at hx; cases hx
    | some a =>
      cases eb : pe (h + 1) with
      | none => rw [ea, eb] at hx; cases hx
      | some b =>
        rw [ea, eb] at hx
        rw [gV_s ea, gV_s eb]
        exact okV_s hx
theorem vp_pow {X : rX} {T0 T' : tS} {h n : Nat} {pe : Nat → rV} (hP : tVP T0 (xS X) (xM X) (h + 1) pe) (e2 : T'.1 39 = 0 ↔ T0.1 39 = 0 ∧ pwOk (xS X) (xM X) (mkAt (xS X) (xM X) (gV pe h)) n) (e3 : tPl T' (xS X) (xM X) (h + 1) (va_up (gV pe) h (slv (xS X) (xM X) (pwM (mkAt (xS X) (xM X) (gV pe h)) n)))) : tVP T' (xS X) (xM X) (h + 1) (va_up pe h (vPow X (pe h) n)) := by
  refine mkVP hP e3 e2 ?_ ?_
  · cases ea : pe h with
    | none => exact ⟨fun q => absurd rfl q, fun q => absurd ea (q.1 h (by omega) (by omega))⟩
    | some a =>
      rw [gV_s ea]
      show okV _ _ ≠ none ↔ _
      rw [okV_n]
      refine ⟨fun q => ⟨fun l h1 h2 => ?_, q⟩, fun q => q.2⟩
      have : l = h := by omega
      subst this
      rw [ea]; simp
  · intro x hx
    cases ea : pe h with
    | none => rw [ea] at hx; cases hx
    | some a =>
      rw [ea] at hx
      rw [gV_s ea]
      exact okV_s hx
theorem vp_neg {X : rX} {T0 T' : tS} {h : Nat} {pe : Nat → rV} (hP : tVP T0 (xS X) (xM X) (h + 1) pe) (e2 : T'.1 39 = T0.1 39) (e3 : tPl T' (xS X) (xM X) (h + 1) (va_up (gV pe) h (fun k => -gV pe h k))) : tVP T' (xS X) (xM X) (h + 1) (va_up pe h (vNeg (pe h))) := by
  refine mkVP (C := True) hP e3 (by rw [e2]; simp) ?_ ?_
  · cases ea : pe h with
    | none => exact ⟨fun q => absurd rfl q, fun q => absurd ea (q.1 h (by omega) (by omega))⟩
    | some a =>
      refine ⟨fun q => ⟨fun l h1 h2 => ?_, trivial⟩, fun q => by simp [vNeg]⟩
      have : l = h := by omega
      subst this
      rw [ea]; simp
  · intro x hx
    cases ea : pe h with
    | none => rw [ea] at hx; cases hx
    | some a =>
      rw [ea] at hx
      rw [gV_s ea]
      cases hx
      rfl
