/-! the twin reads a formula: its parts -/
abbrev fmS : List Nat := [3, 4, 5, 6, 7, 8, 11, 33, 34, 35, 38, 39, 40, 41, 42, 43]
abbrev fmG : List Nat := [3, 4, 5, 6, 11, 33, 34, 35, 38, 39, 40, 41, 42, 43]
abbrev xB (X : rX) : Nat → Nat := X.1
abbrev xN (X : rX) : Nat := X.2.1
abbrev xNm (X : rX) : List (List Nat) := X.2.2.2.2.1
abbrev xSm (X : rX) : Nat → Nat → Int64 := X.2.2.2.2.2
/-- what stands ready: bytes, marks, names with their sums -/
def tEnv (X : rX) (T : tS) : Prop := tTp T (xB X) (xN X) ∧ tMk T (xS X) (xM X) ∧ (∀ j, j < xS X → xM X (xS X - 1) j = 1) ∧ tNms T (xNm X) ∧ ∀ k, k < (xNm X).length → fitS (xS X) (xM X) (xSm X k) ∧ ∀ i, i < xS X → T.2.2.2 45 (64 * k + i) = xSm X k i
theorem tEnv.same {S : List Nat} {X : rX} {T T' : tS} (h : tEnv X T) (e0 : tEq S T T') (hs : ∀ f, f ∈ S → f ∈ fmS := by decide) : tEnv X T' := by
  have e : tEq fmS T T' := e0.mono hs
  exact ⟨h.1.same e (by decide) (by decide), h.2.1.same e (by decide) (by decide), h.2.2.1, h.2.2.2.1.same e (by decide) (by decide), fun k hk => ⟨(h.2.2.2.2 k hk).1, fun i hi => by rw [e.b 45 (by decide)]; exact (h.2.2.2.2 k hk).2 i hi⟩⟩
/-- signs that wait; the head came last -/
def tWs (T : tS) (W : List Nat) : Prop := T.1 41 = nI W.length ∧ (∀ x, x ∈ W → x ≤ 4) ∧ ∀ i, i < W.length → T.2.2.1 40 i = nI (W.getD (W.length - 1 - i) 9)
theorem tWs.same {S : List Nat} {T T' : tS} {W : List Nat} (h : tWs T W) (e : tEq S T T') (h1 : 40 ∉ S) (h2 : 41 ∉ S) : tWs T' W := ⟨by rw [e.i 41 h2]; exact h.1, h.2.1, fun i hi => by rw [e.a 40 h1]; exact h.2.2 i hi⟩
theorem tWs.top {T : tS} {w : Nat} {W : List Nat} (h : tWs T (w :: W)) : T.2.2.1 40 W.length = nI w := by
  have := h.2.2 W.length (by simp)
  simpa using this
theorem tWs.pop {T : tS} {w : Nat} {W : List Nat} (h : tWs T (w :: W)) : tWs (tI T 41 (nI W.length)) W := by
  refine ⟨tI_is, fun x hx => h.2.1 x (List.mem_cons_of_mem _ hx), fun i hi => ?_⟩
  have := h.2.2 i (by simp; omega)
  rw [show (w :: W).length - 1 - i = (W.length - 1 - i) + 1 by simp; omega] at this
  rw [tI_l]
  simpa using this
theorem tWs.push {T : tS} {w : Nat} {W : List Nat} (h : tWs T W) (hw : w ≤ 4) : tWs (tI (tA T 40 (va_up (T.2.2.1 40) W.length (nI w))) 41 (nI (W.length + 1))) (w :: W) := by
  refine ⟨tI_is, fun x hx => ?_, fun i hi => ?_⟩
  · rcases List.mem_cons.mp hx with e | e
    · omega
    · exact h.2.1 x e
  · rw [tI_l, tA_as]
    simp only [List.length_cons] at hi ⊢
    by_cases e : i = W.length
    · subst e
      rw [up_self, show W.length + 1 - 1 - W.length = 0 by omega]
      rfl
    · rw [up_ne e, h.2.2 i (by omega), show W.length + 1 - 1 - i = (W.length - 1 - i) + 1 by omega]
      rfl
/-- a formula on its way -/
def tFm (X : rX) (T0 T : tS) (W : List Nat) (h : Nat) (pe : Nat → rV) (u d p z : Nat) : Prop := tEq fmG T0 T ∧ tTok T (xB X) (xN X) p ∧ p ≤ xN X ∧ T.1 7 = 0 ∧ tVP T (xS X) (xM X) h pe ∧ tWs T W ∧ T.1 42 = nI d ∧ T.1 43 = nI u ∧ h ≤ u ∧ d ≤ u ∧ u ≤ 30 ∧ W.length + z ≤ 2 * u
noncomputable def cmb (X : rX) (w : Nat) (a b : rV) : rV := if w = 4 then vMul X a b else if w = 2 then vAdd X a b 1 else vAdd X a b (-1)
/-- works: what waits, from some strength on -/
noncomputable def rdW (X : rX) (least : Nat) : List Nat → Nat → (Nat → rV) → List Nat × Nat × (Nat → rV)
  | [], h, pe => ([], h, pe)
  | w :: W, h, pe => if w < least then (w :: W, h, pe) else rdW X least W (h - 1) (va_up pe (h - 2) (cmb X w (pe (h - 2)) (pe (h - 1))))
def nP (least : Nat) : List Nat → Nat
  | [] => 0
  | w :: W => if w < least then 0 else nP least W + 1
theorem i64_m1 : (-1 : Int32).toInt64 = -1 := by decide
theorem i64_p1 : (1 : Int32).toInt64 = 1 := by decide
theorem ct_works {X : rX} {T0 : tS} (hE : tEnv X T0) {least : Nat} (hl : 2 ≤ least ∧ least ≤ 4) {u d p z : Nat} : ∀ (W : List Nat) (h : Nat) (pe : Nat → rV) (T : tS), tFm X T0 T W h pe u d p z → nP least W + 1 ≤ h → tMv mX6_works 4 (fun _ => [.int (nI least)]) T (fun T' => tFm X T0 T' (rdW X least W h pe).1 (rdW X least W h pe).2.1 (rdW X least W h pe).2.2 u d p z) := by
  have key : ∀ (c : tC) (Q : tS → Prop), c.2.2.2.2.2.2 = (fun v T' => v = none ∧ Q T') → ∀ (W : List Nat) (h : Nat) (pe : Nat → rV) (T : tS), tFm X T0 T W h pe u d p z → nP least W + 1 ≤ h → (∀ T', tFm X T0 T' (rdW X least W h pe).1 (rdW X least W h pe).2.1 (rdW X least W h pe).2.2 u d p z → Q T') → h_works_0 c (nI least) T := by
    intro c Q hc W
    induction W with
    | nil =>
      intro h pe T hf _ hq
      obtain ⟨f1, f2, f3, f4, f5, f6, f7, f8, f9, f10, f11, f12⟩ := id hf
      refine s_works_0 c _ T ⟨fun _ => ?_, fun e => absurd (by rw [f6.1]; decide) e⟩
      rw [hc]
      exact ⟨rfl, hq T hf⟩
    | cons w W ih =>
      intro h pe T hf hn hq
      obtain ⟨f1, f2, f3, f4, f5, f6, f7, f8, f9, f10, f11, f12⟩ := id hf
      have hw := f6.2.1 w List.mem_cons_self
      simp only [List.length_cons] at f12
      have h41 : T.1 41 = nI (W.length + 1) := f6.1
      refine s_works_0 c _ T ⟨fun e => absurd e (by rw [h41]; exact nI_nle (by omega) (by omega)), fun _ => ?_⟩
      rw [h41, nI_pred, nI_clamp (show W.length < 2 ^ 31 by omega), f6.top, nI_ltI (by omega) (by omega)]
      refine ⟨vpI (by omega), fun e => ?_, fun e => ⟨vpI (by omega), ?_⟩⟩
      · rw [hc]
        refine ⟨rfl, hq T ?_⟩
        unfold rdW
        rw [if_pos e]
        exact hf
      · unfold nP at hn
        rw [if_neg e] at hn
        unfold rdW at hq
        rw [if_neg e] at hq
        obtain ⟨h2, rfl⟩ : ∃ h2, h = h2 + 2 := ⟨h - 2, by omega⟩
        rw [show h2 + 2 - 2 = h2 by omega, show h2 + 2 - 1 = h2 + 1 by omega] at hq
        have ep : tEq [41] T (tI T 41 (nI W.length)) := tEq.sI _ _ (by decide)
        have hM := (hE.same f1).2.1.same ep (by decide) (by decide)
        have hP := f5.same ep (by decide) (by decide) (by decide)
        have fin : ∀ T5, tEq [33, 34, 35, 38, 39] (tI T 41 (nI W.length)) T5 → tVP T5 (xS X) (xM X) (h2 + 1) (va_up pe h2 (cmb X w (pe h2) (pe (h2 + 1)))) → h_works_70 c (nI least) T5 := by
          intro T5 e5 v5
          have e6 : tEq [33, 34, 35, 38, 39, 41] T T5 := (ep.mono (by decide)).trans (e5.mono (by decide))
          refine s_works_70 c _ _ (ih (h2 + 1) _ T5 ⟨f1.trans (e6.mono (by decide)), f2.same e6 (by decide) (by decide) (by decide) (by decide) (by decide), f3, by rw [e6.i 7 (by decide)]; exact f4, v5, f6.pop.same e5 (by decide) (by decide), by rw [e6.i 42 (by decide)]; exact f7, by rw [e6.i 43 (by decide)]; exact f8, by omega, f10, f11, by omega⟩ (by omega) hq)
        rw [show (4 : Int32) = nI 4 from rfl, show (2 : Int32) = nI 2 from rfl, x_inj (by omega) (by omega), x_inj (by omega) (by omega)]
        refine ⟨fun e4 => ⟨fun e2 => ⟨_, ct_adds hM hP.pl _, ?_⟩, fun e2 => ⟨_, ct_adds hM hP.pl _, ?_⟩⟩, fun e4 => ⟨_, ct_timesTwo hM hP.pl, ?_⟩⟩
        · rintro T5 ⟨q1, q2, q3⟩
          rw [i64_m1] at q2 q3
          refine fin T5 (q1.mono (by decide)) ?_
          have := vp_add hP q2 q3
          unfold cmb
          rw [if_neg e4, if_neg e2]
          exact this
        · rintro T5 ⟨q1, q2, q3⟩
          rw [i64_p1] at q2 q3
          refine fin T5 (q1.mono (by decide)) ?_
          have := vp_add hP q2 q3
          unfold cmb
          rw [if_neg e4, if_pos e2]
          exact this
        · rintro T5 ⟨q1, q2, q3⟩
          refine fin T5 (q1.mono (by decide)) ?_
          have := vp_mul hP q2 q3
          unfold cmb
          rw [if_pos e4]
          exact this
  intro W h pe T hf hn
  exact en_works _ T _ (fun c hc => key c _ hc W h pe T hf hn (fun T' q => q))
theorem rdW_len (X : rX) (least : Nat) : ∀ (W : List Nat) (h : Nat) (pe : Nat → rV), (rdW X least W h pe).1.length ≤ W.length := by
  intro W
  induction W with
  | nil => intro h pe; exact Nat.le_refl _
  | cons w W ih =>
    intro h pe
    unfold rdW
    split
    · exact Nat.le_refl _
    · have := ih (h - 1) (va_up pe (h - 2) (cmb X w (pe (h - 2)) (pe (h - 1))))
      simp only [List.length_cons]
      omega
theorem tFm.go {X : rX} {T0 T T' : tS} {W : List Nat} {h : Nat} {pe : Nat → rV} {u d p p' z z' : Nat} (hf : tFm X T0 T W h pe u d p z) (e : tEq tSt T T') (ht : tTok T' (xB X) (xN X) p') (hp : p' ≤ xN X) (hz : z' ≤ z) : tFm X T0 T' W h pe u d p' z' := by
  obtain ⟨f1, f2, f3, f4, f5, f6, f7, f8, f9, f10, f11, f12⟩ := hf
  exact ⟨f1.trans (e.mono (by decide)), ht, hp, by rw [e.i 7 (by decide)]; exact f4, f5.same e (by decide) (by decide) (by decide), f6.same e (by decide) (by decide), by rw [e.i 42 (by decide)]; exact f7, by rw [e.i 43 (by decide)]; exact f8, f9, f10, f11, by omega⟩
theorem ct_waitsFor {X : rX} {T0 : tS} (hE : tEnv X T0) {W : List Nat} {h : Nat} {pe : Nat → rV} {u d p : Nat} {T : tS} (hf : tFm X T0 T W h pe u d p 2) {w : Nat} (hw : w = 2 ∨ w = 3 ∨ w = 4) (hn : nP 2 W + 1 ≤ h ∧ nP 4 W + 1 ≤ h) : tMv mX6_waitsFor 5 (fun _ => [.int (nI w)]) T (fun T' => tFm X T0 T' (w :: (rdW X (if w = 4 then 4 else 2) W h pe).1) (rdW X (if w = 4 then 4 else 2) W h pe).2.1 (rdW X (if w = 4 then 4 else 2) W h pe).2.2 u d (tkE (xB X) (xN X) p) 0) := by
  refine en_waitsFor _ T _ (fun c hc => s_waitsFor_0 c _ T ?_)
  have fin : ∀ (W1 : List Nat) (h1 : Nat) (pe1 : Nat → rV) (T5 : tS), W1.length ≤ W.length → tFm X T0 T5 W1 h1 pe1 u d p 2 → (∀ T', tFm X T0 T' (w :: W1) h1 pe1 u d (tkE (xB X) (xN X) p) 0 → c.2.2.2.2.2.2 none T') → vp_in (T5.1 41) 80 ∧ ∃ Q9 : tS → Prop, tMv mX6_goOn 1 (fun b => []) (tI (tA T5 40 (va_up (T5.2.2.1 40) (T5.1 41).toNatClampNeg (nI w))) 41 ((T5.1 41) + (1 : Int32))) Q9 ∧ ∀ T12 : tS, Q9 T12 → c.2.2.2.2.2.2 none T12 := by
    intro W1 h1 pe1 T5 hlen hf5 hq
    obtain ⟨f1, f2, f3, f4, f5, f6, f7, f8, f9, f10, f11, f12⟩ := id hf5
    rw [f6.1, nI_clamp (show W1.length < 2 ^ 31 by omega), nI_1]
    have ep : tEq [40, 41] T5 (tI (tA T5 40 (va_up (T5.2.2.1 40) W1.length (nI w))) 41 (nI (W1.length + 1))) := (tEq.sA _ _ (by decide)).trans (tEq.sI _ _ (by decide))
    have e0 : tEq fmG T0 (tI (tA T5 40 (va_up (T5.2.2.1 40) W1.length (nI w))) 41 (nI (W1.length + 1))) := f1.trans (ep.mono (by decide))
    refine ⟨vpI (by omega), _, ct_goOn2 ((hE.same e0).1) (f2.same ep (by decide) (by decide) (by decide) (by decide) (by decide)) f3, ?_⟩
    rintro T12 ⟨q1, q2⟩
    have hpush : tFm X T0 (tI (tA T5 40 (va_up (T5.2.2.1 40) W1.length (nI w))) 41 (nI (W1.length + 1))) (w :: W1) h1 pe1 u d p 0 := ⟨e0, f2.same ep (by decide) (by decide) (by decide) (by decide) (by decide), f3, by rw [ep.i 7 (by decide)]; exact f4, f5.same ep (by decide) (by decide) (by decide), f6.push (by omega), by rw [ep.i 42 (by decide)]; exact f7, by rw [ep.i 43 (by decide)]; exact f8, f9, f10, f11, by simp; omega⟩
    exact hq T12 (hpush.go q1 q2 (tkE_le f3) (Nat.le_refl _))
  rw [show (4 : Int32) = nI 4 from rfl, show (2 : Int32) = nI 2 from rfl, x_inj (by omega) (by omega)]
  refine ⟨fun e => ⟨_, ct_works hE (least := 2) (by omega) W h pe T hf hn.1, fun T5 h5 => fin _ _ _ T5 (rdW_len X 2 W h pe) h5 (fun T' q => ?_)⟩, fun e => ⟨_, ct_works hE (least := 4) (by omega) W h pe T hf hn.2, fun T5 h5 => fin _ _ _ T5 (rdW_len X 4 W h pe) h5 (fun T' q => ?_)⟩⟩
  · rw [hc]
    refine ⟨rfl, ?_⟩
    rw [if_neg e]
    exact q
  · rw [hc]
    refine ⟨rfl, ?_⟩
    rw [if_pos e]
    exact q
theorem ct_goesOn {X : rX} {T0 : tS} (hE : tEnv X T0) {W : List Nat} {h : Nat} {pe : Nat → rV} {u d p : Nat} {T : tS} (hf : tFm X T0 T W h pe u d p 2) (hn : nP 2 W + 1 ≤ h ∧ nP 4 W + 1 ≤ h) : tMi mX6_goesOn 6 (fun _ => []) T (fun r T' =>
    (isSn (xB X) (xN X) p 42 ∧ r = 1 ∧ tFm X T0 T' (4 :: (rdW X 4 W h pe).1) (rdW X 4 W h pe).2.1 (rdW X 4 W h pe).2.2 u d (tkE (xB X) (xN X) p) 0) ∨
    (isSn (xB X) (xN X) p 43 ∧ r = 1 ∧ tFm X T0 T' (2 :: (rdW X 2 W h pe).1) (rdW X 2 W h pe).2.1 (rdW X 2 W h pe).2.2 u d (tkE (xB X) (xN X) p) 0) ∨
    (isSn (xB X) (xN X) p 45 ∧ r = 1 ∧ tFm X T0 T' (3 :: (rdW X 2 W h pe).1) (rdW X 2 W h pe).2.1 (rdW X 2 W h pe).2.2 u d (tkE (xB X) (xN X) p) 0) ∨
    (¬ isSn (xB X) (xN X) p 42 ∧ ¬ isSn (xB X) (xN X) p 43 ∧ ¬ isSn (xB X) (xN X) p 45 ∧ r = 0 ∧ T' = T)) := by
  obtain ⟨f1, f2, f3, f4, f5, f6, f7, f8, f9, f10, f11, f12⟩ := id hf
  have hb := hE.1.2.1
  refine en_goesOn T _ (fun c hc => s_goesOn_0 c T ?_)
  have sg : ∀ x : Nat, x < 300 → ((T.1 7 = 0 ∧ T.1 5 = 3 ∧ T.1 6 = nI x) ↔ isSn (xB X) (xN X) p x) := fun x hx => ⟨fun q => (f2.sign hb hx).mp q.2, fun q => ⟨f4, (f2.sign hb hx).mpr q⟩⟩
  have head34 : isSn (xB X) (xN X) p 43 ∨ isSn (xB X) (xN X) p 45 → h_goesOn_34 c T := by
    intro q
    refine s_goesOn_34 c T ⟨fun e => ?_, fun e => ?_⟩
    · have e45 : isSn (xB X) (xN X) p 45 := by
        rcases q with q | q
        · exact absurd ((sg 43 (by omega)).mpr q).2.2 e
        · exact q
      refine ⟨_, ct_waitsFor hE hf (w := 3) (by omega) hn, fun T5 h5 => ?_⟩
      rw [hc]
      exact ⟨_, rfl, Or.inr (Or.inr (Or.inl ⟨e45, rfl, h5⟩))⟩
    · have e43 : isSn (xB X) (xN X) p 43 := by
        rcases q with q | q
        · exact q
        · have := ((sg 45 (by omega)).mpr q).2.2
          rw [e] at this
          exact absurd this (by decide)
      refine ⟨_, ct_waitsFor hE hf (w := 2) (by omega) hn, fun T5 h5 => ?_⟩
      rw [hc]
      exact ⟨_, rfl, Or.inr (Or.inl ⟨e43, rfl, h5⟩)⟩
  refine ⟨fun e42 => ⟨fun e43 => ?_, fun e43 => ⟨fun e45 => ?_, fun e45 => ?_⟩⟩, fun e42 => ?_⟩
  · rw [zI_n0] at e43
    exact head34 (Or.inl ((sg 43 (by omega)).mp e43))
  · rw [zI_0] at e42 e43 e45
    rw [hc]
    exact ⟨_, rfl, Or.inr (Or.inr (Or.inr ⟨fun q => e42 ((sg 42 (by omega)).mpr q), fun q => e43 ((sg 43 (by omega)).mpr q), fun q => e45 ((sg 45 (by omega)).mpr q), rfl, rfl⟩))⟩
  · rw [zI_n0] at e45
    exact head34 (Or.inr ((sg 45 (by omega)).mp e45))
  · rw [zI_n0] at e42
    refine ⟨_, ct_waitsFor hE hf (w := 4) (by omega) hn, fun T5 h5 => ?_⟩
    rw [hc]
    exact ⟨_, rfl, Or.inl ⟨(sg 42 (by omega)).mp e42, rfl, h5⟩⟩
theorem ct_isOpen {T : tS} {W : List Nat} (hW : tWs T W) (hl : W.length ≤ 60) : tMi mX6_isOpen 0 (fun _ => []) T (fun r T' => T' = T ∧ ((0 ∈ W ∧ r = 1) ∨ (0 ∉ W ∧ r = 0))) := by
  obtain ⟨w1, w2, w3⟩ := hW
  have gd : ∀ k (hk : k < W.length), W.getD k 9 = W[k] := fun k hk => by rw [List.getD_eq_getElem?_getD, List.getElem?_eq_getElem hk]; rfl
  refine en_isOpen T _ (fun c hc => s_isOpen_0 c T ?_)
  refine loopUp (N := W.length) (P := fun k => (∀ j, j < k → W.getD (W.length - 1 - j) 9 ≠ 0) → h_isOpen_2 c (nI k) T) ?_ ?_ 0 (Nat.zero_le _) (fun j hj => absurd hj (Nat.not_lt_zero _))
  · intro hno
    refine s_isOpen_2 c _ T ⟨fun _ => ?_, fun e => absurd (by rw [w1]; exact Int32.le_refl _) e⟩
    rw [hc]
    refine ⟨_, rfl, rfl, Or.inr ⟨fun hm => ?_, rfl⟩⟩
    obtain ⟨k, hk, e⟩ := List.getElem_of_mem hm
    have := hno (W.length - 1 - k) (by omega)
    rw [show W.length - 1 - (W.length - 1 - k) = k by omega, gd k hk] at this
    exact this e
  · intro k hk nx hno
    have hx : W.getD (W.length - 1 - k) 9 ≤ 4 := by
      rw [gd _ (by omega)]
      exact w2 _ (List.getElem_mem _)
    refine s_isOpen_2 c _ T ⟨fun e => absurd e (by rw [w1]; exact nI_ge hk (by omega)), fun _ => ?_⟩
    rw [nI_clamp (show k < 2 ^ 31 by omega), w3 k hk, nI_1, show (0 : Int32) = nI 0 from rfl, x_inj (by omega) (by omega)]
    refine ⟨vpI (by omega), fun e => nx (fun j hj => ?_), fun e => ?_⟩
    · by_cases q : j = k
      · subst q; exact e
      · exact hno j (by omega)
    · rw [hc]
      refine ⟨_, rfl, rfl, Or.inl ⟨?_, rfl⟩⟩
      rw [← e, gd _ (by omega)]
      exact List.getElem_mem _
