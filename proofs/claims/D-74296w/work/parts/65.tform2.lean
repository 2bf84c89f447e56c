/-! the twin reads a formula: powers, signs ahead; operands -/
def stW : List Nat → List Nat
  | [] => []
  | w :: W => if w = 1 then stW W else w :: W
def stN : List Nat → Nat
  | [] => 0
  | w :: W => if w = 1 then stN W + 1 else 0
def stV : List Nat → rV → rV
  | [], v => v
  | w :: W, v => if w = 1 then stV W (vNeg v) else v
theorem stW_len : ∀ W : List Nat, (stW W).length + stN W = W.length := by
  intro W
  induction W with
  | nil => rfl
  | cons w W ih =>
    unfold stW stN
    split
    · simp only [List.length_cons]; omega
    · simp
theorem up_up {α : Type} {f : Nat → α} {k : Nat} {v w : α} : va_up (va_up f k v) k w = va_up f k w := by
  funext j
  unfold va_up
  split <;> rfl
theorem s_strip {X : rX} {T0 : tS} (hE : tEnv X T0) {c : tC} {u p z : Nat} (hz : z ≤ 2) (Q : tS → Prop) (hc : c.2.2.2.2.2.2 = (fun v T' => v = none ∧ Q T')) : ∀ (W : List Nat) (h d : Nat) (pe : Nat → rV) (T : tS), stN W ≤ d → tFm X T0 T W (h + 1) pe u d p z → (∀ T', tFm X T0 T' (stW W) (h + 1) (va_up pe h (stV W (pe h))) u (d - stN W) p z → Q T') → h_closes_33 c T := by
  intro W
  induction W with
  | nil =>
    intro h d pe T _ hf hq
    obtain ⟨f1, f2, f3, f4, f5, f6, f7, f8, f9, f10, f11, f12⟩ := id hf
    refine s_closes_33 c T ⟨fun e => absurd f4 (zI_0.mp e), fun _ => ⟨fun _ => ?_, fun e => absurd (by rw [f6.1]; decide) e⟩⟩
    rw [hc]
    refine ⟨rfl, hq T ?_⟩
    have : va_up pe h (stV [] (pe h)) = pe := by
      funext j; unfold va_up stV; split
      · rename_i e; rw [e]
      · rfl
    rw [this]
    exact hf
  | cons w W ih =>
    intro h d pe T hd hf hq
    obtain ⟨f1, f2, f3, f4, f5, f6, f7, f8, f9, f10, f11, f12⟩ := id hf
    have hw := f6.2.1 w List.mem_cons_self
    simp only [List.length_cons] at f12
    have h41 : T.1 41 = nI (W.length + 1) := f6.1
    refine s_closes_33 c T ⟨fun e => absurd f4 (zI_0.mp e), fun _ => ⟨fun e => absurd e (by rw [h41]; exact nI_nle (by omega) (by omega)), fun _ => ?_⟩⟩
    rw [h41, nI_pred, nI_clamp (show W.length < 2 ^ 31 by omega), f6.top, show (1 : Int32) = nI 1 from rfl, x_inj (by omega) (by omega)]
    refine ⟨vpI (by omega), fun e => ?_, fun e => ?_⟩
    · rw [hc]
      refine ⟨rfl, hq T ?_⟩
      have e1 : stW (w :: W) = w :: W := by unfold stW; rw [if_neg e]
      have e2 : stN (w :: W) = 0 := by unfold stN; rw [if_neg e]
      have e3 : va_up pe h (stV (w :: W) (pe h)) = pe := by
        funext j; unfold va_up stV; rw [if_neg e]; split
        · rename_i e; rw [e]
        · rfl
      rw [e1, e2, e3]
      exact hf
    · subst e
      have hd' : stN W + 1 ≤ d := by unfold stN at hd; rw [if_pos rfl] at hd; exact hd
      have e1 : stW (1 :: W) = stW W := by show (if 1 = 1 then stW W else 1 :: W) = _; rw [if_pos rfl]
      have e2 : stN (1 :: W) = stN W + 1 := by show (if 1 = 1 then stN W + 1 else 0) = _; rw [if_pos rfl]
      have e3 : stV (1 :: W) (pe h) = stV W (vNeg (pe h)) := by show (if 1 = 1 then stV W (vNeg (pe h)) else pe h) = _; rw [if_pos rfl]
      rw [e1, e2, e3] at hq
      refine ⟨_, ct_negates ((hE.same f1).2.1) f5.pl, ?_⟩
      rintro T12 ⟨q1, q2⟩
      rw [q1.i 41 (by decide), h41, pk_sub (by omega), show W.length + 1 - 1 = W.length by omega]
      rw [q1.i 42 (by decide), f7, pk_sub (by omega)]
      have ep : tEq [41, 42] T12 (tI (tI T12 41 (nI W.length)) 42 (nI (d - 1))) := (tEq.sI _ _ (by decide)).trans (tEq.sI _ _ (by decide))
      have e12 : tEq [33, 41, 42] T (tI (tI T12 41 (nI W.length)) 42 (nI (d - 1))) := (q1.mono (by decide)).trans (ep.mono (by decide))
      refine ih h (d - 1) (va_up pe h (vNeg (pe h))) _ (by omega) ⟨(f1.mono (by decide)).trans (e12.mono (by decide)), f2.same e12 (by decide) (by decide) (by decide) (by decide) (by decide), f3, by rw [e12.i 7 (by decide)]; exact f4, ?_, ?_, tI_is, by rw [e12.i 43 (by decide)]; exact f8, f9, by omega, f11, by omega⟩ (fun T' hT' => hq T' ?_)
      · exact (vp_neg f5 (q1.i 39 (by decide)) q2).same ep (by decide) (by decide) (by decide)
      · exact ((f6.same q1 (by decide) (by decide)).pop).same (tEq.sI (S := [42]) _ _ (by decide)) (by decide) (by decide)
      · rw [up_self, up_up] at hT'
        rw [show d - (stN W + 1) = d - 1 - stN W by omega]
        exact hT'
/-- what a power makes of a factor -/
noncomputable def clX (X : rX) (v : rV) (p u : Nat) : rR := cIf (isSn X.1 X.2.1 p 94) (rNum X (tkE X.1 X.2.1 p) 9 fun i q => .inr (vPow X v i, q, u)) (.inr (v, p, u))
theorem ct_closes {X : rX} {T0 : tS} (hE : tEnv X T0) {u d p z : Nat} (hz : z ≤ 2) {W : List Nat} {h : Nat} {pe : Nat → rV} {T : tS} (hd : stN W ≤ d) (hf : tFm X T0 T W (h + 1) pe u d p z) : tMv mX6_closes 4 (fun _ => []) T (fun T' => (∀ v' p' u', clX X (pe h) p u = .inr (v', p', u') → tFm X T0 T' (stW W) (h + 1) (va_up pe h (stV W v')) u (d - stN W) p' z) ∧ ∀ e, clX X (pe h) p u = .inl e → tEq fmS T0 T' ∧ tFlt T' e.1 e.2) := by
  obtain ⟨f1, f2, f3, f4, f5, f6, f7, f8, f9, f10, f11, f12⟩ := id hf
  have hb := hE.1.2.1
  refine en_closes T _ (fun c hc => s_closes_0 c T ⟨fun e => ?_, fun e => ?_⟩)
  · rw [zI_0] at e
    have hs : ¬ isSn (xB X) (xN X) p 94 := fun q => e ⟨f4, (f2.sign hb (c := 94) (by omega)).mpr q⟩
    have ec : clX X (pe h) p u = .inr (pe h, p, u) := cIf_f hs
    refine s_strip hE hz _ hc W h d pe T hd hf (fun T' hT' => ⟨fun v' p' u' q => ?_, fun e q => ?_⟩)
    · rw [ec] at q; cases q; exact hT'
    · rw [ec] at q; cases q
  · rw [zI_n0] at e
    have hs : isSn (xB X) (xN X) p 94 := (f2.sign hb (c := 94) (by omega)).mp e.2
    have ec : clX X (pe h) p u = _ := cIf_t hs
    refine ⟨_, ct_goOn2 ((hE.same f1).1) f2 f3, ?_⟩
    rintro T9 ⟨q1, q2⟩
    have hf9 := hf.go (z' := z) q1 q2 (tkE_le f3) (Nat.le_refl _)
    obtain ⟨g1, g2, g3, g4, g5, g6, g7, g8, g9, g10, g11, g12⟩ := id hf9
    refine ⟨_, ct_number ((hE.same g1).1) g2 g3 g4 (x := 0) (y := 9) (by omega) (by omega), ?_⟩
    rintro r T15 hx
    have flt : ∀ k pl, tEq [7, 8] T9 T15 → tFlt T15 k pl → clX X (pe h) p u = .inl (k, pl) → h_closes_33 c T15 := by
      intro k pl e7 ef el
      refine s_closes_33 c T15 ⟨fun _ => ?_, fun z => absurd (zI_n0.mp z) ef.bad⟩
      rw [hc]
      refine ⟨rfl, ?_, ?_⟩
      · intro v' p' u' q
        rw [el] at q
        cases q
      · intro y q
        rw [el] at q
        cases q
        exact ⟨(g1.mono (by decide)).trans (e7.mono (by decide)), ef⟩
    rcases hx with ⟨x1, x2, x3, rfl, x5, x6⟩ | ⟨x1, x2, x3⟩ | ⟨x1, x2, x3, x4⟩
    · have hf15 := hf9.go (z' := z) x5 x6 (tkE_le g3) (Nat.le_refl _)
      obtain ⟨k1, k2, k3, k4, k5, k6, k7, k8, k9, k10, k11, k12⟩ := id hf15
      refine ⟨fun z => absurd k4 (zI_0.mp z), fun _ => ⟨_, ct_powers ((hE.same k1).2.1) hE.2.2.1 k5.pl x3, ?_⟩⟩
      rintro T26 ⟨y1, y2, y3⟩
      have ec2 : clX X (pe h) p u = .inr (vPow X (pe h) (tkV (xB X) (xN X) (tkE (xB X) (xN X) p)), tkE (xB X) (xN X) (tkE (xB X) (xN X) p), u) := by
        rw [ec]
        unfold rNum
        rw [cIf_t x1, cIf_t x3]
      have hf26 : tFm X T0 T26 W (h + 1) (va_up pe h (vPow X (pe h) (tkV (xB X) (xN X) (tkE (xB X) (xN X) p)))) u d (tkE (xB X) (xN X) (tkE (xB X) (xN X) p)) z := ⟨(k1.mono (by decide)).trans (y1.mono (by decide)), k2.same y1 (by decide) (by decide) (by decide) (by decide) (by decide), k3, by rw [y1.i 7 (by decide)]; exact k4, vp_pow k5 y2 y3, k6.same y1 (by decide) (by decide), by rw [y1.i 42 (by decide)]; exact k7, by rw [y1.i 43 (by decide)]; exact k8, k9, k10, k11, k12⟩
      refine s_strip hE hz _ hc W h d _ T26 hd hf26 (fun T' hT' => ⟨fun v' p' u' q => ?_, fun e q => ?_⟩)
      · rw [ec2] at q
        cases q
        rw [up_self, up_up] at hT'
        exact hT'
      · rw [ec2] at q; cases q
    · refine ⟨fun _ => flt _ _ x2 x3 ?_, fun z => absurd (zI_n0.mp z) x3.bad⟩
      rw [ec]
      unfold rNum
      rw [cIf_f x1]
      rfl
    · refine ⟨fun _ => flt _ _ x3 x4 ?_, fun z => absurd (zI_n0.mp z) x4.bad⟩
      rw [ec]
      unfold rNum
      rw [cIf_t x1, cIf_f (fun q => x2 ⟨Nat.zero_le _, q⟩)]
      unfold rEr wk
      rw [if_neg (fun q => absurd (x1.symm.trans q) (by decide))]
