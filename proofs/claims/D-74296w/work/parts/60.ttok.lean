/-! the twin reads tokens -/
def hI (c : Nat) : Int32 := if c = 256 then -1 else nI c
theorem hI_all : ∀ c, c < 257 → (tLet (hI c) ↔ isLe c) ∧ (tDig (hI c) ↔ isDi c) ∧ (tSgn (hI c) ↔ isSg c) ∧ (hI c = 32 ↔ c = 32) ∧ (hI c = 10 ↔ c = 10) ∧ (0 ≤ hI c ↔ c ≠ 256) := by decide +kernel
/-- the bytes that are read -/
def tTp (T : tS) (bt : Nat → Nat) (n : Nat) : Prop := n ≤ 700 ∧ (∀ k, bt k < 256) ∧ T.1 2 = nI n ∧ ∀ k, k < n → T.2.2.1 0 k = nI (bt k)
theorem tTp.same {S : List Nat} {T T' : tS} {bt : Nat → Nat} {n : Nat} (h : tTp T bt n) (e : tEq S T T') (h1 : 2 ∉ S) (h2 : 0 ∉ S) : tTp T' bt n := ⟨h.1, h.2.1, by rw [e.i 2 h1]; exact h.2.2.1, fun k hk => by rw [e.a 0 h2]; exact h.2.2.2 k hk⟩
theorem hrB_257 {bt : Nat → Nat} (hb : ∀ k, bt k < 256) (n k : Nat) : hrB bt n k < 257 := by unfold hrB; have := hb k; split <;> omega
theorem tHere_at {T : tS} {bt : Nat → Nat} {n p j : Nat} (h : tTp T bt n) (h3 : T.1 3 = nI p) (hp : p ≤ n) (hj : j ≤ n) : tHere T (nI j) = hI (hrB bt n (p + j)) := by
  obtain ⟨n7, hb, h2, h0⟩ := h
  unfold tHere
  rw [h2, h3, nI_add]
  unfold hrB hI
  by_cases q : p + j < n
  · rw [if_neg (by rw [nI_leI (by omega) (by omega)]; omega), if_pos q, if_neg (by have := hb (p + j); omega), nI_clamp (by omega), h0 _ q]
  · rw [if_pos (by rw [nI_leI (by omega) (by omega)]; omega), if_neg q, if_pos rfl]
theorem tVp {T : tS} {bt : Nat → Nat} {n p j : Nat} (h : tTp T bt n) (h3 : T.1 3 = nI p) (hp : p ≤ n) (hj : j ≤ n) : T.1 3 + nI j < T.1 2 → vp_in (T.1 3 + nI j) 700 := by
  obtain ⟨n7, hb, h2, h0⟩ := h
  rw [h2, h3, nI_add, nI_ltI (by omega) (by omega)]
  intro q
  exact vpI (by omega)
/-- the token that is pending: it was looked for from p on -/
def tTok (T : tS) (bt : Nat → Nat) (n p : Nat) : Prop := T.1 4 = nI (tkP bt n p) ∧ T.1 5 = nI (tkS bt n p) ∧ T.1 3 = nI (tkE bt n p) ∧ (tkS bt n p = 2 ∨ tkS bt n p = 3 → T.1 6 = nI (tkV bt n p)) ∧ (tkS bt n p = 1 → T.2.1 11 = lN (encR bt (tkP bt n p) (tkM bt n p)))
theorem tTok.same {S : List Nat} {T T' : tS} {bt : Nat → Nat} {n p : Nat} (h : tTok T bt n p) (e : tEq S T T') (h3 : 3 ∉ S) (h4 : 4 ∉ S) (h5 : 5 ∉ S) (h6 : 6 ∉ S) (h11 : 11 ∉ S) : tTok T' bt n p := ⟨by rw [e.i 4 h4]; exact h.1, by rw [e.i 5 h5]; exact h.2.1, by rw [e.i 3 h3]; exact h.2.2.1, by rw [e.i 6 h6]; exact h.2.2.2.1, by rw [e.l 11 h11]; exact h.2.2.2.2⟩
theorem ct_goOn {T0 : tS} {bt : Nat → Nat} {n p : Nat} (h0 : tTp T0 bt n) (hp : p ≤ n) (h3 : T0.1 3 = nI p) : tMv mX6_goOn 1 (fun _ => []) T0 (fun T' => tEq [3, 4, 5, 6, 11] T0 T' ∧ tTok T' bt n p) := by
  refine en_goOn T0 _ (fun c hc => ?_)
  have n7 := h0.1
  have hb := h0.2.1
  have hq := tkP_le (bt := bt) hp
  -- the end of a token
  have fin : ∀ (T : tS) (m : Nat), tEq [3, 4, 5, 6, 11] T0 T → T.1 3 = nI (tkP bt n p) → T.1 4 = nI (tkP bt n p) → T.1 5 = nI (tkS bt n p) → tkE bt n p = tkP bt n p + m → (tkS bt n p = 2 ∨ tkS bt n p = 3 → T.1 6 = nI (tkV bt n p)) → (tkS bt n p = 1 → T.2.1 11 = lN (encR bt (tkP bt n p) (tkM bt n p))) → h_goOn_235 c (nI m) T := by
    intro T m he g3 g4 g5 ge g6 g11
    refine s_goOn_235 c _ T ?_
    rw [hc, g3, nI_add, ← ge]
    exact ⟨rfl, he.trans (tEq.sI _ _ (by decide)), by rw [tI_in (by decide)]; exact g4, by rw [tI_in (by decide)]; exact g5, tI_is, fun q => by rw [tI_in (by decide)]; exact g6 q, g11⟩
  have go : ∀ T1 : tS, tEq [3, 4, 6, 11] T0 T1 → T1.1 3 = nI (tkP bt n p) → T1.1 4 = nI (tkP bt n p) → T1.2.1 11 = 0 → T1.1 6 = 0 → (tkC bt n p = 256 → c.2.2.2.2.2.2 none (tI T1 5 0)) ∧ (isLe (tkC bt n p) → h_goOn_76 c 0 T1) ∧ (¬ isLe (tkC bt n p) → isDi (tkC bt n p) → h_goOn_142 c 0 T1) ∧ (tkC bt n p ≠ 256 → ¬ isLe (tkC bt n p) → ¬ isDi (tkC bt n p) → ∀ z : Int32, z = (if isSg (tkC bt n p) then 3 else 4) → h_goOn_235 c 1 (tI (tI T1 5 z) 6 (hI (tkC bt n p)))) := by
    intro T1 e1 g3 g4 g11 g6
    have t1 : tTp T1 bt n := h0.same e1 (by decide) (by decide)
    refine ⟨fun q => ?_, fun q => ?_, fun q1 q2 => ?_, fun q1 q2 q3 z hz => ?_⟩
    · have hS : tkS bt n p = 0 := by unfold tkS; rw [if_pos q]
      have hE : tkE bt n p = tkP bt n p := by unfold tkE; rw [if_pos q]; rfl
      rw [hc]
      refine ⟨rfl, (e1.mono (by decide)).trans (tEq.sI _ _ (by decide)), by rw [tI_in (by decide)]; exact g4, by rw [tI_is, hS]; rfl, by rw [tI_in (by decide), hE]; exact g3, fun q => by rw [hS] at q; omega, fun q => by rw [hS] at q; omega⟩
    · -- letters
      have hC : ¬ tkC bt n p = 256 := fun e => by rw [e] at q; exact absurd q (by decide)
      have hE : tkE bt n p = tkP bt n p + tkM bt n p := by unfold tkE; rw [if_neg hC, if_pos q]
      have hM : tkM bt n p ≤ n - tkP bt n p := rn_le
      refine loopUp (N := tkM bt n p) (P := fun j => ∀ T, tEq [3, 4, 6, 11] T0 T → T.1 3 = nI (tkP bt n p) → T.1 4 = nI (tkP bt n p) → T.2.1 11 = lN (encR bt (tkP bt n p) (min j 6)) → h_goOn_76 c (nI j) T) ?_ ?_ 0 (Nat.zero_le _) T1 e1 g3 g4 g11
      · intro T he g3 g4 g11
        have t1 : tTp T bt n := h0.same he (by decide) (by decide)
        have hout : ¬ isLe (hrB bt n (tkP bt n p + tkM bt n p)) := by
          have : pL bt n (tkP bt n p + tkM bt n p) = false := rn_out pL_n
          unfold pL at this
          exact of_decide_eq_false this
        refine s_goOn_76 c _ T ⟨tVp t1 g3 hq (by omega), fun _ => ⟨fun h6 => ?_, fun h6 => ?_⟩, fun e => ?_⟩
        · rw [show (6 : Int32) = nI 6 from rfl, nI_leI (by omega) (by decide)] at h6
          have hS : tkS bt n p = 1 := by unfold tkS; rw [if_neg hC, if_pos q, if_neg (by omega)]
          refine fin _ _ ((he.mono (by decide)).trans (tEq.sI _ _ (by decide))) (by rw [tI_in (by decide)]; exact g3) (by rw [tI_in (by decide)]; exact g4) (by rw [tI_is, hS]; rfl) hE (fun z => by rw [hS] at z; omega) (fun _ => ?_)
          rw [show (tI T 5 1).2.1 = T.2.1 from rfl, g11, Nat.min_eq_left h6]
        · rw [show (6 : Int32) = nI 6 from rfl, nI_leI (by omega) (by decide)] at h6
          have hS : tkS bt n p = 4 := by unfold tkS; rw [if_neg hC, if_pos q, if_pos (by omega)]
          exact fin _ _ ((he.mono (by decide)).trans (tEq.sI _ _ (by decide))) (by rw [tI_in (by decide)]; exact g3) (by rw [tI_in (by decide)]; exact g4) (by rw [tI_is, hS]; rfl) hE (fun z => by rw [hS] at z; omega) (fun z => by rw [hS] at z; omega)
        · rw [zI_n0, tHere_at t1 g3 hq (by omega), (hI_all _ (hrB_257 hb _ _)).1] at e
          exact absurd e hout
      · intro j hj nx T he g3 g4 g11
        have t1 : tTp T bt n := h0.same he (by decide) (by decide)
        have hin : isLe (hrB bt n (tkP bt n p + j)) := of_decide_eq_true (rn_in hj)
        have hh : hrB bt n (tkP bt n p + j) = bt (tkP bt n p + j) := by unfold hrB; rw [if_pos (by omega)]
        have hth := tHere_at t1 g3 hq (j := j) (by omega)
        refine s_goOn_76 c _ T ⟨tVp t1 g3 hq (by omega), fun e => ?_, fun _ => ⟨fun h6 => s_goOn_111 c _ T ?_, fun h6 => ⟨tVp t1 g3 hq (by omega), s_goOn_111 c _ _ ?_⟩⟩⟩
        · rw [zI_0, hth, (hI_all _ (hrB_257 hb _ _)).1] at e
          exact absurd hin e
        · rw [show (6 : Int32) = nI 6 from rfl, nI_leI (by decide) (by omega)] at h6
          rw [nI_1]
          exact nx T he g3 g4 (by rw [g11, Nat.min_eq_right h6, Nat.min_eq_right (by omega)])
        · rw [show (6 : Int32) = nI 6 from rfl, nI_leI (by decide) (by omega)] at h6
          rw [nI_1]
          have hbj := hb (tkP bt n p + j)
          refine nx _ (he.trans (tEq.sL _ _ (by decide))) g3 g4 ?_
          rw [tL_ls, g11, hth, hh, Nat.min_eq_left (by omega), Nat.min_eq_left (by omega)]
          unfold hI
          rw [if_neg (by omega), nI_l (by omega), x_shl8 ?_ hbj]
          · rfl
          · have := encR_lt hb (tkP bt n p) j
            exact Nat.lt_of_lt_of_le this (Nat.le_trans (Nat.pow_le_pow_right (by omega) (show j ≤ 6 by omega)) (by decide))
    · -- digits
      have hC : ¬ tkC bt n p = 256 := fun e => by rw [e] at q2; exact absurd q2 (by decide)
      have hE : tkE bt n p = tkP bt n p + tkD bt n p := by unfold tkE; rw [if_neg hC, if_neg q1, if_pos q2]
      have hM : tkD bt n p ≤ n - tkP bt n p := rn_le
      refine loopUp (N := tkD bt n p) (P := fun j => ∀ T, tEq [3, 4, 6, 11] T0 T → T.1 3 = nI (tkP bt n p) → T.1 4 = nI (tkP bt n p) → T.1 6 = nI (decR bt (tkP bt n p) (min j 3)) → h_goOn_142 c (nI j) T) ?_ ?_ 0 (Nat.zero_le _) T1 e1 g3 g4 g6
      · intro T he g3 g4 g6
        have t1 : tTp T bt n := h0.same he (by decide) (by decide)
        have hout : ¬ isDi (hrB bt n (tkP bt n p + tkD bt n p)) := by
          have : pD bt n (tkP bt n p + tkD bt n p) = false := rn_out pD_n
          unfold pD at this
          exact of_decide_eq_false this
        have bad : tkS bt n p = 4 → h_goOn_235 c (nI (tkD bt n p)) (tI T 5 4) := fun hS => fin _ _ ((he.mono (by decide)).trans (tEq.sI _ _ (by decide))) (by rw [tI_in (by decide)]; exact g3) (by rw [tI_in (by decide)]; exact g4) (by rw [tI_is, hS]; rfl) hE (fun z => by rw [hS] at z; omega) (fun z => by rw [hS] at z; omega)
        refine s_goOn_142 c _ T ⟨tVp t1 g3 hq (by omega), fun _ => ⟨fun h6 => bad ?_, fun h6 => ⟨tVp t1 g3 hq (by omega), fun e => ?_, fun e => bad ?_⟩⟩, fun e => ?_⟩
        · rw [show (3 : Int32) = nI 3 from rfl, nI_ltI (by decide) (by omega)] at h6
          unfold tkS; rw [if_neg hC, if_neg q1, if_pos q2, if_pos (Or.inl h6)]
        · rw [show (3 : Int32) = nI 3 from rfl, nI_ltI (by decide) (by omega)] at h6
          rw [zI_0, tHere_at t1 g3 hq (by omega), (hI_all _ (hrB_257 hb _ _)).1] at e
          have hS : tkS bt n p = 2 := by unfold tkS; rw [if_neg hC, if_neg q1, if_pos q2, if_neg (fun z => z.elim h6 e)]
          refine fin _ _ ((he.mono (by decide)).trans (tEq.sI _ _ (by decide))) (by rw [tI_in (by decide)]; exact g3) (by rw [tI_in (by decide)]; exact g4) (by rw [tI_is, hS]; rfl) hE (fun _ => ?_) (fun z => by rw [hS] at z; omega)
          rw [tI_in (by decide), g6, Nat.min_eq_left (by omega)]
          unfold tkV
          rw [if_pos hS]
        · rw [zI_n0, tHere_at t1 g3 hq (by omega), (hI_all _ (hrB_257 hb _ _)).1] at e
          unfold tkS; rw [if_neg hC, if_neg q1, if_pos q2, if_pos (Or.inr e)]
        · rw [zI_n0, tHere_at t1 g3 hq (by omega), (hI_all _ (hrB_257 hb _ _)).2.1] at e
          exact absurd e hout
      · intro j hj nx T he g3 g4 g6
        have t1 : tTp T bt n := h0.same he (by decide) (by decide)
        have hin : isDi (hrB bt n (tkP bt n p + j)) := of_decide_eq_true (rn_in hj)
        have hh : hrB bt n (tkP bt n p + j) = bt (tkP bt n p + j) := by unfold hrB; rw [if_pos (by omega)]
        have hth := tHere_at t1 g3 hq (j := j) (by omega)
        refine s_goOn_142 c _ T ⟨tVp t1 g3 hq (by omega), fun e => ?_, fun _ => ⟨fun h6 => s_goOn_178 c _ T ?_, fun h6 => ⟨tVp t1 g3 hq (by omega), s_goOn_178 c _ _ ?_⟩⟩⟩
        · rw [zI_0, hth, (hI_all _ (hrB_257 hb _ _)).2.1] at e
          exact absurd hin e
        · rw [show (3 : Int32) = nI 3 from rfl, nI_leI (by decide) (by omega)] at h6
          rw [nI_1]
          exact nx T he g3 g4 (by rw [g6, Nat.min_eq_right h6, Nat.min_eq_right (by omega)])
        · rw [show (3 : Int32) = nI 3 from rfl, nI_leI (by decide) (by omega)] at h6
          rw [nI_1]
          rw [hh] at hin
          refine nx _ (he.trans (tEq.sI _ _ (by decide))) (by rw [tI_in (by decide)]; exact g3) (by rw [tI_in (by decide)]; exact g4) ?_
          rw [tI_is, g6, hth, hh, Nat.min_eq_left (by omega), Nat.min_eq_left (by omega)]
          unfold hI
          rw [if_neg (by omega), show (10 : Int32) = nI 10 from rfl, show (48 : Int32) = nI 48 from rfl, pk_mul, nI_add, pk_sub (by omega)]
          show nI _ = nI (10 * decR bt (tkP bt n p) j + (bt (tkP bt n p + j) - 48))
          congr 1
          omega
    · -- signs
      have hE : tkE bt n p = tkP bt n p + 1 := by unfold tkE; rw [if_neg q1, if_neg q2, if_neg q3]
      have hS : tkS bt n p = if isSg (tkC bt n p) then 3 else 4 := by unfold tkS; rw [if_neg q1, if_neg q2, if_neg q3]
      refine fin _ 1 (((e1.mono (by decide)).trans (tEq.sI _ _ (by decide))).trans (tEq.sI _ _ (by decide))) (by rw [tI_in (by decide), tI_in (by decide)]; exact g3) (by rw [tI_in (by decide), tI_in (by decide)]; exact g4) ?_ hE (fun z => ?_) (fun z => ?_)
      · rw [tI_in (by decide), tI_is, hS, hz]; split <;> rfl
      · rw [tI_is]
        unfold hI tkV
        rw [if_neg q1, if_neg (fun w => by rw [hS] at w; split at w <;> omega)]
      · rw [hS] at z; split at z <;> omega
  -- blanks
  have key : ∀ d, d ≤ rn (pB bt n) n p → ∀ T, tEq [3] T0 T → T.1 3 = nI (p + d) → h_goOn_0 c T := by
    refine loopUp (N := rn (pB bt n) n p) (P := fun d => ∀ T, tEq [3] T0 T → T.1 3 = nI (p + d) → h_goOn_0 c T) ?_ ?_
    · intro T he g3
      have g3' : T.1 3 = nI (tkP bt n p) := g3
      have t1 : tTp T bt n := h0.same he (by decide) (by decide)
      have hout : ¬ isBl (tkC bt n p) := by
        have : pB bt n (p + rn (pB bt n) n p) = false := rn_out pB_n
        unfold pB at this
        exact of_decide_eq_false this
      have hc256 : tkC bt n p < 257 := hrB_257 hb _ _
      have ha := hI_all _ hc256
      have e1 : tEq [3, 4, 6, 11] T0 (tI (tL (tI T 4 (T.1 3)) 11 (0 : Int64)) 6 (0 : Int32)) := (((he.mono (by decide)).trans (tEq.sI _ _ (by decide))).trans (tEq.sL _ _ (by decide))).trans (tEq.sI _ _ (by decide))
      have k3 : (tI (tL (tI T 4 (T.1 3)) 11 (0 : Int64)) 6 (0 : Int32)).1 3 = nI (tkP bt n p) := by rw [tI_in (by decide), tL_i, tI_in (by decide)]; exact g3'
      have k4 : (tI (tL (tI T 4 (T.1 3)) 11 (0 : Int64)) 6 (0 : Int32)).1 4 = nI (tkP bt n p) := by rw [tI_in (by decide), tL_i, tI_is]; exact g3'
      have k11 : (tI (tL (tI T 4 (T.1 3)) 11 (0 : Int64)) 6 (0 : Int32)).2.1 11 = 0 := by rw [tI_l, tL_ls]
      have k6 : (tI (tL (tI T 4 (T.1 3)) 11 (0 : Int64)) 6 (0 : Int32)).1 6 = 0 := tI_is
      have w1 := tVp t1 g3' hq (j := 0) (Nat.zero_le _)
      have w2 : tHere T (0 : Int32) = hI (tkC bt n p) := tHere_at t1 g3' hq (Nat.zero_le _)
      have t2 : tTp (tI (tL (tI T 4 (T.1 3)) 11 (0 : Int64)) 6 (0 : Int32)) bt n := h0.same e1 (by decide) (by decide)
      have w3 := tVp t2 k3 hq (j := 0) (Nat.zero_le _)
      have w4 : tHere (tI (tL (tI T 4 (T.1 3)) 11 (0 : Int64)) 6 (0 : Int32)) (0 : Int32) = hI (tkC bt n p) := tHere_at t2 k3 hq (Nat.zero_le _)
      obtain ⟨o1, o2, o3, o4⟩ := go _ e1 k3 k4 k11 k6
      refine s_goOn_0 c T ⟨w1, fun e => ?_, fun _ => ⟨w1, fun _ => ⟨w3, fun h0 => ⟨fun hl => ⟨fun hd => ⟨fun hs => ?_, fun hs => ?_⟩, fun hd => ?_⟩, fun hl => ?_⟩, fun h0 => ?_⟩, fun e => ?_⟩⟩
      · rw [w2, ha.2.2.2.1] at e
        exact absurd (Or.inl e) hout
      · rw [w4, zI_0, ha.1] at hl
        rw [w4, zI_0, ha.2.1] at hd
        rw [w4, zI_0, ha.2.2.1] at hs
        rw [w4, ha.2.2.2.2.2] at h0
        rw [w4]
        exact o4 h0 hl hd 4 (by rw [if_neg hs])
      · rw [w4, zI_0, ha.1] at hl
        rw [w4, zI_0, ha.2.1] at hd
        rw [w4, zI_n0, ha.2.2.1] at hs
        rw [w4, ha.2.2.2.2.2] at h0
        rw [w4]
        exact o4 h0 hl hd 3 (by rw [if_pos hs])
      · rw [w4, zI_0, ha.1] at hl
        rw [w4, zI_n0, ha.2.1] at hd
        exact o3 hl hd
      · rw [w4, zI_n0, ha.1] at hl
        exact o2 hl
      · rw [w4, ha.2.2.2.2.2] at h0
        exact o1 (Classical.byContradiction fun z => h0 z)
      · rw [w2, ha.2.2.2.2.1] at e
        exact absurd (Or.inr e) hout
    · intro d hd nx T he g3
      have hin : isBl (hrB bt n (p + d)) := of_decide_eq_true (rn_in hd)
      have hdn : p + d < n := hrB_lt (fun e => by rw [e] at hin; exact absurd hin (by decide))
      have t1 : tTp T bt n := h0.same he (by decide) (by decide)
      have w1 := tVp t1 g3 (by omega) (j := 0) (Nat.zero_le _)
      have w2 : tHere T (0 : Int32) = hI (hrB bt n (p + d)) := tHere_at (j := 0) t1 g3 (Nat.le_of_lt hdn) (Nat.zero_le _)
      have ha := hI_all _ (hrB_257 hb n (p + d))
      have go2 : h_goOn_20 c T := s_goOn_20 c T (by
        rw [g3, nI_1]
        exact nx _ (he.trans (tEq.sI _ _ (by decide))) (by rw [tI_is, Nat.add_assoc]))
      refine s_goOn_0 c T ⟨w1, fun _ => go2, fun e => ⟨w1, fun e2 => ?_, fun _ => go2⟩⟩
      rw [w2, ha.2.2.2.1] at e
      rw [w2, ha.2.2.2.2.1] at e2
      exact absurd hin (fun z => z.elim e e2)
  exact key 0 (Nat.zero_le _) T0 (tEq.refl _ _) h3
