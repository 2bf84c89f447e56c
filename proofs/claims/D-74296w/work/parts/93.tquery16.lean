/-! the twin answers: what places take -/
theorem pop_pos {s k : Nat} (h : s.testBit k = true) : ∀ n, k < n → 1 ≤ pop n s := by
  intro n
  induction n with
  | zero => intro q; omega
  | succ n ih =>
    intro q
    unfold pop
    by_cases e : k = n
    · subst e; rw [if_pos h]; omega
    · have := ih (by omega); omega
/-- where a place goes by a set of members -/
def oS (n : Nat) (f : Nat → List Nat) (s p : Nat) : Nat := imS (fun m => s.testBit m) (fun m => rAt (f m) p) n
def oM (n : Nat) (f : Nat → List Nat) (s : Nat) : Nat → Nat
  | 0 => 0
  | p + 1 => if (oM n f s p).testBit p = true then oM n f s p else oM n f s p ||| oS n f s p
/-- how large the parts of places are -/
def oL (n : Nat) (f : Nat → List Nat) (s : Nat) : Nat → List Nat
  | 0 => []
  | p + 1 => if (oM n f s p).testBit p = true then oL n f s p else oL n f s p ++ [pop 31 (oS n f s p)]
theorem oL_len {n : Nat} {f : Nat → List Nat} {s : Nat} : ∀ p, (oL n f s p).length ≤ p := by
  intro p
  induction p with
  | zero => exact Nat.le_refl _
  | succ p ih =>
    unfold oL
    split
    · omega
    · simp; omega
theorem ct_laysParts {T0 : tS} {p n s : Nat} {f : Nat → List Nat} (h16 : T0.1 16 = nI p) (hp : p ≤ 6) (h20 : T0.1 20 = nI n) (hn : n ≤ 24) (hf : tMemF T0 p n f) (hok : ∀ m, m < n → rOk p (f m)) (hs : s < 2 ^ n) : tMv mX6_laysParts 1 (fun _ => [.int (nI s)]) T0 (fun T' => tEq [61, 63] T0 T' ∧ tLi T' 63 61 (oL n f s p)) := by
  refine en_laysParts _ T0 _ (fun c hc => s_laysParts_0 c _ T0 ?_)
  have ho : ∀ q, q < p → oS n f s q < 2 ^ 6 := fun q hq => imS_lt fun m hm _ => by
    have := (hok m hm).2.1 q hq
    omega
  have hM : ∀ q, q ≤ p → oM n f s q < 2 ^ 6 := by
    intro q
    induction q with
    | zero => intro _; exact Nat.pow_pos (by omega)
    | succ q ih =>
      intro hq
      unfold oM
      split
      · exact ih (by omega)
      · exact or_lt (ih (by omega)) (ho q (by omega))
  have key := loopUp (N := p) (P := fun q => ∀ T, tEq [61, 63] T0 T → tLi T 63 61 (oL n f s q) → h_laysParts_9 c (nI s) (nI (oM n f s q)) (nI q) T) ?_ ?_ 0 (Nat.zero_le _) _ (tEq.sI (S := [61, 63]) (f := 63) T0 0 (by decide)) ⟨by rw [tI_is]; rfl, fun i hi => absurd hi (Nat.not_lt_zero _)⟩
  · exact key
  · intro T e hl
    refine s_laysParts_9 c _ _ _ T ⟨fun _ => ?_, fun q => absurd (by rw [e.i 16 (by decide), h16]; exact Int32.le_refl _) q⟩
    rw [hc]
    exact ⟨rfl, e, hl⟩
  · intro q hq nx T e hl
    have lM := hM q (by omega)
    have hlen : (oL n f s q).length ≤ q := oL_len q
    have eb : tBit (nI (oM n f s q)) (nI q) ↔ (oM n f s q).testBit q = true := x_bit (lt_pow lM (by omega)) (by omega)
    refine s_laysParts_9 c _ _ _ T ⟨fun z => absurd z (by rw [e.i 16 (by decide), h16]; exact nI_ge hq (by omega)), fun _ => ⟨fun z => ?_, fun z => ?_⟩⟩
    · rw [zI_0, eb] at z
      have e1 : oM n f s (q + 1) = oM n f s q ||| oS n f s q := by
        show (if _ then _ else _) = _
        rw [if_neg z]
      have e2 : oL n f s (q + 1) = oL n f s q ++ [pop 31 (oS n f s q)] := by
        show (if _ then _ else _) = _
        rw [if_neg z]
      rw [e1, e2] at nx
      refine loopUp (N := n) (P := fun m => h_laysParts_34 c (nI s) (nI (oM n f s q)) (nI q) (nI (imS (fun m => s.testBit m) (fun m => rAt (f m) q) m)) (nI m) T) ?_ ?_ 0 (Nat.zero_le _)
      · refine s_laysParts_34 c _ _ _ _ _ T ⟨fun _ => ?_, fun z => absurd (by rw [e.i 20 (by decide), h20]; exact Int32.le_refl _) z⟩
        have eo : imS (fun m => s.testBit m) (fun m => rAt (f m) q) n = oS n f s q := rfl
        rw [eo, hl.1, x_ones (lt_pow (ho q hq) (by omega)), x_or]
        refine ⟨vpI (by omega), s_laysParts_106 c _ _ _ _ ?_⟩
        rw [nI_1, nI_1, nI_clamp (by omega)]
        exact nx _ ((e.trans (tEq.sA _ _ (by decide))).trans (tEq.sI _ _ (by decide))) (hl.push (S := []) (by decide) rfl)
      · intro m hm nx2
        have hr := (hok m hm).2.1 q hq
        refine s_laysParts_34 c _ _ _ _ _ T ⟨fun z => absurd z (by rw [e.i 20 (by decide), h20]; exact nI_ge hm (by omega)), fun _ => ⟨fun z => s_laysParts_71 c _ _ _ _ _ T ?_, fun z => ?_⟩⟩
        · rw [zI_0, bit31 hs hn hm] at z
          have : imS (fun m => s.testBit m) (fun m => rAt (f m) q) (m + 1) = imS (fun m => s.testBit m) (fun m => rAt (f m) q) m := by
            show (if _ then _ else _) = _
            rw [if_neg z]
          rw [this] at nx2
          rw [nI_1]
          exact nx2
        · rw [zI_n0, bit31 hs hn hm] at z
          have : imS (fun m => s.testBit m) (fun m => rAt (f m) q) (m + 1) = imS (fun m => s.testBit m) (fun m => rAt (f m) q) m ||| 2 ^ rAt (f m) q := by
            show (if _ then _ else _) = _
            rw [if_pos z]
          rw [this] at nx2
          rw [tIx6, nI_clamp (by omega), e.a 21 (by decide), hf m hm q hq, x_orbit (by omega)]
          refine ⟨vpI (by omega), s_laysParts_71 c _ _ _ _ _ T ?_⟩
          rw [nI_1]
          exact nx2
    · rw [zI_n0, eb] at z
      have e1 : oM n f s (q + 1) = oM n f s q := by
        show (if _ then _ else _) = _
        rw [if_pos z]
      have e2 : oL n f s (q + 1) = oL n f s q := by
        show (if _ then _ else _) = _
        rw [if_pos z]
      rw [e1, e2] at nx
      refine s_laysParts_106 c _ _ _ T ?_
      rw [nI_1]
      exact nx T e hl
/-- sets of so many places of whole parts, of the first i parts -/
def wyR (l : List Nat) : Nat → Nat → Nat
  | 0, k => if k = 0 then 1 else 0
  | i + 1, k => if l.getD i 0 ≤ k then wyR l i k + wyR l i (k - l.getD i 0) else wyR l i k
theorem wyR_le (l : List Nat) : ∀ i k, wyR l i k ≤ 2 ^ i := by
  intro i
  induction i with
  | zero => intro k; unfold wyR; split <;> decide
  | succ i ih =>
    intro k
    have h1 := ih k
    have h2 := ih (k - l.getD i 0)
    unfold wyR
    rw [Nat.pow_succ]
    split <;> omega
theorem ct_setsOf {T0 : tS} {l : List Nat} (hl : tLi T0 63 61 l) (h6 : l.length ≤ 6) (hp : ∀ i, i < l.length → 1 ≤ l.getD i 0 ∧ l.getD i 0 < 32) {k : Nat} (hk : k < 7) : tMi mX6_setsOf 1 (fun _ => [.int (nI k)]) T0 (fun r T' => r = nI (wyR l l.length k) ∧ tEq [62] T0 T') := by
  refine en_setsOf _ T0 _ (fun c hc => s_setsOf_0 c _ T0 ?_)
  have second := loopUp (N := l.length) (P := fun i => ∀ T, tEq [62] T0 T → (∀ j, j < 7 → T.2.2.1 62 j = nI (wyR l i j)) → h_setsOf_34 c (nI k) (nI i) T) ?_ ?_ 0 (Nat.zero_le _)
  · have key := loopUp (N := 7) (P := fun i => ∀ T, tEq [62] T0 T → (∀ j, j < i → T.2.2.1 62 j = nI (wyR l 0 j)) → h_setsOf_2 c (nI k) (nI i) T) ?_ ?_ 0 (Nat.zero_le _) T0 (tEq.refl _ _) (fun j hj => absurd hj (Nat.not_lt_zero _))
    · exact key
    · intro T e ha
      exact s_setsOf_2 c _ _ T ⟨fun _ => second T e ha, fun z => absurd (Int32.le_refl _) z⟩
    · intro i hi nx T e ha
      refine s_setsOf_2 c _ _ T ⟨fun z => absurd z (nI_ge hi (by decide)), fun _ => ?_⟩
      rw [show (0 : Int32) = nI 0 from rfl, x_inj (by omega) (by omega), nI_clamp (by omega), nI_1]
      have fin : ∀ v, v = nI (wyR l 0 i) → h_setsOf_2 c (nI k) (nI (i + 1)) (tA T 62 (va_up (T.2.2.1 62) i v)) := fun v hv => by
        refine nx _ (e.trans (tEq.sA _ _ (by decide))) (fun j hj => ?_)
        rw [tA_as]
        by_cases z : j = i
        · subst z; rw [up_self, hv]
        · rw [up_ne z]; exact ha j (by omega)
      refine ⟨fun z => ⟨vpI (by omega), fin _ ?_⟩, fun z => ⟨vpI (by omega), fin _ ?_⟩⟩
      · rw [zI_f (fun q => q rfl)]
        show nI 0 = nI (if i = 0 then 1 else 0)
        rw [if_neg z]
      · rw [zI_t (by decide)]
        show nI 1 = nI (if i = 0 then 1 else 0)
        rw [if_pos z]
  · intro T e ha
    refine s_setsOf_34 c _ _ T ⟨fun _ => ?_, fun z => absurd (by rw [e.i 63 (by decide), hl.1]; exact Int32.le_refl _) z⟩
    rw [nI_clamp (by omega), ha k hk, hc]
    exact ⟨vpI (by omega), _, rfl, rfl, e⟩
  · intro i hi nx T e ha
    refine s_setsOf_34 c _ _ T ⟨fun z => absurd z (by rw [e.i 63 (by decide), hl.1]; exact nI_ge hi (by omega)), fun _ => ?_⟩
    obtain ⟨p1, p2⟩ := hp i hi
    have e61 : ∀ T, tEq [62] T0 T → T.2.2.1 61 (nI i).toNatClampNeg = nI (l.getD i 0) := fun T e => by rw [nI_clamp (by omega), e.a 61 (by decide)]; exact hl.2 i hi
    have stop : ∀ (x : Int32) T', x < nI (l.getD i 0) → tEq [62] T0 T' → (∀ j, j < 7 → T'.2.2.1 62 j = nI (wyR l (i + 1) j)) → h_setsOf_45 c (nI k) (nI i) x T' := fun x T' hx e' ha' => by
      refine s_setsOf_45 c _ _ _ T' ⟨vpI (by omega), ?_⟩
      rw [e61 T' e']
      refine ⟨fun _ => ?_, fun z => absurd hx z⟩
      rw [nI_1]
      exact nx T' e' ha'
    have down : ∀ x, x < 7 → ∀ T', tEq [62] T0 T' → (∀ j, j < 7 → T'.2.2.1 62 j = if x < j then nI (wyR l (i + 1) j) else nI (wyR l i j)) → h_setsOf_45 c (nI k) (nI i) (nI x) T' := by
      intro x
      induction x with
      | zero =>
        intro _ T' e' ha'
        refine stop _ T' (by rw [nI_ltI (by omega) (by omega)]; omega) e' (fun j hj => ?_)
        rw [ha' j hj]
        by_cases z : 0 < j
        · rw [if_pos z]
        · rw [if_neg z]
          have : wyR l (i + 1) j = wyR l i j := by
            show (if _ then _ else _) = _
            rw [if_neg (by omega)]
          rw [this]
      | succ x ih =>
        intro hx T' e' ha'
        by_cases z : x + 1 < l.getD i 0
        · refine stop _ T' (by rw [nI_ltI (by omega) (by omega)]; omega) e' (fun j hj => ?_)
          rw [ha' j hj]
          by_cases w : x + 1 < j
          · rw [if_pos w]
          · rw [if_neg w]
            have : wyR l (i + 1) j = wyR l i j := by
              show (if _ then _ else _) = _
              rw [if_neg (by omega)]
            rw [this]
        · refine s_setsOf_45 c _ _ _ T' ⟨vpI (by omega), ?_⟩
          rw [e61 T' e', nI_ltI (by omega) (by omega), pk_sub (by omega), nI_clamp (by omega), nI_clamp (by omega), ha' (x + 1) hx, if_neg (by omega), ha' (x + 1 - l.getD i 0) (by omega), if_neg (by omega), pk_m1, nI_add]
          refine ⟨fun w => absurd w z, fun _ => ⟨vpI (by omega), vpI (by omega), vpI (by omega), vpI (by omega), ih (by omega) _ (e'.trans (tEq.sA _ _ (by decide))) (fun j hj => ?_)⟩⟩
          rw [tA_as]
          by_cases w : j = x + 1
          · subst w
            rw [up_self, if_pos (by omega)]
            have : wyR l (i + 1) (x + 1) = wyR l i (x + 1) + wyR l i (x + 1 - l.getD i 0) := by
              show (if _ then _ else _) = _
              rw [if_pos (by omega)]
            rw [this]
          · rw [up_ne w, ha' j hj]
            by_cases w2 : x + 1 < j
            · rw [if_pos w2, if_pos (by omega)]
            · rw [if_neg w2, if_neg (by omega)]
    refine down 6 (by omega) T e (fun j hj => ?_)
    rw [ha j hj, if_neg (by omega)]
/-- what a subgroup leaves as it is: of places, of sets of so many places, of ways to give each place one of so many -/
def fixV (what x : Nat) (l : List Nat) : Nat := if what = 0 then cnt (fun i => l.getD i 0 == 1) l.length else if what = 1 then wyR l l.length x else x ^ l.length
theorem ct_fixedBy {T0 : tS} {l : List Nat} (hl : tLi T0 63 61 l) (h6 : l.length ≤ 6) (hp : ∀ i, i < l.length → 1 ≤ l.getD i 0 ∧ l.getD i 0 < 32) {w : Nat} (hw : w < 3) {y : Int32} {k : Nat} (hk : 0 < w → k < 7 ∧ y = nI k) : tMl mX6_fixedBy 2 (fun _ => [.int (nI w), .int y]) T0 (fun r T' => r = lN (fixV w k l) ∧ tEq [62] T0 T') := by
  refine en_fixedBy _ _ T0 _ (fun c hc => s_fixedBy_0 c _ _ T0 ?_)
  rw [show (2 : Int32) = nI 2 from rfl, x_inj (by omega) (by omega)]
  have key : ∀ v0 : Nat, v0 = (if w = 2 then 1 else 0) → h_fixedBy_14 c (nI w) y (lN v0) (nI 0) T0 := by
    intro v0 hv0
    have e0 : v0 = (if w = 2 then k ^ 0 else if w = 0 then cnt (fun i => l.getD i 0 == 1) 0 else 0) := by
      rw [hv0]
      by_cases q : w = 2
      · rw [if_pos q, if_pos q]; rfl
      · rw [if_neg q, if_neg q]
        show 0 = if w = 0 then 0 else 0
        split <;> rfl
    rw [e0]
    refine loopUp (N := l.length) (P := fun i => h_fixedBy_14 c (nI w) y (lN (if w = 2 then k ^ i else if w = 0 then cnt (fun i => l.getD i 0 == 1) i else 0)) (nI i) T0) ?_ ?_ 0 (Nat.zero_le _)
    · refine s_fixedBy_14 c _ _ _ _ T0 ⟨fun _ => ?_, fun z => absurd (by rw [hl.1]; exact Int32.le_refl _) z⟩
      rw [show (1 : Int32) = nI 1 from rfl, x_inj (by omega) (by omega), hc]
      refine ⟨fun z => ⟨_, rfl, ?_, tEq.refl _ _⟩, fun z => ?_⟩
      · unfold fixV
        by_cases q : w = 2
        · rw [if_pos q, if_neg (by omega), if_neg z]
        · rw [if_neg q, if_pos (by omega), if_pos (by omega)]
      · obtain ⟨k7, rfl⟩ := hk (by omega)
        refine ⟨_, ct_setsOf hl h6 hp k7, ?_⟩
        rintro r T6 ⟨rfl, e6⟩
        have hb := wyR_le l l.length k
        have hb2 : 2 ^ l.length ≤ 2 ^ 6 := Nat.pow_le_pow_right (by omega) h6
        rw [nI_l (by omega)]
        refine ⟨_, rfl, ?_, e6⟩
        unfold fixV
        rw [if_neg (by omega), if_pos z]
    · intro i hi nx
      obtain ⟨p1, p2⟩ := hp i hi
      have e61 : T0.2.2.1 61 (nI i).toNatClampNeg = nI (l.getD i 0) := by rw [nI_clamp (by omega)]; exact hl.2 i hi
      refine s_fixedBy_14 c _ _ _ _ T0 ⟨fun z => absurd z (by rw [hl.1]; exact nI_ge hi (by omega)), fun _ => ?_⟩
      rw [e61, show (0 : Int32) = nI 0 from rfl, show (1 : Int32) = nI 1 from rfl, x_inj (by omega) (by omega), x_inj (by omega) (by omega)]
      have fin : ∀ v, (w = 2 → v * y.toInt64 = lN (k ^ (i + 1))) → (¬ w = 2 → v = lN (if w = 0 then cnt (fun i => l.getD i 0 == 1) (i + 1) else 0)) → h_fixedBy_50 c (nI w) y v (nI i) T0 := fun v h1 h2 => by
        refine s_fixedBy_50 c _ _ _ _ T0 ?_
        rw [show (2 : Int32) = nI 2 from rfl, x_inj (by omega) (by omega)]
        refine ⟨fun z => s_fixedBy_60 c _ _ _ _ T0 ?_, fun z => s_fixedBy_60 c _ _ _ _ T0 ?_⟩
        · rw [if_neg z, ← h2 z] at nx
          rw [nI_1]
          exact nx
        · rw [if_pos z, ← h1 z] at nx
          rw [nI_1]
          exact nx
      refine ⟨fun z => fin _ (fun q => ?_) (fun q => ?_), fun z => ⟨vpI (by omega), fun z2 => fin _ (fun q => absurd q (by omega)) (fun q => ?_), fun z2 => fin _ (fun q => absurd q (by omega)) (fun q => ?_)⟩⟩
      · obtain ⟨k7, rfl⟩ := hk (by omega)
        rw [if_pos q, nI_l (by omega), lN_mul, Nat.pow_succ]
      · rw [if_neg q, if_neg z, if_neg z]
      · rw [if_neg q, if_pos z, if_pos z, zI_f (fun q => q rfl), cnt_f (p := fun i => l.getD i 0 == 1) (by simpa using z2)]
        show _ + (0 : Int64) = _
        exact Int64.add_zero _
      · rw [if_neg q, if_pos z, if_pos z, zI_t (by decide), cnt_t (p := fun i => l.getD i 0 == 1) (by simpa using z2)]
        show _ + (1 : Int64) = _
        rw [lN_1]
  refine ⟨fun z => ?_, fun z => ?_⟩
  · have := key 0 (by rw [if_neg z])
    exact this
  · have := key 1 (by rw [if_pos z])
    exact this
theorem oL_pos {n p : Nat} {f : Nat → List Nat} {s : Nat} (hs : s.testBit 0 = true) (hn : 0 < n) (hp : p ≤ 6) (hok : ∀ m, m < n → rOk p (f m)) : ∀ q, q ≤ p → ∀ i, i < (oL n f s q).length → 1 ≤ (oL n f s q).getD i 0 ∧ (oL n f s q).getD i 0 < 32 := by
  intro q
  induction q with
  | zero => intro _ i hi; exact absurd hi (Nat.not_lt_zero _)
  | succ q ih =>
    intro hq i
    unfold oL
    by_cases z : (oM n f s q).testBit q = true
    · rw [if_pos z]; exact ih (by omega) i
    · rw [if_neg z]
      intro hi
      simp only [List.length_append, List.length_singleton] at hi
      by_cases w : i < (oL n f s q).length
      · rw [gD_app w]; exact ih (by omega) i w
      · have : i = (oL n f s q).length + 0 := by omega
        rw [this, gD_appR]
        show 1 ≤ pop 31 (oS n f s q) ∧ pop 31 (oS n f s q) < 32
        have h1 : pop 31 (oS n f s q) ≤ 31 := pop_le _ _
        have h2 := (hok 0 hn).2.1 q (by omega)
        have hb : (oS n f s q).testBit (rAt (f 0) q) = true := (imS_bit _ _ _ _).mpr ⟨0, hn, hs, rfl⟩
        have h3 : 1 ≤ pop 31 (oS n f s q) := pop_pos hb 31 (by omega)
        omega
def takV (n : Nat) (f : Nat → List Nat) (F : List Nat) (p w k j : Nat) : Int64 := lN (fixV w k (oL n f (F.getD j 0) p))
theorem ct_take {T0 : tS} {n p : Nat} {f : Nat → List Nat} {mul : Nat → Nat → Nat} {inv : Nat → Nat} {L F : List Nat} (h : tGrp T0 n mul inv L F) {mk : Nat → Nat → Nat} (hM : tMk T0 F.length mk) (h16 : T0.1 16 = nI p) (hp : p ≤ 6) (hf : tMemF T0 p n f) (hok : ∀ m, m < n → rOk p (f m)) {na : Nat} {ps : Nat → Nat → Int64} (hA : tPast T0 na ps) (a b : Int32) : tMi mX6_take 3 (fun _ => [.int a, .int b]) T0 (fun r T' =>
    (∃ w k, w < 3 ∧ a = nI w ∧ (0 < w → k < 7 ∧ b = nI k) ∧ r = (takV n f F p w k 0).toInt32 ∧ tEq [34, 36, 59, 60, 61, 62, 63] T0 T' ∧ tPast T' (actN na) (actP na ps (T0.2.2.2 36)) ∧ tSeg T' 36 0 F.length (slv F.length mk (takV n f F p w k)) ∧ ∀ i, F.length ≤ i → T'.2.2.2 36 i = T0.2.2.2 36 i) ∨
    (¬ (∃ w, w < 3 ∧ a = nI w ∧ (0 < w → ∃ k, k < 7 ∧ b = nI k)) ∧ r = -1 ∧ T' = T0)) := by
  obtain ⟨s1, s60, h26, h31, hd⟩ := id hM
  have g6 := h.2.2.2.2.2.1
  have h1 := h.1
  have hn := h1.2.1
  refine en_take _ _ T0 _ (fun c hc => s_take_0 c _ _ T0 ?_)
  have body : ∀ w k, w < 3 → a = nI w → (0 < w → k < 7 ∧ b = nI k) → h_take_30 c a b T0 := by
    intro w k hw ha hk
    refine s_take_30 c _ _ T0 ?_
    have key := loopUp (N := F.length) (P := fun j => ∀ T, tEq [34, 61, 62, 63] T0 T → tSeg T 34 0 j (takV n f F p w k) → h_take_32 c a b (nI j) T) ?_ ?_ 0 (Nat.zero_le _) T0 (tEq.refl _ _) (fun i hi => absurd hi (Nat.not_lt_zero _))
    · exact key
    · intro T e hs
      refine s_take_32 c _ _ _ T ⟨fun _ => ⟨_, ct_act (hA.same e (by decide) (by decide)), ?_⟩, fun q => absurd (by rw [e.i 26 (by decide), h26]; exact Int32.le_refl _) q⟩
      rintro T5 ⟨e5, p5⟩
      have e05 : tEq [34, 59, 60, 61, 62, 63] T0 T5 := (e.mono (by decide)).trans (e5.mono (by decide))
      refine ⟨_, ct_numbers (hM.same e05 (by decide) (by decide)) (fa := 34) (ft := 36) (o := 0) (by decide) (by decide) (by decide) (by decide) (by decide) (by show F.length ≤ 64; omega) (by show 0 + F.length ≤ 64; omega) (a := takV n f F p w k) (fun i hi => by rw [e5.b 34 (by decide)]; exact hs i hi), ?_⟩
      rintro T11 ⟨v1, v2, v3⟩
      have hr := hs 0 s1
      rw [Nat.zero_add] at hr
      rw [show (0 : Int32).toNatClampNeg = 0 from rfl, v2.b 34 (by decide), e5.b 34 (by decide), hr, hc]
      refine ⟨vpI (n := 0) (by decide), _, rfl, Or.inl ⟨w, k, hw, ha, hk, rfl, (e05.mono (by decide)).trans (v2.mono (by decide)), ?_, v1, fun i hi => ?_⟩⟩
      · have := p5.same v2 (by decide) (by decide)
        rw [e.b 36 (by decide)] at this
        exact this
      · rw [v3 i (Or.inr (by omega)), e05.b 36 (by decide)]
    · intro j hj nx T e hs
      have hs' := tGrp_sg h hj
      refine s_take_32 c _ _ _ T ⟨fun q => absurd q (by rw [e.i 26 (by decide), h26]; exact nI_ge hj (by omega)), fun _ => ⟨vpI (by omega), ?_⟩⟩
      rw [nI_clamp (by omega), e.a 29 (by decide), g6.2 j hj]
      refine ⟨_, ct_laysParts (f := f) (p := p) (n := n) (by rw [e.i 16 (by decide)]; exact h16) hp (by rw [e.i 20 (by decide)]; exact h1.2.2.1) hn (hf.same e (by decide)) hok hs'.1, ?_⟩
      rintro T19 ⟨e19, l19⟩
      rw [ha]
      have lo := oL_pos (f := f) (p := p) hs'.2.1 h1.1.1 hp hok p (Nat.le_refl _)
      have ll : (oL n f (F.getD j 0) p).length ≤ 6 := Nat.le_trans (oL_len p) hp
      refine ⟨_, ct_fixedBy l19 ll lo hw hk, ?_⟩
      rintro r T25 ⟨rfl, e25⟩
      rw [← ha, nI_1]
      refine ⟨vpI (by omega), nx _ (((e.trans (e19.mono (by decide))).trans (e25.mono (by decide))).trans (tEq.sB _ _ (by decide))) (fun t ht => ?_)⟩
      rw [tB_bs]
      by_cases z : t = j
      · subst z; rw [Nat.zero_add, up_self]; rfl
      · rw [up_ne (by omega), e25.b 34 (by decide), e19.b 34 (by decide)]
        exact hs t (by omega)
  refine ⟨fun e => ?_, fun e => ⟨fun e2 => ?_, fun e2 => ⟨fun e3 => ?_, fun e3 => ?_⟩⟩⟩
  · rw [zI_0, zRng2] at e
    rw [hc]
    exact ⟨_, rfl, Or.inr ⟨fun ⟨w, hw, q, _⟩ => e ⟨w, hw, q⟩, rfl, rfl⟩⟩
  · rw [zI_n0, zRng2] at e
    obtain ⟨w, hw, q⟩ := e
    rw [q, show (0 : Int32) = nI 0 from rfl, nI_leI (by omega) (by omega)] at e2
    exact body w 0 hw q (fun z => absurd z (by omega))
  · rw [zI_n0, zRng2] at e
    rw [zI_n0, zRng6] at e3
    obtain ⟨w, hw, q⟩ := e
    obtain ⟨k, hk, q2⟩ := e3
    exact body w k hw q (fun _ => ⟨hk, q2⟩)
  · rw [zI_n0, zRng2] at e
    rw [zI_0, zRng6] at e3
    obtain ⟨w, hw, q⟩ := e
    rw [q, show (0 : Int32) = nI 0 from rfl, nI_leI (by omega) (by omega)] at e2
    rw [hc]
    refine ⟨_, rfl, Or.inr ⟨?_, rfl, rfl⟩⟩
    rintro ⟨w', hw', q', h'⟩
    rw [q, x_inj (by omega) (by omega)] at q'
    subst q'
    exact e3 (h' (by omega))
