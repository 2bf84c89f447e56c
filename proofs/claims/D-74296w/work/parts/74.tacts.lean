/-! the twin: acts, undo, parts -/
def tPast (T : tS) (n : Nat) (ps : Nat → Nat → Int64) : Prop := n ≤ 12 ∧ T.1 60 = nI n ∧ ∀ a i, a < n → i < 64 → T.2.2.2 59 (64 * a + i) = ps a i
theorem tPast.same {S : List Nat} {T T' : tS} {n : Nat} {ps : Nat → Nat → Int64} (h : tPast T n ps) (e : tEq S T T') (h1 : 59 ∉ S) (h2 : 60 ∉ S) : tPast T' n ps := ⟨h.1, by rw [e.i 60 h2]; exact h.2.1, fun a i ha hi => by rw [e.b 59 h1]; exact h.2.2 a i ha hi⟩
/-- one act more; of twelve the first is forgotten -/
def actN (n : Nat) : Nat := if n = 12 then 12 else n + 1
def actP (n : Nat) (ps : Nat → Nat → Int64) (v : Nat → Int64) : Nat → Nat → Int64 := if n = 12 then va_up (fun a => ps (a + 1)) 11 v else va_up ps n v
theorem ct_act {T0 : tS} {n : Nat} {ps : Nat → Nat → Int64} (h : tPast T0 n ps) : tMv mX6_act 0 (fun _ => []) T0 (fun T' => tEq [59, 60] T0 T' ∧ tPast T' (actN n) (actP n ps (T0.2.2.2 36))) := by
  obtain ⟨n12, h60, h59⟩ := id h
  refine en_act T0 _ (fun c hc => s_act_0 c T0 ?_)
  -- the row of now is laid behind
  have last : ∀ (m : Nat) (qs : Nat → Nat → Int64) (T : tS), m < 12 → tEq [59, 60] T0 T → T.1 60 = nI m → (∀ a i, a < m → i < 64 → T.2.2.2 59 (64 * a + i) = qs a i) → (∀ T', tEq [59, 60] T0 T' → T'.1 60 = nI (m + 1) → (∀ a i, a < m + 1 → i < 64 → T'.2.2.2 59 (64 * a + i) = va_up qs m (T0.2.2.2 36) a i) → c.2.2.2.2.2.2 none T') → h_act_50 c T := by
    intro m qs T hm he k60 k59 nx
    refine s_act_50 c T ?_
    refine loopUp (N := 64) (P := fun i => ∀ T, tEq [59, 60] T0 T → T.1 60 = nI m → (∀ a j, a < m → j < 64 → T.2.2.2 59 (64 * a + j) = qs a j) → (∀ j, j < i → T.2.2.2 59 (64 * m + j) = T0.2.2.2 36 j) → h_act_52 c (nI i) T) ?_ ?_ 0 (Nat.zero_le _) T he k60 k59 (fun j hj => absurd hj (Nat.not_lt_zero _))
    · intro T he k60 k59 kn
      refine s_act_52 c _ T ⟨fun _ => ?_, fun e => absurd (Int32.le_refl _) e⟩
      rw [k60, nI_1]
      refine nx _ (he.trans (tEq.sI _ _ (by decide))) tI_is (fun a i ha hi => ?_)
      rw [tI_l]
      by_cases e : a = m
      · subst e; rw [up_self]; exact kn i hi
      · rw [up_ne e]; exact k59 a i (by omega) hi
    · intro i hi nx2 T he k60 k59 kn
      refine s_act_52 c _ T ⟨fun e => absurd e (nI_ge hi (by decide)), fun _ => ?_⟩
      rw [k60, tIx64, nI_1, nI_clamp (show 64 * m + i < 2 ^ 31 by omega), nI_clamp (show i < 2 ^ 31 by omega)]
      refine ⟨vpI (by omega), vpI (by omega), nx2 _ (he.trans (tEq.sB _ _ (by decide))) (by rw [tB_i]; exact k60) (fun a j ha hj => ?_) (fun j hj => ?_)⟩
      · rw [tB_bs, up_ne (by omega)]; exact k59 a j ha hj
      · rw [tB_bs]
        by_cases e : j = i
        · subst e; rw [up_self, he.b 36 (by decide)]
        · rw [up_ne (by omega)]; exact kn j (by omega)
  rw [h60, show (12 : Int32) = nI 12 from rfl, x_inj (by omega) (by omega)]
  refine ⟨fun e => last n ps T0 (by omega) (tEq.refl _ _) h60 h59 (fun T' q1 q2 q3 => ?_), fun e => ?_⟩
  · rw [hc]
    refine ⟨rfl, q1, ?_⟩
    unfold actN actP
    rw [if_neg e, if_neg e]
    exact ⟨by omega, q2, q3⟩
  · subst e
    have mv : ∀ k, k ≤ 704 → ∀ T, tEq [59] T0 T → (∀ j, j < k → T.2.2.2 59 j = T0.2.2.2 59 (j + 64)) → (∀ j, k ≤ j → T.2.2.2 59 j = T0.2.2.2 59 j) → h_act_12 c (nI (64 + k)) T := by
      refine loopUp (N := 704) (P := fun k => ∀ T, tEq [59] T0 T → (∀ j, j < k → T.2.2.2 59 j = T0.2.2.2 59 (j + 64)) → (∀ j, k ≤ j → T.2.2.2 59 j = T0.2.2.2 59 j) → h_act_12 c (nI (64 + k)) T) ?_ ?_
      · intro T he k1 k2
        refine s_act_12 c _ T ⟨fun _ => ?_, fun e => absurd (Int32.le_refl _) e⟩
        rw [he.i 60 (by decide), h60, show (1 : Int32) = nI 1 from rfl, pk_sub (by omega)]
        refine last 11 (fun a => ps (a + 1)) _ (by omega) ((he.mono (by decide)).trans (tEq.sI _ _ (by decide))) tI_is (fun a i ha hi => ?_) (fun T' q1 q2 q3 => ?_)
        · rw [tI_l, k1 _ (by omega), show 64 * a + i + 64 = 64 * (a + 1) + i by omega]
          exact h59 (a + 1) i (by omega) hi
        · rw [hc]
          refine ⟨rfl, q1, ?_⟩
          unfold actN actP
          rw [if_pos rfl, if_pos rfl]
          exact ⟨by omega, q2, q3⟩
      · intro k hk nx T he k1 k2
        refine s_act_12 c _ T ⟨fun e => absurd e (nI_ge (b := 768) (by omega) (by decide)), fun _ => ?_⟩
        rw [show (64 : Int32) = nI 64 from rfl, pk_sub (by omega), show 64 + k - 64 = k by omega, nI_1, nI_clamp (show 64 + k < 2 ^ 31 by omega), nI_clamp (show k < 2 ^ 31 by omega)]
        refine ⟨vpI (by omega), vpI (by omega), nx _ (he.trans (tEq.sB _ _ (by decide))) (fun j hj => ?_) (fun j hj => ?_)⟩
        · rw [tB_bs]
          by_cases e : j = k
          · subst e; rw [up_self, k2 _ (by omega), Nat.add_comm]
          · rw [up_ne e]; exact k1 j (by omega)
        · rw [tB_bs, up_ne (by omega)]; exact k2 j (by omega)
    exact mv 0 (Nat.zero_le _) T0 (tEq.refl _ _) (fun j hj => absurd hj (Nat.not_lt_zero _)) (fun j hj => rfl)
theorem ct_undo {T0 : tS} {n : Nat} {ps : Nat → Nat → Int64} (h : tPast T0 n ps) : tMi mX6_undo 0 (fun _ => []) T0 (fun r T' => (n = 0 ∧ r = -1 ∧ T' = T0) ∨ (0 < n ∧ r = nI (n - 1) ∧ tEq [36, 60] T0 T' ∧ tPast T' (n - 1) ps ∧ ∀ i, i < 64 → T'.2.2.2 36 i = ps (n - 1) i)) := by
  obtain ⟨n12, h60, h59⟩ := id h
  refine en_undo T0 _ (fun c hc => s_undo_0 c T0 ?_)
  rw [h60, show (0 : Int32) = nI 0 from rfl, x_inj (by omega) (by omega)]
  refine ⟨fun e => ?_, fun e => ?_⟩
  · rw [show (1 : Int32) = nI 1 from rfl, pk_sub (by omega)]
    refine loopUp (N := 64) (P := fun i => ∀ T, tEq [36, 60] T0 T → T.1 60 = nI (n - 1) → (∀ j, j < i → T.2.2.2 36 j = ps (n - 1) j) → h_undo_21 c (nI i) T) ?_ ?_ 0 (Nat.zero_le _) _ (tEq.sI _ _ (by decide)) tI_is (fun j hj => absurd hj (Nat.not_lt_zero _))
    · intro T he k60 kn
      refine s_undo_21 c _ T ⟨fun _ => ?_, fun e => absurd (Int32.le_refl _) e⟩
      rw [hc, k60]
      exact ⟨_, rfl, Or.inr ⟨by omega, rfl, he, ⟨by omega, k60, fun a i ha hi => by rw [he.b 59 (by decide)]; exact h59 a i (by omega) hi⟩, kn⟩⟩
    · intro i hi nx T he k60 kn
      refine s_undo_21 c _ T ⟨fun e => absurd e (nI_ge hi (by decide)), fun _ => ?_⟩
      rw [k60, tIx64, nI_1, nI_clamp (show 64 * (n - 1) + i < 2 ^ 31 by omega), nI_clamp (show i < 2 ^ 31 by omega)]
      refine ⟨vpI (by omega), vpI (by omega), nx _ (he.trans (tEq.sB _ _ (by decide))) (by rw [tB_i]; exact k60) (fun j hj => ?_)⟩
      rw [tB_bs]
      by_cases e : j = i
      · subst e; rw [up_self, he.b 59 (by decide)]; exact h59 (n - 1) j (by omega) hi
      · rw [up_ne (by omega)]; exact kn j (by omega)
  · rw [hc]
    exact ⟨_, rfl, Or.inl ⟨e, rfl, rfl⟩⟩
/-- how many numbers are not nothing -/
def prtS (v : Nat → Int64) (S : Nat) : Nat := cnt (fun i => decide (v i ≠ 0)) S
theorem ct_parts {T0 : tS} {S : Nat} (h26 : T0.1 26 = nI S) (hS : S ≤ 60) {v : Nat → Int64} (hv : tSeg T0 36 0 S v) : tMi mX6_parts 1 (fun _ => []) T0 (fun r T' => r = nI (prtS v S) ∧ T' = T0) := by
  refine en_parts T0 _ (fun c hc => s_parts_0 c T0 ?_)
  refine loopUp (N := S) (P := fun i => h_parts_4 c (nI (prtS v i)) (nI i) T0) ?_ ?_ 0 (Nat.zero_le _)
  · refine s_parts_4 c _ _ T0 ⟨fun _ => ?_, fun e => absurd (by rw [h26]; exact Int32.le_refl _) e⟩
    rw [hc]
    exact ⟨_, rfl, rfl, rfl⟩
  · intro i hi nx
    have e36 : T0.2.2.2 36 i = v i := by have := hv i hi; rw [Nat.zero_add] at this; exact this
    refine s_parts_4 c _ _ T0 ⟨fun e => absurd e (by rw [h26]; exact nI_ge hi (by omega)), fun _ => ⟨vpI (by omega), ?_⟩⟩
    rw [lg_cmp_eq, nI_clamp (show i < 2 ^ 31 by omega), e36, nI_1]
    refine ⟨fun e => ?_, fun e => ?_⟩
    · rw [zI_f (by decide), show (0 : Int32) = nI 0 from rfl, nI_add]
      have : prtS v (i + 1) = prtS v i + 0 := by
        unfold prtS
        show cnt _ i + (if decide (v i ≠ 0) = true then 1 else 0) = _
        rw [if_neg (by simp [e])]
      rw [this] at nx
      exact nx
    · rw [zI_t (by decide), show (1 : Int32) = nI 1 from rfl, nI_add]
      have : prtS v (i + 1) = prtS v i + 1 := by
        unfold prtS
        show cnt _ i + (if decide (v i ≠ 0) = true then 1 else 0) = _
        rw [if_pos (by simp [e])]
      rw [this] at nx
      exact nx
