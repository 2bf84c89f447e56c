/-! the twin answers: marks told as bytes -/
def mnS (bt : Nat → Nat) (n k : Nat) : Nat := k + (if hrB bt n k = 45 then 1 else 0)
def mnD (bt : Nat → Nat) (n k : Nat) : Nat := rn (pD bt n) n (mnS bt n k)
def mnV (bt : Nat → Nat) (n k : Nat) : Int64 := if hrB bt n k = 45 then -lN (decR bt (mnS bt n k) (mnD bt n k)) else lN (decR bt (mnS bt n k) (mnD bt n k))
abbrev mnNum (bt : Nat → Nat) (n k : Nat) : Prop := 1 ≤ mnD bt n k ∧ mnD bt n k ≤ 6
abbrev mnEnd (bt : Nat → Nat) (n k : Nat) : Prop := isBl (hrB bt n (mnS bt n k + mnD bt n k)) ∨ n ≤ mnS bt n k + mnD bt n k
/-- marks told: whole numbers between blanks, not more than there are sorts -/
def mrR (bt : Nat → Nat) (n S : Nat) : Nat → Nat → List Int64 → Option (List Int64)
  | 0, _, _ => none
  | f + 1, k, L => if n ≤ tkP bt n k then some L else if mnNum bt n (tkP bt n k) ∧ L.length < S ∧ mnEnd bt n (tkP bt n k) then mrR bt n S f (mnS bt n (tkP bt n k) + mnD bt n (tkP bt n k)) (L ++ [mnV bt n (tkP bt n k)]) else none
def mrF (bt : Nat → Nat) (n S : Nat) : Option (List Int64) := mrR bt n S (n + 1) 0 []
def tTq (T : tS) (bt : Nat → Nat) (n : Nat) : Prop := n ≤ 700 ∧ (∀ k, bt k < 256) ∧ ∀ k, k < n → T.2.2.1 0 k = nI (bt k)
theorem tTq.same {S : List Nat} {T T' : tS} {bt : Nat → Nat} {n : Nat} (h : tTq T bt n) (e : tEq S T T') (h2 : 0 ∉ S) : tTq T' bt n := ⟨h.1, h.2.1, fun k hk => by rw [e.a 0 h2]; exact h.2.2 k hk⟩
theorem hrB_at {bt : Nat → Nat} {n k : Nat} (h : k < n) : hrB bt n k = bt k := if_pos h
theorem hrB_no {bt : Nat → Nat} {n k : Nat} (h : n ≤ k) : hrB bt n k = 256 := if_neg (by omega)
theorem ct_isBlank {T0 : tS} {bt : Nat → Nat} {n k : Nat} (ht : tTq T0 bt n) (hk : k ≤ n) (h64 : T0.1 64 = nI k) : tMi mX6_isBlank 0 (fun _ => [.int (nI n)]) T0 (fun r T' => r = zI (isBl (hrB bt n k)) ∧ T' = T0) := by
  obtain ⟨n7, b1, b2⟩ := ht
  refine en_isBlank _ T0 _ (fun c hc => s_isBlank_0 c _ T0 ?_)
  rw [h64, hc, nI_leI (by omega) (by omega)]
  refine ⟨fun e => ⟨_, rfl, ?_, rfl⟩, fun e => ⟨vpI (by omega), ?_⟩⟩
  · rw [hrB_no e]; decide
  · have hb := b1 k
    rw [nI_clamp (by omega), b2 k (by omega), hrB_at (by omega), show (32 : Int32) = nI 32 from rfl, show (10 : Int32) = nI 10 from rfl, x_inj (by omega) (by omega), x_inj (by omega) (by omega)]
    refine ⟨fun q => ⟨_, rfl, ?_, rfl⟩, fun q => ⟨vpI (by omega), fun q2 => ⟨_, rfl, ?_, rfl⟩, fun q2 => ⟨_, rfl, ?_, rfl⟩⟩⟩
    · rw [zI_t (Or.inl q)]
    · rw [zI_f (by rintro (z | z); exact q z; exact q2 z)]
    · rw [zI_t (Or.inr q2)]
theorem pB_iff {bt : Nat → Nat} {n k : Nat} : pB bt n k = true ↔ isBl (hrB bt n k) := by unfold pB; rw [decide_eq_true_eq]
theorem pD_iff {bt : Nat → Nat} {n k : Nat} : pD bt n k = true ↔ isDi (hrB bt n k) := by unfold pD; rw [decide_eq_true_eq]
def tLq (T : tS) (L : List Int64) : Prop := T.1 65 = nI L.length ∧ ∀ i, i < L.length → T.2.2.2 37 i = L.getD i 0
theorem gDL_app {L M : List Int64} {k : Nat} (h : k < L.length) : (L ++ M).getD k 0 = L.getD k 0 := by
  rw [List.getD_eq_getElem?_getD, List.getElem?_append_left h, ← List.getD_eq_getElem?_getD]
theorem gDL_end {L : List Int64} {v : Int64} : (L ++ [v]).getD L.length 0 = v := by
  rw [List.getD_eq_getElem?_getD, List.getElem?_append_right (Nat.le_refl _), Nat.sub_self]
  rfl
theorem ct_readsNumber {T0 : tS} {bt : Nat → Nat} {n k S : Nat} {L : List Int64} (ht : tTq T0 bt n) (hk : k ≤ n) (h64 : T0.1 64 = nI k) (h26 : T0.1 26 = nI S) (hS : S ≤ 60) (hL : tLq T0 L) (hLS : L.length ≤ S) : tMi mX6_readsNumber 1 (fun _ => [.int (nI n)]) T0 (fun r T' => tEq [37, 64, 65] T0 T' ∧ ((mnNum bt n k ∧ L.length < S ∧ r = 1 ∧ T'.1 64 = nI (mnS bt n k + mnD bt n k) ∧ tLq T' (L ++ [mnV bt n k])) ∨ (¬ (mnNum bt n k ∧ L.length < S) ∧ r = 0))) := by
  obtain ⟨n7, b1, b2⟩ := id ht
  refine en_readsNumber _ T0 _ (fun c hc => s_readsNumber_0 c _ T0 ?_)
  rw [h64, nI_leI (by omega) (by omega)]
  have body : ∀ s, k ≤ s → s ≤ n → s = mnS bt n k → ∀ sg : Int32, (sg = 0 ↔ ¬ hrB bt n k = 45) → ∀ T, tEq [37, 64, 65] T0 T → tLq T L → T.1 64 = nI s → h_readsNumber_42 c (nI n) sg T := by
    intro s hs0 hs1 hs sg hsg T e hq h64'
    have hD : mnD bt n k = rn (pD bt n) n s := by unfold mnD; rw [hs]
    have hDl : rn (pD bt n) n s ≤ n - s := rn_le
    have hv : ∀ m, m ≤ rn (pD bt n) n s → decR bt s m < 10 ^ m := fun m hm => decR_lt m (fun i hi => by
      have := pD_iff.mp (rn_in (P := pD bt n) (n := n) (k := s) (i := i) (by omega))
      rw [hrB_at (by omega)] at this
      exact this)
    refine s_readsNumber_42 c _ _ T ?_
    have fin : ∀ m T', m ≤ rn (pD bt n) n s → m ≤ 7 → (m = rn (pD bt n) n s ∨ m = 7) → tEq [37, 64, 65] T0 T' → tLq T' L → T'.1 64 = nI (s + m) → h_readsNumber_114 c sg (lN (decR bt s m)) (nI m) T' := by
      intro m T' hm hm7 hme e' hq' h64''
      have e26 : T'.1 26 = nI S := by rw [e'.i 26 (by decide)]; exact h26
      refine s_readsNumber_114 c _ _ _ T' ?_
      rw [hc, hq'.1, e26, show (0 : Int32) = nI 0 from rfl, show (6 : Int32) = nI 6 from rfl, x_inj (by omega) (by omega), nI_ltI (by omega) (by omega), x_inj (by omega) (by omega)]
      refine ⟨fun q => ⟨_, rfl, e', Or.inr ⟨fun z => ?_, rfl⟩⟩, fun q => ⟨fun q2 => ⟨_, rfl, e', Or.inr ⟨fun z => ?_, rfl⟩⟩, fun q2 => ⟨fun q3 => ?_, fun q3 => ⟨_, rfl, e', Or.inr ⟨fun z => ?_, rfl⟩⟩⟩⟩⟩
      · have := z.1.1
        rw [hD] at this
        omega
      · have := z.1.2
        rw [hD] at this
        omega
      · have hmr : m = rn (pD bt n) n s := by omega
        have hnum : mnNum bt n k := by rw [mnNum, hD]; omega
        have app : ∀ v, v = mnV bt n k → tLq (tI (tB T' 37 (va_up (T'.2.2.2 37) (nI L.length).toNatClampNeg v)) 65 (nI L.length + 1)) (L ++ [mnV bt n k]) := fun v hvv => by
          refine ⟨by rw [tI_is, nI_1]; simp, fun i hi => ?_⟩
          show (tB T' 37 (va_up (T'.2.2.2 37) (nI L.length).toNatClampNeg v)).2.2.2 37 i = _
          rw [tB_bs, nI_clamp (by omega)]
          simp only [List.length_append, List.length_singleton] at hi
          by_cases z : i = L.length
          · subst z; rw [up_self, gDL_end]; exact hvv
          · rw [up_ne z, gDL_app (by omega)]; exact hq'.2 i (by omega)
        have ee : ∀ v w, tEq [37, 64, 65] T0 (tI (tB T' 37 v) 65 w) := fun v w => (e'.trans (tEq.sB _ _ (by decide))).trans (tEq.sI _ _ (by decide))
        have e64 : ∀ v w, (tI (tB T' 37 v) 65 w).1 64 = nI (mnS bt n k + mnD bt n k) := fun v w => by
          rw [tI_in (by decide)]
          show T'.1 64 = _
          rw [h64'', hD, ← hs, hmr]
        refine ⟨fun q4 => ⟨vpI (by omega), _, rfl, ee _ _, Or.inl ⟨hnum, by omega, rfl, e64 _ _, app _ ?_⟩⟩, fun q4 => ⟨vpI (by omega), _, rfl, ee _ _, Or.inl ⟨hnum, by omega, rfl, e64 _ _, app _ ?_⟩⟩⟩
        · have := hsg.mp q4
          unfold mnV
          rw [if_neg this, hD, ← hs, hmr]
        · have : hrB bt n k = 45 := Classical.byContradiction fun z => q4 (hsg.mpr z)
          unfold mnV
          rw [if_pos this, hD, ← hs, hmr]
      · omega
    have key := loopUp (N := min (rn (pD bt n) n s) 7) (P := fun m => ∀ T', tEq [37, 64, 65] T0 T' → tLq T' L → T'.1 64 = nI (s + m) → h_readsNumber_47 c (nI n) sg (lN (decR bt s m)) (nI m) T') ?_ ?_ 0 (Nat.zero_le _) T e hq h64'
    · exact key
    · intro T' e' hq' h64''
      generalize hm : min (rn (pD bt n) n s) 7 = m at *
      have f := fin m T' (by omega) (by omega) (by omega) e' hq' h64''
      refine s_readsNumber_47 c _ _ _ _ T' ⟨fun _ => f, fun q => ?_⟩
      rw [h64'', nI_leI (by omega) (by omega)] at q
      have hb := b1 (s + m)
      rw [h64'', nI_clamp (by omega), e'.a 0 (by decide), b2 _ (by omega)]
      refine ⟨vpI (by omega), fun _ => f, fun q2 => ⟨fun _ => f, fun q3 => ?_⟩⟩
      exfalso
      rw [show (6 : Int32) = nI 6 from rfl, nI_ltI (by omega) (by omega)] at q3
      have h1 := (hI_all (bt (s + m)) (by omega)).2.1
      unfold hI at h1
      rw [if_neg (by omega)] at h1
      rw [zI_n0, h1] at q2
      have := rn_out (P := pD bt n) (n := n) (k := s) pD_n
      rw [show rn (pD bt n) n s = m by omega] at this
      have h2 := pD_iff (bt := bt) (n := n) (k := s + m)
      rw [hrB_at (by omega)] at h2
      rw [h2.mpr q2] at this
      exact absurd this (by decide)
    · intro m hm nx T' e' hq' h64''
      have hin := pD_iff.mp (rn_in (P := pD bt n) (n := n) (k := s) (i := m) (by omega))
      rw [hrB_at (by omega)] at hin
      refine s_readsNumber_47 c _ _ _ _ T' ⟨fun q => ?_, fun q => ⟨?_, ?_⟩⟩
      · rw [h64'', nI_leI (by omega) (by omega)] at q
        omega
      · rw [h64'']; exact vpI (by omega)
      · have hb := b1 (s + m)
        rw [h64'', nI_clamp (by omega), e'.a 0 (by decide), b2 _ (by omega)]
        have h1 := (hI_all (bt (s + m)) (by omega)).2.1
        unfold hI at h1
        rw [if_neg (by omega)] at h1
        refine ⟨fun q2 => ?_, fun q2 => ⟨fun q3 => ?_, fun q3 => ⟨vpI (by omega), ?_⟩⟩⟩
        · rw [zI_0, h1] at q2
          exact absurd hin q2
        · rw [show (6 : Int32) = nI 6 from rfl, nI_ltI (by omega) (by omega)] at q3
          omega
        · have ev : (10 : Int64) * lN (decR bt s m) + (nI (bt (s + m))).toInt64 - 48 = lN (decR bt s (m + 1)) := by
            rw [show (10 : Int64) = lN 10 from rfl, show (48 : Int64) = lN 48 from rfl, nI_l (by omega), lN_mul, lN_add, lN_sub (by omega)]
            show _ = lN (10 * decR bt s m + (bt (s + m) - 48))
            rw [Nat.add_sub_assoc (by omega)]
          rw [ev, nI_1, nI_1]
          refine nx _ (e'.trans (tEq.sI _ _ (by decide))) ⟨by rw [tI_in (by decide)]; exact hq'.1, hq'.2⟩ ?_
          rw [tI_is]
          rfl
  have h26' : ∀ sg : Int32, True := fun _ => trivial
  have noSign : ¬ hrB bt n k = 45 → h_readsNumber_26 c (nI n) T0 := fun q => by
    refine s_readsNumber_26 c _ T0 ⟨fun _ => body k (Nat.le_refl _) hk (by unfold mnS; rw [if_neg q]; rfl) 0 ⟨fun _ => q, fun _ => rfl⟩ T0 (tEq.refl _ _) hL h64, fun z => absurd rfl z⟩
  refine ⟨fun e => noSign (by rw [hrB_no e]; decide), fun e => ⟨vpI (by omega), ?_⟩⟩
  have hb := b1 k
  rw [nI_clamp (by omega), b2 k (by omega), show (45 : Int32) = nI 45 from rfl, x_inj (by omega) (by omega)]
  have hh := hrB_at (bt := bt) (n := n) (k := k) (by omega)
  refine ⟨fun q => noSign (by rw [hh]; exact q), fun q => ⟨fun z => absurd z (by decide), fun _ => ?_⟩⟩
  have hq : hrB bt n k = 45 := by rw [hh]; exact q
  rw [nI_1]
  exact body (k + 1) (by omega) (by omega) (by unfold mnS; rw [if_pos hq]) 1 ⟨fun z => absurd z (by decide), fun z => absurd hq z⟩ _ (tEq.sI _ _ (by decide)) ⟨by rw [tI_in (by decide)]; exact hL.1, hL.2⟩ (by rw [tI_is])
theorem tkP_at {bt : Nat → Nat} {n k : Nat} (h : ¬ isBl (hrB bt n k)) : tkP bt n k = k := by
  unfold tkP
  rw [rn_stop (by cases hp : pB bt n k with
    | true => exact absurd (pB_iff.mp hp) h
    | false => rfl)]
  rfl
theorem tkP_sk {bt : Nat → Nat} {n k : Nat} (h : isBl (hrB bt n k)) : tkP bt n k = tkP bt n (k + 1) := by
  unfold tkP
  rw [rn_step pB_n (pB_iff.mpr h)]
  omega
theorem tkP_nb {bt : Nat → Nat} {n k : Nat} : ¬ isBl (hrB bt n (tkP bt n k)) := fun h => by
  have := rn_out (P := pB bt n) (n := n) (k := k) pB_n
  unfold tkP at h
  rw [pB_iff.mpr h] at this
  exact absurd this (by decide)
theorem tkP_tk {bt : Nat → Nat} {n k : Nat} : tkP bt n (tkP bt n k) = tkP bt n k := tkP_at tkP_nb
theorem ct_readsMarks {T0 : tS} {bt : Nat → Nat} {n S : Nat} (ht : tTq T0 bt n) (h26 : T0.1 26 = nI S) (hS : S ≤ 60) : tMi mX6_readsMarks 2 (fun _ => [.int (nI n)]) T0 (fun r T' => tEq [37, 64, 65] T0 T' ∧ ((∃ L, mrF bt n S = some L ∧ L.length = S ∧ r = 1 ∧ tLq T' L) ∨ (¬ (∃ L, mrF bt n S = some L ∧ L.length = S) ∧ r = 0))) := by
  obtain ⟨n7, b1, b2⟩ := id ht
  refine en_readsMarks _ T0 _ (fun c hc => s_readsMarks_0 c _ T0 ?_)
  have skip : ∀ d k T, k ≤ n → d + k = n → tEq [37, 64, 65] T0 T → T.1 64 = nI k → ((∀ T', tEq [64] T T' → T'.1 64 = nI (tkP bt n k) → h_readsMarks_31 c (nI n) T') → h_readsMarks_67 c (nI n) T ∧ h_readsMarks_10 c (nI n) T) := by
    intro d
    induction d with
    | zero =>
      intro k T hk hd e h64 nx
      have hnb : ¬ isBl (hrB bt n k) := by rw [hrB_no (by omega)]; decide
      have go : h_readsMarks_31 c (nI n) T := nx T (tEq.refl _ _) (by rw [tkP_at hnb]; exact h64)
      refine ⟨s_readsMarks_67 c _ T ⟨_, ct_isBlank (ht.same e (by decide)) hk h64, ?_⟩, s_readsMarks_10 c _ T ⟨_, ct_isBlank (ht.same e (by decide)) hk h64, ?_⟩⟩
      · rintro r T4 ⟨rfl, rfl⟩
        exact ⟨fun _ => go, fun q => absurd (zI_f hnb) q⟩
      · rintro r T4 ⟨rfl, rfl⟩
        exact ⟨fun _ => go, fun q => absurd (zI_f hnb) q⟩
    | succ d ih =>
      intro k T hk hd e h64 nx
      by_cases hb : isBl (hrB bt n k)
      · have e1 : (tI T 64 (T.1 64 + 1)).1 64 = nI (k + 1) := by rw [tI_is, h64, nI_1]
        have go := ih (k + 1) (tI T 64 (T.1 64 + 1)) (by omega) (by omega) (e.trans (tEq.sI _ _ (by decide))) e1 (fun T' e' h' => nx T' ((tEq.sI (S := [64]) _ _ (by decide)).trans e') (by rw [tkP_sk hb]; exact h'))
        refine ⟨s_readsMarks_67 c _ T ⟨_, ct_isBlank (ht.same e (by decide)) hk h64, ?_⟩, s_readsMarks_10 c _ T ⟨_, ct_isBlank (ht.same e (by decide)) hk h64, ?_⟩⟩
        · rintro r T4 ⟨rfl, rfl⟩
          exact ⟨fun q => absurd hb (zI_0.mp q), fun _ => go.1⟩
        · rintro r T4 ⟨rfl, rfl⟩
          exact ⟨fun q => absurd hb (zI_0.mp q), fun _ => go.2⟩
      · have go : h_readsMarks_31 c (nI n) T := nx T (tEq.refl _ _) (by rw [tkP_at hb]; exact h64)
        refine ⟨s_readsMarks_67 c _ T ⟨_, ct_isBlank (ht.same e (by decide)) hk h64, ?_⟩, s_readsMarks_10 c _ T ⟨_, ct_isBlank (ht.same e (by decide)) hk h64, ?_⟩⟩
        · rintro r T4 ⟨rfl, rfl⟩
          exact ⟨fun _ => go, fun q => absurd (zI_f hb) q⟩
        · rintro r T4 ⟨rfl, rfl⟩
          exact ⟨fun _ => go, fun q => absurd (zI_f hb) q⟩
  have key : ∀ f k L T, tkP bt n k ≤ n → n < k + f → L.length ≤ S → tEq [37, 64, 65] T0 T → T.1 64 = nI (tkP bt n k) → tLq T L → mrF bt n S = mrR bt n S f k L → h_readsMarks_31 c (nI n) T := by
    intro f
    induction f with
    | zero => intro k L T hk hf; have : k ≤ tkP bt n k := Nat.le_add_right _ _; omega
    | succ f ih =>
      intro k L T hk hf hLS e h64 hq hm
      have hk0 : k ≤ tkP bt n k := Nat.le_add_right _ _
      have eR : mrR bt n S (f + 1) k L = if n ≤ tkP bt n k then some L else if mnNum bt n (tkP bt n k) ∧ L.length < S ∧ mnEnd bt n (tkP bt n k) then mrR bt n S f (mnS bt n (tkP bt n k) + mnD bt n (tkP bt n k)) (L ++ [mnV bt n (tkP bt n k)]) else none := rfl
      rw [eR] at hm
      have e26 : T.1 26 = nI S := by rw [e.i 26 (by decide)]; exact h26
      refine s_readsMarks_31 c _ T ⟨fun q => ?_, fun q => ?_⟩
      · rw [h64, nI_leI (by omega) (by omega)] at q
        rw [if_pos q] at hm
        rw [hc, hq.1, e26, x_inj (by omega) (by omega)]
        refine ⟨fun z => ⟨_, rfl, e, Or.inr ⟨?_, rfl⟩⟩, fun z => ⟨_, rfl, e, Or.inl ⟨L, hm, z, rfl, hq⟩⟩⟩
        rintro ⟨L', h1, h2⟩
        rw [hm] at h1
        cases h1
        exact z h2
      · rw [h64, nI_leI (by omega) (by omega)] at q
        rw [if_neg q] at hm
        refine ⟨_, ct_readsNumber (ht.same e (by decide)) hk h64 e26 hS hq hLS, ?_⟩
        generalize hkk : tkP bt n k = p at *
        have hDl : mnD bt n p ≤ n - mnS bt n p := rn_le
        have hsp : p ≤ mnS bt n p ∧ mnS bt n p ≤ n := by
          unfold mnS
          split
          · omega
          · omega
        rintro r T6 ⟨e6, h6⟩
        rcases h6 with ⟨g1, g2, rfl, g3, g4⟩ | ⟨g1, rfl⟩
        · refine ⟨fun _ => ?_, fun z => absurd z (by decide)⟩
          have e06 := e.trans e6
          rw [g3, nI_leI (by omega) (by omega)]
          have go : mnEnd bt n p → h_readsMarks_67 c (nI n) T6 := fun hend => by
            rw [if_pos ⟨g1, g2, hend⟩] at hm
            have hle : tkP bt n (mnS bt n p + mnD bt n p) ≤ n := tkP_le (by omega)
            refine (skip (n - (mnS bt n p + mnD bt n p)) (mnS bt n p + mnD bt n p) T6 (by omega) (by omega) e06 g3 (fun T' e' h' => ?_)).1
            refine ih (mnS bt n p + mnD bt n p) (L ++ [mnV bt n p]) T' hle (by have := g1.1; omega) (by simp; omega) (e06.trans (e'.mono (by decide))) h' ⟨by rw [e'.i 65 (by decide)]; exact g4.1, fun i hi => by rw [e'.b 37 (by decide)]; exact g4.2 i hi⟩ hm
          refine ⟨fun z => go (Or.inr z), fun z => ⟨_, ct_isBlank (ht.same e06 (by decide)) (by omega) g3, ?_⟩⟩
          rintro r T14 ⟨rfl, rfl⟩
          refine ⟨fun w => go (Or.inl (zI_n0.mp w)), fun w => ?_⟩
          rw [zI_0] at w
          rw [if_neg (by rintro ⟨-, -, x | x⟩; exact w x; exact z x)] at hm
          rw [hc]
          refine ⟨_, rfl, e06, Or.inr ⟨?_, rfl⟩⟩
          rintro ⟨L', h1, h2⟩
          rw [hm] at h1
          cases h1
        · refine ⟨fun z => absurd rfl z, fun _ => ?_⟩
          rw [if_neg (by rintro ⟨x, y, -⟩; exact g1 ⟨x, y⟩)] at hm
          rw [hc]
          refine ⟨_, rfl, e.trans e6, Or.inr ⟨?_, rfl⟩⟩
          rintro ⟨L', h1, h2⟩
          rw [hm] at h1
          cases h1
  have e0 : tEq [37, 64, 65] T0 (tI (tI T0 64 0) 65 0) := (tEq.sI _ _ (by decide)).trans (tEq.sI _ _ (by decide))
  refine (skip n 0 _ (Nat.zero_le _) (by omega) e0 (by rw [tI_in (by decide), tI_is]; rfl) (fun T' e' h' => ?_)).2
  refine key (n + 1) 0 [] T' (tkP_le (Nat.zero_le _)) (by omega) (Nat.zero_le _) (e0.trans (e'.mono (by decide))) h' ⟨?_, fun i hi => absurd hi (Nat.not_lt_zero _)⟩ rfl
  rw [e'.i 65 (by decide), tI_is]
  rfl
/-- marks that a sum may have at a sort -/
def cgOk (n : Nat) (mul : Nat → Nat → Nat) (inv : Nat → Nat) (F : List Nat) (v : Nat → Int64) (j : Nat) : Prop := cgR n mul inv F v j % kL (mdL n mul inv F j).length = 0
theorem ct_marks {T0 : tS} {bt : Nat → Nat} {nb n : Nat} {mul : Nat → Nat → Nat} {inv : Nat → Nat} {L F : List Nat} (h : tGrp T0 n mul inv L F) {mk : Nat → Nat → Nat} (hM : tMk T0 F.length mk) (h1 : T0.1 1 = nI nb) (ht : tTq T0 bt nb) {na : Nat} {ps : Nat → Nat → Int64} (hA : tPast T0 na ps) : tMi mX6_marks 5 (fun _ => []) T0 (fun r T' => T'.1 1 = 0 ∧
    ((∃ W, mrF bt nb F.length = some W ∧ W.length = F.length ∧ (∀ j, j < F.length → cgOk n mul inv F (fun i => W.getD i 0) j) ∧ r = 0 ∧ tEq [1, 36, 37, 54, 55, 59, 60, 64, 65] T0 T' ∧ tPast T' (actN na) (actP na ps (T0.2.2.2 36)) ∧ tSeg T' 36 0 F.length (slv F.length mk (fun i => W.getD i 0)) ∧ ∀ i, F.length ≤ i → T'.2.2.2 36 i = T0.2.2.2 36 i) ∨
     (∃ W j, mrF bt nb F.length = some W ∧ W.length = F.length ∧ j < F.length ∧ (∀ i, i < j → cgOk n mul inv F (fun i => W.getD i 0) i) ∧ ¬ cgOk n mul inv F (fun i => W.getD i 0) j ∧ r = nI (j + 1) ∧ tEq [1, 37, 54, 55, 64, 65] T0 T') ∨
     (¬ (∃ W, mrF bt nb F.length = some W ∧ W.length = F.length) ∧ r = -2 ∧ tEq [1, 37, 64, 65] T0 T'))) := by
  obtain ⟨s1, s60, h26, h31, hd⟩ := id hM
  refine en_marks T0 _ (fun c hc => s_marks_0 c T0 ?_)
  rw [h1]
  have e0 : tEq [1] T0 (tI T0 1 0) := tEq.sI _ _ (by decide)
  refine ⟨_, ct_readsMarks (ht.same e0 (by decide)) (by rw [e0.i 26 (by decide)]; exact h26) s60, ?_⟩
  rintro r T4 ⟨e4, h4⟩
  have e04 : tEq [1, 37, 64, 65] T0 T4 := (e0.mono (by decide)).trans (e4.mono (by decide))
  have g1 : T4.1 1 = 0 := by rw [e4.i 1 (by decide), tI_is]
  rcases h4 with ⟨W, w1, w2, rfl, w3⟩ | ⟨w1, rfl⟩
  · refine ⟨fun _ => ?_, fun z => absurd z (by decide)⟩
    have hseg : tSeg T4 37 0 F.length (fun i => W.getD i 0) := fun i hi => by
      rw [Nat.zero_add]
      exact w3.2 i (by omega)
    have key := loopUp (N := F.length) (P := fun j => (∀ i, i < j → cgOk n mul inv F (fun i => W.getD i 0) i) → ∀ T, tEq [54, 55] T4 T → h_marks_23 c (nI j) T) ?_ ?_ 0 (Nat.zero_le _) (fun i hi => absurd hi (Nat.not_lt_zero _)) T4 (tEq.refl _ _)
    · exact key
    · intro hall T e
      have e0T : tEq [1, 37, 54, 55, 64, 65] T0 T := (e04.mono (by decide)).trans (e.mono (by decide))
      refine s_marks_23 c _ T ⟨fun _ => ⟨_, ct_act (hA.same e0T (by decide) (by decide)), ?_⟩, fun q => absurd (by rw [e0T.i 26 (by decide), h26]; exact Int32.le_refl _) q⟩
      rintro T5 ⟨e5, p5⟩
      have e05 : tEq [1, 37, 54, 55, 59, 60, 64, 65] T0 T5 := (e0T.mono (by decide)).trans (e5.mono (by decide))
      refine ⟨_, ct_numbers (hM.same e05 (by decide) (by decide)) (fa := 37) (ft := 36) (o := 0) (by decide) (by decide) (by decide) (by decide) (by decide) (by show F.length ≤ 64; omega) (by show 0 + F.length ≤ 64; omega) (a := fun i => W.getD i 0) (fun i hi => by rw [e5.b 37 (by decide), e.b 37 (by decide)]; exact hseg i hi), ?_⟩
      rintro T11 ⟨v1, v2, v3⟩
      rw [hc]
      refine ⟨_, rfl, ?_, Or.inl ⟨W, w1, w2, hall, rfl, (e05.mono (by decide)).trans (v2.mono (by decide)), ?_, v1, fun i hi => ?_⟩⟩
      · rw [v2.i 1 (by decide), e5.i 1 (by decide), e.i 1 (by decide)]; exact g1
      · have := p5.same v2 (by decide) (by decide)
        rw [e0T.b 36 (by decide)] at this
        exact this
      · rw [v3 i (Or.inr (by omega)), e05.b 36 (by decide)]
    · intro j hj nx hall T e
      have e0T : tEq [1, 37, 54, 55, 64, 65] T0 T := (e04.mono (by decide)).trans (e.mono (by decide))
      have hT := h.same e0T (by decide)
      obtain ⟨m1, m2, m3⟩ := tGrp_md h hj
      refine s_marks_23 c _ T ⟨fun q => absurd q (by rw [e0T.i 26 (by decide), h26]; exact nI_ge hj (by omega)), fun _ => ⟨_, ct_congruenceOf hT s60 (fa := 37) (by decide) (by decide) (by decide) (v := fun i => W.getD i 0) (fun i hi => by rw [e.b 37 (by decide)]; exact hseg i hi) (by decide) (by decide) hj, ?_⟩⟩
      rintro r T17 ⟨rfl, e17, l17⟩
      rw [l17.1]
      refine ⟨kL_n0 m1 (by omega), fun q => ?_, fun q => ?_⟩
      · rw [lg_cmp_eq, i64_rem] at q
        rw [nI_1]
        refine nx (fun i hi => ?_) T17 (e.trans e17)
        by_cases z : i = j
        · subst z; exact q
        · exact hall i (by omega)
      · rw [lg_cmp_eq, i64_rem] at q
        rw [hc, nI_1]
        refine ⟨_, rfl, ?_, Or.inr (Or.inl ⟨W, j, w1, w2, hj, hall, q, rfl, e0T.trans (e17.mono (by decide))⟩)⟩
        rw [e17.i 1 (by decide), e.i 1 (by decide)]; exact g1
  · refine ⟨fun z => absurd rfl z, fun _ => ?_⟩
    rw [hc]
    exact ⟨_, rfl, g1, Or.inr (Or.inr ⟨w1, rfl, e04⟩)⟩
