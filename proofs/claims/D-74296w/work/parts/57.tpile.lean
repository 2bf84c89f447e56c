/-! the twin's pile -/
theorem tIm64 (l : Nat) : (64 : Int32) * nI l = nI (64 * l) := by rw [show (64 : Int32) = nI 64 from rfl, pk_mul]
def tPl (T : tS) (S : Nat) (mk : Nat → Nat → Nat) (h : Nat) (pl : Nat → Nat → Int64) : Prop := h ≤ 40 ∧ T.1 38 = nI h ∧ (T.1 39 = 0 ∨ T.1 39 = 1) ∧ (T.1 39 = 0 → ∀ l, l < h → tSeg T 33 (64 * l) S (pl l) ∧ fitS S mk (pl l))
theorem tPl.same {L : List Nat} {T T' : tS} {S : Nat} {mk : Nat → Nat → Nat} {h : Nat} {pl : Nat → Nat → Int64} (x : tPl T S mk h pl) (e : tEq L T T') (h1 : 33 ∉ L) (h2 : 38 ∉ L) (h3 : 39 ∉ L) : tPl T' S mk h pl := ⟨x.1, by rw [e.i 38 h2]; exact x.2.1, by rw [e.i 39 h3]; exact x.2.2.1, fun q l hl => by
  rw [e.i 39 h3] at q
  have := x.2.2.2 q l hl
  exact ⟨fun i hi => by rw [e.b 33 h1]; exact this.1 i hi, this.2⟩⟩
theorem b01 {x : Int32} (h : x = 1) : ¬ x = 0 := by subst h; decide
theorem ct_looks {T0 : tS} {S : Nat} {mk : Nat → Nat → Nat} (hM : tMk T0 S mk) {h : Nat} {pl : Nat → Nat → Int64} {r : Nat → Int64} (hh : h < 40) (h38 : T0.1 38 = nI (h + 1)) (h39 : T0.1 39 = 0 ∨ T0.1 39 = 1) (hp : T0.1 39 = 0 → (∀ l, l < h → tSeg T0 33 (64 * l) S (pl l) ∧ fitS S mk (pl l)) ∧ tSeg T0 33 (64 * h) S r) : tMv mX6_looks 2 (fun _ => []) T0 (fun T' => tEq [33, 39] T0 T' ∧ (T'.1 39 = 0 ↔ T0.1 39 = 0 ∧ fitS S mk r) ∧ tPl T' S mk (h + 1) (va_up pl h r)) := by
  obtain ⟨s1, s60, h26, h31, hd⟩ := id hM
  refine en_looks T0 _ (fun c hc => s_looks_0 c T0 ?_)
  rw [h38, nI_pred, tIm64]
  refine ⟨_, ct_isFit hM (by decide) (by decide) (show 64 * h + S ≤ tLn 33 from by show _ ≤ 2560; omega), ?_⟩
  rintro r6 T4 ⟨hx, rfl⟩
  refine ⟨fun e => ?_, fun e => ?_⟩
  · have nf : ¬ fitS S mk (fun i => T4.2.2.2 33 (64 * h + i)) := by
      rcases hx with ⟨-, q⟩ | ⟨q, -⟩
      · exact absurd e (b01 q)
      · exact q
    refine loopUp (N := S) (P := fun j => ∀ T, tEq [33, 39] T4 T → T.1 39 = 1 → h_looks_28 c (nI j) T) ?_ ?_ 0 (Nat.zero_le _) _ (tEq.sI _ _ (by decide)) tI_is
    · intro T he hb
      refine s_looks_28 c _ T ⟨fun _ => ?_, fun e => absurd (by rw [he.i 26 (by decide), h26]; exact Int32.le_refl _) e⟩
      rw [hc]
      refine ⟨rfl, he, ⟨fun q => absurd q (b01 hb), fun q => absurd ((fitS_congr (fun i hi => (hp q.1).2 i hi)).mpr q.2) nf⟩, by omega, by rw [he.i 38 (by decide)]; exact h38, Or.inr hb, fun q => absurd q (b01 hb)⟩
    · intro j hj nx T he hb
      refine s_looks_28 c _ T ⟨fun e => absurd e (by rw [he.i 26 (by decide), h26]; exact nI_ge hj (by omega)), fun _ => ?_⟩
      rw [he.i 38 (by decide), h38, nI_pred, tIx64, nI_1]
      exact ⟨vpI (by omega), nx _ (he.trans (tEq.sB _ _ (by decide))) (by rw [tB_i]; exact hb)⟩
  · have nf : fitS S mk (fun i => T4.2.2.2 33 (64 * h + i)) := by
      rcases hx with ⟨q, -⟩ | ⟨-, q⟩
      · exact q
      · exact absurd q e
    rw [hc]
    refine ⟨rfl, tEq.refl _ _, ⟨fun q => ⟨q, (fitS_congr (fun i hi => (hp q).2 i hi)).mp nf⟩, fun q => q.1⟩, by omega, h38, h39, fun q l hl => ?_⟩
    by_cases e : l = h
    · subst e; rw [up_self]; exact ⟨(hp q).2, (fitS_congr (fun i hi => (hp q).2 i hi)).mp nf⟩
    · rw [up_ne e]; exact (hp q).1 l (by omega)
def dlS (i : Nat) (n : Int64) : Nat → Int64 := fun k => if k = i then n else 0
theorem ct_lays {T0 : tS} {S : Nat} {mk : Nat → Nat → Nat} (hM : tMk T0 S mk) {h : Nat} {pl : Nat → Nat → Int64} (hP : tPl T0 S mk h pl) (hh : h < 40) {i : Nat} (hi : i < 2 ^ 31) (n : Int64) : tMv mX6_lays 3 (fun _ => [.int (nI i), .long n]) T0 (fun T' => tEq [33, 38, 39] T0 T' ∧ (T'.1 39 = 0 ↔ T0.1 39 = 0 ∧ fitS S mk (dlS i n)) ∧ tPl T' S mk (h + 1) (va_up pl h (dlS i n))) := by
  obtain ⟨s1, s60, h26, h31, hd⟩ := id hM
  obtain ⟨p1, p2, p3, p4⟩ := id hP
  refine en_lays _ _ T0 _ (fun c hc => s_lays_0 c _ _ T0 ?_)
  refine loopUp (N := S) (P := fun k => ∀ T, tEq [33] T0 T → (∀ j, j < k → T.2.2.2 33 (64 * h + j) = dlS i n j) → (∀ j, j < 64 * h → T.2.2.2 33 j = T0.2.2.2 33 j) → h_lays_3 c (nI i) n (nI k) T) ?_ ?_ 0 (Nat.zero_le _) T0 (tEq.refl _ _) (fun j hj => absurd hj (Nat.not_lt_zero _)) (fun j hj => rfl)
  · intro T he hr hlow
    refine s_lays_3 c _ _ _ T ⟨fun _ => ?_, fun e => absurd (by rw [he.i 26 (by decide), h26]; exact Int32.le_refl _) e⟩
    rw [he.i 38 (by decide), p2, nI_1]
    have e1 : tEq [33, 38] T0 (tI T 38 (nI (h + 1))) := (he.mono (by decide)).trans (tEq.sI _ _ (by decide))
    refine ⟨_, ct_looks (hM.same e1 (by decide) (by decide)) (pl := pl) (r := dlS i n) hh tI_is (by rw [e1.i 39 (by decide)]; exact p3) (fun q => ?_), ?_⟩
    · rw [e1.i 39 (by decide)] at q
      refine ⟨fun l hl => ⟨fun j hj => ?_, (p4 q l hl).2⟩, fun j hj => hr j hj⟩
      rw [← (p4 q l hl).1 j hj]
      exact hlow _ (by omega)
    · rintro T5 ⟨q1, q2, q3⟩
      rw [hc]
      exact ⟨rfl, (e1.mono (by decide)).trans (q1.mono (by decide)), by rw [q2, e1.i 39 (by decide)], q3⟩
  · intro k hk nx T he hr hlow
    have fin : ∀ v, v = dlS i n k → h_lays_3 c (nI i) n (nI (k + 1)) (tB T 33 (va_up (T.2.2.2 33) (64 * h + k) v)) := by
      intro v hv
      refine nx _ (he.trans (tEq.sB _ _ (by decide))) (fun j hj => ?_) (fun j hj => ?_)
      · rw [tB_bs]
        by_cases e : j = k
        · subst e; rw [up_self, hv]
        · rw [up_ne (by omega)]; exact hr j (by omega)
      · rw [tB_bs, up_ne (by omega)]; exact hlow j hj
    refine s_lays_3 c _ _ _ T ⟨fun e => absurd e (by rw [he.i 26 (by decide), h26]; exact nI_ge hk (by omega)), fun _ => ?_⟩
    rw [he.i 38 (by decide), p2, tIx64, nI_1, nI_clamp (show 64 * h + k < 2 ^ 31 by omega), x_inj (by omega) (by omega)]
    exact ⟨fun e => ⟨vpI (by omega), fin 0 (by unfold dlS; rw [if_neg e])⟩, fun e => ⟨vpI (by omega), fin n (by unfold dlS; rw [if_pos e])⟩⟩
theorem ct_adds {T0 : tS} {S : Nat} {mk : Nat → Nat → Nat} (hM : tMk T0 S mk) {h : Nat} {pl : Nat → Nat → Int64} (hP : tPl T0 S mk (h + 2) pl) (g : Int32) : tMv mX6_adds 3 (fun _ => [.int g]) T0 (fun T' => tEq [33, 38, 39] T0 T' ∧ (T'.1 39 = 0 ↔ T0.1 39 = 0 ∧ fitS S mk (fun k => pl h k + g.toInt64 * pl (h + 1) k)) ∧ tPl T' S mk (h + 1) (va_up pl h (fun k => pl h k + g.toInt64 * pl (h + 1) k))) := by
  obtain ⟨s1, s60, h26, h31, hd⟩ := id hM
  obtain ⟨p1, p2, p3, p4⟩ := id hP
  refine en_adds _ T0 _ (fun c hc => s_adds_0 c _ T0 ?_)
  refine loopUp (N := S) (P := fun k => ∀ T, tEq [33] T0 T → (T0.1 39 = 0 → ∀ j, j < k → T.2.2.2 33 (64 * h + j) = pl h j + g.toInt64 * pl (h + 1) j) → (∀ j, j < 64 * h ∨ 64 * h + k ≤ j → T.2.2.2 33 j = T0.2.2.2 33 j) → h_adds_2 c g (nI k) T) ?_ ?_ 0 (Nat.zero_le _) T0 (tEq.refl _ _) (fun _ j hj => absurd hj (Nat.not_lt_zero _)) (fun j hj => rfl)
  · intro T he hr hlow
    refine s_adds_2 c _ _ T ⟨fun _ => ?_, fun e => absurd (by rw [he.i 26 (by decide), h26]; exact Int32.le_refl _) e⟩
    rw [he.i 38 (by decide), p2, nI_pred]
    have e1 : tEq [33, 38] T0 (tI T 38 (nI (h + 1))) := (he.mono (by decide)).trans (tEq.sI _ _ (by decide))
    refine ⟨_, ct_looks (hM.same e1 (by decide) (by decide)) (pl := pl) (r := fun k => pl h k + g.toInt64 * pl (h + 1) k) (by omega) tI_is (by rw [e1.i 39 (by decide)]; exact p3) (fun q => ?_), ?_⟩
    · rw [e1.i 39 (by decide)] at q
      refine ⟨fun l hl => ⟨fun j hj => ?_, (p4 q l (by omega)).2⟩, fun j hj => hr q j hj⟩
      rw [← (p4 q l (by omega)).1 j hj]
      exact hlow _ (by omega)
    · rintro T5 ⟨q1, q2, q3⟩
      rw [hc]
      exact ⟨rfl, (e1.mono (by decide)).trans (q1.mono (by decide)), by rw [q2, e1.i 39 (by decide)], q3⟩
  · intro k hk nx T he hr hlow
    refine s_adds_2 c _ _ T ⟨fun e => absurd e (by rw [he.i 26 (by decide), h26]; exact nI_ge hk (by omega)), fun _ => ?_⟩
    rw [he.i 38 (by decide), p2, nI_pred, show (2 : Int32) = nI 2 from rfl, pk_sub (by omega), show h + 2 - 2 = h by omega, tIx64, tIx64, nI_1, nI_clamp (show 64 * h + k < 2 ^ 31 by omega), nI_clamp (show 64 * (h + 1) + k < 2 ^ 31 by omega)]
    refine ⟨vpI (by omega), vpI (by omega), vpI (by omega), nx _ (he.trans (tEq.sB _ _ (by decide))) (fun q j hj => ?_) (fun j hj => ?_)⟩
    · rw [tB_bs]
      by_cases e : j = k
      · subst e
        rw [up_self, hlow (64 * h + j) (by omega), hlow (64 * (h + 1) + j) (by omega), (p4 q h (by omega)).1 j hk, (p4 q (h + 1) (by omega)).1 j hk]
      · rw [up_ne (by omega)]; exact hr q j (by omega)
    · rw [tB_bs, up_ne (by omega)]; exact hlow j (by omega)
theorem ct_timesTwo {T0 : tS} {S : Nat} {mk : Nat → Nat → Nat} (hM : tMk T0 S mk) {h : Nat} {pl : Nat → Nat → Int64} (hP : tPl T0 S mk (h + 2) pl) : tMv mX6_timesTwo 3 (fun _ => []) T0 (fun T' => tEq [33, 34, 35, 38, 39] T0 T' ∧ (T'.1 39 = 0 ↔ T0.1 39 = 0 ∧ mulOk S (mkAt S mk (pl h)) (mkAt S mk (pl (h + 1))) ∧ fitS S mk (slv S mk (fun j => mkAt S mk (pl h) j * mkAt S mk (pl (h + 1)) j))) ∧ tPl T' S mk (h + 1) (va_up pl h (slv S mk (fun j => mkAt S mk (pl h) j * mkAt S mk (pl (h + 1)) j)))) := by
  obtain ⟨s1, s60, h26, h31, hd⟩ := id hM
  obtain ⟨p1, p2, p3, p4⟩ := id hP
  refine en_timesTwo T0 _ (fun c hc => s_timesTwo_0 c T0 ?_)
  rw [p2, show (2 : Int32) = nI 2 from rfl, pk_sub (by omega), show h + 2 - 2 = h by omega]
  refine ⟨_, ct_marksOf hM (l := h) (ft := 34) (by omega) (by decide) (by decide) (by decide) (show S ≤ 64 by omega), ?_⟩
  rintro T4 ⟨e4, m4⟩
  rw [e4.i 38 (by decide), p2, nI_pred]
  refine ⟨_, ct_marksOf (hM.same e4 (by decide) (by decide)) (l := h + 1) (ft := 35) (by omega) (by decide) (by decide) (by decide) (show S ≤ 64 by omega), ?_⟩
  rintro T10 ⟨e10, m10⟩
  have e01 : tEq [34, 35] T0 T10 := (e4.mono (by decide)).trans (e10.mono (by decide))
  refine ⟨_, ct_multiplies (S := S) (a := mkAt S mk (pl h)) (b := mkAt S mk (pl (h + 1))) (by rw [e01.i 26 (by decide)]; exact h26) s60 (by rw [e01.i 39 (by decide)]; exact p3) (fun q => ?_), ?_⟩
  · rw [e01.i 39 (by decide)] at q
    obtain ⟨f1, f2⟩ := p4 q h (by omega)
    obtain ⟨f3, f4⟩ := p4 q (h + 1) (by omega)
    refine ⟨fun j hj => ?_, fun j hj => ?_, fun j hj => ⟨f2.2 j hj, f4.2 j hj⟩⟩
    · rw [e10.b 34 (by decide), m4 j hj]
      exact mkAt_congr (fun i hi => f1 i hi)
    · rw [m10 j hj]
      exact mkAt_congr (fun i hi => by rw [e4.b 33 (by decide)]; exact f3 i hi)
  · rintro T16 ⟨e16, g1, g2, g3⟩
    have e02 : tEq [34, 35, 39] T0 T16 := (e01.mono (by decide)).trans (e16.mono (by decide))
    rw [e02.i 38 (by decide), p2, nI_pred, nI_pred, tIm64]
    have e03 : tEq [34, 35, 38, 39] T0 (tI T16 38 (nI (h + 1))) := (e02.mono (by decide)).trans (tEq.sI _ _ (by decide))
    refine ⟨_, ct_numbers (hM.same e03 (by decide) (by decide)) (fa := 34) (ft := 33) (o := 64 * h) (a := T16.2.2.2 34) (by decide) (by decide) (by decide) (by decide) (by decide) (show S ≤ 64 by omega) (show 64 * h + S ≤ 2560 by omega) (fun j hj => by rw [Nat.zero_add]; rfl), ?_⟩
    rintro T22 ⟨n1, n2, n3⟩
    have e04 : tEq [33, 34, 35, 38, 39] T0 T22 := (e03.mono (by decide)).trans (n2.mono (by decide))
    have h39 : T22.1 39 = T16.1 39 := by rw [n2.i 39 (by decide), tI_in (by decide)]
    refine ⟨_, ct_looks (hM.same e04 (by decide) (by decide)) (h := h) (pl := pl) (r := slv S mk (fun j => mkAt S mk (pl h) j * mkAt S mk (pl (h + 1)) j)) (by omega) (by rw [n2.i 38 (by decide), tI_is]) (by rw [h39]; exact g1) (fun q => ?_), ?_⟩
    · rw [h39] at q
      have q0 : T0.1 39 = 0 := by have := (g2.mp q).1; rw [e01.i 39 (by decide)] at this; exact this
      refine ⟨fun l hl => ⟨fun j hj => ?_, (p4 q0 l (by omega)).2⟩, fun j hj => ?_⟩
      · rw [n3 _ (by omega), tI_l, e02.b 33 (by decide), (p4 q0 l (by omega)).1 j hj]
      · rw [n1 j hj]
        exact slv_congr (fun i hi => by have := g3 q i hi; rw [Nat.zero_add] at this; exact this) hj
    · rintro T28 ⟨q1, q2, q3⟩
      rw [hc]
      refine ⟨rfl, (e04.mono (by decide)).trans (q1.mono (by decide)), ?_, q3⟩
      rw [q2, h39, g2, e01.i 39 (by decide), and_assoc]
