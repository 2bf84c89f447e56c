/-! the twin answers: peaks -/
theorem ct_sumWith {T0 : tS} {a b : Int64} {c1 c2 : Int} {D : Nat} (hD1 : 1 ≤ D) (hD : D ≤ 24) (h : isQ (T0.2.1 52) (T0.2.1 53) c1 D) (hb : 0 < b.toInt) (hb2 : b.toInt ≤ 24) (e : a.toInt * D = c2 * b.toInt) (m1 : c1.natAbs ≤ 10000000000000000) (m2 : a.toInt.natAbs ≤ 10000000000000000) : tMv mX6_sumWith 1 (fun _ => [.long a, .long b]) T0 (fun T' => tEq [52, 53] T0 T' ∧ isQ (T'.2.1 52) (T'.2.1 53) (c1 + c2) D) := by
  obtain ⟨g, q⟩ := sum_ok hD1 hD h hb hb2 e m1 m2
  refine en_sumWith _ _ T0 _ (fun c hc => s_sumWith_0 c _ _ T0 ⟨g, g, ?_⟩)
  rw [hc]
  refine ⟨rfl, (tEq.sL _ _ (by decide)).trans (tEq.sL _ _ (by decide)), ?_⟩
  rw [tL_ls, tL_ln (by decide), tL_ls]
  exact q
theorem iSum_le {f : Nat → Int} {B : Nat} : ∀ n, (∀ i, i < n → (f i).natAbs ≤ B) → (iSum f n).natAbs ≤ n * B := by
  intro n
  induction n with
  | zero => intro _; exact Nat.zero_le _
  | succ n ih =>
    intro h
    have h1 := ih (fun i hi => h i (by omega))
    have h2 := h n (by omega)
    rw [Nat.succ_mul]
    show (iSum f n + f n).natAbs ≤ _
    omega
theorem isQ_0 {D : Nat} : isQ 0 1 0 D := ⟨by decide, by rw [show (0 : Int64).toInt = 0 from by decide, Int.zero_mul, Int.zero_mul], by decide⟩
theorem isQ_1 {D : Nat} : isQ 1 1 (D : Int) D := ⟨by decide, by rw [show (1 : Int64).toInt = 1 from by decide, Int.one_mul, Int.mul_one], by decide⟩
theorem ct_peaks {T0 : tS} {S D : Nat} {mk : Nat → Nat → Nat} {C : Nat → Nat → Int} (hM : tMk T0 S mk) (hP : pkOk S mk D C) {j : Nat} (hj : j < S) : tMv mX6_peaks 2 (fun _ => [.int (nI j)]) T0 (fun T' => tEq [50, 51, 52, 53] T0 T' ∧ ∀ k, k < S → isQ (T'.2.2.2 50 k) (T'.2.2.2 51 k) (C j k) D) := by
  obtain ⟨s1, s60, h26, h31, hd⟩ := id hM
  obtain ⟨D1, D24, mk24, hP⟩ := hP
  obtain ⟨Cb, Ce⟩ := hP j hj
  refine en_peaks _ T0 _ (fun c hc => s_peaks_0 c _ T0 ?_)
  rw [h26]
  have key : ∀ r, r ≤ S → ∀ T, tEq [50, 51, 52, 53] T0 T → (∀ k, r ≤ k → k < S → isQ (T.2.2.2 50 k) (T.2.2.2 51 k) (C j k) D) → h_peaks_7 c (nI j) (nI r - 1) T := by
    intro r
    induction r with
    | zero =>
      intro _ T e hq
      refine s_peaks_7 c _ _ T ⟨fun _ => ?_, fun q => absurd (by decide) q⟩
      rw [hc]
      exact ⟨rfl, e, fun k hk => hq k (Nat.zero_le _) hk⟩
    | succ r ih =>
      intro hr T e hq
      rw [nI_pred]
      have inner : ∀ v : Int64, isQ v 1 (if r = j then (D : Int) else 0) D → h_peaks_38 c (nI j) (nI r) (nI r + 1) (tL (tL T 52 v) 53 1) := by
        intro v hv
        have e1 : tEq [50, 51, 52, 53] T0 (tL (tL T 52 v) 53 1) := (e.trans (tEq.sL _ _ (by decide))).trans (tEq.sL _ _ (by decide))
        have b1 : isQ ((tL (tL T 52 v) 53 1).2.1 52) ((tL (tL T 52 v) 53 1).2.1 53) (if r = j then (D : Int) else 0) D := by
          rw [tL_ls, tL_ln (by decide), tL_ls]
          exact hv
        have start : tL (tL T 52 v) 53 1 = tL (tL T 52 v) 53 1 := rfl
        rw [nI_1]
        generalize hT1 : tL (tL T 52 v) 53 1 = T1 at e1 b1
        have hq1 : ∀ k, r + 1 ≤ k → k < S → isQ (T1.2.2.2 50 k) (T1.2.2.2 51 k) (C j k) D := by rw [← hT1]; exact hq
        have hdl : (if r = j then (D : Int) else 0).natAbs ≤ 24 := by split <;> omega
        generalize hdd : (if r = j then (D : Int) else 0) = dl at b1 hdl
        have fb : ∀ t, t < S - (r + 1) → (C j (r + 1 + t) * (mk (r + 1 + t) r : Int)).natAbs ≤ 4000000000000 * 24 := fun t ht => by
          rw [Int.natAbs_mul, Int.natAbs_natCast]
          exact Nat.mul_le_mul (Cb _ (by omega)) (mk24 _ _ (by omega) (by omega))
        have sb : ∀ t, t ≤ S - (r + 1) → (dl - iSum (fun t => C j (r + 1 + t) * (mk (r + 1 + t) r : Int)) t).natAbs ≤ 10000000000000000 := fun t ht => by
          have h1 := iSum_le (f := fun t => C j (r + 1 + t) * (mk (r + 1 + t) r : Int)) t (fun i hi => fb i (by omega))
          have h2 : t * (4000000000000 * 24) ≤ 60 * (4000000000000 * 24) := Nat.mul_le_mul_right _ (by omega)
          omega
        have loop := loopUp (N := S - (r + 1)) (P := fun t => ∀ T, tEq [50, 51, 52, 53] T0 T → (∀ k, r + 1 ≤ k → k < S → isQ (T.2.2.2 50 k) (T.2.2.2 51 k) (C j k) D) → isQ (T.2.1 52) (T.2.1 53) (dl - iSum (fun t => C j (r + 1 + t) * (mk (r + 1 + t) r : Int)) t) D → h_peaks_38 c (nI j) (nI r) (nI (r + 1 + t)) T) ?_ ?_ 0 (Nat.zero_le _) T1 e1 hq1 (by show isQ _ _ (dl - 0) D; rw [Int.sub_zero]; exact b1)
        · exact loop
        · intro T2 e2 hq2 b2
          have ec : dl - iSum (fun t => C j (r + 1 + t) * (mk (r + 1 + t) r : Int)) (S - (r + 1)) = C j r * mk r r := by
            have := Ce r (by omega)
            rw [hdd] at this
            omega
          have bd := sb _ (Nat.le_refl _)
          rw [ec] at b2 bd
          obtain ⟨d1, d2⟩ := hd r (by omega)
          have ek := kL_int (m := mk r r) (by omega)
          have q1 := isQ_a D1 b2
          have q2 := isQ_b D1 b2
          have q3 := b2.1
          have n3 : ((T2.2.1 53).toInt * (kL (mk r r)).toInt).natAbs ≤ 24 * 24 := by
            rw [Int.natAbs_mul]
            exact Nat.mul_le_mul (by omega) (by omega)
          have n4 : 0 < (T2.2.1 53).toInt * (kL (mk r r)).toInt := Int.mul_pos q3 (by omega)
          have e3 := i64_mulI (a := T2.2.1 53) (b := kL (mk r r)) (by omega)
          obtain ⟨lz, lq⟩ := lowest_ok (up := T2.2.1 52) (down := T2.2.1 53 * kL (mk r r)) (c := C j r) (D := D) (by omega) (by omega) (by omega) (by
            rw [b2.2.1, e3, ek, Int.mul_assoc, Int.mul_comm (T2.2.1 53).toInt])
          refine s_peaks_38 c _ _ _ T2 ⟨fun _ => ?_, fun q => absurd (by rw [e2.i 26 (by decide), h26, show r + 1 + (S - (r + 1)) = S by omega]; exact Int32.le_refl _) q⟩
          have e31 : T2.2.2.1 31 (64 * r + r) = nI (mk r r) := by rw [e2.a 31 (by decide)]; exact h31 r r (by omega) (by omega)
          have ekl : (nI (mk r r)).toInt64 = kL (mk r r) := rfl
          rw [tIx64, nI_clamp (show 64 * r + r < 2 ^ 31 by omega), e31, ekl, nI_clamp (show r < 2 ^ 31 by omega), show nI r + (-1) = nI r - 1 by rw [Int32.sub_eq_add_neg]]
          refine ⟨vpI (by omega), lz, vpI (by omega), lz, vpI (by omega), ih (by omega) _ ((e2.trans (tEq.sB _ _ (by decide))).trans (tEq.sB _ _ (by decide))) (fun k hk1 hk2 => ?_)⟩
          rw [tB_bn (x := 50) (f := 51) (by decide), tB_bs, tB_bs]
          by_cases z : k = r
          · subst z
            rw [up_self, up_self]
            exact lq
          · rw [up_ne z, up_ne z]
            exact hq2 k (by omega) hk2
        · intro t ht nx T2 e2 hq2 b2
          have hi : r + 1 + t < S := by omega
          have qi := hq2 (r + 1 + t) (by omega) hi
          have m24 := mk24 (r + 1 + t) r hi (by omega)
          have zero : C j (r + 1 + t) * (mk (r + 1 + t) r : Int) = 0 → h_peaks_101 c (nI j) (nI r) (nI (r + 1 + t)) T2 := fun z => s_peaks_101 c _ _ _ T2 (by
            rw [nI_1]
            refine nx T2 e2 hq2 ?_
            show isQ _ _ (dl - (iSum _ t + C j (r + 1 + t) * (mk (r + 1 + t) r : Int))) D
            rw [z, Int.add_zero]
            exact b2)
          refine s_peaks_38 c _ _ _ T2 ⟨fun q => absurd q (by rw [e2.i 26 (by decide), h26]; exact nI_ge hi (by omega)), fun _ => ?_⟩
          have e31 : T2.2.2.1 31 (64 * (r + 1 + t) + r) = nI (mk (r + 1 + t) r) := by rw [e2.a 31 (by decide)]; exact h31 _ r hi (by omega)
          rw [tIx64, nI_clamp (show 64 * (r + 1 + t) + r < 2 ^ 31 by omega), e31, nI_clamp (show r + 1 + t < 2 ^ 31 by omega), lg_cmp_eq]
          refine ⟨vpI (by omega), fun z => zero ?_, fun z => ⟨vpI (by omega), fun z2 => zero ?_, fun z2 => ⟨vpI (by omega), vpI (by omega), vpI (by omega), ?_⟩⟩⟩
          · have := qi.2.1
            rw [z, show (0 : Int64).toInt = 0 from by decide, Int.zero_mul] at this
            rcases Int.mul_eq_zero.mp this.symm with w | w
            · rw [w, Int.zero_mul]
            · exact absurd w (by have := qi.1; omega)
          · have : mk (r + 1 + t) r = 0 := (x_inj (b := 0) (by omega) (by omega)).mp z2
            rw [this]
            exact Int.mul_zero _
          · have ek := kL_int (m := mk (r + 1 + t) r) (by omega)
            have ekl : (nI (mk (r + 1 + t) r)).toInt64 = kL (mk (r + 1 + t) r) := rfl
            rw [ekl]
            have qa := isQ_a D1 qi
            have qb := isQ_b D1 qi
            have cb := Cb _ hi
            have en := i64_negI (a := T2.2.2.2 50 (r + 1 + t)) (by omega)
            have nb : ((-(T2.2.2.2 50 (r + 1 + t))).toInt * (kL (mk (r + 1 + t) r)).toInt).natAbs ≤ 4000000000000 * 24 := by
              rw [Int.natAbs_mul]
              exact Nat.mul_le_mul (by omega) (by omega)
            have em := i64_mulI (a := -(T2.2.2.2 50 (r + 1 + t))) (b := kL (mk (r + 1 + t) r)) (by omega)
            refine ⟨_, ct_sumWith (c2 := -(C j (r + 1 + t) * (mk (r + 1 + t) r : Int))) D1 D24 b2 qi.1 (by omega) ?_ (sb t (by omega)) (by omega), ?_⟩
            · rw [em, en, ek, Int.neg_mul, Int.neg_mul, Int.neg_mul, Int.mul_assoc, Int.mul_comm (mk (r + 1 + t) r : Int), ← Int.mul_assoc, qi.2.1, Int.mul_assoc, Int.mul_assoc, Int.mul_comm (mk (r + 1 + t) r : Int)]
            · rintro T17 ⟨e17, b17⟩
              refine s_peaks_101 c _ _ _ T17 ?_
              rw [nI_1]
              refine nx T17 (e2.trans (e17.mono (by decide))) (fun k hk1 hk2 => by rw [e17.b 50 (by decide), e17.b 51 (by decide)]; exact hq2 k hk1 hk2) ?_
              show isQ _ _ (dl - (iSum _ t + C j (r + 1 + t) * (mk (r + 1 + t) r : Int))) D
              rw [← Int.sub_sub]
              exact b17
      refine s_peaks_7 c _ _ T ⟨fun q => absurd q (nI_pos (by omega)), fun _ => ?_⟩
      rw [x_inj (by omega) (by omega)]
      refine ⟨fun q => ?_, fun q => ?_⟩
      · rw [zI_f (by decide)]
        exact inner 0 (by rw [if_neg q]; exact isQ_0)
      · rw [zI_t (by decide)]
        exact inner 1 (by rw [if_pos q]; exact isQ_1)
  exact key S (Nat.le_refl _) T0 (tEq.refl _ _) (fun k h1 h2 => by omega)
theorem zRngb {x : Int32} : ((0 : Int64) ≤ x.toInt64 ∧ x.toInt64 ≤ (1 : Int64)) ↔ ∃ k, k < 2 ∧ x = nI k := by
  have h := zRng (x := x) (N := 2) (by decide)
  have e : (nI 2 - 1).toInt64 = 1 := by decide
  rw [e] at h
  exact h
theorem ct_peak {T0 : tS} {S D : Nat} {mk : Nat → Nat → Nat} {C : Nat → Nat → Int} (hM : tMk T0 S mk) (hP : pkOk S mk D C) (a b d : Int32) : tMi mX6_peak 3 (fun _ => [.int a, .int b, .int d]) T0 (fun r T' => ((∃ j i w x y, j < S ∧ i < S ∧ w < 2 ∧ a = nI j ∧ b = nI i ∧ d = nI w ∧ isQ x y (C j i) D ∧ r = (if w = 0 then x else y).toInt32) ∨ (¬ (∃ j i w, j < S ∧ i < S ∧ w < 2 ∧ a = nI j ∧ b = nI i ∧ d = nI w) ∧ r = -1000000)) ∧ tEq [50, 51, 52, 53] T0 T') := by
  obtain ⟨s1, s60, h26, h31, hd⟩ := id hM
  refine en_peak _ _ _ T0 _ (fun c hc => s_peak_0 c _ _ _ T0 ?_)
  rw [h26]
  refine ⟨fun e => ?_, fun e => ⟨fun e2 => ?_, fun e2 => ⟨fun e3 => ?_, fun e3 => ?_⟩⟩⟩
  · rw [zI_0, zRng (by omega)] at e
    rw [hc]
    exact ⟨_, rfl, Or.inr ⟨fun ⟨i, j, k, hi, _, _, q, _⟩ => e ⟨i, hi, q⟩, rfl⟩, tEq.refl _ _⟩
  · rw [zI_0, zRng (by omega)] at e2
    rw [hc]
    exact ⟨_, rfl, Or.inr ⟨fun ⟨i, j, k, _, hj, _, _, q, _⟩ => e2 ⟨j, hj, q⟩, rfl⟩, tEq.refl _ _⟩
  · rw [zI_n0, zRng (by omega)] at e e2
    rw [zI_n0, zRngb] at e3
    obtain ⟨j, hj, rfl⟩ := e
    obtain ⟨i, hi, rfl⟩ := e2
    obtain ⟨w, hw, rfl⟩ := e3
    refine ⟨_, ct_peaks hM hP hj, ?_⟩
    rintro T15 ⟨e15, q15⟩
    rw [nI_clamp (by omega), show (0 : Int32) = nI 0 from rfl, x_inj (by omega) (by omega), hc]
    refine ⟨fun z => ⟨vpI (by omega), _, rfl, Or.inl ⟨j, i, w, _, _, hj, hi, hw, rfl, rfl, rfl, q15 i hi, by rw [if_neg z]⟩, e15⟩, fun z => ⟨vpI (by omega), _, rfl, Or.inl ⟨j, i, w, _, _, hj, hi, hw, rfl, rfl, rfl, q15 i hi, by rw [if_pos z]⟩, e15⟩⟩
  · rw [zI_0, zRngb] at e3
    rw [hc]
    exact ⟨_, rfl, Or.inr ⟨fun ⟨i, j, k, _, _, hk, _, _, q⟩ => e3 ⟨k, hk, q⟩, rfl⟩, tEq.refl _ _⟩
/-- numbers of a block's sum -/
def blkC (set : Nat) (C : Nat → Nat → Int) (i : Nat) : Nat → Int := iSum (fun k => if set.testBit k = true then C k i else 0)
theorem ct_local {T0 : tS} {n : Nat} {mul : Nat → Nat → Nat} {inv : Nat → Nat} {L F : List Nat} (h : tGrp T0 n mul inv L F) (hF : F.length ≤ 31) {D : Nat} {mk : Nat → Nat → Nat} {C : Nat → Nat → Int} (hM : tMk T0 F.length mk) (hP : pkOk F.length mk D C) (a b d f : Int32) : tMi mX6_local 4 (fun _ => [.int a, .int b, .int d, .int f]) T0 (fun r T' => ((∃ p j i w x y, (p = 2 ∨ p = 3 ∨ p = 5) ∧ j < F.length ∧ i < F.length ∧ w < 2 ∧ a = nI p ∧ b = nI j ∧ d = nI i ∧ f = nI w ∧ isQ x y (blkC (blkS n mul inv L F j p) C i F.length) D ∧ r = (if w = 0 then x else y).toInt32) ∨ (¬ (∃ p j i w, (p = 2 ∨ p = 3 ∨ p = 5) ∧ j < F.length ∧ i < F.length ∧ w < 2 ∧ a = nI p ∧ b = nI j ∧ d = nI i ∧ f = nI w) ∧ r = -1000000)) ∧ tEq [50, 51, 52, 53] T0 T') := by
  obtain ⟨s1, s60, h26, h31, hd⟩ := id hM
  refine en_local _ _ _ _ T0 _ (fun c hc => s_local_0 c _ _ _ _ T0 ?_)
  rw [h26]
  refine ⟨fun e => ?_, fun e => ⟨fun e2 => ?_, fun e2 => ⟨fun e3 => ?_, fun e3 => ⟨fun e4 => ?_, fun e4 => ?_⟩⟩⟩⟩
  · rw [zI_0, zPr] at e
    rw [hc]
    exact ⟨_, rfl, Or.inr ⟨fun ⟨p, j, i, w, hp, _, _, _, q, _⟩ => e ⟨p, hp, q⟩, rfl⟩, tEq.refl _ _⟩
  · rw [zI_0, zRng (by omega)] at e2
    rw [hc]
    exact ⟨_, rfl, Or.inr ⟨fun ⟨p, j, i, w, _, hj, _, _, _, q, _⟩ => e2 ⟨j, hj, q⟩, rfl⟩, tEq.refl _ _⟩
  · rw [zI_0, zRng (by omega)] at e3
    rw [hc]
    exact ⟨_, rfl, Or.inr ⟨fun ⟨p, j, i, w, _, _, hi, _, _, _, q, _⟩ => e3 ⟨i, hi, q⟩, rfl⟩, tEq.refl _ _⟩
  · rw [zI_n0, zPr] at e
    rw [zI_n0, zRng (by omega)] at e2 e3
    rw [zI_n0, zRngb] at e4
    obtain ⟨p, hp, rfl⟩ := e
    obtain ⟨j, hj, rfl⟩ := e2
    obtain ⟨i, hi, rfl⟩ := e3
    obtain ⟨w, hw, rfl⟩ := e4
    refine ⟨_, ct_blockOf h hF hj hp, ?_⟩
    rintro r T16 ⟨rfl, rfl⟩
    have hset : blkS n mul inv L F j p < 2 ^ 31 := lt_pow (imS_lt (n := F.length) fun x hx _ => hx) (by omega)
    generalize hse : blkS n mul inv L F j p = set at hset hc
    have bb : ∀ k, k ≤ F.length → (blkC set C i k).natAbs ≤ 10000000000000000 := fun k hk => by
      have h1 := iSum_le (f := fun k => if set.testBit k = true then C k i else 0) (B := 4000000000000) k (fun t ht => by
        show (if set.testBit t = true then C t i else 0).natAbs ≤ _
        split
        · exact (hP.2.2.2 t (by omega)).1 i hi
        · exact Nat.zero_le _)
      have h2 : k * 4000000000000 ≤ 31 * 4000000000000 := Nat.mul_le_mul_right _ (by omega)
      have h3 : (blkC set C i k).natAbs ≤ k * 4000000000000 := h1
      omega
    have key := loopUp (N := F.length) (P := fun k => ∀ T x y, tEq [50, 51, 52, 53] T16 T → isQ x y (blkC set C i k) D → h_local_55 c (nI i) (nI w) (nI set) x y (nI k) T) ?_ ?_ 0 (Nat.zero_le _) T16 0 1 (tEq.refl _ _) isQ_0
    · exact key
    · intro T x y e hq
      refine s_local_55 c _ _ _ _ _ _ T ⟨fun _ => ?_, fun q => absurd (by rw [e.i 26 (by decide), h26]; exact Int32.le_refl _) q⟩
      rw [show (0 : Int32) = nI 0 from rfl, x_inj (by omega) (by omega), hc]
      refine ⟨fun z => ⟨_, rfl, Or.inl ⟨p, j, i, w, x, y, hp, hj, hi, hw, rfl, rfl, rfl, rfl, by rw [hse]; exact hq, by rw [if_neg z]⟩, e⟩, fun z => ⟨_, rfl, Or.inl ⟨p, j, i, w, x, y, hp, hj, hi, hw, rfl, rfl, rfl, rfl, by rw [hse]; exact hq, by rw [if_pos z]⟩, e⟩⟩
    · intro k hk nx T x y e hq
      have es : blkC set C i (k + 1) = blkC set C i k + (if set.testBit k = true then C k i else 0) := rfl
      refine s_local_55 c _ _ _ _ _ _ T ⟨fun q => absurd q (by rw [e.i 26 (by decide), h26]; exact nI_ge hk (by omega)), fun _ => ⟨fun q => ?_, fun q => ?_⟩⟩
      · rw [zI_n0, x_bit hset (by omega)] at q
        rw [if_pos q] at es
        refine ⟨_, ct_peaks (hM.same e (by decide) (by decide)) hP hk, ?_⟩
        rintro T7 ⟨e7, q7⟩
        have qi := q7 i hi
        have qb := isQ_b hP.1 qi
        have qa := isQ_a hP.1 qi
        have cb := (hP.2.2.2 k hk).1 i hi
        have D24 := hP.2.1
        rw [nI_clamp (show i < 2 ^ 31 by omega)]
        have e2 : tEq [50, 51, 52, 53] T16 (tL (tL T7 52 x) 53 y) := ((e.trans e7).trans (tEq.sL _ _ (by decide))).trans (tEq.sL _ _ (by decide))
        have hq' : isQ ((tL (tL T7 52 x) 53 y).2.1 52) ((tL (tL T7 52 x) 53 y).2.1 53) (blkC set C i k) D := by
          rw [tL_ls, tL_ln (by decide), tL_ls]
          exact hq
        refine ⟨vpI (by omega), vpI (by omega), _, ct_sumWith hP.1 D24 hq' qi.1 (by omega) qi.2.1 (bb k (by omega)) (by omega), ?_⟩
        rintro T15 ⟨e15, q15⟩
        refine s_local_123 c _ _ _ _ _ _ T15 ?_
        rw [nI_1]
        exact nx T15 _ _ (e2.trans (e15.mono (by decide))) (by rw [es]; exact q15)
      · rw [zI_0, x_bit hset (by omega)] at q
        rw [if_neg q, Int.add_zero] at es
        refine s_local_123 c _ _ _ _ _ _ T ?_
        rw [nI_1]
        exact nx T x y e (by rw [es]; exact hq)
  · rw [zI_0, zRngb] at e4
    rw [hc]
    exact ⟨_, rfl, Or.inr ⟨fun ⟨p, j, i, w, _, _, _, hw, _, _, _, q⟩ => e4 ⟨w, hw, q⟩, rfl⟩, tEq.refl _ _⟩
