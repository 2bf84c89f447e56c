/-! the twin answers: congruences; characters -/
theorem ft_in {T : tS} {n : Nat} {mul : Nat → Nat → Nat} {inv : Nat → Nat} {L F : List Nat} (h : tGrp T n mul inv L F) {s : Nat} (hs : sg n mul s) : F.idxOf (ft n mul inv s) < F.length := by
  obtain ⟨g1, g2, rfl, rfl, -⟩ := h
  exact idx_lt (fstL_mem.mpr ⟨subsL_all g1.1 g2 (ft_sg g1.1 hs), ft_ft g1.1 hs.1⟩)
noncomputable def mdR (n : Nat) (mul : Nat → Nat → Nat) (inv : Nat → Nat) (F : List Nat) (s : Nat) : Nat → List Nat
  | 0 => []
  | x + 1 => if (nmB n mul inv s).testBit x = true ∧ lo_ n mul s x = x then mdR n mul inv F s x ++ [F.idxOf (ft n mul inv (cl n mul (s ||| 2 ^ x)))] else mdR n mul inv F s x
noncomputable def mdL (n : Nat) (mul : Nat → Nat → Nat) (inv : Nat → Nat) (F : List Nat) (j : Nat) : List Nat := mdR n mul inv F (F.getD j 0) n
theorem mdR_t {n : Nat} {mul : Nat → Nat → Nat} {inv : Nat → Nat} {F : List Nat} {s x : Nat} (h : (nmB n mul inv s).testBit x = true ∧ lo_ n mul s x = x) : mdR n mul inv F s (x + 1) = mdR n mul inv F s x ++ [F.idxOf (ft n mul inv (cl n mul (s ||| 2 ^ x)))] := if_pos h
theorem mdR_f {n : Nat} {mul : Nat → Nat → Nat} {inv : Nat → Nat} {F : List Nat} {s x : Nat} (h : ¬ ((nmB n mul inv s).testBit x = true ∧ lo_ n mul s x = x)) : mdR n mul inv F s (x + 1) = mdR n mul inv F s x := if_neg h
theorem mdR_len {n : Nat} {mul : Nat → Nat → Nat} {inv : Nat → Nat} {F : List Nat} {s : Nat} : ∀ x, (mdR n mul inv F s x).length ≤ x := by
  intro x
  induction x with
  | zero => exact Nat.le_refl _
  | succ x ih =>
    by_cases q : (nmB n mul inv s).testBit x = true ∧ lo_ n mul s x = x
    · rw [mdR_t q]; simp; omega
    · rw [mdR_f q]; omega
theorem mdR_pos {n : Nat} {mul : Nat → Nat → Nat} {inv : Nat → Nat} {F : List Nat} (hG : isG n mul inv) {s : Nat} (hs : sg n mul s) : ∀ x, 1 ≤ x → 1 ≤ (mdR n mul inv F s x).length := by
  have h0 : (nmB n mul inv s).testBit 0 = true ∧ lo_ n mul s 0 = 0 := ⟨nmB_bit.mpr ⟨hG.1, tn_0 hG hs.1⟩, lo_in hG hs hG.1 hs.2.1⟩
  intro x
  induction x with
  | zero => intro h; omega
  | succ x ih =>
    intro _
    rcases Nat.eq_zero_or_pos x with q | q
    · subst q; rw [mdR_t h0]; exact Nat.le_refl _
    · have := ih q
      by_cases q : (nmB n mul inv s).testBit x = true ∧ lo_ n mul s x = x
      · rw [mdR_t q]; simp
      · rw [mdR_f q]; exact this
theorem mdR_in {n : Nat} {mul : Nat → Nat → Nat} {inv : Nat → Nat} {F : List Nat} {s B : Nat} (hB : ∀ x, x < n → F.idxOf (ft n mul inv (cl n mul (s ||| 2 ^ x))) < B) : ∀ x, x ≤ n → ∀ t, t ∈ mdR n mul inv F s x → t < B := by
  intro x
  induction x with
  | zero => intro _ t ht; exact absurd ht (List.not_mem_nil)
  | succ x ih =>
    intro hx t ht
    by_cases q : (nmB n mul inv s).testBit x = true ∧ lo_ n mul s x = x
    · rw [mdR_t q, List.mem_append, List.mem_singleton] at ht
      rcases ht with ht | rfl
      · exact ih (by omega) t ht
      · exact hB x (by omega)
    · rw [mdR_f q] at ht; exact ih (by omega) t ht
theorem tGrp_md {T : tS} {n : Nat} {mul : Nat → Nat → Nat} {inv : Nat → Nat} {L F : List Nat} (h : tGrp T n mul inv L F) {j : Nat} (hj : j < F.length) : 1 ≤ (mdL n mul inv F j).length ∧ (mdL n mul inv F j).length ≤ 24 ∧ ∀ t, t ∈ mdL n mul inv F j → t < F.length := by
  have h1 := h.1
  have hs := tGrp_sg h hj
  exact ⟨mdR_pos h1.1 hs n h1.1.1, Nat.le_trans (mdR_len n) h1.2.1, mdR_in (fun x hx => ft_in h (sg_cl h1.1 (or_lt hs.1 (pow_lt hx)))) n (Nat.le_refl _)⟩
theorem tLi.push {S : List Nat} {T T' : tS} {fl fa : Nat} {L : List Nat} (h : tLi T fl fa L) {s : Nat} (hne : fl ≠ fa) (hT : T' = tI (tA T fa (va_up (T.2.2.1 fa) L.length (nI s))) fl (nI (L.length + 1))) : tLi T' fl fa (L ++ [s]) := by
  subst hT
  refine ⟨by rw [tI_is]; simp, fun i hi => ?_⟩
  show (tA T fa (va_up (T.2.2.1 fa) L.length (nI s))).2.2.1 fa i = _
  rw [tA_as]
  simp only [List.length_append, List.length_singleton] at hi
  by_cases e : i = L.length
  · subst e
    rw [up_self, List.getD_eq_getElem?_getD, List.getElem?_append_right (Nat.le_refl _), Nat.sub_self]
    rfl
  · rw [up_ne e, h.2 i (by omega), gD_app (by omega)]
theorem tGrp.same {S : List Nat} {T T' : tS} {n : Nat} {mul : Nat → Nat → Nat} {inv : Nat → Nat} {L F : List Nat} (h : tGrp T n mul inv L F) (e : tEq S T T') (hs : ∀ f, f ∈ S → ¬ (20 ≤ f ∧ f ≤ 32)) : tGrp T' n mul inv L F := by
  have n : ∀ f, 20 ≤ f → f ≤ 32 → f ∉ S := fun f h1 h2 q => hs f q ⟨h1, h2⟩
  obtain ⟨b1, b2, b3, b4, b5, b6, b7, b8, b9, b10⟩ := h
  refine ⟨b1.same e (n 20 (by omega) (by omega)) (n 23 (by omega) (by omega)) (n 24 (by omega) (by omega)), b2, b3, b4, b5.same e (n 25 (by omega) (by omega)) (n 27 (by omega) (by omega)), b6.same e (n 26 (by omega) (by omega)) (n 29 (by omega) (by omega)), fun k hk => ?_, fun i hi => ?_, fun i x hi hx => ?_, fun i j hi hj => ?_⟩
  · rw [e.a 28 (n 28 (by omega) (by omega))]; exact b7 k hk
  · rw [e.a 30 (n 30 (by omega) (by omega))]; exact b8 i hi
  · rw [e.a 32 (n 32 (by omega) (by omega))]; exact b9 i x hi hx
  · rw [e.a 31 (n 31 (by omega) (by omega))]; exact b10 i j hi hj
theorem ct_laysMade {T0 : tS} {n : Nat} {mul : Nat → Nat → Nat} {inv : Nat → Nat} {L F : List Nat} (h : tGrp T0 n mul inv L F) (hF : F.length ≤ 60) {j : Nat} (hj : j < F.length) : tMv mX6_laysMade 3 (fun _ => [.int (nI j)]) T0 (fun T' => tEq [54, 55] T0 T' ∧ tLi T' 55 54 (mdL n mul inv F j)) := by
  have g6 := h.2.2.2.2.2.1
  have h1 := h.1
  obtain ⟨hG, hn, h20, hmul, hinv⟩ := id h1
  have hs := tGrp_sg h hj
  have e29 : T0.2.2.1 29 (nI j).toNatClampNeg = nI (F.getD j 0) := by rw [nI_clamp (by omega)]; exact g6.2 j hj
  refine en_laysMade _ T0 _ (fun c hc => s_laysMade_0 c _ T0 ⟨vpI (by omega), ?_⟩)
  rw [e29]
  unfold mdL at hc
  generalize F.getD j 0 = s at hs e29 hc
  refine ⟨_, ct_normOf h1 hs.1, ?_⟩
  rintro r T5 ⟨rfl, rfl⟩
  refine loopUp (N := n) (P := fun x => ∀ T, tEq [54, 55] T5 T → tLi T 55 54 (mdR n mul inv F s x) → h_laysMade_21 c (nI s) (nI (nmB n mul inv s)) (nI x) T) ?_ ?_ 0 (Nat.zero_le _) _ (tEq.sI _ _ (by decide)) ⟨by rw [tI_is]; rfl, fun i hi => absurd hi (Nat.not_lt_zero _)⟩
  · intro T e hl
    refine s_laysMade_21 c _ _ _ T ⟨fun _ => ?_, fun q => absurd (by rw [e.i 20 (by decide), h20]; exact Int32.le_refl _) q⟩
    rw [hc]
    exact ⟨rfl, e, hl⟩
  · intro x hx nx T e hl
    have hT := h.same e (by decide)
    have hT1 := hT.1
    have no : ¬ ((nmB n mul inv s).testBit x = true ∧ lo_ n mul s x = x) → h_laysMade_87 c (nI s) (nI (nmB n mul inv s)) (nI x) T := fun q => s_laysMade_87 c _ _ _ T (by
      rw [nI_1]
      refine nx T e ?_
      rw [mdR_f q]
      exact hl)
    have lx := lo_lt hG (s := s) hx
    refine s_laysMade_21 c _ _ _ T ⟨fun q => absurd q (by rw [e.i 20 (by decide), h20]; exact nI_ge hx (by omega)), fun _ => ⟨fun q => no (fun z => ?_), fun q => ⟨_, ct_leastOf hT1 hs.1 hx, ?_⟩⟩⟩
    · rw [zI_0, bit31 nmB_lt hn hx] at q
      exact q z.1
    · rw [zI_n0, bit31 nmB_lt hn hx] at q
      rintro r T6 ⟨rfl, rfl⟩
      rw [x_inj (by omega) (by omega)]
      refine ⟨fun w => ?_, fun w => no (fun z => w z.2)⟩
      have hor := or_lt hs.1 (pow_lt hx)
      rw [x_orbit (by omega)]
      refine ⟨_, ct_closed hT1 hor, ?_⟩
      rintro r T13 ⟨rfl, rfl⟩
      refine ⟨_, ct_sortOfSet hT (sg_cl hG hor), ?_⟩
      rintro r T19 ⟨rfl, rfl⟩
      have hlen : (mdR n mul inv F s x).length ≤ x := mdR_len x
      rw [hl.1]
      refine ⟨vpI (by omega), s_laysMade_87 c _ _ _ _ ?_⟩
      rw [nI_clamp (by omega), show ∀ y, nI y + (1 : Int32) = nI (y + 1) from nI_1, nI_1]
      refine nx _ ((e.trans (tEq.sA _ _ (by decide))).trans (tEq.sI _ _ (by decide))) ?_
      rw [mdR_t ⟨q, w⟩]
      exact hl.push (S := []) (by decide) rfl
noncomputable def cgR (n : Nat) (mul : Nat → Nat → Nat) (inv : Nat → Nat) (F : List Nat) (v : Nat → Int64) (j : Nat) : Int64 := sumR (fun k => v ((mdL n mul inv F j).getD k 0)) (mdL n mul inv F j).length
theorem ct_congruenceOf {T0 : tS} {n : Nat} {mul : Nat → Nat → Nat} {inv : Nat → Nat} {L F : List Nat} (h : tGrp T0 n mul inv L F) (hF : F.length ≤ 60) {fa : Nat} (ha : fa < 66) (hk : tKd fa = 3) (hn : 60 ≤ tLn fa) {v : Nat → Int64} (hv : tSeg T0 fa 0 F.length v) (h54 : fa ≠ 54) (h55 : fa ≠ 55) {j : Nat} (hj : j < F.length) : tMl mX6_congruenceOf 4 (fun b => [.ref (tAd b fa), .int (nI j)]) T0 (fun r T' => r = cgR n mul inv F v j ∧ tEq [54, 55] T0 T' ∧ tLi T' 55 54 (mdL n mul inv F j)) := by
  obtain ⟨m1, m2, m3⟩ := tGrp_md h hj
  refine en_congruenceOf fa _ T0 _ (fun c hc => s_congruenceOf_0 c fa _ T0 ha hk ⟨_, ct_laysMade h hF hj, ?_⟩)
  rintro T4 ⟨e, hl⟩
  refine loopUp (N := (mdL n mul inv F j).length) (P := fun k => h_congruenceOf_10 c fa (sumR (fun k => v ((mdL n mul inv F j).getD k 0)) k) (nI k) T4) ?_ ?_ 0 (Nat.zero_le _)
  · refine s_congruenceOf_10 c fa _ _ T4 ha hk ⟨fun _ => ?_, fun q => absurd (by rw [hl.1]; exact Int32.le_refl _) q⟩
    rw [hc]
    exact ⟨_, rfl, rfl, e, hl⟩
  · intro k hk' nx
    have hm := m3 _ (gD_mem hk')
    refine s_congruenceOf_10 c fa _ _ T4 ha hk ⟨fun q => absurd q (by rw [hl.1]; exact nI_ge hk' (by omega)), fun _ => ⟨vpI (by omega), ?_⟩⟩
    rw [nI_clamp (show k < 2 ^ 31 by omega), hl.2 k hk', nI_clamp (show (mdL n mul inv F j).getD k 0 < 2 ^ 31 by omega), e.b fa (by simp [h54, h55])]
    have hv' := hv _ hm
    rw [Nat.zero_add] at hv'
    rw [hv', nI_1]
    exact ⟨vp_in_nI (by omega) (by have := tLn_lt fa ha; omega), nx⟩
theorem ct_laysMarks {T0 : tS} {S : Nat} {mk : Nat → Nat → Nat} (h : tMk T0 S mk) {v : Nat → Int64} (hv : tSeg T0 36 0 S v) : tMv mX6_laysMarks 1 (fun _ => []) T0 (fun T' => tEq [37] T0 T' ∧ tSeg T' 37 0 S (mkAt S mk v)) := by
  obtain ⟨s1, s60, h26, h31, hd⟩ := id h
  refine en_laysMarks T0 _ (fun c hc => s_laysMarks_0 c T0 ?_)
  refine loopUp (N := S) (P := fun k => ∀ T, tEq [37] T0 T → tSeg T 37 0 k (mkAt S mk v) → h_laysMarks_2 c (nI k) T) ?_ ?_ 0 (Nat.zero_le _) T0 (tEq.refl _ _) (fun t ht => absurd ht (Nat.not_lt_zero _))
  · intro T e hs
    refine s_laysMarks_2 c _ T ⟨fun _ => ?_, fun q => absurd (by rw [e.i 26 (by decide), h26]; exact Int32.le_refl _) q⟩
    rw [hc]
    exact ⟨rfl, e, hs⟩
  · intro k hk nx T e hs
    refine s_laysMarks_2 c _ T ⟨fun q => absurd q (by rw [e.i 26 (by decide), h26]; exact nI_ge hk (by omega)), fun _ => ?_⟩
    refine ⟨_, ct_markAt (h.same e (by decide) (by decide)) (fa := 36) (o := 0) (by decide) (by decide) (show 0 + S ≤ 64 by omega) hk, ?_⟩
    rintro r T5 ⟨rfl, rfl⟩
    rw [nI_clamp (by omega), nI_1]
    refine ⟨vpI (by omega), nx _ (e.trans (tEq.sB _ _ (by decide))) (fun t ht => ?_)⟩
    rw [tB_bs]
    by_cases q : t = k
    · subst q
      rw [Nat.zero_add, up_self, e.b 36 (by decide)]
      exact mkAt_congr (fun i hi => hv i hi)
    · rw [up_ne (by omega)]; exact hs t (by omega)
theorem ct_congruence {T0 : tS} {n : Nat} {mul : Nat → Nat → Nat} {inv : Nat → Nat} {L F : List Nat} (h : tGrp T0 n mul inv L F) {mk : Nat → Nat → Nat} (hM : tMk T0 F.length mk) {v : Nat → Int64} (hv : tSeg T0 36 0 F.length v) (a : Int32) : tMl mX6_congruence 5 (fun _ => [.int a]) T0 (fun r T' => ((∃ j, j < F.length ∧ a = nI j ∧ r = cgR n mul inv F (mkAt F.length mk v) j / kL (mdL n mul inv F j).length) ∨ (¬ (∃ j, j < F.length ∧ a = nI j) ∧ r = -9223372036854775808)) ∧ tEq [37, 54, 55] T0 T') := by
  obtain ⟨s1, s60, h26, h31, hd⟩ := id hM
  refine en_congruence _ T0 _ (fun c hc => s_congruence_0 c _ T0 ?_)
  rw [h26]
  refine ⟨fun e => ?_, fun e => ?_⟩
  · rw [zI_n0, zRng (by omega)] at e
    obtain ⟨j, hj, rfl⟩ := e
    obtain ⟨m1, m2, m3⟩ := tGrp_md h hj
    refine ⟨_, ct_laysMarks hM hv, ?_⟩
    rintro T9 ⟨e9, s9⟩
    refine ⟨_, ct_congruenceOf (h.same e9 (by decide)) s60 (fa := 37) (by decide) (by decide) (by decide) s9 (by decide) (by decide) hj, ?_⟩
    rintro r T15 ⟨rfl, e15, hl⟩
    rw [hl.1, hc]
    exact ⟨kL_n0 m1 (by omega), _, rfl, Or.inl ⟨j, hj, rfl, rfl⟩, (e9.mono (by decide)).trans (e15.mono (by decide))⟩
  · rw [zI_0, zRng (by omega)] at e
    rw [hc]
    exact ⟨_, rfl, Or.inr ⟨e, rfl⟩, tEq.refl _ _⟩
theorem ct_character {T0 : tS} {n : Nat} {mul : Nat → Nat → Nat} {inv : Nat → Nat} {L F : List Nat} (h : tGrp T0 n mul inv L F) {mk : Nat → Nat → Nat} (hM : tMk T0 F.length mk) {v : Nat → Int64} (hv : tSeg T0 36 0 F.length v) (a : Int32) : tMl mX6_character 2 (fun _ => [.int a]) T0 (fun r T' => ((∃ m, m < n ∧ a = nI m ∧ r = mkAt F.length mk v (F.idxOf (ft n mul inv (cl n mul (2 ^ m))))) ∨ (¬ (∃ m, m < n ∧ a = nI m) ∧ r = -9223372036854775808)) ∧ T' = T0) := by
  have h1 := h.1
  have hn := h1.2.1
  obtain ⟨s1, s60, h26, h31, hd⟩ := id hM
  refine en_character _ T0 _ (fun c hc => s_character_0 c _ T0 ?_)
  rw [h1.2.2.1]
  refine ⟨fun e => ?_, fun e => ?_⟩
  · rw [zI_0, zRng (by omega)] at e
    rw [hc]
    exact ⟨_, rfl, Or.inr ⟨e, rfl⟩, rfl⟩
  · rw [zI_n0, zRng (by omega)] at e
    obtain ⟨m, hm, rfl⟩ := e
    have hs := sg_cl h1.1 (pow_lt hm)
    rw [x_shl1 (by omega)]
    refine ⟨_, ct_closed h1 (pow_lt hm), ?_⟩
    rintro r T9 ⟨rfl, rfl⟩
    refine ⟨_, ct_sortOfSet h hs, ?_⟩
    rintro r T15 ⟨rfl, rfl⟩
    refine ⟨_, ct_markAt hM (fa := 36) (o := 0) (by decide) (by decide) (show 0 + F.length ≤ 64 by omega) (ft_in h hs), ?_⟩
    rintro r T21 ⟨rfl, rfl⟩
    rw [hc]
    exact ⟨_, rfl, Or.inl ⟨m, hm, rfl, mkAt_congr (fun i hi => hv i hi)⟩, rfl⟩
