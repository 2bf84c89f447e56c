/-! the twin answers: mixed, moebius -/
noncomputable def bitS (n : Nat) (P : Nat → Prop) : Nat := imS (fun k => @decide (P k) (Classical.propDecidable _)) id n
theorem bitS_bit {n k : Nat} {P : Nat → Prop} : (bitS n P).testBit k = true ↔ k < n ∧ P k := by
  unfold bitS
  rw [imS_bit]
  constructor
  · rintro ⟨x, h1, h2, rfl⟩; exact ⟨h1, by simpa using h2⟩
  · rintro ⟨h1, h2⟩; exact ⟨k, h1, by simpa using h2, rfl⟩
theorem bitS_lt {n : Nat} {P : Nat → Prop} : bitS n P < 2 ^ n := imS_lt fun x hx _ => hx
/-- what x y makes in common: (-x) (-y) x y -/
def cmm (mul : Nat → Nat → Nat) (inv : Nat → Nat) (x y : Nat) : Nat := mul (mul (mul (inv x) (inv y)) x) y
noncomputable def mixS (n : Nat) (mul : Nat → Nat → Nat) (inv : Nat → Nat) (s : Nat) : Nat := bitS n (fun k => ∃ x y, x < n ∧ y < n ∧ s.testBit x = true ∧ s.testBit y = true ∧ cmm mul inv x y = k)
theorem cmm_lt {n : Nat} {mul : Nat → Nat → Nat} {inv : Nat → Nat} (hG : isG n mul inv) {x y : Nat} (hx : x < n) (hy : y < n) : cmm mul inv x y < n := hG.2.1 _ _ (hG.2.1 _ _ (hG.2.1 _ _ (hG.2.2.2.2 x hx).1 (hG.2.2.2.2 y hy).1) hx) hy
theorem ct_mixed {T0 : tS} {n : Nat} {mul : Nat → Nat → Nat} {inv : Nat → Nat} {L F : List Nat} (h : tGrp T0 n mul inv L F) (hF : F.length ≤ 60) (a : Int32) : tMi mX6_mixed 2 (fun _ => [.int a]) T0 (fun r T' => ((∃ i, i < F.length ∧ a = nI i ∧ r = nI (F.idxOf (ft n mul inv (cl n mul (mixS n mul inv (F.getD i 0)))))) ∨ (¬ (∃ i, i < F.length ∧ a = nI i) ∧ r = -1)) ∧ T' = T0) := by
  have g6 := h.2.2.2.2.2.1
  have h1 := h.1
  obtain ⟨hG, hn, h20, hmul, hinv⟩ := id h1
  refine en_mixed _ T0 _ (fun c hc => s_mixed_0 c _ T0 ?_)
  rw [g6.1]
  refine ⟨fun e => ?_, fun e => ?_⟩
  · rw [zI_n0, zRng (by omega)] at e
    obtain ⟨i, hi, rfl⟩ := e
    have hs := (tGrp_sg h hi).1
    have e29 : T0.2.2.1 29 (nI i).toNatClampNeg = nI (F.getD i 0) := by rw [nI_clamp (by omega)]; exact g6.2 i hi
    generalize hS : F.getD i 0 = s at hs e29
    refine loopUp (N := n) (P := fun x => ∀ u, (∀ k, u.testBit k = true ↔ ∃ z y, z < x ∧ y < n ∧ s.testBit z = true ∧ s.testBit y = true ∧ cmm mul inv z y = k) → h_mixed_14 c (nI i) (nI u) (nI x) T0) ?_ ?_ 0 (Nat.zero_le _) 0 (fun k => ⟨fun q => by simp at q, fun ⟨z, _, q, _⟩ => absurd q (Nat.not_lt_zero _)⟩)
    · intro u hu
      have eu : u = mixS n mul inv s := bits_ext fun k => by
        rw [hu k, mixS, bitS_bit]
        exact ⟨fun q => ⟨by obtain ⟨z, y, hz, hy, _, _, e⟩ := q; exact e ▸ cmm_lt hG hz hy, q⟩, fun q => q.2⟩
      have ul : u < 2 ^ n := eu ▸ bitS_lt
      refine s_mixed_14 c _ _ _ T0 ⟨fun _ => ⟨_, ct_closed h1 ul, ?_⟩, fun e => absurd (by rw [h20]; exact Int32.le_refl _) e⟩
      rintro r T5 ⟨rfl, rfl⟩
      refine ⟨_, ct_sortOfSet h (sg_cl hG ul), ?_⟩
      rintro r T11 ⟨rfl, rfl⟩
      rw [hc]
      exact ⟨_, rfl, Or.inl ⟨i, hi, rfl, by rw [hS, eu]⟩, rfl⟩
    · intro x hx nx u hu
      refine s_mixed_14 c _ _ _ T0 ⟨fun e => absurd e (by rw [h20]; exact nI_ge hx (by omega)), fun _ => ?_⟩
      refine loopUp (N := n) (P := fun y => ∀ u, (∀ k, u.testBit k = true ↔ (∃ z y, z < x ∧ y < n ∧ s.testBit z = true ∧ s.testBit y = true ∧ cmm mul inv z y = k) ∨ ∃ w, w < y ∧ s.testBit x = true ∧ s.testBit w = true ∧ cmm mul inv x w = k) → h_mixed_25 c (nI i) (nI u) (nI x) (nI y) T0) ?_ ?_ 0 (Nat.zero_le _) u (fun k => (hu k).trans ⟨Or.inl, fun q => q.elim id (fun ⟨w, q, _⟩ => absurd q (Nat.not_lt_zero _))⟩)
      · intro v hv
        refine s_mixed_25 c _ _ _ _ T0 ⟨fun _ => ?_, fun e => absurd (by rw [h20]; exact Int32.le_refl _) e⟩
        rw [nI_1]
        refine nx v (fun k => (hv k).trans ⟨?_, ?_⟩)
        · rintro (⟨z, y, hz, q⟩ | ⟨w, hw, q1, q2, q3⟩)
          · exact ⟨z, y, by omega, q⟩
          · exact ⟨x, w, by omega, hw, q1, q2, q3⟩
        · rintro ⟨z, y, hz, hy, q1, q2, q3⟩
          by_cases e : z = x
          · subst e; exact Or.inr ⟨y, hy, q1, q2, q3⟩
          · exact Or.inl ⟨z, y, by omega, hy, q1, q2, q3⟩
      · intro y hy nx2 v hv
        have no : ¬ (s.testBit x = true ∧ s.testBit y = true) → h_mixed_94 c (nI i) (nI v) (nI x) (nI y) T0 := fun q => s_mixed_94 c _ _ _ _ T0 (by
          rw [nI_1]
          refine nx2 v (fun k => (hv k).trans ⟨?_, ?_⟩)
          · rintro (q | ⟨w, hw, q⟩)
            · exact Or.inl q
            · exact Or.inr ⟨w, by omega, q⟩
          · rintro (q | ⟨w, hw, q1, q2, q3⟩)
            · exact Or.inl q
            · by_cases e : w = y
              · subst e; exact absurd ⟨q1, q2⟩ q
              · exact Or.inr ⟨w, by omega, q1, q2, q3⟩)
        refine s_mixed_25 c _ _ _ _ T0 ⟨fun e => absurd e (by rw [h20]; exact nI_ge hy (by omega)), fun _ => ⟨vpI (by omega), ?_⟩⟩
        rw [e29]
        refine ⟨fun e => no (fun q => ?_), fun e => ⟨vpI (by omega), fun e2 => no (fun q => ?_), fun e2 => ?_⟩⟩
        · rw [zI_0, bit31 hs hn hx] at e; exact e q.1
        · rw [zI_0, bit31 hs hn hy] at e2; exact e2 q.2
        · rw [zI_n0, bit31 hs hn hx] at e
          rw [zI_n0, bit31 hs hn hy] at e2
          have l1 := (hG.2.2.2.2 x hx).1
          have l2 := (hG.2.2.2.2 y hy).1
          have l3 := hG.2.1 _ _ l1 l2
          have l4 := hG.2.1 _ _ l3 hx
          have l5 := cmm_lt hG hx hy
          rw [nI_clamp (show x < 2 ^ 31 by omega), nI_clamp (show y < 2 ^ 31 by omega), hinv x hx, hinv y hy, tBy_at h1 l1 l2, tBy_at h1 l3 hx, tBy_at h1 l4 hy]
          refine ⟨vpI (by omega), vpI (by omega), tBy_in h1 l1 l2, tBy_in h1 l3 hx, tBy_in h1 l4 hy, ?_⟩
          rw [x_orbit (by show cmm mul inv x y < 32; omega)]
          refine s_mixed_94 c _ _ _ _ T0 ?_
          rw [nI_1]
          refine nx2 _ (fun k => ?_)
          rw [Nat.testBit_or, Bool.or_eq_true, hv k, Nat.testBit_two_pow, decide_eq_true_eq]
          constructor
          · rintro ((q | ⟨w, hw, q⟩) | q)
            · exact Or.inl q
            · exact Or.inr ⟨w, by omega, q⟩
            · exact Or.inr ⟨y, by omega, e, e2, q⟩
          · rintro (q | ⟨w, hw, q1, q2, q3⟩)
            · exact Or.inl (Or.inl q)
            · by_cases z : w = y
              · subst z; exact Or.inr q3
              · exact Or.inl (Or.inr ⟨w, by omega, q1, q2, q3⟩)
  · rw [zI_0, zRng (by omega)] at e
    rw [hc]
    exact ⟨_, rfl, Or.inr ⟨e, rfl⟩, rfl⟩
def mbC (L : List Nat) (k o : Nat) : Bool := decide (pop 31 (L.getD k 0) < pop 31 (L.getD o 0)) && (L.getD k 0 &&& L.getD o 0) == L.getD k 0
def mbT (n : Nat) (L : List Nat) (μ : Nat → Int32) (k : Nat) : Nat → Int32
  | 0 => if pop 31 (L.getD k 0) = n then 1 else 0
  | o + 1 => if mbC L k o = true then mbT n L μ k o - μ o else mbT n L μ k o
/-- numbers of subgroups: of all the whole one's is 1, and those that are as large or larger make 0 -/
def isMb (n : Nat) (L : List Nat) (μ : Nat → Int32) : Prop := ∀ k, k < L.length → μ k = mbT n L μ k L.length
theorem mbT_congr {n : Nat} {L : List Nat} {μ μ' : Nat → Int32} {k : Nat} : ∀ {o}, (∀ j, j < o → pop 31 (L.getD k 0) < pop 31 (L.getD j 0) → μ j = μ' j) → mbT n L μ k o = mbT n L μ' k o := by
  intro o
  induction o with
  | zero => intro _; rfl
  | succ o ih =>
    intro h
    show (if _ then _ else _) = (if _ then _ else _)
    rw [ih (fun j hj => h j (by omega))]
    by_cases q : mbC L k o = true
    · rw [if_pos q, if_pos q, h o (by omega) (by unfold mbC at q; rw [Bool.and_eq_true, decide_eq_true_eq] at q; exact q.1)]
    · rw [if_neg q, if_neg q]
theorem isMb_uniq {n : Nat} {L : List Nat} {μ μ' : Nat → Int32} (h : isMb n L μ) (h' : isMb n L μ') : ∀ k, k < L.length → μ k = μ' k := by
  have : ∀ d k, k < L.length → 31 - pop 31 (L.getD k 0) ≤ d → μ k = μ' k := by
    intro d
    induction d with
    | zero =>
      intro k hk hd
      rw [h k hk, h' k hk]
      refine mbT_congr (fun j hj hp => ?_)
      have := pop_le 31 (L.getD j 0)
      omega
    | succ d ih =>
      intro k hk hd
      rw [h k hk, h' k hk]
      refine mbT_congr (fun j hj hp => ih j hj ?_)
      have := pop_le 31 (L.getD j 0)
      omega
  exact fun k hk => this _ k hk (Nat.le_refl _)
theorem pop_lim {n s : Nat} (h : s < 2 ^ n) : ∀ m, pop m s ≤ n := by
  intro m
  induction m with
  | zero => exact Nat.zero_le _
  | succ m ih =>
    unfold pop
    by_cases q : s.testBit m = true
    · rw [if_pos q]
      have := bit_lt h q
      have := pop_le m s
      omega
    · rw [if_neg q]; exact ih
theorem ct_moebius {T0 : tS} {n : Nat} {mul : Nat → Nat → Nat} {inv : Nat → Nat} {L F : List Nat} (h : tGrp T0 n mul inv L F) (hF : F.length ≤ 60) (a : Int32) : tMi mX6_moebius 2 (fun _ => [.int a]) T0 (fun r T' => ((∃ i, i < F.length ∧ a = nI i ∧ ∃ μ, isMb n L μ ∧ r = μ (L.idxOf (F.getD i 0))) ∨ (¬ (∃ i, i < F.length ∧ a = nI i) ∧ r = -1000000)) ∧ tEq [49] T0 T') := by
  have g5 := h.2.2.2.2.1
  have g6 := h.2.2.2.2.2.1
  have h1 := h.1
  have hn := h1.2.1
  have hL := tGrp_len h
  refine en_moebius _ T0 _ (fun c hc => s_moebius_0 c _ T0 ?_)
  rw [g6.1]
  refine ⟨fun e => ?_, fun e => ?_⟩
  · rw [zI_n0, zRng (by omega)] at e
    obtain ⟨i, hi, rfl⟩ := e
    have hsL : ∀ k, k < L.length → sg n mul (L.getD k 0) := fun k hk => tGrp_sgL h hk
    have hpn : ∀ k, k < L.length → pop 31 (L.getD k 0) ≤ n := fun k hk => pop_lim (hsL k hk).1 31
    have hp1 : ∀ k, k < L.length → 1 ≤ pop 31 (L.getD k 0) := fun k hk => pop_one (hsL k hk).2.1 30
    have key : ∀ z, z ≤ n → ∀ T, tEq [49] T0 T → (∀ k, k < L.length → z < pop 31 (L.getD k 0) → T.2.2.1 49 k = mbT n L (T.2.2.1 49) k L.length) → h_moebius_17 c (nI i) (nI z) T := by
      intro z
      induction z with
      | zero =>
        intro hz T e hm
        have eF : F.getD i 0 ∈ L := by
          obtain ⟨g1, g2, rfl, rfl, -⟩ := h
          exact (fstL_mem.mp (gD_mem hi)).1
        refine s_moebius_17 c _ _ T ⟨fun _ => ⟨vpI (by omega), ?_⟩, fun q => absurd (Int32.le_refl _) q⟩
        rw [nI_clamp (by omega), e.a 29 (by decide), g6.2 i hi]
        have hb : ∀ x, x ∈ L → x < 2 ^ 31 := fun x hx => by
          obtain ⟨k, hk, rfl⟩ := gD_ex hx
          exact pow31 (hsL k hk).1 hn
        refine ⟨_, ct_subIndex (g5.same e (by decide) (by decide)) (by omega) hb (hb _ eF), ?_⟩
        rintro r T6 ⟨r1, r2, rfl⟩
        have hx := idx_lt eF
        rw [r1 eF, nI_clamp (by omega), hc]
        exact ⟨vpI (by omega), _, rfl, Or.inl ⟨i, hi, rfl, _, fun k hk => hm k hk (hp1 k hk), rfl⟩, e⟩
      | succ z ih =>
        intro hz T e hm
        refine s_moebius_17 c _ _ T ⟨fun q => absurd q (nI_nle (by omega) (by omega)), fun _ => ?_⟩
        have base : ∀ k, k ≤ L.length → ∀ T, tEq [49] T0 T → (∀ j, j < L.length → (z + 1 < pop 31 (L.getD j 0) ∨ (z + 1 = pop 31 (L.getD j 0) ∧ j < k)) → T.2.2.1 49 j = mbT n L (T.2.2.1 49) j L.length) → h_moebius_23 c (nI i) (nI (z + 1)) (nI k) T := by
          refine loopUp (N := L.length) (P := fun k => ∀ T, tEq [49] T0 T → (∀ j, j < L.length → (z + 1 < pop 31 (L.getD j 0) ∨ (z + 1 = pop 31 (L.getD j 0) ∧ j < k)) → T.2.2.1 49 j = mbT n L (T.2.2.1 49) j L.length) → h_moebius_23 c (nI i) (nI (z + 1)) (nI k) T) ?_ ?_
          · intro T e hm
            refine s_moebius_23 c _ _ _ T ⟨fun _ => ?_, fun q => absurd (by rw [e.i 25 (by decide), g5.1]; exact Int32.le_refl _) q⟩
            rw [pk_m1]
            exact ih (by omega) T e (fun k hk hlt => hm k hk (by omega))
          · intro k hk nx T e hm
            have e27 : ∀ T, tEq [49] T0 T → ∀ j, j < L.length → T.2.2.1 27 (nI j).toNatClampNeg = nI (L.getD j 0) := fun T e j hj => by rw [nI_clamp (by omega), e.a 27 (by decide)]; exact g5.2 j hj
            refine s_moebius_23 c _ _ _ T ⟨fun q => absurd q (by rw [e.i 25 (by decide), g5.1]; exact nI_ge hk (by omega)), fun _ => ⟨vpI (by omega), ?_⟩⟩
            have pk := hpn k hk
            have ek := pow31 (hsL k hk).1 hn
            rw [e27 T e k hk, x_ones ek, x_inj (by omega) (by omega), e.i 20 (by decide), h1.2.2.1, x_inj (by omega) (by omega), nI_clamp (by omega)]
            have inner : pop 31 (L.getD k 0) = z + 1 → ∀ v, v = mbT n L (T.2.2.1 49) k 0 → h_moebius_72 c (nI i) (nI (z + 1)) (nI k) (nI 0) (tA T 49 (va_up (T.2.2.1 49) k v)) := by
              intro hpk v hv
              refine loopUp (N := L.length) (P := fun o => ∀ T', tEq [49] T0 T' → (∀ j, j ≠ k → T'.2.2.1 49 j = T.2.2.1 49 j) → T'.2.2.1 49 k = mbT n L (T.2.2.1 49) k o → h_moebius_72 c (nI i) (nI (z + 1)) (nI k) (nI o) T') ?_ ?_ 0 (Nat.zero_le _) _ (e.trans (tEq.sA _ _ (by decide))) (fun j hj => by rw [tA_as, up_ne hj]) (by rw [tA_as, up_self]; exact hv)
              · intro T' e' ho hkv
                refine s_moebius_72 c _ _ _ _ T' ⟨fun _ => s_moebius_136 c _ _ _ T' ?_, fun q => absurd (by rw [e'.i 25 (by decide), g5.1]; exact Int32.le_refl _) q⟩
                rw [nI_1]
                refine nx T' e' (fun j hj hjp => ?_)
                have cg : mbT n L (T'.2.2.1 49) j L.length = mbT n L (T.2.2.1 49) j L.length := mbT_congr (fun t ht htp => ho t (fun q => by subst q; omega))
                rw [cg]
                by_cases q : j = k
                · subst q; exact hkv
                · rw [ho j q]
                  exact hm j hj (by omega)
              · intro o hoL nx2 T' e' ho hkv
                have po := hpn o hoL
                have eo := pow31 (hsL o hoL).1 hn
                have no : ¬ mbC L k o = true → h_moebius_130 c (nI i) (nI (z + 1)) (nI k) (nI o) T' := fun q => s_moebius_130 c _ _ _ _ T' (by
                  rw [nI_1]
                  refine nx2 T' e' ho ?_
                  rw [hkv]
                  show _ = (if _ then _ else _)
                  rw [if_neg q])
                refine s_moebius_72 c _ _ _ _ T' ⟨fun q => absurd q (by rw [e'.i 25 (by decide), g5.1]; exact nI_ge hoL (by omega)), fun _ => ⟨vpI (by omega), ?_⟩⟩
                rw [e27 T' e' o hoL, e27 T' e' k hk, x_ones eo, nI_leI (by omega) (by omega), x_sub ek, nI_clamp (show k < 2 ^ 31 by omega), nI_clamp (show o < 2 ^ 31 by omega)]
                refine ⟨fun q => no (fun w => ?_), fun q => ⟨vpI (by omega), vpI (by omega), fun q2 => no (fun w => ?_), fun q2 => ⟨vpI (by omega), vpI (by omega), vpI (by omega), s_moebius_130 c _ _ _ _ _ ?_⟩⟩⟩
                · unfold mbC at w
                  rw [Bool.and_eq_true, decide_eq_true_eq] at w
                  omega
                · unfold mbC at w
                  rw [Bool.and_eq_true, beq_iff_eq, ss_and] at w
                  exact q2 w.2
                · have hc2 : mbC L k o = true := by
                    unfold mbC
                    rw [Bool.and_eq_true, decide_eq_true_eq, beq_iff_eq, ss_and]
                    exact ⟨by omega, q2⟩
                  have hok : o ≠ k := fun w => by subst w; omega
                  rw [nI_1]
                  refine nx2 _ (e'.trans (tEq.sA _ _ (by decide))) (fun j hj => by rw [tA_as, up_ne hj]; exact ho j hj) ?_
                  rw [tA_as, up_self, hkv, ho o hok]
                  show _ = (if _ then _ else _)
                  rw [if_pos hc2]
            refine ⟨fun hpk => ⟨fun q => ⟨vpI (by omega), inner hpk _ ?_⟩, fun q => ⟨vpI (by omega), inner hpk _ ?_⟩⟩, fun hpk => s_moebius_136 c _ _ _ T ?_⟩
            · rw [zI_f (by decide)]
              show _ = (if _ then _ else _)
              rw [if_neg (by omega)]
            · rw [zI_t (by decide)]
              show _ = (if _ then _ else _)
              rw [if_pos (by omega)]
            · rw [nI_1]
              exact nx T e (fun j hj hjp => hm j hj (by
                by_cases w : j = k
                · subst w; omega
                · omega))
        exact base 0 (Nat.zero_le _) T e (fun j hj hjp => hm j hj (by omega))
    rw [h1.2.2.1]
    exact key n (Nat.le_refl _) T0 (tEq.refl _ _) (fun k hk hlt => by have := hpn k hk; omega)
  · rw [zI_0, zRng (by omega)] at e
    rw [hc]
    exact ⟨_, rfl, Or.inr ⟨e, rfl⟩, tEq.refl _ _⟩
