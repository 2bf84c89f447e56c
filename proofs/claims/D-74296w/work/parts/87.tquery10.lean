/-! the twin answers: residues, blocks -/
def stp (p : Nat) : Nat → Nat → Nat
  | 0, x => x
  | f + 1, x => if x % p = 0 then stp p f (x / p) else x
def ppB (p x : Nat) : Bool := stp p 5 x == 1
theorem x_dv : ∀ x, x < 32 → ∀ p, p < 6 → 1 ≤ p → nI x / nI p = nI (x / p) ∧ nI x - nI x / nI p * nI p = nI (x % p) := by decide +kernel
theorem x_dv2 : ∀ x, x < 32 → ∀ p, p < 32 → 1 ≤ p → nI x / nI p = nI (x / p) := by decide +kernel
theorem pop_one {s : Nat} (h : s.testBit 0 = true) : ∀ n, 1 ≤ pop (n + 1) s := by
  intro n
  induction n with
  | zero => show 1 ≤ 0 + (if _ then 1 else 0); rw [if_pos h]; exact Nat.le_refl _
  | succ n ih => exact Nat.le_trans ih (Nat.le_add_right _ _)
def resP (n : Nat) (mul : Nat → Nat → Nat) (inv : Nat → Nat) (s p t : Nat) : Prop := ss t s ∧ ppB p (pop 31 s / pop 31 t) = true ∧ ∀ g, g < n → s.testBit g = true → tn n mul inv t g = t
noncomputable def resR (n : Nat) (mul : Nat → Nat → Nat) (inv : Nat → Nat) (L : List Nat) (s p : Nat) : Nat → Nat
  | 0 => s
  | k + 1 => @ite _ (resP n mul inv s p (L.getD k 0) ∧ pop 31 (L.getD k 0) < pop 31 (resR n mul inv L s p k)) (Classical.propDecidable _) (L.getD k 0) (resR n mul inv L s p k)
theorem resR_t {n : Nat} {mul : Nat → Nat → Nat} {inv : Nat → Nat} {L : List Nat} {s p k : Nat} (h : resP n mul inv s p (L.getD k 0) ∧ pop 31 (L.getD k 0) < pop 31 (resR n mul inv L s p k)) : resR n mul inv L s p (k + 1) = L.getD k 0 := by
  unfold resR
  rw [if_pos h]
theorem resR_f {n : Nat} {mul : Nat → Nat → Nat} {inv : Nat → Nat} {L : List Nat} {s p k : Nat} (h : ¬ (resP n mul inv s p (L.getD k 0) ∧ pop 31 (L.getD k 0) < pop 31 (resR n mul inv L s p k))) : resR n mul inv L s p (k + 1) = resR n mul inv L s p k := by
  conv => lhs; unfold resR
  rw [if_neg h]
noncomputable def resS (n : Nat) (mul : Nat → Nat → Nat) (inv : Nat → Nat) (L : List Nat) (s p : Nat) : Nat := resR n mul inv L s p L.length
theorem resR_sg {n : Nat} {mul : Nat → Nat → Nat} {inv : Nat → Nat} {L : List Nat} {s p : Nat} (hs : sg n mul s) (hL : ∀ k, k < L.length → sg n mul (L.getD k 0)) : ∀ k, k ≤ L.length → sg n mul (resR n mul inv L s p k) := by
  intro k
  induction k with
  | zero => intro _; exact hs
  | succ k ih =>
    intro hk
    by_cases q : resP n mul inv s p (L.getD k 0) ∧ pop 31 (L.getD k 0) < pop 31 (resR n mul inv L s p k)
    · rw [resR_t q]; exact hL k (by omega)
    · rw [resR_f q]; exact ih (by omega)
theorem ct_residueOf {T0 : tS} {n : Nat} {mul : Nat → Nat → Nat} {inv : Nat → Nat} {L F : List Nat} (h : tGrp T0 n mul inv L F) (hF : F.length ≤ 60) {i p : Nat} (hi : i < F.length) (hp : p = 2 ∨ p = 3 ∨ p = 5) : tMi mX6_residueOf 2 (fun _ => [.int (nI i), .int (nI p)]) T0 (fun r T' => r = nI (F.idxOf (ft n mul inv (resS n mul inv L (F.getD i 0) p))) ∧ T' = T0) := by
  have g5 := h.2.2.2.2.1
  have g6 := h.2.2.2.2.2.1
  have h1 := h.1
  have hn := h1.2.1
  have hL := tGrp_len h
  have hs := tGrp_sg h hi
  have e29 : T0.2.2.1 29 (nI i).toNatClampNeg = nI (F.getD i 0) := by rw [nI_clamp (by omega)]; exact g6.2 i hi
  refine en_residueOf _ _ T0 _ (fun c hc => s_residueOf_0 c _ _ T0 ⟨vpI (by omega), ?_⟩)
  rw [e29]
  generalize hS : F.getD i 0 = s at hs e29
  have hsL : ∀ k, k < L.length → sg n mul (L.getD k 0) := fun k hk => tGrp_sgL h hk
  have p1 : 2 ≤ p ∧ p < 6 := by omega
  refine loopUp (N := L.length) (P := fun k => h_residueOf_13 c (nI p) (nI s) (nI (resR n mul inv L s p k)) (nI k) T0) ?_ ?_ 0 (Nat.zero_le _)
  · refine s_residueOf_13 c _ _ _ _ T0 ⟨fun _ => ⟨_, ct_sortOfSet h (resR_sg hs hsL _ (Nat.le_refl _)), ?_⟩, fun e => absurd (by rw [g5.1]; exact Int32.le_refl _) e⟩
    rintro r T5 ⟨rfl, rfl⟩
    rw [hc]
    exact ⟨_, rfl, by rw [hS]; rfl, rfl⟩
  · intro k hk nx
    have hb := resR_sg (p := p) (inv := inv) hs hsL k (by omega)
    have ht := hsL k hk
    have e27 : T0.2.2.1 27 (nI k).toNatClampNeg = nI (L.getD k 0) := by rw [nI_clamp (by omega)]; exact g5.2 k hk
    have q1 : pop 31 s ≤ 31 := pop_le _ _
    have q2 : pop 31 (L.getD k 0) ≤ 31 := pop_le _ _
    have q3 : pop 31 (resR n mul inv L s p k) ≤ 31 := pop_le _ _
    have q4 : 1 ≤ pop 31 (L.getD k 0) := pop_one ht.2.1 30
    have skip : ¬ (resP n mul inv s p (L.getD k 0) ∧ pop 31 (L.getD k 0) < pop 31 (resR n mul inv L s p k)) → h_residueOf_179 c (nI p) (nI s) (nI (resR n mul inv L s p k)) (nI k) T0 := fun q => s_residueOf_179 c _ _ _ _ T0 (by
      rw [resR_f q] at nx
      rw [nI_1]
      exact nx)
    have take : resP n mul inv s p (L.getD k 0) ∧ pop 31 (L.getD k 0) < pop 31 (resR n mul inv L s p k) → h_residueOf_179 c (nI p) (nI s) (nI (L.getD k 0)) (nI k) T0 := fun q => s_residueOf_179 c _ _ _ _ T0 (by
      rw [resR_t q] at nx
      rw [nI_1]
      exact nx)
    refine s_residueOf_13 c _ _ _ _ T0 ⟨fun e => absurd e (by rw [g5.1]; exact nI_ge hk (by omega)), fun _ => ⟨vpI (by omega), ?_⟩⟩
    rw [e27, x_sub (pow31 ht.1 hn), x_ones (pow31 ht.1 hn), x_ones (pow31 hb.1 hn), x_ones (pow31 hs.1 hn), nI_ltI (by omega) (by omega)]
    refine ⟨fun e => skip (fun q => e q.1.1), fun hss => ⟨vpI (by omega), fun hlt => ⟨vpI (by omega), nI_ne0 (by omega) (by omega), ?_⟩, fun e => skip (fun q => e q.2)⟩⟩
    have bad : ¬ resP n mul inv s p (L.getD k 0) → ∀ g, h_residueOf_106 c (nI p) (nI s) (nI (resR n mul inv L s p k)) (nI k) 0 g T0 := fun q g => by
      have w : h_residueOf_165 c (nI p) (nI s) (nI (resR n mul inv L s p k)) (nI k) 0 T0 := s_residueOf_165 c _ _ _ _ _ T0 ⟨fun _ => skip (fun z => q z.1), fun z => absurd rfl z⟩
      exact s_residueOf_106 c _ _ _ _ _ _ T0 ⟨fun _ => w, fun _ => ⟨fun _ => w, fun z => absurd rfl z⟩⟩
    have good : ppB p (pop 31 s / pop 31 (L.getD k 0)) = true → h_residueOf_106 c (nI p) (nI s) (nI (resR n mul inv L s p k)) (nI k) 1 0 T0 := fun hpp => by
      refine loopUp (N := n) (P := fun g => (∀ y, y < g → s.testBit y = true → tn n mul inv (L.getD k 0) y = L.getD k 0) → h_residueOf_106 c (nI p) (nI s) (nI (resR n mul inv L s p k)) (nI k) 1 (nI g) T0) ?_ ?_ 0 (Nat.zero_le _) (fun y hy => absurd hy (Nat.not_lt_zero _))
      · intro hall
        refine s_residueOf_106 c _ _ _ _ _ _ T0 ⟨fun _ => s_residueOf_165 c _ _ _ _ _ T0 ⟨fun z => absurd z (by decide), fun _ => ⟨vpI (by omega), ?_⟩⟩, fun e => absurd (by rw [h1.2.2.1]; exact Int32.le_refl _) e⟩
        rw [e27]
        exact take ⟨⟨hss, hpp, hall⟩, hlt⟩
      · intro g hg nx2 hall
        have step : (s.testBit g = true → tn n mul inv (L.getD k 0) g = L.getD k 0) → h_residueOf_152 c (nI p) (nI s) (nI (resR n mul inv L s p k)) (nI k) (nI g) T0 := fun q => s_residueOf_152 c _ _ _ _ _ T0 (by
          rw [nI_1]
          refine nx2 (fun y hy => ?_)
          by_cases e : y = g
          · subst e; exact q
          · exact hall y (by omega))
        refine s_residueOf_106 c _ _ _ _ _ _ T0 ⟨fun e => absurd e (by rw [h1.2.2.1]; exact nI_ge hg (by omega)), fun _ => ⟨fun z => absurd z (by decide), fun _ => ⟨fun e => ?_, fun e => ⟨vpI (by omega), ?_⟩⟩⟩⟩
        · rw [zI_0, bit31 hs.1 hn hg] at e
          exact step (fun q => absurd q e)
        · rw [zI_n0, bit31 hs.1 hn hg] at e
          rw [e27]
          refine ⟨_, ct_turned h1 ht.1 hg, ?_⟩
          rintro r T8 ⟨rfl, rfl⟩
          have l1 := pow31 (tn_lt (s := L.getD k 0) h1.1 hg) hn
          have l2 := pow31 ht.1 hn
          rw [e27, x_inj (by omega) (by omega)]
          exact ⟨vpI (by omega), fun q => bad (fun z => q (z.2.2 g hg e)) _, fun q => step (fun _ => q)⟩
    have hx1 : 1 ≤ pop 31 s / pop 31 (L.getD k 0) := by
      rw [Nat.le_div_iff_mul_le (by omega), Nat.one_mul]
      exact pop_sub 31 _ _ (fun j _ hj => hss j hj)
    have hx2 : pop 31 s / pop 31 (L.getD k 0) < 32 := Nat.lt_of_le_of_lt (Nat.div_le_self _ _) (by omega)
    have lp : ∀ f x, f ≤ 5 → 1 ≤ x → x < 2 ^ f → stp p f x = stp p 5 (pop 31 s / pop 31 (L.getD k 0)) → h_residueOf_74 c (nI p) (nI s) (nI (resR n mul inv L s p k)) (nI k) (nI x) T0 := by
      intro f
      induction f with
      | zero => intro x _ h1 h2; omega
      | succ f ih =>
        intro x hf h1 h2 he
        have h3 : 2 ^ (f + 1) ≤ 2 ^ 5 := Nat.pow_le_pow_right (by omega) hf
        have h5 : (2 : Nat) ^ 5 = 32 := by decide
        obtain ⟨d1, d2⟩ := x_dv x (by omega) p p1.2 (by omega)
        have hm : x % p < 6 := by have := Nat.mod_lt x (show 0 < p by omega); omega
        refine s_residueOf_74 c _ _ _ _ _ T0 ⟨nI_ne0 (by omega) (by omega), ?_⟩
        rw [d2, d1]
        have e1 : stp p (f + 1) x = if x % p = 0 then stp p f (x / p) else x := rfl
        rw [e1] at he
        refine ⟨fun e => ?_, fun e => ⟨nI_ne0 (by omega) (by omega), ?_⟩⟩
        · have e' : ¬ x % p = 0 := fun q => e (by rw [q]; rfl)
          rw [if_neg e'] at he
          rw [show (1 : Int32) = nI 1 from rfl, x_inj (by omega) (by omega)]
          refine ⟨fun q => bad (fun z => q ?_) _, fun q => good ?_⟩
          · have := z.2.1
            unfold ppB at this
            rw [← he, beq_iff_eq] at this
            exact this
          · unfold ppB
            rw [← he, beq_iff_eq]
            exact q
        · have e' : x % p = 0 := (x_inj (a := x % p) (b := 0) (by omega) (by omega)).mp e
          rw [if_pos e'] at he
          refine ih (x / p) (by omega) ?_ ?_ he
          · rw [Nat.le_div_iff_mul_le (by omega), Nat.one_mul]
            exact Nat.le_of_dvd (by omega) (Nat.dvd_of_mod_eq_zero e')
          · rw [Nat.div_lt_iff_lt_mul (by omega)]
            have : 2 ^ f * 2 ≤ 2 ^ f * p := Nat.mul_le_mul_left _ p1.1
            rw [Nat.pow_succ] at h2
            omega
    rw [x_dv2 _ (by omega) _ (by omega) q4]
    exact lp 5 _ (Nat.le_refl _) hx1 hx2 rfl
theorem zPr {x : Int32} : (x = 2 ∨ x = 3 ∨ x = 5) ↔ ∃ p, (p = 2 ∨ p = 3 ∨ p = 5) ∧ x = nI p := by
  constructor
  · rintro (rfl | rfl | rfl)
    · exact ⟨2, Or.inl rfl, rfl⟩
    · exact ⟨3, Or.inr (Or.inl rfl), rfl⟩
    · exact ⟨5, Or.inr (Or.inr rfl), rfl⟩
  · rintro ⟨p, (rfl | rfl | rfl), rfl⟩
    · exact Or.inl rfl
    · exact Or.inr (Or.inl rfl)
    · exact Or.inr (Or.inr rfl)
noncomputable def resI (n : Nat) (mul : Nat → Nat → Nat) (inv : Nat → Nat) (L F : List Nat) (i p : Nat) : Nat := F.idxOf (ft n mul inv (resS n mul inv L (F.getD i 0) p))
theorem ct_residue {T0 : tS} {n : Nat} {mul : Nat → Nat → Nat} {inv : Nat → Nat} {L F : List Nat} (h : tGrp T0 n mul inv L F) (hF : F.length ≤ 60) (a b : Int32) : tMi mX6_residue 3 (fun _ => [.int a, .int b]) T0 (fun r T' => ((∃ i p, i < F.length ∧ (p = 2 ∨ p = 3 ∨ p = 5) ∧ a = nI i ∧ b = nI p ∧ r = nI (resI n mul inv L F i p)) ∨ (¬ (∃ i p, i < F.length ∧ (p = 2 ∨ p = 3 ∨ p = 5) ∧ a = nI i ∧ b = nI p) ∧ r = -1)) ∧ T' = T0) := by
  have g6 := h.2.2.2.2.2.1
  refine en_residue _ _ T0 _ (fun c hc => s_residue_0 c _ _ T0 ?_)
  rw [g6.1]
  refine ⟨fun e => ?_, fun e => ⟨fun e2 => ?_, fun e2 => ?_⟩⟩
  · rw [zI_0, zRng (by omega)] at e
    rw [hc]
    exact ⟨_, rfl, Or.inr ⟨fun ⟨i, j, hi, _, q, _⟩ => e ⟨i, hi, q⟩, rfl⟩, rfl⟩
  · rw [zI_0, zPr] at e2
    rw [hc]
    exact ⟨_, rfl, Or.inr ⟨fun ⟨i, j, _, hj, _, q⟩ => e2 ⟨j, hj, q⟩, rfl⟩, rfl⟩
  · rw [zI_n0, zRng (by omega)] at e
    rw [zI_n0, zPr] at e2
    obtain ⟨i, hi, rfl⟩ := e
    obtain ⟨p, hp, rfl⟩ := e2
    refine ⟨_, ct_residueOf h hF hi hp, ?_⟩
    rintro r T10 ⟨rfl, rfl⟩
    rw [hc]
    exact ⟨_, rfl, Or.inl ⟨i, p, hi, hp, rfl, rfl, rfl⟩, rfl⟩
noncomputable def blkS (n : Nat) (mul : Nat → Nat → Nat) (inv : Nat → Nat) (L F : List Nat) (i p : Nat) : Nat := imS (fun k => resI n mul inv L F k p == resI n mul inv L F i p) id F.length
theorem ct_blockOf {T0 : tS} {n : Nat} {mul : Nat → Nat → Nat} {inv : Nat → Nat} {L F : List Nat} (h : tGrp T0 n mul inv L F) (hF : F.length ≤ 31) {i p : Nat} (hi : i < F.length) (hp : p = 2 ∨ p = 3 ∨ p = 5) : tMi mX6_blockOf 3 (fun _ => [.int (nI i), .int (nI p)]) T0 (fun r T' => r = nI (blkS n mul inv L F i p) ∧ T' = T0) := by
  have g6 := h.2.2.2.2.2.1
  have hl : ∀ k, resI n mul inv L F k p ≤ F.length := fun k => List.idxOf_le_length
  refine en_blockOf _ _ T0 _ (fun c hc => s_blockOf_0 c _ _ T0 ⟨_, ct_residueOf h (by omega) hi hp, ?_⟩)
  rintro r T4 ⟨rfl, rfl⟩
  refine loopUp (N := F.length) (P := fun k => h_blockOf_13 c (nI p) (nI (resI n mul inv L F i p)) (nI (imS (fun k => resI n mul inv L F k p == resI n mul inv L F i p) id k)) (nI k) T4) ?_ ?_ 0 (Nat.zero_le _)
  · refine s_blockOf_13 c _ _ _ _ T4 ⟨fun _ => ?_, fun e => absurd (by rw [g6.1]; exact Int32.le_refl _) e⟩
    rw [hc]
    exact ⟨_, rfl, rfl, rfl⟩
  · intro k hk nx
    refine s_blockOf_13 c _ _ _ _ T4 ⟨fun e => absurd e (by rw [g6.1]; exact nI_ge hk (by omega)), fun _ => ⟨_, ct_residueOf h (by omega) hk hp, ?_⟩⟩
    rintro r T5 ⟨rfl, rfl⟩
    have l1 := hl k
    have l2 := hl i
    show (¬ nI (resI n mul inv L F k p) = _ → _) ∧ (nI (resI n mul inv L F k p) = _ → _)
    rw [x_inj (by omega) (by omega), nI_1]
    refine ⟨fun e => ?_, fun e => ?_⟩
    · have : imS (fun k => resI n mul inv L F k p == resI n mul inv L F i p) id (k + 1) = imS (fun k => resI n mul inv L F k p == resI n mul inv L F i p) id k := by
        simp [imS, e]
      rw [this] at nx
      rw [zI_f (by simp), show (0 : Int32) = nI 0 from rfl, x_shl (by omega) (by omega), x_or, Nat.zero_mul, Nat.or_zero]
      exact nx
    · have : imS (fun k => resI n mul inv L F k p == resI n mul inv L F i p) id (k + 1) = imS (fun k => resI n mul inv L F k p == resI n mul inv L F i p) id k ||| 2 ^ k := by
        simp [imS, e]
      rw [this] at nx
      rw [zI_t (by decide), x_orbit (by omega)]
      exact nx
theorem ct_block {T0 : tS} {n : Nat} {mul : Nat → Nat → Nat} {inv : Nat → Nat} {L F : List Nat} (h : tGrp T0 n mul inv L F) (hF : F.length ≤ 31) (a b : Int32) : tMi mX6_block 4 (fun _ => [.int a, .int b]) T0 (fun r T' => ((∃ i p, i < F.length ∧ (p = 2 ∨ p = 3 ∨ p = 5) ∧ a = nI i ∧ b = nI p ∧ r = nI (blkS n mul inv L F i p)) ∨ (¬ (∃ i p, i < F.length ∧ (p = 2 ∨ p = 3 ∨ p = 5) ∧ a = nI i ∧ b = nI p) ∧ r = -1)) ∧ T' = T0) := by
  have g6 := h.2.2.2.2.2.1
  refine en_block _ _ T0 _ (fun c hc => s_block_0 c _ _ T0 ?_)
  rw [g6.1]
  refine ⟨fun e => ?_, fun e => ⟨fun e2 => ?_, fun e2 => ?_⟩⟩
  · rw [zI_0, zRng (by omega)] at e
    rw [hc]
    exact ⟨_, rfl, Or.inr ⟨fun ⟨i, j, hi, _, q, _⟩ => e ⟨i, hi, q⟩, rfl⟩, rfl⟩
  · rw [zI_0, zPr] at e2
    rw [hc]
    exact ⟨_, rfl, Or.inr ⟨fun ⟨i, j, _, hj, _, q⟩ => e2 ⟨j, hj, q⟩, rfl⟩, rfl⟩
  · rw [zI_n0, zRng (by omega)] at e
    rw [zI_n0, zPr] at e2
    obtain ⟨i, hi, rfl⟩ := e
    obtain ⟨p, hp, rfl⟩ := e2
    refine ⟨_, ct_blockOf h hF hi hp, ?_⟩
    rintro r T10 ⟨rfl, rfl⟩
    rw [hc]
    exact ⟨_, rfl, Or.inl ⟨i, p, hi, hp, rfl, rfl, rfl⟩, rfl⟩
