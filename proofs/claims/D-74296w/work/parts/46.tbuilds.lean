/-! the twin builds: subgroups, sorts, marks -/
def mkC (n : Nat) (mul : Nat → Nat → Nat) (a b : Nat) : Nat := cnt (fxP (lo_ n mul a) n mul b) n
/-- all that the twin knows of a group: L its subgroups, F the first ones -/
def tGrp (T : tS) (n : Nat) (mul : Nat → Nat → Nat) (inv : Nat → Nat) (L F : List Nat) : Prop := tTab T n mul inv ∧ gFew n mul ∧ L = subsL n mul ∧ F = fstL n mul inv L ∧ tLi T 25 27 L ∧ tLi T 26 29 F ∧ (∀ k, k < L.length → T.2.2.1 28 k = nI (F.idxOf (ft n mul inv (L.getD k 0)))) ∧ (∀ i, i < F.length → T.2.2.1 30 i = nI (cnt (fun k => F.idxOf (ft n mul inv (L.getD k 0)) == i) L.length)) ∧ (∀ i x, i < F.length → x < n → T.2.2.1 32 (24 * i + x) = nI (lo_ n mul (F.getD i 0) x)) ∧ ∀ i j, i < F.length → j < F.length → T.2.2.1 31 (64 * i + j) = nI (mkC n mul (F.getD i 0) (F.getD j 0))
theorem insS_sub {x y : Nat} {F : List Nat} (h : y ∈ F) : y ∈ insS x F := insS_mem.mpr (Or.inr h)
theorem tLi.app {T : tS} {L : List Nat} (h : tLi T 25 27 L) {s : Nat} (T' : tS) (hT : T' = tI (tA T 27 (va_up (T.2.2.1 27) L.length (nI s))) 25 (nI (L.length + 1))) : tLi T' 25 27 (L ++ [s]) := by
  subst hT
  refine ⟨?_, fun i hi => ?_⟩
  · show va_up T.1 25 (nI (L.length + 1)) 25 = _
    rw [up_self]
    simp
  · show va_up T.2.2.1 27 (va_up (T.2.2.1 27) L.length (nI s)) 27 i = _
    rw [up_self]
    simp only [List.length_append, List.length_singleton] at hi
    by_cases e : i = L.length
    · subst e
      rw [up_self, List.getD_eq_getElem?_getD, List.getElem?_append_right (Nat.le_refl _), Nat.sub_self]
      rfl
    · rw [up_ne e, gD_app (by omega)]
      exact h.2 i (by omega)
/-- the subgroups' loop -/
theorem t_subs {c : tC} {n : Nat} {mul : Nat → Nat → Nat} {inv : Nat → Nat} (hG : isG n mul inv) (hF : gFew n mul) {S : List Nat} (hS : ∀ f, f = 25 ∨ f = 27 → f ∈ S) (h20 : 20 ∉ S) (h23 : 23 ∉ S) (h24 : 24 ∉ S) {T0 : tS} (h0 : tTab T0 n mul inv) (next : ∀ T, tEq S T0 T → tLi T 25 27 (subsL n mul) → h_builds_119 c 0 (tI T 26 0)) :
    ∀ f L k T, f + k = 129 → gsubs n mul f L k = subsL n mul → sgL n mul L → k ≤ L.length → tEq S T0 T → tLi T 25 27 L → h_builds_19 c (nI k) T := by
  intro f
  induction f with
  | zero =>
    intro L k T hk hg hL hkl
    have := hL.len hF
    omega
  | succ f ih =>
    intro L k T hk hg hL hkl he hT
    have hLl := hL.len hF
    have hn := h0.2.1
    by_cases hlt : k < L.length
    · refine s_builds_19 c _ T ⟨fun e => absurd e (by rw [hT.1]; exact nI_ge hlt (by omega)), fun _ => ?_⟩
      have hsg := hL.2.1 _ (gD_mem hlt)
      rw [gsubs, if_pos hlt] at hg
      have inner : ∀ g, 1 ≤ g → g ≤ n → ∀ T, tEq S T0 T → tLi T 25 27 (gsubR n mul L (L.getD k 0) (g - 1)) → h_builds_29 c (nI k) (nI g) T := by
        intro g
        have main := loopUp (N := n) (P := fun g => 1 ≤ g → ∀ T, tEq S T0 T → tLi T 25 27 (gsubR n mul L (L.getD k 0) (g - 1)) → h_builds_29 c (nI k) (nI g) T) ?_ ?_ g
        · exact fun h1 h2 => main h2 h1
        · intro h1 T he hT
          have h20' : T.1 20 = nI n := by rw [he.i 20 h20]; exact h0.2.2.1
          refine s_builds_29 c _ _ T ⟨fun _ => ?_, fun e => absurd (by rw [h20']; exact Int32.le_refl _) e⟩
          rw [nI_1]
          obtain ⟨a1, -, M, a3⟩ := gsubR_ok hG hL hsg.1 (n - 1) (by omega)
          exact ih _ (k + 1) T (by omega) hg a1 (by rw [a3]; simp; omega) he hT
        · intro g hg2 nx h1 T he hT
          have h20' : T.1 20 = nI n := by rw [he.i 20 h20]; exact h0.2.2.1
          have htab : tTab T n mul inv := h0.same he h20 h23 h24
          obtain ⟨a1, -, M, a3⟩ := gsubR_ok hG hL hsg.1 (g - 1) (by omega)
          have al := a1.len hF
          have ekL : k < (gsubR n mul L (L.getD k 0) (g - 1)).length := by rw [a3]; simp; omega
          have ek : T.2.2.1 27 (nI k).toNatClampNeg = nI (L.getD k 0) := by
            rw [nI_clamp (by omega), hT.2 k ekL, a3, gD_app hlt]
          have hstep : gsubR n mul L (L.getD k 0) g = gsub n mul (gsubR n mul L (L.getD k 0) (g - 1)) (L.getD k 0) g := by
            obtain ⟨q, rfl⟩ : ∃ q, g = q + 1 := ⟨g - 1, by omega⟩
            rfl
          have hnx : ∀ T, tEq S T0 T → tLi T 25 27 (gsub n mul (gsubR n mul L (L.getD k 0) (g - 1)) (L.getD k 0) g) → h_builds_100 c (nI k) (nI g) T := by
            intro T he hT
            refine s_builds_100 c _ _ T ?_
            rw [nI_1]
            refine nx (by omega) T he ?_
            rw [show g + 1 - 1 = g by omega, hstep]
            exact hT
          have hu : L.getD k 0 ||| 2 ^ g < 2 ^ n := or_lt hsg.1 (pow_lt hg2)
          refine s_builds_29 c _ _ T ⟨fun e => absurd e (by rw [h20']; exact nI_ge hg2 (by omega)), fun _ => ⟨vpI (by omega), ?_, ?_⟩⟩
          · intro _
            rw [ek, x_orbit (by omega)]
            refine ⟨vpI (by omega), _, ct_closed htab hu, ?_⟩
            rintro r T8 ⟨rfl, rfl⟩
            refine ⟨_, ct_subIndex hT (by omega) (fun x hx => pow31 (a1.2.1 x hx).1 hn) (pow31 cl_lt hn), ?_⟩
            rintro r T14 ⟨m1, m2, rfl⟩
            by_cases hm : cl n mul (L.getD k 0 ||| 2 ^ g) ∈ gsubR n mul L (L.getD k 0) (g - 1)
            · refine ⟨fun e => ?_, fun _ => hnx _ he (by unfold gsub; rw [if_pos hm]; exact hT)⟩
              rw [m1 hm] at e
              have := idx_lt hm
              exact absurd e (by
                intro q
                have q2 : nI ((gsubR n mul L (L.getD k 0) (g - 1)).idxOf (cl n mul (L.getD k 0 ||| 2 ^ g))) < 0 := by rw [q]; decide
                exact nI_pos (by omega) q2)
            · refine ⟨fun _ => ⟨by rw [hT.1]; exact vpI (by omega), ?_⟩, fun e => absurd (m2 hm) e⟩
              refine hnx _ ((he.trans (tEq.sA _ _ (hS 27 (Or.inr rfl)))).trans (tEq.sI _ _ (hS 25 (Or.inl rfl)))) ?_
              unfold gsub
              rw [if_neg hm]
              refine tLi.app hT _ ?_
              rw [hT.1, nI_clamp (by omega), nI_1]
          · intro e
            rw [ek, zI_n0, bit31 hsg.1 hn hg2] at e
            refine hnx T he ?_
            have e1 : L.getD k 0 ||| 2 ^ g = L.getD k 0 := ss_antisymm (ss_or.mpr ⟨ss_rfl _, ss_bit.mpr e⟩) (ss_orl _ _)
            unfold gsub
            rw [e1, cl_self hG hsg, if_pos (by rw [a3]; exact List.mem_append_left _ (gD_mem hlt))]
            exact hT
      have := inner 1 (Nat.le_refl _) hG.1 T he (by simpa [gsubR] using hT)
      exact this
    · refine s_builds_19 c _ T ⟨fun _ => ?_, fun e => absurd (by rw [hT.1]; exact nI_le (by omega) (by omega)) e⟩
      rw [gsubs, if_neg hlt] at hg
      rw [hg] at hT
      exact next T he hT
/-- the first ones -/
theorem t_firsts {c : tC} {n : Nat} {mul : Nat → Nat → Nat} {inv : Nat → Nat} {L : List Nat} (hL : L.length ≤ 60) (hLs : ∀ s, s ∈ L → s < 2 ^ n) {T0 : tS} (h0 : tTab T0 n mul inv) (h25 : tLi T0 25 27 L) (next : ∀ T, tEq [26, 29] T0 T → tLi T 26 29 (fstL n mul inv L) → h_builds_164 c 0 T) :
    ∀ k, k ≤ L.length → ∀ T, tEq [26, 29] T0 T → tLi T 26 29 (fstR n mul inv L k) → h_builds_119 c (nI k) T := by
  have hn := h0.2.1
  refine loopUp (N := L.length) (P := fun k => ∀ T, tEq [26, 29] T0 T → tLi T 26 29 (fstR n mul inv L k) → h_builds_119 c (nI k) T) ?_ ?_
  · intro T he hT
    have hL' := h25.same he (by decide) (by decide)
    exact s_builds_119 c _ T ⟨fun _ => next T he hT, fun e => absurd (by rw [hL'.1]; exact Int32.le_refl _) e⟩
  · intro k hk nx T he hT
    have hL' := h25.same he (by decide) (by decide)
    have htab := h0.same he (by decide) (by decide) (by decide)
    have hs := hLs _ (gD_mem hk)
    have ek : T.2.2.1 27 (nI k).toNatClampNeg = nI (L.getD k 0) := by rw [nI_clamp (by omega)]; exact hL'.2 k hk
    have hft := ft_lt (mul := mul) (inv := inv) hs
    have hfl := fstR_len n mul inv L k
    refine s_builds_119 c _ T ⟨fun e => absurd e (by rw [hL'.1]; exact nI_ge hk (by omega)), fun _ => ⟨vpI (by omega), ?_⟩⟩
    rw [ek]
    refine ⟨_, ct_leastTurned htab hs, ?_⟩
    rintro r T6 ⟨rfl, rfl⟩
    rw [ek, x_inj (by have := pow31 hft hn; omega) (by have := pow31 hs hn; omega)]
    refine ⟨vpI (by omega), fun g => ?_, fun g => ⟨vpI (by omega), ?_⟩⟩
    · refine s_builds_156 c _ _ ?_
      rw [nI_1]
      refine nx _ he ?_
      rw [fstR, if_neg g]
      exact hT
    · refine ⟨_, ct_comesSort hT (by omega) (fun y hy => ?_) (pow31 hs hn), ?_⟩
      · obtain ⟨j, h1, h2, -⟩ := (fstR_mem k).mp hy
        exact h2 ▸ pow31 (hLs _ (gD_mem (by omega))) hn
      · rintro T15 ⟨h1, h2⟩
        refine s_builds_156 c _ _ ?_
        rw [nI_1]
        refine nx _ (he.trans h2) ?_
        rw [fstR, if_pos g]
        exact h1
/-- counts are wiped -/
theorem t_wipe {c : tC} {F : List Nat} (hF : F.length ≤ 64) {T0 : tS} (h26 : tLi T0 26 29 F) (next : ∀ T, tEq [30] T0 T → (∀ i, i < F.length → T.2.2.1 30 i = 0) → h_builds_187 c 0 T) :
    ∀ k, k ≤ F.length → ∀ T, tEq [30] T0 T → (∀ i, i < k → T.2.2.1 30 i = 0) → h_builds_164 c (nI k) T := by
  refine loopUp (N := F.length) (P := fun k => ∀ T, tEq [30] T0 T → (∀ i, i < k → T.2.2.1 30 i = 0) → h_builds_164 c (nI k) T) ?_ ?_
  · intro T he hT
    have h26' := h26.same he (by decide) (by decide)
    exact s_builds_164 c _ T ⟨fun _ => next T he hT, fun e => absurd (by rw [h26'.1]; exact Int32.le_refl _) e⟩
  · intro k hk nx T he hT
    have h26' := h26.same he (by decide) (by decide)
    refine s_builds_164 c _ T ⟨fun e => absurd e (by rw [h26'.1]; exact nI_ge hk (by omega)), fun _ => ⟨vpI (by omega), ?_⟩⟩
    rw [nI_1, nI_clamp (by omega)]
    refine nx _ (he.trans (tEq.sA _ _ (by decide))) (fun i hi => ?_)
    show va_up T.2.2.1 30 (va_up (T.2.2.1 30) k 0) 30 i = 0
    rw [up_self]
    by_cases e : i = k
    · subst e; exact up_self
    · rw [up_ne e]; exact hT i (by omega)
/-- of each subgroup its sort; how many a sort has -/
theorem t_sorts {c : tC} {n : Nat} {mul : Nat → Nat → Nat} {inv : Nat → Nat} {L F : List Nat} (hL : L.length ≤ 60) (hF : F.length ≤ 60) (hLs : ∀ s, s ∈ L → s < 2 ^ n) (hFs : ∀ s, s ∈ F → s < 2 ^ n) (hin : ∀ s, s ∈ L → ft n mul inv s ∈ F) {T0 : tS} (h0 : tTab T0 n mul inv) (h25 : tLi T0 25 27 L) (h26 : tLi T0 26 29 F)
    (next : ∀ T, tEq [28, 30] T0 T → (∀ k, k < L.length → T.2.2.1 28 k = nI (F.idxOf (ft n mul inv (L.getD k 0)))) → (∀ i, i < F.length → T.2.2.1 30 i = nI (cnt (fun k => F.idxOf (ft n mul inv (L.getD k 0)) == i) L.length)) → h_builds_238 c 0 T) :
    ∀ k, k ≤ L.length → ∀ T, tEq [28, 30] T0 T → (∀ j, j < k → T.2.2.1 28 j = nI (F.idxOf (ft n mul inv (L.getD j 0)))) → (∀ i, i < F.length → T.2.2.1 30 i = nI (cnt (fun k => F.idxOf (ft n mul inv (L.getD k 0)) == i) k)) → h_builds_187 c (nI k) T := by
  have hn := h0.2.1
  refine loopUp (N := L.length) (P := fun k => ∀ T, tEq [28, 30] T0 T → (∀ j, j < k → T.2.2.1 28 j = nI (F.idxOf (ft n mul inv (L.getD j 0)))) → (∀ i, i < F.length → T.2.2.1 30 i = nI (cnt (fun k => F.idxOf (ft n mul inv (L.getD k 0)) == i) k)) → h_builds_187 c (nI k) T) ?_ ?_
  · intro T he h1 h2
    have hL' := h25.same he (by decide) (by decide)
    exact s_builds_187 c _ T ⟨fun _ => next T he h1 h2, fun e => absurd (by rw [hL'.1]; exact Int32.le_refl _) e⟩
  · intro k hk nx T he h1 h2
    have hL' := h25.same he (by decide) (by decide)
    have hF' := h26.same he (by decide) (by decide)
    have htab := h0.same he (by decide) (by decide) (by decide)
    have hs := hLs _ (gD_mem hk)
    have ek : T.2.2.1 27 (nI k).toNatClampNeg = nI (L.getD k 0) := by rw [nI_clamp (by omega)]; exact hL'.2 k hk
    have hft := ft_lt (mul := mul) (inv := inv) hs
    have hm := hin _ (gD_mem hk)
    have hil := idx_lt hm
    refine s_builds_187 c _ T ⟨fun e => absurd e (by rw [hL'.1]; exact nI_ge hk (by omega)), fun _ => ⟨vpI (by omega), ?_⟩⟩
    rw [ek]
    refine ⟨_, ct_leastTurned htab hs, ?_⟩
    rintro r T6 ⟨rfl, rfl⟩
    refine ⟨_, ct_sortOfFirst hF' (by omega) (fun y hy => pow31 (hFs y hy) hn) (pow31 hft hn), ?_⟩
    rintro r T12 ⟨m1, -, rfl⟩
    rw [m1 hm, up_self, nI_1, nI_clamp (show F.idxOf (ft n mul inv (L.getD k 0)) < 2 ^ 31 by omega), nI_clamp (show k < 2 ^ 31 by omega)]
    refine ⟨vpI (by omega), vpI (by omega), vpI (by omega), vpI (by omega), ?_⟩
    refine nx _ ((he.trans (tEq.sA _ _ (by decide))).trans (tEq.sA _ _ (by decide))) (fun j hj => ?_) (fun i hi => ?_)
    · rw [tA_an (by decide), tA_as]
      by_cases e : j = k
      · subst e; exact up_self
      · rw [up_ne e]; exact h1 j (by omega)
    · rw [tA_as]
      unfold cnt
      by_cases e : i = F.idxOf (ft n mul inv (L.getD k 0))
      · rw [← e, up_self, h2 i hi, nI_1]
        simp
      · rw [up_ne e, h2 i hi]
        have : ¬ (F.idxOf (ft n mul inv (L.getD k 0)) == i) = true := by simpa using fun q => e q.symm
        rw [if_neg this, Nat.add_zero]
/-- of each sort the least members of its cosets -/
theorem t_cosets {c : tC} {n : Nat} {mul : Nat → Nat → Nat} {inv : Nat → Nat} {F : List Nat} (hF : F.length ≤ 60) (hFs : ∀ s, s ∈ F → s < 2 ^ n) {T0 : tS} (h0 : tTab T0 n mul inv) (h26 : tLi T0 26 29 F) (next : ∀ T, tEq [32] T0 T → (∀ i x, i < F.length → x < n → T.2.2.1 32 (24 * i + x) = nI (lo_ n mul (F.getD i 0) x)) → h_builds_292 c 0 T) :
    ∀ k, k ≤ F.length → ∀ T, tEq [32] T0 T → (∀ i x, i < k → x < n → T.2.2.1 32 (24 * i + x) = nI (lo_ n mul (F.getD i 0) x)) → h_builds_238 c (nI k) T := by
  have hn := h0.2.1
  refine loopUp (N := F.length) (P := fun k => ∀ T, tEq [32] T0 T → (∀ i x, i < k → x < n → T.2.2.1 32 (24 * i + x) = nI (lo_ n mul (F.getD i 0) x)) → h_builds_238 c (nI k) T) ?_ ?_
  · intro T he hT
    have h26' := h26.same he (by decide) (by decide)
    exact s_builds_238 c _ T ⟨fun _ => next T he hT, fun e => absurd (by rw [h26'.1]; exact Int32.le_refl _) e⟩
  · intro k hk nx T he hT
    have h26' := h26.same he (by decide) (by decide)
    refine s_builds_238 c _ T ⟨fun e => absurd e (by rw [h26'.1]; exact nI_ge hk (by omega)), fun _ => ?_⟩
    refine loopUp (N := n) (P := fun x => ∀ T, tEq [32] T0 T → (∀ i y, (i < k ∧ y < n) ∨ (i = k ∧ y < x) → T.2.2.1 32 (24 * i + y) = nI (lo_ n mul (F.getD i 0) y)) → h_builds_248 c (nI k) (nI x) T) ?_ ?_ 0 (Nat.zero_le _) T he (fun i y h => hT i y (by omega) (by omega))
    · intro T he hT
      have h20 : T.1 20 = nI n := by rw [he.i 20 (by decide)]; exact h0.2.2.1
      refine s_builds_248 c _ _ T ⟨fun _ => ?_, fun e => absurd (by rw [h20]; exact Int32.le_refl _) e⟩
      rw [nI_1]
      exact nx T he (fun i x hi hx => hT i x (by omega))
    · intro x hx nx2 T he hT
      have h26' := h26.same he (by decide) (by decide)
      have htab := h0.same he (by decide) (by decide) (by decide)
      refine s_builds_248 c _ _ T ⟨fun e => absurd e (by rw [htab.2.2.1]; exact nI_ge hx (by omega)), fun _ => ⟨vpI (by omega), ?_⟩⟩
      rw [nI_clamp (show k < 2 ^ 31 by omega), h26'.2 k hk]
      refine ⟨_, ct_leastOf htab (hFs _ (gD_mem hk)) hx, ?_⟩
      rintro r T6 ⟨rfl, rfl⟩
      rw [tIx, nI_1, nI_clamp (show 24 * k + x < 2 ^ 31 by omega)]
      refine ⟨vpI (by omega), nx2 _ (he.trans (tEq.sA _ _ (by decide))) (fun i y h => ?_)⟩
      show va_up T6.2.2.1 32 (va_up (T6.2.2.1 32) (24 * k + x) _) 32 (24 * i + y) = _
      rw [up_self]
      by_cases e : i = k ∧ y = x
      · obtain ⟨rfl, rfl⟩ := e
        exact up_self
      · rw [up_ne (by omega)]
        exact hT i y (by omega)
/-- marks -/
theorem t_marks {c : tC} {n : Nat} {mul : Nat → Nat → Nat} {inv : Nat → Nat} {F : List Nat} (hF : F.length ≤ 60) (hFs : ∀ s, s ∈ F → s < 2 ^ n) {T0 : tS} (h0 : tTab T0 n mul inv) (h26 : tLi T0 26 29 F) (hco : ∀ i x, i < F.length → x < n → T0.2.2.1 32 (24 * i + x) = nI (lo_ n mul (F.getD i 0) x)) (next : ∀ T, tEq [31] T0 T → (∀ i j, i < F.length → j < F.length → T.2.2.1 31 (64 * i + j) = nI (mkC n mul (F.getD i 0) (F.getD j 0))) → c.2.2.2.2.2.2 none T) :
    ∀ k, k ≤ F.length → ∀ T, tEq [31] T0 T → (∀ i j, i < k → j < F.length → T.2.2.1 31 (64 * i + j) = nI (mkC n mul (F.getD i 0) (F.getD j 0))) → h_builds_292 c (nI k) T := by
  have hn := h0.2.1
  refine loopUp (N := F.length) (P := fun k => ∀ T, tEq [31] T0 T → (∀ i j, i < k → j < F.length → T.2.2.1 31 (64 * i + j) = nI (mkC n mul (F.getD i 0) (F.getD j 0))) → h_builds_292 c (nI k) T) ?_ ?_
  · intro T he hT
    have h26' := h26.same he (by decide) (by decide)
    exact s_builds_292 c _ T ⟨fun _ => next T he hT, fun e => absurd (by rw [h26'.1]; exact Int32.le_refl _) e⟩
  · intro k hk nx T he hT
    have h26' := h26.same he (by decide) (by decide)
    refine s_builds_292 c _ T ⟨fun e => absurd e (by rw [h26'.1]; exact nI_ge hk (by omega)), fun _ => ?_⟩
    refine loopUp (N := F.length) (P := fun x => ∀ T, tEq [31] T0 T → (∀ i y, (i < k ∧ y < F.length) ∨ (i = k ∧ y < x) → T.2.2.1 31 (64 * i + y) = nI (mkC n mul (F.getD i 0) (F.getD y 0))) → h_builds_302 c (nI k) (nI x) T) ?_ ?_ 0 (Nat.zero_le _) T he (fun i y h => hT i y (by omega) (by omega))
    · intro T he hT
      have h26' := h26.same he (by decide) (by decide)
      refine s_builds_302 c _ _ T ⟨fun _ => ?_, fun e => absurd (by rw [h26'.1]; exact Int32.le_refl _) e⟩
      rw [nI_1]
      exact nx T he (fun i x hi hx => hT i x (by omega))
    · intro x hx nx2 T he hT
      have h26' := h26.same he (by decide) (by decide)
      have htab := h0.same he (by decide) (by decide) (by decide)
      refine s_builds_302 c _ _ T ⟨fun e => absurd e (by rw [h26'.1]; exact nI_ge hx (by omega)), fun _ => ⟨vpI (by omega), ?_⟩⟩
      rw [nI_clamp (show x < 2 ^ 31 by omega), h26'.2 x hx]
      refine ⟨_, ct_fixedOf (lo' := lo_ n mul (F.getD k 0)) htab (by omega) (hFs _ (gD_mem hx)) (fun y hy => ⟨lo_lt htab.1 hy, by rw [he.a 32 (by decide)]; exact hco k y hk hy⟩), ?_⟩
      rintro r T6 ⟨rfl, rfl⟩
      rw [tIx64, nI_1, nI_clamp (show 64 * k + x < 2 ^ 31 by omega)]
      refine ⟨vpI (by omega), nx2 _ (he.trans (tEq.sA _ _ (by decide))) (fun i y h => ?_)⟩
      show va_up T6.2.2.1 31 (va_up (T6.2.2.1 31) (64 * k + x) _) 31 (64 * i + y) = _
      rw [up_self]
      by_cases e : i = k ∧ y = x
      · obtain ⟨rfl, rfl⟩ := e
        exact up_self
      · rw [up_ne (by omega)]
        exact hT i y (by omega)
