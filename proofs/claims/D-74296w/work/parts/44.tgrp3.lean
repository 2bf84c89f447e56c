/-! the twin: sorts' places, cosets, fixed cosets, the row of sorts -/
theorem ct_sortOfFirst {T : tS} {L : List Nat} (h : tLi T 26 29 L) (hL : L.length ≤ 64) (hb : ∀ x, x ∈ L → x < 2 ^ 31) {s : Nat} (hs : s < 2 ^ 31) : tMi mX6_sortOfFirst 0 (fun _ => [.int (nI s)]) T (fun r T' => (s ∈ L → r = nI (L.idxOf s)) ∧ (s ∉ L → r = -1) ∧ T' = T) := by
  refine en_sortOfFirst _ T _ (fun c hc => s_sortOfFirst_0 c _ T ?_)
  have key : ∀ i, i ≤ L.length → (∀ j, j < i → L.getD j 0 ≠ s) → h_sortOfFirst_2 c (nI s) (nI i) T := by
    refine loopUp (N := L.length) (P := fun i => (∀ j, j < i → L.getD j 0 ≠ s) → h_sortOfFirst_2 c (nI s) (nI i) T) ?_ ?_
    · intro hj
      refine s_sortOfFirst_2 c _ _ T ⟨fun _ => ?_, fun e => absurd (by rw [h.1]; exact Int32.le_refl _) e⟩
      rw [hc]
      refine ⟨_, rfl, fun hm => ?_, fun _ => rfl, rfl⟩
      obtain ⟨j, hj1, hj2⟩ := gD_ex hm
      exact absurd hj2 (hj j hj1)
    · intro i hi next hj
      refine s_sortOfFirst_2 c _ _ T ⟨fun e => absurd e (by rw [h.1]; exact nI_ge hi (by omega)), fun _ => ⟨vpI (by omega), ?_, ?_⟩⟩
      · intro g
        rw [nI_1]
        refine next (fun j hj1 => ?_)
        by_cases e : j = i
        · subst e
          intro q
          apply g
          rw [nI_clamp (by omega), h.2 j hi, q]
        · exact hj j (by omega)
      · intro g
        rw [hc]
        have hmem := gD_mem hi
        have hg : L.getD i 0 = s := by
          rw [nI_clamp (by omega), h.2 i hi] at g
          exact (x_inj (by have := hb _ hmem; omega) (by omega)).mp g
        refine ⟨_, rfl, fun _ => ?_, fun hn => absurd (hg ▸ hmem) hn, rfl⟩
        rw [idx_eq hi hg hj]
  exact key 0 (Nat.zero_le _) (fun j hj => by omega)
/-- the least member of a coset -/
def loR (mul : Nat → Nat → Nat) (s x : Nat) : Nat → Nat
  | 0 => x
  | i + 1 => if s.testBit i = true ∧ mul i x < loR mul s x i then mul i x else loR mul s x i
def lo_ (n : Nat) (mul : Nat → Nat → Nat) (s x : Nat) : Nat := loR mul s x n
theorem loR_lt {n : Nat} {mul : Nat → Nat → Nat} {inv : Nat → Nat} (hG : isG n mul inv) {s x : Nat} (hx : x < n) : ∀ i, i ≤ n → loR mul s x i < n := by
  intro i
  induction i with
  | zero => intro _; exact hx
  | succ i ih =>
    intro hi
    unfold loR
    split
    · exact hG.2.1 i x (by omega) hx
    · exact ih (by omega)
theorem lo_lt {n : Nat} {mul : Nat → Nat → Nat} {inv : Nat → Nat} (hG : isG n mul inv) {s x : Nat} (hx : x < n) : lo_ n mul s x < n := loR_lt hG hx n (Nat.le_refl _)
theorem ct_leastOf {T : tS} {n : Nat} {mul : Nat → Nat → Nat} {inv : Nat → Nat} (h : tTab T n mul inv) {s x : Nat} (hs : s < 2 ^ n) (hx : x < n) : tMi mX6_leastOf 1 (fun _ => [.int (nI s), .int (nI x)]) T (fun r T' => r = nI (lo_ n mul s x) ∧ T' = T) := by
  obtain ⟨hG, hn, hT, hmul, hinv⟩ := id h
  refine en_leastOf _ _ T _ (fun c hc => s_leastOf_0 c _ _ T ?_)
  refine loopUp (N := n) (P := fun i => h_leastOf_5 c (nI s) (nI x) (nI (loR mul s x i)) (nI i) T) ?_ ?_ 0 (Nat.zero_le _)
  · refine s_leastOf_5 c _ _ _ _ T ⟨fun _ => ?_, fun e => absurd (by rw [hT]; exact Int32.le_refl _) e⟩
    rw [hc]
    exact ⟨_, rfl, rfl, rfl⟩
  · intro i hi next
    have hl := loR_lt hG (s := s) hx i (by omega)
    have hm := hG.2.1 i x hi hx
    refine s_leastOf_5 c _ _ _ _ T ⟨fun e => absurd e (by rw [hT]; exact nI_ge hi (by omega)), fun _ => ⟨fun e => ?_, fun e => ⟨tBy_in h hi hx, ?_⟩⟩⟩
    · rw [zI_0, bit31 hs hn hi] at e
      refine s_leastOf_42 c _ _ _ _ T ?_
      rw [nI_1]
      rw [loR, if_neg (fun q => e q.1)] at next
      exact next
    · rw [zI_n0, bit31 hs hn hi] at e
      rw [tBy_at h hi hx, nI_leI (by omega) (by omega)]
      refine ⟨fun g => s_leastOf_42 c _ _ _ _ T ?_, fun g => ⟨tBy_in h hi hx, s_leastOf_42 c _ _ _ _ T ?_⟩⟩
      · rw [nI_1]
        rw [loR, if_neg (fun q => by omega)] at next
        exact next
      · rw [nI_1]
        rw [loR, if_pos ⟨e, by omega⟩] at next
        exact next
/-- how many below n -/
def cnt (p : Nat → Bool) : Nat → Nat
  | 0 => 0
  | n + 1 => cnt p n + (if p n = true then 1 else 0)
theorem cnt_le (p : Nat → Bool) (n : Nat) : cnt p n ≤ n := by
  induction n with
  | zero => exact Nat.le_refl _
  | succ n ih => unfold cnt; split <;> omega
/-- a coset, by its least member x, that all of t take to itself -/
def fxP (lo' : Nat → Nat) (n : Nat) (mul : Nat → Nat → Nat) (t x : Nat) : Bool := decide (lo' x = x ∧ ∀ k, k < n → t.testBit k = true → lo' (mul x k) = x)
theorem ct_fixedOf {T : tS} {n : Nat} {mul : Nat → Nat → Nat} {inv : Nat → Nat} (h : tTab T n mul inv) {i t : Nat} {lo' : Nat → Nat} (hi : i < 64) (ht : t < 2 ^ n) (hl : ∀ x, x < n → lo' x < n ∧ T.2.2.1 32 (24 * i + x) = nI (lo' x)) : tMi mX6_fixedOf 1 (fun _ => [.int (nI i), .int (nI t)]) T (fun r T' => r = nI (cnt (fxP lo' n mul t) n) ∧ T' = T) := by
  obtain ⟨hG, hn, hT, hmul, hinv⟩ := id h
  refine en_fixedOf _ _ T _ (fun c hc => s_fixedOf_0 c _ _ T ?_)
  refine loopUp (N := n) (P := fun x => h_fixedOf_5 c (nI i) (nI t) (nI (cnt (fxP lo' n mul t) x)) (nI x) T) ?_ ?_ 0 (Nat.zero_le _)
  · refine s_fixedOf_5 c _ _ _ _ T ⟨fun _ => ?_, fun e => absurd (by rw [hT]; exact Int32.le_refl _) e⟩
    rw [hc]
    exact ⟨_, rfl, rfl, rfl⟩
  · intro x hx next
    have fin : ∀ (b : Int32), (¬ b = 0 ↔ fxP lo' n mul t x = true) → h_fixedOf_100 c (nI i) (nI t) (nI (cnt (fxP lo' n mul t) x)) (nI x) b T := by
      intro b hb
      refine s_fixedOf_100 c _ _ _ _ _ T ?_
      rw [nI_1]
      unfold cnt at next
      by_cases hp : fxP lo' n mul t x = true
      · rw [zI_t (hb.mpr hp), show (1 : Int32) = nI 1 from rfl, nI_add]
        rw [if_pos hp] at next
        exact next
      · rw [zI_f (fun q => hp (hb.mp q)), show (0 : Int32) = nI 0 from rfl, nI_add]
        rw [if_neg hp] at next
        exact next
    have bad : fxP lo' n mul t x = false → ∀ k, k ≤ n → h_fixedOf_41 c (nI i) (nI t) (nI (cnt (fxP lo' n mul t) x)) (nI x) 0 (nI k) T := by
      intro hp k hk
      have f0 := fin 0 ⟨fun q => absurd rfl q, fun q => by rw [hp] at q; cases q⟩
      exact s_fixedOf_41 c _ _ _ _ _ _ T ⟨fun _ => f0, fun _ => ⟨fun _ => f0, fun e => absurd rfl e⟩⟩
    have good : lo' x = x → ∀ k, k ≤ n → (∀ j, j < k → t.testBit j = true → lo' (mul x j) = x) → h_fixedOf_41 c (nI i) (nI t) (nI (cnt (fxP lo' n mul t) x)) (nI x) 1 (nI k) T := by
      intro h0
      refine loopUp (N := n) (P := fun k => (∀ j, j < k → t.testBit j = true → lo' (mul x j) = x) → h_fixedOf_41 c (nI i) (nI t) (nI (cnt (fxP lo' n mul t) x)) (nI x) 1 (nI k) T) ?_ ?_
      · intro hj
        refine s_fixedOf_41 c _ _ _ _ _ _ T ⟨fun _ => fin 1 ⟨fun _ => ?_, fun _ => by decide⟩, fun e => absurd (by rw [hT]; exact Int32.le_refl _) e⟩
        exact decide_eq_true ⟨h0, hj⟩
      · intro k hk next2 hj
        have hxk := hG.2.1 x k hx hk
        refine s_fixedOf_41 c _ _ _ _ _ _ T ⟨fun e => absurd e (by rw [hT]; exact nI_ge hk (by omega)), fun _ => ⟨fun e => absurd e (by decide), fun _ => ⟨fun e => ?_, fun e => ?_⟩⟩⟩
        · rw [zI_0, bit31 ht hn hk] at e
          refine s_fixedOf_87 c _ _ _ _ _ T ?_
          rw [nI_1]
          refine next2 (fun j hj1 hj2 => ?_)
          by_cases ej : j = k
          · subst ej; exact absurd hj2 e
          · exact hj j (by omega) hj2
        · rw [zI_n0, bit31 ht hn hk] at e
          rw [tBy_at h hx hk, tIx i (mul x k), nI_clamp (show 24 * i + mul x k < 2 ^ 31 by omega), (hl _ hxk).2, x_inj (by have := (hl _ hxk).1; omega) (by omega)]
          refine ⟨tBy_in h hx hk, vpI (by omega), fun g => ?_, fun g => s_fixedOf_87 c _ _ _ _ _ T ?_⟩
          · rw [nI_1]
            refine bad ?_ _ (by omega)
            exact decide_eq_false (fun q => g (q.2 k hk e))
          · rw [nI_1]
            refine next2 (fun j hj1 hj2 => ?_)
            by_cases ej : j = k
            · subst ej; exact g
            · exact hj j (by omega) hj2
    refine s_fixedOf_5 c _ _ _ _ T ⟨fun e => absurd e (by rw [hT]; exact nI_ge hx (by omega)), fun _ => ?_⟩
    rw [tIx i x, nI_clamp (show 24 * i + x < 2 ^ 31 by omega), (hl x hx).2, x_inj (by have := (hl x hx).1; omega) (by omega)]
    refine ⟨vpI (by omega), fun g => ?_, fun g => ?_⟩
    · exact bad (decide_eq_false (fun q => g q.1)) 0 (Nat.zero_le _)
    · exact good g 0 (Nat.zero_le _) (fun j hj => by omega)
/-- greater, by size, then by bits -/
def gtS (a b : Nat) : Prop := pop 31 b < pop 31 a ∨ (pop 31 a = pop 31 b ∧ b < a)
/-- where x comes among the first i -/
def posS (x : Nat) (F : List Nat) : Nat → Nat
  | 0 => 0
  | k + 1 => if pop 31 x < pop 31 (F.getD k 0) ∨ (pop 31 (F.getD k 0) = pop 31 x ∧ x < F.getD k 0) then posS x F k else k + 1
theorem posS_succ (x : Nat) (F : List Nat) (k : Nat) : posS x F (k + 1) = if pop 31 x < pop 31 (F.getD k 0) ∨ (pop 31 (F.getD k 0) = pop 31 x ∧ x < F.getD k 0) then posS x F k else k + 1 := rfl
theorem posS_le (x : Nat) (F : List Nat) : ∀ k, posS x F k ≤ k := by
  intro k
  induction k with
  | zero => exact Nat.le_refl _
  | succ k ih => unfold posS; split <;> omega
def insS (x : Nat) (F : List Nat) : List Nat := F.take (posS x F F.length) ++ x :: F.drop (posS x F F.length)
theorem insS_len (x : Nat) (F : List Nat) : (insS x F).length = F.length + 1 := by
  have := posS_le x F F.length
  simp [insS]
  omega
theorem insS_mem {x y : Nat} {F : List Nat} : y ∈ insS x F ↔ y = x ∨ y ∈ F := by
  have h : y ∈ F ↔ y ∈ F.take (posS x F F.length) ∨ y ∈ F.drop (posS x F F.length) := by
    rw [← List.mem_append, List.take_append_drop]
  rw [h]
  simp [insS]
  grind
theorem ct_comesSort {T : tS} {F : List Nat} (h : tLi T 26 29 F) (hL : F.length < 64) (hb : ∀ y, y ∈ F → y < 2 ^ 31) {x : Nat} (hx : x < 2 ^ 31) : tMv mX6_comesSort 1 (fun _ => [.int (nI x)]) T (fun T' => tLi T' 26 29 (insS x F) ∧ tEq [26, 29] T T') := by
  refine en_comesSort _ T _ (fun c hc => s_comesSort_0 c _ T ?_)
  have key : ∀ i, i ≤ F.length → posS x F F.length = posS x F i → ∀ T1 : tS, tEq [29] T T1 → (∀ j, j < i → T1.2.2.1 29 j = nI (F.getD j 0)) → (∀ j, i ≤ j → j < F.length → T1.2.2.1 29 (j + 1) = nI (F.getD j 0)) → h_comesSort_5 c (nI x) (nI i) T1 := by
    intro i
    have fin : ∀ i, i ≤ F.length → posS x F F.length = i → ∀ T1 : tS, tEq [29] T T1 → (∀ j, j < i → T1.2.2.1 29 j = nI (F.getD j 0)) → (∀ j, i ≤ j → j < F.length → T1.2.2.1 29 (j + 1) = nI (F.getD j 0)) → h_comesSort_77 c (nI x) (nI i) T1 := by
      intro i hi hp T1 he h1 h2
      refine s_comesSort_77 c _ _ T1 ⟨vpI (by omega), ?_⟩
      rw [hc]
      refine ⟨rfl, ⟨?_, fun j hj => ?_⟩, ?_⟩
      · show va_up T1.1 26 (T1.1 26 + 1) 26 = _
        rw [insS_len, up_self, he.i 26 (by decide), h.1, nI_1]
      · show va_up T1.2.2.1 29 (va_up (T1.2.2.1 29) (nI i).toNatClampNeg (nI x)) 29 j = _
        rw [up_self, nI_clamp (by omega)]
        rw [insS_len] at hj
        have htl : (F.take i).length = i := by rw [List.length_take]; omega
        unfold insS
        rw [hp, List.getD_eq_getElem?_getD]
        by_cases e1 : j < i
        · rw [up_ne (show j ≠ i by omega), h1 j e1, List.getElem?_append_left (by omega), List.getElem?_take_of_lt e1, List.getD_eq_getElem?_getD]
        · by_cases e2 : j = i
          · subst e2
            rw [up_self, List.getElem?_append_right (by omega), htl, Nat.sub_self]
            rfl
          · rw [up_ne e2, List.getElem?_append_right (by omega), htl]
            obtain ⟨q, rfl⟩ : ∃ q, j = q + 1 := ⟨j - 1, by omega⟩
            rw [h2 q (by omega) (by omega), show q + 1 - i = (q - i) + 1 by omega, List.getElem?_cons_succ, List.getElem?_drop, show i + (q - i) = q by omega, List.getD_eq_getElem?_getD]
      · exact ((he.mono (by simp)).trans (tEq.sA T1 _ (by simp))).trans (tEq.sI _ _ (by simp))
    induction i with
    | zero =>
      intro hi hp T1 he h1 h2
      exact s_comesSort_5 c _ _ T1 ⟨fun _ => fin 0 hi hp T1 he h1 h2, fun e => absurd (Int32.le_refl _) e⟩
    | succ i ih =>
      intro hi hp T1 he h1 h2
      have hm : F.getD i 0 < 2 ^ 31 := hb _ (gD_mem (by omega))
      have hpx := pop_le 31 x
      have hpy := pop_le 31 (F.getD i 0)
      have e0 : nI (i + 1) - 1 = nI i := nI_pred i
      have e29 : T1.2.2.1 29 (nI i).toNatClampNeg = nI (F.getD i 0) := by rw [nI_clamp (by omega)]; exact h1 i (by omega)
      have shift : posS x F F.length = posS x F i → h_comesSort_57 c (nI x) (nI (i + 1)) T1 := by
        intro hp2
        refine s_comesSort_57 c _ _ T1 ?_
        rw [e0, e29, nI_clamp (by omega), pk_m1]
        refine ⟨vpI (by omega), vpI (by omega), ?_⟩
        refine ih (by omega) hp2 _ (he.trans (tEq.sA _ _ (by simp))) (fun j hj => ?_) (fun j hj1 hj2 => ?_)
        · show va_up T1.2.2.1 29 (va_up (T1.2.2.1 29) (i + 1) _) 29 j = _
          rw [up_self, up_ne (show j ≠ i + 1 by omega)]
          exact h1 j (by omega)
        · show va_up T1.2.2.1 29 (va_up (T1.2.2.1 29) (i + 1) _) 29 (j + 1) = _
          rw [up_self]
          by_cases ej : j = i
          · subst ej; rw [up_self]
          · rw [up_ne (show j + 1 ≠ i + 1 by omega)]; exact h2 j (by omega) hj2
      refine s_comesSort_5 c _ _ T1 ?_
      rw [e0, e29, x_ones hx, x_ones hm, nI_ltI (by omega) (by omega), x_inj (by omega) (by omega), nI_leI (by omega) (by omega)]
      rw [posS_succ] at hp
      refine ⟨fun e => absurd e (nI_nle (by omega) (by omega)), fun _ => ⟨vpI (by omega), fun g => shift ?_, fun g => ⟨vpI (by omega), fun g2 => ?_, fun g2 => ⟨vpI (by omega), fun g3 => ?_, fun g3 => shift ?_⟩⟩⟩⟩
      · rw [if_pos (Or.inl g)] at hp; exact hp
      · rw [if_neg (by omega)] at hp; exact fin (i + 1) hi hp T1 he h1 h2
      · rw [if_neg (by omega)] at hp; exact fin (i + 1) hi hp T1 he h1 h2
      · rw [if_pos (Or.inr ⟨g2, by omega⟩)] at hp; exact hp
  rw [h.1]
  exact key F.length (Nat.le_refl _) rfl T (tEq.refl _ _) (fun j hj => h.2 j hj) (fun j h1 h2 => by omega)
