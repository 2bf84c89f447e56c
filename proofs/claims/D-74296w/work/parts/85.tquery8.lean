/-! the twin answers: how often a member is done until nothing is moved; about; sorts; within -/
def pwG (mul : Nat → Nat → Nat) (m : Nat) : Nat → Nat
  | 0 => 0
  | k + 1 => mul (pwG mul m k) m
theorem pwG_lt {n : Nat} {mul : Nat → Nat → Nat} {inv : Nat → Nat} (hG : isG n mul inv) {m : Nat} (hm : m < n) : ∀ k, pwG mul m k < n := by
  intro k
  induction k with
  | zero => exact hG.1
  | succ k ih => exact hG.2.1 _ _ ih hm
theorem pwG_1 {n : Nat} {mul : Nat → Nat → Nat} {inv : Nat → Nat} (hG : isG n mul inv) {m : Nat} (hm : m < n) : pwG mul m 1 = m := (hG.2.2.2.1 m hm).1
theorem pwG_add {n : Nat} {mul : Nat → Nat → Nat} {inv : Nat → Nat} (hG : isG n mul inv) {m : Nat} (hm : m < n) (a : Nat) : ∀ b, pwG mul m (a + b) = mul (pwG mul m a) (pwG mul m b) := by
  intro b
  induction b with
  | zero => exact ((hG.2.2.2.1 _ (pwG_lt hG hm a)).2).symm
  | succ b ih =>
    show mul (pwG mul m (a + b)) m = mul _ (mul (pwG mul m b) m)
    rw [ih, hG.2.2.1 _ _ _ (pwG_lt hG hm a) (pwG_lt hG hm b) hm]
theorem g_canc0 {n : Nat} {mul : Nat → Nat → Nat} {inv : Nat → Nat} (hG : isG n mul inv) {a x : Nat} (ha : a < n) (hx : x < n) (e : mul a x = a) : x = 0 := by
  obtain ⟨h0, hm, has, hid, hin⟩ := hG
  have := has _ _ _ (hin a ha).1 ha hx
  rw [e, (hin a ha).2.2, (hid x hx).1] at this
  exact this
theorem pwG_ex {n : Nat} {mul : Nat → Nat → Nat} {inv : Nat → Nat} (hG : isG n mul inv) {m : Nat} (hm : m < n) : ∃ k, 1 ≤ k ∧ k ≤ n ∧ pwG mul m k = 0 := by
  refine Classical.byContradiction fun hno => ?_
  have hinj : ∀ i j, i < j → j ≤ n → pwG mul m i ≠ pwG mul m j := fun i j hij hj e => hno ⟨j - i, by omega, by omega, by
    refine g_canc0 hG (pwG_lt hG hm i) (pwG_lt hG hm _) ?_
    rw [← pwG_add hG hm, show i + (j - i) = j by omega, e]⟩
  have nd : ((List.range (n + 1)).map (pwG mul m)).Nodup := by
    rw [List.nodup_iff_pairwise_ne, List.pairwise_map]
    refine List.Pairwise.imp_of_mem ?_ (List.nodup_range (n := n + 1))
    intro a b ha hb hab
    have la := List.mem_range.mp ha
    have lb := List.mem_range.mp hb
    rcases Nat.lt_or_gt_of_ne hab with q | q
    · exact hinj a b q (by omega)
    · exact (hinj b a q (by omega)).symm
  have := nodup_le nd (M := List.range n) (fun x hx => by
    obtain ⟨z, hz, e⟩ := List.mem_map.mp hx
    exact List.mem_range.mpr (e ▸ pwG_lt hG hm z))
  simp at this
  omega
/-- the least power that moves nothing -/
def isOrd (mul : Nat → Nat → Nat) (m k : Nat) : Prop := 1 ≤ k ∧ pwG mul m k = 0 ∧ ∀ j, 1 ≤ j → j < k → pwG mul m j ≠ 0
def ordR (mul : Nat → Nat → Nat) (m : Nat) : Nat → Nat → Nat
  | 0, k => k
  | f + 1, k => if pwG mul m k = 0 then k else ordR mul m f (k + 1)
def ordG (n : Nat) (mul : Nat → Nat → Nat) (m : Nat) : Nat := ordR mul m n 1
theorem ordR_ok {mul : Nat → Nat → Nat} {m : Nat} : ∀ f k, 1 ≤ k → (∀ j, 1 ≤ j → j < k → pwG mul m j ≠ 0) → (∃ e, k ≤ e ∧ e ≤ k + f ∧ pwG mul m e = 0) → isOrd mul m (ordR mul m f k) ∧ ordR mul m f k ≤ k + f := by
  intro f
  induction f with
  | zero =>
    rintro k h1 h2 ⟨e, e1, e2, e3⟩
    have : e = k := by omega
    subst this
    exact ⟨⟨h1, e3, h2⟩, Nat.le_refl _⟩
  | succ f ih =>
    rintro k h1 h2 ⟨e, e1, e2, e3⟩
    unfold ordR
    by_cases q : pwG mul m k = 0
    · rw [if_pos q]; exact ⟨⟨h1, q, h2⟩, by omega⟩
    · rw [if_neg q]
      obtain ⟨r1, r2⟩ := ih (k + 1) (by omega) (fun j j1 j2 => by
        by_cases z : j = k
        · subst z; exact q
        · exact h2 j j1 (by omega)) ⟨e, by
          have : e ≠ k := fun z => q (z ▸ e3)
          omega, by omega, e3⟩
      exact ⟨r1, by omega⟩
theorem ordG_ok {n : Nat} {mul : Nat → Nat → Nat} {inv : Nat → Nat} (hG : isG n mul inv) {m : Nat} (hm : m < n) : isOrd mul m (ordG n mul m) ∧ ordG n mul m ≤ n := by
  obtain ⟨k, k1, k2, k3⟩ := pwG_ex hG hm
  obtain ⟨r1, r2⟩ := ordR_ok (mul := mul) (m := m) n 1 (Nat.le_refl _) (fun j j1 j2 => absurd j1 (by omega)) ⟨k, k1, by omega, k3⟩
  refine ⟨r1, Nat.not_lt.mp fun q => ?_⟩
  exact r1.2.2 k k1 (by unfold ordG at q; omega) k3
theorem isOrd_uniq {mul : Nat → Nat → Nat} {m k k' : Nat} (h : isOrd mul m k) (h' : isOrd mul m k') : k = k' := by
  rcases Nat.lt_trichotomy k k' with q | q | q
  · exact absurd h.2.1 (h'.2.2 k h.1 q)
  · exact q
  · exact absurd h'.2.1 (h.2.2 k' h'.1 q)
theorem ct_timesOf {T0 : tS} {n : Nat} {mul : Nat → Nat → Nat} {inv : Nat → Nat} (h : tTab T0 n mul inv) {m : Nat} (hm : m < n) : tMi mX6_timesOf 1 (fun _ => [.int (nI m)]) T0 (fun r T' => r = nI (ordG n mul m) ∧ T' = T0) := by
  obtain ⟨⟨o1, o2, o3⟩, o4⟩ := ordG_ok h.1 hm
  have hG := h.1
  have hn := h.2.1
  generalize ordG n mul m = N at o1 o2 o3 o4
  refine en_timesOf _ T0 _ (fun c hc => s_timesOf_0 c _ T0 ?_)
  have key : h_timesOf_4 c (nI m) (nI (0 + 1)) (nI (pwG mul m (0 + 1))) T0 := by
    refine loopUp (N := N - 1) (P := fun i => h_timesOf_4 c (nI m) (nI (i + 1)) (nI (pwG mul m (i + 1))) T0) ?_ ?_ 0 (Nat.zero_le _)
    · rw [show N - 1 + 1 = N by omega, o2]
      refine s_timesOf_4 c _ _ _ T0 ⟨fun _ => ?_, fun e => absurd rfl e⟩
      rw [hc]
      exact ⟨_, rfl, rfl, rfl⟩
    · intro i hi nx
      have l := pwG_lt hG hm (i + 1)
      refine s_timesOf_4 c _ _ _ T0 ⟨fun e => ?_, fun _ => ⟨tBy_in h l hm, ?_⟩⟩
      · exact absurd ((x_inj (b := 0) (by omega) (by omega)).mp e) (o3 (i + 1) (by omega) (by omega))
      · rw [tBy_at h l hm, nI_1]
        exact nx
  rw [Nat.zero_add, pwG_1 hG hm] at key
  exact key
theorem ct_order {T0 : tS} {n : Nat} {mul : Nat → Nat → Nat} {inv : Nat → Nat} (h : tTab T0 n mul inv) (a : Int32) : tMi mX6_order 2 (fun _ => [.int a]) T0 (fun r T' => ((∃ m, m < n ∧ a = nI m ∧ r = nI (ordG n mul m)) ∨ (¬ (∃ m, m < n ∧ a = nI m) ∧ r = -1)) ∧ T' = T0) := by
  have hn := h.2.1
  refine en_order _ T0 _ (fun c hc => s_order_0 c _ T0 ?_)
  rw [h.2.2.1]
  refine ⟨fun e => ?_, fun e => ?_⟩
  · rw [zI_0, zRng (by omega)] at e
    rw [hc]
    exact ⟨_, rfl, Or.inr ⟨e, rfl⟩, rfl⟩
  · rw [zI_n0, zRng (by omega)] at e
    obtain ⟨m, hm, rfl⟩ := e
    refine ⟨_, ct_timesOf h hm, ?_⟩
    rintro r T9 ⟨rfl, rfl⟩
    rw [hc]
    exact ⟨_, rfl, Or.inl ⟨m, hm, rfl, rfl⟩, rfl⟩
theorem cnt_t {p : Nat → Bool} {k : Nat} (h : p k = true) : cnt p (k + 1) = cnt p k + 1 := by
  show _ + (if _ then 1 else 0) = _
  rw [if_pos h]
theorem cnt_f {p : Nat → Bool} {k : Nat} (h : ¬ p k = true) : cnt p (k + 1) = cnt p k := by
  show _ + (if _ then 1 else 0) = _
  rw [if_neg h]
  rfl
theorem zRng1 {x : Int32} : ((1 : Int64) ≤ x.toInt64 ∧ x.toInt64 ≤ (24 : Int64)) ↔ ∃ k, 1 ≤ k ∧ k ≤ 24 ∧ x = nI k := by
  have h1 : (1 : Int64).toInt = 1 := by decide
  have h24 : (24 : Int64).toInt = 24 := by decide
  rw [Int64.le_iff_toInt_le, Int64.le_iff_toInt_le, h1, h24, Int32.toInt_toInt64]
  constructor
  · rintro ⟨h1, h2⟩
    obtain ⟨j, j1, rfl⟩ := nI_of (x := x) (by rw [Int32.lt_iff_toInt_lt]; have : (0 : Int32).toInt = 0 := by decide
                                              omega)
    rw [nI_toInt j1] at h1 h2
    exact ⟨j, by omega, by omega, rfl⟩
  · rintro ⟨k, h1, h2, rfl⟩
    rw [nI_toInt (by omega)]
    omega
theorem ct_orders {T0 : tS} {n : Nat} {mul : Nat → Nat → Nat} {inv : Nat → Nat} (h : tTab T0 n mul inv) (a : Int32) : tMi mX6_orders 2 (fun _ => [.int a]) T0 (fun r T' => ((∃ k, 1 ≤ k ∧ k ≤ 24 ∧ a = nI k ∧ r = nI (cnt (fun m => ordG n mul m == k) n)) ∨ (¬ (∃ k, 1 ≤ k ∧ k ≤ 24 ∧ a = nI k) ∧ r = -1)) ∧ T' = T0) := by
  have hn := h.2.1
  refine en_orders _ T0 _ (fun c hc => s_orders_0 c _ T0 ⟨fun e => ?_, fun e => ?_⟩)
  · rw [zI_n0, zRng1] at e
    obtain ⟨k, k1, k2, rfl⟩ := e
    refine loopUp (N := n) (P := fun i => h_orders_18 c (nI k) (nI (cnt (fun m => ordG n mul m == k) i)) (nI i) T0) ?_ ?_ 0 (Nat.zero_le _)
    · refine s_orders_18 c _ _ _ T0 ⟨fun _ => ?_, fun e => absurd (by rw [h.2.2.1]; exact Int32.le_refl _) e⟩
      rw [hc]
      exact ⟨_, rfl, Or.inl ⟨k, k1, k2, rfl, rfl⟩, rfl⟩
    · intro i hi nx
      refine s_orders_18 c _ _ _ T0 ⟨fun e => absurd e (by rw [h.2.2.1]; exact nI_ge hi (by omega)), fun _ => ⟨_, ct_timesOf h hi, ?_⟩⟩
      rintro r T5 ⟨rfl, rfl⟩
      have hl := (ordG_ok h.1 hi).2
      rw [x_inj (by omega) (by omega), nI_1]
      refine ⟨fun e => ?_, fun e => ?_⟩
      · rw [zI_f (by decide), show (0 : Int32) = nI 0 from rfl, nI_add]
        rw [cnt_f (by simpa using e)] at nx
        exact nx
      · rw [zI_t (by decide), show (1 : Int32) = nI 1 from rfl, nI_add]
        rw [cnt_t (by simpa using e)] at nx
        exact nx
  · rw [zI_0, zRng1] at e
    rw [hc]
    exact ⟨_, rfl, Or.inr ⟨e, rfl⟩, rfl⟩
noncomputable def bI (p : Prop) : Int32 := @ite _ p (Classical.propDecidable p) 1 0
theorem bI_t {p : Prop} (h : p) : bI p = 1 := by unfold bI; rw [if_pos h]
theorem bI_f {p : Prop} (h : ¬ p) : bI p = 0 := by unfold bI; rw [if_neg h]
theorem bI_of {p : Prop} {r : Int32} (h : (p ∧ r = 1) ∨ (¬ p ∧ r = 0)) : zI (¬ r = 0) = bI p := by
  rcases h with ⟨h1, rfl⟩ | ⟨h1, rfl⟩
  · rw [bI_t h1]; decide
  · rw [bI_f h1]; decide
def aboutV (T : tS) (q a : Int32) : Int32 := if a = 0 then T.1 16 else if a = 1 then T.1 17 else if a = 2 then T.1 18 else if a = 3 then T.1 20 else if a = 4 then T.1 25 else if a = 5 then T.1 26 else if a = 6 then q else if a = 7 then T.1 60 else if a = 8 then T.1 1 else -1
theorem nI_out {x : Int32} {N k : Nat} (hk : k ≤ N) (hN : N < 2 ^ 31) (h : x.toInt < 0 ∨ (N : Int) < x.toInt) : ¬ x = nI k := fun e => by
  rw [e, nI_toInt (by omega)] at h
  omega
theorem ct_about {T0 : tS} {n : Nat} {mul : Nat → Nat → Nat} {inv : Nat → Nat} (h : tTab T0 n mul inv) (a : Int32) : tMi mX6_about 2 (fun _ => [.int a]) T0 (fun r T' => r = aboutV T0 (bI (isAlk n mul (2 ^ n - 1))) a ∧ T' = T0) := by
  have hn := h.2.1
  refine en_about _ T0 _ (fun c hc => s_about_0 c _ T0 ?_)
  rw [hc]
  refine ⟨fun e => ⟨_, rfl, ?_, rfl⟩, ?_⟩
  · have q : ∀ k, k ≤ 8 → ¬ a = nI k := fun k hk => nI_out hk (by omega) e
    unfold aboutV
    rw [if_neg (show ¬ a = 0 from q 0 (by omega)), if_neg (show ¬ a = 1 from q 1 (by omega)), if_neg (show ¬ a = 2 from q 2 (by omega)), if_neg (show ¬ a = 3 from q 3 (by omega)), if_neg (show ¬ a = 4 from q 4 (by omega)), if_neg (show ¬ a = 5 from q 5 (by omega)), if_neg (show ¬ a = 6 from q 6 (by omega)), if_neg (show ¬ a = 7 from q 7 (by omega)), if_neg (show ¬ a = 8 from q 8 (by omega))]
  · refine ⟨?_, ?_, ?_, ?_, ?_, ?_, ?_, ?_, ?_⟩ <;> intro e <;> subst e
    · exact ⟨_, rfl, rfl, rfl⟩
    · exact ⟨_, rfl, rfl, rfl⟩
    · exact ⟨_, rfl, rfl, rfl⟩
    · exact ⟨_, rfl, rfl, rfl⟩
    · exact ⟨_, rfl, rfl, rfl⟩
    · exact ⟨_, rfl, rfl, rfl⟩
    · have e : ((1 : Int32) <<< ((T0.1 20) &&& 31)) - (1 : Int32) = nI (2 ^ n - 1) := by
        rw [h.2.2.1, x_shl1 (by omega), show 2 ^ n = (2 ^ n - 1) + 1 by have := Nat.pow_pos (n := n) (show 0 < 2 by omega); omega, nI_pred]
        rfl
      rw [e]
      refine ⟨_, ct_areAlike h (by have := Nat.pow_pos (n := n) (show 0 < 2 by omega); omega), ?_⟩
      rintro r T6 ⟨q, rfl⟩
      exact ⟨_, rfl, bI_of q, rfl⟩
    · exact ⟨_, rfl, rfl, rfl⟩
    · exact ⟨_, rfl, rfl, rfl⟩
