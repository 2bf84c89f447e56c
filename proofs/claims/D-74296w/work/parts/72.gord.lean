/-! subgroups' inverses; sorts in order; marks on the diagonal, in the last row -/
theorem sg_inv {n : Nat} {mul : Nat → Nat → Nat} {inv : Nat → Nat} (hG : isG n mul inv) {s : Nat} (hs : sg n mul s) {k : Nat} (hk : k < n) (h : s.testBit k = true) : s.testBit (inv k) = true := by
  obtain ⟨h1, hl, has, hid, hiv⟩ := id hG
  obtain ⟨s1, s2, s3⟩ := hs
  have canc : ∀ x y, x < n → y < n → mul k x = mul k y → x = y := by
    intro x y hx hy e
    have e2 := congrArg (mul (inv k)) e
    rw [← has _ _ _ (hiv k hk).1 hk hx, ← has _ _ _ (hiv k hk).1 hk hy, (hiv k hk).2.2, (hid x hx).1, (hid y hy).1] at e2
    exact e2
  obtain ⟨x, hx, e⟩ := inj_surj (n := n) (g := fun x => if s.testBit x = true then mul k x else x) (fun x hx => by
    show (if s.testBit x = true then mul k x else x) < n
    split
    · exact hl k x hk hx
    · exact hx) (fun x y hx hy e => by
    have e : (if s.testBit x = true then mul k x else x) = (if s.testBit y = true then mul k y else y) := e
    by_cases qx : s.testBit x = true
    · rw [if_pos qx] at e
      by_cases qy : s.testBit y = true
      · rw [if_pos qy] at e; exact canc x y hx hy e
      · rw [if_neg qy] at e
        exact absurd (e ▸ s3 k x h qx) qy
    · rw [if_neg qx] at e
      by_cases qy : s.testBit y = true
      · rw [if_pos qy] at e
        exact absurd (e ▸ s3 k y h qy) qx
      · rw [if_neg qy] at e; exact e) 0 (by omega)
  have e : (if s.testBit x = true then mul k x else x) = 0 := e
  by_cases q : s.testBit x = true
  · rw [if_pos q] at e
    have : x = inv k := canc x _ hx (hiv k hk).1 (e.trans (hiv k hk).2.1.symm)
    rw [← this]
    exact q
  · rw [if_neg q] at e
    rw [e] at q
    exact absurd s2 q
theorem loR_le {mul : Nat → Nat → Nat} {s x : Nat} : ∀ i, loR mul s x i ≤ x ∧ ∀ h, h < i → s.testBit h = true → loR mul s x i ≤ mul h x := by
  intro i
  induction i with
  | zero => exact ⟨Nat.le_refl _, fun h hh => absurd hh (Nat.not_lt_zero _)⟩
  | succ i ih =>
    unfold loR
    split
    · rename_i g
      refine ⟨by have := ih.1; omega, fun h hh hb => ?_⟩
      by_cases e : h = i
      · subst e; exact Nat.le_refl _
      · have := ih.2 h (by omega) hb; omega
    · rename_i g
      refine ⟨ih.1, fun h hh hb => ?_⟩
      by_cases e : h = i
      · subst e
        apply Classical.byContradiction
        intro q
        exact g ⟨hb, by omega⟩
      · exact ih.2 h (by omega) hb
theorem lo_in {n : Nat} {mul : Nat → Nat → Nat} {inv : Nat → Nat} (hG : isG n mul inv) {s : Nat} (hs : sg n mul s) {k : Nat} (hk : k < n) (h : s.testBit k = true) : lo_ n mul s k = 0 := by
  have h1 := (loR_le (mul := mul) (s := s) (x := k) n).2 (inv k) (hG.2.2.2.2 k hk).1 (sg_inv hG hs hk h)
  rw [(hG.2.2.2.2 k hk).2.2] at h1
  unfold lo_
  omega
theorem cnt_pos {P : Nat → Bool} {n k : Nat} (hk : k < n) (h : P k = true) : 1 ≤ cnt P n := by
  induction n with
  | zero => omega
  | succ n ih =>
    unfold cnt
    by_cases e : k = n
    · subst e; rw [if_pos h]; omega
    · have := ih (by omega); omega
theorem mkC_diag {n : Nat} {mul : Nat → Nat → Nat} {inv : Nat → Nat} (hG : isG n mul inv) {s : Nat} (hs : sg n mul s) : 1 ≤ mkC n mul s s := by
  refine cnt_pos (k := 0) hG.1 ?_
  unfold fxP
  refine decide_eq_true ⟨?_, fun k hk hb => ?_⟩
  · have := (loR_le (mul := mul) (s := s) (x := 0) n).1
    unfold lo_
    omega
  · rw [(hG.2.2.2.1 k hk).1]
    exact lo_in hG hs hk hb
/-- all of a group -/
def allS (n : Nat) : Nat := 2 ^ n - 1
theorem allS_bit {n k : Nat} : (allS n).testBit k = true ↔ k < n := by
  unfold allS
  rw [Nat.testBit_two_pow_sub_one]
  simp
theorem sg_all {n : Nat} {mul : Nat → Nat → Nat} {inv : Nat → Nat} (hG : isG n mul inv) : sg n mul (allS n) := by
  refine ⟨by unfold allS; have := Nat.two_pow_pos n; omega, allS_bit.mpr hG.1, fun a b ha hb => ?_⟩
  rw [allS_bit] at *
  exact hG.2.1 a b ha hb
theorem pop_sub : ∀ (n a b : Nat), (∀ k, k < n → a.testBit k = true → b.testBit k = true) → pop n a ≤ pop n b := by
  intro n
  induction n with
  | zero => intro a b _; exact Nat.le_refl _
  | succ n ih =>
    intro a b h
    unfold pop
    have h1 := ih a b (fun k hk => h k (by omega))
    have h2 := h n (by omega)
    by_cases q : a.testBit n = true
    · rw [if_pos q, if_pos (h2 q)]; omega
    · rw [if_neg q]; omega
theorem mkC_all {n : Nat} {mul : Nat → Nat → Nat} {inv : Nat → Nat} (hG : isG n mul inv) (t : Nat) : mkC n mul (allS n) t = 1 := by
  have hlo : ∀ x, x < n → lo_ n mul (allS n) x = 0 := fun x hx => lo_in hG (sg_all hG) hx (allS_bit.mpr hx)
  have h0 : fxP (lo_ n mul (allS n)) n mul t 0 = true := by
    unfold fxP
    exact decide_eq_true ⟨hlo 0 hG.1, fun k hk _ => hlo _ (hG.2.1 0 k hG.1 hk)⟩
  have h1 : ∀ x, 0 < x → x < n → fxP (lo_ n mul (allS n)) n mul t x = false := fun x h1 h2 => by
    unfold fxP
    refine decide_eq_false (fun q => ?_)
    have := q.1
    rw [hlo x h2] at this
    omega
  have : ∀ m, 1 ≤ m → m ≤ n → cnt (fxP (lo_ n mul (allS n)) n mul t) m = 1 := by
    intro m
    induction m with
    | zero => intro h; omega
    | succ m ih =>
      intro _ hm
      unfold cnt
      rcases Nat.eq_zero_or_pos m with q | q
      · subst q; rw [h0]; rfl
      · rw [ih q (by omega), h1 m q (by omega)]; rfl
  exact this n hG.1 (Nat.le_refl _)
theorem gtS_trans {a b c : Nat} (h1 : gtS a b) (h2 : gtS b c) : gtS a c := by unfold gtS at *; omega
theorem gtS_tot {a b : Nat} (h : a ≠ b) : gtS a b ∨ gtS b a := by unfold gtS; omega
theorem gtS_irr {a : Nat} : ¬ gtS a a := by unfold gtS; omega
def srtS (F : List Nat) : Prop := ∀ i j, i < j → j < F.length → gtS (F.getD j 0) (F.getD i 0)
theorem posS_hi (x : Nat) (F : List Nat) : ∀ k j, posS x F k ≤ j → j < k → gtS (F.getD j 0) x := by
  intro k
  induction k with
  | zero => intro j _ h; omega
  | succ k ih =>
    intro j h1 h2
    rw [posS_succ] at h1
    split at h1
    · rename_i g
      by_cases e : j = k
      · subst e; exact g
      · exact ih j h1 (by omega)
    · omega
theorem posS_lo (x : Nat) (F : List Nat) : ∀ k, 0 < posS x F k → ¬ gtS (F.getD (posS x F k - 1) 0) x := by
  intro k
  induction k with
  | zero => intro h; exact absurd h (Nat.lt_irrefl _)
  | succ k ih =>
    rw [posS_succ]
    split
    · exact ih
    · rename_i g
      intro _
      exact g
theorem insS_at {x : Nat} {F : List Nat} {i : Nat} (hi : i < F.length + 1) : (insS x F).getD i 0 = if i < posS x F F.length then F.getD i 0 else if i = posS x F F.length then x else F.getD (i - 1) 0 := by
  have hp := posS_le x F F.length
  unfold insS
  simp only [List.getD_eq_getElem?_getD]
  by_cases h1 : i < posS x F F.length
  · rw [if_pos h1, List.getElem?_append_left (by simp; omega), List.getElem?_take_of_lt h1]
  · rw [if_neg h1, List.getElem?_append_right (by simp; omega)]
    have hl : (F.take (posS x F F.length)).length = posS x F F.length := by simp; omega
    rw [hl]
    by_cases h2 : i = posS x F F.length
    · rw [if_pos h2, h2, Nat.sub_self]; rfl
    · rw [if_neg h2, show i - posS x F F.length = (i - posS x F F.length - 1) + 1 by omega, List.getElem?_cons_succ, List.getElem?_drop, show posS x F F.length + (i - posS x F F.length - 1) = i - 1 by omega]
theorem insS_srt {x : Nat} {F : List Nat} (hF : srtS F) (hx : x ∉ F) : srtS (insS x F) := by
  have hp := posS_le x F F.length
  have lo : ∀ k, k < posS x F F.length → gtS x (F.getD k 0) := by
    intro k hk
    have h1 := posS_lo x F F.length (by omega)
    have hne : x ≠ F.getD k 0 := fun e => hx (e ▸ gD_mem (by omega))
    rcases gtS_tot hne with q | q
    · exact q
    · exfalso
      by_cases e : k = posS x F F.length - 1
      · rw [← e] at h1; exact h1 q
      · exact h1 (gtS_trans (hF k _ (by omega) (by omega)) q)
  have hi : ∀ k, posS x F F.length ≤ k → k < F.length → gtS (F.getD k 0) x := fun k h1 h2 => posS_hi x F F.length k h1 h2
  intro i j hij hj
  rw [insS_len] at hj
  rw [insS_at (by omega), insS_at (by omega)]
  by_cases a1 : j < posS x F F.length
  · rw [if_pos a1, if_pos (by omega)]; exact hF i j hij (by omega)
  · rw [if_neg a1]
    by_cases a2 : j = posS x F F.length
    · rw [if_pos a2, if_pos (by omega)]; exact lo i (by omega)
    · rw [if_neg a2]
      by_cases b1 : i < posS x F F.length
      · rw [if_pos b1]; exact hF i (j - 1) (by omega) (by omega)
      · rw [if_neg b1]
        by_cases b2 : i = posS x F F.length
        · rw [if_pos b2]; exact hi _ (by omega) (by omega)
        · rw [if_neg b2]; exact hF _ _ (by omega) (by omega)
theorem fstR_srt {n : Nat} {mul : Nat → Nat → Nat} {inv : Nat → Nat} {L : List Nat} (hL : L.Nodup) : ∀ k, k ≤ L.length → srtS (fstR n mul inv L k) := by
  intro k
  induction k with
  | zero => intro _ i j h1 h2; exact absurd h2 (Nat.not_lt_zero _)
  | succ k ih =>
    intro hk
    unfold fstR
    split
    · refine insS_srt (ih (by omega)) (fun hm => ?_)
      obtain ⟨j, j1, j2, -⟩ := (fstR_mem k).mp hm
      rw [gD_at (by omega), gD_at (by omega)] at j2
      have := (List.getElem_inj hL).mp j2
      omega
    · exact ih (by omega)
theorem ft_all {n : Nat} {mul : Nat → Nat → Nat} {inv : Nat → Nat} (hG : isG n mul inv) : ft n mul inv (allS n) = allS n := by
  obtain ⟨g, hg, e⟩ := ft_att (inv := inv) hG (sg_all hG).1
  rw [e]
  refine bits_ext (fun k => ?_)
  rw [allS_bit, tn_cj]
  constructor
  · rintro ⟨x, hx, -, rfl⟩; exact cj_lt hG hx hg
  · intro hk
    obtain ⟨x, hx, e⟩ := inj_surj (n := n) (g := fun x => cj mul inv x g) (fun x hx => cj_lt hG hx hg) (fun x y hx hy e => by
      have hig := (hG.2.2.2.2 g hg).1
      have e1 : cj mul inv (cj mul inv x g) (inv g) = cj mul inv (cj mul inv y g) (inv g) := congrArg (fun z => cj mul inv z (inv g)) e
      rw [cj_cj hG hx hg hig, cj_cj hG hy hg hig, (hG.2.2.2.2 g hg).2.1, cj_0 hG hx, cj_0 hG hy] at e1
      exact e1) k hk
    exact ⟨x, hx, allS_bit.mpr hx, e⟩
/-- the last sort is all of the group -/
theorem fst_last {n : Nat} {mul : Nat → Nat → Nat} {inv : Nat → Nat} (hG : isG n mul inv) (hn : n ≤ 24) (hF : gFew n mul) : 1 ≤ (fstL n mul inv (subsL n mul)).length ∧ (fstL n mul inv (subsL n mul)).getD ((fstL n mul inv (subsL n mul)).length - 1) 0 = allS n := by
  obtain ⟨sl, -⟩ := subsL_ok hG hF
  have hm : allS n ∈ fstL n mul inv (subsL n mul) := by
    have := fst_in hG hF (sg_all hG)
    rw [ft_all hG] at this
    exact this
  have hs := fstR_srt (n := n) (mul := mul) (inv := inv) sl.1 _ (Nat.le_refl _)
  obtain ⟨i, hi, e⟩ := gD_ex hm
  refine ⟨by omega, ?_⟩
  by_cases q : i = (fstL n mul inv (subsL n mul)).length - 1
  · rw [← q]; exact e
  · have h1 := hs i _ (show i < (fstL n mul inv (subsL n mul)).length - 1 by omega) (show _ < (fstL n mul inv (subsL n mul)).length by omega)
    have h2 : (fstL n mul inv (subsL n mul)).getD ((fstL n mul inv (subsL n mul)).length - 1) 0 ∈ fstL n mul inv (subsL n mul) := gD_mem (by omega)
    have h3 := (sl.2.1 _ (fstL_mem.mp h2).1).1
    have h4 : gtS ((fstL n mul inv (subsL n mul)).getD ((fstL n mul inv (subsL n mul)).length - 1) 0) (allS n) := by rw [← e]; exact h1
    generalize (fstL n mul inv (subsL n mul)).getD ((fstL n mul inv (subsL n mul)).length - 1) 0 = y at h3 h4
    have h5 : pop 31 y ≤ pop 31 (allS n) := pop_sub 31 y (allS n) (fun k _ hb => allS_bit.mpr (bit_lt h3 hb))
    have h6 : y ≤ allS n := by unfold allS; omega
    unfold gtS at h4
    omega
theorem tG_mk {T : tS} {p q : Nat} {mv : Nat → List Nat} (h : tG T p q mv) : tMk T (gS p q mv) (gMk p q mv) ∧ ∀ j, j < gS p q mv → gMk p q mv (gS p q mv - 1) j = 1 := by
  obtain ⟨a1, a2, b1, b2, b3, b4, b5, b6, b7, b8, b9, b10⟩ := h
  have hG := b1.1
  have hn := b1.2.1
  obtain ⟨sl, -⟩ := subsL_ok hG b2
  obtain ⟨l1, l2⟩ := fst_last hG hn b2
  have hS : (gFst p q mv).length ≤ 60 := Nat.le_trans (fstR_len _ _ _ _ _) (sl.len b2)
  refine ⟨⟨l1, hS, b6.1, fun i j hi hj => b10 i j hi hj, fun j hj => ⟨?_, ?_⟩⟩, fun j hj => ?_⟩
  · exact mkC_diag hG (sl.2.1 _ (fstL_mem.mp (gD_mem hj)).1)
  · have := cnt_le (fxP (lo_ (gN p q mv) (gMul p q mv) ((gFst p q mv).getD j 0)) (gN p q mv) (gMul p q mv) ((gFst p q mv).getD j 0)) (gN p q mv)
    unfold gMk mkC
    omega
  · unfold gMk gS
    have e : (gFst p q mv).getD ((gFst p q mv).length - 1) 0 = allS (gN p q mv) := l2
    rw [e]
    exact mkC_all hG _
