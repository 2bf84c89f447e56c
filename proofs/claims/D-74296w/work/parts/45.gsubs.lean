/-! subgroups in the order in which they are found; first ones; sorts -/
theorem nodup_le {α : Type} : ∀ {L M : List α}, L.Nodup → (∀ x, x ∈ L → x ∈ M) → L.length ≤ M.length := by
  intro L
  induction L with
  | nil => intro M _ _; exact Nat.zero_le _
  | cons a L ih =>
    intro M hn hs
    obtain ⟨ha, hn'⟩ := List.nodup_cons.mp hn
    obtain ⟨s, t, rfl⟩ := List.append_of_mem (hs a List.mem_cons_self)
    have h1 : L.length ≤ (s ++ t).length := ih hn' (fun x hx => by
      have h2 := hs x (List.mem_cons_of_mem _ hx)
      have h3 : x ≠ a := fun e => ha (e ▸ hx)
      simp only [List.mem_append, List.mem_cons] at h2 ⊢
      rcases h2 with h | h | h
      · exact Or.inl h
      · exact absurd h h3
      · exact Or.inr h)
    simp only [List.length_append, List.length_cons] at h1 ⊢
    omega
/-- a subgroup -/
def sg (n : Nat) (mul : Nat → Nat → Nat) (s : Nat) : Prop := s < 2 ^ n ∧ s.testBit 0 = true ∧ clD mul s
/-- there are few subgroups -/
def gFew (n : Nat) (mul : Nat → Nat → Nat) : Prop := ∀ L : List Nat, L.Nodup → (∀ s, s ∈ L → sg n mul s) → L.length ≤ 60
theorem sg_cl {n : Nat} {mul : Nat → Nat → Nat} {inv : Nat → Nat} (hG : isG n mul inv) {s : Nat} (hs : s < 2 ^ n) : sg n mul (cl n mul s) := ⟨cl_lt, cl_one hG.1 hs, cl_clD hG.2.1⟩
theorem cl_self {n : Nat} {mul : Nat → Nat → Nat} {inv : Nat → Nat} (hG : isG n mul inv) {s : Nat} (h : sg n mul s) : cl n mul s = s := by
  have h1 : s ||| 1 = s := bits_ext fun k => by
    rw [Nat.testBit_or, Bool.or_eq_true]
    constructor
    · rintro (q | q)
      · exact q
      · have : k = 0 := by
          rw [show (1 : Nat) = 2 ^ 0 from rfl, Nat.testBit_two_pow] at q
          have := of_decide_eq_true q
          omega
        subst this
        exact h.2.1
    · exact Or.inl
  exact (cl_uniq h.1 (by rw [h1]; exact ss_rfl s) h.2.2 (by have := cl_ge (mul := mul) hG.1 h.1; rw [h1] at this; exact this)).symm
theorem one_lt {n : Nat} (h : 1 ≤ n) : 1 < 2 ^ n := by have := pow_lt (x := 0) (n := n) (by omega); simpa using this
theorem bit_one {k : Nat} : (1 : Nat).testBit k = true ↔ k = 0 := by
  rw [show (1 : Nat) = 2 ^ 0 from rfl, Nat.testBit_two_pow]
  simp [eq_comm]
theorem sg_one {n : Nat} {mul : Nat → Nat → Nat} {inv : Nat → Nat} (hG : isG n mul inv) : sg n mul 1 := by
  refine ⟨one_lt hG.1, bit_one.mpr rfl, fun a b ha hb => ?_⟩
  rw [bit_one] at ha hb
  subst ha; subst hb
  rw [(hG.2.2.2.1 0 (by have := hG.1; omega)).1]
  exact bit_one.mpr rfl
noncomputable def gsub (n : Nat) (mul : Nat → Nat → Nat) (L : List Nat) (s g : Nat) : List Nat := if cl n mul (s ||| 2 ^ g) ∈ L then L else L ++ [cl n mul (s ||| 2 ^ g)]
noncomputable def gsubR (n : Nat) (mul : Nat → Nat → Nat) (L : List Nat) (s : Nat) : Nat → List Nat
  | 0 => L
  | i + 1 => gsub n mul (gsubR n mul L s i) s (i + 1)
noncomputable def gsubs (n : Nat) (mul : Nat → Nat → Nat) : Nat → List Nat → Nat → List Nat
  | 0, L, _ => L
  | f + 1, L, k => if k < L.length then gsubs n mul f (gsubR n mul L (L.getD k 0) (n - 1)) (k + 1) else L
noncomputable def subsL (n : Nat) (mul : Nat → Nat → Nat) : List Nat := gsubs n mul 129 [1] 0
/-- a row of subgroups, each once, the trivial one among them -/
def sgL (n : Nat) (mul : Nat → Nat → Nat) (L : List Nat) : Prop := L.Nodup ∧ (∀ s, s ∈ L → sg n mul s) ∧ 1 ∈ L
theorem sgL.len {n : Nat} {mul : Nat → Nat → Nat} {L : List Nat} (h : sgL n mul L) (hF : gFew n mul) : L.length ≤ 60 := hF L h.1 h.2.1
theorem gsub_ok {n : Nat} {mul : Nat → Nat → Nat} {inv : Nat → Nat} (hG : isG n mul inv) {L : List Nat} (h : sgL n mul L) {s g : Nat} (hs : s < 2 ^ n) (hg : g < n) : sgL n mul (gsub n mul L s g) ∧ cl n mul (s ||| 2 ^ g) ∈ gsub n mul L s g ∧ ∃ M, gsub n mul L s g = L ++ M := by
  unfold gsub
  split
  · rename_i hm
    exact ⟨h, hm, [], by simp⟩
  · rename_i hm
    refine ⟨⟨?_, ?_, ?_⟩, by simp, _, rfl⟩
    · rw [List.nodup_append]
      refine ⟨h.1, by simp, ?_⟩
      intro a ha b hb
      simp only [List.mem_singleton] at hb
      subst hb
      exact fun e => hm (e ▸ ha)
    · intro x hx
      rcases List.mem_append.mp hx with q | q
      · exact h.2.1 x q
      · rw [List.mem_singleton] at q
        subst q
        exact sg_cl hG (or_lt hs (pow_lt hg))
    · exact List.mem_append_left _ h.2.2
theorem gsubR_ok {n : Nat} {mul : Nat → Nat → Nat} {inv : Nat → Nat} (hG : isG n mul inv) {L : List Nat} (h : sgL n mul L) {s : Nat} (hs : s < 2 ^ n) : ∀ i, i < n → sgL n mul (gsubR n mul L s i) ∧ (∀ g, 1 ≤ g → g ≤ i → cl n mul (s ||| 2 ^ g) ∈ gsubR n mul L s i) ∧ ∃ M, gsubR n mul L s i = L ++ M := by
  intro i
  induction i with
  | zero => intro _; exact ⟨h, fun g h1 h2 => by omega, [], by simp [gsubR]⟩
  | succ i ih =>
    intro hi
    obtain ⟨a1, a2, M, a3⟩ := ih (by omega)
    obtain ⟨b1, b2, M2, b3⟩ := gsub_ok hG a1 hs hi
    refine ⟨b1, fun g h1 h2 => ?_, M ++ M2, ?_⟩
    · by_cases e : g = i + 1
      · subst e; exact b2
      · have := a2 g h1 (by omega)
        show _ ∈ gsub n mul (gsubR n mul L s i) s (i + 1)
        rw [b3]
        exact List.mem_append_left _ this
    · show gsub n mul (gsubR n mul L s i) s (i + 1) = _
      rw [b3, a3, List.append_assoc]
theorem gD_app {L M : List Nat} {k : Nat} (h : k < L.length) : (L ++ M).getD k 0 = L.getD k 0 := by
  rw [List.getD_eq_getElem?_getD, List.getD_eq_getElem?_getD, List.getElem?_append_left h]
theorem gsubs_ok {n : Nat} {mul : Nat → Nat → Nat} {inv : Nat → Nat} (hG : isG n mul inv) (hF : gFew n mul) : ∀ f L k, sgL n mul L → k ≤ L.length → 61 ≤ f + k → (∀ j g, j < k → 1 ≤ g → g < n → cl n mul (L.getD j 0 ||| 2 ^ g) ∈ L) →
    sgL n mul (gsubs n mul f L k) ∧ ∀ s g, s ∈ gsubs n mul f L k → 1 ≤ g → g < n → cl n mul (s ||| 2 ^ g) ∈ gsubs n mul f L k := by
  intro f
  induction f with
  | zero =>
    intro L k h hk hf hj
    have := h.len hF
    omega
  | succ f ih =>
    intro L k h hk hf hj
    unfold gsubs
    split
    · rename_i hlt
      have hs := h.2.1 _ (gD_mem hlt)
      obtain ⟨a1, a2, M, a3⟩ := gsubR_ok hG h hs.1 (n - 1) (by have := hG.1; omega)
      refine ih _ (k + 1) a1 (by rw [a3]; simp; omega) (by omega) (fun j g h1 h2 h3 => ?_)
      have hjl : j < L.length := by omega
      have e : (gsubR n mul L (L.getD k 0) (n - 1)).getD j 0 = L.getD j 0 := by rw [a3]; exact gD_app hjl
      rw [e]
      by_cases ej : j = k
      · subst ej; exact a2 g h2 (by omega)
      · rw [a3]; exact List.mem_append_left _ (hj j g (by omega) h2 h3)
    · rename_i hge
      refine ⟨h, fun s g hs h2 h3 => ?_⟩
      obtain ⟨j, hj1, rfl⟩ := gD_ex hs
      exact hj j g (by omega) h2 h3
theorem subsL_ok {n : Nat} {mul : Nat → Nat → Nat} {inv : Nat → Nat} (hG : isG n mul inv) (hF : gFew n mul) : sgL n mul (subsL n mul) ∧ ∀ s g, s ∈ subsL n mul → 1 ≤ g → g < n → cl n mul (s ||| 2 ^ g) ∈ subsL n mul :=
  gsubs_ok hG hF 129 [1] 0 ⟨by simp, fun s hs => by rw [List.mem_singleton] at hs; subst hs; exact sg_one hG, by simp⟩ (Nat.zero_le _) (by omega) (fun j g h1 => by omega)
/-- every subgroup is there -/
theorem subsL_all {n : Nat} {mul : Nat → Nat → Nat} {inv : Nat → Nat} (hG : isG n mul inv) (hF : gFew n mul) {H : Nat} (hH : sg n mul H) : H ∈ subsL n mul := by
  obtain ⟨h1, h2⟩ := subsL_ok hG hF
  have key : ∀ k s, 2 ^ n - s < k → s ∈ subsL n mul → ss s H → H ∈ subsL n mul := by
    intro k
    induction k with
    | zero => intro s h; omega
    | succ k ih =>
      intro s hk hs hsH
      by_cases e : s = H
      · exact e ▸ hs
      · have hsg := h1.2.1 s hs
        have : ∃ g, H.testBit g = true ∧ ¬ s.testBit g = true := by
          apply Classical.byContradiction
          intro hn
          apply e
          refine ss_antisymm hsH (fun g hg => ?_)
          apply Classical.byContradiction
          intro q
          exact hn ⟨g, hg, q⟩
        obtain ⟨g, hg1, hg2⟩ := this
        have hgn := bit_lt hH.1 hg1
        have hg0 : 1 ≤ g := by
          apply Classical.byContradiction
          intro q
          have : g = 0 := by omega
          subst this
          exact hg2 hsg.2.1
        have hu := or_lt hsg.1 (pow_lt hgn)
        have hin := h2 s g hs hg0 hgn
        have hle : ss (s ||| 2 ^ g ||| 1) (cl n mul (s ||| 2 ^ g)) := cl_ge hG.1 hu
        have hsub : ss s (cl n mul (s ||| 2 ^ g)) := (ss_or.mp (ss_or.mp hle).1).1
        have hgin : (cl n mul (s ||| 2 ^ g)).testBit g = true := ss_bit.mp (ss_or.mp (ss_or.mp hle).1).2
        have hlt : s < cl n mul (s ||| 2 ^ g) := by
          have h3 := ss_le hsub
          have h4 : s ≠ cl n mul (s ||| 2 ^ g) := fun q => hg2 (q ▸ hgin)
          omega
        refine ih _ (by have := cl_lt (n := n) (mul := mul) (s := s ||| 2 ^ g); omega) hin (cl_min hH.1 ?_ hH.2.2)
        exact ss_or.mpr ⟨ss_or.mpr ⟨hsH, ss_bit.mpr hg1⟩, fun k hk => by rw [bit_one] at hk; subst hk; exact hH.2.1⟩
  refine key (2 ^ n + 1) 1 (by have := one_lt hG.1; omega) h1.2.2 (fun k hk => by rw [bit_one] at hk; subst hk; exact hH.2.1)
/-! turning -/
theorem inv_mul {n : Nat} {mul : Nat → Nat → Nat} {inv : Nat → Nat} (hG : isG n mul inv) {a b : Nat} (ha : a < n) (hb : b < n) : inv (mul a b) = mul (inv b) (inv a) := by
  obtain ⟨h0, hm, has, hid, hin⟩ := hG
  have ab := hm a b ha hb
  have ia := (hin a ha).1
  have ib := (hin b hb).1
  have iab := (hin _ ab).1
  have e1 : mul (mul a b) (mul (inv b) (inv a)) = 0 := by
    rw [has a b _ ha hb (hm _ _ ib ia), ← has b (inv b) (inv a) hb ib ia, (hin b hb).2.1, (hid _ ia).1, (hin a ha).2.1]
  calc inv (mul a b) = mul (inv (mul a b)) 0 := (hid _ iab).2.symm
    _ = mul (inv (mul a b)) (mul (mul a b) (mul (inv b) (inv a))) := by rw [e1]
    _ = mul (mul (inv (mul a b)) (mul a b)) (mul (inv b) (inv a)) := (has _ _ _ iab ab (hm _ _ ib ia)).symm
    _ = mul (inv b) (inv a) := by rw [(hin _ ab).2.2, (hid _ (hm _ _ ib ia)).1]
theorem inv_inv {n : Nat} {mul : Nat → Nat → Nat} {inv : Nat → Nat} (hG : isG n mul inv) {a : Nat} (ha : a < n) : inv (inv a) = a := by
  obtain ⟨h0, hm, has, hid, hin⟩ := hG
  have ia := (hin a ha).1
  have iia := (hin _ ia).1
  calc inv (inv a) = mul (inv (inv a)) 0 := (hid _ iia).2.symm
    _ = mul (inv (inv a)) (mul (inv a) a) := by rw [(hin a ha).2.2]
    _ = mul (mul (inv (inv a)) (inv a)) a := (has _ _ _ iia ia ha).symm
    _ = a := by rw [(hin _ ia).2.2, (hid a ha).1]
/-- x by g turned -/
def cj (mul : Nat → Nat → Nat) (inv : Nat → Nat) (x g : Nat) : Nat := mul (mul (inv g) x) g
theorem cj_lt {n : Nat} {mul : Nat → Nat → Nat} {inv : Nat → Nat} (hG : isG n mul inv) {x g : Nat} (hx : x < n) (hg : g < n) : cj mul inv x g < n := hG.2.1 _ _ (hG.2.1 _ _ (hG.2.2.2.2 g hg).1 hx) hg
theorem cj_mul {n : Nat} {mul : Nat → Nat → Nat} {inv : Nat → Nat} (hG : isG n mul inv) {x y g : Nat} (hx : x < n) (hy : y < n) (hg : g < n) : mul (cj mul inv x g) (cj mul inv y g) = cj mul inv (mul x y) g := by
  obtain ⟨h0, hm, has, hid, hin⟩ := hG
  have ig := (hin g hg).1
  have gx := hm _ _ ig hx
  have gy := hm _ _ ig hy
  unfold cj
  rw [has _ g _ gx hg (hm _ _ gy hg), ← has g _ g hg gy hg, ← has g (inv g) y hg ig hy, (hin g hg).2.1, (hid y hy).1, ← has _ y g gx hy hg, has (inv g) x y ig hx hy]
theorem cj_cj {n : Nat} {mul : Nat → Nat → Nat} {inv : Nat → Nat} (hG : isG n mul inv) {x g k : Nat} (hx : x < n) (hg : g < n) (hk : k < n) : cj mul inv (cj mul inv x g) k = cj mul inv x (mul g k) := by
  have e := inv_mul hG hg hk
  obtain ⟨h0, hm, has, hid, hin⟩ := hG
  have ig := (hin g hg).1
  have ik := (hin k hk).1
  unfold cj
  rw [e, has _ _ x (ik) ig hx, ← has _ g k (hm _ _ ik (hm _ _ ig hx)) hg hk, has (inv k) _ g ik (hm _ _ ig hx) hg]
theorem cj_0 {n : Nat} {mul : Nat → Nat → Nat} {inv : Nat → Nat} (hG : isG n mul inv) {x : Nat} (hx : x < n) : cj mul inv x 0 = x := by
  obtain ⟨h0, hm, has, hid, hin⟩ := hG
  have z : inv 0 = 0 := by
    have h := hin 0 (by omega)
    have := (hid _ h.1).1
    rw [← this]; exact h.2.1
  unfold cj
  rw [z, (hid x hx).1, (hid x hx).2]
theorem tn_cj {n : Nat} {mul : Nat → Nat → Nat} {inv : Nat → Nat} {s g k : Nat} : (tn n mul inv s g).testBit k = true ↔ ∃ x, x < n ∧ s.testBit x = true ∧ cj mul inv x g = k := tn_bit
theorem tn_tn {n : Nat} {mul : Nat → Nat → Nat} {inv : Nat → Nat} (hG : isG n mul inv) {s g k : Nat} (hg : g < n) (hk : k < n) : tn n mul inv (tn n mul inv s g) k = tn n mul inv s (mul g k) := by
  apply bits_ext
  intro y
  rw [tn_cj, tn_cj]
  constructor
  · rintro ⟨x, hx, h1, rfl⟩
    obtain ⟨z, hz, h2, rfl⟩ := tn_cj.mp h1
    exact ⟨z, hz, h2, (cj_cj hG hz hg hk).symm⟩
  · rintro ⟨z, hz, h2, rfl⟩
    exact ⟨cj mul inv z g, cj_lt hG hz hg, tn_cj.mpr ⟨z, hz, h2, rfl⟩, cj_cj hG hz hg hk⟩
theorem tn_0 {n : Nat} {mul : Nat → Nat → Nat} {inv : Nat → Nat} (hG : isG n mul inv) {s : Nat} (hs : s < 2 ^ n) : tn n mul inv s 0 = s := by
  apply bits_ext
  intro y
  rw [tn_cj]
  constructor
  · rintro ⟨x, hx, h1, rfl⟩
    rw [cj_0 hG hx]; exact h1
  · intro h
    exact ⟨y, bit_lt hs h, h, cj_0 hG (bit_lt hs h)⟩
theorem tn_sg {n : Nat} {mul : Nat → Nat → Nat} {inv : Nat → Nat} (hG : isG n mul inv) {s g : Nat} (hs : sg n mul s) (hg : g < n) : sg n mul (tn n mul inv s g) := by
  refine ⟨tn_lt hG hg, tn_cj.mpr ⟨0, by have := hG.1; omega, hs.2.1, ?_⟩, fun a b ha hb => ?_⟩
  · obtain ⟨h0, hm, has, hid, hin⟩ := hG
    unfold cj
    rw [(hid _ (hin g hg).1).2, (hin g hg).2.2]
  · obtain ⟨x, hx, h1, rfl⟩ := tn_cj.mp ha
    obtain ⟨y, hy, h2, rfl⟩ := tn_cj.mp hb
    rw [cj_mul hG hx hy hg]
    exact tn_cj.mpr ⟨_, hG.2.1 x y hx hy, hs.2.2 x y h1 h2, rfl⟩
theorem ftR_le {n : Nat} {mul : Nat → Nat → Nat} {inv : Nat → Nat} {s : Nat} : ∀ i g, g < i → ftR n mul inv s i ≤ tn n mul inv s g := by
  intro i
  induction i with
  | zero => intro g h; omega
  | succ i ih =>
    intro g h
    unfold ftR
    by_cases e : g = i
    · subst e; exact Nat.min_le_right _ _
    · exact Nat.le_trans (Nat.min_le_left _ _) (ih g (by omega))
theorem ftR_att {n : Nat} {mul : Nat → Nat → Nat} {inv : Nat → Nat} (hG : isG n mul inv) {s : Nat} (hs : s < 2 ^ n) : ∀ i, i ≤ n → ∃ g, g < n ∧ ftR n mul inv s i = tn n mul inv s g := by
  intro i
  induction i with
  | zero => intro _; exact ⟨0, by have := hG.1; omega, (tn_0 hG hs).symm⟩
  | succ i ih =>
    intro hi
    obtain ⟨g, h1, h2⟩ := ih (by omega)
    unfold ftR
    rcases Nat.le_total (ftR n mul inv s i) (tn n mul inv s i) with h | h
    · rw [Nat.min_eq_left h]; exact ⟨g, h1, h2⟩
    · rw [Nat.min_eq_right h]; exact ⟨i, by omega, rfl⟩
theorem ft_att {n : Nat} {mul : Nat → Nat → Nat} {inv : Nat → Nat} (hG : isG n mul inv) {s : Nat} (hs : s < 2 ^ n) : ∃ g, g < n ∧ ft n mul inv s = tn n mul inv s g := ftR_att hG hs n (Nat.le_refl _)
theorem ft_le {n : Nat} {mul : Nat → Nat → Nat} {inv : Nat → Nat} {s g : Nat} (hg : g < n) : ft n mul inv s ≤ tn n mul inv s g := ftR_le n g hg
theorem ft_tn {n : Nat} {mul : Nat → Nat → Nat} {inv : Nat → Nat} (hG : isG n mul inv) {s g : Nat} (hs : s < 2 ^ n) (hg : g < n) : ft n mul inv (tn n mul inv s g) = ft n mul inv s := by
  apply Nat.le_antisymm
  · obtain ⟨k, hk, e⟩ := ft_att hG hs
    rw [e]
    have ig := (hG.2.2.2.2 g hg).1
    have h := ft_le (mul := mul) (inv := inv) (s := tn n mul inv s g) (hG.2.1 _ _ ig hk)
    rw [tn_tn hG hg (hG.2.1 _ _ ig hk), ← hG.2.2.1 g _ k hg ig hk, (hG.2.2.2.2 g hg).2.1, (hG.2.2.2.1 k hk).1] at h
    exact h
  · obtain ⟨k, hk, e⟩ := ft_att hG (tn_lt (s := s) hG hg)
    rw [e, tn_tn hG hg hk]
    exact ft_le (hG.2.1 _ _ hg hk)
theorem ft_ft {n : Nat} {mul : Nat → Nat → Nat} {inv : Nat → Nat} (hG : isG n mul inv) {s : Nat} (hs : s < 2 ^ n) : ft n mul inv (ft n mul inv s) = ft n mul inv s := by
  obtain ⟨g, hg, e⟩ := ft_att hG hs
  rw [e, ft_tn hG hs hg, e]
theorem ft_sg {n : Nat} {mul : Nat → Nat → Nat} {inv : Nat → Nat} (hG : isG n mul inv) {s : Nat} (hs : sg n mul s) : sg n mul (ft n mul inv s) := by
  obtain ⟨g, hg, e⟩ := ft_att hG hs.1
  rw [e]
  exact tn_sg hG hs hg
/-- the first ones of the first k subgroups, by size -/
def fstR (n : Nat) (mul : Nat → Nat → Nat) (inv : Nat → Nat) (L : List Nat) : Nat → List Nat
  | 0 => []
  | k + 1 => if ft n mul inv (L.getD k 0) = L.getD k 0 then insS (L.getD k 0) (fstR n mul inv L k) else fstR n mul inv L k
def fstL (n : Nat) (mul : Nat → Nat → Nat) (inv : Nat → Nat) (L : List Nat) : List Nat := fstR n mul inv L L.length
theorem fstR_len (n : Nat) (mul : Nat → Nat → Nat) (inv : Nat → Nat) (L : List Nat) : ∀ k, (fstR n mul inv L k).length ≤ k := by
  intro k
  induction k with
  | zero => exact Nat.le_refl _
  | succ k ih =>
    unfold fstR
    split
    · rw [insS_len]; omega
    · omega
theorem fstR_mem {n : Nat} {mul : Nat → Nat → Nat} {inv : Nat → Nat} {L : List Nat} {y : Nat} : ∀ k, y ∈ fstR n mul inv L k ↔ ∃ j, j < k ∧ L.getD j 0 = y ∧ ft n mul inv y = y := by
  intro k
  induction k with
  | zero => simp [fstR]
  | succ k ih =>
    unfold fstR
    split
    · rename_i h
      rw [insS_mem, ih]
      constructor
      · rintro (rfl | ⟨j, h1, h2, h3⟩)
        · exact ⟨k, by omega, rfl, h⟩
        · exact ⟨j, by omega, h2, h3⟩
      · rintro ⟨j, h1, h2, h3⟩
        by_cases e : j = k
        · subst e; exact Or.inl h2.symm
        · exact Or.inr ⟨j, by omega, h2, h3⟩
    · rename_i h
      rw [ih]
      constructor
      · rintro ⟨j, h1, h2, h3⟩
        exact ⟨j, by omega, h2, h3⟩
      · rintro ⟨j, h1, h2, h3⟩
        refine ⟨j, ?_, h2, h3⟩
        by_cases e : j = k
        · subst e; rw [h2] at h; exact absurd h3 h
        · omega
theorem fstL_mem {n : Nat} {mul : Nat → Nat → Nat} {inv : Nat → Nat} {L : List Nat} {y : Nat} : y ∈ fstL n mul inv L ↔ y ∈ L ∧ ft n mul inv y = y := by
  unfold fstL
  rw [fstR_mem]
  constructor
  · rintro ⟨j, h1, h2, h3⟩
    exact ⟨h2 ▸ gD_mem h1, h3⟩
  · rintro ⟨h1, h2⟩
    obtain ⟨j, h3, h4⟩ := gD_ex h1
    exact ⟨j, h3, h4, h2⟩
theorem fst_in {n : Nat} {mul : Nat → Nat → Nat} {inv : Nat → Nat} (hG : isG n mul inv) (hF : gFew n mul) {s : Nat} (hs : sg n mul s) : ft n mul inv s ∈ fstL n mul inv (subsL n mul) :=
  fstL_mem.mpr ⟨subsL_all hG hF (ft_sg hG hs), ft_ft hG hs.1⟩
