/-! rows of places: members; what moves make -/
theorem inj_surj {n : Nat} {g : Nat → Nat} (h1 : ∀ x, x < n → g x < n) (h2 : ∀ x y, x < n → y < n → g x = g y → x = y) : ∀ y, y < n → ∃ x, x < n ∧ g x = y := by
  intro y hy
  apply Classical.byContradiction
  intro hn
  have nd : (y :: (List.range n).map g).Nodup := by
    rw [List.nodup_cons]
    refine ⟨fun hm => ?_, ?_⟩
    · obtain ⟨x, hx, e⟩ := List.mem_map.mp hm
      exact hn ⟨x, List.mem_range.mp hx, e⟩
    · rw [List.nodup_iff_pairwise_ne, List.pairwise_map]
      refine List.Pairwise.imp_of_mem ?_ (List.nodup_range (n := n))
      intro a b ha hb hab e
      exact hab (h2 a b (List.mem_range.mp ha) (List.mem_range.mp hb) e)
  have := nodup_le nd (M := List.range n) (fun x hx => by
    rcases List.mem_cons.mp hx with e | hx
    · rw [e]; exact List.mem_range.mpr hy
    · obtain ⟨z, hz, e⟩ := List.mem_map.mp hx
      exact List.mem_range.mpr (e ▸ h1 z (List.mem_range.mp hz)))
  simp at this
  omega
def rAt (r : List Nat) (i : Nat) : Nat := r.getD i 0
theorem rAt_map {g : Nat → Nat} {r : List Nat} {i : Nat} (h : i < r.length) : rAt (r.map g) i = g (rAt r i) := by
  unfold rAt
  rw [List.getD_eq_getElem?_getD, List.getElem?_map, List.getD_eq_getElem?_getD, List.getElem?_eq_getElem h]
  rfl
theorem r_ext {r s : List Nat} (h : r.length = s.length) (h2 : ∀ i, i < r.length → rAt r i = rAt s i) : r = s := by
  apply List.ext_getElem h
  intro i h3 h4
  have := h2 i h3
  unfold rAt at this
  rw [gD_at h3, gD_at h4] at this
  exact this
theorem rAt_range {p i : Nat} (h : i < p) : rAt (List.range p) i = i := by
  unfold rAt
  rw [List.getD_eq_getElem?_getD, List.getElem?_range h]
  rfl
/-- a row: of p places, each of them once -/
def rOk (p : Nat) (r : List Nat) : Prop := r.length = p ∧ (∀ i, i < p → rAt r i < p) ∧ ∀ i j, i < p → j < p → rAt r i = rAt r j → i = j
def thn (r s : List Nat) : List Nat := r.map (fun x => rAt s x)
theorem thn_at {r s : List Nat} {i : Nat} (h : i < r.length) : rAt (thn r s) i = rAt s (rAt r i) := rAt_map h
theorem rOk_id (p : Nat) : rOk p (List.range p) := ⟨List.length_range, fun i h => by rw [rAt_range h]; exact h, fun i j h1 h2 e => by rw [rAt_range h1, rAt_range h2] at e; exact e⟩
theorem rOk_thn {p : Nat} {r s : List Nat} (hr : rOk p r) (hs : rOk p s) : rOk p (thn r s) := by
  obtain ⟨r1, r2, r3⟩ := hr
  refine ⟨by simp [thn, r1], fun i h => ?_, fun i j h1 h2 e => ?_⟩
  · rw [thn_at (by omega)]; exact hs.2.1 _ (r2 i h)
  · rw [thn_at (by omega), thn_at (by omega)] at e
    exact r3 i j h1 h2 (hs.2.2 _ _ (r2 i h1) (r2 j h2) e)
theorem thn_assoc {p : Nat} {r s t : List Nat} (hr : rOk p r) (hs : rOk p s) : thn (thn r s) t = thn r (thn s t) := by
  refine r_ext (by simp [thn]) (fun i h => ?_)
  have h1 : i < r.length := by simpa [thn] using h
  rw [thn_at (by simpa [thn] using h1), thn_at h1, thn_at h1, thn_at (by rw [hs.1]; exact hr.2.1 i (by rw [← hr.1]; exact h1))]
theorem thn_idl {p : Nat} {r : List Nat} (hr : rOk p r) : thn (List.range p) r = r := by
  refine r_ext (by simp [thn, hr.1]) (fun i h => ?_)
  have h1 : i < p := by simpa [thn] using h
  rw [thn_at (by simpa using h1), rAt_range h1]
theorem thn_idr {p : Nat} {r : List Nat} (hr : rOk p r) : thn r (List.range p) = r := by
  refine r_ext (by simp [thn]) (fun i h => ?_)
  have h1 : i < r.length := by simpa [thn] using h
  rw [thn_at h1, rAt_range (hr.2.1 i (by rw [← hr.1]; exact h1))]
theorem thn_canc {p : Nat} {r s t : List Nat} (hr : rOk p r) (hs : rOk p s) (ht : rOk p t) (e : thn r s = thn r t) : s = t := by
  refine r_ext (by rw [hs.1, ht.1]) (fun y hy => ?_)
  rw [hs.1] at hy
  obtain ⟨x, hx, rfl⟩ := inj_surj hr.2.1 hr.2.2 y hy
  have := congrArg (fun z => rAt z x) e
  rw [thn_at (by rw [hr.1]; exact hx), thn_at (by rw [hr.1]; exact hx)] at this
  exact this
/-- less, by the first place where they differ -/
def rlt (p : Nat) (r s : List Nat) : Prop := ∃ i, i < p ∧ (∀ j, j < i → rAt r j = rAt s j) ∧ rAt r i < rAt s i
theorem rlt_irr {p : Nat} {r : List Nat} : ¬ rlt p r r := fun ⟨_, _, _, h⟩ => Nat.lt_irrefl _ h
theorem rlt_trans {p : Nat} {r s t : List Nat} (h1 : rlt p r s) (h2 : rlt p s t) : rlt p r t := by
  obtain ⟨i, a1, a2, a3⟩ := h1
  obtain ⟨k, b1, b2, b3⟩ := h2
  rcases Nat.lt_trichotomy i k with h | h | h
  · exact ⟨i, a1, fun j hj => (a2 j hj).trans (b2 j (by omega)), by rw [← b2 i h]; exact a3⟩
  · subst h
    exact ⟨i, a1, fun j hj => (a2 j hj).trans (b2 j hj), by omega⟩
  · exact ⟨k, b1, fun j hj => (a2 j (by omega)).trans (b2 j hj), by rw [a2 k h]; exact b3⟩
theorem rlt_tot {p : Nat} {r s : List Nat} (hr : r.length = p) (hs : s.length = p) (h : r ≠ s) : rlt p r s ∨ rlt p s r := by
  have : ∃ i, i < p ∧ ¬ rAt r i = rAt s i := by
    apply Classical.byContradiction
    intro hn
    exact h (r_ext (by rw [hr, hs]) (fun i hi => by
      apply Classical.byContradiction
      intro q
      exact hn ⟨i, by omega, q⟩))
  obtain ⟨i, ⟨h1, h2⟩, h3⟩ := pk_least (fun i => i < p ∧ ¬ rAt r i = rAt s i) this
  have h4 : ∀ j, j < i → rAt r j = rAt s j := fun j hj => by
    apply Classical.byContradiction
    intro q
    exact h3 j hj ⟨by omega, q⟩
  rcases Nat.lt_or_gt_of_ne h2 with q | q
  · exact Or.inl ⟨i, h1, h4, q⟩
  · exact Or.inr ⟨i, h1, fun j hj => (h4 j hj).symm, q⟩
theorem rlt_id {p : Nat} {r : List Nat} (hr : rOk p r) (h : r ≠ List.range p) : rlt p (List.range p) r := by
  rcases rlt_tot (p := p) (by simp) hr.1 (Ne.symm h) with q | q
  · exact q
  · obtain ⟨i, a1, a2, a3⟩ := q
    exfalso
    rw [rAt_range a1] at a3
    have h1 := a2 (rAt r i) a3
    rw [rAt_range (by omega)] at h1
    have := hr.2.2 _ _ (by omega) a1 h1
    omega
/-- what a word of moves comes to -/
def evW (p : Nat) (mv : Nat → List Nat) (w : List Nat) : List Nat := w.foldl (fun r k => thn r (mv k)) (List.range p)
def Rch (p q : Nat) (mv : Nat → List Nat) (r : List Nat) : Prop := ∃ w : List Nat, (∀ k, k ∈ w → k < q) ∧ evW p mv w = r
theorem foldW {p q : Nat} {mv : Nat → List Nat} (hm : ∀ k, k < q → rOk p (mv k)) : ∀ (w : List Nat), (∀ k, k ∈ w → k < q) → rOk p (evW p mv w) ∧ ∀ r, rOk p r → w.foldl (fun r k => thn r (mv k)) r = thn r (evW p mv w) := by
  intro w
  induction w with
  | nil => intro _; exact ⟨rOk_id p, fun r hr => (thn_idr hr).symm⟩
  | cons k w ih =>
    intro hw
    obtain ⟨i1, i2⟩ := ih (fun j hj => hw j (List.mem_cons_of_mem _ hj))
    have hk := hm k (hw k List.mem_cons_self)
    have e : evW p mv (k :: w) = thn (mv k) (evW p mv w) := by
      show w.foldl (fun r k => thn r (mv k)) (thn (List.range p) (mv k)) = _
      rw [thn_idl hk, i2 _ hk]
    refine ⟨by rw [e]; exact rOk_thn hk i1, fun r hr => ?_⟩
    show w.foldl (fun r k => thn r (mv k)) (thn r (mv k)) = _
    rw [i2 _ (rOk_thn hr hk), e, thn_assoc hr hk]
theorem Rch.ok {p q : Nat} {mv : Nat → List Nat} (hm : ∀ k, k < q → rOk p (mv k)) {r : List Nat} (h : Rch p q mv r) : rOk p r := by
  obtain ⟨w, h1, rfl⟩ := h
  exact (foldW hm w h1).1
theorem Rch.one {p q : Nat} {mv : Nat → List Nat} : Rch p q mv (List.range p) := ⟨[], (fun k h => by cases h), rfl⟩
theorem Rch.mul {p q : Nat} {mv : Nat → List Nat} (hm : ∀ k, k < q → rOk p (mv k)) {r s : List Nat} (h1 : Rch p q mv r) (h2 : Rch p q mv s) : Rch p q mv (thn r s) := by
  obtain ⟨w1, a1, rfl⟩ := h1
  obtain ⟨w2, a2, rfl⟩ := h2
  refine ⟨w1 ++ w2, fun k hk => (List.mem_append.mp hk).elim (a1 k) (a2 k), ?_⟩
  unfold evW
  rw [List.foldl_append]
  exact (foldW hm w2 a2).2 _ (foldW hm w1 a1).1
theorem Rch.step {p q : Nat} {mv : Nat → List Nat} {r : List Nat} (h1 : Rch p q mv r) {k : Nat} (hk : k < q) : Rch p q mv (thn r (mv k)) := by
  obtain ⟨w, a1, rfl⟩ := h1
  refine ⟨w ++ [k], fun j hj => ?_, by simp [evW, List.foldl_append]⟩
  rcases List.mem_append.mp hj with h | h
  · exact a1 j h
  · rw [List.mem_singleton] at h; subst h; exact hk
/-- a set of rows with the first one, that each move leaves, has them all -/
theorem Rch.all {p q : Nat} {mv : Nat → List Nat} {S : List Nat → Prop} (h0 : S (List.range p)) (hs : ∀ r k, S r → k < q → S (thn r (mv k))) {r : List Nat} (h : Rch p q mv r) : S r := by
  obtain ⟨w, a1, rfl⟩ := h
  have : ∀ (w : List Nat) (r : List Nat), (∀ k, k ∈ w → k < q) → S r → S (w.foldl (fun r k => thn r (mv k)) r) := by
    intro w
    induction w with
    | nil => intro r _ h; exact h
    | cons k w ih => intro r hw h; exact ih _ (fun j hj => hw j (List.mem_cons_of_mem _ hj)) (hs r k h (hw k List.mem_cons_self))
  exact this w _ a1 h0
/-- there are at most 24 -/
def rFew (p q : Nat) (mv : Nat → List Nat) : Prop := ∃ M : List (List Nat), (∀ r, Rch p q mv r → r ∈ M) ∧ M.length ≤ 24
/-- the members in order: f 0, f 1 .. f (n - 1) -/
def rGrp (p q : Nat) (mv : Nat → List Nat) (n : Nat) (f : Nat → List Nat) : Prop := n ≤ 24 ∧ (∀ r, Rch p q mv r ↔ ∃ i, i < n ∧ f i = r) ∧ ∀ i j, i < j → j < n → rlt p (f i) (f j)
theorem rGrp.inj {p q : Nat} {mv : Nat → List Nat} {n : Nat} {f : Nat → List Nat} (h : rGrp p q mv n f) {i j : Nat} (hi : i < n) (hj : j < n) (e : f i = f j) : i = j := by
  rcases Nat.lt_trichotomy i j with q | q | q
  · have := h.2.2 i j q hj
    rw [e] at this
    exact absurd this rlt_irr
  · exact q
  · have := h.2.2 j i q hi
    rw [e] at this
    exact absurd this rlt_irr
theorem rGrp.zero {p q : Nat} {mv : Nat → List Nat} {n : Nat} {f : Nat → List Nat} (hm : ∀ k, k < q → rOk p (mv k)) (h : rGrp p q mv n f) : 1 ≤ n ∧ f 0 = List.range p := by
  obtain ⟨i, h1, h2⟩ := (h.2.1 _).mp Rch.one
  refine ⟨by omega, ?_⟩
  apply Classical.byContradiction
  intro hne
  have ok := ((h.2.1 (f 0)).mpr ⟨0, by omega, rfl⟩).ok hm
  have hi0 : 0 < i := by
    apply Classical.byContradiction
    intro q
    have : i = 0 := by omega
    subst this
    exact hne h2
  have l1 := h.2.2 0 i hi0 h1
  rw [h2] at l1
  exact rlt_irr (rlt_trans l1 (rlt_id ok hne))
/-- the place of a row -/
def fIx (f : Nat → List Nat) (r : List Nat) : Nat → Nat
  | 0 => 0
  | n + 1 => if f n = r then n else fIx f r n
theorem fIx_at {p q : Nat} {mv : Nat → List Nat} {n : Nat} {f : Nat → List Nat} (h : rGrp p q mv n f) {i : Nat} (hi : i < n) : fIx f (f i) n = i := by
  have : ∀ k, i < k → k ≤ n → fIx f (f i) k = i := by
    intro k
    induction k with
    | zero => intro h; omega
    | succ k ih =>
      intro h1 h2
      unfold fIx
      split
      · rename_i e
        exact h.inj (by omega) hi e
      · rename_i e
        have : i ≠ k := fun q => e (by rw [q])
        exact ih (by omega) (by omega)
  exact this n hi (Nat.le_refl _)
def mulF (f : Nat → List Nat) (n : Nat) (a b : Nat) : Nat := fIx f (thn (f a) (f b)) n
theorem mulF_ok {p q : Nat} {mv : Nat → List Nat} {n : Nat} {f : Nat → List Nat} (hm : ∀ k, k < q → rOk p (mv k)) (h : rGrp p q mv n f) {a b : Nat} (ha : a < n) (hb : b < n) : mulF f n a b < n ∧ f (mulF f n a b) = thn (f a) (f b) := by
  have r := Rch.mul hm ((h.2.1 _).mpr ⟨a, ha, rfl⟩) ((h.2.1 _).mpr ⟨b, hb, rfl⟩)
  obtain ⟨i, h1, h2⟩ := (h.2.1 _).mp r
  unfold mulF
  rw [← h2, fIx_at h h1]
  exact ⟨h1, rfl⟩
theorem mulF_uniq {p q : Nat} {mv : Nat → List Nat} {n : Nat} {f : Nat → List Nat} (h : rGrp p q mv n f) {a b i : Nat} (hi : i < n) (e : f i = thn (f a) (f b)) : mulF f n a b = i := by
  unfold mulF
  rw [← e, fIx_at h hi]
theorem mulF_canc {p q : Nat} {mv : Nat → List Nat} {n : Nat} {f : Nat → List Nat} (hm : ∀ k, k < q → rOk p (mv k)) (h : rGrp p q mv n f) {a b c : Nat} (ha : a < n) (hb : b < n) (hc : c < n) (e : mulF f n a b = mulF f n a c) : b = c := by
  have ok : ∀ x, x < n → rOk p (f x) := fun x hx => ((h.2.1 _).mpr ⟨x, hx, rfl⟩).ok hm
  apply h.inj hb hc
  have e2 := congrArg f e
  rw [(mulF_ok hm h ha hb).2, (mulF_ok hm h ha hc).2] at e2
  exact thn_canc (ok a ha) (ok b hb) (ok c hc) e2
theorem mulF_inv {p q : Nat} {mv : Nat → List Nat} {n : Nat} {f : Nat → List Nat} (hm : ∀ k, k < q → rOk p (mv k)) (h : rGrp p q mv n f) {a : Nat} (ha : a < n) : ∃ b, b < n ∧ mulF f n a b = 0 :=
  inj_surj (n := n) (g := mulF f n a) (fun x hx => (mulF_ok hm h ha hx).1) (fun x y hx hy e => mulF_canc hm h ha hx hy e) 0 (by have := (h.zero hm).1; omega)
/-- which one undoes a: the first b with a b = 0 -/
def invR (g : Nat → Nat) : Nat → Nat
  | 0 => 0
  | n + 1 => if g n = 0 then n else invR g n
theorem invR_at {g : Nat → Nat} {n b : Nat} (hb : b < n) (e : g b = 0) (hu : ∀ x, x < n → g x = 0 → x = b) : invR g n = b := by
  have : ∀ k, b < k → k ≤ n → invR g k = b := by
    intro k
    induction k with
    | zero => intro h; omega
    | succ k ih =>
      intro h1 h2
      unfold invR
      split
      · rename_i q
        exact hu k (by omega) q
      · rename_i q
        have : b ≠ k := fun z => q (z ▸ e)
        exact ih (by omega) (by omega)
  exact this n hb (Nat.le_refl _)
def invF (f : Nat → List Nat) (n a : Nat) : Nat := invR (mulF f n a) n
theorem invF_ok {p q : Nat} {mv : Nat → List Nat} {n : Nat} {f : Nat → List Nat} (hm : ∀ k, k < q → rOk p (mv k)) (h : rGrp p q mv n f) {a : Nat} (ha : a < n) : invF f n a < n ∧ mulF f n a (invF f n a) = 0 := by
  obtain ⟨b, hb, e⟩ := mulF_inv hm h ha
  have : invF f n a = b := invR_at hb e (fun x hx q => mulF_canc hm h ha hx hb (q.trans e.symm))
  rw [this]
  exact ⟨hb, e⟩
theorem rGrp.isG {p q : Nat} {mv : Nat → List Nat} {n : Nat} {f : Nat → List Nat} (hm : ∀ k, k < q → rOk p (mv k)) (h : rGrp p q mv n f) : isG n (mulF f n) (invF f n) := by
  have ok : ∀ x, x < n → rOk p (f x) := fun x hx => ((h.2.1 _).mpr ⟨x, hx, rfl⟩).ok hm
  obtain ⟨z1, z2⟩ := h.zero hm
  have hl : ∀ a b, a < n → b < n → mulF f n a b < n := fun a b ha hb => (mulF_ok hm h ha hb).1
  have has : ∀ a b c, a < n → b < n → c < n → mulF f n (mulF f n a b) c = mulF f n a (mulF f n b c) := by
    intro a b c ha hb hc
    refine mulF_uniq h (hl _ _ ha (hl _ _ hb hc)) ?_
    rw [(mulF_ok hm h ha (hl _ _ hb hc)).2, (mulF_ok hm h hb hc).2, (mulF_ok hm h ha hb).2, thn_assoc (ok a ha) (ok b hb)]
  have hid : ∀ a, a < n → mulF f n 0 a = a ∧ mulF f n a 0 = a := fun a ha => ⟨mulF_uniq h ha (by rw [z2, thn_idl (ok a ha)]), mulF_uniq h ha (by rw [z2, thn_idr (ok a ha)])⟩
  refine ⟨z1, hl, has, hid, fun a ha => ?_⟩
  obtain ⟨i1, i2⟩ := invF_ok hm h ha
  obtain ⟨j1, j2⟩ := invF_ok hm h i1
  refine ⟨i1, i2, ?_⟩
  have e : a = invF f n (invF f n a) := by
    have e1 := has a _ _ ha i1 j1
    rw [i2, (hid _ j1).1, j2, (hid a ha).2] at e1
    exact e1.symm
  rw [← e] at j2
  exact j2
