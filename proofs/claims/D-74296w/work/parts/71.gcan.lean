/-! one group of what moves make -/
theorem rGrp_le {p q : Nat} {mv : Nat → List Nat} {n n' : Nat} {f f' : Nat → List Nat} (h : rGrp p q mv n f) (h' : rGrp p q mv n' f') : ∀ i, i < n → i < n' ∧ f i = f' i := by
  intro i
  induction i using Nat.strongRecOn with
  | ind i ih =>
    intro hi
    obtain ⟨k, k1, k2⟩ := (h'.2.1 _).mp ((h.2.1 (f i)).mpr ⟨i, hi, rfl⟩)
    have hk : ¬ k < i := fun q => by
      have e := (ih k q (by omega)).2
      have := h.inj (by omega) hi (e.trans k2)
      omega
    by_cases e : k = i
    · subst e; exact ⟨k1, k2.symm⟩
    · have hik : i < k := by omega
      obtain ⟨m, m1, m2⟩ := (h.2.1 _).mp ((h'.2.1 (f' i)).mpr ⟨i, by omega, rfl⟩)
      have hm : ¬ m < i := fun q => by
        have e := (ih m q (by omega)).2
        have := h'.inj (show m < n' by omega) (show i < n' by omega) (e.symm.trans m2)
        omega
      by_cases e2 : m = i
      · subst e2
        have := h'.inj k1 (show m < n' by omega) (k2.trans m2)
        omega
      · have l1 := h.2.2 i m (by omega) m1
        have l2 := h'.2.2 i k hik k1
        rw [m2] at l1
        rw [k2] at l2
        exact absurd (rlt_trans l1 l2) rlt_irr
theorem rGrp_uniq {p q : Nat} {mv : Nat → List Nat} {n n' : Nat} {f f' : Nat → List Nat} (h : rGrp p q mv n f) (h' : rGrp p q mv n' f') : n = n' ∧ ∀ i, i < n → f i = f' i := by
  refine ⟨?_, fun i hi => (rGrp_le h h' i hi).2⟩
  rcases Nat.lt_trichotomy n n' with q | q | q
  · have := (rGrp_le h' h n q).1; omega
  · exact q
  · have := (rGrp_le h h' n' q).1; omega
noncomputable def gLst (p q : Nat) (mv : Nat → List Nat) : List (List Nat) := @dite _ (∃ R : List (List Nat), rGrp p q mv R.length (fun i => R.getD i [])) (Classical.propDecidable _) (fun h => Classical.choose h) (fun _ => [])
noncomputable def gN (p q : Nat) (mv : Nat → List Nat) : Nat := (gLst p q mv).length
noncomputable def gF (p q : Nat) (mv : Nat → List Nat) : Nat → List Nat := fun i => (gLst p q mv).getD i []
theorem gCan {p q : Nat} {mv : Nat → List Nat} {n : Nat} {f : Nat → List Nat} (h : rGrp p q mv n f) : rGrp p q mv (gN p q mv) (gF p q mv) ∧ gN p q mv = n ∧ ∀ i, i < n → gF p q mv i = f i := by
  have ex : ∃ R : List (List Nat), rGrp p q mv R.length (fun i => R.getD i []) := by
    refine ⟨(List.range n).map f, ?_⟩
    have el : ((List.range n).map f).length = n := by simp
    have ef : ∀ i, i < n → ((List.range n).map f).getD i [] = f i := fun i hi => by
      rw [List.getD_eq_getElem?_getD, List.getElem?_map, List.getElem?_range hi]
      rfl
    rw [el]
    refine ⟨h.1, fun r => ?_, fun i j hij hj => ?_⟩
    · rw [h.2.1 r]
      constructor
      · rintro ⟨i, hi, e⟩; exact ⟨i, hi, (ef i hi).trans e⟩
      · rintro ⟨i, hi, e⟩; exact ⟨i, hi, (ef i hi).symm.trans e⟩
    · show rlt p (((List.range n).map f).getD i []) (((List.range n).map f).getD j [])
      rw [ef i (by omega), ef j hj]
      exact h.2.2 i j hij hj
  have e : gLst p q mv = Classical.choose ex := @dif_pos _ (Classical.propDecidable _) ex _ _ _
  have h2 : rGrp p q mv (gN p q mv) (gF p q mv) := by
    unfold gN gF
    rw [e]
    exact Classical.choose_spec ex
  obtain ⟨u1, u2⟩ := rGrp_uniq h h2
  exact ⟨h2, u1.symm, fun i hi => (u2 i hi).symm⟩
noncomputable def gMul (p q : Nat) (mv : Nat → List Nat) : Nat → Nat → Nat := mulF (gF p q mv) (gN p q mv)
noncomputable def gInv (p q : Nat) (mv : Nat → List Nat) : Nat → Nat := invF (gF p q mv) (gN p q mv)
noncomputable def gSub (p q : Nat) (mv : Nat → List Nat) : List Nat := subsL (gN p q mv) (gMul p q mv)
noncomputable def gFst (p q : Nat) (mv : Nat → List Nat) : List Nat := fstL (gN p q mv) (gMul p q mv) (gInv p q mv) (gSub p q mv)
/-- how many sorts; marks -/
noncomputable def gS (p q : Nat) (mv : Nat → List Nat) : Nat := (gFst p q mv).length
noncomputable def gMk (p q : Nat) (mv : Nat → List Nat) (i j : Nat) : Nat := mkC (gN p q mv) (gMul p q mv) ((gFst p q mv).getD i 0) ((gFst p q mv).getD j 0)
/-- all that the twin knows of a group -/
def tG (T : tS) (p q : Nat) (mv : Nat → List Nat) : Prop := rGrp p q mv (gN p q mv) (gF p q mv) ∧ tMemF T p (gN p q mv) (gF p q mv) ∧ tGrp T (gN p q mv) (gMul p q mv) (gInv p q mv) (gSub p q mv) (gFst p q mv)
theorem tTab_can {T : tS} {p q : Nat} {mv : Nat → List Nat} (hm : ∀ k, k < q → rOk p (mv k)) {n : Nat} {f : Nat → List Nat} (h : rGrp p q mv n f) (ht : tTab T n (mulF f n) (invF f n)) (hmem : tMemF T p n f) : tTab T (gN p q mv) (gMul p q mv) (gInv p q mv) ∧ tMemF T p (gN p q mv) (gF p q mv) := by
  obtain ⟨c1, c2, c3⟩ := gCan h
  have em : ∀ a b, a < n → b < n → gMul p q mv a b = mulF f n a b := by
    intro a b ha hb
    obtain ⟨l1, l2⟩ := mulF_ok hm h ha hb
    refine mulF_uniq c1 (by omega) ?_
    rw [c3 _ l1, l2, c3 _ ha, c3 _ hb]
  have ei : ∀ a, a < n → gInv p q mv a = invF f n a := by
    intro a ha
    obtain ⟨l1, l2⟩ := invF_ok hm h ha
    obtain ⟨k1, k2⟩ := invF_ok hm c1 (a := a) (by omega)
    have e1 : mulF f n a (gInv p q mv a) = 0 := by
      rw [← em a _ ha (by unfold gInv; omega)]
      exact k2
    exact mulF_canc hm h ha (by unfold gInv; omega) l1 (e1.trans l2.symm)
  obtain ⟨t1, t2, t3, t4, t5⟩ := ht
  refine ⟨⟨rGrp.isG hm c1, by omega, by rw [c2]; exact t3, fun a b ha hb => ?_, fun a ha => ?_⟩, fun k hk i hi => ?_⟩
  · rw [t4 a b (by omega) (by omega), em a b (by omega) (by omega)]
  · rw [t5 a (by omega), ei a (by omega)]
  · rw [hmem k (by omega) i hi, c3 k (by omega)]
theorem ct_builds2 {T0 : tS} {p q : Nat} {mv : Nat → List Nat} (hm : tMov T0 p q mv) (hfew : rFew p q mv) (hF : gFew (gN p q mv) (gMul p q mv)) : tMv mX6_builds 3 (fun _ => []) T0 (fun T' => tEq tSb T0 T' ∧ tG T' p q mv) := by
  refine en_builds T0 _ (fun c hc => s_builds_0 c T0 ⟨_, ct_buildsMembers hm, ?_⟩)
  rintro r T4 ⟨e4, hx⟩
  rcases hx with ⟨-, rfl, N, f, g1, g2, g3⟩ | ⟨h, -⟩
  · obtain ⟨k1, k2⟩ := tTab_can hm.2.2.2.1 g1 g3 g2
    refine ⟨vpI (n := 0) (by decide), ?_⟩
    refine tGrp_of k1 hF (fun T e g => ?_)
    rw [hc]
    exact ⟨rfl, (e4.mono (by decide)).trans (e.mono (by decide)), (gCan g1).1, k2.same e (by decide), g⟩
  · exact absurd hfew h
theorem rFew_grp {p q : Nat} {mv : Nat → List Nat} {T : tS} (h : tG T p q mv) : rFew p q mv := ⟨(List.range (gN p q mv)).map (gF p q mv), fun r hr => by
  obtain ⟨i, hi, e⟩ := (h.1.2.1 r).mp hr
  exact List.mem_map.mpr ⟨i, List.mem_range.mpr hi, e⟩, by simp; exact h.1.1⟩
theorem tG.same {S : List Nat} {T T' : tS} {p q : Nat} {mv : Nat → List Nat} (h : tG T p q mv) (e : tEq S T T') (hs : ∀ f, f ∈ S → ¬ (20 ≤ f ∧ f ≤ 32)) : tG T' p q mv := by
  have n : ∀ f, 20 ≤ f → f ≤ 32 → f ∉ S := fun f h1 h2 q => hs f q ⟨h1, h2⟩
  obtain ⟨a1, a2, b1, b2, b3, b4, b5, b6, b7, b8, b9, b10⟩ := h
  refine ⟨a1, a2.same e (n 21 (by omega) (by omega)), b1.same e (n 20 (by omega) (by omega)) (n 23 (by omega) (by omega)) (n 24 (by omega) (by omega)), b2, b3, b4, b5.same e (n 25 (by omega) (by omega)) (n 27 (by omega) (by omega)), b6.same e (n 26 (by omega) (by omega)) (n 29 (by omega) (by omega)), fun k hk => ?_, fun i hi => ?_, fun i x hi hx => ?_, fun i j hi hj => ?_⟩
  · rw [e.a 28 (n 28 (by omega) (by omega))]; exact b7 k hk
  · rw [e.a 30 (n 30 (by omega) (by omega))]; exact b8 i hi
  · rw [e.a 32 (n 32 (by omega) (by omega))]; exact b9 i x hi hx
  · rw [e.a 31 (n 31 (by omega) (by omega))]; exact b10 i j hi hj
