/-! the twin: turned, least turned, places of subgroups and sorts, cosets -/
theorem up_self {α : Type} {f : Nat → α} {k : Nat} {v : α} : va_up f k v k = v := by simp [va_up]
theorem up_ne {α : Type} {f : Nat → α} {k j : Nat} {v : α} (h : j ≠ k) : va_up f k v j = f j := by simp [va_up, h]
theorem tA_as {T : tS} {f : Nat} {g : Nat → Int32} : (tA T f g).2.2.1 f = g := up_self
theorem tA_an {T : tS} {f x : Nat} {g : Nat → Int32} (h : x ≠ f) : (tA T f g).2.2.1 x = T.2.2.1 x := up_ne h
theorem tB_bs {T : tS} {f : Nat} {g : Nat → Int64} : (tB T f g).2.2.2 f = g := up_self
theorem tB_bn {T : tS} {f x : Nat} {g : Nat → Int64} (h : x ≠ f) : (tB T f g).2.2.2 x = T.2.2.2 x := up_ne h
theorem tI_is {T : tS} {f : Nat} {v : Int32} : (tI T f v).1 f = v := up_self
theorem tI_in {T : tS} {f x : Nat} {v : Int32} (h : x ≠ f) : (tI T f v).1 x = T.1 x := up_ne h
theorem tL_ls {T : tS} {f : Nat} {v : Int64} : (tL T f v).2.1 f = v := up_self
theorem tL_ln {T : tS} {f x : Nat} {v : Int64} (h : x ≠ f) : (tL T f v).2.1 x = T.2.1 x := up_ne h
theorem tI_l {T : tS} {f : Nat} {v : Int32} : (tI T f v).2 = T.2 := rfl
theorem tA_i {T : tS} {f : Nat} {g : Nat → Int32} : (tA T f g).1 = T.1 := rfl
theorem tA_l {T : tS} {f : Nat} {g : Nat → Int32} : (tA T f g).2.1 = T.2.1 := rfl
theorem tA_b {T : tS} {f : Nat} {g : Nat → Int32} : (tA T f g).2.2.2 = T.2.2.2 := rfl
theorem tB_i {T : tS} {f : Nat} {g : Nat → Int64} : (tB T f g).1 = T.1 := rfl
theorem tB_l {T : tS} {f : Nat} {g : Nat → Int64} : (tB T f g).2.1 = T.2.1 := rfl
theorem tB_a {T : tS} {f : Nat} {g : Nat → Int64} : (tB T f g).2.2.1 = T.2.2.1 := rfl
theorem tL_i {T : tS} {f : Nat} {v : Int64} : (tL T f v).1 = T.1 := rfl
theorem tL_r {T : tS} {f : Nat} {v : Int64} : (tL T f v).2.2 = T.2.2 := rfl
/-- the same memory but for the fields of S -/
def tEq (S : List Nat) (T T' : tS) : Prop := ∀ f, f ∉ S → T'.1 f = T.1 f ∧ T'.2.1 f = T.2.1 f ∧ T'.2.2.1 f = T.2.2.1 f ∧ T'.2.2.2 f = T.2.2.2 f
theorem tEq.refl (S : List Nat) (T : tS) : tEq S T T := fun _ _ => ⟨rfl, rfl, rfl, rfl⟩
theorem tEq.trans {S : List Nat} {T T1 T2 : tS} (h1 : tEq S T T1) (h2 : tEq S T1 T2) : tEq S T T2 := fun f hf => by
  obtain ⟨a1, a2, a3, a4⟩ := h1 f hf
  obtain ⟨b1, b2, b3, b4⟩ := h2 f hf
  exact ⟨b1.trans a1, b2.trans a2, b3.trans a3, b4.trans a4⟩
theorem tEq.mono {S S' : List Nat} {T T' : tS} (h : tEq S T T') (hs : ∀ f, f ∈ S → f ∈ S') : tEq S' T T' := fun f hf => h f (fun q => hf (hs f q))
theorem tEq.sI {S : List Nat} (T : tS) {f : Nat} (v : Int32) (hf : f ∈ S) : tEq S T (tI T f v) := fun g hg => ⟨by simp [tI, va_up, show g ≠ f from fun q => hg (q ▸ hf)], rfl, rfl, rfl⟩
theorem tEq.sL {S : List Nat} (T : tS) {f : Nat} (v : Int64) (hf : f ∈ S) : tEq S T (tL T f v) := fun g hg => ⟨rfl, by simp [tL, va_up, show g ≠ f from fun q => hg (q ▸ hf)], rfl, rfl⟩
theorem tEq.sA {S : List Nat} (T : tS) {f : Nat} (v : Nat → Int32) (hf : f ∈ S) : tEq S T (tA T f v) := fun g hg => ⟨rfl, rfl, by simp [tA, va_up, show g ≠ f from fun q => hg (q ▸ hf)], rfl⟩
theorem tEq.sB {S : List Nat} (T : tS) {f : Nat} (v : Nat → Int64) (hf : f ∈ S) : tEq S T (tB T f v) := fun g hg => ⟨rfl, rfl, rfl, by simp [tB, va_up, show g ≠ f from fun q => hg (q ▸ hf)]⟩
theorem tEq.i {S : List Nat} {T T' : tS} (h : tEq S T T') (f : Nat) (hf : f ∉ S) : T'.1 f = T.1 f := (h f hf).1
theorem tEq.l {S : List Nat} {T T' : tS} (h : tEq S T T') (f : Nat) (hf : f ∉ S) : T'.2.1 f = T.2.1 f := (h f hf).2.1
theorem tEq.a {S : List Nat} {T T' : tS} (h : tEq S T T') (f : Nat) (hf : f ∉ S) : T'.2.2.1 f = T.2.2.1 f := (h f hf).2.2.1
theorem tEq.b {S : List Nat} {T T' : tS} (h : tEq S T T') (f : Nat) (hf : f ∉ S) : T'.2.2.2 f = T.2.2.2 f := (h f hf).2.2.2
theorem tTab.same {S : List Nat} {T T' : tS} {n : Nat} {mul : Nat → Nat → Nat} {inv : Nat → Nat} (h : tTab T n mul inv) (e : tEq S T T') (h1 : 20 ∉ S) (h2 : 23 ∉ S) (h3 : 24 ∉ S) : tTab T' n mul inv := by
  obtain ⟨a1, a2, a3, a4, a5⟩ := h
  exact ⟨a1, a2, by rw [e.i 20 h1]; exact a3, fun x y hx hy => by rw [e.a 23 h2]; exact a4 x y hx hy, fun x hx => by rw [e.a 24 h3]; exact a5 x hx⟩
theorem ct_turned {T : tS} {n : Nat} {mul : Nat → Nat → Nat} {inv : Nat → Nat} (h : tTab T n mul inv) {s g : Nat} (hs : s < 2 ^ n) (hg : g < n) : tMi mX6_turned 1 (fun _ => [.int (nI s), .int (nI g)]) T (fun r T' => r = nI (tn n mul inv s g) ∧ T' = T) := by
  obtain ⟨hG, hn, hT, hmul, hinv⟩ := id h
  refine en_turned _ _ T _ (fun c hc => s_turned_0 c _ _ T ?_)
  have hig := (hG.2.2.2.2 g hg).1
  have e24 : T.2.2.1 24 (nI g).toNatClampNeg = nI (inv g) := by rw [nI_clamp (by omega)]; exact hinv g hg
  refine loopUp (N := n) (P := fun i => h_turned_5 c (nI s) (nI g) (nI (imS (fun x => s.testBit x) (fun x => mul (mul (inv g) x) g) i)) (nI i) T) ?_ ?_ 0 (Nat.zero_le _)
  · refine s_turned_5 c _ _ _ _ T ⟨fun _ => ?_, fun e => absurd (by rw [hT]; exact Int32.le_refl _) e⟩
    rw [hc]
    exact ⟨_, rfl, rfl, rfl⟩
  · intro i hi next
    have h1 := hG.2.1 _ _ hig hi
    refine s_turned_5 c _ _ _ _ T ⟨fun e => absurd e (by rw [hT]; exact nI_ge hi (by omega)), fun _ => ⟨fun e => ?_, fun e => ?_⟩⟩
    · rw [zI_0, bit31 hs hn hi] at e
      refine s_turned_45 c _ _ _ _ T ?_
      rw [nI_1]
      simp only [imS, e, Bool.false_eq_true, if_false] at next
      exact next
    · rw [zI_n0, bit31 hs hn hi] at e
      rw [e24, tBy_at h hig hi, tBy_at h h1 hg, x_orbit (by have := hG.2.1 _ _ h1 hg; omega)]
      refine ⟨vpI (by omega), tBy_in h hig hi, tBy_in h h1 hg, s_turned_45 c _ _ _ _ T ?_⟩
      rw [nI_1]
      simp only [imS, e, if_true] at next
      exact next
theorem ct_leastTurned {T : tS} {n : Nat} {mul : Nat → Nat → Nat} {inv : Nat → Nat} (h : tTab T n mul inv) {s : Nat} (hs : s < 2 ^ n) : tMi mX6_leastTurned 2 (fun _ => [.int (nI s)]) T (fun r T' => r = nI (ft n mul inv s) ∧ T' = T) := by
  obtain ⟨hG, hn, hT, hmul, hinv⟩ := id h
  refine en_leastTurned _ T _ (fun c hc => s_leastTurned_0 c _ T ?_)
  refine loopUp (N := n) (P := fun i => h_leastTurned_4 c (nI s) (nI (ftR n mul inv s i)) (nI i) T) ?_ ?_ 0 (Nat.zero_le _)
  · refine s_leastTurned_4 c _ _ _ T ⟨fun _ => ?_, fun e => absurd (by rw [hT]; exact Int32.le_refl _) e⟩
    rw [hc]
    exact ⟨_, rfl, rfl, rfl⟩
  · intro i hi next
    refine s_leastTurned_4 c _ _ _ T ⟨fun e => absurd e (by rw [hT]; exact nI_ge hi (by omega)), fun _ => ⟨_, ct_turned h hs hi, ?_⟩⟩
    rintro r T5 ⟨rfl, rfl⟩
    have b1 := pow31 (ftR_lt (mul := mul) (inv := inv) hs i) hn
    have b2 := pow31 (tn_lt (s := s) hG hi) hn
    rw [nI_leI b1 b2, nI_1]
    unfold ftR at next
    refine ⟨fun g => ?_, fun g => ?_⟩
    · rw [Nat.min_eq_left g] at next; exact next
    · rw [Nat.min_eq_right (by omega)] at next; exact next
/-- a list lies in an int array, its length in a field -/
def tLi (T : tS) (fl fa : Nat) (L : List Nat) : Prop := T.1 fl = nI L.length ∧ ∀ i, i < L.length → T.2.2.1 fa i = nI (L.getD i 0)
theorem tLi.same {S : List Nat} {T T' : tS} {fl fa : Nat} {L : List Nat} (h : tLi T fl fa L) (e : tEq S T T') (h1 : fl ∉ S) (h2 : fa ∉ S) : tLi T' fl fa L := ⟨by rw [e.i fl h1]; exact h.1, fun i hi => by rw [e.a fa h2]; exact h.2 i hi⟩
theorem gD_at {L : List Nat} {i : Nat} (hi : i < L.length) : L.getD i 0 = L[i] := by rw [List.getD_eq_getElem?_getD, List.getElem?_eq_getElem hi]; rfl
theorem gD_mem {L : List Nat} {i : Nat} (hi : i < L.length) : L.getD i 0 ∈ L := by rw [gD_at hi]; exact List.getElem_mem hi
theorem gD_ex {L : List Nat} {s : Nat} (h : s ∈ L) : ∃ i, i < L.length ∧ L.getD i 0 = s := by
  obtain ⟨i, h1, h2⟩ := List.getElem_of_mem h
  exact ⟨i, h1, by rw [gD_at h1]; exact h2⟩
theorem idx_eq {L : List Nat} {s i : Nat} (hi : i < L.length) (hg : L.getD i 0 = s) (hj : ∀ j, j < i → L.getD j 0 ≠ s) : L.idxOf s = i := by
  unfold List.idxOf
  rw [List.findIdx_eq hi]
  refine ⟨by rw [gD_at hi] at hg; simp [hg], fun j hji => ?_⟩
  have := hj j hji
  rw [gD_at (by omega)] at this
  simpa using this
theorem idx_lt {L : List Nat} {s : Nat} (h : s ∈ L) : L.idxOf s < L.length := List.idxOf_lt_length_of_mem h
theorem idx_at {L : List Nat} {s : Nat} (h : s ∈ L) : L.getD (L.idxOf s) 0 = s := by rw [gD_at (idx_lt h)]; exact List.getElem_idxOf (idx_lt h)
theorem ct_subIndex {T : tS} {L : List Nat} (h : tLi T 25 27 L) (hL : L.length ≤ 128) (hb : ∀ x, x ∈ L → x < 2 ^ 31) {s : Nat} (hs : s < 2 ^ 31) : tMi mX6_subIndex 0 (fun _ => [.int (nI s)]) T (fun r T' => (s ∈ L → r = nI (L.idxOf s)) ∧ (s ∉ L → r = -1) ∧ T' = T) := by
  refine en_subIndex _ T _ (fun c hc => s_subIndex_0 c _ T ?_)
  have key : ∀ i, i ≤ L.length → (∀ j, j < i → L.getD j 0 ≠ s) → h_subIndex_2 c (nI s) (nI i) T := by
    refine loopUp (N := L.length) (P := fun i => (∀ j, j < i → L.getD j 0 ≠ s) → h_subIndex_2 c (nI s) (nI i) T) ?_ ?_
    · intro hj
      refine s_subIndex_2 c _ _ T ⟨fun _ => ?_, fun e => absurd (by rw [h.1]; exact Int32.le_refl _) e⟩
      rw [hc]
      refine ⟨_, rfl, fun hm => ?_, fun _ => rfl, rfl⟩
      obtain ⟨j, hj1, hj2⟩ := List.getElem_of_mem hm
      exact absurd (by rw [List.getD_eq_getElem?_getD, List.getElem?_eq_getElem hj1]; exact hj2) (hj j hj1)
    · intro i hi next hj
      refine s_subIndex_2 c _ _ T ⟨fun e => absurd e (by rw [h.1]; exact nI_ge hi (by omega)), fun _ => ⟨vpI (by omega), ?_, ?_⟩⟩
      · intro g
        rw [nI_1]
        refine next (fun j hj1 => ?_)
        by_cases e : j = i
        · subst e
          intro q
          apply g
          rw [nI_clamp (by omega), h.2 j hi, q]
        · exact hj j (by omega)
      · intro g
        rw [hc]
        have hmem : L.getD i 0 ∈ L := by rw [List.getD_eq_getElem?_getD, List.getElem?_eq_getElem hi]; exact List.getElem_mem hi
        have hg : L.getD i 0 = s := by
          rw [nI_clamp (by omega), h.2 i hi] at g
          exact (x_inj (by have := hb _ hmem; omega) (by omega)).mp g
        refine ⟨_, rfl, fun _ => ?_, fun hn => absurd (hg ▸ hmem) hn, rfl⟩
        have : L.idxOf s = i := idx_eq hi hg hj
        rw [this]
  exact key 0 (Nat.zero_le _) (fun j hj => by omega)
