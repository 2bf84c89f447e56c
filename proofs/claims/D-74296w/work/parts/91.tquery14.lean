/-! the twin answers: is; uses, grows -/
def allB (p : Nat → Bool) : Nat → Bool
  | 0 => true
  | n + 1 => allB p n && p n
def anyB (p : Nat → Bool) : Nat → Bool
  | 0 => false
  | n + 1 => anyB p n || p n
theorem zB0 (b : Bool) : zI (b = true) = 0 ↔ b = false := by cases b <;> decide
theorem is_fin {c : tC} {x1 : Int32} {A B o : Bool} {x4 : Int32} {T : tS} (nx : h_is_25 c x1 (zI ((A && o) = true)) (zI ((B || o) = true)) (x4 + 1) T) :
    (zI (A = true) = 0 → h_is_150 c x1 (zI (B = true)) x4 (zI (o = true)) T) ∧ (¬ zI (A = true) = 0 → (zI (o = true) = 0 → h_is_150 c x1 (zI (B = true)) x4 (zI (o = true)) T) ∧ (¬ zI (o = true) = 0 → (¬ zI (B = true) = 0 → h_is_161 c x1 1 x4 T) ∧ (zI (B = true) = 0 → (zI (o = true) = 0 → h_is_25 c x1 1 0 (x4 + 1) T) ∧ (¬ zI (o = true) = 0 → h_is_161 c x1 1 x4 T)))) := by
  have h150 : (A && o) = false → h_is_150 c x1 (zI (B = true)) x4 (zI (o = true)) T := fun q => by
    rw [q] at nx
    refine s_is_150 c _ _ _ _ T ⟨fun e => s_is_161 c _ _ _ T ?_, fun e => ⟨fun e2 => ?_, fun e2 => s_is_161 c _ _ _ T ?_⟩⟩
    · rw [zI_n0] at e
      rw [e] at nx
      exact nx
    · rw [zB0] at e e2
      rw [e, e2] at nx
      exact nx
    · rw [zI_n0] at e2
      rw [e2, Bool.or_true] at nx
      exact nx
  refine ⟨fun e => h150 (by rw [zB0] at e; rw [e]; rfl), fun e => ⟨fun e2 => h150 (by rw [zB0] at e2; rw [e2, Bool.and_false]), fun e2 => ?_⟩⟩
  rw [zI_n0] at e e2
  rw [e, e2, Bool.or_true] at nx
  exact ⟨fun _ => s_is_161 c _ _ _ T nx, fun _ => ⟨fun q => absurd e2 (by rw [(zB0 o).mp q]; decide), fun _ => s_is_161 c _ _ _ T nx⟩⟩
theorem s_is_86' {c : tC} {x1 : Int32} {A B : Bool} {x4 : Int32} {T : tS} (nx : h_is_25 c x1 (zI ((A && true) = true)) (zI ((B || true) = true)) (x4 + 1) T) : h_is_86 c x1 (zI (A = true)) (zI (B = true)) x4 T := s_is_86 c _ _ _ _ T (is_fin (o := true) nx)
theorem s_is_115' {c : tC} {x1 : Int32} {A B : Bool} {x4 : Int32} {T : tS} (nx : h_is_25 c x1 (zI ((A && true) = true)) (zI ((B || true) = true)) (x4 + 1) T) : h_is_115 c x1 (zI (A = true)) (zI (B = true)) x4 T := s_is_115 c _ _ _ _ T (is_fin (o := true) nx)
def isP (w : Nat) (v m : Nat → Int64) (i : Nat) : Bool := if w = 0 then decide (0 ≤ v i) else if w = 1 then decide (m i = 0 ∨ m i = 1) else if w = 2 then decide (m i = 1 ∨ m i = -1) else decide (m i = 0)
def isV (S w : Nat) (v m : Nat → Int64) : Bool := if w = 3 then anyB (isP w v m) S else allB (isP w v m) S
theorem zRng3 {x : Int32} : ((0 : Int64) ≤ x.toInt64 ∧ x.toInt64 ≤ (3 : Int64)) ↔ ∃ k, k < 4 ∧ x = nI k := by
  have h := zRng (x := x) (N := 4) (by decide)
  have e : (nI 4 - 1).toInt64 = 3 := by decide
  rw [e] at h
  exact h
theorem zRng2 {x : Int32} : ((0 : Int64) ≤ x.toInt64 ∧ x.toInt64 ≤ (2 : Int64)) ↔ ∃ k, k < 3 ∧ x = nI k := by
  have h := zRng (x := x) (N := 3) (by decide)
  have e : (nI 3 - 1).toInt64 = 2 := by decide
  rw [e] at h
  exact h
theorem zRng6 {x : Int32} : ((0 : Int64) ≤ x.toInt64 ∧ x.toInt64 ≤ (6 : Int64)) ↔ ∃ k, k < 7 ∧ x = nI k := by
  have h := zRng (x := x) (N := 7) (by decide)
  have e : (nI 7 - 1).toInt64 = 6 := by decide
  rw [e] at h
  exact h
theorem ct_is {T0 : tS} {S : Nat} {mk : Nat → Nat → Nat} (hM : tMk T0 S mk) {v : Nat → Int64} (hv : tSeg T0 36 0 S v) (a : Int32) : tMi mX6_is 2 (fun _ => [.int a]) T0 (fun r T' => ((∃ w, w < 4 ∧ a = nI w ∧ r = zI (isV S w v (mkAt S mk v) = true)) ∨ (¬ (∃ w, w < 4 ∧ a = nI w) ∧ r = -1)) ∧ tEq [37] T0 T') := by
  obtain ⟨s1, s60, h26, h31, hd⟩ := id hM
  refine en_is _ T0 _ (fun c hc => s_is_0 c _ T0 ⟨fun e => ?_, fun e => ?_⟩)
  · rw [zI_n0, zRng3] at e
    obtain ⟨w, hw, rfl⟩ := e
    refine ⟨_, ct_laysMarks hM hv, ?_⟩
    rintro T5 ⟨e5, sg5⟩
    generalize mkAt S mk v = m at sg5 hc
    have key := loopUp (N := S) (P := fun i => h_is_25 c (nI w) (zI (allB (isP w v m) i = true)) (zI (anyB (isP w v m) i = true)) (nI i) T5) ?_ ?_ 0 (Nat.zero_le _)
    · exact key
    · refine s_is_25 c _ _ _ _ T5 ⟨fun _ => ?_, fun q => absurd (by rw [e5.i 26 (by decide), h26]; exact Int32.le_refl _) q⟩
      rw [hc, show (3 : Int32) = nI 3 from rfl, x_inj (by omega) (by omega)]
      refine ⟨fun q => ⟨_, rfl, Or.inl ⟨w, hw, rfl, ?_⟩, e5⟩, fun q => ⟨_, rfl, Or.inl ⟨w, hw, rfl, ?_⟩, e5⟩⟩
      · unfold isV
        rw [if_neg q]
        cases allB (isP w v m) S <;> decide
      · unfold isV
        rw [if_pos q]
        cases anyB (isP w v m) S <;> decide
    · intro i hi nx
      have e36 : T5.2.2.2 36 (nI i).toNatClampNeg = v i := by
        have := hv i hi
        rw [Nat.zero_add] at this
        rw [nI_clamp (by omega), e5.b 36 (by decide)]
        exact this
      have e37 : T5.2.2.2 37 (nI i).toNatClampNeg = m i := by
        have := sg5 i hi
        rw [Nat.zero_add] at this
        rw [nI_clamp (by omega)]
        exact this
      have nx' : ∀ o, isP w v m i = o → h_is_25 c (nI w) (zI ((allB (isP w v m) i && o) = true)) (zI ((anyB (isP w v m) i || o) = true)) (nI i + 1) T5 := fun o ho => by
        rw [nI_1, ← ho]
        exact nx
      refine s_is_25 c _ _ _ _ T5 ⟨fun q => absurd q (by rw [e5.i 26 (by decide), h26]; exact nI_ge hi (by omega)), fun _ => ⟨vpI (by omega), ?_⟩⟩
      rw [e36, e37]
      refine ⟨fun w0 => ⟨fun w1 => ⟨fun w2 => ⟨fun z => is_fin (o := false) (nx' _ ?_), fun z => is_fin (o := true) (nx' _ ?_)⟩, fun w2 => ⟨fun z => s_is_115' (nx' _ ?_), fun z => ⟨fun z2 => is_fin (o := false) (nx' _ ?_), fun z2 => s_is_115' (nx' _ ?_)⟩⟩⟩, fun w1 => ⟨fun z => s_is_86' (nx' _ ?_), fun z => ⟨fun z2 => is_fin (o := false) (nx' _ ?_), fun z2 => s_is_86' (nx' _ ?_)⟩⟩⟩, fun w0 => ⟨vpI (by omega), fun z => is_fin (o := false) (nx' _ ?_), fun z => is_fin (o := true) (nx' _ ?_)⟩⟩
      · rw [lg_cmp_eq] at z
        have a0 : ¬ w = 0 := fun q => w0 (q ▸ rfl)
        have a1 : ¬ w = 1 := fun q => w1 (q ▸ rfl)
        have a2 : ¬ w = 2 := fun q => w2 (q ▸ rfl)
        simp [isP, a0, a1, a2, z]
      · rw [lg_cmp_eq] at z
        have a0 : ¬ w = 0 := fun q => w0 (q ▸ rfl)
        have a1 : ¬ w = 1 := fun q => w1 (q ▸ rfl)
        have a2 : ¬ w = 2 := fun q => w2 (q ▸ rfl)
        simp [isP, a0, a1, a2, z]
      · rw [lg_cmp_eq] at z
        have a2 : w = 2 := (x_inj (a := w) (b := 2) (by omega) (by omega)).mp w2
        simp [isP, a2, z]
      · rw [lg_cmp_eq] at z z2
        have a2 : w = 2 := (x_inj (a := w) (b := 2) (by omega) (by omega)).mp w2
        simp [isP, a2, z, z2]
      · rw [lg_cmp_eq] at z2
        have a2 : w = 2 := (x_inj (a := w) (b := 2) (by omega) (by omega)).mp w2
        simp [isP, a2, z2]
      · rw [lg_cmp_eq] at z
        have a1 : w = 1 := (x_inj (a := w) (b := 1) (by omega) (by omega)).mp w1
        simp [isP, a1, z]
      · rw [lg_cmp_eq] at z z2
        have a1 : w = 1 := (x_inj (a := w) (b := 1) (by omega) (by omega)).mp w1
        simp [isP, a1, z, z2]
      · rw [lg_cmp_eq] at z2
        have a1 : w = 1 := (x_inj (a := w) (b := 1) (by omega) (by omega)).mp w1
        simp [isP, a1, z2]
      · rw [lg_cmp_lt] at z
        have a0 : w = 0 := (x_inj (a := w) (b := 0) (by omega) (by omega)).mp w0
        have : ¬ 0 ≤ v i := fun q => by rw [Int64.le_iff_toInt_le] at q; rw [Int64.lt_iff_toInt_lt] at z; omega
        simp [isP, a0, this]
      · rw [lg_cmp_lt] at z
        have a0 : w = 0 := (x_inj (a := w) (b := 0) (by omega) (by omega)).mp w0
        have : 0 ≤ v i := by rw [Int64.le_iff_toInt_le]; rw [Int64.lt_iff_toInt_lt] at z; omega
        simp [isP, a0, this]
  · rw [zI_0, zRng3] at e
    rw [hc]
    exact ⟨_, rfl, Or.inr ⟨e, rfl⟩, tEq.refl _ _⟩
theorem ct_uses {T0 : tS} {pl q : Nat} {mv : Nat → List Nat} {X : rX} (h : tIn T0 pl q mv X) {na : Nat} {ps : Nat → Nat → Int64} (hA : tPast T0 na ps) (a : Int32) : tMi mX6_uses 2 (fun _ => [.int a]) T0 (fun r T' => (∃ k, k < (xNm X).length ∧ a = nI k ∧ r = nI (prtS (xSm X k) (xS X)) ∧ tEq [36, 59, 60] T0 T' ∧ tPast T' (actN na) (actP na ps (T0.2.2.2 36)) ∧ tSeg T' 36 0 (xS X) (xSm X k) ∧ ∀ i, xS X ≤ i → T'.2.2.2 36 i = T0.2.2.2 36 i) ∨ (¬ (∃ k, k < (xNm X).length ∧ a = nI k) ∧ r = -1 ∧ T' = T0)) := by
  obtain ⟨a1, a2, a3, a4, a5, a6, a7, a8, a9, a10, a11, a12⟩ := h
  have n8 := a4.2.2.1.1
  have s60 := a4.1.2.1
  have h26 := a4.1.2.2.1
  have h18 : T0.1 18 = nI (xNm X).length := by rw [a9]; exact a4.2.2.1.2.1
  refine en_uses _ T0 _ (fun c hc => s_uses_0 c _ T0 ?_)
  rw [h18]
  refine ⟨fun e => ⟨_, ct_act hA, ?_⟩, fun e => ?_⟩
  · rw [zI_n0, zRng (by omega)] at e
    obtain ⟨k, hk, rfl⟩ := e
    rintro T5 ⟨e5, p5⟩
    have key := loopUp (N := xS X) (P := fun i => ∀ T, tEq [36] T5 T → tSeg T 36 0 i (xSm X k) → (∀ j, i ≤ j → T.2.2.2 36 j = T5.2.2.2 36 j) → h_uses_24 c (nI k) (nI i) T) ?_ ?_ 0 (Nat.zero_le _) T5 (tEq.refl _ _) (fun t ht => absurd ht (Nat.not_lt_zero _)) (fun j _ => rfl)
    · exact key
    · intro T e hs ho
      refine s_uses_24 c _ _ T ⟨fun _ => ⟨_, ct_parts (by rw [e.i 26 (by decide), e5.i 26 (by decide)]; exact h26) s60 hs, ?_⟩, fun q => absurd (by rw [e.i 26 (by decide), e5.i 26 (by decide), h26]; exact Int32.le_refl _) q⟩
      rintro r T6 ⟨rfl, rfl⟩
      rw [hc]
      refine ⟨_, rfl, Or.inl ⟨k, hk, rfl, rfl, (e5.mono (by decide)).trans (e.mono (by decide)), p5.same e (by decide) (by decide), hs, fun i hi => ?_⟩⟩
      rw [ho i hi, e5.b 36 (by decide)]
    · intro i hi nx T e hs ho
      refine s_uses_24 c _ _ T ⟨fun q => absurd q (by rw [e.i 26 (by decide), e5.i 26 (by decide), h26]; exact nI_ge hi (by omega)), fun _ => ?_⟩
      have e47 : T.2.2.2 47 (64 * k + i) = xSm X k i := by
        rw [e.b 47 (by decide), e5.b 47 (by decide), a12 _ (by omega)]
        exact (a4.2.2.2 k hk).2 i hi
      rw [tIx64, nI_clamp (show 64 * k + i < 2 ^ 31 by omega), nI_clamp (show i < 2 ^ 31 by omega), e47, nI_1]
      refine ⟨vpI (by omega), vpI (by omega), nx _ (e.trans (tEq.sB _ _ (by decide))) (fun t ht => ?_) (fun j hj => ?_)⟩
      · rw [tB_bs]
        by_cases z : t = i
        · subst z; rw [Nat.zero_add, up_self]
        · rw [up_ne (by omega)]; exact hs t (by omega)
      · rw [tB_bs, up_ne (by omega)]; exact ho j (by omega)
  · rw [zI_0, zRng (by omega)] at e
    rw [hc]
    exact ⟨_, rfl, Or.inr ⟨e, rfl, rfl⟩⟩
def grwS (n m : Int32) (i : Nat) (v : Nat → Int64) (k : Nat) : Int64 := n.toInt64 * v k + (if k = i then m.toInt64 else 0)
abbrev in9 (x : Int32) : Prop := (-9 : Int64) ≤ x.toInt64 ∧ x.toInt64 ≤ (9 : Int64)
abbrev in999 (x : Int32) : Prop := (-999 : Int64) ≤ x.toInt64 ∧ x.toInt64 ≤ (999 : Int64)
theorem ct_grows {T0 : tS} {S : Nat} {mk : Nat → Nat → Nat} (hM : tMk T0 S mk) {v : Nat → Int64} (hv : tSeg T0 36 0 S v) {na : Nat} {ps : Nat → Nat → Int64} (hA : tPast T0 na ps) (n m a : Int32) : tMl mX6_grows 2 (fun _ => [.int n, .int m, .int a]) T0 (fun r T' => (∃ i, i < S ∧ a = nI i ∧ in9 n ∧ in999 m ∧ fitS S mk (grwS n m i v) ∧ r = grwS n m i v i ∧ tEq [36, 48, 59, 60] T0 T' ∧ tPast T' (actN na) (actP na ps (T0.2.2.2 36)) ∧ tSeg T' 36 0 S (grwS n m i v) ∧ ∀ i, S ≤ i → T'.2.2.2 36 i = T0.2.2.2 36 i) ∨ (¬ (∃ i, i < S ∧ a = nI i ∧ in9 n ∧ in999 m ∧ fitS S mk (grwS n m i v)) ∧ r = -9223372036854775808 ∧ tEq [48] T0 T')) := by
  obtain ⟨s1, s60, h26, h31, hd⟩ := id hM
  refine en_grows _ _ _ T0 _ (fun c hc => s_grows_0 c _ _ _ T0 ?_)
  rw [h26]
  refine ⟨fun e => ?_, fun e => ⟨fun e2 => ?_, fun e2 => ⟨fun e3 => ?_, fun e3 => ?_⟩⟩⟩
  · rw [zI_0, zRng (by omega)] at e
    rw [hc]
    exact ⟨_, rfl, Or.inr ⟨fun ⟨i, hi, q, _⟩ => e ⟨i, hi, q⟩, rfl, tEq.refl _ _⟩⟩
  · rw [zI_0] at e2
    rw [hc]
    exact ⟨_, rfl, Or.inr ⟨fun ⟨i, hi, _, q, _⟩ => e2 q, rfl, tEq.refl _ _⟩⟩
  · rw [zI_n0, zRng (by omega)] at e
    rw [zI_n0] at e2 e3
    obtain ⟨i, hi, rfl⟩ := e
    have hv0 : ∀ k, k < S → T0.2.2.2 36 k = v k := fun k hk => by have := hv k hk; rw [Nat.zero_add] at this; exact this
    have key := loopUp (N := S) (P := fun k => ∀ T, tEq [48] T0 T → tSeg T 48 0 k (grwS n m i v) → h_grows_43 c n m (nI i) (nI k) T) ?_ ?_ 0 (Nat.zero_le _) T0 (tEq.refl _ _) (fun t ht => absurd ht (Nat.not_lt_zero _))
    · exact key
    · intro T e hs
      have hMT := hM.same e (by decide) (by decide)
      have hs0 : ∀ k, k < S → T.2.2.2 48 (0 + k) = grwS n m i v k := hs
      refine s_grows_43 c _ _ _ _ T ⟨fun _ => ⟨_, ct_isFit hMT (fa := 48) (o := 0) (by decide) (by decide) (show 0 + S ≤ 64 by omega), ?_⟩, fun q => absurd (by rw [e.i 26 (by decide), h26]; exact Int32.le_refl _) q⟩
      rintro r T5 ⟨hr, rfl⟩
      rw [fitS_congr hs0] at hr
      refine ⟨fun q => ⟨_, ct_act (hA.same e (by decide) (by decide)), ?_⟩, fun q => ?_⟩
      · have hfit : fitS S mk (grwS n m i v) := by
          rcases hr with ⟨z, _⟩ | ⟨_, z⟩
          · exact z
          · exact absurd z q
        rintro T12 ⟨e12, p12⟩
        rw [e.b 36 (by decide)] at p12
        have key2 := loopUp (N := S) (P := fun k => ∀ T, tEq [36] T12 T → tSeg T 36 0 k (grwS n m i v) → (∀ j, k ≤ j → T.2.2.2 36 j = T12.2.2.2 36 j) → h_grows_111 c (nI i) (nI k) T) ?_ ?_ 0 (Nat.zero_le _) T12 (tEq.refl _ _) (fun t ht => absurd ht (Nat.not_lt_zero _)) (fun j _ => rfl)
        · exact key2
        · intro T6 e6 hs6 ho6
          refine s_grows_111 c _ _ T6 ⟨fun _ => ⟨vpI (by omega), ?_⟩, fun q => absurd (by rw [e6.i 26 (by decide), e12.i 26 (by decide), e.i 26 (by decide), h26]; exact Int32.le_refl _) q⟩
          have hr6 := hs6 i hi
          rw [Nat.zero_add] at hr6
          rw [nI_clamp (by omega), hr6, hc]
          refine ⟨_, rfl, Or.inl ⟨i, hi, rfl, e2, e3, hfit, rfl, ((e.mono (by decide)).trans (e12.mono (by decide))).trans (e6.mono (by decide)), p12.same e6 (by decide) (by decide), hs6, fun j hj => ?_⟩⟩
          rw [ho6 j hj, e12.b 36 (by decide), e.b 36 (by decide)]
        · intro k hk nx T6 e6 hs6 ho6
          refine s_grows_111 c _ _ T6 ⟨fun q => absurd q (by rw [e6.i 26 (by decide), e12.i 26 (by decide), e.i 26 (by decide), h26]; exact nI_ge hk (by omega)), fun _ => ⟨vpI (by omega), vpI (by omega), ?_⟩⟩
          have hk48 := hs0 k hk
          rw [Nat.zero_add] at hk48
          rw [nI_clamp (by omega), e6.b 48 (by decide), e12.b 48 (by decide), hk48, nI_1]
          refine nx _ (e6.trans (tEq.sB _ _ (by decide))) (fun t ht => ?_) (fun j hj => ?_)
          · rw [tB_bs]
            by_cases z : t = k
            · subst z; rw [Nat.zero_add, up_self]
            · rw [up_ne (by omega)]; exact hs6 t (by omega)
          · rw [tB_bs, up_ne (by omega)]; exact ho6 j (by omega)
      · rw [hc]
        refine ⟨_, rfl, Or.inr ⟨?_, rfl, e⟩⟩
        rcases hr with ⟨_, z⟩ | ⟨z, _⟩
        · exact absurd q (by rw [z]; decide)
        · rintro ⟨i', hi', ei, _, _, hf⟩
          rw [x_inj (by omega) (by omega)] at ei
          subst ei
          exact z hf
    · intro k hk nx T e hs
      refine s_grows_43 c _ _ _ _ T ⟨fun q => absurd q (by rw [e.i 26 (by decide), h26]; exact nI_ge hk (by omega)), fun _ => ⟨vpI (by omega), ?_⟩⟩
      rw [nI_clamp (by omega), e.b 36 (by decide), hv0 k hk, x_inj (by omega) (by omega), nI_1]
      have fin : ∀ z, z = grwS n m i v k → h_grows_43 c n m (nI i) (nI (k + 1)) (tB T 48 (va_up (T.2.2.2 48) k z)) := fun z hz => by
        refine nx _ (e.trans (tEq.sB _ _ (by decide))) (fun t ht => ?_)
        rw [tB_bs]
        by_cases w : t = k
        · subst w; rw [Nat.zero_add, up_self, hz]
        · rw [up_ne (by omega)]; exact hs t (by omega)
      refine ⟨fun q => ⟨vpI (by omega), fin _ ?_⟩, fun q => ⟨vpI (by omega), fin _ ?_⟩⟩
      · unfold grwS; rw [if_neg q]; rfl
      · unfold grwS; rw [if_pos q]
  · rw [zI_0] at e3
    rw [hc]
    exact ⟨_, rfl, Or.inr ⟨fun ⟨i, hi, _, _, q, _⟩ => e3 q, rfl, tEq.refl _ _⟩⟩
