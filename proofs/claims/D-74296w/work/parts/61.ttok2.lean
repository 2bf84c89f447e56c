/-! the twin: faults, signs, numbers, names -/
def encV : List Nat → Nat
  | [] => 0
  | c :: l => encV l * 256 + c
def encL (l : List Nat) : Nat := encV l.reverse
theorem encV_inj : ∀ {l l' : List Nat}, (∀ c, c ∈ l → 1 ≤ c ∧ c < 256) → (∀ c, c ∈ l' → 1 ≤ c ∧ c < 256) → encV l = encV l' → l = l' := by
  intro l
  induction l with
  | nil =>
    intro l' _ h2 e
    cases l' with
    | nil => rfl
    | cons c l' =>
      have := h2 c List.mem_cons_self
      simp only [encV] at e
      omega
  | cons a l ih =>
    intro l' h1 h2 e
    cases l' with
    | nil =>
      have := h1 a List.mem_cons_self
      simp only [encV] at e
      omega
    | cons c l' =>
      have ha := h1 a List.mem_cons_self
      have hc := h2 c List.mem_cons_self
      simp only [encV] at e
      have e1 : a = c := by omega
      have e2 : encV l = encV l' := by omega
      rw [e1, ih (fun x hx => h1 x (List.mem_cons_of_mem _ hx)) (fun x hx => h2 x (List.mem_cons_of_mem _ hx)) e2]
theorem encL_inj {l l' : List Nat} (h1 : ∀ c, c ∈ l → 1 ≤ c ∧ c < 256) (h2 : ∀ c, c ∈ l' → 1 ≤ c ∧ c < 256) (e : encL l = encL l') : l = l' := by
  have := encV_inj (l := l.reverse) (l' := l'.reverse) (fun c hc => h1 c (List.mem_reverse.mp hc)) (fun c hc => h2 c (List.mem_reverse.mp hc)) e
  exact List.reverse_inj.mp this
theorem encR_L (bt : Nat → Nat) (q : Nat) : ∀ m, encR bt q m = encL ((List.range m).map (fun i => bt (q + i))) := by
  intro m
  induction m with
  | zero => rfl
  | succ m ih =>
    unfold encL at ih ⊢
    rw [List.range_succ, List.map_append, List.reverse_append]
    show encR bt q m * 256 + bt (q + m) = encV (((List.range m).map (fun i => bt (q + i))).reverse) * 256 + bt (q + m)
    rw [ih]
/-- a word: up to 6 letters -/
def isWd (l : List Nat) : Prop := l.length ≤ 6 ∧ ∀ c, c ∈ l → isLe c
theorem isWd.by {l : List Nat} (h : isWd l) : ∀ c, c ∈ l → 1 ≤ c ∧ c < 256 := fun c hc => by have := h.2 c hc; omega
theorem encV_lt : ∀ {l : List Nat}, (∀ c, c ∈ l → 1 ≤ c ∧ c < 256) → encV l < 256 ^ l.length := by
  intro l
  induction l with
  | nil => intro _; decide
  | cons a l ih =>
    intro h
    have h1 := h a List.mem_cons_self
    have h2 := ih (fun x hx => h x (List.mem_cons_of_mem _ hx))
    simp only [encV, List.length_cons, Nat.pow_succ]
    omega
theorem encL_lt {l : List Nat} (h : isWd l) : encL l < 2 ^ 48 := by
  have h1 := encV_lt (l := l.reverse) (fun c hc => h.by c (List.mem_reverse.mp hc))
  rw [List.length_reverse] at h1
  exact Nat.lt_of_lt_of_le h1 (Nat.le_trans (Nat.pow_le_pow_right (by omega) h.1) (by decide))
theorem tkW_wd {bt : Nat → Nat} {n p : Nat} (h : tkS bt n p = 1) : isWd (tkW bt n p) := by
  have hM : tkM bt n p ≤ 6 := by
    unfold tkS at h
    split at h
    · omega
    · split at h
      · split at h
        · omega
        · omega
      · split at h
        · split at h <;> omega
        · split at h <;> omega
  refine ⟨by simp [tkW, hM], fun c hc => ?_⟩
  obtain ⟨i, hi, rfl⟩ := List.mem_map.mp hc
  have h1 := rn_in (List.mem_range.mp hi)
  have h2 : isLe (hrB bt n (tkP bt n p + i)) := of_decide_eq_true h1
  have h3 := hrB_lt (fun e => by rw [e] at h2; exact absurd h2 (by decide))
  unfold hrB at h2
  rw [if_pos h3] at h2
  exact h2
theorem lN_inj63 {a b : Nat} (ha : a < 2 ^ 63) (hb : b < 2 ^ 63) : lN a = lN b ↔ a = b := by
  constructor
  · intro e
    have h1 : ∀ m : Nat, m < 2 ^ 63 → (lN m).toBitVec.toNat = m := by
      intro m hm
      show (BitVec.ofNat 64 m).toNat = m
      rw [BitVec.toNat_ofNat]
      exact Nat.mod_eq_of_lt (by omega)
    have := congrArg (fun x => x.toBitVec.toNat) e
    simp only [h1 a ha, h1 b hb] at this
    exact this
  · rintro rfl; rfl
def wPl : List Nat := [112, 108, 97, 99, 101, 115]
def wMv : List Nat := [109, 111, 118, 101]
def wLt : List Nat := [108, 101, 116]
def wSo : List Nat := [115, 111, 114, 116]
theorem wd_all : isWd wPl ∧ isWd wMv ∧ isWd wLt ∧ isWd wSo := by
  refine ⟨⟨by decide, ?_⟩, ⟨by decide, ?_⟩, ⟨by decide, ?_⟩, ⟨by decide, ?_⟩⟩ <;> decide
theorem w_all : (123610792682867 : Int64) = lN (encL wPl) ∧ (1836021349 : Int64) = lN (encL wMv) ∧ (7103860 : Int64) = lN (encL wLt) ∧ (1936683636 : Int64) = lN (encL wSo) := by decide +kernel
/-- the word that is pending -/
def isW (bt : Nat → Nat) (n p : Nat) (w : List Nat) : Prop := tkS bt n p = 1 ∧ tkW bt n p = w
def isNm (bt : Nat → Nat) (n p : Nat) : Prop := tkS bt n p = 1 ∧ tkW bt n p ≠ wPl ∧ tkW bt n p ≠ wMv ∧ tkW bt n p ≠ wLt ∧ tkW bt n p ≠ wSo
def isSn (bt : Nat → Nat) (n p c : Nat) : Prop := tkS bt n p = 3 ∧ tkV bt n p = c
theorem tkS_lt (bt : Nat → Nat) (n p : Nat) : tkS bt n p < 5 := by
  unfold tkS
  split
  · omega
  · split
    · split <;> omega
    · split
      · split <;> omega
      · split <;> omega
theorem tkV_lt {bt : Nat → Nat} {n p : Nat} (h : tkS bt n p = 2) : tkV bt n p < 1000 := by
  unfold tkV
  rw [if_pos h]
  have hD : tkD bt n p ≤ 3 := by
    unfold tkS at h
    split at h
    · omega
    · split at h
      · split at h <;> omega
      · split at h
        · split at h <;> omega
        · split at h <;> omega
  refine Nat.lt_of_lt_of_le (decR_lt (q := tkP bt n p) (tkD bt n p) (fun i hi => ?_)) (Nat.le_trans (Nat.pow_le_pow_right (by omega) hD) (by decide))
  have h2 : isDi (hrB bt n (tkP bt n p + i)) := of_decide_eq_true (rn_in hi)
  have h3 := hrB_lt (fun e => by rw [e] at h2; exact absurd h2 (by decide))
  unfold hrB at h2
  rw [if_pos h3] at h2
  exact h2
theorem tkV_lt3 {bt : Nat → Nat} {n p : Nat} (hb : ∀ k, bt k < 256) (h : tkS bt n p = 3) : tkV bt n p < 257 := by
  unfold tkV
  rw [if_neg (by omega)]
  exact hrB_257 hb _ _
theorem tTok.sort {T : tS} {bt : Nat → Nat} {n p : Nat} (h : tTok T bt n p) {k : Nat} (hk : k < 5) : T.1 5 = nI k ↔ tkS bt n p = k := by
  rw [h.2.1]
  have := tkS_lt bt n p
  exact x_inj (by omega) (by omega)
theorem tTok.sign {T : tS} {bt : Nat → Nat} {n p : Nat} (h : tTok T bt n p) (hb : ∀ k, bt k < 256) {c : Nat} (hc : c < 300) : (T.1 5 = 3 ∧ T.1 6 = nI c) ↔ isSn bt n p c := by
  rw [show (3 : Int32) = nI 3 from rfl, h.sort (by omega)]
  unfold isSn
  constructor
  · rintro ⟨h1, h2⟩
    have := tkV_lt3 hb h1
    rw [h.2.2.2.1 (Or.inr h1), x_inj (by omega) (by omega)] at h2
    exact ⟨h1, h2⟩
  · rintro ⟨h1, h2⟩
    exact ⟨h1, by rw [h.2.2.2.1 (Or.inr h1), h2]⟩
theorem tTok.word {T : tS} {bt : Nat → Nat} {n p : Nat} (h : tTok T bt n p) {w : List Nat} (hw : isWd w) (h1 : tkS bt n p = 1) : T.2.1 11 = lN (encL w) ↔ tkW bt n p = w := by
  have hW := tkW_wd h1
  have e : encR bt (tkP bt n p) (tkM bt n p) = encL (tkW bt n p) := encR_L _ _ _
  have l1 := encL_lt hW
  have l2 := encL_lt hw
  rw [h.2.2.2.2 h1, e, lN_inj63 (by omega) (by omega)]
  exact ⟨fun q => encL_inj hW.by hw.by q, fun q => by rw [q]⟩
theorem tTok.isw {T : tS} {bt : Nat → Nat} {n p : Nat} (h : tTok T bt n p) {w : List Nat} (hw : isWd w) : (T.1 5 = 1 ∧ T.2.1 11 = lN (encL w)) ↔ isW bt n p w := by
  rw [show (1 : Int32) = nI 1 from rfl, h.sort (by omega)]
  unfold isW
  exact ⟨fun q => ⟨q.1, (h.word hw q.1).mp q.2⟩, fun q => ⟨q.1, (h.word hw q.1).mpr q.2⟩⟩
theorem tTok.name {T : tS} {bt : Nat → Nat} {n p : Nat} (h : tTok T bt n p) : tName T ↔ isNm bt n p := by
  obtain ⟨d1, d2, d3, d4⟩ := wd_all
  obtain ⟨w1, w2, w3, w4⟩ := w_all
  unfold tName isNm
  rw [w1, w2, w3, w4, show (1 : Int32) = nI 1 from rfl, h.sort (by omega)]
  constructor
  · rintro ⟨a, b1, b2, b3, b4⟩
    exact ⟨a, fun q => b1 ((h.word d1 a).mpr q), fun q => b2 ((h.word d2 a).mpr q), fun q => b3 ((h.word d3 a).mpr q), fun q => b4 ((h.word d4 a).mpr q)⟩
  · rintro ⟨a, b1, b2, b3, b4⟩
    exact ⟨a, fun q => b1 ((h.word d1 a).mp q), fun q => b2 ((h.word d2 a).mp q), fun q => b3 ((h.word d3 a).mp q), fun q => b4 ((h.word d4 a).mp q)⟩
/-- a fault -/
def tFlt (T : tS) (k pl : Nat) : Prop := 1 ≤ k ∧ k ≤ 6 ∧ T.1 7 = nI k ∧ T.1 8 = nI pl
theorem tFlt.bad {T : tS} {k pl : Nat} (h : tFlt T k pl) : ¬ T.1 7 = 0 := by rw [h.2.2.1]; exact nI_ne0 h.1 (by have := h.2.1; omega)
theorem tFlt.same {S : List Nat} {T T' : tS} {k pl : Nat} (h : tFlt T k pl) (e : tEq S T T') (h7 : 7 ∉ S) (h8 : 8 ∉ S) : tFlt T' k pl := ⟨h.1, h.2.1, by rw [e.i 7 h7]; exact h.2.2.1, by rw [e.i 8 h8]; exact h.2.2.2⟩
def wk (bt : Nat → Nat) (n p k : Nat) : Nat := if tkS bt n p = 4 then 1 else k
theorem ct_wrongAt {T0 : tS} (h : T0.1 7 = 0) {k pl : Nat} (hk : 1 ≤ k ∧ k ≤ 6) : tMv mX6_wrongAt 0 (fun _ => [.int (nI k), .int (nI pl)]) T0 (fun T' => tEq [7, 8] T0 T' ∧ tFlt T' k pl) := by
  refine en_wrongAt _ _ T0 _ (fun c hc => s_wrongAt_0 c _ _ T0 ⟨fun _ => ?_, fun e => absurd (by rw [h]; exact Int32.le_refl _) e⟩)
  rw [hc]
  exact ⟨rfl, (tEq.sI _ _ (by decide)).trans (tEq.sI _ _ (by decide)), hk.1, hk.2, by rw [tI_in (by decide), tI_is], tI_is⟩
theorem ct_wrongAt' {T0 : tS} {k0 pl0 : Nat} (h : tFlt T0 k0 pl0) (x y : Int32) : tMv mX6_wrongAt 0 (fun _ => [.int x, .int y]) T0 (fun T' => T' = T0) := by
  refine en_wrongAt _ _ T0 _ (fun c hc => s_wrongAt_0 c _ _ T0 ⟨fun e => absurd e (by rw [h.2.2.1]; exact nI_nle (by have := h.1; omega) (by have := h.2.1; omega)), fun _ => ?_⟩)
  rw [hc]
  exact ⟨rfl, rfl⟩
theorem ct_wrong {T0 : tS} {bt : Nat → Nat} {n p : Nat} (ht : tTok T0 bt n p) (h : T0.1 7 = 0) {k : Nat} (hk : 1 ≤ k ∧ k ≤ 6) : tMv mX6_wrong 1 (fun _ => [.int (nI k)]) T0 (fun T' => tEq [7, 8] T0 T' ∧ tFlt T' (wk bt n p k) (tkP bt n p)) := by
  refine en_wrong _ T0 _ (fun c hc => s_wrong_0 c _ T0 ?_)
  rw [show (4 : Int32) = nI 4 from rfl, ht.sort (by omega), ht.1]
  refine ⟨fun e => ⟨_, ct_wrongAt h hk, ?_⟩, fun e => ⟨_, ct_wrongAt h (k := 1) (by omega), ?_⟩⟩
  · rintro T5 ⟨q1, q2⟩
    rw [hc]
    unfold wk
    rw [if_neg e]
    exact ⟨rfl, q1, q2⟩
  · rintro T5 ⟨q1, q2⟩
    rw [hc]
    unfold wk
    rw [if_pos e]
    exact ⟨rfl, q1, q2⟩
theorem ct_wrong' {T0 : tS} {k0 pl0 : Nat} (h : tFlt T0 k0 pl0) (x : Int32) : tMv mX6_wrong 1 (fun _ => [.int x]) T0 (fun T' => T' = T0) := by
  refine en_wrong _ T0 _ (fun c hc => s_wrong_0 c _ T0 ⟨fun e => ⟨_, ct_wrongAt' h _ _, ?_⟩, fun e => ⟨_, ct_wrongAt' h _ _, ?_⟩⟩)
  · rintro T5 rfl; rw [hc]; exact ⟨rfl, rfl⟩
  · rintro T5 rfl; rw [hc]; exact ⟨rfl, rfl⟩
theorem wk_in {bt : Nat → Nat} {n p k : Nat} (hk : 1 ≤ k ∧ k ≤ 6) : 1 ≤ wk bt n p k ∧ wk bt n p k ≤ 6 := by unfold wk; split <;> omega
/-- what reads on: the pending token is gone over -/
abbrev tSt : List Nat := [3, 4, 5, 6, 11]
theorem ct_goOn2 {T0 : tS} {bt : Nat → Nat} {n p : Nat} (h0 : tTp T0 bt n) (ht : tTok T0 bt n p) (hp : p ≤ n) : tMv mX6_goOn 1 (fun _ => []) T0 (fun T' => tEq tSt T0 T' ∧ tTok T' bt n (tkE bt n p)) := ct_goOn h0 (tkE_le hp) ht.2.2.1
theorem ct_must {T0 : tS} {bt : Nat → Nat} {n p : Nat} (h0 : tTp T0 bt n) (ht : tTok T0 bt n p) (hp : p ≤ n) (h : T0.1 7 = 0) {x : Nat} (hx : x < 300) : tMv mX6_must 2 (fun _ => [.int (nI x)]) T0 (fun T' => (isSn bt n p x ∧ tEq tSt T0 T' ∧ tTok T' bt n (tkE bt n p)) ∨ (¬ isSn bt n p x ∧ tEq [7, 8] T0 T' ∧ tFlt T' (wk bt n p 2) (tkP bt n p))) := by
  refine en_must _ T0 _ (fun c hc => s_must_0 c _ T0 ⟨fun e => absurd h (zI_0.mp e), fun _ => ⟨fun e => ?_, fun e => ?_⟩⟩)
  · rw [zI_n0] at e
    have hs := (ht.sign h0.2.1 hx).mp e.2
    refine s_must_20 c T0 ⟨fun e => absurd h (zI_0.mp e), fun _ => ⟨_, ct_goOn2 h0 ht hp, ?_⟩⟩
    rintro T9 ⟨q1, q2⟩
    rw [hc]
    exact ⟨rfl, Or.inl ⟨hs, q1, q2⟩⟩
  · rw [zI_0] at e
    have hs : ¬ isSn bt n p x := fun q => e ⟨h, (ht.sign h0.2.1 hx).mpr q⟩
    refine ⟨_, ct_wrong ht h (k := 2) (by omega), ?_⟩
    rintro T14 ⟨q1, q2⟩
    refine s_must_20 c _ ⟨fun _ => ?_, fun e => absurd (zI_n0.mp e) q2.bad⟩
    rw [hc]
    exact ⟨rfl, Or.inr ⟨hs, q1, q2⟩⟩
theorem ct_must' {T0 : tS} {k0 pl0 : Nat} (h : tFlt T0 k0 pl0) (x : Int32) : tMv mX6_must 2 (fun _ => [.int x]) T0 (fun T' => T' = T0) := by
  refine en_must _ T0 _ (fun c hc => s_must_0 c _ T0 ⟨fun e => s_must_20 c _ ⟨fun _ => ?_, fun e => absurd (zI_n0.mp e) h.bad⟩, fun e => absurd (zI_n0.mp e) h.bad⟩)
  rw [hc]
  exact ⟨rfl, rfl⟩
theorem ct_number {T0 : tS} {bt : Nat → Nat} {n p : Nat} (h0 : tTp T0 bt n) (ht : tTok T0 bt n p) (hp : p ≤ n) (h : T0.1 7 = 0) {x y : Nat} (hx : x < 1000) (hy : y < 1000) : tMi mX6_number 2 (fun _ => [.int (nI x), .int (nI y)]) T0 (fun r T' => (tkS bt n p = 2 ∧ x ≤ tkV bt n p ∧ tkV bt n p ≤ y ∧ r = nI (tkV bt n p) ∧ tEq tSt T0 T' ∧ tTok T' bt n (tkE bt n p)) ∨ (tkS bt n p ≠ 2 ∧ tEq [7, 8] T0 T' ∧ tFlt T' (wk bt n p 2) (tkP bt n p)) ∨ (tkS bt n p = 2 ∧ ¬ (x ≤ tkV bt n p ∧ tkV bt n p ≤ y) ∧ tEq [7, 8] T0 T' ∧ tFlt T' 4 (tkP bt n p))) := by
  have badend : ∀ (c : tC) (T : tS) (k pl : Nat) (z : Int32), tFlt T k pl → c.2.2.2.2.2.2 (some (.int z)) T → h_number_49 c z T := fun c T k pl z hf hr => s_number_49 c _ _ ⟨fun _ => hr, fun e => absurd (zI_n0.mp e) hf.bad⟩
  refine en_number _ _ T0 _ (fun c hc => s_number_0 c _ _ T0 ⟨fun e => absurd h (zI_0.mp e), fun _ => ⟨fun e => ?_, fun e => ?_⟩⟩)
  · rw [show (2 : Int32) = nI 2 from rfl, ht.sort (by omega)] at e
    have hv := tkV_lt e
    have h6 := ht.2.2.2.1 (Or.inl e)
    refine s_number_20 c _ _ T0 ⟨fun e => absurd h (zI_0.mp e), fun _ => ?_⟩
    rw [h6, nI_l (by omega), nI_l (by omega), nI_l (by omega)]
    refine ⟨fun g => ?_, fun g => ?_⟩
    · rw [zI_n0, lN_le (by omega) (by omega), lN_le (by omega) (by omega)] at g
      refine s_number_49 c _ T0 ⟨fun e => absurd h (zI_0.mp e), fun _ => ⟨_, ct_goOn2 h0 ht hp, ?_⟩⟩
      rintro T9 ⟨q1, q2⟩
      rw [hc]
      exact ⟨_, rfl, Or.inl ⟨e, g.1, g.2, rfl, q1, q2⟩⟩
    · rw [zI_0, lN_le (by omega) (by omega), lN_le (by omega) (by omega)] at g
      refine ⟨_, ct_wrong ht h (k := 4) (by omega), ?_⟩
      rintro T10 ⟨q1, q2⟩
      have w4 : wk bt n p 4 = 4 := by unfold wk; rw [if_neg (by omega)]
      rw [w4] at q2
      refine badend c _ _ _ _ q2 ?_
      rw [hc]
      exact ⟨_, rfl, Or.inr (Or.inr ⟨e, g, q1, q2⟩)⟩
  · rw [show (2 : Int32) = nI 2 from rfl, ht.sort (by omega)] at e
    refine ⟨_, ct_wrong ht h (k := 2) (by omega), ?_⟩
    rintro T10 ⟨q1, q2⟩
    refine s_number_20 c _ _ _ ⟨fun _ => badend c _ _ _ _ q2 ?_, fun e => absurd (zI_n0.mp e) q2.bad⟩
    rw [hc]
    exact ⟨_, rfl, Or.inr (Or.inl ⟨e, q1, q2⟩)⟩
theorem ct_number' {T0 : tS} {k0 pl0 : Nat} (h : tFlt T0 k0 pl0) (x y : Int32) : tMi mX6_number 2 (fun _ => [.int x, .int y]) T0 (fun _ T' => T' = T0) := by
  refine en_number _ _ T0 _ (fun c hc => s_number_0 c _ _ T0 ⟨fun _ => s_number_20 c _ _ _ ⟨fun _ => s_number_49 c _ _ ⟨fun _ => ?_, fun e => absurd (zI_n0.mp e) h.bad⟩, fun e => absurd (zI_n0.mp e) h.bad⟩, fun e => absurd (zI_n0.mp e) h.bad⟩)
  rw [hc]
  exact ⟨_, rfl, rfl⟩
theorem ct_begins {T0 : tS} {bt : Nat → Nat} {n : Nat} (h1 : T0.1 1 = nI n) (hn : n ≤ 700) (hb : ∀ k, bt k < 256) (h0 : ∀ k, k < n → T0.2.2.1 0 k = nI (bt k)) : tMv mX6_begins 2 (fun _ => []) T0 (fun T' => tEq [1, 2, 3, 4, 5, 6, 7, 8, 11] T0 T' ∧ tTp T' bt n ∧ tTok T' bt n 0 ∧ T'.1 1 = 0 ∧ T'.1 7 = 0 ∧ T'.1 8 = -1) := by
  refine en_begins T0 _ (fun c hc => s_begins_0 c T0 ?_)
  have e1 : tEq [1, 2, 3, 7, 8] T0 (tI (tI (tI (tI (tI T0 2 (T0.1 1)) 1 (0 : Int32)) 3 (0 : Int32)) 7 (0 : Int32)) 8 (-1 : Int32)) := ((((tEq.sI _ _ (by decide)).trans (tEq.sI _ _ (by decide))).trans (tEq.sI _ _ (by decide))).trans (tEq.sI _ _ (by decide))).trans (tEq.sI _ _ (by decide))
  have k2 : (tI (tI (tI (tI (tI T0 2 (T0.1 1)) 1 (0 : Int32)) 3 (0 : Int32)) 7 (0 : Int32)) 8 (-1 : Int32)).1 2 = nI n := by rw [tI_in (by decide), tI_in (by decide), tI_in (by decide), tI_in (by decide), tI_is]; exact h1
  have k1 : (tI (tI (tI (tI (tI T0 2 (T0.1 1)) 1 (0 : Int32)) 3 (0 : Int32)) 7 (0 : Int32)) 8 (-1 : Int32)).1 1 = 0 := by rw [tI_in (by decide), tI_in (by decide), tI_in (by decide), tI_is]
  have k3 : (tI (tI (tI (tI (tI T0 2 (T0.1 1)) 1 (0 : Int32)) 3 (0 : Int32)) 7 (0 : Int32)) 8 (-1 : Int32)).1 3 = nI 0 := by rw [tI_in (by decide), tI_in (by decide), tI_is]; rfl
  have k7 : (tI (tI (tI (tI (tI T0 2 (T0.1 1)) 1 (0 : Int32)) 3 (0 : Int32)) 7 (0 : Int32)) 8 (-1 : Int32)).1 7 = 0 := by rw [tI_in (by decide), tI_is]
  have k8 : (tI (tI (tI (tI (tI T0 2 (T0.1 1)) 1 (0 : Int32)) 3 (0 : Int32)) 7 (0 : Int32)) 8 (-1 : Int32)).1 8 = -1 := tI_is
  generalize (tI (tI (tI (tI (tI T0 2 (T0.1 1)) 1 (0 : Int32)) 3 (0 : Int32)) 7 (0 : Int32)) 8 (-1 : Int32)) = TB at e1 k1 k2 k3 k7 k8
  have tp : tTp TB bt n := ⟨hn, hb, k2, fun k hk => by rw [e1.a 0 (by decide)]; exact h0 k hk⟩
  refine ⟨_, ct_goOn tp (Nat.zero_le _) k3, ?_⟩
  rintro T4 ⟨q1, q2⟩
  rw [hc]
  exact ⟨rfl, (e1.mono (by decide)).trans (q1.mono (by decide)), tp.same q1 (by decide) (by decide), q2, by rw [q1.i 1 (by decide)]; exact k1, by rw [q1.i 7 (by decide)]; exact k7, by rw [q1.i 8 (by decide)]; exact k8⟩
theorem ct_tells (T0 : tS) : tMv mX6_tells 0 (fun _ => []) T0 (fun T' => tEq [9, 10] T0 T' ∧ T'.1 9 = T0.1 7 ∧ T'.1 10 = T0.1 8) := by
  refine en_tells T0 _ (fun c hc => s_tells_0 c T0 ?_)
  rw [hc]
  exact ⟨rfl, (tEq.sI _ _ (by decide)).trans (tEq.sI _ _ (by decide)), by rw [tI_in (by decide), tI_is], tI_is⟩
/-- names that are told -/
def tNms (T : tS) (NM : List (List Nat)) : Prop := NM.length ≤ 8 ∧ T.1 14 = nI NM.length ∧ ∀ k, k < NM.length → isWd (NM.getD k []) ∧ T.2.2.2 44 k = lN (encL (NM.getD k []))
theorem tNms.same {S : List Nat} {T T' : tS} {NM : List (List Nat)} (h : tNms T NM) (e : tEq S T T') (h1 : 14 ∉ S) (h2 : 44 ∉ S) : tNms T' NM := ⟨h.1, by rw [e.i 14 h1]; exact h.2.1, fun k hk => by rw [e.b 44 h2]; exact h.2.2 k hk⟩
theorem ct_nameAt {T0 : tS} {bt : Nat → Nat} {n p : Nat} {NM : List (List Nat)} (hN : tNms T0 NM) (ht : tTok T0 bt n p) (h1 : tkS bt n p = 1) : tMi mX6_nameAt 0 (fun _ => []) T0 (fun r T' => T' = T0 ∧ ((tkW bt n p ∈ NM ∧ r = nI (NM.idxOf (tkW bt n p))) ∨ (tkW bt n p ∉ NM ∧ r = -1))) := by
  obtain ⟨n8, h14, h44⟩ := hN
  have gd : ∀ k (hk : k < NM.length), NM.getD k [] = NM[k] := fun k hk => by rw [List.getD_eq_getElem?_getD, List.getElem?_eq_getElem hk]; rfl
  refine en_nameAt T0 _ (fun c hc => s_nameAt_0 c T0 ?_)
  refine loopUp (N := NM.length) (P := fun k => (∀ j, j < k → NM.getD j [] ≠ tkW bt n p) → h_nameAt_2 c (nI k) T0) ?_ ?_ 0 (Nat.zero_le _) (fun j hj => absurd hj (Nat.not_lt_zero _))
  · intro hno
    refine s_nameAt_2 c _ T0 ⟨fun _ => ?_, fun e => absurd (by rw [h14]; exact Int32.le_refl _) e⟩
    rw [hc]
    refine ⟨_, rfl, rfl, Or.inr ⟨fun hm => ?_, rfl⟩⟩
    obtain ⟨k, hk, e⟩ := List.getElem_of_mem hm
    exact hno k hk (by rw [gd k hk]; exact e)
  · intro k hk nx hno
    obtain ⟨w1, w2⟩ := h44 k hk
    refine s_nameAt_2 c _ T0 ⟨fun e => absurd e (by rw [h14]; exact nI_ge hk (by omega)), fun _ => ⟨vpI (by omega), ?_⟩⟩
    rw [lg_cmp_eq, nI_clamp (show k < 2 ^ 31 by omega), w2, nI_1]
    have hiff : lN (encL (NM.getD k [])) = T0.2.1 11 ↔ tkW bt n p = NM.getD k [] := by rw [eq_comm]; exact ht.word w1 h1
    rw [hiff]
    refine ⟨fun e => nx (fun j hj => ?_), fun e => ?_⟩
    · by_cases q : j = k
      · subst q; exact fun z => e z.symm
      · exact hno j (by omega)
    · rw [hc]
      have hm : tkW bt n p ∈ NM := by rw [e, gd k hk]; exact List.getElem_mem hk
      refine ⟨_, rfl, rfl, Or.inl ⟨hm, ?_⟩⟩
      have l1 := List.idxOf_lt_length_of_mem hm
      have l2 := List.getElem_idxOf l1
      congr 1
      rcases Nat.lt_trichotomy k (NM.idxOf (tkW bt n p)) with q | q | q
      · have z := List.not_of_lt_findIdx (p := (· == tkW bt n p)) (xs := NM) (i := k) q
        rw [← gd k hk, ← e] at z
        simp at z
      · exact q
      · exact absurd (by rw [gd _ l1]; exact l2) (hno _ q)
def countOk (u d : Nat) : Prop := u < 30 ∧ d ≤ 6
theorem ct_countsUnit {T0 : tS} {bt : Nat → Nat} {n p u d : Nat} (ht : tTok T0 bt n p) (h : T0.1 7 = 0) (h43 : T0.1 43 = nI u) (h42 : T0.1 42 = nI d) (hu : u ≤ 30) (hd : d ≤ 60) : tMv mX6_countsUnit 2 (fun _ => []) T0 (fun T' => (countOk u d ∧ tEq [43] T0 T' ∧ T'.1 43 = nI (u + 1)) ∨ (¬ countOk u d ∧ tEq [7, 8, 43] T0 T' ∧ tFlt T' (wk bt n p 5) (tkP bt n p))) := by
  refine en_countsUnit T0 _ (fun c hc => s_countsUnit_0 c T0 ?_)
  have bad : ¬ countOk u d → h_countsUnit_25 c T0 := fun hn => by
    refine s_countsUnit_25 c T0 ⟨_, ct_wrong ht h (k := 5) (by omega), ?_⟩
    rintro T4 ⟨q1, q2⟩
    refine s_countsUnit_30 c T4 ?_
    rw [hc]
    exact ⟨rfl, Or.inr ⟨hn, (q1.mono (by decide)).trans (tEq.sI _ _ (by decide)), q2.same (tEq.sI (S := [43]) _ _ (by decide)) (by decide) (by decide)⟩⟩
  rw [h43, h42, show (30 : Int32) = nI 30 from rfl, show (6 : Int32) = nI 6 from rfl, x_inj (by omega) (by omega), nI_leI (by omega) (by omega)]
  refine ⟨fun e => absurd h (zI_0.mp e), fun _ => ⟨fun e => bad (fun q => by have := q.1; omega), fun e => ⟨fun e2 => s_countsUnit_30 c T0 ?_, fun e2 => bad (fun q => by have := q.2; omega)⟩⟩⟩
  rw [hc, h43, nI_1]
  exact ⟨rfl, Or.inl ⟨⟨by omega, e2⟩, tEq.sI _ _ (by decide), tI_is⟩⟩
theorem ct_countsUnit' {T0 : tS} {k0 pl0 : Nat} (h : tFlt T0 k0 pl0) : tMv mX6_countsUnit 2 (fun _ => []) T0 (fun T' => tEq [43] T0 T' ∧ tFlt T' k0 pl0) := by
  refine en_countsUnit T0 _ (fun c hc => s_countsUnit_0 c T0 ⟨fun _ => s_countsUnit_30 c T0 ?_, fun e => absurd (zI_n0.mp e) h.bad⟩)
  rw [hc]
  exact ⟨rfl, tEq.sI _ _ (by decide), h.same (tEq.sI (S := [43]) _ _ (by decide)) (by decide) (by decide)⟩
