/-! small things for the generated pieces -/
def eSub : List (Option Value) → List (Option Value) → Prop
  | [], _ => True
  | a :: as, b :: bs => (a = none ∨ a = b) ∧ eSub as bs
  | _ :: _, [] => False
theorem eSub_less : ∀ {lv' lv : List (Option Value)}, eSub lv' lv → ∀ (j : Nat) (w : Value), lv'[j]? = some (some w) → lv[j]? = some (some w)
  | [], _, _, j, w, h => by simp at h
  | a :: as, b :: bs, hs, j, w, h => by
    cases j with
    | zero =>
      simp only [List.getElem?_cons_zero, Option.some.injEq] at h ⊢
      rcases hs.1 with e | e
      · rw [e] at h; cases h
      · rw [← e]; exact h
    | succ j =>
      simp only [List.getElem?_cons_succ] at h ⊢
      exact eSub_less hs.2 j w h
  | _ :: _, [], hs, _, _, _ => hs.elim
theorem eS_0 {l : List (Option Value)} : eSub [] l := trivial
theorem eS_n {as bs : List (Option Value)} {b : Option Value} (h : eSub as bs) : eSub (none :: as) (b :: bs) := ⟨Or.inl rfl, h⟩
theorem eS_s {as bs : List (Option Value)} {b : Option Value} (h : eSub as bs) : eSub (b :: as) (b :: bs) := ⟨Or.inr rfl, h⟩
theorem E.less2 {l : Launch} {lo : Nat} {G : eG} {d : Nat} {M : eM} {P : eO → eH → Prop} {pc : Nat} {lv lv' : List (Option Value)} {st : List Value} {h : eH} {k n : Nat} (x : E l lo G d M P pc lv' st h k n) (hs : eSub lv' lv) : E l lo G d M P pc lv st h k n := E.less (eSub_less hs) x
theorem eSwitch (n : Nat) (x : Int32) (hn : n < 1000 := by decide) : (x.toInt < 0 ∨ (n : Int) < x.toInt) ∨ ∃ k : Nat, k ≤ n ∧ x = nI k := by
  by_cases h1 : x.toInt < 0
  · exact Or.inl (Or.inl h1)
  by_cases h2 : (n : Int) < x.toInt
  · exact Or.inl (Or.inr h2)
  refine Or.inr ⟨x.toInt.toNat, by omega, ?_⟩
  apply Int32.toInt.inj
  rw [nI_toInt (by omega)]
  omega
/-- a boolean as javac has it -/
def zI (p : Prop) [Decidable p] : Int32 := if p then 1 else 0
theorem zI_0 {p : Prop} [Decidable p] : zI p = 0 ↔ ¬ p := by unfold zI; split <;> simp_all
theorem zI_1 {p : Prop} [Decidable p] : zI p = 1 ↔ p := by unfold zI; split <;> simp_all
theorem zI_n0 {p : Prop} [Decidable p] : ¬ zI p = 0 ↔ p := by unfold zI; split <;> simp_all
theorem zI_nar (p : Prop) [Decidable p] : narrow .boolean (.int (zI p)) = .int (zI p) := by unfold zI; split <;> decide
theorem zI_fit (p : Prop) [Decidable p] : eFit .boolean (.int (zI p)) := by unfold zI; split; exact eFit_z1; exact eFit_z0
theorem zI_t {p : Prop} [Decidable p] (h : p) : zI p = 1 := by simp [zI, h]
theorem zI_f {p : Prop} [Decidable p] (h : ¬ p) : zI p = 0 := by simp [zI, h]
/-- static methods -/
abbrev tCs : Type := Launch × Nat × eG × eH × Nat × Value
def tPs (c : tCs) : eO → eH → Prop := fun o h' => o = .inl (some c.2.2.2.2.2) ∧ h' = c.2.2.2.1
/-- arguments as locals -/
def eArgs : List Value → List (Option Value)
  | [] => []
  | v :: vs => if v.category = 2 then some v :: none :: eArgs vs else some v :: eArgs vs
def eArL (nL : Nat) (as : List Value) : List (Option Value) := eArgs as ++ List.replicate (nL - (eArgs as).length) none
theorem eArgs_mem : ∀ (as : List Value) (i j : Nat) (w : Value), (eArgs as)[j]? = some (some w) → (i + j, w) ∈ lv_args i as := by
  intro as
  induction as with
  | nil => intro i j w h; simp [eArgs] at h
  | cons v vs ih =>
    intro i j w h
    unfold eArgs at h
    unfold lv_args
    by_cases hc : v.category = 2
    · rw [if_pos hc] at h
      rw [if_pos hc]
      match j with
      | 0 =>
        simp only [List.getElem?_cons_zero, Option.some.injEq] at h
        subst h
        exact List.mem_cons_self
      | 1 => simp at h
      | j + 2 =>
        simp only [List.getElem?_cons_succ] at h
        have := ih (i + 2) j w h
        rw [show i + (j + 2) = i + 2 + j by omega]
        exact List.mem_cons_of_mem _ this
    · rw [if_neg hc] at h
      rw [if_neg hc]
      match j with
      | 0 =>
        simp only [List.getElem?_cons_zero, Option.some.injEq] at h
        subst h
        exact List.mem_cons_self
      | j + 1 =>
        simp only [List.getElem?_cons_succ] at h
        have := ih (i + 1) j w h
        rw [show i + (j + 1) = i + 1 + j by omega]
        exact List.mem_cons_of_mem _ this
theorem eArL_mem {nL : Nat} {as : List Value} : ∀ (j : Nat) (w : Value), (eArL nL as)[j]? = some (some w) → (j, w) ∈ lv_args 0 as := by
  intro j w h
  unfold eArL at h
  by_cases hl : j < (eArgs as).length
  · rw [List.getElem?_append_left hl] at h
    have := eArgs_mem as 0 j w h
    rwa [Nat.zero_add] at this
  · rw [List.getElem?_append_right (by omega), List.getElem?_replicate] at h
    split at h <;> simp at h
theorem tMs_of {M : eM} {lvl : Nat} {args : List Value} {r : Value} (hy : plainName M.2.1.cls = true) (hown : M.1 = M.2.1.cls) (hln : (lg_sl args).length ≤ M.2.2.2.1) (body : ∀ c : tCs, c.2.2.2.2.2 = r → E c.1 c.2.1 c.2.2.1 c.2.2.2.2.1 M (tPs c) 0 (eArL M.2.2.2.1 args) [] c.2.2.2.1 0 0) : tMs M lvl args r :=
  fun l lo G h d _ => Ct_of (eArL M.2.2.2.1 args) hy hown hln eArL_mem (body (l, lo, G, h, d, r) rfl)
theorem tM_mk {M : eM} {lvl : Nat} {args : Nat → List Value} {T : tS} {Q : Option Value → tS → Prop} (hy : plainName M.2.1.cls = true) (hown : M.1 = M.2.1.cls) (hln : ∀ b, (lg_sl (.ref b :: args b)).length ≤ M.2.2.2.1) (body : ∀ c : tC, c.2.2.2.2.2.2 = Q → tX M lvl c 0 (eArL M.2.2.2.1 (.ref c.2.2.2.1 :: args c.2.2.2.1)) T) : tM M lvl args T Q :=
  tM_of (fun b => eArL M.2.2.2.1 (.ref b :: args b)) hy hown hln (fun b j w h => eArL_mem j w h) body
abbrev tBit (s k : Int32) : Prop := (s >>> (k &&& 31)) &&& 1 = 1
abbrev tLet (c : Int32) : Prop := 97 ≤ c ∧ c ≤ 122
abbrev tDig (c : Int32) : Prop := 48 ≤ c ∧ c ≤ 57
abbrev tSgn (c : Int32) : Prop := c = 61 ∨ c = 43 ∨ c = 42 ∨ c = 45 ∨ c = 94 ∨ c = 40 ∨ c = 41 ∨ c = 59
