/-! contracts of the component's and the JDK's methods over the abstract heap -/
abbrev cC : Type := Launch × Nat × eG × Nat × (eO → eH → Prop)
/-- a field's value -/
def fV (h : eH) (o ci j : Nat) (v : Value) : Prop := ∃ fs, h.1 o = some (.inr (ci, fs)) ∧ fs[j]? = some v
abbrev cX0 : Nat → Nat → eH → Prop := fun _ _ _ => False
/-- it returns (Q) or throws an object of class ci (X) -/
def cT (l : Launch) (lo : Nat) (G : eG) (d : Nat) (M : eM) (args : List Value) (h : eH) (k n : Nat) (Q : Option Value → eH → Prop) (X : Nat → Nat → eH → Prop) : Prop := Ct l lo G d M args h k n (fun o h' => (∃ v, o = .inl v ∧ Q v h') ∨ ∃ ci q, o = .inr q ∧ lo ≤ q ∧ (∃ fs, h'.1 q = some (.inr (ci, fs))) ∧ X ci q h')
def cV (l : Launch) (lo : Nat) (G : eG) (d : Nat) (M : eM) (args : List Value) (h : eH) (k n : Nat) (Q : eH → Prop) (X : Nat → Nat → eH → Prop) : Prop := cT l lo G d M args h k n (fun v h' => v = none ∧ Q h') X
def cI (l : Launch) (lo : Nat) (G : eG) (d : Nat) (M : eM) (args : List Value) (h : eH) (k n : Nat) (Q : Int32 → eH → Prop) (X : Nat → Nat → eH → Prop) : Prop := cT l lo G d M args h k n (fun v h' => ∃ r, v = some (.int r) ∧ Q r h') X
def cL (l : Launch) (lo : Nat) (G : eG) (d : Nat) (M : eM) (args : List Value) (h : eH) (k n : Nat) (Q : Int64 → eH → Prop) (X : Nat → Nat → eH → Prop) : Prop := cT l lo G d M args h k n (fun v h' => ∃ r, v = some (.long r) ∧ Q r h') X
def cR (l : Launch) (lo : Nat) (G : eG) (d : Nat) (M : eM) (args : List Value) (h : eH) (k n : Nat) (Q : Nat → eH → Prop) (X : Nat → Nat → eH → Prop) : Prop := cT l lo G d M args h k n (fun v h' => ∃ r, v = some (.ref r) ∧ Q r h') X
def cQ (l : Launch) (lo : Nat) (G : eG) (d : Nat) (M : eM) (args : List Value) (h : eH) (k n : Nat) (Q : Option Nat → eH → Prop) (X : Nat → Nat → eH → Prop) : Prop := cT l lo G d M args h k n (fun v h' => ∃ r, v = some (va_rf r) ∧ Q r h') X
/-- what a contract's end is, as a method's P -/
abbrev pT (lo : Nat) (Q : Option Value → eH → Prop) (X : Nat → Nat → eH → Prop) : eO → eH → Prop := fun o h' => (∃ v, o = .inl v ∧ Q v h') ∨ ∃ ci q, o = .inr q ∧ lo ≤ q ∧ (∃ fs, h'.1 q = some (.inr (ci, fs))) ∧ X ci q h'
/-- a cell of a class that may be cast to nm -/
def eCs (G : eG) (h : eH) (a : Nat) (nm : String) : Prop := eIs G h a nm ∨ ∃ C, eIs G h a C ∧ Cond.castable C nm ∈ lw_tbl
section ERD
variable {l : Launch} {lo : Nat} {G : eG} {d : Nat} {M : eM} {P : eO → eH → Prop} {pc : Nat} {lv : List (Option Value)} {st : List Value} {h : eH} {k n : Nat}
theorem c_castR {idx a : Nat} {nm : String} (D : decode M.2.2.1 pc = .ok (.checkcast idx, 3)) (q : Cond.classLink M.1 idx nm ∈ lw_all) (hi : eCs G h a nm) (x1 : E l lo G d M P (pc + 3) lv (.ref a :: st) h k n) : E l lo G d M P pc lv (.ref a :: st) h k n := by
  rcases hi with hi | ⟨C, hi, q2⟩
  · exact e_castE D q hi x1
  · exact e_castY D q q2 hi x1
theorem c_cast {idx : Nat} {r : Option Nat} {nm : String} (D : decode M.2.2.1 pc = .ok (.checkcast idx, 3)) (q : Cond.classLink M.1 idx nm ∈ lw_all) (hi : ∀ o, r = some o → eCs G h o nm) (x1 : E l lo G d M P (pc + 3) lv (va_rf r :: st) h k n) : E l lo G d M P pc lv (va_rf r :: st) h k n := by
  cases r with
  | none => exact e_castN D x1
  | some a => exact c_castR D q (hi a rfl) x1
theorem c_newarrayI {N : Nat} {i : Int32} (D : decode M.2.2.1 pc = .ok (.newarray .int, 2)) (q : Cond.arrayClass .int ∈ lw_all) (hi : i = nI N) (hb : N ≤ 10000000) (hk : 1 ≤ k) (hn : N ≤ n) (x1 : E l lo G d M P (pc + 2) lv (.ref h.2 :: st) (eNw h (.inl (G.2.1 0, N, .inl (fun _ => 0)))) (k - 1) (n - N)) : E l lo G d M P pc lv (.int i :: st) h k n := by
  subst hi
  exact e_newarray 0 N (v := (N, .inl (fun _ => 0))) D rfl (fun _ => rfl) (fun G U h => h) q (nI_pos (by omega)) (nI_clamp (by omega)) (by show N * 4 ≤ _; omega) (fun _ => rfl) (k1 := k - 1) (n1 := n - N) (by omega) (by omega) x1
theorem c_newarrayJ {N : Nat} {i : Int32} (D : decode M.2.2.1 pc = .ok (.newarray .long, 2)) (q : Cond.arrayClass .long ∈ lw_all) (hi : i = nI N) (hb : N ≤ 10000000) (hk : 1 ≤ k) (hn : N ≤ n) (x1 : E l lo G d M P (pc + 2) lv (.ref h.2 :: st) (eNw h (.inl (G.2.1 1, N, .inr (.inl (fun _ => 0))))) (k - 1) (n - N)) : E l lo G d M P pc lv (.int i :: st) h k n := by
  subst hi
  exact e_newarray 1 N (v := (N, .inr (.inl (fun _ => 0)))) D rfl (fun _ => rfl) (fun G U h => h) q (nI_pos (by omega)) (nI_clamp (by omega)) (by show N * 8 ≤ _; omega) (fun _ => rfl) (k1 := k - 1) (n1 := n - N) (by omega) (by omega) x1
theorem c_newarrayB {N : Nat} {i : Int32} (D : decode M.2.2.1 pc = .ok (.newarray .byte, 2)) (q : Cond.arrayClass .byte ∈ lw_all) (hi : i = nI N) (hb : N ≤ 10000000) (hk : 1 ≤ k) (hn : N ≤ n) (x1 : E l lo G d M P (pc + 2) lv (.ref h.2 :: st) (eNw h (.inl (G.2.1 2, N, .inl (fun _ => 0)))) (k - 1) (n - N)) : E l lo G d M P pc lv (.int i :: st) h k n := by
  subst hi
  exact e_newarray 2 N (v := (N, .inl (fun _ => 0))) D rfl (fun _ => rfl) (fun G U h => h) q (nI_pos (by omega)) (nI_clamp (by omega)) (by show N * 1 ≤ _; omega) (fun _ => rfl) (k1 := k - 1) (n1 := n - N) (by omega) (by omega) x1
theorem c_anewarray {idx N : Nat} {i : Int32} (D : decode M.2.2.1 pc = .ok (.anewarray idx, 3)) (q : Cond.classLink M.1 idx "java/lang/Object" ∈ lw_all) (q2 : Cond.arrayOver (.object "java/lang/Object") ∈ lw_tbl) (hi : i = nI N) (hb : N ≤ 10000000) (hk : 1 ≤ k) (hn : N ≤ n) (x1 : E l lo G d M P (pc + 3) lv (.ref h.2 :: st) (eNw h (.inl (G.2.1 3, N, .inr (.inr (.inr (.inr (fun _ => none))))))) (k - 1) (n - N)) : E l lo G d M P pc lv (.int i :: st) h k n := by
  subst hi
  exact e_anewarray D q q2 (nI_pos (by omega)) (nI_clamp (by omega)) (by omega) (k1 := k - 1) (n1 := n - N) (by omega) (by omega) x1
theorem c_anewarrayJ {idx N : Nat} {i : Int32} (D : decode M.2.2.1 pc = .ok (.anewarray idx, 3)) (q : Cond.classLink M.1 idx "[J" ∈ lw_all) (q2 : Cond.arrayOver (.array .long) ∈ lw_tbl) (hi : i = nI N) (hb : N ≤ 10000000) (hk : 1 ≤ k) (hn : N ≤ n) (x1 : E l lo G d M P (pc + 3) lv (.ref h.2 :: st) (eNw h (.inl (G.2.1 5, N, .inr (.inr (.inr (.inr (fun _ => none))))))) (k - 1) (n - N)) : E l lo G d M P pc lv (.int i :: st) h k n := by
  subst hi
  exact e_anewarrayJ D q q2 (nI_pos (by omega)) (nI_clamp (by omega)) (by omega) (k1 := k - 1) (n1 := n - N) (by omega) (by omega) x1
theorem c_multinew {idx N K : Nat} {i j : Int32} (D : decode M.2.2.1 pc = .ok (.multianewarray idx 2, 4)) (q : Cond.classLink M.1 idx "[[I" ∈ lw_all) (q2 : Cond.arrayOver (.array .int) ∈ lw_tbl) (q3 : Cond.arrayClass .int ∈ lw_all) (hi : i = nI N) (hj : j = nI K) (hb : N ≤ 10000) (hb2 : K ≤ 10000) (hk : 1 + N ≤ k) (hn : N + N * K ≤ n) (x1 : E l lo G d M P (pc + 4) lv (.ref h.2 :: st) (eMw G h N K) (k - (1 + N)) (n - (N + N * K))) : E l lo G d M P pc lv (.int j :: .int i :: st) h k n := by
  subst hi hj
  exact e_multinew D q q2 q3 (nI_pos (by omega)) (nI_pos (by omega)) (nI_clamp (by omega)) (nI_clamp (by omega)) (by omega) (by omega) (k1 := k - (1 + N)) (n1 := n - (N + N * K)) (by omega) (by omega) x1
end ERD
/-! what is the same of two heaps -/
/-- all that stood there stands there, but for the cells of W -/
def hLe (W : Nat → Prop) (h h' : eH) : Prop := h.2 ≤ h'.2 ∧ ∀ a, a < h.2 → ¬ W a → h'.1 a = h.1 a
theorem hLe.refl {W : Nat → Prop} {h : eH} : hLe W h h := ⟨Nat.le_refl _, fun _ _ _ => rfl⟩
theorem hLe.trans {W : Nat → Prop} {h h1 h2 : eH} (a : hLe W h h1) (b : hLe W h1 h2) : hLe W h h2 := ⟨Nat.le_trans a.1 b.1, fun x hx hw => (b.2 x (Nat.lt_of_lt_of_le hx a.1) hw).trans (a.2 x hx hw)⟩
theorem hLe.mono {W W' : Nat → Prop} {h h' : eH} (a : hLe W h h') (b : ∀ x, x < h.2 → W x → W' x) : hLe W' h h' := ⟨a.1, fun x hx hw => a.2 x hx (fun q => hw (b x hx q))⟩
/-- behind what has been made since h nothing else may have changed -/
theorem hLe.nw {W : Nat → Prop} {h h1 : eH} {x : va_E} (a : hLe W h h1) : hLe W h (eNw h1 x) := ⟨Nat.le_succ_of_le a.1, fun y hy hw => by
  show (if y = h1.2 then some x else h1.1 y) = _
  rw [if_neg (by have := a.1; omega)]
  exact a.2 y hy hw⟩
theorem hLe.up {W : Nat → Prop} {h h1 : eH} {o : Nat} {x : va_E} (a : hLe W h h1) (b : o < h.2 → W o) : hLe W h (eUp h1 o x) := ⟨a.1, fun y hy hw => by
  have hne : ¬ y = o := fun q => by
    subst q
    exact hw (b hy)
  show (if y = o then some x else h1.1 y) = _
  rw [if_neg hne]
  exact a.2 y hy hw⟩
theorem eNw_at {h : eH} {x : va_E} : (eNw h x).1 h.2 = some x := if_pos rfl
theorem eNw_ne {h : eH} {x : va_E} {a : Nat} (q : a ≠ h.2) : (eNw h x).1 a = h.1 a := if_neg q
theorem eUp_at {h : eH} {o : Nat} {x : va_E} : (eUp h o x).1 o = some x := if_pos rfl
theorem eUp_ne {h : eH} {o a : Nat} {x : va_E} (q : a ≠ o) : (eUp h o x).1 a = h.1 a := if_neg q
