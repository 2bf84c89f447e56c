/-! trees of TreeMap's entries over the abstract heap; kv: key and value of an entry -/
def eN (h : eH) (kv : Nat → Nat × Nat) (x : Nat) (l r p : Option Nat) (c : Int32) : Prop := h.1 x = some (.inr (19, [.ref (kv x).1, .ref (kv x).2, va_rf l, va_rf r, va_rf p, .int c]))
theorem va_rf_inj {a b : Option Nat} (h : va_rf a = va_rf b) : a = b := by
  cases a with
  | none => cases b with
    | none => rfl
    | some b => cases h
  | some a => cases b with
    | none => cases h
    | some b => cases h; rfl
theorem eN.inj {h : eH} {kv : Nat → Nat × Nat} {x : Nat} {l r p l' r' p' : Option Nat} {c c' : Int32} (a : eN h kv x l r p c) (b : eN h kv x l' r' p' c') : l = l' ∧ r = r' ∧ p = p' ∧ c = c' := by
  unfold eN at a b
  have e := a.symm.trans b
  simp only [Option.some.injEq, Sum.inr.injEq, Prod.mk.injEq, List.cons.injEq, true_and, Value.int.injEq, and_true] at e
  exact ⟨va_rf_inj e.1, va_rf_inj e.2.1, va_rf_inj e.2.2.1, e.2.2.2⟩
/-- the subtree at a, p its parent; its entries in order -/
def jT (h : eH) (kv : Nat → Nat × Nat) : Nat → Option Nat → Option Nat → List Nat → Prop
  | 0, _, a, xs => a = none ∧ xs = []
  | n + 1, p, a, xs => (a = none ∧ xs = []) ∨ ∃ (x : Nat) (l r : Option Nat) (c : Int32) (ys zs : List Nat), a = some x ∧ xs = ys ++ x :: zs ∧ eN h kv x l r p c ∧ jT h kv n (some x) l ys ∧ jT h kv n (some x) r zs
def jS (h : eH) (kv : Nat → Nat × Nat) (p a : Option Nat) (xs : List Nat) : Prop := ∃ n, jT h kv n p a xs
theorem jT.succ {h : eH} {kv : Nat → Nat × Nat} : ∀ {n : Nat} {p a : Option Nat} {xs : List Nat}, jT h kv n p a xs → jT h kv (n + 1) p a xs
  | 0, _, _, _, q => Or.inl q
  | n + 1, p, a, xs, q => by
    rcases q with q | ⟨x, l, r, c, ys, zs, e1, e2, e3, e4, e5⟩
    · exact Or.inl q
    · exact Or.inr ⟨x, l, r, c, ys, zs, e1, e2, e3, jT.succ e4, jT.succ e5⟩
theorem jT.mono {h : eH} {kv : Nat → Nat × Nat} {n m : Nat} {p a : Option Nat} {xs : List Nat} (hm : n ≤ m) (q : jT h kv n p a xs) : jT h kv m p a xs := by
  induction hm with
  | refl => exact q
  | step _ ih => exact ih.succ
theorem jS.nil {h : eH} {kv : Nat → Nat × Nat} {p : Option Nat} : jS h kv p none [] := ⟨0, rfl, rfl⟩
theorem jS.node {h : eH} {kv : Nat → Nat × Nat} {p l r : Option Nat} {x : Nat} {c : Int32} {ys zs : List Nat} (e : eN h kv x l r p c) (a : jS h kv (some x) l ys) (b : jS h kv (some x) r zs) : jS h kv p (some x) (ys ++ x :: zs) := by
  obtain ⟨n, a⟩ := a
  obtain ⟨m, b⟩ := b
  exact ⟨max n m + 1, Or.inr ⟨x, l, r, c, ys, zs, rfl, rfl, e, a.mono (Nat.le_max_left _ _), b.mono (Nat.le_max_right _ _)⟩⟩
theorem jS.out {h : eH} {kv : Nat → Nat × Nat} {p a : Option Nat} {xs : List Nat} (q : jS h kv p a xs) : (a = none ∧ xs = []) ∨ ∃ (x : Nat) (l r : Option Nat) (c : Int32) (ys zs : List Nat), a = some x ∧ xs = ys ++ x :: zs ∧ eN h kv x l r p c ∧ jS h kv (some x) l ys ∧ jS h kv (some x) r zs := by
  obtain ⟨n, q⟩ := q
  cases n with
  | zero => exact Or.inl q
  | succ n =>
    rcases q with q | ⟨x, l, r, c, ys, zs, e1, e2, e3, e4, e5⟩
    · exact Or.inl q
    · exact Or.inr ⟨x, l, r, c, ys, zs, e1, e2, e3, ⟨n, e4⟩, ⟨n, e5⟩⟩
theorem jS_none {h : eH} {kv : Nat → Nat × Nat} {p : Option Nat} {xs : List Nat} (q : jS h kv p none xs) : xs = [] := by
  rcases q.out with q | ⟨x, l, r, c, ys, zs, e1, -⟩
  · exact q.2
  · cases e1
theorem jS_some {h : eH} {kv : Nat → Nat × Nat} {p : Option Nat} {x : Nat} {xs : List Nat} (q : jS h kv p (some x) xs) : ∃ (l r : Option Nat) (c : Int32) (ys zs : List Nat), xs = ys ++ x :: zs ∧ eN h kv x l r p c ∧ jS h kv (some x) l ys ∧ jS h kv (some x) r zs := by
  rcases q.out with q | ⟨x, l, r, c, ys, zs, e1, e2, e3, e4, e5⟩
  · cases q.1
  · cases e1
    exact ⟨l, r, c, ys, zs, e2, e3, e4, e5⟩
theorem jS.mem {h : eH} {kv : Nat → Nat × Nat} {p : Option Nat} {x : Nat} {xs : List Nat} (q : jS h kv p (some x) xs) : x ∈ xs := by
  obtain ⟨l, r, c, ys, zs, rfl, -⟩ := (jS_some q)
  exact List.mem_append_right _ List.mem_cons_self
/-- the same entry but for its colour -/
def eSh (h h1 : eH) (kv kv1 : Nat → Nat × Nat) (x : Nat) : Prop := ∀ l r p c, eN h kv x l r p c → ∃ c', eN h1 kv1 x l r p c'
theorem eSh.same {h h1 : eH} {kv : Nat → Nat × Nat} {x : Nat} (q : h1.1 x = h.1 x) : eSh h h1 kv kv x := fun l r p c e => ⟨c, by unfold eN at e ⊢; rw [q]; exact e⟩
theorem jT.sh {h h1 : eH} {kv kv1 : Nat → Nat × Nat} : ∀ {n : Nat} {p a : Option Nat} {xs : List Nat}, (∀ x, x ∈ xs → eSh h h1 kv kv1 x) → jT h kv n p a xs → jT h1 kv1 n p a xs
  | 0, _, _, _, _, q => q
  | n + 1, p, a, xs, f, q => by
    rcases q with q | ⟨x, l, r, c, ys, zs, e1, e2, e3, e4, e5⟩
    · exact Or.inl q
    · subst e2
      obtain ⟨c', e3'⟩ := f x (List.mem_append_right _ List.mem_cons_self) _ _ _ _ e3
      exact Or.inr ⟨x, l, r, c', ys, zs, e1, rfl, e3', jT.sh (fun y hy => f y (List.mem_append_left _ hy)) e4, jT.sh (fun y hy => f y (List.mem_append_right _ (List.mem_cons_of_mem _ hy))) e5⟩
theorem jS.sh {h h1 : eH} {kv kv1 : Nat → Nat × Nat} {p a : Option Nat} {xs : List Nat} (f : ∀ x, x ∈ xs → eSh h h1 kv kv1 x) (q : jS h kv p a xs) : jS h1 kv1 p a xs := by
  obtain ⟨n, q⟩ := q
  exact ⟨n, q.sh f⟩
/-- a subtree with another parent -/
theorem jS.cell {h : eH} {kv : Nat → Nat × Nat} : ∀ {p a : Option Nat} {xs : List Nat}, jS h kv p a xs → ∀ x, x ∈ xs → ∃ l r p c, eN h kv x l r p c := by
  intro p a xs ⟨n, q⟩
  induction n generalizing p a xs with
  | zero => intro x hx; rw [q.2] at hx; cases hx
  | succ n ih =>
    rcases q with q | ⟨x, l, r, c, ys, zs, e1, e2, e3, e4, e5⟩
    · intro x hx; rw [q.2] at hx; cases hx
    · subst e2
      intro y hy
      rcases List.mem_append.mp hy with hy | hy
      · exact ih e4 y hy
      · rcases List.mem_cons.mp hy with rfl | hy
        · exact ⟨l, r, p, c, e3⟩
        · exact ih e5 y hy
/-- all about the subtree a of the tree root: p is a's parent, n steps below the top; before and behind the subtree's entries stand L and R -/
def jZ (h : eH) (kv : Nat → Nat × Nat) (root : Option Nat) : Nat → Option Nat → Option Nat → List Nat → List Nat → Prop
  | 0, a, p, L, R => p = none ∧ a = root ∧ L = [] ∧ R = []
  | n + 1, a, p, L, R => ∃ (y : Nat) (o pp : Option Nat) (c : Int32) (ys L' R' : List Nat), p = some y ∧ jS h kv (some y) o ys ∧ jZ h kv root n (some y) pp L' R' ∧ ((eN h kv y a o pp c ∧ L = L' ∧ R = y :: (ys ++ R')) ∨ (eN h kv y o a pp c ∧ L = L' ++ (ys ++ [y]) ∧ R = R'))
theorem jZ.plug {h : eH} {kv : Nat → Nat × Nat} {root : Option Nat} : ∀ {n : Nat} {a p : Option Nat} {L R xs : List Nat}, jZ h kv root n a p L R → jS h kv p a xs → jS h kv none root (L ++ (xs ++ R))
  | 0, a, p, L, R, xs, z, q => by
    obtain ⟨rfl, rfl, rfl, rfl⟩ := z
    simpa using q
  | n + 1, a, p, L, R, xs, z, q => by
    obtain ⟨y, o, pp, c, ys, L', R', rfl, e2, e3, ⟨e4, rfl, rfl⟩ | ⟨e4, rfl, rfl⟩⟩ := z
    · have w := e3.plug (jS.node e4 q e2)
      simpa using w
    · have w := e3.plug (jS.node e4 e2 q)
      simpa using w
theorem jZ.sh {h h1 : eH} {kv kv1 : Nat → Nat × Nat} {root : Option Nat} : ∀ {n : Nat} {a p : Option Nat} {L R : List Nat}, (∀ x, x ∈ L ++ R → eSh h h1 kv kv1 x) → jZ h kv root n a p L R → jZ h1 kv1 root n a p L R
  | 0, a, p, L, R, f, z => z
  | n + 1, a, p, L, R, f, z => by
    obtain ⟨y, o, pp, c, ys, L', R', rfl, e2, e3, ⟨e4, rfl, rfl⟩ | ⟨e4, rfl, rfl⟩⟩ := z
    · obtain ⟨c', e4'⟩ := f y (by simp) _ _ _ _ e4
      exact ⟨y, o, pp, c', ys, L, R', rfl, e2.sh (fun x hx => f x (by simp [hx])), e3.sh (fun x hx => f x (by
        rcases List.mem_append.mp hx with hx | hx
        · simp [hx]
        · simp [hx])), Or.inl ⟨e4', rfl, rfl⟩⟩
    · obtain ⟨c', e4'⟩ := f y (by simp) _ _ _ _ e4
      exact ⟨y, o, pp, c', ys, L', R, rfl, e2.sh (fun x hx => f x (by simp [hx])), e3.sh (fun x hx => f x (by
        rcases List.mem_append.mp hx with hx | hx
        · simp [hx]
        · simp [hx])), Or.inr ⟨e4', rfl, rfl⟩⟩
/-- an entry of a tree with all about it -/
theorem jT.focus {h : eH} {kv : Nat → Nat × Nat} {root : Option Nat} : ∀ {n : Nat} {p a : Option Nat} {xs : List Nat}, jT h kv n p a xs → ∀ {m : Nat} {L R : List Nat}, jZ h kv root m a p L R → ∀ x, x ∈ xs →
    ∃ (l r p' : Option Nat) (c : Int32) (ys zs L' R' : List Nat) (m' : Nat), L ++ (xs ++ R) = L' ++ ((ys ++ x :: zs) ++ R') ∧ jZ h kv root m' (some x) p' L' R' ∧ eN h kv x l r p' c ∧ jS h kv (some x) l ys ∧ jS h kv (some x) r zs
  | 0, p, a, xs, q, m, L, R, z, x, hx => by rw [q.2] at hx; cases hx
  | n + 1, p, a, xs, q, m, L, R, z, x, hx => by
    rcases q with q | ⟨y, l, r, c, ys, zs, rfl, rfl, e3, e4, e5⟩
    · rw [q.2] at hx; cases hx
    · rcases List.mem_append.mp hx with hx | hx
      · obtain ⟨l', r', p', c', ys', zs', L', R', m', w1, w2⟩ := jT.focus (root := root) e4 (m := m + 1) (L := L) (R := y :: (zs ++ R)) ⟨y, r, p, c, zs, L, R, rfl, ⟨n, e5⟩, z, Or.inl ⟨e3, rfl, rfl⟩⟩ x hx
        exact ⟨l', r', p', c', ys', zs', L', R', m', by rw [← w1]; simp, w2⟩
      · rcases List.mem_cons.mp hx with rfl | hx
        · exact ⟨l, r, p, c, ys, zs, L, R, m, rfl, z, e3, ⟨n, e4⟩, ⟨n, e5⟩⟩
        · obtain ⟨l', r', p', c', ys', zs', L', R', m', w1, w2⟩ := jT.focus (root := root) e5 (m := m + 1) (L := L ++ (ys ++ [y])) (R := R) ⟨y, l, p, c, ys, L, R, rfl, ⟨n, e4⟩, z, Or.inr ⟨e3, rfl, rfl⟩⟩ x hx
          exact ⟨l', r', p', c', ys', zs', L', R', m', by rw [← w1]; simp, w2⟩
theorem jS.focus {h : eH} {kv : Nat → Nat × Nat} {root : Option Nat} {xs : List Nat} (q : jS h kv none root xs) (x : Nat) (hx : x ∈ xs) : ∃ (l r p' : Option Nat) (c : Int32) (ys zs L' R' : List Nat) (m' : Nat), xs = L' ++ ((ys ++ x :: zs) ++ R') ∧ jZ h kv root m' (some x) p' L' R' ∧ eN h kv x l r p' c ∧ jS h kv (some x) l ys ∧ jS h kv (some x) r zs := by
  obtain ⟨n, q⟩ := q
  have := q.focus (root := root) (m := 0) (L := []) (R := []) ⟨rfl, rfl, rfl, rfl⟩ x hx
  simpa using this
/-- the parent's place for a subtree takes another one -/
theorem jZ.hole {h : eH} {kv : Nat → Nat × Nat} {root : Option Nat} {n y : Nat} {a : Option Nat} {L R : List Nat} (z : jZ h kv root n a (some y) L R) (hn : (L ++ R).Nodup) :
    ∃ (l r pp : Option Nat) (c : Int32), eN h kv y l r pp c ∧ y ∈ L ++ R ∧ ((l = a ∧ ∀ (a' : Option Nat) (h1 : eH), eN h1 kv y a' r pp c → (∀ x, x ≠ y → x ∈ L ++ R → h1.1 x = h.1 x) → jZ h1 kv root n a' (some y) L R) ∨ (r = a ∧ (∀ q, l = some q → q ∈ L ++ R) ∧ ∀ (a' : Option Nat) (h1 : eH), eN h1 kv y l a' pp c → (∀ x, x ≠ y → x ∈ L ++ R → h1.1 x = h.1 x) → jZ h1 kv root n a' (some y) L R)) := by
  cases n with
  | zero => cases z.1
  | succ n =>
    obtain ⟨y', o, pp, c, ys, L', R', e1, e2, e3, ⟨e4, rfl, rfl⟩ | ⟨e4, rfl, rfl⟩⟩ := z
    · cases e1
      refine ⟨a, o, pp, c, e4, by simp, Or.inl ⟨rfl, fun a' h1 e5 f => ?_⟩⟩
      have hy : ∀ x, x ∈ ys ++ (L ++ R') → x ≠ y := fun x hx q => by
        subst q
        rw [List.nodup_append] at hn
        obtain ⟨n1, n2, n3⟩ := hn
        rw [List.nodup_cons] at n2
        simp only [List.mem_append] at hx n2
        rcases hx with hx | hx | hx
        · exact n2.1 (Or.inl hx)
        · exact n3 x hx x List.mem_cons_self rfl
        · exact n2.1 (Or.inr hx)
      refine ⟨y, o, pp, c, ys, L, R', rfl, e2.sh (fun x hx => eSh.same (f x (hy x (by simp [hx])) (by simp [hx]))), e3.sh (fun x hx => eSh.same (f x (hy x (by simp only [List.mem_append] at hx ⊢; exact Or.inr hx)) (by
        rcases List.mem_append.mp hx with hx | hx
        · simp [hx]
        · simp [hx]))), Or.inl ⟨e5, rfl, rfl⟩⟩
    · cases e1
      refine ⟨o, a, pp, c, e4, by simp, Or.inr ⟨rfl, fun q hq => ?_, fun a' h1 e5 f => ?_⟩⟩
      · subst hq
        have := e2.mem
        simp [this]
      have hy : ∀ x, x ∈ ys ++ (L' ++ R) → x ≠ y := fun x hx q => by
        subst q
        simp only [List.nodup_append, List.mem_append, List.mem_cons, List.not_mem_nil, or_false] at hn hx
        obtain ⟨⟨-, ⟨-, -, n2⟩, n1⟩, -, n3⟩ := hn
        rcases hx with hx | hx | hx
        · exact n2 x hx x rfl rfl
        · exact n1 x hx x (Or.inr rfl) rfl
        · exact n3 x (Or.inr (Or.inr rfl)) x hx rfl
      refine ⟨y, o, pp, c, ys, L', R, rfl, e2.sh (fun x hx => eSh.same (f x (hy x (by simp [hx])) (by simp [hx]))), e3.sh (fun x hx => eSh.same (f x (hy x (by simp only [List.mem_append] at hx ⊢; exact Or.inr hx)) (by
        rcases List.mem_append.mp hx with hx | hx
        · simp [hx]
        · simp [hx]))), Or.inr ⟨e5, rfl, rfl⟩⟩
theorem jZ.top {h : eH} {kv : Nat → Nat × Nat} {root : Option Nat} {n : Nat} {a : Option Nat} {L R : List Nat} (z : jZ h kv root n a none L R) : a = root ∧ L = [] ∧ R = [] ∧ n = 0 := by
  cases n with
  | zero => exact ⟨z.2.1, z.2.2.1, z.2.2.2, rfl⟩
  | succ n =>
    obtain ⟨y', o, pp, c, ys, L', R', e1, -⟩ := z
    cases e1
