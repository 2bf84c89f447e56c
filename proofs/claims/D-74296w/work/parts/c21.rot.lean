/-! turns of trees -/
theorem jRe {h h1 : eH} {kv : Nat → Nat × Nat} {p p' a : Option Nat} {xs : List Nat} (t : jS h kv p a xs) (hn : xs.Nodup) (f3 : ∀ q ql qr cq, a = some q → eN h kv q ql qr p cq → eN h1 kv q ql qr p' cq) (f5 : ∀ x, x ∈ xs → some x ≠ a → h1.1 x = h.1 x) : jS h1 kv p' a xs := by
  cases a with
  | none => rw [jS_none t]; exact jS.nil
  | some q =>
    obtain ⟨l, r, c, ys, zs, rfl, e, t1, t2⟩ := jS_some t
    have hq : ∀ x, x ∈ ys ++ zs → x ≠ q := fun x hx e => by
      subst e
      rw [List.nodup_append] at hn
      obtain ⟨-, n2, n3⟩ := hn
      rw [List.nodup_cons] at n2
      rcases List.mem_append.mp hx with hx | hx
      · exact n3 x hx x List.mem_cons_self rfl
      · exact n2.1 hx
    exact jS.node (f3 q l r c rfl e) (t1.sh fun x hx => eSh.same (f5 x (by simp [hx]) (fun e => hq x (by simp [hx]) (Option.some.inj e)))) (t2.sh fun x hx => eSh.same (f5 x (by simp [hx]) (fun e => hq x (by simp [hx]) (Option.some.inj e))))
/-- the place above takes another subtree -/
theorem jUp {h h1 : eH} {kv : Nat → Nat × Nat} {root pp : Option Nat} {n p r : Nat} {L R : List Nat} (z : jZ h kv root n (some p) pp L R) (hn : (L ++ R).Nodup) (hp : p ∉ L ++ R)
    (f4 : ∀ y, pp = some y → ∀ o qp cy, (eN h kv y (some p) o qp cy → eN h1 kv y (some r) o qp cy) ∧ (eN h kv y o (some p) qp cy → o ≠ some p → eN h1 kv y o (some r) qp cy)) (f5 : ∀ x, x ∈ L ++ R → some x ≠ pp → h1.1 x = h.1 x) :
    ∃ root', (pp = none → root' = some r) ∧ (pp ≠ none → root' = root) ∧ jZ h1 kv root' n (some r) pp L R := by
  cases pp with
  | none =>
    obtain ⟨rfl, rfl, rfl, rfl⟩ := z.top
    exact ⟨some r, fun _ => rfl, fun q => absurd rfl q, rfl, rfl, rfl, rfl⟩
  | some y =>
    refine ⟨root, fun q => (by cases q), fun _ => rfl, ?_⟩
    obtain ⟨l, r', pp', c, e, hy, ⟨rfl, w⟩ | ⟨rfl, w1, w⟩⟩ := z.hole hn
    · exact w (some r) h1 ((f4 y rfl _ _ _).1 e) (fun x hx hm => f5 x hm (fun q => hx (Option.some.inj q)))
    · exact w (some r) h1 ((f4 y rfl _ _ _).2 e (fun q => hp (w1 p q))) (fun x hx hm => f5 x hm (fun q => hx (Option.some.inj q)))
theorem jZ.par {h : eH} {kv : Nat → Nat × Nat} {root a : Option Nat} {n y : Nat} {L R : List Nat} (z : jZ h kv root n a (some y) L R) : y ∈ L ++ R := by
  cases n with
  | zero => cases z.1
  | succ n =>
    obtain ⟨y', o, pp, c, ys, L', R', e1, e2, e3, ⟨e4, rfl, rfl⟩ | ⟨e4, rfl, rfl⟩⟩ := z
    · cases e1; simp
    · cases e1; simp
theorem jRotL {h h1 : eH} {kv : Nat → Nat × Nat} {root pp l rl rr : Option Nat} {n p r : Nat} {c cr : Int32} {L R ys zs1 zs2 : List Nat} (z : jZ h kv root n (some p) pp L R) (t1 : jS h kv (some p) l ys) (t2 : jS h kv (some r) rl zs1) (t3 : jS h kv (some r) rr zs2) (hn : (L ++ ((ys ++ p :: (zs1 ++ r :: zs2)) ++ R)).Nodup)
    (f1 : eN h1 kv p l rl (some r) c) (f2 : eN h1 kv r (some p) rr pp cr) (f3 : ∀ q ql qr cq, rl = some q → eN h kv q ql qr (some r) cq → eN h1 kv q ql qr (some p) cq)
    (f4 : ∀ y, pp = some y → ∀ o qp cy, (eN h kv y (some p) o qp cy → eN h1 kv y (some r) o qp cy) ∧ (eN h kv y o (some p) qp cy → o ≠ some p → eN h1 kv y o (some r) qp cy))
    (f5 : ∀ x, x ≠ p → x ≠ r → some x ≠ pp → some x ≠ rl → h1.1 x = h.1 x) :
    ∃ root', (pp = none → root' = some r) ∧ (pp ≠ none → root' = root) ∧ jZ h1 kv root' n (some r) pp L R ∧ jS h1 kv pp (some r) ((ys ++ p :: zs1) ++ r :: zs2) := by
  have hrl : ∀ q, rl = some q → q ∈ zs1 := fun q e => by subst e; exact t2.mem
  have hpp : ∀ q, pp = some q → q ∈ L ++ R := fun q e => by subst e; exact z.par
  have hm : ∀ x, x ∈ L ++ R → x ∉ ys ∧ x ≠ p ∧ x ∉ zs1 ∧ x ≠ r ∧ x ∉ zs2 := by
    intro x hx
    simp only [List.nodup_append, List.nodup_cons, List.mem_append, List.mem_cons] at hn hx
    grind
  have hi : (∀ x, x ∈ ys → x ≠ p ∧ x ≠ r ∧ x ∉ zs1) ∧ (∀ x, x ∈ zs1 → x ≠ p ∧ x ≠ r) ∧ (∀ x, x ∈ zs2 → x ≠ p ∧ x ≠ r ∧ x ∉ zs1) ∧ zs1.Nodup ∧ (L ++ R).Nodup := by
    simp only [List.nodup_append, List.nodup_cons, List.mem_append, List.mem_cons] at hn ⊢
    grind
  obtain ⟨root', g1, g2, g3⟩ := jUp (h1 := h1) (r := r) z hi.2.2.2.2 (fun q => (hm p q).2.1 rfl) f4 (fun x hx hy => f5 x (hm x hx).2.1 (hm x hx).2.2.2.1 hy (fun e => (hm x hx).2.2.1 (hrl x e.symm)))
  refine ⟨root', g1, g2, g3, jS.node f2 (jS.node f1 (t1.sh fun x hx => eSh.same (f5 x (hi.1 x hx).1 (hi.1 x hx).2.1 (fun e => (hm x (hpp x e.symm)).1 hx) (fun e => (hi.1 x hx).2.2 (hrl x e.symm)))) (jRe t2 hi.2.2.2.1 f3 (fun x hx hy => f5 x (hi.2.1 x hx).1 (hi.2.1 x hx).2 (fun e => (hm x (hpp x e.symm)).2.2.1 hx) hy))) (t3.sh fun x hx => eSh.same (f5 x (hi.2.2.1 x hx).1 (hi.2.2.1 x hx).2.1 (fun e => (hm x (hpp x e.symm)).2.2.2.2 hx) (fun e => (hi.2.2.1 x hx).2.2 (hrl x e.symm))))⟩
theorem jRotR {h h1 : eH} {kv : Nat → Nat × Nat} {root pp l rl rr : Option Nat} {n p r : Nat} {c cr : Int32} {L R ys zs1 zs2 : List Nat} (z : jZ h kv root n (some p) pp L R) (t1 : jS h kv (some p) l ys) (t2 : jS h kv (some r) rr zs2) (t3 : jS h kv (some r) rl zs1) (hn : (L ++ (((zs1 ++ r :: zs2) ++ p :: ys) ++ R)).Nodup)
    (f1 : eN h1 kv p rr l (some r) c) (f2 : eN h1 kv r rl (some p) pp cr) (f3 : ∀ q ql qr cq, rr = some q → eN h kv q ql qr (some r) cq → eN h1 kv q ql qr (some p) cq)
    (f4 : ∀ y, pp = some y → ∀ o qp cy, (eN h kv y (some p) o qp cy → eN h1 kv y (some r) o qp cy) ∧ (eN h kv y o (some p) qp cy → o ≠ some p → eN h1 kv y o (some r) qp cy))
    (f5 : ∀ x, x ≠ p → x ≠ r → some x ≠ pp → some x ≠ rr → h1.1 x = h.1 x) :
    ∃ root', (pp = none → root' = some r) ∧ (pp ≠ none → root' = root) ∧ jZ h1 kv root' n (some r) pp L R ∧ jS h1 kv pp (some r) (zs1 ++ r :: (zs2 ++ p :: ys)) := by
  have hrl : ∀ q, rr = some q → q ∈ zs2 := fun q e => by subst e; exact t2.mem
  have hpp : ∀ q, pp = some q → q ∈ L ++ R := fun q e => by subst e; exact z.par
  have hm : ∀ x, x ∈ L ++ R → x ∉ ys ∧ x ≠ p ∧ x ∉ zs1 ∧ x ≠ r ∧ x ∉ zs2 := by
    intro x hx
    simp only [List.nodup_append, List.nodup_cons, List.mem_append, List.mem_cons] at hn hx
    grind
  have hi : (∀ x, x ∈ ys → x ≠ p ∧ x ≠ r ∧ x ∉ zs2) ∧ (∀ x, x ∈ zs2 → x ≠ p ∧ x ≠ r) ∧ (∀ x, x ∈ zs1 → x ≠ p ∧ x ≠ r ∧ x ∉ zs2) ∧ zs2.Nodup ∧ (L ++ R).Nodup := by
    simp only [List.nodup_append, List.nodup_cons, List.mem_append, List.mem_cons] at hn ⊢
    grind
  obtain ⟨root', g1, g2, g3⟩ := jUp (h1 := h1) (r := r) z hi.2.2.2.2 (fun q => (hm p q).2.1 rfl) f4 (fun x hx hy => f5 x (hm x hx).2.1 (hm x hx).2.2.2.1 hy (fun e => (hm x hx).2.2.2.2 (hrl x e.symm)))
  refine ⟨root', g1, g2, g3, jS.node f2 (t3.sh fun x hx => eSh.same (f5 x (hi.2.2.1 x hx).1 (hi.2.2.1 x hx).2.1 (fun e => (hm x (hpp x e.symm)).2.2.1 hx) (fun e => (hi.2.2.1 x hx).2.2 (hrl x e.symm)))) (jS.node f1 (jRe t2 hi.2.2.2.1 f3 (fun x hx hy => f5 x (hi.2.1 x hx).1 (hi.2.1 x hx).2 (fun e => (hm x (hpp x e.symm)).2.2.2.2 hx) hy)) (t1.sh fun x hx => eSh.same (f5 x (hi.1 x hx).1 (hi.1 x hx).2.1 (fun e => (hm x (hpp x e.symm)).1 hx) (fun e => (hi.1 x hx).2.2 (hrl x e.symm)))))⟩
