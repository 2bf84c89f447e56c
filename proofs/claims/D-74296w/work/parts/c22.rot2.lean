/-! TreeMap: small methods, turns -/
/-- a tree map's own cell -/
def mC (h : eH) (m : Nat) (root : Option Nat) (sz mod : Int32) (nk : Option Nat) : Prop := h.1 m = some (.inr (16, [.null, .null, .null, va_rf root, .int sz, .int mod, .null, va_rf nk, .null]))
theorem eN.k {h : eH} {kv : Nat → Nat × Nat} {x : Nat} {l r p : Option Nat} {c : Int32} (e : eN h kv x l r p c) : fV h x 19 0 (.ref (kv x).1) := ⟨_, e, rfl⟩
theorem eN.v {h : eH} {kv : Nat → Nat × Nat} {x : Nat} {l r p : Option Nat} {c : Int32} (e : eN h kv x l r p c) : fV h x 19 1 (.ref (kv x).2) := ⟨_, e, rfl⟩
theorem eN.l {h : eH} {kv : Nat → Nat × Nat} {x : Nat} {l r p : Option Nat} {c : Int32} (e : eN h kv x l r p c) : fV h x 19 2 (va_rf l) := ⟨_, e, rfl⟩
theorem eN.r {h : eH} {kv : Nat → Nat × Nat} {x : Nat} {l r p : Option Nat} {c : Int32} (e : eN h kv x l r p c) : fV h x 19 3 (va_rf r) := ⟨_, e, rfl⟩
theorem eN.p {h : eH} {kv : Nat → Nat × Nat} {x : Nat} {l r p : Option Nat} {c : Int32} (e : eN h kv x l r p c) : fV h x 19 4 (va_rf p) := ⟨_, e, rfl⟩
theorem eN.c {h : eH} {kv : Nat → Nat × Nat} {x : Nat} {l r p : Option Nat} {c : Int32} (e : eN h kv x l r p c) : fV h x 19 5 (.int c) := ⟨_, e, rfl⟩
theorem eN.ne {h : eH} {kv : Nat → Nat × Nat} {x o : Nat} {l r p : Option Nat} {c : Int32} {X : va_E} (e : eN h kv x l r p c) (q : x ≠ o) : eN (eUp h o X) kv x l r p c := (eUp_ne q).trans e
theorem mC.ne {h : eH} {m o : Nat} {root nk : Option Nat} {sz mod : Int32} {X : va_E} (e : mC h m root sz mod nk) (q : m ≠ o) : mC (eUp h o X) m root sz mod nk := (eUp_ne q).trans e
theorem mC.root {h : eH} {m : Nat} {root nk : Option Nat} {sz mod : Int32} (e : mC h m root sz mod nk) : fV h m 16 3 (va_rf root) := ⟨_, e, rfl⟩
theorem eN.nem {h : eH} {kv : Nat → Nat × Nat} {x m : Nat} {l r p root nk : Option Nat} {c sz mod : Int32} (e : eN h kv x l r p c) (q : mC h m root sz mod nk) : m ≠ x := fun w => by
  subst w
  unfold eN at e
  unfold mC at q
  rw [e] at q
  simp at q
section TM
variable {l : Launch} {lo : Nat} {G : eG} {d : Nat} {h : eH} {kv : Nat → Nat × Nat}
/-- a place of a tree, or none: what its methods for null answer -/
def eNq (h : eH) (kv : Nat → Nat × Nat) (a l r p : Option Nat) (c : Int32) : Prop := (a = none ∧ l = none ∧ r = none ∧ p = none ∧ c = 1) ∨ ∃ x, a = some x ∧ eN h kv x l r p c
theorem ct_parentOf {a l' r p : Option Nat} {c : Int32} (e : eNq h kv a l' r p c) : cQ l lo G d mJ4_parentOf [va_rf a] h 0 0 (fun r1 h1 => h1 = h ∧ r1 = p) cX0 := by
  refine en_J4_parentOf a (s_J4_parentOf_0 (l, lo, G, d, _) a h 0 0 ?_)
  rcases e with ⟨rfl, rfl, rfl, rfl, rfl⟩ | ⟨x, rfl, e⟩
  · exact ⟨fun _ => pT_q ⟨rfl, rfl⟩, fun o q => nomatch q⟩
  · exact ⟨fun q => nomatch q, fun o q => by cases q; exact ⟨_, e.p, pT_q ⟨rfl, rfl⟩⟩⟩
theorem ct_leftOf {a l' r p : Option Nat} {c : Int32} (e : eNq h kv a l' r p c) : cQ l lo G d mJ4_leftOf [va_rf a] h 0 0 (fun r1 h1 => h1 = h ∧ r1 = l') cX0 := by
  refine en_J4_leftOf a (s_J4_leftOf_0 (l, lo, G, d, _) a h 0 0 ?_)
  rcases e with ⟨rfl, rfl, rfl, rfl, rfl⟩ | ⟨x, rfl, e⟩
  · exact ⟨fun _ => pT_q ⟨rfl, rfl⟩, fun o q => nomatch q⟩
  · exact ⟨fun q => nomatch q, fun o q => by cases q; exact ⟨_, e.l, pT_q ⟨rfl, rfl⟩⟩⟩
theorem ct_rightOf {a l' r p : Option Nat} {c : Int32} (e : eNq h kv a l' r p c) : cQ l lo G d mJ4_rightOf [va_rf a] h 0 0 (fun r1 h1 => h1 = h ∧ r1 = r) cX0 := by
  refine en_J4_rightOf a (s_J4_rightOf_0 (l, lo, G, d, _) a h 0 0 ?_)
  rcases e with ⟨rfl, rfl, rfl, rfl, rfl⟩ | ⟨x, rfl, e⟩
  · exact ⟨fun _ => pT_q ⟨rfl, rfl⟩, fun o q => nomatch q⟩
  · exact ⟨fun q => nomatch q, fun o q => by cases q; exact ⟨_, e.r, pT_q ⟨rfl, rfl⟩⟩⟩
theorem ct_colorOf {a l' r p : Option Nat} {c : Int32} (hc : c = 0 ∨ c = 1) (e : eNq h kv a l' r p c) : cI l lo G d mJ4_colorOf [va_rf a] h 0 0 (fun r1 h1 => h1 = h ∧ r1 = c) cX0 := by
  refine en_J4_colorOf a (s_J4_colorOf_0 (l, lo, G, d, _) a h 0 0 ?_)
  rcases e with ⟨rfl, rfl, rfl, rfl, rfl⟩ | ⟨x, rfl, e⟩
  · exact ⟨fun _ => pT_i ⟨rfl, rfl⟩, fun o q => nomatch q⟩
  · exact ⟨fun q => nomatch q, fun o q => by cases q; exact ⟨_, e.c, by rcases hc with rfl | rfl <;> decide, pT_i ⟨rfl, rfl⟩⟩⟩
theorem ct_setColor {x : Nat} {c2 : Int32} {l' r p : Option Nat} {c : Int32} (hc : c2 = 0 ∨ c2 = 1) (hl : lo ≤ x) (e : eN h kv x l' r p c) : cV l lo G d mJ4_setColor [.ref x, .int c2] h 0 0 (fun h1 => h1 = eUp h x (.inr (19, [.ref (kv x).1, .ref (kv x).2, va_rf l', va_rf r, va_rf p, .int c2]))) cX0 := by
  refine en_J4_setColor (some x) c2 (s_J4_setColor_0 (l, lo, G, d, _) (some x) c2 h 0 0 ⟨fun q => nomatch q, fun o q => ?_⟩)
  cases q
  exact ⟨by rcases hc with rfl | rfl; exact eFit_z0; exact eFit_z1, _, e, hl, Nat.le_of_ble_eq_true rfl, fun h5 e5 => pT_v e5⟩
/-- setColor of null: nothing -/
theorem ct_setColor0 {c2 : Int32} : cV l lo G d mJ4_setColor [.null, .int c2] h 0 0 (fun h1 => h1 = h) cX0 := by
  refine en_J4_setColor none c2 (s_J4_setColor_0 (l, lo, G, d, _) none c2 h 0 0 ⟨fun _ => pT_v rfl, fun o q => nomatch q⟩)
variable {P : eO → eH → Prop} {k n : Nat}
theorem rotL_85 {p r : Nat} {pl pr pp rl rr rp : Option Nat} {c cr : Int32} (hpr : p ≠ r) (hlp : lo ≤ p) (hlr : lo ≤ r) (e1 : eN h kv p pl pr pp c) (e2 : eN h kv r rl rr rp cr)
    (K : ∀ h1, h1.2 = h.2 → eN h1 kv p pl pr (some r) c → eN h1 kv r (some p) rr rp cr → (∀ x, x ≠ p → x ≠ r → h1.1 x = h.1 x) → P (.inl none) h1) : h_J4_rotateLeft_85 (l, lo, G, d, P) (some p) (some r) h k n := by
  refine s_J4_rotateLeft_85 (l, lo, G, d, P) (some p) (some r) h k n ⟨r, rfl, _, e2, hlr, Nat.le_of_ble_eq_true rfl, fun h4 e4 => ⟨p, rfl, _, ?_, hlp, Nat.le_of_ble_eq_true rfl, fun h8 e8 => ?_⟩⟩
  · exact [.ref (kv p).1, .ref (kv p).2, va_rf pl, va_rf pr, va_rf pp, .int c]
  · subst e4; exact e1.ne hpr
  · subst e4 e8
    exact K _ rfl eUp_at ((eUp_ne hpr.symm).trans eUp_at) (fun x hx hy => (eUp_ne hx).trans (eUp_ne hy))
theorem rotL_32 {m p r : Nat} {pl pr pp rl rr rp root nk : Option Nat} {c cr sz mod : Int32} (hpr : p ≠ r) (hlp : lo ≤ p) (hlr : lo ≤ r) (hlm : lo ≤ m) (e0 : mC h m root sz mod nk) (e1 : eN h kv p pl pr pp c) (e2 : eN h kv r rl rr rp cr)
    (ep : ∀ y, pp = some y → lo ≤ y ∧ y ≠ p ∧ y ≠ r ∧ ∃ yl yr yp cy, eN h kv y yl yr yp cy ∧ (yl = some p ∨ (yr = some p ∧ yl ≠ some p)))
    (K : ∀ h1, h1.2 = h.2 → eN h1 kv p pl pr (some r) c → eN h1 kv r (some p) rr pp cr → (∀ y, pp = some y → ∀ o qp cy, (eN h kv y (some p) o qp cy → eN h1 kv y (some r) o qp cy) ∧ (eN h kv y o (some p) qp cy → o ≠ some p → eN h1 kv y o (some r) qp cy)) → mC h1 m (if pp = none then some r else root) sz mod nk → (∀ x, x ≠ p → x ≠ r → some x ≠ pp → x ≠ m → h1.1 x = h.1 x) → P (.inl none) h1) : h_J4_rotateLeft_32 (l, lo, G, d, P) m (some p) (some r) h k n := by
  have hmp := e1.nem e0
  have hmr := e2.nem e0
  refine s_J4_rotateLeft_32 (l, lo, G, d, P) m (some p) (some r) h k n ⟨p, rfl, _, e1.p, r, rfl, _, e2, hlr, Nat.le_of_ble_eq_true rfl, fun h7 e7 => ?_⟩
  have f1 : eN h7 kv p pl pr pp c := by subst e7; exact e1.ne hpr
  have f2 : eN h7 kv r rl rr pp cr := by subst e7; exact eUp_at
  have f0 : mC h7 m root sz mod nk := by subst e7; exact e0.ne hmr
  have fx : ∀ x, x ≠ r → h7.1 x = h.1 x := fun x hx => by subst e7; exact eUp_ne hx
  have fz : h7.2 = h.2 := by subst e7; rfl
  refine ⟨_, f1.p, fun q => ?_, fun y q => ?_⟩
  · subst q
    refine ⟨_, f0, hlm, Nat.le_of_ble_eq_true rfl, fun h14 e14 => ?_⟩
    refine rotL_85 (h := h14) (kv := kv) (pl := pl) (pr := pr) (pp := none) (rl := rl) (rr := rr) (rp := none) (c := c) (cr := cr) hpr hlp hlr (by subst e14; exact f1.ne (Ne.symm hmp)) (by subst e14; exact f2.ne (Ne.symm hmr)) fun h1 z k1 k2 k3 => ?_
    have w : mC h14 m (some r) sz mod nk := by subst e14; exact eUp_at
    exact K h1 (z.trans (by subst e14; exact fz)) k1 k2 (fun y q => nomatch q) ((k3 m hmp hmr).trans w) (fun x hx hy _ hm => (k3 x hx hy).trans (by subst e14; exact (eUp_ne hm).trans (fx x hy)))
  · subst q
    obtain ⟨hly, hyp, hyr, yl, yr, yp, cy, ey, hy⟩ := ep y rfl
    have fy : eN h7 kv y yl yr yp cy := (fx y hyr).trans ey
    have hmy := ey.nem e0
    refine ⟨_, f1.p, y, rfl, _, fy.l, fun q => ?_, fun q => ?_⟩
    · obtain ⟨h1, h2⟩ : yr = some p ∧ yl ≠ some p := by
        rcases hy with hy | hy
        · exact absurd hy q
        · exact hy
      refine ⟨_, f1.p, y, rfl, _, fy, hly, Nat.le_of_ble_eq_true rfl, fun h26 e26 => ?_⟩
      refine rotL_85 (h := h26) (kv := kv) (pl := pl) (pr := pr) (pp := some y) (rl := rl) (rr := rr) (rp := some y) (c := c) (cr := cr) hpr hlp hlr (by subst e26; exact f1.ne (Ne.symm hyp)) (by subst e26; exact f2.ne (Ne.symm hyr)) fun h1' z k1 k2 k3 => ?_
      have w : eN h26 kv y yl (some r) yp cy := by subst e26; exact eUp_at
      refine K h1' (z.trans (by subst e26; exact fz)) k1 k2 (fun y' q' o qp cy' => ?_) (by rw [if_neg (fun q => nomatch q)]; exact (k3 m hmp hmr).trans (by subst e26; exact (eUp_ne hmy).trans f0)) (fun x hx hy1 hp _ => (k3 x hx hy1).trans (by subst e26; exact (eUp_ne (fun q => hp (by rw [q]))).trans (fx x hy1)))
      cases q'
      refine ⟨fun q2 => absurd (ey.inj q2).1 h2, fun q2 _ => ?_⟩
      obtain ⟨i1, -, i3, i4⟩ := ey.inj q2
      subst i1 i3 i4
      exact (k3 y hyp hyr).trans w
    · refine ⟨_, f1.p, y, rfl, _, fy, hly, Nat.le_of_ble_eq_true rfl, fun h26 e26 => ?_⟩
      refine rotL_85 (h := h26) (kv := kv) (pl := pl) (pr := pr) (pp := some y) (rl := rl) (rr := rr) (rp := some y) (c := c) (cr := cr) hpr hlp hlr (by subst e26; exact f1.ne (Ne.symm hyp)) (by subst e26; exact f2.ne (Ne.symm hyr)) fun h1' z k1 k2 k3 => ?_
      have w : eN h26 kv y (some r) yr yp cy := by subst e26; exact eUp_at
      refine K h1' (z.trans (by subst e26; exact fz)) k1 k2 (fun y' q' o qp cy' => ?_) (by rw [if_neg (fun q => nomatch q)]; exact (k3 m hmp hmr).trans (by subst e26; exact (eUp_ne hmy).trans f0)) (fun x hx hy1 hp _ => (k3 x hx hy1).trans (by subst e26; exact (eUp_ne (fun q => hp (by rw [q]))).trans (fx x hy1)))
      cases q'
      refine ⟨fun q2 => ?_, fun q2 q3 => absurd ((ey.inj q2).1.symm.trans q) q3⟩
      obtain ⟨-, i2, i3, i4⟩ := ey.inj q2
      subst i2 i3 i4
      exact (k3 y hyp hyr).trans w
/-- what a turn of p and its child r leaves (left: p's new children are (pl, b), else (b, pl)) -/
def rotQ (h : eH) (kv : Nat → Nat × Nat) (m p r : Nat) (pp b root nk : Option Nat) (sz mod : Int32) (np nr : eH → Prop) (h1 : eH) : Prop :=
  h1.2 = h.2 ∧ np h1 ∧ nr h1 ∧ (∀ q ql qr cq, b = some q → eN h kv q ql qr (some r) cq → eN h1 kv q ql qr (some p) cq) ∧
  (∀ y, pp = some y → ∀ o qp cy, (eN h kv y (some p) o qp cy → eN h1 kv y (some r) o qp cy) ∧ (eN h kv y o (some p) qp cy → o ≠ some p → eN h1 kv y o (some r) qp cy)) ∧
  mC h1 m (if pp = none then some r else root) sz mod nk ∧ ∀ x, x ≠ p → x ≠ r → some x ≠ pp → some x ≠ b → x ≠ m → h1.1 x = h.1 x
theorem ct_rotL {m p r : Nat} {pl pp rl rr root nk : Option Nat} {c cr sz mod : Int32} (hpr : p ≠ r) (hlp : lo ≤ p) (hlr : lo ≤ r) (hlm : lo ≤ m) (e0 : mC h m root sz mod nk) (e1 : eN h kv p pl (some r) pp c) (e2 : eN h kv r rl rr (some p) cr)
    (eb : ∀ q, rl = some q → lo ≤ q ∧ q ≠ p ∧ q ≠ r ∧ some q ≠ pp ∧ ∃ ql qr cq, eN h kv q ql qr (some r) cq)
    (ep : ∀ y, pp = some y → lo ≤ y ∧ y ≠ p ∧ y ≠ r ∧ ∃ yl yr yp cy, eN h kv y yl yr yp cy ∧ (yl = some p ∨ (yr = some p ∧ yl ≠ some p))) :
    cV l lo G d mJ4_rotateLeft [.ref m, .ref p] h 0 0 (rotQ h kv m p r pp rl root nk sz mod (fun h1 => eN h1 kv p pl rl (some r) c) (fun h1 => eN h1 kv r (some p) rr pp cr)) cX0 := by
  have hmp := e1.nem e0
  have hmr := e2.nem e0
  refine en_J4_rotateLeft m (some p) (s_J4_rotateLeft_0 (l, lo, G, d, _) m (some p) h 0 0 ⟨fun q => nomatch q, fun o q => ?_⟩)
  cases q
  refine ⟨_, e1.r, r, rfl, _, e2.l, _, e1, hlp, Nat.le_of_ble_eq_true rfl, fun h10 e10 => ?_⟩
  have f1 : eN h10 kv p pl rl pp c := by subst e10; exact eUp_at
  have f2 : eN h10 kv r rl rr (some p) cr := by subst e10; exact e2.ne hpr.symm
  have f0 : mC h10 m root sz mod nk := by subst e10; exact e0.ne hmp
  have fx : ∀ x, x ≠ p → h10.1 x = h.1 x := fun x hx => by subst e10; exact eUp_ne hx
  have fz : h10.2 = h.2 := by subst e10; rfl
  refine ⟨_, f2.l, fun q => ?_, fun q hq => ?_⟩
  · subst q
    refine rotL_32 (kv := kv) hpr hlp hlr hlm f0 f1 f2 (fun y hy => ?_) fun h1 z k1 k2 k3 k4 k5 => pT_v ⟨z.trans fz, k1, k2, fun q _ _ _ w => nomatch w, fun y hy o qp cy => ?_, k4, fun x x1 x2 x3 _ x4 => (k5 x x1 x2 x3 x4).trans (fx x x1)⟩
    · obtain ⟨w1, w2, w3, yl, yr, yp, cy, w4, w5⟩ := ep y hy
      exact ⟨w1, w2, w3, yl, yr, yp, cy, (fx y w2).trans w4, w5⟩
    · obtain ⟨w1, w2, w3, -⟩ := ep y hy
      exact ⟨fun a => (k3 y hy o qp cy).1 ((fx y w2).trans a), fun a b => (k3 y hy o qp cy).2 ((fx y w2).trans a) b⟩
  · subst hq
    obtain ⟨hlq, hqp, hqr, hqq, ql, qr, cq, eq⟩ := eb q rfl
    have fq : eN h10 kv q ql qr (some r) cq := (fx q hqp).trans eq
    have hmq := eq.nem e0
    refine ⟨_, f2.l, q, rfl, _, fq, hlq, Nat.le_of_ble_eq_true rfl, fun h20 e20 => ?_⟩
    have g1 : eN h20 kv p pl (some q) pp c := by subst e20; exact f1.ne (Ne.symm hqp)
    have g2 : eN h20 kv r (some q) rr (some p) cr := by subst e20; exact f2.ne (Ne.symm hqr)
    have g0 : mC h20 m root sz mod nk := by subst e20; exact f0.ne hmq
    have gx : ∀ x, x ≠ p → x ≠ q → h20.1 x = h.1 x := fun x hx hy => by subst e20; exact (eUp_ne hy).trans (fx x hx)
    have gz : h20.2 = h.2 := by subst e20; exact fz
    have gq : eN h20 kv q ql qr (some p) cq := by subst e20; exact eUp_at
    refine rotL_32 (kv := kv) hpr hlp hlr hlm g0 g1 g2 (fun y hy => ?_) fun h1 z k1 k2 k3 k4 k5 => pT_v ⟨z.trans gz, k1, k2, fun q' ql' qr' cq' w e' => ?_, fun y hy o qp cy => ?_, k4, fun x x1 x2 x3 x5 x4 => (k5 x x1 x2 x3 x4).trans (gx x x1 (fun q => x5 (by rw [q])))⟩
    · obtain ⟨w1, w2, w3, yl, yr, yp, cy, w4, w5⟩ := ep y hy
      exact ⟨w1, w2, w3, yl, yr, yp, cy, (gx y w2 (fun q => hqq (by rw [hy, q]))).trans w4, w5⟩
    · cases w
      obtain ⟨i1, i2, -, i4⟩ := eq.inj e'
      subst i1 i2 i4
      exact (k5 q hqp hqr hqq (Ne.symm hmq)).trans gq
    · obtain ⟨w1, w2, w3, -⟩ := ep y hy
      have hyq : y ≠ q := fun w => hqq (by rw [hy, w])
      exact ⟨fun a => (k3 y hy o qp cy).1 ((gx y w2 hyq).trans a), fun a b => (k3 y hy o qp cy).2 ((gx y w2 hyq).trans a) b⟩
end TM
