/-! the twin reads a formula: the whole -/
theorem rdW_congr (X : rX) (least : Nat) : ∀ (W : List Nat) (h : Nat) (pe pe' : Nat → rV), (∀ l, l < h → pe l = pe' l) → nP least W + 1 ≤ h → (rdW X least W h pe).1 = (rdW X least W h pe').1 ∧ (rdW X least W h pe).2.1 = (rdW X least W h pe').2.1 ∧ ∀ l, l < (rdW X least W h pe).2.1 → (rdW X least W h pe).2.2 l = (rdW X least W h pe').2.2 l := by
  intro W
  induction W with
  | nil => intro h pe pe' he _; exact ⟨rfl, rfl, he⟩
  | cons w W ih =>
    intro h pe pe' he hn
    unfold nP at hn
    unfold rdW
    split
    · exact ⟨rfl, rfl, he⟩
    · rename_i g
      rw [if_neg g] at hn
      rw [he (h - 2) (by omega), he (h - 1) (by omega)]
      refine ih (h - 1) _ _ (fun l hl => ?_) (by omega)
      unfold va_up
      split
      · rfl
      · exact he l (by omega)
theorem rdW24 (X : rX) : ∀ (W : List Nat) (h : Nat) (pe : Nat → rV), rdW X 2 W h pe = rdW X 2 (rdW X 4 W h pe).1 (rdW X 4 W h pe).2.1 (rdW X 4 W h pe).2.2 := by
  intro W
  induction W with
  | nil => intro h pe; rfl
  | cons w W ih =>
    intro h pe
    by_cases g : w < 4
    · have : rdW X 4 (w :: W) h pe = (w :: W, h, pe) := if_pos g
      rw [this]
    · have e1 : rdW X 4 (w :: W) h pe = rdW X 4 W (h - 1) (va_up pe (h - 2) (cmb X w (pe (h - 2)) (pe (h - 1)))) := if_neg g
      have e2 : rdW X 2 (w :: W) h pe = rdW X 2 W (h - 1) (va_up pe (h - 2) (cmb X w (pe (h - 2)) (pe (h - 1)))) := if_neg (by omega)
      rw [e1, e2]
      exact ih _ _
theorem nP42 : ∀ W : List Nat, nP 4 W ≤ nP 2 W := by
  intro W
  induction W with
  | nil => exact Nat.le_refl _
  | cons w W ih =>
    unfold nP
    split
    · omega
    · rw [if_neg (by omega)]; omega
theorem tVP_congr {T : tS} {S : Nat} {mk : Nat → Nat → Nat} {h : Nat} {pe pe' : Nat → rV} (x : tVP T S mk h pe) (e : ∀ l, l < h → pe l = pe' l) : tVP T S mk h pe' := ⟨x.1, x.2.1, x.2.2.1, x.2.2.2.1.trans ⟨fun q l hl => by rw [← e l hl]; exact q l hl, fun q l hl => by rw [e l hl]; exact q l hl⟩, fun l hl r hr => x.2.2.2.2 l hl r (by rw [e l hl]; exact hr)⟩
theorem tFm_congr {X : rX} {T0 T : tS} {W : List Nat} {h : Nat} {pe pe' : Nat → rV} {u d p z : Nat} (x : tFm X T0 T W h pe u d p z) (e : ∀ l, l < h → pe l = pe' l) : tFm X T0 T W h pe' u d p z := ⟨x.1, x.2.1, x.2.2.1, x.2.2.2.1, tVP_congr x.2.2.2.2.1 e, x.2.2.2.2.2⟩
def Kp (c : tC) (T : tS) : Prop := ∃ Q : Int32 → tS → Prop, tMi mX6_goesOn 6 (fun b => []) T Q ∧ ∀ (r : Int32) (T9 : tS), Q r T9 → (r = 0 → h_formula_88 c (0 : Int32) T9) ∧ (¬ r = 0 → h_formula_88 c (1 : Int32) T9)
/-- what waits comes to v when it is worked -/
def Pnd (X : rX) (least : Nat) (T0 T : tS) (W0 : List Nat) (h : Nat) (pe : Nat → rV) (v : rV) (u d p : Nat) : Prop := ∃ W1 h1 pe1, tFm X T0 T W1 h1 pe1 u d p 2 ∧ nP 2 W1 + 1 ≤ h1 ∧ (rdW X least W1 h1 pe1).1 = W0 ∧ (rdW X least W1 h1 pe1).2.1 = h + 1 ∧ (∀ l, l < h + 1 → (rdW X least W1 h1 pe1).2.2 l = va_up pe h v l) ∧ (0 ∈ W1 ↔ 0 ∈ W0)
/-- no product waits on top; no sign ahead -/
def bs4 : List Nat → Prop
  | [] => True
  | w :: _ => w ≠ 1 ∧ w < 4
def bs2 : List Nat → Prop
  | [] => True
  | w :: _ => w = 0
theorem bs2.b4 : ∀ {W : List Nat}, bs2 W → bs4 W
  | [], _ => trivial
  | w :: W, h => by have : w = 0 := h; exact ⟨by omega, by omega⟩
theorem bs4.st : ∀ {W : List Nat}, bs4 W → stN W = 0 ∧ stW W = W ∧ ∀ v, stV W v = v
  | [], _ => ⟨rfl, rfl, fun _ => rfl⟩
  | w :: W, h => ⟨if_neg h.1, if_neg h.1, fun v => if_neg h.1⟩
theorem bs4.rd {X : rX} : ∀ {W : List Nat} (_ : bs4 W) (h : Nat) (pe : Nat → rV), rdW X 4 W h pe = (W, h, pe)
  | [], _, _, _ => rfl
  | w :: W, q, h, pe => if_pos q.2
theorem bs2.rd {X : rX} : ∀ {W : List Nat} (_ : bs2 W) (h : Nat) (pe : Nat → rV), rdW X 2 W h pe = (W, h, pe)
  | [], _, _, _ => rfl
  | w :: W, q, h, pe => if_pos (by have : w = 0 := q; omega)
theorem bs2.np : ∀ {W : List Nat}, bs2 W → nP 2 W = 0
  | [], _ => rfl
  | w :: W, q => if_pos (by have : w = 0 := q; omega)
theorem fm_bad {X : rX} {T0 : tS} {c : tC} {T : tS} {k pl : Nat} (hf : tFlt T k pl) (he : c.2.2.2.2.2.2 none T) : h_formula_38 c T ∧ h_formula_57 c T ∧ h_formula_68 c T ∧ (∀ x, h_formula_88 c x T) ∧ (∀ x, h_formula_27 c x T) := by
  have nz : ¬ zI (T.1 7 = 0) ≠ 0 := fun z => absurd (zI_n0.mp z) hf.bad
  have b190 : h_formula_190 c T := s_formula_190 c T ⟨fun _ => he, fun z => absurd z nz⟩
  have b171 : h_formula_171 c T := s_formula_171 c T ⟨fun _ => b190, fun z => absurd z nz⟩
  have b27 : ∀ x, h_formula_27 c x T := fun x => s_formula_27 c x T ⟨fun _ => b171, fun z => absurd z nz⟩
  have b88 : ∀ x, h_formula_88 c x T := fun x => s_formula_88 c x T ⟨fun _ => b27 x, fun z => absurd z nz⟩
  have b68 : h_formula_68 c T := s_formula_68 c T ⟨fun _ => s_formula_86 c T (b88 0), fun z => absurd z nz⟩
  have b57 : h_formula_57 c T := s_formula_57 c T ⟨fun _ => b68, fun z => absurd z nz⟩
  exact ⟨s_formula_38 c T ⟨fun _ => b57, fun z => absurd z nz⟩, b57, b68, b88, b27⟩
theorem Kp.h68 {c : tC} {T : tS} (h : Kp c T) (h7 : T.1 7 = 0) : h_formula_68 c T := by
  obtain ⟨Q, h1, h2⟩ := h
  exact s_formula_68 c T ⟨fun z => absurd h7 (zI_0.mp z), fun _ => ⟨Q, h1, fun r T9 q => ⟨fun e => s_formula_86 c _ ((h2 r T9 q).1 e), fun e => (h2 r T9 q).2 e⟩⟩⟩
theorem f88_go {c : tC} {T : tS} (h7 : T.1 7 = 0) (h : h_formula_38 c T) : h_formula_88 c (1 : Int32) T :=
  s_formula_88 c _ T ⟨fun z => absurd h7 (zI_0.mp z), fun _ => ⟨fun _ => s_formula_27 c _ T ⟨fun z => absurd h7 (zI_0.mp z), fun _ => ⟨fun z => absurd z (by decide), fun _ => h⟩⟩, fun z => absurd z (by decide)⟩⟩
def FF (X : rX) (T0 : tS) (c : tC) (Er : Nat → Nat → Prop) (f : Nat) : Prop := ∀ (W : List Nat) (h : Nat) (pe : Nat → rV) (u d p : Nat) (T : tS), tFm X T0 T W h pe u d p 0 → 2 + 5 * (xN X - p) ≤ f → stN W ≤ d → (∀ v p1 u1, rd X f 4 none p u d = .inr (v, p1, u1) → ∀ T', tFm X T0 T' (stW W) (h + 1) (va_up pe h (stV W v)) u1 (d - stN W) p1 2 → Kp c T') → (∀ k pl, rd X f 4 none p u d = .inl (k, pl) → Er k pl) → h_formula_38 c T
def FL (X : rX) (T0 : tS) (c : tC) (Er : Nat → Nat → Prop) (f : Nat) : Prop := ∀ (W : List Nat) (h : Nat) (pe : Nat → rV) (s : rV) (u d p : Nat) (T : tS), bs4 W → nP 2 W ≤ h → Pnd X 4 T0 T W h pe s u d p → p ≤ xN X → 1 + 5 * (xN X - p) ≤ f → (∀ v p1 u1, rd X f 3 s p u d = .inr (v, p1, u1) → ¬ isSn (xB X) (xN X) p1 42 → ∀ T', Pnd X 4 T0 T' W h pe v u1 d p1 → Kp c T') → (∀ k pl, rd X f 3 s p u d = .inl (k, pl) → Er k pl) → Kp c T
def FP (X : rX) (T0 : tS) (c : tC) (Er : Nat → Nat → Prop) (f : Nat) : Prop := ∀ (W : List Nat) (h : Nat) (pe : Nat → rV) (u d p : Nat) (T : tS), bs4 W → nP 2 W ≤ h → tFm X T0 T W h pe u d p 0 → 3 + 5 * (xN X - p) ≤ f → (∀ v p1 u1, rd X f 2 none p u d = .inr (v, p1, u1) → ¬ isSn (xB X) (xN X) p1 42 → ∀ T', Pnd X 4 T0 T' W h pe v u1 d p1 → Kp c T') → (∀ k pl, rd X f 2 none p u d = .inl (k, pl) → Er k pl) → h_formula_38 c T
def FS (X : rX) (T0 : tS) (c : tC) (Er : Nat → Nat → Prop) (f : Nat) : Prop := ∀ (W : List Nat) (h : Nat) (pe : Nat → rV) (s : rV) (u d p : Nat) (T : tS), bs2 W → Pnd X 2 T0 T W h pe s u d p → p ≤ xN X → ¬ isSn (xB X) (xN X) p 42 → 1 + 5 * (xN X - p) ≤ f → (∀ v p1 u1, rd X f 1 s p u d = .inr (v, p1, u1) → ∀ T', Pnd X 2 T0 T' W h pe v u1 d p1 → h_formula_88 c (0 : Int32) T') → (∀ k pl, rd X f 1 s p u d = .inl (k, pl) → Er k pl) → Kp c T
def FA (X : rX) (T0 : tS) (c : tC) (Er : Nat → Nat → Prop) (f : Nat) : Prop := ∀ (W : List Nat) (h : Nat) (pe : Nat → rV) (u d p : Nat) (T : tS), bs2 W → tFm X T0 T W h pe u d p 0 → 4 + 5 * (xN X - p) ≤ f → (∀ v p1 u1, rd X f 0 none p u d = .inr (v, p1, u1) → ∀ T', Pnd X 2 T0 T' W h pe v u1 d p1 → h_formula_88 c (0 : Int32) T') → (∀ k pl, rd X f 0 none p u d = .inl (k, pl) → Er k pl) → h_formula_38 c T
theorem rd_4v (X : rX) (f : Nat) (v : rV) (p u d : Nat) : rd X f 4 v p u d = rd X f 4 none p u d := by cases f <;> rfl
/-- Pnd of a whole product is Pnd of the sum ahead of it -/
theorem Pnd.one {X : rX} {T0 T : tS} {W : List Nat} {h : Nat} {pe : Nat → rV} {v : rV} {u d p : Nat} (hW : bs2 W) (x : Pnd X 4 T0 T W h pe v u d p) : Pnd X 2 T0 T W h pe v u d p := by
  obtain ⟨W1, h1, pe1, a1, a2, a3, a4, a5, a6⟩ := x
  refine ⟨W1, h1, pe1, a1, a2, ?_, ?_, ?_, a6⟩
  · rw [rdW24, a3, hW.rd]
  · rw [rdW24, a3, hW.rd, a4]
  · rw [rdW24, a3, hW.rd]; exact a5
theorem Pnd.two {X : rX} {T0 T : tS} {W : List Nat} {h w : Nat} {pe pe2 : Nat → rV} {s v : rV} {u d p : Nat} (hw : w = 2 ∨ w = 3) (hW : bs2 W) (hpe : ∀ l, l < h + 1 → pe2 l = va_up pe h s l) (x : Pnd X 4 T0 T (w :: W) (h + 1) pe2 v u d p) : Pnd X 2 T0 T W h pe (cmb X w s v) u d p := by
  obtain ⟨W1, h1, pe1, a1, a2, a3, a4, a5, a6⟩ := x
  have e : rdW X 2 W1 h1 pe1 = (W, h + 1, va_up (rdW X 4 W1 h1 pe1).2.2 h (cmb X w s v)) := by
    rw [rdW24, a3, a4]
    have e1 : rdW X 2 (w :: W) (h + 1 + 1) (rdW X 4 W1 h1 pe1).2.2 = rdW X 2 W (h + 1 + 1 - 1) (va_up (rdW X 4 W1 h1 pe1).2.2 (h + 1 + 1 - 2) (cmb X w ((rdW X 4 W1 h1 pe1).2.2 (h + 1 + 1 - 2)) ((rdW X 4 W1 h1 pe1).2.2 (h + 1 + 1 - 1)))) := if_neg (by omega)
    rw [e1, hW.rd, show h + 1 + 1 - 2 = h by omega, show h + 1 + 1 - 1 = h + 1 by omega, a5 (h + 1) (by omega), up_self, a5 h (by omega), up_ne (by omega), hpe h (by omega), up_self]
  refine ⟨W1, h1, pe1, a1, a2, by rw [e], by rw [e], fun l hl => ?_, ?_⟩
  · rw [e]
    by_cases q : l = h
    · subst q; rw [up_self]; exact up_self
    · show va_up _ h _ l = _
      rw [up_ne q, up_ne q, a5 l (by omega), up_ne (by omega), hpe l hl, up_ne q]
  · rw [a6]
    constructor
    · intro q
      rcases List.mem_cons.mp q with e | e
      · omega
      · exact e
    · exact fun q => List.mem_cons_of_mem _ q
theorem ff_all {X : rX} {T0 : tS} (hE : tEnv X T0) {c : tC} {Er : Nat → Nat → Prop} (he : ∀ T k pl, Er k pl → tEq fmS T0 T → tFlt T k pl → c.2.2.2.2.2.2 none T) : ∀ f, FF X T0 c Er f ∧ FL X T0 c Er f ∧ FP X T0 c Er f ∧ FS X T0 c Er f ∧ FA X T0 c Er f := by
  intro f
  induction f with
  | zero =>
    exact ⟨fun W h pe u d p T _ hfu => by omega, fun W h pe s u d p T _ _ _ _ hfu => by omega, fun W h pe u d p T _ _ _ hfu => by omega, fun W h pe s u d p T _ _ _ _ hfu => by omega, fun W h pe u d p T _ _ hfu => by omega⟩
  | succ f ih =>
    obtain ⟨iF, iL, iP, iS, iA⟩ := ih
    refine ⟨?_, ?_, ?_, ?_, ?_⟩
    · -- a factor
      intro W h pe u d p T hf hfu hd ok er
      obtain ⟨f1, f2, f3, f4, f5, f6, f7, f8, f9, f10, f11, f12⟩ := id hf
      refine s_formula_38 c T ⟨fun z => absurd f4 (zI_0.mp z), fun _ => ⟨_, ct_operand hE hf, ?_⟩⟩
      rintro r T9 hx
      rcases hx with ⟨k, pl, x1, x2, x3⟩ | ⟨x1, x2, rfl, x4⟩ | ⟨x1, x2, rfl, x4⟩ | ⟨rfl, v1, p1, x1, x2, x3⟩
      · have bad := fm_bad (X := X) (T0 := T0) x3 (he T9 k pl (er k pl (x1 none f)) x2 x3)
        exact ⟨fun _ => bad.2.1, fun _ => bad.1⟩
      · refine ⟨fun z => absurd rfl z, fun _ => ?_⟩
        have hop : isOp X p := Or.inr (Or.inl x1)
        have hnb : ¬ badNm X p := fun q => by have h1 := q.1.1; have h2 := x1.1; rw [h1] at h2; exact absurd h2 (by decide)
        have hrd := fun v => rd_neg hop hnb x2 x1 v f
        have hgt := tkE_gt (bt := xB X) (n := xN X) (p := p) (isSn_n0 x1)
        have hle := tkE_le (bt := xB X) f3
        refine iF (1 :: W) h pe (u + 1) (d + 1) _ T9 x4 (by omega) (by show (if 1 = 1 then stN W + 1 else 0) ≤ d + 1; rw [if_pos rfl]; omega) (fun v p1 u1 e T' hT' => ?_) (fun k pl e => er k pl ?_)
        · refine ok (vNeg v) p1 u1 (by rw [hrd]; rw [show rd X f 4 none (tkE X.1 X.2.1 p) (u + 1) (d + 1) = _ from e]; rfl) T' ?_
          have e1 : stW (1 :: W) = stW W := if_pos rfl
          have e2 : stN (1 :: W) = stN W + 1 := if_pos rfl
          have e3 : stV (1 :: W) v = stV W (vNeg v) := if_pos rfl
          rw [e1, e2, e3, show d + 1 - (stN W + 1) = d - stN W by omega] at hT'
          exact hT'
        · rw [hrd, show rd X f 4 none (tkE X.1 X.2.1 p) (u + 1) (d + 1) = _ from e]; rfl
      · refine ⟨fun z => absurd rfl z, fun _ => ?_⟩
        have hop : isOp X p := Or.inr (Or.inr (Or.inl x1))
        have hnb : ¬ badNm X p := fun q => by have h1 := q.1.1; have h2 := x1.1; rw [h1] at h2; exact absurd h2 (by decide)
        have n45 : ¬ isSn X.1 X.2.1 p 45 := fun q => by have := isSn_uniq q x1; omega
        have hrd := fun v => rd_par hop hnb x2 n45 x1 v f
        have hgt := tkE_gt (bt := xB X) (n := xN X) (p := p) (isSn_n0 x1)
        have hle := tkE_le (bt := xB X) f3
        refine iA (0 :: W) h pe (u + 1) (d + 1) _ T9 rfl x4 (by omega) (fun v p1 u1 e T' hT' => ?_) (fun k pl e => er k pl ?_)
        · have e0 : rd X f 0 none (tkE X.1 X.2.1 p) (u + 1) (d + 1) = .inr (v, p1, u1) := e
          obtain ⟨W1, h1, pe1, a1, a2, a3, a4, a5, a6⟩ := hT'
          obtain ⟨g1, g2, g3, g4, g5, g6, g7, g8, g9, g10, g11, g12⟩ := id a1
          have hb := hE.1.2.1
          have h0 : 0 ∈ W1 := a6.mpr List.mem_cons_self
          refine s_formula_88 c _ T' ⟨fun z => absurd g4 (zI_0.mp z), fun _ => ⟨fun z => absurd rfl z, fun _ => ⟨fun z => ?_, fun z => ?_⟩⟩⟩
          · have n41 : ¬ isSn (xB X) (xN X) p1 41 := fun q => (zI_0.mp z) ⟨g4, (g2.sign hb (c := 41) (by omega)).mpr q⟩
            refine s_formula_27 c _ T' ⟨fun z => absurd g4 (zI_0.mp z), fun _ => ⟨fun _ => s_formula_171 c T' ⟨fun z => absurd g4 (zI_0.mp z), fun _ => ⟨_, ct_isOpen g6 (by omega), ?_⟩⟩, fun z => absurd rfl z⟩⟩
            rintro r T8 ⟨rfl, hy⟩
            rcases hy with ⟨-, rfl⟩ | ⟨y, -⟩
            · refine ⟨fun z => absurd z (by decide), fun _ => ⟨_, ct_wrong g2 g4 (k := 2) (by omega), ?_⟩⟩
              rintro T16 ⟨y1, y2⟩
              refine s_formula_190 c _ ⟨fun _ => he T16 _ _ (er _ _ ?_) ((g1.mono (by decide)).trans (y1.mono (by decide))) y2, fun z => absurd (zI_n0.mp z) y2.bad⟩
              rw [hrd, e0, bindR_r, cIf_f n41]
              rfl
            · exact absurd h0 y
          · have s41 : isSn (xB X) (xN X) p1 41 := (g2.sign hb (c := 41) (by omega)).mp (zI_n0.mp z).2
            refine ⟨_, ct_isOpen g6 (by omega), ?_⟩
            rintro r T15 ⟨rfl, hy⟩
            rcases hy with ⟨-, rfl⟩ | ⟨y, -⟩
            · refine ⟨fun z => absurd z (by decide), fun _ => ⟨_, ct_works hE (least := 2) (by omega) W1 h1 pe1 T15 a1 a2, ?_⟩⟩
              rintro T22 hw
              rw [a3, a4] at hw
              have hw2 := tFm_congr hw a5
              obtain ⟨k1, k2, k3, k4, k5, k6, k7, k8, k9, k10, k11, k12⟩ := id hw2
              rw [k6.1, k7, List.length_cons, nI_pred, nI_pred]
              simp only [List.length_cons] at k12
              have ep : tEq [41, 42] T22 (tI (tI T22 41 (nI W.length)) 42 (nI d)) := (tEq.sI _ _ (by decide)).trans (tEq.sI _ _ (by decide))
              have hp : tFm X T0 (tI (tI T22 41 (nI W.length)) 42 (nI d)) W (h + 1) (va_up pe h v) u1 d p1 2 := ⟨(k1.mono (by decide)).trans (ep.mono (by decide)), k2.same ep (by decide) (by decide) (by decide) (by decide) (by decide), k3, by rw [ep.i 7 (by decide)]; exact k4, k5.same ep (by decide) (by decide) (by decide), k6.pop.same (tEq.sI (S := [42]) _ _ (by decide)) (by decide) (by decide), tI_is, by rw [ep.i 43 (by decide)]; exact k8, k9, by omega, k11, by omega⟩
              obtain ⟨m1, m2, m3, m4, -⟩ := id hp
              refine ⟨_, ct_goOn2 ((hE.same m1).1) m2 m3, ?_⟩
              rintro T28 ⟨o1, o2⟩
              have hp2 := hp.go (z' := 2) o1 o2 (tkE_le m3) (Nat.le_refl _)
              refine ⟨_, ct_closes hE (by omega) hd hp2, ?_⟩
              rintro T34 ⟨t1, t2⟩
              rw [up_self] at t1 t2
              have hrd2 : rd X (f + 1) 4 none p u d = clX X v (tkE (xB X) (xN X) p1) u1 := by
                rw [hrd, e0, bindR_r, cIf_t s41]
                rfl
              cases hcl : clX X v (tkE (xB X) (xN X) p1) u1 with
              | inl y =>
                obtain ⟨t3, t4⟩ := t2 y hcl
                have bad := fm_bad (X := X) (T0 := T0) t4 (he T34 _ _ (er _ _ (by rw [hrd2, hcl])) t3 t4)
                exact ⟨fun _ => s_formula_166 c _ (bad.2.2.2.1 0), fun z => absurd (zI_n0.mp z) t4.bad⟩
              | inr y =>
                have t3 := t1 y.1 y.2.1 y.2.2 hcl
                rw [up_up] at t3
                have hu1 : y.2.2 = u1 := by
                  unfold clX at hcl
                  by_cases q : isSn X.1 X.2.1 (tkE (xB X) (xN X) p1) 94
                  · rw [cIf_t q] at hcl
                    obtain ⟨q1, q2, q3⟩ := rNum_ok hcl
                    cases q3
                    rfl
                  · rw [cIf_f q] at hcl
                    cases hcl
                    rfl
                have kp := ok y.1 y.2.1 y.2.2 (by rw [hrd2, hcl]) T34 (by rw [hu1]; exact t3)
                refine ⟨fun z => absurd t3.2.2.2.1 (zI_0.mp z), fun _ => ?_⟩
                obtain ⟨Q, w1, w2⟩ := kp
                exact ⟨Q, w1, fun r T9 q => ⟨fun e => s_formula_166 c _ ((w2 r T9 q).1 e), fun e => (w2 r T9 q).2 e⟩⟩
            · exact absurd h0 y
        · rw [hrd, show rd X f 0 none (tkE X.1 X.2.1 p) (u + 1) (d + 1) = _ from e]; rfl
      · refine ⟨fun _ => ?_, fun z => absurd z (by decide)⟩
        have x3' := x3
        obtain ⟨g1, g2, g3, g4, g5, g6, g7, g8, g9, g10, g11, g12⟩ := id x3
        refine s_formula_57 c T9 ⟨fun z => absurd g4 (zI_0.mp z), fun _ => ⟨_, ct_closes hE (by omega) hd x3', ?_⟩⟩
        rintro T34 ⟨t1, t2⟩
        rw [up_self] at t1 t2
        cases hcl : clX X v1 p1 (u + 1) with
        | inl y =>
          obtain ⟨t3, t4⟩ := t2 y hcl
          exact (fm_bad (X := X) (T0 := T0) t4 (he T34 _ _ (er _ _ (by rw [x1, hcl])) t3 t4)).2.2.1
        | inr y =>
          have t3 := t1 y.1 y.2.1 y.2.2 hcl
          rw [up_up] at t3
          have hu1 : y.2.2 = u + 1 := by
            unfold clX at hcl
            by_cases q : isSn X.1 X.2.1 p1 94
            · rw [cIf_t q] at hcl
              obtain ⟨q1, q2, q3⟩ := rNum_ok hcl
              cases q3
              rfl
            · rw [cIf_f q] at hcl
              cases hcl
              rfl
          exact (ok y.1 y.2.1 y.2.2 (by rw [x1, hcl]) T34 (by rw [hu1]; exact t3)).h68 t3.2.2.2.1
    · -- the rest of a product
      intro W h pe s u d p T hW hn hP hp hfu ok er
      by_cases s42 : isSn (xB X) (xN X) p 42
      · have hrd : rd X (f + 1) 3 s p u d = bindR (rd X f 4 none (tkE X.1 X.2.1 p) u d) fun v1 p1 u1 => rd X f 3 (vMul X s v1) p1 u1 d := cIf_t s42
        obtain ⟨W1, h1, pe1, a1, a2, a3, a4, a5, a6⟩ := id hP
        have hgt := tkE_gt (bt := xB X) (n := xN X) (p := p) (isSn_n0 s42)
        have hle := tkE_le (bt := xB X) hp
        have := nP42 W1
        refine ⟨_, ct_goesOn hE a1 ⟨a2, by omega⟩, ?_⟩
        rintro r T9 hx
        rcases hx with ⟨x1, rfl, x3⟩ | ⟨x1, rfl, x3⟩ | ⟨x1, rfl, x3⟩ | ⟨x1, x2, x3, x4, x5⟩
        · refine ⟨fun z => absurd z (by decide), fun _ => f88_go x3.2.2.2.1 ?_⟩
          rw [a3, a4] at x3
          have x4 := tFm_congr x3 a5
          refine iF (4 :: W) (h + 1) _ u d _ T9 x4 (by omega) (Nat.zero_le _) (fun v p1 u1 e T' hT' => ?_) (fun k pl e => er k pl ?_)
          · have e0 : rd X f 4 none (tkE X.1 X.2.1 p) u d = .inr (v, p1, u1) := e
            have hpos := rd_pos X f 4 none (tkE X.1 X.2.1 p) u d _ hle (by omega) e0
            simp only at hpos
            have hpos3 := hpos.2.2.1 (by decide)
            have hxx : X.2.1 = xN X := rfl
            have hgt2 : p < tkE X.1 X.2.1 p := hgt
            have hT2 : tFm X T0 T' (4 :: W) (h + 1 + 1) (va_up (va_up pe h s) (h + 1) v) u1 d p1 2 := hT'
            have hP2 : Pnd X 4 T0 T' W h pe (vMul X s v) u1 d p1 := by
              have e1 : rdW X 4 (4 :: W) (h + 1 + 1) (va_up (va_up pe h s) (h + 1) v) = (W, h + 1, va_up (va_up (va_up pe h s) (h + 1) v) h (vMul X s v)) := by
                have e2 : rdW X 4 (4 :: W) (h + 1 + 1) (va_up (va_up pe h s) (h + 1) v) = rdW X 4 W (h + 1 + 1 - 1) (va_up (va_up (va_up pe h s) (h + 1) v) (h + 1 + 1 - 2) (cmb X 4 (va_up (va_up pe h s) (h + 1) v (h + 1 + 1 - 2)) (va_up (va_up pe h s) (h + 1) v (h + 1 + 1 - 1)))) := if_neg (by omega)
                rw [e2, hW.rd, show h + 1 + 1 - 2 = h by omega, show h + 1 + 1 - 1 = h + 1 by omega, up_self, up_ne (show h ≠ h + 1 by omega), up_self]
                rfl
              refine ⟨_, _, _, hT2, ?_, by rw [e1], by rw [e1], fun l hl => ?_, ?_⟩
              · have : nP 2 (4 :: W) = nP 2 W + 1 := if_neg (by omega)
                omega
              · rw [e1]
                show va_up (va_up (va_up pe h s) (h + 1) v) h (vMul X s v) l = _
                by_cases q : l = h
                · subst q; rw [up_self, up_self]
                · rw [up_ne q, up_ne (by omega), up_ne q, up_ne q]
              · constructor
                · intro q
                  rcases List.mem_cons.mp q with e | e
                  · omega
                  · exact e
                · exact fun q => List.mem_cons_of_mem _ q
            refine iL W h pe (vMul X s v) u1 d p1 T' hW hn hP2 hpos.1 (by omega) (fun v2 p2 u2 e2 n42 T'' hT'' => ok v2 p2 u2 (by rw [hrd, e0, bindR_r]; exact e2) n42 T'' hT'') (fun k pl e2 => er k pl (by rw [hrd, e0, bindR_r]; exact e2))
          · rw [hrd, show rd X f 4 none (tkE X.1 X.2.1 p) u d = _ from e]; rfl
        · have := isSn_uniq x1 s42; omega
        · have := isSn_uniq x1 s42; omega
        · exact absurd s42 x1
      · have hrd : rd X (f + 1) 3 s p u d = .inr (s, p, u) := cIf_f s42
        exact ok s p u hrd s42 T hP
    · -- a product
      intro W h pe u d p T hW hn hf hfu ok er
      obtain ⟨f1, f2, f3, f4, f5, f6, f7, f8, f9, f10, f11, f12⟩ := id hf
      have hst := hW.st
      have hrd : rd X (f + 1) 2 none p u d = bindR (rd X f 4 none p u d) fun v1 p1 u1 => rd X f 3 v1 p1 u1 d := rfl
      refine iF W h pe u d p T hf (by omega) (by rw [hst.1]; exact Nat.zero_le _) (fun v p1 u1 e T' hT' => ?_) (fun k pl e => er k pl (by rw [hrd, e]; rfl))
      have hpos := rd_pos X f 4 none p u d _ f3 (by omega) e
      simp only at hpos
      have hpos3 := hpos.2.2.1 (by decide)
      have hxx : X.2.1 = xN X := rfl
      rw [hst.1, hst.2.1, hst.2.2 v] at hT'
      have hP : Pnd X 4 T0 T' W h pe v u1 d p1 := ⟨_, _, _, hT', by omega, by rw [hW.rd], by rw [hW.rd], fun l _ => by rw [hW.rd], Iff.rfl⟩
      exact iL W h pe v u1 d p1 T' hW hn hP hpos.1 (by omega) (fun v2 p2 u2 e2 n42 T'' hT'' => ok v2 p2 u2 (by rw [hrd, e, bindR_r]; exact e2) n42 T'' hT'') (fun k pl e2 => er k pl (by rw [hrd, e, bindR_r]; exact e2))
    · -- the rest of a sum
      intro W h pe s u d p T hW hP hp n42 hfu ok er
      obtain ⟨W1, h1, pe1, a1, a2, a3, a4, a5, a6⟩ := id hP
      have hle := tkE_le (bt := xB X) hp
      have := nP42 W1
      have more : ∀ (w : Nat) (g : Int64), (w = 2 ∧ g = 1) ∨ (w = 3 ∧ g = -1) → p < tkE (xB X) (xN X) p → rd X (f + 1) 1 s p u d = bindR (rd X f 2 none (tkE X.1 X.2.1 p) u d) (fun v1 p1 u1 => rd X f 1 (vAdd X s v1 g) p1 u1 d) → ∀ T9, tFm X T0 T9 (w :: (rdW X 2 W1 h1 pe1).1) (rdW X 2 W1 h1 pe1).2.1 (rdW X 2 W1 h1 pe1).2.2 u d (tkE (xB X) (xN X) p) 0 → h_formula_38 c T9 := by
        intro w g hw hgt hrd T9 x3
        rw [a3, a4] at x3
        have hb4 : bs4 (w :: W) := ⟨by omega, by omega⟩
        have hcm : ∀ v, cmb X w s v = vAdd X s v g := by
          intro v
          unfold cmb
          rcases hw with ⟨rfl, rfl⟩ | ⟨rfl, rfl⟩
          · rw [if_neg (by omega), if_pos rfl]
          · rw [if_neg (by omega), if_neg (by omega)]
        have hnp : nP 2 (w :: W) = nP 2 W + 1 := if_neg (by omega)
        refine iP (w :: W) (h + 1) _ u d _ T9 hb4 (by rw [hnp, hW.np]; omega) x3 (by omega) (fun v p1 u1 e n42' T' hT' => ?_) (fun k pl e => er k pl (by rw [hrd, show rd X f 2 none (tkE X.1 X.2.1 p) u d = _ from e]; rfl))
        have e0 : rd X f 2 none (tkE X.1 X.2.1 p) u d = .inr (v, p1, u1) := e
        have hpos := rd_pos X f 2 none (tkE X.1 X.2.1 p) u d _ hle (by omega) e0
        simp only at hpos
        have hxx : X.2.1 = xN X := rfl
        have hgt2 : p < tkE X.1 X.2.1 p := hgt
        have hpos3 := hpos.2.2.1 (by decide)
        have hP2 := Pnd.two (by omega) hW a5 hT'
        rw [hcm] at hP2
        exact iS W h pe (vAdd X s v g) u1 d p1 T' hW hP2 hpos.1 n42' (by omega) (fun v2 p2 u2 e2 T'' hT'' => ok v2 p2 u2 (by rw [hrd, e0, bindR_r]; exact e2) T'' hT'') (fun k pl e2 => er k pl (by rw [hrd, e0, bindR_r]; exact e2))
      refine ⟨_, ct_goesOn hE a1 ⟨a2, by omega⟩, ?_⟩
      rintro r T9 hx
      rcases hx with ⟨x1, rfl, x3⟩ | ⟨x1, rfl, x3⟩ | ⟨x1, rfl, x3⟩ | ⟨x1, x2, x3, rfl, rfl⟩
      · exact absurd x1 n42
      · refine ⟨fun z => absurd z (by decide), fun _ => f88_go x3.2.2.2.1 ?_⟩
        exact more 2 1 (Or.inl ⟨rfl, rfl⟩) (tkE_gt (isSn_n0 x1)) (cIf_t x1) T9 x3
      · refine ⟨fun z => absurd z (by decide), fun _ => f88_go x3.2.2.2.1 ?_⟩
        have n43 : ¬ isSn X.1 X.2.1 p 43 := fun q => by have := isSn_uniq q x1; omega
        exact more 3 (-1) (Or.inr ⟨rfl, rfl⟩) (tkE_gt (isSn_n0 x1)) ((cIf_f n43).trans (cIf_t x1)) T9 x3
      · exact ⟨fun _ => ok s p u ((cIf_f x2).trans (cIf_f x3)) T9 hP, fun z => absurd rfl z⟩
    · -- a sum
      intro W h pe u d p T hW hf hfu ok er
      obtain ⟨f1, f2, f3, f4, f5, f6, f7, f8, f9, f10, f11, f12⟩ := id hf
      have hrd : rd X (f + 1) 0 none p u d = bindR (rd X f 2 none p u d) fun v1 p1 u1 => rd X f 1 v1 p1 u1 d := rfl
      refine iP W h pe u d p T hW.b4 (by rw [hW.np]; exact Nat.zero_le _) hf (by omega) (fun v p1 u1 e n42 T' hT' => ?_) (fun k pl e => er k pl (by rw [hrd, e]; rfl))
      have hpos := rd_pos X f 2 none p u d _ f3 (by omega) e
      simp only at hpos
      have hpos3 := hpos.2.2.1 (by decide)
      have hxx : X.2.1 = xN X := rfl
      exact iS W h pe v u1 d p1 T' hW (hT'.one hW) hpos.1 n42 (by omega) (fun v2 p2 u2 e2 T'' hT'' => ok v2 p2 u2 (by rw [hrd, e, bindR_r]; exact e2) T'' hT'') (fun k pl e2 => er k pl (by rw [hrd, e, bindR_r]; exact e2))
