/-! the twin reads a text -/
noncomputable def mvsR (bt : Nat → Nat) (n pl : Nat) : Nat → Nat → (Nat → List Nat) → Nat → (Nat × Nat) ⊕ (Nat × (Nat → List Nat) × Nat)
  | 0, _, _, _ => .inl (9, 0)
  | f + 1, q, mv, p => cIf (isW bt n p wMv) (Sum.casesOn (mvR bt n pl q p) (fun e => .inl e) (fun y => cIf (rFew pl (q + 1) (moF mv q y.1)) (mvsR bt n pl f (q + 1) (moF mv q y.1) y.2) (.inl (5, tkP bt n p)))) (.inr (q, mv, p))
noncomputable def ltsR : Nat → rX → Nat → (Nat × Nat) ⊕ (rX × Nat)
  | 0, _, _ => .inl (9, 0)
  | f + 1, X, p => cIf (isW X.1 X.2.1 p wLt) (Sum.casesOn (ltR X p) (fun e => .inl e) (fun y => ltsR f (xAdd X y.1 y.2.1) y.2.2)) (cIf (tkS X.1 X.2.1 p = 0) (.inr (X, p)) (.inl (wk X.1 X.2.1 p 2, tkP X.1 X.2.1 p)))
/-- what stands when the moves are told -/
noncomputable def x0 (bt : Nat → Nat) (n pl q : Nat) (mv : Nat → List Nat) : rX := (bt, n, gS pl q mv, gMk pl q mv, [], fun _ _ => 0)
theorem mvR_in {bt : Nat → Nat} {n pl q p : Nat} : q = 4 → mvR bt n pl q p = .inl (5, tkP bt n p) := fun h => cIf_t h
abbrev rdS : List Nat := [3, 4, 5, 6, 7, 8, 11, 12, 13, 14, 15, 20, 21, 22, 23, 24, 25, 26, 27, 28, 29, 30, 31, 32, 33, 34, 35, 38, 39, 40, 41, 42, 43, 44, 45]
/-- there are few subgroups, whatever the moves -/
def AllFew : Prop := ∀ pl q mv, 1 ≤ pl → pl ≤ 6 → q ≤ 4 → (∀ k, k < q → rOk pl (mv k)) → rFew pl q mv → gFew (gN pl q mv) (gMul pl q mv)
/-- lines of names -/
theorem s_lets {c : tC} {T0 : tS} {Ok : rX → Prop} {Er : Nat → Nat → Prop} (ret : ∀ T X p, Ok X → tEq ltS T0 T → T.1 7 = 0 → T.1 8 = T0.1 8 → tEnv X T → tTok T (xB X) (xN X) p → c.2.2.2.2.2.2 none T) (bad : ∀ T k l, Er k l → tEq ltS T0 T → tFlt T k l → c.2.2.2.2.2.2 none T) :
    ∀ f X p T, tEq ltS T0 T → T.1 7 = 0 → T.1 8 = T0.1 8 → tEnv X T → tTok T (xB X) (xN X) p → p ≤ xN X → xN X < p + f → (∀ X' p', ltsR f X p = .inr (X', p') → Ok X') → (∀ k l, ltsR f X p = .inl (k, l) → Er k l) → h_reads_71 c T := by
  intro f
  induction f with
  | zero => intro X p T _ _ _ _ _ h1 h2; omega
  | succ f ih =>
    intro X p T he h7 h8 hE ht hp hfu ok er
    have hw : (T.1 7 = 0 ∧ T.1 5 = 1 ∧ T.2.1 11 = (7103860 : Int64)) ↔ isW (xB X) (xN X) p wLt := by
      rw [w_all.2.2.1]
      exact ⟨fun q => (ht.isw wd_all.2.2.1).mp q.2, fun q => ⟨h7, (ht.isw wd_all.2.2.1).mpr q⟩⟩
    refine s_reads_71 c T ⟨fun z => ⟨fun z => absurd h7 (zI_0.mp z), fun _ => ?_⟩, fun z => ?_⟩
    · rw [zI_0, hw] at z
      have hrd : ltsR (f + 1) X p = _ := cIf_f z
      rw [show (0 : Int32) = nI 0 from rfl, ht.sort (by omega)]
      refine ⟨fun y => ret T X p (ok X p (hrd.trans (cIf_t y))) he h7 h8 hE ht, fun y => ⟨_, ct_wrong ht h7 (k := 2) (by omega), ?_⟩⟩
      rintro T15 ⟨w1, w2⟩
      exact bad T15 _ _ (er _ _ (hrd.trans (cIf_f y))) (he.trans (w1.mono (by decide))) w2
    · rw [zI_n0, hw] at z
      have hrd : ltsR (f + 1) X p = _ := cIf_t z
      refine ⟨_, ct_letLine hE ht hp z.1 h7, ?_⟩
      rintro T21 ⟨w1, w2, w3⟩
      cases hl : ltR X p with
      | inl e =>
        exact (s_reads_71 c T21 ⟨fun _ => ⟨fun _ => bad T21 _ _ (er e.1 e.2 (by rw [hrd, hl])) (he.trans w1) (w3 e.1 e.2 hl), fun q => absurd (zI_n0.mp q) (w3 e.1 e.2 hl).bad⟩, fun q => absurd (zI_n0.mp q).1 (w3 e.1 e.2 hl).bad⟩)
      | inr y =>
        obtain ⟨k1, k2, k3, k4, k5, k6⟩ := w2 y.1 y.2.1 y.2.2 hl
        have hrd2 : ltsR (f + 1) X p = ltsR f (xAdd X y.1 y.2.1) y.2.2 := by rw [hrd, hl]
        have hfu2 : xN (xAdd X y.1 y.2.1) < y.2.2 + f := by show xN X < y.2.2 + f; omega
        exact ih (xAdd X y.1 y.2.1) y.2.2 T21 (he.trans w1) k4 (k5.trans h8) k6 k3 k1 hfu2 (fun X' p' e => ok X' p' (by rw [hrd2]; exact e)) (fun k l e => er k l (by rw [hrd2]; exact e))
/-- lines of moves, then the group -/
theorem s_moves (AF : AllFew) {c : tC} {T0 : tS} {bt : Nat → Nat} {n pl : Nat} {Er : Nat → Nat → Prop} {Ok : Nat → (Nat → List Nat) → Nat → Prop} (tp : tTp T0 bt n) (h14 : T0.1 14 = 0) (next : ∀ q mv p T, Ok q mv p → p ≤ n → tEq rdS T0 T → T.1 7 = 0 → T.1 8 = T0.1 8 → tMov T pl q mv → tG T pl q mv → T.1 14 = 0 → tTok T bt n p → h_reads_71 c T) (bad : ∀ T k l, Er k l → tEq rdS T0 T → tFlt T k l → c.2.2.2.2.2.2 none T) :
    ∀ f q mv p T, tEq rdS T0 T → T.1 14 = 0 → T.1 7 = 0 → T.1 8 = T0.1 8 → tMov T pl q mv → rFew pl q mv → tTok T bt n p → p ≤ n → n < p + f → (∀ q' mv' p', mvsR bt n pl f q mv p = .inr (q', mv', p') → Ok q' mv' p') → (∀ k l, mvsR bt n pl f q mv p = .inl (k, l) → Er k l) → h_reads_43 c T := by
  have bad71 : ∀ T k l, Er k l → tEq rdS T0 T → tFlt T k l → h_reads_71 c T := fun T k l e1 e2 e3 => s_reads_71 c T ⟨fun _ => ⟨fun _ => bad T k l e1 e2 e3, fun q => absurd (zI_n0.mp q) e3.bad⟩, fun q => absurd (zI_n0.mp q).1 e3.bad⟩
  intro f
  induction f with
  | zero => intro q mv p T _ _ _ _ _ _ _ h1 h2; omega
  | succ f ih =>
    intro q mv p T he k14 h7 h8 hm hfew ht hp hfu ok er
    have hw : (T.1 7 = 0 ∧ T.1 5 = 1 ∧ T.2.1 11 = (1836021349 : Int64)) ↔ isW bt n p wMv := by
      rw [w_all.2.1]
      exact ⟨fun q => (ht.isw wd_all.2.1).mp q.2, fun q => ⟨h7, (ht.isw wd_all.2.1).mpr q⟩⟩
    refine s_reads_43 c T ⟨fun z => ⟨fun z => absurd h7 (zI_0.mp z), fun _ => ?_⟩, fun z => ?_⟩
    · rw [zI_0, hw] at z
      have hrd : mvsR bt n pl (f + 1) q mv p = .inr (q, mv, p) := cIf_f z
      refine ⟨_, ct_builds2 hm hfew (AF pl q mv hm.1 hm.2.1 hm.2.2.1 hm.2.2.2.1 hfew), ?_⟩
      rintro T14 ⟨w1, w2⟩
      exact next q mv p T14 (ok q mv p hrd) hp (he.trans (w1.mono (by decide))) (by rw [w1.i 7 (by decide)]; exact h7) (by rw [w1.i 8 (by decide)]; exact h8) (hm.same w1 (by decide) (by decide) (by decide)) w2 (by rw [w1.i 14 (by decide)]; exact k14) (ht.same w1 (by decide) (by decide) (by decide) (by decide) (by decide))
    · rw [zI_n0, hw] at z
      have hrd : mvsR bt n pl (f + 1) q mv p = _ := cIf_t z
      refine ⟨_, ct_moveLine (tp.same he (by decide) (by decide)) ht hp z.1 h7 hm, ?_⟩
      rintro T20 ⟨w1, w2, w3⟩
      have e20 : tEq rdS T0 T20 := he.trans (w1.mono (by decide))
      have flt : ∀ k l, tFlt T20 k l → mvsR bt n pl (f + 1) q mv p = .inl (k, l) → h_reads_43 c T20 := fun k l y1 y2 => s_reads_43 c T20 ⟨fun _ => ⟨fun _ => bad71 T20 k l (er k l y2) e20 y1, fun q => absurd (zI_n0.mp q) y1.bad⟩, fun q => absurd (zI_n0.mp q).1 y1.bad⟩
      cases hl : mvR bt n pl q p with
      | inl e => exact flt e.1 e.2 (w3 e.1 e.2 hl) (by rw [hrd, hl])
      | inr y =>
        obtain ⟨k1, k2⟩ := w2 y.1 y.2 hl
        by_cases hf : rFew pl (q + 1) (moF mv q y.1)
        · obtain ⟨j1, j2, j3, j4, j5, j6⟩ := k1 hf
          have hrd2 : mvsR bt n pl (f + 1) q mv p = mvsR bt n pl f (q + 1) (moF mv q y.1) y.2 := by rw [hrd, hl]; exact cIf_t hf
          exact ih (q + 1) (moF mv q y.1) y.2 T20 e20 (by rw [w1.i 14 (by decide)]; exact k14) j4 (j5.trans h8) j6 hf j3 j1 (by omega) (fun q' mv' p' e => ok q' mv' p' (by rw [hrd2]; exact e)) (fun k l e => er k l (by rw [hrd2]; exact e))
        · exact flt _ _ (k2 hf) (by rw [hrd, hl]; exact cIf_f hf)
theorem rFew_0 {pl : Nat} {mv : Nat → List Nat} : rFew pl 0 mv := ⟨[List.range pl], fun r hr => by
  obtain ⟨w, h1, rfl⟩ := hr
  cases w with
  | nil => exact List.mem_singleton.mpr rfl
  | cons k w => exact absurd (h1 k List.mem_cons_self) (Nat.not_lt_zero _), by simp⟩
/-- a text: the troupe that it tells; where it is wrong -/
noncomputable def txR (bt : Nat → Nat) (n : Nat) : (Nat × Nat) ⊕ (Nat × Nat × (Nat → List Nat) × rX) :=
  cIf (isW bt n 0 wPl) (cIf (tkS bt n (tkE bt n 0) = 2) (cIf (1 ≤ tkV bt n (tkE bt n 0) ∧ tkV bt n (tkE bt n 0) ≤ 6) (cIf (isSn bt n (tkE bt n (tkE bt n 0)) 59)
    (Sum.casesOn (mvsR bt n (tkV bt n (tkE bt n 0)) (n + 1) 0 (fun _ => []) (tkE bt n (tkE bt n (tkE bt n 0)))) (fun e => .inl e) (fun y =>
      Sum.casesOn (ltsR (n + 1) (x0 bt n (tkV bt n (tkE bt n 0)) y.1 y.2.1) y.2.2) (fun e => .inl e) (fun z => .inr (tkV bt n (tkE bt n 0), y.1, y.2.1, z.1))))
    (.inl (wk bt n (tkE bt n (tkE bt n 0)) 2, tkP bt n (tkE bt n (tkE bt n 0))))) (.inl (4, tkP bt n (tkE bt n 0)))) (.inl (wk bt n (tkE bt n 0) 2, tkP bt n (tkE bt n 0)))) (.inl (wk bt n 0 2, tkP bt n 0))
theorem ct_reads (AF : AllFew) {T0 : tS} {bt : Nat → Nat} {n : Nat} (tp : tTp T0 bt n) (ht : tTok T0 bt n 0) (h7 : T0.1 7 = 0) (h13 : T0.1 13 = 0) (h14 : T0.1 14 = 0) : tMv mX6_reads 9 (fun _ => []) T0 (fun T' => tEq rdS T0 T' ∧ (∀ pl q mv X, txR bt n = .inr (pl, q, mv, X) → T'.1 7 = 0 ∧ T'.1 8 = T0.1 8 ∧ tMov T' pl q mv ∧ tG T' pl q mv ∧ tEnv X T') ∧ ∀ k l, txR bt n = .inl (k, l) → tFlt T' k l) := by
  refine en_reads T0 _ (fun c hc => s_reads_0 c T0 ?_)
  have bad : ∀ (T : tS) (k l : Nat), txR bt n = .inl (k, l) → tEq rdS T0 T → tFlt T k l → c.2.2.2.2.2.2 none T := by
    intro T k l e1 e2 e3
    rw [hc]
    refine ⟨rfl, e2, ?_, ?_⟩
    · intro pl q mv X z
      rw [e1] at z
      cases z
    · intro k' l' z
      rw [e1] at z
      cases z
      exact e3
  have bad43 : ∀ (T : tS) (k l : Nat), txR bt n = .inl (k, l) → tEq rdS T0 T → tFlt T k l → h_reads_43 c T := fun T k l e1 e2 e3 => s_reads_43 c T ⟨fun _ => ⟨fun _ => s_reads_71 c T ⟨fun _ => ⟨fun _ => bad T k l e1 e2 e3, fun q => absurd (zI_n0.mp q) e3.bad⟩, fun q => absurd (zI_n0.mp q).1 e3.bad⟩, fun q => absurd (zI_n0.mp q) e3.bad⟩, fun q => absurd (zI_n0.mp q).1 e3.bad⟩
  have bad26 : ∀ (T : tS) (k l : Nat), txR bt n = .inl (k, l) → tEq rdS T0 T → tFlt T k l → h_reads_26 c T := by
    intro T k l e1 e2 e3
    refine s_reads_26 c T ⟨_, ct_number' e3 _ _, ?_⟩
    rintro r T4 rfl
    have e4 : tEq [12] T4 (tI T4 12 r) := tEq.sI _ _ (by decide)
    refine ⟨_, ct_must' (e3.same e4 (by decide) (by decide)) _, ?_⟩
    rintro T10 rfl
    exact bad43 _ k l e1 (e2.trans (e4.mono (by decide))) (e3.same e4 (by decide) (by decide))
  have hw : (T0.1 7 = 0 ∧ T0.1 5 = 1 ∧ T0.2.1 11 = (123610792682867 : Int64)) ↔ isW bt n 0 wPl := by
    rw [w_all.1]
    exact ⟨fun q => (ht.isw wd_all.1).mp q.2, fun q => ⟨h7, (ht.isw wd_all.1).mpr q⟩⟩
  refine ⟨fun z => ?_, fun z => ?_⟩
  · rw [zI_n0, hw] at z
    have r1 : txR bt n = _ := cIf_t z
    refine s_reads_15 c T0 ⟨fun z => absurd h7 (zI_0.mp z), fun _ => ⟨_, ct_goOn2 tp ht (Nat.zero_le _), ?_⟩⟩
    rintro T9 ⟨e9, t9⟩
    have g7 : T9.1 7 = 0 := by rw [e9.i 7 (by decide)]; exact h7
    have l1 := tkE_le (bt := bt) (Nat.zero_le n)
    refine s_reads_26 c T9 ⟨_, ct_number (tp.same e9 (by decide) (by decide)) t9 l1 g7 (x := 1) (y := 6) (by omega) (by omega), ?_⟩
    rintro r T4 hx
    have e12 : tEq [12] T4 (tI T4 12 r) := tEq.sI _ _ (by decide)
    rcases hx with ⟨x1, x2, x3, rfl, x5, x6⟩ | ⟨x1, x2, x3⟩ | ⟨x1, x2, x3, x4⟩
    · have r2 := r1.trans ((cIf_t x1).trans (cIf_t ⟨x2, x3⟩))
      have e4 : tEq rdS T0 (tI T4 12 (nI (tkV bt n (tkE bt n 0)))) := ((e9.mono (by decide)).trans (x5.mono (by decide))).trans (e12.mono (by decide))
      have l2 := tkE_le (bt := bt) l1
      have g74 : (tI T4 12 (nI (tkV bt n (tkE bt n 0)))).1 7 = 0 := by rw [tI_in (by decide), x5.i 7 (by decide)]; exact g7
      have g84 : (tI T4 12 (nI (tkV bt n (tkE bt n 0)))).1 8 = T0.1 8 := by rw [tI_in (by decide), x5.i 8 (by decide), e9.i 8 (by decide)]
      refine ⟨_, ct_must (tp.same e4 (by decide) (by decide)) (x6.same e12 (by decide) (by decide) (by decide) (by decide) (by decide)) l2 g74 (x := 59) (by omega), ?_⟩
      rintro T10 hy
      rcases hy with ⟨y1, y2, y3⟩ | ⟨y1, y2, y3⟩
      · have r3 := r2.trans (cIf_t y1)
        have e10 : tEq rdS T0 T10 := e4.trans (y2.mono (by decide))
        have l3 := tkE_le (bt := bt) l2
        have k13 : T10.1 13 = 0 := by rw [y2.i 13 (by decide), tI_in (by decide), x5.i 13 (by decide), e9.i 13 (by decide)]; exact h13
        have k14 : T10.1 14 = 0 := by rw [y2.i 14 (by decide), tI_in (by decide), x5.i 14 (by decide), e9.i 14 (by decide)]; exact h14
        have hm : tMov T10 (tkV bt n (tkE bt n 0)) 0 (fun _ => []) := ⟨x2, x3, by omega, fun k hk => absurd hk (Nat.not_lt_zero _), by rw [y2.i 12 (by decide), tI_is], k13, fun k i hk => absurd hk (Nat.not_lt_zero _)⟩
        refine s_moves AF (Er := fun k l => txR bt n = .inl (k, l)) (Ok := fun q mv p => mvsR bt n (tkV bt n (tkE bt n 0)) (n + 1) 0 (fun _ => []) (tkE bt n (tkE bt n (tkE bt n 0))) = .inr (q, mv, p)) tp h14 (fun q mv p T o1 o2 o3 o4 o5 o6 o7 o8 o9 => ?_) (fun T k l => bad T k l) (n + 1) 0 (fun _ => []) _ T10 e10 k14 (by rw [y2.i 7 (by decide)]; exact g74) (by rw [y2.i 8 (by decide)]; exact g84) hm rFew_0 y3 l3 (by omega) (fun q mv p e => e) (fun k l e => by rw [r3, e])
        obtain ⟨mk1, mk2⟩ := tG_mk o7
        have hE : tEnv (x0 bt n (tkV bt n (tkE bt n 0)) q mv) T := ⟨tp.same o3 (by decide) (by decide), mk1, mk2, ⟨Nat.zero_le _, o8, fun k hk => absurd hk (Nat.not_lt_zero _)⟩, fun k hk => absurd hk (Nat.not_lt_zero _)⟩
        have r4 : txR bt n = Sum.casesOn (ltsR (n + 1) (x0 bt n (tkV bt n (tkE bt n 0)) q mv) p) (fun e => .inl e) (fun z => .inr (tkV bt n (tkE bt n 0), q, mv, z.1)) := by rw [r3, o1]
        refine s_lets (T0 := T) (Er := fun k l => txR bt n = .inl (k, l)) (Ok := fun X => txR bt n = .inr (tkV bt n (tkE bt n 0), q, mv, X)) (fun T' X p' u1 u2 u3 u4 u5 u6 => ?_) (fun T' k l u1 u2 u3 => bad T' k l u1 (o3.trans (u2.mono (by decide))) u3) (n + 1) _ p T (tEq.refl _ _) o4 rfl hE o9 o2 (show n < p + (n + 1) by omega) (fun X' p' e => by rw [r4, e]) (fun k l e => by rw [r4, e])
        rw [hc]
        refine ⟨rfl, o3.trans (u2.mono (by decide)), ?_, ?_⟩
        · intro pl q' mv' X' z
          rw [u1] at z
          cases z
          exact ⟨u3, u4.trans o5, o6.same u2 (by decide) (by decide) (by decide), o7.same u2 (by decide), u5⟩
        · intro k l z
          rw [u1] at z
          cases z
      · exact bad43 T10 _ _ (r2.trans (cIf_f y1)) (e4.trans (y2.mono (by decide))) y3
    · have f4 := x3.same e12 (by decide) (by decide)
      refine ⟨_, ct_must' f4 _, ?_⟩
      rintro T10 rfl
      exact bad43 _ _ _ (r1.trans (cIf_f x1)) (((e9.mono (by decide)).trans (x2.mono (by decide))).trans (e12.mono (by decide))) f4
    · have f4 := x4.same e12 (by decide) (by decide)
      refine ⟨_, ct_must' f4 _, ?_⟩
      rintro T10 rfl
      exact bad43 _ _ _ (r1.trans ((cIf_t x1).trans (cIf_f x2))) (((e9.mono (by decide)).trans (x3.mono (by decide))).trans (e12.mono (by decide))) f4
  · rw [zI_0, hw] at z
    refine ⟨_, ct_wrong ht h7 (k := 2) (by omega), ?_⟩
    rintro T9 ⟨w1, w2⟩
    refine s_reads_15 c T9 ⟨fun _ => bad26 T9 _ _ (cIf_f z) (w1.mono (by decide)) w2, fun q => absurd (zI_n0.mp q) w2.bad⟩
