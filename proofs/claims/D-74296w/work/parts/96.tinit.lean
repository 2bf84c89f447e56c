/-! the twin is made -/
def tZ : tS := (fun _ => 0, fun _ => 0, fun _ _ => 0, fun _ _ => 0)
/-- its fields when the arrays of ranks 1 .. k are made -/
def tFc (b : Nat) (T : tS) (k f : Nat) : Value := if (tKd f = 2 ∨ tKd f = 3) ∧ k < tRk f then .null else tFv b T f
def tFsC (b : Nat) (T : tS) (k : Nat) : List Value := (List.range 66).map (tFc b T k)
def tHc (G : eG) (b : Nat) (T : tS) (h0 : eH) (k : Nat) : eH := (fun x => if x = b then some (.inr (6, tFsC b T k)) else if b < x ∧ x ≤ b + k then some (tAr G T (tUn (x - b))) else h0.1 x, b + 1 + k)
theorem tFsC_len (b : Nat) (T : tS) (k : Nat) : (tFsC b T k).length = 66 := by simp [tFsC]
theorem tFsC_at (b : Nat) (T : tS) (k f : Nat) (hf : f < 66) : (tFsC b T k)[f]? = some (tFc b T k f) := by simp [tFsC, hf]
theorem tFsC_set {b : Nat} {T T' : tS} {k k' f : Nat} {v : Value} (hf : f < 66) (hv : tFc b T' k' f = v) (ho : ∀ g, g < 66 → g ≠ f → tFc b T' k' g = tFc b T k g) : (tFsC b T k).set f v = tFsC b T' k' := by
  apply List.ext_getElem?
  intro i
  by_cases hi : i = f
  · subst hi
    rw [List.getElem?_set_self (by rw [tFsC_len]; exact hf), tFsC_at b T' k' i hf, hv]
  · rw [List.getElem?_set_ne (Ne.symm hi)]
    by_cases hl : i < 66
    · rw [tFsC_at b T k i hl, tFsC_at b T' k' i hl, ho i hl hi]
    · rw [List.getElem?_eq_none (by simp [tFsC_len]; omega), List.getElem?_eq_none (by simp [tFsC_len]; omega)]
theorem tRk_inj : ∀ f, f < 66 → ∀ g, g < 66 → (tKd f = 2 ∨ tKd f = 3) → (tKd g = 2 ∨ tKd g = 3) → tRk f = tRk g → f = g := by decide +kernel
theorem tHc_end (G : eG) (b : Nat) (T : tS) (h0 : eH) : tHc G b T h0 32 = tH G b T (h0.1, b + 33) := by
  have e : tFsC b T 32 = tFs b T := by
    unfold tFsC tFs
    refine List.map_congr_left (fun f hf => ?_)
    have hf' := List.mem_range.mp hf
    unfold tFc
    rw [if_neg]
    rintro ⟨h1, h2⟩
    have := (tRk_ok f hf' h1).2.1
    omega
  unfold tHc tH
  rw [e]
section TI
variable {l : Launch} {lo : Nat} {G : eG} {d : Nat} {P : eO → eH → Prop} {pc : Nat} {lv : List (Option Value)} {st : List Value} {h0 : eH} {k n b c : Nat} {T : tS}
theorem tHc_obj : (tHc G b T h0 c).1 b = some (.inr (6, tFsC b T c)) := by simp [tHc]
theorem tHc_arr {f : Nat} (hf : f < 66) (hk : tKd f = 2 ∨ tKd f = 3) (hr : tRk f = c + 1) : eUp (eNw (tHc G b T h0 c) (tAr G T f)) b (.inr (6, (tFsC b T c).set f (.ref (b + 1 + c)))) = tHc G b T h0 (c + 1) := by
  have e : (tFsC b T c).set f (.ref (b + 1 + c)) = tFsC b T (c + 1) := by
    refine tFsC_set hf ?_ (fun g hg hne => ?_)
    · unfold tFc
      rw [if_neg (by omega)]
      unfold tFv tAd
      rcases hk with h | h <;> rw [h] <;> show Value.ref (b + tRk f) = Value.ref (b + 1 + c) <;> rw [hr, show b + (c + 1) = b + 1 + c by omega]
    · unfold tFc
      by_cases h1 : tKd g = 2 ∨ tKd g = 3
      · have : tRk g ≠ c + 1 := fun q => hne (tRk_inj g hg f hf h1 hk (by omega))
        by_cases h2 : c < tRk g
        · rw [if_pos ⟨h1, by omega⟩, if_pos ⟨h1, h2⟩]
        · rw [if_neg (by rintro ⟨_, q⟩; omega), if_neg (by rintro ⟨_, q⟩; exact h2 q)]
      · rw [if_neg (fun q => h1 q.1), if_neg (fun q => h1 q.1)]
  rw [e]
  refine Prod.ext ?_ (by show b + 1 + c + 1 = b + 1 + (c + 1); omega)
  funext x
  show (if x = b then _ else if x = b + 1 + c then _ else if x = b then _ else if b < x ∧ x ≤ b + c then _ else h0.1 x) = (if x = b then _ else if b < x ∧ x ≤ b + (c + 1) then _ else h0.1 x)
  by_cases h1 : x = b
  · rw [if_pos h1, if_pos h1]
  · rw [if_neg h1, if_neg h1, if_neg h1]
    by_cases h2 : x = b + 1 + c
    · have hu := (tRk_ok f hf hk).2.2
      rw [if_pos h2, if_pos (by omega), show x - b = tRk f by omega, hu]
    · rw [if_neg h2]
      by_cases h3 : b < x ∧ x ≤ b + c
      · rw [if_pos h3, if_pos (by omega)]
      · rw [if_neg h3, if_neg (by omega)]
theorem tAr_I {f g : Nat} {v : Int32} : tAr G (tI T f v) g = tAr G T g := rfl
theorem tHc_int {f : Nat} {v : Int32} (hf : f < 66) (hk : tKd f = 0) : eUp (tHc G b T h0 c) b (.inr (6, (tFsC b T c).set f (.int v))) = tHc G b (tI T f v) h0 c := by
  have e : (tFsC b T c).set f (.int v) = tFsC b (tI T f v) c := by
    refine tFsC_set hf ?_ (fun g hg hne => ?_)
    · unfold tFc
      rw [if_neg (by rw [hk]; rintro ⟨q | q, _⟩ <;> exact absurd q (by decide))]
      unfold tFv
      rw [hk]
      show Value.int ((tI T f v).1 f) = _
      rw [tI_is]
    · unfold tFc
      rw [tFv_I b T f v g hne]
  rw [e]
  refine Prod.ext ?_ rfl
  funext x
  by_cases h1 : x = b
  · simp [eUp, tHc, h1]
  · simp [eUp, tHc, h1, tAr_I]
theorem t_mkF {f idx : Nat} {ow nm ds : String} {ty : FieldType} {v : Int32} (D : decode mX6_init.2.2.1 pc = .ok (.putfield idx, 3)) (F : eF 6 f (ow, nm, ds, false) ty) (q : Cond.fieldLink RX6 idx ow nm ds ∈ lw_all) (hfit : eFit ty (.int v)) (hf : f < 66) (hk : tKd f = 0) (hlo : lo ≤ b)
    (x1 : E l lo G d mX6_init P (pc + 3) lv st (tHc G b (tI T f v) h0 c) k n) : E l lo G d mX6_init P pc lv (.int v :: .ref b :: st) (tHc G b T h0 c) k n := by
  refine e_put D F q hfit tHc_obj hlo (by rw [tFsC_len]; exact hf) ?_
  rw [tHc_int hf hk]
  exact x1
theorem t_mkI {f idx : Nat} {ow nm ds : String} {i : Int32} {k1 n1 : Nat} (D1 : decode mX6_init.2.2.1 pc = .ok (.newarray .int, 2)) (D2 : decode mX6_init.2.2.1 (pc + 2) = .ok (.putfield idx, 3)) (F : eF 6 f (ow, nm, ds, true) (.array .int)) (q : Cond.fieldLink RX6 idx ow nm ds ∈ lw_all) (qa : Cond.arrayClass .int ∈ lw_all) (hf : f < 66) (hkd : tKd f = 2) (hr : tRk f = c + 1) (hi : i = nI (tLn f)) (how : ow = RX6) (hz : T.2.2.1 f = fun _ => 0) (hlo : lo ≤ b) (hk : k1 + 1 ≤ k) (hn : n1 + tLn f ≤ n)
    (x1 : E l lo G d mX6_init P (pc + 5) lv st (tHc G b T h0 (c + 1)) k1 n1) : E l lo G d mX6_init P pc lv (.int i :: .ref b :: st) (tHc G b T h0 c) k n := by
  have hl := tLn_lt f hf
  subst hi
  refine e_newarray 0 (tLn f) (v := (tLn f, .inl (fun _ => 0))) D1 rfl (fun _ => rfl) (fun G U h => h) qa (nI_pos (by omega)) (nI_clamp (by omega)) (by show tLn f * 4 ≤ _; omega) (fun _ => rfl) hk hn ?_
  refine e_putF D2 F q rfl how (eFit_ar _ _) (o := b) (fs := tFsC b T c) (by show (if b = b + 1 + c then _ else _) = _; rw [if_neg (by omega)]; exact tHc_obj) hlo (by rw [tFsC_len]; exact hf) ?_
  have e : (Sum.inl (G.2.1 0, tLn f, Sum.inl (fun _ => (0 : Int32))) : va_E) = tAr G T f := by unfold tAr; rw [if_pos hkd, hz]
  rw [e]
  have := tHc_arr (G := G) (T := T) (h0 := h0) (b := b) hf (Or.inl hkd) hr
  show E l lo G d mX6_init P (pc + 2 + 3) lv st (eUp (eNw (tHc G b T h0 c) (tAr G T f)) b (.inr (6, (tFsC b T c).set f (.ref (b + 1 + c))))) k1 n1
  rw [this]
  exact x1
theorem t_mkJ {f idx : Nat} {ow nm ds : String} {i : Int32} {k1 n1 : Nat} (D1 : decode mX6_init.2.2.1 pc = .ok (.newarray .long, 2)) (D2 : decode mX6_init.2.2.1 (pc + 2) = .ok (.putfield idx, 3)) (F : eF 6 f (ow, nm, ds, true) (.array .long)) (q : Cond.fieldLink RX6 idx ow nm ds ∈ lw_all) (qa : Cond.arrayClass .long ∈ lw_all) (hf : f < 66) (hkd : tKd f = 3) (hr : tRk f = c + 1) (hi : i = nI (tLn f)) (how : ow = RX6) (hz : T.2.2.2 f = fun _ => 0) (hlo : lo ≤ b) (hk : k1 + 1 ≤ k) (hn : n1 + tLn f ≤ n)
    (x1 : E l lo G d mX6_init P (pc + 5) lv st (tHc G b T h0 (c + 1)) k1 n1) : E l lo G d mX6_init P pc lv (.int i :: .ref b :: st) (tHc G b T h0 c) k n := by
  have hl := tLn_lt f hf
  subst hi
  refine e_newarray 1 (tLn f) (v := (tLn f, .inr (.inl (fun _ => 0)))) D1 rfl (fun _ => rfl) (fun G U h => h) qa (nI_pos (by omega)) (nI_clamp (by omega)) (by show tLn f * 8 ≤ _; omega) (fun _ => rfl) hk hn ?_
  refine e_putF D2 F q rfl how (eFit_ar _ _) (o := b) (fs := tFsC b T c) (by show (if b = b + 1 + c then _ else _) = _; rw [if_neg (by omega)]; exact tHc_obj) hlo (by rw [tFsC_len]; exact hf) ?_
  have e : (Sum.inl (G.2.1 1, tLn f, Sum.inr (Sum.inl (fun _ => (0 : Int64)))) : va_E) = tAr G T f := by unfold tAr; rw [if_neg (by omega), hz]
  rw [e]
  have := tHc_arr (G := G) (T := T) (h0 := h0) (b := b) hf (Or.inr hkd) hr
  show E l lo G d mX6_init P (pc + 2 + 3) lv st (eUp (eNw (tHc G b T h0 c) (tAr G T f)) b (.inr (6, (tFsC b T c).set f (.ref (b + 1 + c))))) k1 n1
  rw [this]
  exact x1
end TI
/-- one place, no move, no name -/
def xOne (X : rX) : Prop := xNm X = [] ∧ xS X = gS 1 0 (fun _ => []) ∧ xM X = gMk 1 0 (fun _ => [])
/-- the twin as it is born -/
def tInit (T : tS) : Prop := T.1 1 = 0 ∧ T.1 9 = 0 ∧ T.1 10 = -1 ∧ T.1 58 = 0 ∧ tPast T 0 (fun _ _ => 0) ∧ (∀ j, j < 64 → T.2.2.2 36 j = 0) ∧ ∃ X, xOne X ∧ tIn T 1 0 (fun _ => []) X
abbrev tZ1 : tS := tI (tI tZ 8 (-1)) 10 (-1)
theorem tZ1_i {f : Nat} (h1 : f ≠ 8) (h2 : f ≠ 10) : tZ1.1 f = 0 := by rw [tI_in h2, tI_in h1]; rfl
theorem rFew_one : rFew 1 0 (fun _ => []) := ⟨[[0]], fun r ⟨w, hw, e⟩ => by
  cases w with
  | nil => rw [← e]; exact List.mem_singleton.mpr rfl
  | cons a w => exact absurd (hw a List.mem_cons_self) (Nat.not_lt_zero _), by decide⟩
abbrev tcI (l : Launch) (lo : Nat) (G : eG) (b : Nat) (h0 : eH) (d : Nat) : tC := (l, lo, G, b, (h0.1, b + 33), d, fun v T' => v = none ∧ tInit T')
theorem t_ctorEnd (AF : AllFew) {l : Launch} {lo : Nat} {G : eG} {b : Nat} {h0 : eH} {d : Nat} (hlo : lo ≤ b) (hd : 5 ≤ d) : E l lo G d mX6_init (tP (tcI l lo G b h0 d)) 284 [some (.ref b)] [.int 1, .ref b] (tHc G b tZ1 h0 32) 0 0 := by
  have ok : tOk 4 (tcI l lo G b h0 d) := ⟨hlo, Nat.lt_succ_self _, by show 4 ≤ d; omega⟩
  rw [tHc_end]
  refine t_putI dX6_init_284 fX6_12 q2508 (eFit_i _) (by decide) rfl hlo ?_
  have g12 : (tI tZ1 12 1).1 12 = 1 := tI_is
  have gi : ∀ f, f ≠ 8 → f ≠ 10 → f ≠ 12 → (tI tZ1 12 1).1 f = 0 := fun f h1 h2 h3 => by rw [tI_in h3]; exact tZ1_i h1 h2
  have g10 : (tI tZ1 12 1).1 10 = -1 := by rw [tI_in (by decide), tI_is]
  have gb : (tI tZ1 12 1).2 = tZ.2 := rfl
  generalize tI tZ1 12 1 = T at g12 gi g10 gb
  have hm : tMov T 1 0 (fun _ => []) := ⟨Nat.le_refl _, by omega, by omega, fun k hk => absurd hk (Nat.not_lt_zero _), g12, gi 13 (by decide) (by decide) (by decide), fun k i hk => absurd hk (Nat.not_lt_zero _)⟩
  refine e_aload_n dX6_init_287 rfl ?_
  refine t_callV (c := tcI l lo G b h0 d) (lvl := 4) (As := []) ok (ct_builds2 hm rFew_one (AF 1 0 _ (Nat.le_refl _) (by omega) (by omega) (fun k hk => absurd hk (Nat.not_lt_zero _)) rFew_one)) dX6_init_288 wX6_builds q2427 q2429 qs56 rfl rfl (by decide) rfl (Nat.le_of_ble_eq_true rfl) ?_
  rintro v T1 ⟨rfl, e1, hg⟩
  refine e_aload_n dX6_init_291 rfl ?_
  refine t_callV (c := tcI l lo G b h0 d) (lvl := 4) (As := []) ok (ct_inForce T1) dX6_init_292 wX6_inForce q2492 q2494 qs70 rfl rfl (by decide) rfl (Nat.le_of_ble_eq_true rfl) ?_
  rintro v T2 ⟨rfl, e2, i1, i2, i3, i4, i5, i6, i7, i8, i9⟩
  refine e_return dX6_init_295 rfl ⟨none, T2, rfl, rfl, rfl, ?_⟩
  have k : ∀ f, f ≠ 8 → f ≠ 10 → f ≠ 12 → f ∉ tSb → f ∉ [16, 17, 18, 19, 36, 46, 47, 58, 60] → T2.1 f = 0 := fun f h1 h2 h3 h4 h5 => by rw [e2.i f h5, e1.i f h4]; exact gi f h1 h2 h3
  have hm2 : tMov T2 1 0 (fun _ => []) := (hm.same e1 (by decide) (by decide) (by decide)).same e2 (by decide) (by decide) (by decide)
  have hg2 : tG T2 1 0 (fun _ => []) := hg.same e2 (by decide)
  obtain ⟨mk1, mk2⟩ := tG_mk hg2
  refine ⟨k 1 (by decide) (by decide) (by decide) (by decide) (by decide), k 9 (by decide) (by decide) (by decide) (by decide) (by decide), ?_, i4, ⟨by omega, i5, fun a i ha => absurd ha (Nat.not_lt_zero _)⟩, i9, ((fun _ => 0), 0, gS 1 0 (fun _ => []), gMk 1 0 (fun _ => []), [], fun _ _ => 0), ⟨rfl, rfl, rfl⟩, hm2, rFew_one, hg2, ⟨mk1, mk2, ⟨by decide, k 14 (by decide) (by decide) (by decide) (by decide) (by decide), fun k hk => absurd hk (Nat.not_lt_zero _)⟩, fun k hk => absurd hk (Nat.not_lt_zero _)⟩, rfl, rfl, ?_, ?_, ?_, fun j hj => ?_, fun j hj => ?_, fun j hj => ?_⟩
  · rw [e2.i 10 (by decide), e1.i 10 (by decide)]; exact g10
  · rw [i1, e2.i 12 (by decide)]
  · rw [i2, e2.i 13 (by decide)]
  · rw [i3, e2.i 14 (by decide)]
  · rw [i6 j hj, e2.a 15 (by decide)]
  · rw [i7 j hj, e2.b 44 (by decide)]
  · rw [i8 j hj, e2.b 45 (by decide)]

abbrev tSlots : Nat := 78111
set_option maxHeartbeats 4000000 in
theorem ct_tinit (AF : AllFew) {l : Launch} {lo : Nat} {G : eG} {b : Nat} {h0 : eH} {d : Nat} (hlo : lo ≤ b) (hd : 5 ≤ d) : Ct l lo G d mX6_init [.ref b] (tHc G b tZ h0 0) 32 tSlots (tP (tcI l lo G b h0 d)) := by
  refine Ct_of [some (.ref b)] (by decide) rfl (Nat.le_of_ble_eq_true rfl) (fun j w h => eArL_mem (nL := 1) (as := [.ref b]) j w h) ?_
  refine e_aload_n dX6_init_0 rfl ?_
  refine e_objInit dX6_init_1 q2425 q192 q193 (by omega) (by decide) ?_
  refine e_aload_n dX6_init_4 rfl ?_
  refine e_sipush (700) dX6_init_5 (by decide) ?_
  refine t_mkI (k1 := 31) (n1 := 77411) dX6_init_8 dX6_init_10 fX6_0 q2496 q303 (by decide) (by decide) (by decide) (by decide) rfl rfl hlo (by decide) (by decide) ?_
  refine e_aload_n dX6_init_13 rfl ?_
  refine e_iconst (-1) dX6_init_14 (by decide) ?_
  refine t_mkF dX6_init_15 fX6_8 q2504 (eFit_i _) (by decide) (by decide) hlo ?_
  refine e_aload_n dX6_init_18 rfl ?_
  refine e_iconst (-1) dX6_init_19 (by decide) ?_
  refine t_mkF dX6_init_20 fX6_10 q2506 (eFit_i _) (by decide) (by decide) hlo ?_
  refine e_aload_n dX6_init_23 rfl ?_
  refine e_bipush (24) dX6_init_24 (by decide) ?_
  refine t_mkI (k1 := 30) (n1 := 77387) dX6_init_26 dX6_init_28 fX6_15 q2511 q303 (by decide) (by decide) (by decide) (by decide) rfl rfl hlo (by decide) (by decide) ?_
  refine e_aload_n dX6_init_31 rfl ?_
  refine e_bipush (24) dX6_init_32 (by decide) ?_
  refine t_mkI (k1 := 29) (n1 := 77363) dX6_init_34 dX6_init_36 fX6_19 q2515 q303 (by decide) (by decide) (by decide) (by decide) rfl rfl hlo (by decide) (by decide) ?_
  refine e_aload_n dX6_init_39 rfl ?_
  refine e_sipush (144) dX6_init_40 (by decide) ?_
  refine t_mkI (k1 := 28) (n1 := 77219) dX6_init_43 dX6_init_45 fX6_21 q2517 q303 (by decide) (by decide) (by decide) (by decide) rfl rfl hlo (by decide) (by decide) ?_
  refine e_aload_n dX6_init_48 rfl ?_
  refine e_bipush (6) dX6_init_49 (by decide) ?_
  refine t_mkI (k1 := 27) (n1 := 77213) dX6_init_51 dX6_init_53 fX6_22 q2518 q303 (by decide) (by decide) (by decide) (by decide) rfl rfl hlo (by decide) (by decide) ?_
  refine e_aload_n dX6_init_56 rfl ?_
  refine e_sipush (576) dX6_init_57 (by decide) ?_
  refine t_mkI (k1 := 26) (n1 := 76637) dX6_init_60 dX6_init_62 fX6_23 q2519 q303 (by decide) (by decide) (by decide) (by decide) rfl rfl hlo (by decide) (by decide) ?_
  refine e_aload_n dX6_init_65 rfl ?_
  refine e_bipush (24) dX6_init_66 (by decide) ?_
  refine t_mkI (k1 := 25) (n1 := 76613) dX6_init_68 dX6_init_70 fX6_24 q2520 q303 (by decide) (by decide) (by decide) (by decide) rfl rfl hlo (by decide) (by decide) ?_
  refine e_aload_n dX6_init_73 rfl ?_
  refine e_sipush (128) dX6_init_74 (by decide) ?_
  refine t_mkI (k1 := 24) (n1 := 76485) dX6_init_77 dX6_init_79 fX6_27 q2523 q303 (by decide) (by decide) (by decide) (by decide) rfl rfl hlo (by decide) (by decide) ?_
  refine e_aload_n dX6_init_82 rfl ?_
  refine e_sipush (128) dX6_init_83 (by decide) ?_
  refine t_mkI (k1 := 23) (n1 := 76357) dX6_init_86 dX6_init_88 fX6_28 q2524 q303 (by decide) (by decide) (by decide) (by decide) rfl rfl hlo (by decide) (by decide) ?_
  refine e_aload_n dX6_init_91 rfl ?_
  refine e_bipush (64) dX6_init_92 (by decide) ?_
  refine t_mkI (k1 := 22) (n1 := 76293) dX6_init_94 dX6_init_96 fX6_29 q2525 q303 (by decide) (by decide) (by decide) (by decide) rfl rfl hlo (by decide) (by decide) ?_
  refine e_aload_n dX6_init_99 rfl ?_
  refine e_bipush (64) dX6_init_100 (by decide) ?_
  refine t_mkI (k1 := 21) (n1 := 76229) dX6_init_102 dX6_init_104 fX6_30 q2526 q303 (by decide) (by decide) (by decide) (by decide) rfl rfl hlo (by decide) (by decide) ?_
  refine e_aload_n dX6_init_107 rfl ?_
  refine e_sipush (4096) dX6_init_108 (by decide) ?_
  refine t_mkI (k1 := 20) (n1 := 72133) dX6_init_111 dX6_init_113 fX6_31 q2527 q303 (by decide) (by decide) (by decide) (by decide) rfl rfl hlo (by decide) (by decide) ?_
  refine e_aload_n dX6_init_116 rfl ?_
  refine e_sipush (1536) dX6_init_117 (by decide) ?_
  refine t_mkI (k1 := 19) (n1 := 70597) dX6_init_120 dX6_init_122 fX6_32 q2528 q303 (by decide) (by decide) (by decide) (by decide) rfl rfl hlo (by decide) (by decide) ?_
  refine e_aload_n dX6_init_125 rfl ?_
  refine e_sipush (2560) dX6_init_126 (by decide) ?_
  refine t_mkJ (k1 := 18) (n1 := 68037) dX6_init_129 dX6_init_131 fX6_33 q2529 q1234 (by decide) (by decide) (by decide) (by decide) rfl rfl hlo (by decide) (by decide) ?_
  refine e_aload_n dX6_init_134 rfl ?_
  refine e_bipush (64) dX6_init_135 (by decide) ?_
  refine t_mkJ (k1 := 17) (n1 := 67973) dX6_init_137 dX6_init_139 fX6_34 q2530 q1234 (by decide) (by decide) (by decide) (by decide) rfl rfl hlo (by decide) (by decide) ?_
  refine e_aload_n dX6_init_142 rfl ?_
  refine e_bipush (64) dX6_init_143 (by decide) ?_
  refine t_mkJ (k1 := 16) (n1 := 67909) dX6_init_145 dX6_init_147 fX6_35 q2531 q1234 (by decide) (by decide) (by decide) (by decide) rfl rfl hlo (by decide) (by decide) ?_
  refine e_aload_n dX6_init_150 rfl ?_
  refine e_bipush (64) dX6_init_151 (by decide) ?_
  refine t_mkJ (k1 := 15) (n1 := 67845) dX6_init_153 dX6_init_155 fX6_36 q2532 q1234 (by decide) (by decide) (by decide) (by decide) rfl rfl hlo (by decide) (by decide) ?_
  refine e_aload_n dX6_init_158 rfl ?_
  refine e_bipush (64) dX6_init_159 (by decide) ?_
  refine t_mkJ (k1 := 14) (n1 := 67781) dX6_init_161 dX6_init_163 fX6_37 q2533 q1234 (by decide) (by decide) (by decide) (by decide) rfl rfl hlo (by decide) (by decide) ?_
  refine e_aload_n dX6_init_166 rfl ?_
  refine e_bipush (80) dX6_init_167 (by decide) ?_
  refine t_mkI (k1 := 13) (n1 := 67701) dX6_init_169 dX6_init_171 fX6_40 q2536 q303 (by decide) (by decide) (by decide) (by decide) rfl rfl hlo (by decide) (by decide) ?_
  refine e_aload_n dX6_init_174 rfl ?_
  refine e_bipush (8) dX6_init_175 (by decide) ?_
  refine t_mkJ (k1 := 12) (n1 := 67693) dX6_init_177 dX6_init_179 fX6_44 q2540 q1234 (by decide) (by decide) (by decide) (by decide) rfl rfl hlo (by decide) (by decide) ?_
  refine e_aload_n dX6_init_182 rfl ?_
  refine e_sipush (512) dX6_init_183 (by decide) ?_
  refine t_mkJ (k1 := 11) (n1 := 67181) dX6_init_186 dX6_init_188 fX6_45 q2541 q1234 (by decide) (by decide) (by decide) (by decide) rfl rfl hlo (by decide) (by decide) ?_
  refine e_aload_n dX6_init_191 rfl ?_
  refine e_bipush (8) dX6_init_192 (by decide) ?_
  refine t_mkJ (k1 := 10) (n1 := 67173) dX6_init_194 dX6_init_196 fX6_46 q2542 q1234 (by decide) (by decide) (by decide) (by decide) rfl rfl hlo (by decide) (by decide) ?_
  refine e_aload_n dX6_init_199 rfl ?_
  refine e_sipush (512) dX6_init_200 (by decide) ?_
  refine t_mkJ (k1 := 9) (n1 := 66661) dX6_init_203 dX6_init_205 fX6_47 q2543 q1234 (by decide) (by decide) (by decide) (by decide) rfl rfl hlo (by decide) (by decide) ?_
  refine e_aload_n dX6_init_208 rfl ?_
  refine e_bipush (64) dX6_init_209 (by decide) ?_
  refine t_mkJ (k1 := 8) (n1 := 66597) dX6_init_211 dX6_init_213 fX6_48 q2544 q1234 (by decide) (by decide) (by decide) (by decide) rfl rfl hlo (by decide) (by decide) ?_
  refine e_aload_n dX6_init_216 rfl ?_
  refine e_sipush (128) dX6_init_217 (by decide) ?_
  refine t_mkI (k1 := 7) (n1 := 66469) dX6_init_220 dX6_init_222 fX6_49 q2545 q303 (by decide) (by decide) (by decide) (by decide) rfl rfl hlo (by decide) (by decide) ?_
  refine e_aload_n dX6_init_225 rfl ?_
  refine e_bipush (64) dX6_init_226 (by decide) ?_
  refine t_mkJ (k1 := 6) (n1 := 66405) dX6_init_228 dX6_init_230 fX6_50 q2546 q1234 (by decide) (by decide) (by decide) (by decide) rfl rfl hlo (by decide) (by decide) ?_
  refine e_aload_n dX6_init_233 rfl ?_
  refine e_bipush (64) dX6_init_234 (by decide) ?_
  refine t_mkJ (k1 := 5) (n1 := 66341) dX6_init_236 dX6_init_238 fX6_51 q2547 q1234 (by decide) (by decide) (by decide) (by decide) rfl rfl hlo (by decide) (by decide) ?_
  refine e_aload_n dX6_init_241 rfl ?_
  refine e_bipush (24) dX6_init_242 (by decide) ?_
  refine t_mkI (k1 := 4) (n1 := 66317) dX6_init_244 dX6_init_246 fX6_54 q2550 q303 (by decide) (by decide) (by decide) (by decide) rfl rfl hlo (by decide) (by decide) ?_
  refine e_aload_n dX6_init_249 rfl ?_
  refine e_ldc dX6_init_250 q2426 ?_
  refine t_mkI (k1 := 3) (n1 := 781) dX6_init_252 dX6_init_254 fX6_56 q2552 q303 (by decide) (by decide) (by decide) (by decide) rfl rfl hlo (by decide) (by decide) ?_
  refine e_aload_n dX6_init_257 rfl ?_
  refine e_sipush (768) dX6_init_258 (by decide) ?_
  refine t_mkJ (k1 := 2) (n1 := 13) dX6_init_261 dX6_init_263 fX6_59 q2555 q1234 (by decide) (by decide) (by decide) (by decide) rfl rfl hlo (by decide) (by decide) ?_
  refine e_aload_n dX6_init_266 rfl ?_
  refine e_bipush (6) dX6_init_267 (by decide) ?_
  refine t_mkI (k1 := 1) (n1 := 7) dX6_init_269 dX6_init_271 fX6_61 q2557 q303 (by decide) (by decide) (by decide) (by decide) rfl rfl hlo (by decide) (by decide) ?_
  refine e_aload_n dX6_init_274 rfl ?_
  refine e_bipush (7) dX6_init_275 (by decide) ?_
  refine t_mkI (k1 := 0) (n1 := 0) dX6_init_277 dX6_init_279 fX6_62 q2558 q303 (by decide) (by decide) (by decide) (by decide) rfl rfl hlo (by decide) (by decide) ?_
  refine e_aload_n dX6_init_282 rfl ?_
  refine e_iconst (1) dX6_init_283 (by decide) ?_
  exact t_ctorEnd AF hlo hd
