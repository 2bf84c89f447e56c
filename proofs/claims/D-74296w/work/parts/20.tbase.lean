/-! THE TWIN's MEMORY: ints and booleans, longs, int arrays, long arrays, by the numbers of the fields (0..65); its heap at b, b+1 .. b+32 -/
abbrev tS : Type := (Nat → Int32) × (Nat → Int64) × (Nat → Nat → Int32) × (Nat → Nat → Int64)
/-- kinds: 0 int, 1 long, 2 int array, 3 long array, 4 boolean -/
def tKd (f : Nat) : Nat := [2, 0, 0, 0, 0, 0, 0, 0, 0, 0, 0, 1, 0, 0, 0, 2, 0, 0, 0, 2, 0, 2, 2, 2, 2, 0, 0, 2, 2, 2, 2, 2, 2, 3, 3, 3, 3, 3, 0, 4, 2, 0, 0, 0, 3, 3, 3, 3, 3, 2, 3, 3, 1, 1, 2, 0, 2, 0, 4, 3, 0, 2, 2, 0, 0, 0].getD f 9
def tRk (f : Nat) : Nat := [1, 0, 0, 0, 0, 0, 0, 0, 0, 0, 0, 0, 0, 0, 0, 2, 0, 0, 0, 3, 0, 4, 5, 6, 7, 0, 0, 8, 9, 10, 11, 12, 13, 14, 15, 16, 17, 18, 0, 0, 19, 0, 0, 0, 20, 21, 22, 23, 24, 25, 26, 27, 0, 0, 28, 0, 29, 0, 0, 30, 0, 31, 32, 0, 0, 0].getD f 0
def tUn (r : Nat) : Nat := [0, 0, 15, 19, 21, 22, 23, 24, 27, 28, 29, 30, 31, 32, 33, 34, 35, 36, 37, 40, 44, 45, 46, 47, 48, 49, 50, 51, 54, 56, 59, 61, 62].getD r 0
def tLn (f : Nat) : Nat := [700, 0, 0, 0, 0, 0, 0, 0, 0, 0, 0, 0, 0, 0, 0, 24, 0, 0, 0, 24, 0, 144, 6, 576, 24, 0, 0, 128, 128, 64, 64, 4096, 1536, 2560, 64, 64, 64, 64, 0, 0, 80, 0, 0, 0, 8, 512, 8, 512, 64, 128, 64, 64, 0, 0, 24, 0, 65536, 0, 0, 768, 0, 6, 7, 0, 0, 0].getD f 0
def tAd (b f : Nat) : Nat := b + tRk f
def tFv (b : Nat) (T : tS) (f : Nat) : Value := match tKd f with
  | 0 => .int (T.1 f)
  | 4 => .int (T.1 f)
  | 1 => .long (T.2.1 f)
  | _ => .ref (tAd b f)
def tFs (b : Nat) (T : tS) : List Value := (List.range 66).map (tFv b T)
def tAr (G : eG) (T : tS) (f : Nat) : va_E := if tKd f = 2 then .inl (G.2.1 0, tLn f, .inl (T.2.2.1 f)) else .inl (G.2.1 1, tLn f, .inr (.inl (T.2.2.2 f)))
def tH (G : eG) (b : Nat) (T : tS) (h0 : eH) : eH := (fun x => if x = b then some (.inr (6, tFs b T)) else if b < x ∧ x ≤ b + 32 then some (tAr G T (tUn (x - b))) else h0.1 x, h0.2)
def tI (T : tS) (f : Nat) (v : Int32) : tS := (va_up T.1 f v, T.2)
def tL (T : tS) (f : Nat) (v : Int64) : tS := (T.1, va_up T.2.1 f v, T.2.2)
def tA (T : tS) (f : Nat) (g : Nat → Int32) : tS := (T.1, T.2.1, va_up T.2.2.1 f g, T.2.2.2)
def tB (T : tS) (f : Nat) (g : Nat → Int64) : tS := (T.1, T.2.1, T.2.2.1, va_up T.2.2.2 f g)
theorem tRk_ok : ∀ f, f < 66 → (tKd f = 2 ∨ tKd f = 3) → 1 ≤ tRk f ∧ tRk f ≤ 32 ∧ tUn (tRk f) = f := by decide +kernel
theorem tUn_ok : ∀ r, r < 33 → 1 ≤ r → tRk (tUn r) = r ∧ tUn r < 66 := by decide +kernel
theorem tKd_ok : ∀ f, f < 66 → tKd f ≤ 4 := by decide +kernel
theorem tH_obj (G : eG) (b : Nat) (T : tS) (h0 : eH) : (tH G b T h0).1 b = some (.inr (6, tFs b T)) := by simp [tH]
theorem tH_arr (G : eG) (b : Nat) (T : tS) (h0 : eH) (f : Nat) (hf : f < 66) (hk : tKd f = 2 ∨ tKd f = 3) : (tH G b T h0).1 (tAd b f) = some (tAr G T f) := by
  obtain ⟨h1, h2, h3⟩ := tRk_ok f hf hk
  have e1 : ¬ (b + tRk f = b) := by omega
  have e2 : b < b + tRk f ∧ b + tRk f ≤ b + 32 := by omega
  have e3 : b + tRk f - b = tRk f := by omega
  simp only [tH, tAd]
  rw [if_neg e1, if_pos e2, e3, h3]
theorem tH_out (G : eG) (b : Nat) (T : tS) (h0 : eH) (x : Nat) (hx : x < b ∨ b + 32 < x) : (tH G b T h0).1 x = h0.1 x := by
  have e1 : ¬ x = b := by omega
  have e2 : ¬ (b < x ∧ x ≤ b + 32) := by omega
  simp only [tH]
  rw [if_neg e1, if_neg e2]
theorem tFs_at (b : Nat) (T : tS) (f : Nat) (hf : f < 66) : (tFs b T)[f]? = some (tFv b T f) := by
  simp [tFs, hf]
theorem tFs_len (b : Nat) (T : tS) : (tFs b T).length = 66 := by simp [tFs]
theorem tFs_set (b : Nat) (T T' : tS) (f : Nat) (v : Value) (hv : tFv b T' f = v) (ho : ∀ g, g ≠ f → tFv b T' g = tFv b T g) : (tFs b T).set f v = tFs b T' := by
  apply List.ext_getElem?
  intro i
  by_cases hi : i = f
  · subst hi
    by_cases hl : i < 66
    · rw [List.getElem?_set_self (by rw [tFs_len]; exact hl), tFs_at b T' i hl, hv]
    · rw [List.getElem?_eq_none (by simp [tFs_len]; omega), List.getElem?_eq_none (by simp [tFs_len]; omega)]
  · rw [List.getElem?_set_ne (Ne.symm hi)]
    by_cases hl : i < 66
    · rw [tFs_at b T i hl, tFs_at b T' i hl, ho i hi]
    · rw [List.getElem?_eq_none (by simp [tFs_len]; omega), List.getElem?_eq_none (by simp [tFs_len]; omega)]
theorem tFv_I (b : Nat) (T : tS) (f : Nat) (v : Int32) (g : Nat) (hg : g ≠ f) : tFv b (tI T f v) g = tFv b T g := by
  simp [tFv, tI, va_up, hg]
theorem tFv_L (b : Nat) (T : tS) (f : Nat) (v : Int64) (g : Nat) (hg : g ≠ f) : tFv b (tL T f v) g = tFv b T g := by
  simp [tFv, tL, va_up, hg]
theorem tH_up (G : eG) (b : Nat) (T T' : tS) (h0 : eH) (hA : ∀ f, tAr G T' f = tAr G T f) : eUp (tH G b T h0) b (.inr (6, tFs b T')) = tH G b T' h0 := by
  refine Prod.ext ?_ rfl
  funext x
  by_cases h1 : x = b
  · simp [eUp, tH, h1]
  · simp [eUp, tH, h1, hA]
theorem tH_upA (G : eG) (b : Nat) (T T' : tS) (h0 : eH) (f : Nat) (hf : f < 66) (hk : tKd f = 2 ∨ tKd f = 3) (hs : T'.1 = T.1) (hl : T'.2.1 = T.2.1) (hA : ∀ g, g ≠ f → tAr G T' g = tAr G T g) : eUp (tH G b T h0) (tAd b f) (tAr G T' f) = tH G b T' h0 := by
  obtain ⟨h1, h2, h3⟩ := tRk_ok f hf hk
  have hfs : tFs b T' = tFs b T := by
    simp only [tFs]
    congr 1
    funext g
    simp [tFv, hs, hl]
  refine Prod.ext ?_ rfl
  funext x
  by_cases ha : x = tAd b f
  · subst ha
    have e1 : ¬ (b + tRk f = b) := by omega
    have e2 : b < b + tRk f ∧ b + tRk f ≤ b + 32 := by omega
    have e3 : b + tRk f - b = tRk f := by omega
    simp only [eUp, tH, tAd]
    rw [if_pos trivial, if_neg e1, if_pos e2, e3, h3]
  · by_cases hb : x = b
    · subst hb
      simp only [eUp, tH]
      rw [if_neg ha]
      simp [hfs]
    · by_cases hr : b < x ∧ x ≤ b + 32
      · have hu := tUn_ok (x - b) (by omega) (by omega)
        have hne : tUn (x - b) ≠ f := by
          intro hq
          apply ha
          rw [hq] at hu
          simp only [tAd]
          omega
        simp only [eUp, tH]
        rw [if_neg ha, if_neg hb, if_pos hr, if_neg hb, if_pos hr, hA _ hne]
      · simp only [eUp, tH]
        rw [if_neg ha, if_neg hb, if_neg hr, if_neg hb, if_neg hr]
theorem tAr_A (G : eG) (T : tS) (f : Nat) (g : Nat → Int32) (x : Nat) (hx : x ≠ f) : tAr G (tA T f g) x = tAr G T x := by simp [tAr, tA, va_up, hx]
theorem tAr_B (G : eG) (T : tS) (f : Nat) (g : Nat → Int64) (x : Nat) (hx : x ≠ f) : tAr G (tB T f g) x = tAr G T x := by simp [tAr, tB, va_up, hx]
section TR
variable {l : Launch} {lo : Nat} {G : eG} {d : Nat} {M : eM} {P : eO → eH → Prop} {pc : Nat} {lv : List (Option Value)} {st : List Value} {h0 : eH} {k n b : Nat} {T : tS}
theorem t_getI {f idx : Nat} {ow nm ds : String} {fin : Bool} {ty : FieldType} (D : decode M.2.2.1 pc = .ok (.getfield idx, 3)) (F : eF 6 f (ow, nm, ds, fin) ty) (q : Cond.fieldLink M.1 idx ow nm ds ∈ lw_all) (hf : f < 66) (hv : tFv b T f = .int (T.1 f))
    (x1 : E l lo G d M P (pc + 3) lv (.int (T.1 f) :: st) (tH G b T h0) k n) : E l lo G d M P pc lv (.ref b :: st) (tH G b T h0) k n :=
  e_get D F q (tH_obj G b T h0) (tFs_at b T f hf) (by rw [hv]; exact x1)
theorem t_getL {f idx : Nat} {ow nm ds : String} {fin : Bool} {ty : FieldType} (D : decode M.2.2.1 pc = .ok (.getfield idx, 3)) (F : eF 6 f (ow, nm, ds, fin) ty) (q : Cond.fieldLink M.1 idx ow nm ds ∈ lw_all) (hf : f < 66) (hv : tFv b T f = .long (T.2.1 f))
    (x1 : E l lo G d M P (pc + 3) lv (.long (T.2.1 f) :: st) (tH G b T h0) k n) : E l lo G d M P pc lv (.ref b :: st) (tH G b T h0) k n :=
  e_get D F q (tH_obj G b T h0) (tFs_at b T f hf) (by rw [hv]; exact x1)
theorem t_getA {f idx : Nat} {ow nm ds : String} {fin : Bool} {ty : FieldType} (D : decode M.2.2.1 pc = .ok (.getfield idx, 3)) (F : eF 6 f (ow, nm, ds, fin) ty) (q : Cond.fieldLink M.1 idx ow nm ds ∈ lw_all) (hf : f < 66) (hv : tFv b T f = .ref (tAd b f))
    (x1 : E l lo G d M P (pc + 3) lv (.ref (tAd b f) :: st) (tH G b T h0) k n) : E l lo G d M P pc lv (.ref b :: st) (tH G b T h0) k n :=
  e_get D F q (tH_obj G b T h0) (tFs_at b T f hf) (by rw [hv]; exact x1)
theorem t_putI {f idx : Nat} {ow nm ds : String} {ty : FieldType} {v : Int32} (D : decode M.2.2.1 pc = .ok (.putfield idx, 3)) (F : eF 6 f (ow, nm, ds, false) ty) (q : Cond.fieldLink M.1 idx ow nm ds ∈ lw_all) (hfit : eFit ty (.int v)) (hf : f < 66) (hv : tFv b (tI T f v) f = .int ((tI T f v).1 f)) (hlo : lo ≤ b)
    (x1 : E l lo G d M P (pc + 3) lv st (tH G b (tI T f v) h0) k n) : E l lo G d M P pc lv (.int v :: .ref b :: st) (tH G b T h0) k n := by
  refine e_put D F q hfit (tH_obj G b T h0) hlo (by rw [tFs_len]; exact hf) ?_
  rw [tFs_set b T (tI T f v) f (.int v) (by rw [hv]; simp [tI, va_up]) (tFv_I b T f v), tH_up G b T (tI T f v) h0 (fun _ => rfl)]
  exact x1
theorem t_putL {f idx : Nat} {ow nm ds : String} {ty : FieldType} {v : Int64} (D : decode M.2.2.1 pc = .ok (.putfield idx, 3)) (F : eF 6 f (ow, nm, ds, false) ty) (q : Cond.fieldLink M.1 idx ow nm ds ∈ lw_all) (hfit : eFit ty (.long v)) (hf : f < 66) (hv : tFv b (tL T f v) f = .long ((tL T f v).2.1 f)) (hlo : lo ≤ b)
    (x1 : E l lo G d M P (pc + 3) lv st (tH G b (tL T f v) h0) k n) : E l lo G d M P pc lv (.long v :: .ref b :: st) (tH G b T h0) k n := by
  refine e_put D F q hfit (tH_obj G b T h0) hlo (by rw [tFs_len]; exact hf) ?_
  rw [tFs_set b T (tL T f v) f (.long v) (by rw [hv]; simp [tL, va_up]) (tFv_L b T f v), tH_up G b T (tL T f v) h0 (fun _ => rfl)]
  exact x1
theorem t_iald {f : Nat} {i : Int32} (D : decode M.2.2.1 pc = .ok (.iaload, 1)) (hf : f < 66) (hk : tKd f = 2) (hin : vp_in i (tLn f))
    (x1 : E l lo G d M P (pc + 1) lv (.int (T.2.2.1 f i.toNatClampNeg) :: st) (tH G b T h0) k n) : E l lo G d M P pc lv (.int i :: .ref (tAd b f) :: st) (tH G b T h0) k n :=
  e_iaload D (by rw [tH_arr G b T h0 f hf (Or.inl hk), tAr, if_pos hk]) hin x1
theorem t_lald {f : Nat} {i : Int32} (D : decode M.2.2.1 pc = .ok (.laload, 1)) (hf : f < 66) (hk : tKd f = 3) (hin : vp_in i (tLn f))
    (x1 : E l lo G d M P (pc + 1) lv (.long (T.2.2.2 f i.toNatClampNeg) :: st) (tH G b T h0) k n) : E l lo G d M P pc lv (.int i :: .ref (tAd b f) :: st) (tH G b T h0) k n :=
  e_laload D (by rw [tH_arr G b T h0 f hf (Or.inr hk), tAr, if_neg (by omega)]) hin x1
theorem t_iast {f : Nat} {i x : Int32} (D : decode M.2.2.1 pc = .ok (.iastore, 1)) (hf : f < 66) (hk : tKd f = 2) (hlo : lo ≤ b) (hin : vp_in i (tLn f))
    (x1 : E l lo G d M P (pc + 1) lv st (tH G b (tA T f (va_up (T.2.2.1 f) i.toNatClampNeg x)) h0) k n) : E l lo G d M P pc lv (.int x :: .int i :: .ref (tAd b f) :: st) (tH G b T h0) k n := by
  refine e_iastore D (by rw [tH_arr G b T h0 f hf (Or.inl hk), tAr, if_pos hk]) (by simp only [tAd]; omega) hin ?_
  rw [show (Sum.inl (G.2.1 0, tLn f, Sum.inl (va_up (T.2.2.1 f) i.toNatClampNeg x)) : va_E) = tAr G (tA T f (va_up (T.2.2.1 f) i.toNatClampNeg x)) f by simp [tAr, hk, tA, va_up], tH_upA G b T (tA T f (va_up (T.2.2.1 f) i.toNatClampNeg x)) h0 f hf (Or.inl hk) rfl rfl (tAr_A G T f _)]
  exact x1
theorem t_last {f : Nat} {i : Int32} {x : Int64} (D : decode M.2.2.1 pc = .ok (.lastore, 1)) (hf : f < 66) (hk : tKd f = 3) (hlo : lo ≤ b) (hin : vp_in i (tLn f))
    (x1 : E l lo G d M P (pc + 1) lv st (tH G b (tB T f (va_up (T.2.2.2 f) i.toNatClampNeg x)) h0) k n) : E l lo G d M P pc lv (.long x :: .int i :: .ref (tAd b f) :: st) (tH G b T h0) k n := by
  refine e_lastore D (by rw [tH_arr G b T h0 f hf (Or.inr hk), tAr, if_neg (by omega)]) (by simp only [tAd]; omega) hin ?_
  rw [show (Sum.inl (G.2.1 1, tLn f, Sum.inr (Sum.inl (va_up (T.2.2.2 f) i.toNatClampNeg x))) : va_E) = tAr G (tB T f (va_up (T.2.2.2 f) i.toNatClampNeg x)) f by simp [tAr, hk, tB, va_up], tH_upA G b T (tB T f (va_up (T.2.2.2 f) i.toNatClampNeg x)) h0 f hf (Or.inr hk) rfl rfl (tAr_B G T f _)]
  exact x1
end TR
/-- the walk's own: launch, lo, tables, the twin's address, the rest of the heap, depth, what the end must be -/
abbrev tC : Type := Launch × Nat × eG × Nat × eH × Nat × (Option Value → tS → Prop)
def tP (c : tC) : eO → eH → Prop := fun o h' => ∃ (v : Option Value) (T' : tS), o = .inl v ∧ h' = tH c.2.2.1 c.2.2.2.1 T' c.2.2.2.2.1 ∧ c.2.2.2.2.2.2 v T'
def tOk (lvl : Nat) (c : tC) : Prop := c.2.1 ≤ c.2.2.2.1 ∧ c.2.2.2.1 + 32 < c.2.2.2.2.1.2 ∧ lvl ≤ c.2.2.2.2.2.1
def tX (M : eM) (lvl : Nat) (c : tC) (pc : Nat) (lv : List (Option Value)) (T : tS) : Prop := tOk lvl c → E c.1 c.2.1 c.2.2.1 c.2.2.2.2.2.1 M (tP c) pc lv [] (tH c.2.2.1 c.2.2.2.1 T c.2.2.2.2.1) 0 0
/-- a contract of the twin: from memory T, any end that Q allows -/
def tM (M : eM) (lvl : Nat) (args : Nat → List Value) (T : tS) (Q : Option Value → tS → Prop) : Prop := ∀ (l : Launch) (lo : Nat) (G : eG) (b : Nat) (h0 : eH) (d : Nat), lo ≤ b → b + 32 < h0.2 → lvl ≤ d → Ct l lo G d M (.ref b :: args b) (tH G b T h0) 0 0 (tP (l, lo, G, b, h0, d, Q))
/-- of a static method: the heap is no matter -/
def tMs (M : eM) (lvl : Nat) (args : List Value) (r : Value) : Prop := ∀ (l : Launch) (lo : Nat) (G : eG) (h : eH) (d : Nat), lvl ≤ d → Ct l lo G d M args h 0 0 (fun o h' => o = .inl (some r) ∧ h' = h)
def tMi (M : eM) (lvl : Nat) (args : Nat → List Value) (T : tS) (Q : Int32 → tS → Prop) : Prop := tM M lvl args T (fun v T' => ∃ r, v = some (.int r) ∧ Q r T')
def tMl (M : eM) (lvl : Nat) (args : Nat → List Value) (T : tS) (Q : Int64 → tS → Prop) : Prop := tM M lvl args T (fun v T' => ∃ r, v = some (.long r) ∧ Q r T')
def tMv (M : eM) (lvl : Nat) (args : Nat → List Value) (T : tS) (Q : tS → Prop) : Prop := tM M lvl args T (fun v T' => v = none ∧ Q T')
theorem tM_of {M : eM} {lvl : Nat} {args : Nat → List Value} {T : tS} {Q : Option Value → tS → Prop} (lv : Nat → List (Option Value)) (hy : plainName M.2.1.cls = true) (hown : M.1 = M.2.1.cls) (hln : ∀ b, (lg_sl (.ref b :: args b)).length ≤ M.2.2.2.1) (hlv : ∀ (b j : Nat) (w : Value), (lv b)[j]? = some (some w) → (j, w) ∈ lv_args 0 (.ref b :: args b)) (body : ∀ c : tC, c.2.2.2.2.2.2 = Q → tX M lvl c 0 (lv c.2.2.2.1) T) : tM M lvl args T Q :=
  fun l lo G b h0 d h1 h2 h3 => Ct_of (lv b) hy hown (hln b) (hlv b) (body (l, lo, G, b, h0, d, Q) rfl ⟨h1, h2, h3⟩)
section TCall
variable {c : tC} {M : eM} {pc : Nat} {lv : List (Option Value)} {st : List Value} {T : tS}
theorem t_callV {lvl lvl' idx : Nat} {M' : eM} {As rest : List Value} {args : Nat → List Value} {Q : Option Value → tS → Prop} (ok : tOk lvl c) (hC : tM M' lvl' args T Q) (D : decode M.2.2.1 pc = .ok (.invokevirtual idx, 3)) (hw : eWk M') (q1 : Cond.methodLink M.1 idx M'.2.1 ∈ lw_all) (q2 : Cond.instanceMethod M'.2.1 ∈ lw_all) (q3 : Cond.selects RX6 M'.2.1 M'.2.1 ∈ lw_all) (hAs : args c.2.2.2.1 = As) (hnp : (parseMethodDescriptor M'.2.1.desc).map (fun d => d.parameters.length) = some As.length) (hd : lvl' + 1 ≤ lvl) (hst : st = As.reverse ++ .ref c.2.2.2.1 :: rest) (hc8 : (rest.map fun v => v.category).sum ≤ 8)
    (x1 : ∀ (v : Option Value) (T' : tS), Q v T' → E c.1 c.2.1 c.2.2.1 c.2.2.2.2.2.1 M (tP c) (pc + 3) lv (v.toList ++ rest) (tH c.2.2.1 c.2.2.2.1 T' c.2.2.2.2.1) 0 0) : E c.1 c.2.1 c.2.2.1 c.2.2.2.2.2.1 M (tP c) pc lv st (tH c.2.2.1 c.2.2.2.1 T c.2.2.2.2.1) 0 0 := by
  subst hAs
  have hC := hC c.1 c.2.1 c.2.2.1 c.2.2.2.1 c.2.2.2.2.1 lvl' ok.1 ok.2.1 (Nat.le_refl _)
  refine e_callV (r := (RX6, TX6, 66)) hC D hw q1 q2 q3 (tH_obj _ _ _ _) rfl hnp (Nat.le_trans hd ok.2.2) hst hc8 (Nat.le_refl 0) (Nat.le_refl 0) ?_ ?_
  · rintro v h' ⟨v', T', e1, e2, hq⟩
    cases e1
    rw [e2]
    exact x1 v T' hq
  · rintro q h' ⟨v', T', e1, e2, hq⟩
    cases e1
theorem t_callS {lvl lvl' idx : Nat} {M' : eM} {As rest : List Value} {r : Value} (ok : tOk lvl c) (hC : tMs M' lvl' As r) (D : decode M.2.2.1 pc = .ok (.invokestatic idx, 3)) (hw : eWk M') (q1 : Cond.methodLink M.1 idx M'.2.1 ∈ lw_all) (q2 : Cond.static M'.2.1 ∈ lw_all) (hnp : (parseMethodDescriptor M'.2.1.desc).map (fun d => d.parameters.length) = some As.length) (hd : lvl' + 1 ≤ lvl) (hst : st = As.reverse ++ rest) (hc8 : (rest.map fun v => v.category).sum ≤ 8)
    (x1 : E c.1 c.2.1 c.2.2.1 c.2.2.2.2.2.1 M (tP c) (pc + 3) lv (r :: rest) (tH c.2.2.1 c.2.2.2.1 T c.2.2.2.2.1) 0 0) : E c.1 c.2.1 c.2.2.1 c.2.2.2.2.2.1 M (tP c) pc lv st (tH c.2.2.1 c.2.2.2.1 T c.2.2.2.2.1) 0 0 := by
  refine e_callS (hC c.1 c.2.1 c.2.2.1 _ lvl' (Nat.le_refl _)) D hw q1 q2 hnp (Nat.le_trans hd ok.2.2) hst hc8 (Nat.le_refl 0) (Nat.le_refl 0) ?_ ?_
  · rintro v h' ⟨e1, e2⟩
    cases e1
    rw [e2]
    exact x1
  · rintro q h' ⟨e1, e2⟩
    cases e1
end TCall
