/-! heap rows of the E-layer -/
/-- field k of class ci: its owner, name, descriptor, final; its type -/
def eF (ci j : Nat) (q : String × String × String × Bool) (ty : FieldType) : Prop := ∃ (C : String) (T : u_T) (N : Nat) (tyf : Nat → FieldType), eCl[ci]? = some (C, T, N) ∧ j < N ∧ T j = q ∧ tyf j = ty ∧ (∀ w ∈ u_ws C T N, w ∈ lw_all) ∧ (∀ i, i < N → parseFieldDescriptor (T i).2.2.1 = some (tyf i)) ∧ ∀ a, a < N → ∀ b, b < N → a ≠ b → (T a).2.1 ≠ (T b).2.1
theorem eF_mk {ci j : Nat} {q : String × String × String × Bool} {ty : FieldType} (C : String) (T : u_T) (N : Nat) (tyf : Nat → FieldType) (h1 : eCl[ci]? = some (C, T, N)) (h2 : j < N) (h3 : T j = q) (h4 : tyf j = ty) (h5 : ∀ w ∈ u_ws C T N, w ∈ lw_all) (h6 : ∀ i, i < N → parseFieldDescriptor (T i).2.2.1 = some (tyf i)) (h7 : ∀ a, a < N → ∀ b, b < N → a ≠ b → (T a).2.1 ≠ (T b).2.1) : eF ci j q ty := ⟨C, T, N, tyf, h1, h2, h3, h4, h5, h6, h7⟩
def eFit (ty : FieldType) (v : Value) : Prop := narrow ty v = v ∧ fits ty v = true
theorem eFit_i (x : Int32) : eFit .int (.int x) := ⟨rfl, rfl⟩
theorem eFit_l (x : Int64) : eFit .long (.long x) := ⟨rfl, rfl⟩
theorem eFit_o (C : String) (r : Option Nat) : eFit (.object C) (va_rf r) := by cases r <;> exact ⟨rfl, rfl⟩
theorem eFit_a (t : FieldType) (r : Option Nat) : eFit (.array t) (va_rf r) := by cases r <;> exact ⟨rfl, rfl⟩
theorem eFit_or (C : String) (r : Nat) : eFit (.object C) (.ref r) := ⟨rfl, rfl⟩
theorem eFit_ar (t : FieldType) (r : Nat) : eFit (.array t) (.ref r) := ⟨rfl, rfl⟩
theorem eFit_z0 : eFit .boolean (.int 0) := by constructor <;> decide
theorem eFit_z1 : eFit .boolean (.int 1) := by constructor <;> decide
theorem eFit_zb (b : Bool) : eFit .boolean (.int (if b then 1 else 0)) := by cases b; exact eFit_z0; exact eFit_z1
theorem eWord {M : eM} {lo : Nat} {G : eG} {p : Program} {s : State} {m : MethodId} {args : Array Value} {meth : Method} {c : Code} (hA : eAct lo G M p s m args meth c) {w : Cond} (q : w ∈ lw_tbl) (hw : eWarm w = true) (ht : w.onTables = true) : w.before args s = true :=
  va_Nw.use ht (hA.2.2.2.2.2.2.2.2.2.2.1 w (List.mem_filter.mpr ⟨q, hw⟩))
section EH
variable {l : Launch} {lo : Nat} {G : eG} {d : Nat} {M : eM} {P : eO → eH → Prop} {pc : Nat} {lv : List (Option Value)} {st : List Value} {h : eH} {k n : Nat}
theorem e_get {ci j idx : Nat} {ow nm ds : String} {fin : Bool} {ty : FieldType} {o : Nat} {fs : List Value} {v : Value} (D : decode M.2.2.1 pc = .ok (.getfield idx, 3)) (F : eF ci j (ow, nm, ds, fin) ty) (q : Cond.fieldLink M.1 idx ow nm ds ∈ lw_all) (ho : h.1 o = some (.inr (ci, fs))) (hv : fs[j]? = some v)
    (x1 : E l lo G d M P (pc + 3) lv (v :: st) h k n) : E l lo G d M P pc lv (.ref o :: st) h k n := by
  obtain ⟨C, T, N, tyf, f1, f2, f3, f4, f5, f6, f7⟩ := F
  intro p e s m args below meth c mc ms cu su hA hc hs H locs ls hR hS hl
  obtain ⟨r, cell, g1, g2, g3, g4, g5, g6⟩ := (hR.2.2 o _ ho).1
  cases Option.some.inj (g1.symm.trans f1)
  have hK := hA.2.2.2.2.2.2.2.2.2.1
  obtain ⟨hSl, hfc, kC, hkC, hkind⟩ := hK.1 ci _ f1
  obtain ⟨cf, kf, fi, f, hi, hsl⟩ := hSl j f2
  have hst := (u_facts hfc hkC (u_lays hA.2.2.2.2.2.2.1 f5 f2) hi).1
  dsimp only at hi
  rw [f3] at hi
  refine W.getf hA.1 hA.2.1 hA.2.2.2.2.2.1 (hA.2.2.2.2.2.2.1 _ q) hi hst g2 g4 (v := v) ?_ rfl rfl D (x1 p e s m args below meth c mc ms cu su hA hc hs H locs ls hR hS hl)
  rw [hsl, g6 j f2]
  simp [vp_V, hv]
theorem e_getN {ci j idx : Nat} {ow nm ds host : String} {fin : Bool} {ty : FieldType} {o : Nat} {fs : List Value} {v : Value} (D : decode M.2.2.1 pc = .ok (.getfield idx, 3)) (F : eF ci j (ow, nm, ds, fin) ty) (q : Cond.fieldLinkNest M.1 idx ow nm ds host ∈ lw_tbl) (ho : h.1 o = some (.inr (ci, fs))) (hv : fs[j]? = some v)
    (x1 : E l lo G d M P (pc + 3) lv (v :: st) h k n) : E l lo G d M P pc lv (.ref o :: st) h k n := by
  obtain ⟨C, T, N, tyf, f1, f2, f3, f4, f5, f6, f7⟩ := F
  intro p e s m args below meth c mc ms cu su hA hc hs H locs ls hR hS hl
  obtain ⟨r, cell, g1, g2, g3, g4, g5, g6⟩ := (hR.2.2 o _ ho).1
  cases Option.some.inj (g1.symm.trans f1)
  have hK := hA.2.2.2.2.2.2.2.2.2.1
  obtain ⟨hSl, hfc, kC, hkC, hkind⟩ := hK.1 ci _ f1
  obtain ⟨cf, kf, fi, f, hi, hsl⟩ := hSl j f2
  have hst := (u_facts hfc hkC (u_lays hA.2.2.2.2.2.2.1 f5 f2) hi).1
  dsimp only at hi
  rw [f3] at hi
  refine va_Wgetf hA.1 hA.2.1 hA.2.2.2.2.2.1 (eWord hA q rfl rfl) hi hst g2 g4 (v := v) ?_ rfl rfl D (x1 p e s m args below meth c mc ms cu su hA hc hs H locs ls hR hS hl)
  rw [hsl, g6 j f2]
  simp [vp_V, hv]
/-- what a store into a field leaves -/
theorem ePutAt {G : eG} {s : State} {ci j : Nat} {C : String} {T : u_T} {N : Nat} {tyf : Nat → FieldType} {args : Array Value} {o : Nat} {fs : List Value} {v : Value} {H' : Heap} {cell : Cell} {i : Nat} {hx : ∀ w ∈ lw_all, w.before args s = true} (hK : va_K G.1 eCl (eTys G) s) (f1 : eCl[ci]? = some (C, T, N)) (f2 : j < N) (f5 : ∀ w ∈ u_ws C T N, w ∈ lw_all) (f6 : ∀ i, i < N → parseFieldDescriptor (T i).2.2.1 = some (tyf i)) (f7 : ∀ a, a < N → ∀ b, b < N → a ≠ b → (T a).2.1 ≠ (T b).2.1)
    (q2 : cell.cls = G.1.1 ci) (q3 : cell.vm = .none) (q4 : ∀ k, k < N → cell.slots[G.1.2 ci k]? = some (vp_V fs k)) (hl : j < fs.length) (hsl : i = G.1.2 ci j) (e1 : H'[o]? = some (cell.setSlot i v)) : va_at G.1 eCl (o, .inr (ci, fs.set j v)) H' := by
  have hap := va_apart (own := C) hx f5 tyf f6 f7 hK f1
  subst hsl
  exact ⟨_, f1, t_OB.to (V := updV (vp_V fs) j v) ⟨_, e1, q2, q3, t_set q4 hap f2 v⟩ (fun j' _ => vp_updV_set hl v j')⟩
theorem e_put {ci j idx : Nat} {ow nm ds : String} {ty : FieldType} {o : Nat} {fs : List Value} {v : Value} (D : decode M.2.2.1 pc = .ok (.putfield idx, 3)) (F : eF ci j (ow, nm, ds, false) ty) (q : Cond.fieldLink M.1 idx ow nm ds ∈ lw_all) (hfit : eFit ty v) (ho : h.1 o = some (.inr (ci, fs))) (hlo : lo ≤ o) (hj : j < fs.length)
    (x1 : E l lo G d M P (pc + 3) lv st (eUp h o (.inr (ci, fs.set j v))) k n) : E l lo G d M P pc lv (v :: .ref o :: st) h k n := by
  obtain ⟨C, T, N, tyf, f1, f2, f3, f4, f5, f6, f7⟩ := F
  intro p e s m args below meth c mc ms cu su hA hc hs H locs ls hR hS hl
  obtain ⟨r, g1, cell, q1, q2, q3, q4⟩ := (hR.2.2 o _ ho).2 hlo
  cases Option.some.inj (g1.symm.trans f1)
  have hts := hA.2.2.2.2.2.2.1
  have hK := hA.2.2.2.2.2.2.2.2.2.1
  obtain ⟨hSl, hfc, kC, hkC, hkind⟩ := hK.1 ci _ f1
  obtain ⟨cf, kf, fi, f, hi, hsl⟩ := hSl j f2
  have hlay := hts _ (f5 _ (u_in_lay f2))
  unfold u_lay at hlay
  rw [if_neg (by rw [f3]; exact Bool.false_ne_true)] at hlay
  have hst := (u_facts hfc hkC (u_lays hts f5 f2) hi).1
  have h6 := u_store hfc hkC hkind hlay hi (f6 j f2) (by rw [f4]; exact hfit.1) (by rw [f4]; exact hfit.2)
  have hi' := hi
  dsimp only at hi'
  rw [f3] at hi'
  refine W.putK hA.1 hA.2.1 (f := f) ⟨hA.2.2.2.2.2.1, hts _ q, ⟨_, _, _, hi'⟩, hst⟩ (by rw [q2]; exact h6) q1 q3 (by rw [hsl]; exact k2_hasslot (q4 j f2)) rfl rfl D fun H' e1 e2 e3 => ?_
  have hat := ePutAt (hx := hts) hK f1 f2 f5 f6 f7 q2 q3 q4 hj hsl e1
  exact x1 p e s m args below meth c mc ms cu su hA hc hs H' _ ls (hR.up e2 hat e3 ((hR.2.1.2 o _ ho hlo).set q1 e1)) (hS.put e2 e3 hlo) hl
theorem e_putN {ci j idx : Nat} {ow nm ds host : String} {ty : FieldType} {o : Nat} {fs : List Value} {v : Value} (D : decode M.2.2.1 pc = .ok (.putfield idx, 3)) (F : eF ci j (ow, nm, ds, false) ty) (q : Cond.fieldLinkNest M.1 idx ow nm ds host ∈ lw_tbl) (hfit : eFit ty v) (ho : h.1 o = some (.inr (ci, fs))) (hlo : lo ≤ o) (hj : j < fs.length)
    (x1 : E l lo G d M P (pc + 3) lv st (eUp h o (.inr (ci, fs.set j v))) k n) : E l lo G d M P pc lv (v :: .ref o :: st) h k n := by
  obtain ⟨C, T, N, tyf, f1, f2, f3, f4, f5, f6, f7⟩ := F
  intro p e s m args below meth c mc ms cu su hA hc hs H locs ls hR hS hl
  obtain ⟨r, g1, cell, q1, q2, q3, q4⟩ := (hR.2.2 o _ ho).2 hlo
  cases Option.some.inj (g1.symm.trans f1)
  have hts := hA.2.2.2.2.2.2.1
  have hK := hA.2.2.2.2.2.2.2.2.2.1
  obtain ⟨hSl, hfc, kC, hkC, hkind⟩ := hK.1 ci _ f1
  obtain ⟨cf, kf, fi, f, hi, hsl⟩ := hSl j f2
  have hlay := hts _ (f5 _ (u_in_lay f2))
  unfold u_lay at hlay
  rw [if_neg (by rw [f3]; exact Bool.false_ne_true)] at hlay
  have hst := (u_facts hfc hkC (u_lays hts f5 f2) hi).1
  have h6 := u_store hfc hkC hkind hlay hi (f6 j f2) (by rw [f4]; exact hfit.1) (by rw [f4]; exact hfit.2)
  have hi' := hi
  dsimp only at hi'
  rw [f3] at hi'
  refine va_WputK hA.1 hA.2.1 (f := f) hA.2.2.2.2.2.1 (eWord hA q rfl rfl) hi' hst (by rw [q2]; exact h6) q1 q3 (by rw [hsl]; exact k2_hasslot (q4 j f2)) rfl rfl D fun H' e1 e2 e3 => ?_
  have hat := ePutAt (hx := hts) hK f1 f2 f5 f6 f7 q2 q3 q4 hj hsl e1
  exact x1 p e s m args below meth c mc ms cu su hA hc hs H' _ ls (hR.up e2 hat e3 ((hR.2.1.2 o _ ho hlo).set q1 e1)) (hS.put e2 e3 hlo) hl
/-- a final field, in its class's constructor -/
theorem e_putF {ci j idx : Nat} {ow nm ds : String} {ty : FieldType} {o : Nat} {fs : List Value} {v : Value} (D : decode M.2.2.1 pc = .ok (.putfield idx, 3)) (F : eF ci j (ow, nm, ds, true) ty) (q : Cond.fieldLink M.1 idx ow nm ds ∈ lw_all) (hnm : M.2.1.name = "<init>") (hown : ow = M.1) (hfit : eFit ty v) (ho : h.1 o = some (.inr (ci, fs))) (hlo : lo ≤ o) (hj : j < fs.length)
    (x1 : E l lo G d M P (pc + 3) lv st (eUp h o (.inr (ci, fs.set j v))) k n) : E l lo G d M P pc lv (v :: .ref o :: st) h k n := by
  obtain ⟨C, T, N, tyf, f1, f2, f3, f4, f5, f6, f7⟩ := F
  intro p e s m args below meth c mc ms cu su hA hc hs H locs ls hR hS hl
  obtain ⟨r, g1, cell, q1, q2, q3, q4⟩ := (hR.2.2 o _ ho).2 hlo
  cases Option.some.inj (g1.symm.trans f1)
  have hts := hA.2.2.2.2.2.2.1
  have hK := hA.2.2.2.2.2.2.2.2.2.1
  obtain ⟨hSl, hfc, kC, hkC, hkind⟩ := hK.1 ci _ f1
  obtain ⟨cf, kf, fi, f, hi, hsl⟩ := hSl j f2
  have hlay := hts _ (f5 _ (u_in_lay f2))
  unfold u_lay at hlay
  rw [if_pos (by rw [f3])] at hlay
  have hst := (u_facts hfc hkC (u_lays hts f5 f2) hi).1
  have hcf : m.cls = cf := by
    obtain ⟨_, _, c', _, _, _, -, -, hf', -, -, -, hown2, -⟩ := Cond.laysFinal_spec hlay
    have e1 : c' = cf := by have := hi.symm.trans hf'; simp at this; exact this.1.symm
    rw [f3, hown] at hown2
    rw [← e1]; exact Option.some.inj (hA.2.2.2.2.2.1.symm.trans hown2)
  have h6 := u_fits hfc hkC hkind (Or.inr hlay) hi (f6 j f2) (by rw [f4]; exact hfit.1) (by rw [f4]; exact hfit.2)
  have hi' := hi
  dsimp only at hi'
  rw [f3] at hi'
  refine W.putFinK hA.1 hA.2.1 hA.2.2.2.2.2.1 (hts _ q) hi' hst hcf (by rw [hA.2.2.2.2.2.2.2.1]; exact hnm) (by rw [q2]; exact h6) q1 q3 (by rw [hsl]; exact k2_hasslot (q4 j f2)) rfl rfl D fun H' e1 e2 e3 => ?_
  have hat := ePutAt (hx := hts) hK f1 f2 f5 f6 f7 q2 q3 q4 hj hsl e1
  exact x1 p e s m args below meth c mc ms cu su hA hc hs H' _ ls (hR.up e2 hat e3 ((hR.2.1.2 o _ ho hlo).set q1 e1)) (hS.put e2 e3 hlo) hl
theorem eIsArr {G : eG} {s : State} {cell : Cell} {t : Nat} (hK : va_K G.1 eCl (eTys G) s) (ht : (eTys G)[t]? = some (G.2.1 t, eTy t)) (g3 : cell.cls = G.2.1 t) (g5 : cell.vm.isStatics = false) : s.isArrayOf cell (eTy t) :=
  ⟨(fun k hk => by rw [hk] at g5; cases g5), by rw [g3]; exact (((hK.2 t _ ht).1) 0 (fun _ => .null)).2⟩
theorem e_iaload {a N : Nat} {f : Nat → Int32} {i : Int32} (D : decode M.2.2.1 pc = .ok (.iaload, 1)) (ho : h.1 a = some (.inl (G.2.1 0, N, .inl f))) (hin : vp_in i N)
    (x1 : E l lo G d M P (pc + 1) lv (.int (f i.toNatClampNeg) :: st) h k n) : E l lo G d M P pc lv (.int i :: .ref a :: st) h k n := by
  intro p e s m args below meth c mc ms cu su hA hc hs H locs ls hR hS hl
  obtain ⟨cell, g2, g3, g4, g5, g6, g7⟩ := (hR.2.2 a _ ho).1
  have hlt : i.toNatClampNeg < N := Nat.not_le.mp fun q => hin (Or.inr q)
  exact W.iald (v := .int (f i.toNatClampNeg)) hA.1 hA.2.1 g2 (eIsArr (t := 0) hA.2.2.2.2.2.2.2.2.2.1 rfl g3 g5) g4 (by rw [g6]; exact hin) (g7 _ hlt) rfl rfl D (x1 p e s m args below meth c mc ms cu su hA hc hs H locs ls hR hS hl)
theorem e_laload {a N : Nat} {f : Nat → Int64} {i : Int32} (D : decode M.2.2.1 pc = .ok (.laload, 1)) (ho : h.1 a = some (.inl (G.2.1 1, N, .inr (.inl f)))) (hin : vp_in i N)
    (x1 : E l lo G d M P (pc + 1) lv (.long (f i.toNatClampNeg) :: st) h k n) : E l lo G d M P pc lv (.int i :: .ref a :: st) h k n := by
  intro p e s m args below meth c mc ms cu su hA hc hs H locs ls hR hS hl
  obtain ⟨cell, g2, g3, g4, g5, g6, g7⟩ := (hR.2.2 a _ ho).1
  have hlt : i.toNatClampNeg < N := Nat.not_le.mp fun q => hin (Or.inr q)
  exact W.lald (v := .long (f i.toNatClampNeg)) hA.1 hA.2.1 g2 (eIsArr (t := 1) hA.2.2.2.2.2.2.2.2.2.1 rfl g3 g5) g4 (by rw [g6]; exact hin) (g7 _ hlt) rfl rfl D (x1 p e s m args below meth c mc ms cu su hA hc hs H locs ls hR hS hl)
theorem e_baload {a N : Nat} {f : Nat → Int32} {i : Int32} (D : decode M.2.2.1 pc = .ok (.baload, 1)) (ho : h.1 a = some (.inl (G.2.1 2, N, .inl f))) (hin : vp_in i N)
    (x1 : E l lo G d M P (pc + 1) lv (.int (f i.toNatClampNeg) :: st) h k n) : E l lo G d M P pc lv (.int i :: .ref a :: st) h k n := by
  intro p e s m args below meth c mc ms cu su hA hc hs H locs ls hR hS hl
  obtain ⟨cell, g2, g3, g4, g5, g6, g7⟩ := (hR.2.2 a _ ho).1
  have hlt : i.toNatClampNeg < N := Nat.not_le.mp fun q => hin (Or.inr q)
  exact W.bald (v := .int (f i.toNatClampNeg)) hA.1 hA.2.1 g2 (eIsArr (t := 2) hA.2.2.2.2.2.2.2.2.2.1 rfl g3 g5) g4 (by rw [g6]; exact hin) (g7 _ hlt) rfl rfl D (x1 p e s m args below meth c mc ms cu su hA hc hs H locs ls hR hS hl)
/-- an array of references: t is 3, 4 or 5 -/
theorem e_aaload {a N : Nat} (t : Nat) {f : Nat → Option Nat} {i : Int32} (D : decode M.2.2.1 pc = .ok (.aaload, 1)) (ht : ∀ G : eG, (eTys G)[t]? = some (G.2.1 t, eTy t)) (hty : (eTy t).isReference = true) (ho : h.1 a = some (.inl (G.2.1 t, N, .inr (.inr (.inr (.inr f)))))) (hin : vp_in i N)
    (x1 : E l lo G d M P (pc + 1) lv (va_rf (f i.toNatClampNeg) :: st) h k n) : E l lo G d M P pc lv (.int i :: .ref a :: st) h k n := by
  intro p e s m args below meth c mc ms cu su hA hc hs H locs ls hR hS hl
  obtain ⟨cell, g2, g3, g4, g5, g6, g7⟩ := (hR.2.2 a _ ho).1
  have hlt : i.toNatClampNeg < N := Nat.not_le.mp fun q => hin (Or.inr q)
  exact W.aald (v := va_rf (f i.toNatClampNeg)) hA.1 hA.2.1 g2 (eIsArr (t := t) hA.2.2.2.2.2.2.2.2.2.1 (ht G) g3 g5) hty g4 (by rw [g6]; exact hin) (g7 _ hlt) rfl rfl D (x1 p e s m args below meth c mc ms cu su hA hc hs H locs ls hR hS hl)
theorem e_alen {a t : Nat} {v : vp_A} (D : decode M.2.2.1 pc = .ok (.arraylength, 1)) (ht : ∀ G : eG, (eTys G)[t]? = some (G.2.1 t, eTy t)) (ho : h.1 a = some (.inl (G.2.1 t, v)))
    (x1 : E l lo G d M P (pc + 1) lv (.int (nI v.1) :: st) h k n) : E l lo G d M P pc lv (.ref a :: st) h k n := by
  intro p e s m args below meth c mc ms cu su hA hc hs H locs ls hR hS hl
  obtain ⟨cell, g2, g3, g4, g5, g6, g7⟩ := (hR.2.2 a _ ho).1
  exact W.alen (n := nI v.1) hA.1 hA.2.1 g2 (eIsArr (t := t) hA.2.2.2.2.2.2.2.2.2.1 (ht G) g3 g5) (by rw [g6]; rfl) rfl rfl D (x1 p e s m args below meth c mc ms cu su hA hc hs H locs ls hR hS hl)
theorem e_iastore {a N : Nat} {f : Nat → Int32} {i x : Int32} (D : decode M.2.2.1 pc = .ok (.iastore, 1)) (ho : h.1 a = some (.inl (G.2.1 0, N, .inl f))) (hlo : lo ≤ a) (hin : vp_in i N)
    (x1 : E l lo G d M P (pc + 1) lv st (eUp h a (.inl (G.2.1 0, N, .inl (va_up f i.toNatClampNeg x)))) k n) : E l lo G d M P pc lv (.int x :: .int i :: .ref a :: st) h k n := by
  intro p e s m args below meth c mc ms cu su hA hc hs H locs ls hR hS hl
  have hcell : H[a]? = some (vp_cell (G.2.1 0) (N, .inl f)) := (hR.2.2 a _ ho).2 hlo
  have hK := hA.2.2.2.2.2.2.2.2.2.1
  refine W.iast hA.1 hA.2.1 hcell ((hK.2 0 _ rfl).1 N (fun j => .int (f j))) (fun q => by cases q) (by show ¬ (i < 0 ∨ (arrV _ _ _).slots.size ≤ _); rw [arrV_size]; exact hin) rfl rfl D fun H1 e1 z oq => ?_
  refine x1 p e s m args below meth c mc ms cu su hA hc hs H1 _ ls (hR.up z ?_ oq) (hS.put z oq hlo) hl
  show H1[a]? = some (vp_cell _ _)
  rw [e1, vp_cell_i, vp_cell_i, arrV_store]
  congr 2
  funext q
  by_cases hq : q = i.toNatClampNeg
  · subst hq
    simp [updV, va_up]
  · simp [updV, va_up, hq]
theorem e_lastore {a N : Nat} {f : Nat → Int64} {i : Int32} {x : Int64} (D : decode M.2.2.1 pc = .ok (.lastore, 1)) (ho : h.1 a = some (.inl (G.2.1 1, N, .inr (.inl f)))) (hlo : lo ≤ a) (hin : vp_in i N)
    (x1 : E l lo G d M P (pc + 1) lv st (eUp h a (.inl (G.2.1 1, N, .inr (.inl (va_up f i.toNatClampNeg x))))) k n) : E l lo G d M P pc lv (.long x :: .int i :: .ref a :: st) h k n := by
  intro p e s m args below meth c mc ms cu su hA hc hs H locs ls hR hS hl
  have hcell : H[a]? = some (vp_cell (G.2.1 1) (N, .inr (.inl f))) := (hR.2.2 a _ ho).2 hlo
  have hK := hA.2.2.2.2.2.2.2.2.2.1
  refine W.last hA.1 hA.2.1 hcell ((hK.2 1 _ rfl).1 N (fun j => .long (f j))) (fun q => by cases q) (by show ¬ (i < 0 ∨ (arrV _ _ _).slots.size ≤ _); rw [arrV_size]; exact hin) rfl rfl D fun H1 e1 z oq => ?_
  refine x1 p e s m args below meth c mc ms cu su hA hc hs H1 _ ls (hR.up z ?_ oq) (hS.put z oq hlo) hl
  show H1[a]? = some (vp_cell _ _)
  rw [e1, vp_cell_l, vp_cell_l, arrV_store]
  congr 2
  funext q
  by_cases hq : q = i.toNatClampNeg
  · subst hq
    simp [updV, va_up]
  · simp [updV, va_up, hq]
theorem e_bastore {a N : Nat} {f : Nat → Int32} {i x : Int32} (D : decode M.2.2.1 pc = .ok (.bastore, 1)) (ho : h.1 a = some (.inl (G.2.1 2, N, .inl f))) (hlo : lo ≤ a) (hin : vp_in i N)
    (x1 : E l lo G d M P (pc + 1) lv st (eUp h a (.inl (G.2.1 2, N, .inl (va_up f i.toNatClampNeg x.toInt8.toInt32)))) k n) : E l lo G d M P pc lv (.int x :: .int i :: .ref a :: st) h k n := by
  intro p e s m args below meth c mc ms cu su hA hc hs H locs ls hR hS hl
  have hcell : H[a]? = some (vp_cell (G.2.1 2) (N, .inl f)) := (hR.2.2 a _ ho).2 hlo
  have hK := hA.2.2.2.2.2.2.2.2.2.1
  refine W.bast hA.1 hA.2.1 hcell ((hK.2 2 _ rfl).1 N (fun j => .int (f j))) (fun q => by cases q) (by show ¬ (i < 0 ∨ (arrV _ _ _).slots.size ≤ _); rw [arrV_size]; exact hin) rfl rfl D fun H1 e1 z oq => ?_
  refine x1 p e s m args below meth c mc ms cu su hA hc hs H1 _ ls (hR.up z ?_ oq) (hS.put z oq hlo) hl
  show H1[a]? = some (vp_cell _ _)
  rw [e1, vp_cell_i, vp_cell_i, arrV_store]
  congr 2
  funext q
  by_cases hq : q = i.toNatClampNeg
  · subst hq
    simp [updV, va_up, narrow]
  · simp [updV, va_up, hq]
/-- a new array of ints, longs or bytes: t is 0, 1 or 2 -/
theorem e_newarray {atype : ArrayType} (t N : Nat) {i : Int32} {v : vp_A} (D : decode M.2.2.1 pc = .ok (.newarray atype, 2)) (hat : newarray.typeOf atype = eTy t) (ht : ∀ G : eG, (eTys G)[t]? = some (G.2.1 t, eTy t)) (hra : ∀ (G : eG) (U : State), va_RA U (G.2.1 t) (eTy t) → U.vm.findClass ("[" ++ (eTy t).toString) = some (G.2.1 t)) (q : Cond.arrayClass (newarray.typeOf atype) ∈ lw_all) (hi : ¬ i < 0) (hN : i.toNatClampNeg = N) (hb : N * componentBytes (eTy t) ≤ 536870912) (hv : ∀ cA : ClassId, vp_cell cA v = arrV cA N (fun _ => defaultValue (eTy t))) {k1 n1 : Nat} (hk : k1 + 1 ≤ k) (hn : n1 + N ≤ n)
    (x1 : E l lo G d M P (pc + 2) lv (.ref h.2 :: st) (eNw h (.inl (G.2.1 t, v))) k1 n1) : E l lo G d M P pc lv (.int i :: st) h k n := by
  intro p e s m args below meth c mc ms cu su hA hc hs H locs ls hR hS hl
  have hK := hA.2.2.2.2.2.2.2.2.2.1
  refine va_newaK hA.1 hA.2.1 (hA.2.2.2.2.2.2.1 _ q) rfl D rfl hi hN (by rw [hat]; exact hb) (show cu + 1 ≤ mc by omega) (show su + N ≤ ms by omega) hR.1 fun H1 cA e1 z1 o1 hAr hNm => ?_
  rw [hat] at e1 hAr hNm
  have hcA : cA = G.2.1 t := Option.some.inj (hNm.symm.trans (hra G s (hK.2 t _ (ht G)).2))
  subst hcA
  refine x1 p e s m args below meth c mc ms (cu + 1) (su + N) hA (by omega) (by omega) H1 locs ls (hR.nw (by rw [hR.1]; exact z1) ?_ (fun q hq => o1 q (by rw [← hR.1]; exact hq))) ⟨Nat.le_trans hS.1 (by rw [z1, hR.1]; omega), fun q hq hn => (o1 q (by rw [← hR.1]; exact Nat.lt_of_lt_of_le hq hS.1)).trans (hS.2.1 q hq hn), hS.2.2⟩ hl
  show H1[H.size]? = some (vp_cell _ _)
  rw [hv, hR.1]
  exact e1
/-- a new object, its fields as they are born -/
theorem e_new {ci N idx : Nat} {C : String} {T : u_T} (tyf : Nat → FieldType) {fs : List Value} (D : decode M.2.2.1 pc = .ok (.new idx, 3)) (hcl : eCl[ci]? = some (C, T, N)) (hin : ∀ w ∈ u_ws C T N, w ∈ lw_all) (hty : ∀ i, i < N → parseFieldDescriptor (T i).2.2.1 = some (tyf i)) (q1 : Cond.classLink M.1 idx C ∈ lw_all) (q2 : Cond.instantiable C N ∈ lw_all) (q3 : Cond.initialized C ∈ lw_all) (hfs : ∀ j, j < N → defaultValue (tyf j) = vp_V fs j) {k1 n1 : Nat} (hk : k1 + 1 ≤ k) (hn : n1 + N ≤ n)
    (x1 : E l lo G d M P (pc + 3) lv (.ref h.2 :: st) (eNw h (.inr (ci, fs))) k1 n1) : E l lo G d M P pc lv st h k n := by
  intro p e s m args below meth c mc ms cu su hA hc hs H locs ls hR hS hl
  have hts := hA.2.2.2.2.2.2.1
  have hKn := hA.2.2.2.2.2.2.2.2.2.1.1 ci _ hcl
  refine W.newcK hA.1 hA.2.1 hA.2.2.2.2.2.1 (hts _ q1) (hts _ q2) (hts _ q3) rfl D (show cu + 1 ≤ mc by omega) (show su + N ≤ ms by omega) hKn.2.1 hR.1 fun H1 kC hkC e1 z1 o1 => ?_
  refine x1 p e s m args below meth c mc ms (cu + 1) (su + N) hA (by omega) (by omega) H1 locs ls (hR.nw (by rw [hR.1]; exact z1) ?_ (fun q hq => o1 q (by rw [← hR.1]; exact hq)) ?_) ⟨Nat.le_trans hS.1 (by rw [z1, hR.1]; omega), fun q hq hn => (o1 q (by rw [← hR.1]; exact Nat.lt_of_lt_of_le hq hS.1)).trans (hS.2.1 q hq hn), hS.2.2⟩ hl
  · rw [← hR.1] at e1
    exact ⟨_, hcl, (u_born tyf hts hin hKn hkC e1 hty).to hfs⟩
  · exact fun cell hcell => by
      rw [hR.1, e1] at hcell
      cases hcell
      exact ⟨rfl, rfl⟩
theorem e_objInit {idx o : Nat} (D : decode M.2.2.1 pc = .ok (.invokespecial idx, 3)) (q1 : Cond.methodLink M.1 idx objectInit ∈ lw_all) (q2 : Cond.instanceMethod objectInit ∈ lw_all) (q3 : Cond.code objectInit ⟨#[0xb1]⟩ 1 none ∈ lw_all) (hd : 1 ≤ d) (hc8 : (st.map fun v => v.category).sum ≤ 8)
    (x1 : E l lo G d M P (pc + 3) lv st h k n) : E l lo G d M P pc lv (.ref o :: st) h k n := by
  intro p e s m args below meth c mc ms cu su hA hc hs H locs ls hR hS hl
  have hts := hA.2.2.2.2.2.2.1
  have hr : 2 * (F0 m pc ls (.ref o :: st)).monitorRoom + (st.map fun v => v.category).sum ≤ 8 := lv_room hc8
  exact W.objInit hA.1 hA.2.1 hA.2.2.2.2.2.1 (hts _ q1) (hts _ q2) (hts _ q3) rfl (by rw [hA.2.2.2.2.1]; exact hl.1) rfl D hd (by show _ ≤ 128 * d; omega) (x1 p e s m args below meth c mc ms cu su hA hc hs H locs ls hR hS hl)
end EH
