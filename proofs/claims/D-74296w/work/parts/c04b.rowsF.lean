/-! E-rows: fields by a subclass's name; Math's min, max, abs -/
theorem eSameF {ref ow nm ds : String} {x : ClassId × Class × Nat × Field} {args : Array Value} {s : State} (h : (Cond.sameField ref ow nm ds).before args s = true) (hi : s.fieldFound? ow nm ds = some x) : s.fieldFound? ref nm ds = some x := by
  cases hr : s.fieldFound? ref nm ds with
  | none => simp [Cond.before, Cond.holds, Cond.value, hr] at h
  | some y =>
    have := Cond.sameField_spec hr h
    rw [hi] at this
    exact this.symm
section ERF
variable {l : Launch} {lo : Nat} {G : eG} {d : Nat} {M : eM} {P : eO → eH → Prop} {pc : Nat} {lv : List (Option Value)} {st : List Value} {h : eH} {k n : Nat}
theorem e_getS {ci j idx : Nat} {ref ow nm ds : String} {fin : Bool} {ty : FieldType} {o : Nat} {fs : List Value} {v : Value} (D : decode M.2.2.1 pc = .ok (.getfield idx, 3)) (F : eF ci j (ow, nm, ds, fin) ty) (q : Cond.fieldLink M.1 idx ref nm ds ∈ lw_all) (q9 : Cond.sameField ref ow nm ds ∈ lw_all) (ho : h.1 o = some (.inr (ci, fs))) (hv : fs[j]? = some v)
    (x1 : E l lo G d M P (pc + 3) lv (v :: st) h k n) : E l lo G d M P pc lv (.ref o :: st) h k n := by
  obtain ⟨C, T, N, tyf, f1, f2, f3, f4, f5, f6, f7⟩ := F
  intro p e s m args below meth c mc ms cu su hA hc hs H locs ls hR hS hl
  obtain ⟨r, cell, g1, g2, g3, g4, g5, g6⟩ := (hR.2.2 o _ ho).1
  cases Option.some.inj (g1.symm.trans f1)
  have hK := hA.2.2.2.2.2.2.2.2.2.1
  obtain ⟨hSl, hfc, kC, hkC, hkind⟩ := hK.1 ci _ f1
  obtain ⟨cf, kf, fi, f, hi, hsl⟩ := hSl j f2
  have hst := (u_facts hfc hkC (u_lays hA.2.2.2.2.2.2.1 f5 f2) hi).1
  dsimp only at hi
  rw [f3] at hi
  refine W.getf hA.1 hA.2.1 hA.2.2.2.2.2.1 (hA.2.2.2.2.2.2.1 _ q) (eSameF (hA.2.2.2.2.2.2.1 _ q9) hi) hst g2 g4 (v := v) ?_ rfl rfl D (x1 p e s m args below meth c mc ms cu su hA hc hs H locs ls hR hS hl)
  rw [hsl, g6 j f2]
  simp [vp_V, hv]
theorem e_putS {ci j idx : Nat} {ref ow nm ds : String} {ty : FieldType} {o : Nat} {fs : List Value} {v : Value} (D : decode M.2.2.1 pc = .ok (.putfield idx, 3)) (F : eF ci j (ow, nm, ds, false) ty) (q : Cond.fieldLink M.1 idx ref nm ds ∈ lw_all) (q9 : Cond.sameField ref ow nm ds ∈ lw_all) (hfit : eFit ty v) (ho : h.1 o = some (.inr (ci, fs))) (hlo : lo ≤ o) (hj : j < fs.length)
    (x1 : E l lo G d M P (pc + 3) lv st (eUp h o (.inr (ci, fs.set j v))) k n) : E l lo G d M P pc lv (v :: .ref o :: st) h k n := by
  obtain ⟨C, T, N, tyf, f1, f2, f3, f4, f5, f6, f7⟩ := F
  intro p e s m args below meth c mc ms cu su hA hc hs H locs ls hR hS hl
  obtain ⟨r, g1, cell, q1, q2, q3, q4⟩ := (hR.2.2 o _ ho).2 hlo
  cases Option.some.inj (g1.symm.trans f1)
  have hts := hA.2.2.2.2.2.2.1
  have hK := hA.2.2.2.2.2.2.2.2.2.1
  obtain ⟨hSl, hfc, kC, hkC, hkind⟩ := hK.1 ci _ f1
  obtain ⟨cf, kf, fi, f, hi, hsl⟩ := hSl j f2
  have hlay := hts _ (f5 _ (u_in_lay f2))
  unfold u_lay at hlay
  rw [if_neg (by rw [f3]; exact Bool.false_ne_true)] at hlay
  have hst := (u_facts hfc hkC (u_lays hts f5 f2) hi).1
  have h6 := u_store hfc hkC hkind hlay hi (f6 j f2) (by rw [f4]; exact hfit.1) (by rw [f4]; exact hfit.2)
  have hi' := hi
  dsimp only at hi'
  rw [f3] at hi'
  refine W.putK hA.1 hA.2.1 (f := f) ⟨hA.2.2.2.2.2.1, hts _ q, ⟨_, _, _, eSameF (hts _ q9) hi'⟩, hst⟩ (by rw [q2]; exact h6) q1 q3 (by rw [hsl]; exact k2_hasslot (q4 j f2)) rfl rfl D fun H' e1 e2 e3 => ?_
  have hat := ePutAt (hx := hts) hK f1 f2 f5 f6 f7 q2 q3 q4 hj hsl e1
  exact x1 p e s m args below meth c mc ms cu su hA hc hs H' _ ls (hR.up e2 hat e3 ((hR.2.1.2 o _ ho hlo).set q1 e1)) (hS.put e2 e3 hlo) hl
theorem e_mmin {idx : Nat} {x y : Int32} (D : decode M.2.2.1 pc = .ok (.invokestatic idx, 3)) (q : Cond.methodLink M.1 idx Lib.Math.min.name ∈ lw_all) (hd : 1 ≤ d) (hc8 : (st.map fun v => v.category).sum ≤ 8) (x1 : E l lo G d M P (pc + 3) lv (.int (if y < x then y else x) :: st) h k n) : E l lo G d M P pc lv (.int y :: .int x :: st) h k n := by
  intro p e s m args below meth c mc ms cu su hA hc hs H locs ls hR hS hl
  exact va_mmin hA.1 hA.2.1 (by rw [hA.2.2.2.2.1]; exact hl.1.symm) hA.2.2.2.2.2.1 (hA.2.2.2.2.2.2.1 _ q) (hA.2.2.2.2.2.2.1 _ q405) (hA.2.2.2.2.2.2.1 _ q147) (hA.2.2.2.2.2.2.1 _ q406) hd (by show _ ≤ 128 * d; omega) (by show cu ≤ mc; omega) (by show su ≤ ms; omega) D (x1 p e s m args below meth c mc ms cu su hA hc hs H locs ls hR hS hl)
theorem e_mmax {idx : Nat} {x y : Int32} (D : decode M.2.2.1 pc = .ok (.invokestatic idx, 3)) (q : Cond.methodLink M.1 idx Lib.Math.max.name ∈ lw_all) (hd : 1 ≤ d) (hc8 : (st.map fun v => v.category).sum ≤ 8) (x1 : E l lo G d M P (pc + 3) lv (.int (if x < y then y else x) :: st) h k n) : E l lo G d M P pc lv (.int y :: .int x :: st) h k n := by
  intro p e s m args below meth c mc ms cu su hA hc hs H locs ls hR hS hl
  exact va_mmax hA.1 hA.2.1 (by rw [hA.2.2.2.2.1]; exact hl.1.symm) hA.2.2.2.2.2.1 (hA.2.2.2.2.2.2.1 _ q) (hA.2.2.2.2.2.2.1 _ q816) (hA.2.2.2.2.2.2.1 _ q147) (hA.2.2.2.2.2.2.1 _ q817) hd (by show _ ≤ 128 * d; omega) (by show cu ≤ mc; omega) (by show su ≤ ms; omega) D (x1 p e s m args below meth c mc ms cu su hA hc hs H locs ls hR hS hl)
theorem e_mabs {idx : Nat} {x : Int64} (D : decode M.2.2.1 pc = .ok (.invokestatic idx, 3)) (q : Cond.methodLink M.1 idx Lib.MathLoose.abs_long.x ∈ lw_all) (hd : 1 ≤ d) (hc8 : (st.map fun v => v.category).sum ≤ 8) (x1 : E l lo G d M P (pc + 3) lv (.long (if 0 < x then x else -x) :: st) h k n) : E l lo G d M P pc lv (.long x :: st) h k n := by
  intro p e s m args below meth c mc ms cu su hA hc hs H locs ls hR hS hl
  exact va_mabs_long hA.1 hA.2.1 (by rw [hA.2.2.2.2.1]; exact hl.1.symm) hA.2.2.2.2.2.1 (hA.2.2.2.2.2.2.1 _ q) (hA.2.2.2.2.2.2.1 _ q1857) (hA.2.2.2.2.2.2.1 _ q147) (hA.2.2.2.2.2.2.1 _ q1858) hd (by show _ ≤ 128 * d; omega) (by show cu ≤ mc; omega) (by show su ≤ ms; omega) D (x1 p e s m args below meth c mc ms cu su hA hc hs H locs ls hR hS hl)
end ERF
