/-! E-rows: copies of arrays; what is thrown -/
section ERC
variable {l : Launch} {lo : Nat} {G : eG} {d : Nat} {M : eM} {P : eO → eH → Prop} {pc : Nat} {lv : List (Option Value)} {st : List Value} {h : eH} {k n : Nat}
theorem i32_nn {z : Int32} (hz : ¬ z < 0) : z.toInt = (z.toNatClampNeg : Int) := by
  have hz0 : (0 : Int) ≤ z.toInt := by
    have := Int32.not_lt.mp hz
    simpa using Int32.le_iff_toInt_le.mp this
  show z.toInt = ((z.toInt.toNat : Nat) : Int)
  omega
theorem eSetH {H : Heap} {a : Nat} {x : Cell} (hl : a < H.size) : (H.setIfInBounds a x)[a]? = some x ∧ (H.setIfInBounds a x).size = H.size ∧ ∀ q : Nat, q ≠ a → (H.setIfInBounds a x)[q]? = H[q]? :=
  ⟨by simp [Array.getElem?_setIfInBounds, hl], by simp, fun q hq => by simp [Array.getElem?_setIfInBounds, Ne.symm hq]⟩
theorem eS_app {H H1 : Heap} {locs L : List Loc} {s : State} {a : Nat} (hS : va_S (eA lo) s.heap H locs) (hz : H1.size = H.size) (oq : ∀ q : Nat, q ≠ a → H1[q]? = H[q]?) (hlo : lo ≤ a) (hL : ∀ z ∈ L, z.base = a) : va_S (eA lo) s.heap H1 (locs ++ L) :=
  ⟨by rw [hz]; exact hS.1, fun q g1 g2 => by
    rw [oq q (fun e => g2 (by rw [e]; exact hlo))]
    exact hS.2.1 q g1 g2, fun q hq => by
    rcases List.mem_append.mp hq with h | h
    · exact hS.2.2 q h
    · show lo ≤ q.base
      rw [hL q h]
      exact hlo⟩
/-- System.arraycopy of longs -/
theorem e_copyL {idx a0 a n0 n1 : Nat} {f g : Nat → Int64} {sp dp m9 : Int32} (D : decode M.2.2.1 pc = .ok (.invokestatic idx, 3)) (q1 : Cond.methodLink M.1 idx arraycopyName ∈ lw_all) (q2 : Cond.native arraycopyName ∈ lw_all) (q3 : Cond.static arraycopyName ∈ lw_all) (q4 : Cond.initialized "java/lang/System" ∈ lw_all) (ho0 : h.1 a0 = some (.inl (G.2.1 1, n0, .inr (.inl f)))) (ho : h.1 a = some (.inl (G.2.1 1, n1, .inr (.inl g)))) (hl0 : lo ≤ a0) (hlo : lo ≤ a) (h1 : ¬ sp < 0) (h2 : ¬ dp < 0) (h3 : ¬ m9 < 0) (h4 : sp.toNatClampNeg + m9.toNatClampNeg ≤ n0) (h5 : dp.toNatClampNeg + m9.toNatClampNeg ≤ n1) (hd : 1 ≤ d) (hc8 : (st.map fun v => v.category).sum ≤ 8)
    (x1 : E l lo G d M P (pc + 3) lv st (eUp h a (.inl (G.2.1 1, n1, .inr (.inl (va_cpy f g sp.toNatClampNeg dp.toNatClampNeg m9.toNatClampNeg))))) k n) : E l lo G d M P pc lv (.int m9 :: .int dp :: .ref a :: .int sp :: .ref a0 :: st) h k n := by
  intro p e s m args below meth c mc ms cu su hA hc hs H locs ls hR hS hl
  have hts := hA.2.2.2.2.2.2.1
  have hK := hA.2.2.2.2.2.2.2.2.2.1
  intro T hT X
  have hc0 : H[a0]? = some (vp_cell (G.2.1 1) (n0, .inr (.inl f))) := (hR.2.2 a0 _ ho0).2 hl0
  have hc1 : H[a]? = some (vp_cell (G.2.1 1) (n1, .inr (.inl g))) := (hR.2.2 a _ ho).2 hlo
  obtain ⟨-, k0, hk0, cm0, hkk0⟩ := (hK.2 1 _ rfl).1 n0 (fun j => .long (f j))
  obtain ⟨-, k1, hk1, cm1, hkk1⟩ := (hK.2 1 _ rfl).1 n1 (fun j => .long (g j))
  obtain ⟨vm', X', step⟩ := X.arraycopy hA.1 hA.2.2.2.2.2.1 (hts _ q1) (hts _ q2) (hts _ q3) (hts _ q4) (src := a0) (dst := a) (cs := vp_cell (G.2.1 1) (n0, .inr (.inl f))) (cd := vp_cell (G.2.1 1) (n1, .inr (.inl g))) (srcPos := sp) (destPos := dp) (n := m9) (by rw [hT]; exact hc0) (by rw [hT]; exact hc1)
    (fun _ h => by cases h) (fun _ h => by cases h) (fun h => by cases h) (fun h => by cases h) hk0 hk1 hkk0 hkk1 (show (refKind (eTy 1) != refKind (eTy 1) || !refKind (eTy 1) && eTy 1 != eTy 1) = false by decide) h1 h2 h3
    (by rw [i32_nn h1, i32_nn h3]; show ¬ _ > ((arrV (G.2.1 1) n0 (fun j => .long (f j))).slots.size : Int); rw [arrV_size]; omega)
    (by rw [i32_nn h2, i32_nn h3]; show ¬ _ > ((arrV (G.2.1 1) n1 (fun j => .long (g j))).slots.size : Int); rw [arrV_size]; omega)
    (fun vm₁ hal i hi => by
      have e : (vp_cell (G.2.1 1) (n0, .inr (.inl f))).slots.getD (sp.toNatClampNeg + i) .null = .long (f (sp.toNatClampNeg + i)) := by
        show (arrV (G.2.1 1) n0 (fun j => .long (f j))).slots.getD _ _ = _
        rw [Array.getD_eq_getD_getElem?, arrV_read _ _ (by omega)]
        rfl
      refine ⟨?_, ?_⟩
      · rw [e]; rfl
      · rw [e]; exact trivial)
    (g := F0 m pc ls (.int m9 :: .int dp :: .ref a :: .int sp :: .ref a0 :: st)) rfl (by show ls.size = c.maxLocals; rw [hl.1, hA.2.2.2.2.1]) (rest := st) rfl (by rw [hA.2.1]; exact D) hd (by show 2 * 0 + _ + _ ≤ 128 * d; have : nativeFrameWords "java/lang/System" "arraycopy" 5 ≤ 64 := (by decide); omega)
  have e1 : copied (vp_cell (G.2.1 1) (n0, .inr (.inl f))) (vp_cell (G.2.1 1) (n1, .inr (.inl g))) sp dp m9 = vp_cell (G.2.1 1) (n1, .inr (.inl (va_cpy f g sp.toNatClampNeg dp.toNatClampNeg m9.toNatClampNeg))) := by
    exact va_copied (fun z => .long z) (G.2.1 1) (G.2.1 1) f g h4
  rw [e1] at X' step
  have hl9 : a < H.size := (Array.getElem?_eq_some_iff.mp hc1).1
  have hheap : ((T.setVm vm').setCell a (vp_cell (G.2.1 1) (n1, .inr (.inl (va_cpy f g sp.toNatClampNeg dp.toNatClampNeg m9.toNatClampNeg))))).heap = H.setIfInBounds a (vp_cell (G.2.1 1) (n1, .inr (.inl (va_cpy f g sp.toNatClampNeg dp.toNatClampNeg m9.toNatClampNeg)))) := by rw [← hT]; rfl
  obtain ⟨s1, s2, s3⟩ := eSetH (x := vp_cell (G.2.1 1) (n1, .inr (.inl (va_cpy f g sp.toNatClampNeg dp.toNatClampNeg m9.toNatClampNeg)))) hl9
  obtain ⟨t9, a1, b1⟩ := x1 p e s m args below meth c mc ms cu su hA hc hs _ _ ls (hR.up s2 s1 s3) (eS_app hS s2 s3 hlo (fun z hz => by
    obtain ⟨z9, -, hz9⟩ := List.mem_map.mp hz
    rw [← hz9])) hl _ hheap X'
  exact ⟨t9, step t9 a1, b1⟩
/-- System.arraycopy of bytes -/
theorem e_copyB {idx a0 a n0 n1 : Nat} {f g : Nat → Int32} {sp dp m9 : Int32} (D : decode M.2.2.1 pc = .ok (.invokestatic idx, 3)) (q1 : Cond.methodLink M.1 idx arraycopyName ∈ lw_all) (q2 : Cond.native arraycopyName ∈ lw_all) (q3 : Cond.static arraycopyName ∈ lw_all) (q4 : Cond.initialized "java/lang/System" ∈ lw_all) (ho0 : h.1 a0 = some (.inl (G.2.1 2, n0, .inl f))) (ho : h.1 a = some (.inl (G.2.1 2, n1, .inl g))) (hl0 : lo ≤ a0) (hlo : lo ≤ a) (h1 : ¬ sp < 0) (h2 : ¬ dp < 0) (h3 : ¬ m9 < 0) (h4 : sp.toNatClampNeg + m9.toNatClampNeg ≤ n0) (h5 : dp.toNatClampNeg + m9.toNatClampNeg ≤ n1) (hfit : ∀ i, i < m9.toNatClampNeg → fits .byte (.int (f (sp.toNatClampNeg + i))) = true) (hd : 1 ≤ d) (hc8 : (st.map fun v => v.category).sum ≤ 8)
    (x1 : E l lo G d M P (pc + 3) lv st (eUp h a (.inl (G.2.1 2, n1, .inl (va_cpy f g sp.toNatClampNeg dp.toNatClampNeg m9.toNatClampNeg)))) k n) : E l lo G d M P pc lv (.int m9 :: .int dp :: .ref a :: .int sp :: .ref a0 :: st) h k n := by
  intro p e s m args below meth c mc ms cu su hA hc hs H locs ls hR hS hl
  have hts := hA.2.2.2.2.2.2.1
  have hK := hA.2.2.2.2.2.2.2.2.2.1
  intro T hT X
  have hc0 : H[a0]? = some (vp_cell (G.2.1 2) (n0, .inl f)) := (hR.2.2 a0 _ ho0).2 hl0
  have hc1 : H[a]? = some (vp_cell (G.2.1 2) (n1, .inl g)) := (hR.2.2 a _ ho).2 hlo
  obtain ⟨-, k0, hk0, cm0, hkk0⟩ := (hK.2 2 _ rfl).1 n0 (fun j => .int (f j))
  obtain ⟨-, k1, hk1, cm1, hkk1⟩ := (hK.2 2 _ rfl).1 n1 (fun j => .int (g j))
  obtain ⟨vm', X', step⟩ := X.arraycopy hA.1 hA.2.2.2.2.2.1 (hts _ q1) (hts _ q2) (hts _ q3) (hts _ q4) (src := a0) (dst := a) (cs := vp_cell (G.2.1 2) (n0, .inl f)) (cd := vp_cell (G.2.1 2) (n1, .inl g)) (srcPos := sp) (destPos := dp) (n := m9) (by rw [hT]; exact hc0) (by rw [hT]; exact hc1)
    (fun _ h => by cases h) (fun _ h => by cases h) (fun h => by cases h) (fun h => by cases h) hk0 hk1 hkk0 hkk1 (show (refKind (eTy 2) != refKind (eTy 2) || !refKind (eTy 2) && eTy 2 != eTy 2) = false by decide) h1 h2 h3
    (by rw [i32_nn h1, i32_nn h3]; show ¬ _ > ((arrV (G.2.1 2) n0 (fun j => .int (f j))).slots.size : Int); rw [arrV_size]; omega)
    (by rw [i32_nn h2, i32_nn h3]; show ¬ _ > ((arrV (G.2.1 2) n1 (fun j => .int (g j))).slots.size : Int); rw [arrV_size]; omega)
    (fun vm₁ hal i hi => by
      have e : (vp_cell (G.2.1 2) (n0, .inl f)).slots.getD (sp.toNatClampNeg + i) .null = .int (f (sp.toNatClampNeg + i)) := by
        show (arrV (G.2.1 2) n0 (fun j => .int (f j))).slots.getD _ _ = _
        rw [Array.getD_eq_getD_getElem?, arrV_read _ _ (by omega)]
        rfl
      refine ⟨?_, ?_⟩
      · rw [e]; exact hfit i hi
      · rw [e]; exact trivial)
    (g := F0 m pc ls (.int m9 :: .int dp :: .ref a :: .int sp :: .ref a0 :: st)) rfl (by show ls.size = c.maxLocals; rw [hl.1, hA.2.2.2.2.1]) (rest := st) rfl (by rw [hA.2.1]; exact D) hd (by show 2 * 0 + _ + _ ≤ 128 * d; have : nativeFrameWords "java/lang/System" "arraycopy" 5 ≤ 64 := (by decide); omega)
  have e1 : copied (vp_cell (G.2.1 2) (n0, .inl f)) (vp_cell (G.2.1 2) (n1, .inl g)) sp dp m9 = vp_cell (G.2.1 2) (n1, .inl (va_cpy f g sp.toNatClampNeg dp.toNatClampNeg m9.toNatClampNeg)) := by
    exact va_copied (fun z => .int z) (G.2.1 2) (G.2.1 2) f g h4
  rw [e1] at X' step
  have hl9 : a < H.size := (Array.getElem?_eq_some_iff.mp hc1).1
  have hheap : ((T.setVm vm').setCell a (vp_cell (G.2.1 2) (n1, .inl (va_cpy f g sp.toNatClampNeg dp.toNatClampNeg m9.toNatClampNeg)))).heap = H.setIfInBounds a (vp_cell (G.2.1 2) (n1, .inl (va_cpy f g sp.toNatClampNeg dp.toNatClampNeg m9.toNatClampNeg))) := by rw [← hT]; rfl
  obtain ⟨s1, s2, s3⟩ := eSetH (x := vp_cell (G.2.1 2) (n1, .inl (va_cpy f g sp.toNatClampNeg dp.toNatClampNeg m9.toNatClampNeg))) hl9
  obtain ⟨t9, a1, b1⟩ := x1 p e s m args below meth c mc ms cu su hA hc hs _ _ ls (hR.up s2 s1 s3) (eS_app hS s2 s3 hlo (fun z hz => by
    obtain ⟨z9, -, hz9⟩ := List.mem_map.mp hz
    rw [← hz9])) hl _ hheap X'
  exact ⟨t9, step t9 a1, b1⟩
/-- System.arraycopy of references -/
theorem e_copyR {idx a0 a n0 n1 : Nat} {f g : Nat → Option Nat} {sp dp m9 : Int32} (D : decode M.2.2.1 pc = .ok (.invokestatic idx, 3)) (q1 : Cond.methodLink M.1 idx arraycopyName ∈ lw_all) (q2 : Cond.native arraycopyName ∈ lw_all) (q3 : Cond.static arraycopyName ∈ lw_all) (q4 : Cond.initialized "java/lang/System" ∈ lw_all) (ho0 : h.1 a0 = some (.inl (G.2.1 3, n0, .inr (.inr (.inr (.inr f)))))) (ho : h.1 a = some (.inl (G.2.1 3, n1, .inr (.inr (.inr (.inr g)))))) (hl0 : lo ≤ a0) (hlo : lo ≤ a) (h1 : ¬ sp < 0) (h2 : ¬ dp < 0) (h3 : ¬ m9 < 0) (h4 : sp.toNatClampNeg + m9.toNatClampNeg ≤ n0) (h5 : dp.toNatClampNeg + m9.toNatClampNeg ≤ n1) (hel : ∀ i : Nat, i < m9.toNatClampNeg → ∀ y : Nat, f (sp.toNatClampNeg + i) = some y → ∃ C, eIs G h y C ∧ Cond.castable C "java/lang/Object" ∈ lw_tbl) (hd : 1 ≤ d) (hc8 : (st.map fun v => v.category).sum ≤ 8)
    (x1 : E l lo G d M P (pc + 3) lv st (eUp h a (.inl (G.2.1 3, n1, .inr (.inr (.inr (.inr (va_cpy f g sp.toNatClampNeg dp.toNatClampNeg m9.toNatClampNeg))))))) k n) : E l lo G d M P pc lv (.int m9 :: .int dp :: .ref a :: .int sp :: .ref a0 :: st) h k n := by
  intro p e s m args below meth c mc ms cu su hA hc hs H locs ls hR hS hl
  have hts := hA.2.2.2.2.2.2.1
  have hK := hA.2.2.2.2.2.2.2.2.2.1
  intro T hT X
  have hc0 : H[a0]? = some (vp_cell (G.2.1 3) (n0, .inr (.inr (.inr (.inr f))))) := (hR.2.2 a0 _ ho0).2 hl0
  have hc1 : H[a]? = some (vp_cell (G.2.1 3) (n1, .inr (.inr (.inr (.inr g))))) := (hR.2.2 a _ ho).2 hlo
  obtain ⟨-, k0, hk0, cm0, hkk0⟩ := (hK.2 3 _ rfl).1 n0 (fun j => va_rf (f j))
  obtain ⟨-, k1, hk1, cm1, hkk1⟩ := (hK.2 3 _ rfl).1 n1 (fun j => va_rf (g j))
  obtain ⟨vm', X', step⟩ := X.arraycopy hA.1 hA.2.2.2.2.2.1 (hts _ q1) (hts _ q2) (hts _ q3) (hts _ q4) (src := a0) (dst := a) (cs := vp_cell (G.2.1 3) (n0, .inr (.inr (.inr (.inr f))))) (cd := vp_cell (G.2.1 3) (n1, .inr (.inr (.inr (.inr g))))) (srcPos := sp) (destPos := dp) (n := m9) (by rw [hT]; exact hc0) (by rw [hT]; exact hc1)
    (fun _ h => by cases h) (fun _ h => by cases h) (fun h => by cases h) (fun h => by cases h) hk0 hk1 hkk0 hkk1 rfl h1 h2 h3
    (by rw [i32_nn h1, i32_nn h3]; show ¬ _ > ((arrV (G.2.1 3) n0 (fun j => va_rf (f j))).slots.size : Int); rw [arrV_size]; omega)
    (by rw [i32_nn h2, i32_nn h3]; show ¬ _ > ((arrV (G.2.1 3) n1 (fun j => va_rf (g j))).slots.size : Int); rw [arrV_size]; omega)
    (fun vm₁ hal i hi => by
      have e : (vp_cell (G.2.1 3) (n0, .inr (.inr (.inr (.inr f))))).slots.getD (sp.toNatClampNeg + i) .null = va_rf (f (sp.toNatClampNeg + i)) := by
        show (arrV (G.2.1 3) n0 (fun j => va_rf (f j))).slots.getD _ _ = _
        rw [Array.getD_eq_getD_getElem?, arrV_read _ _ (by omega)]
        rfl
      rw [e]
      cases hy : f (sp.toNatClampNeg + i) with
      | none => exact ⟨rfl, trivial⟩
      | some y =>
        obtain ⟨C, z1, z2⟩ := hel i hi y hy
        obtain ⟨cellV, g1, g2, g3⟩ := eIs_c hA hR z1
        obtain ⟨c9, t9, f1, f2, f3⟩ := Cond.castable_spec (va_Nw.use (A := args) rfl (hA.2.2.2.2.2.2.2.2.2.2.1 _ (List.mem_filter.mpr ⟨z2, rfl⟩)))
        cases g3.symm.trans f1
        obtain ⟨kA, comp, r1, r2, r3, -⟩ := (hK.2 3 _ rfl).2
        cases hk1.symm.trans r1
        cases hkk1.symm.trans r2
        cases r3.symm.trans f2
        obtain ⟨kC, hkC, -⟩ := Vm.findClass_spec g3
        obtain ⟨kE, hkE, -⟩ := Vm.findClass_spec r3
        obtain ⟨kC', hkC', -⟩ := hal.2.2 _ _ hkC
        obtain ⟨kE', hkE', -⟩ := hal.2.2 _ _ hkE
        refine ⟨rfl, cellV, (show T.heap[y]? = some cellV by rw [hT]; exact g1), (fun q h => by rw [h] at g2; cases g2), ⟨kC', hkC'⟩, ?_, ?_⟩
        · exact ⟨kE', hkE'⟩
        · show vm₁.assignable _ _ = true
          rw [hal.assignable]
          exact f3)
    (g := F0 m pc ls (.int m9 :: .int dp :: .ref a :: .int sp :: .ref a0 :: st)) rfl (by show ls.size = c.maxLocals; rw [hl.1, hA.2.2.2.2.1]) (rest := st) rfl (by rw [hA.2.1]; exact D) hd (by show 2 * 0 + _ + _ ≤ 128 * d; have : nativeFrameWords "java/lang/System" "arraycopy" 5 ≤ 64 := (by decide); omega)
  have e1 : copied (vp_cell (G.2.1 3) (n0, .inr (.inr (.inr (.inr f))))) (vp_cell (G.2.1 3) (n1, .inr (.inr (.inr (.inr g))))) sp dp m9 = vp_cell (G.2.1 3) (n1, .inr (.inr (.inr (.inr (va_cpy f g sp.toNatClampNeg dp.toNatClampNeg m9.toNatClampNeg))))) := by
    rw [vp_cell_q, vp_cell_q, vp_cell_q]; exact va_copied (fun z => va_rf z) (G.2.1 3) (G.2.1 3) f g h4
  rw [e1] at X' step
  have hl9 : a < H.size := (Array.getElem?_eq_some_iff.mp hc1).1
  have hheap : ((T.setVm vm').setCell a (vp_cell (G.2.1 3) (n1, .inr (.inr (.inr (.inr (va_cpy f g sp.toNatClampNeg dp.toNatClampNeg m9.toNatClampNeg))))))).heap = H.setIfInBounds a (vp_cell (G.2.1 3) (n1, .inr (.inr (.inr (.inr (va_cpy f g sp.toNatClampNeg dp.toNatClampNeg m9.toNatClampNeg)))))) := by rw [← hT]; rfl
  obtain ⟨s1, s2, s3⟩ := eSetH (x := vp_cell (G.2.1 3) (n1, .inr (.inr (.inr (.inr (va_cpy f g sp.toNatClampNeg dp.toNatClampNeg m9.toNatClampNeg)))))) hl9
  obtain ⟨t9, a1, b1⟩ := x1 p e s m args below meth c mc ms cu su hA hc hs _ _ ls (hR.up s2 s1 s3) (eS_app hS s2 s3 hlo (fun z hz => by
    obtain ⟨z9, -, hz9⟩ := List.mem_map.mp hz
    rw [← hz9])) hl _ hheap X'
  exact ⟨t9, step t9 a1, b1⟩
/-- the clone of an array of longs -/
theorem e_cloneJ {idx a N : Nat} {f : Nat → Int64} (D : decode M.2.2.1 pc = .ok (.invokevirtual idx, 3)) (q1 : Cond.methodLink M.1 idx ⟨"[J", "clone", "()Ljava/lang/Object;"⟩ ∈ lw_all) (q2 : Cond.sameMethod "[J" "java/lang/Object" "clone" "()Ljava/lang/Object;" ∈ lw_all) (q3 : Cond.native ⟨"java/lang/Object", "clone", "()Ljava/lang/Object;"⟩ ∈ lw_all) (q4 : Cond.instanceMethod ⟨"java/lang/Object", "clone", "()Ljava/lang/Object;"⟩ ∈ lw_all) (q5 : Cond.selects "[J" ⟨"[J", "clone", "()Ljava/lang/Object;"⟩ ⟨"java/lang/Object", "clone", "()Ljava/lang/Object;"⟩ ∈ lw_all) (q6 : Cond.castable "[J" "java/lang/Cloneable" ∈ lw_tbl) (ho : h.1 a = some (.inl (G.2.1 1, N, .inr (.inl f)))) (hlo : lo ≤ a) (hd : 1 ≤ d) (hc8 : (st.map fun v => v.category).sum ≤ 8) {k1 n1 : Nat} (hk : k1 + 1 ≤ k) (hn : n1 + N ≤ n)
    (x1 : E l lo G d M P (pc + 3) lv (.ref h.2 :: st) (eNw h (.inl (G.2.1 1, N, .inr (.inl f)))) k1 n1) : E l lo G d M P pc lv (.ref a :: st) h k n := by
  intro p e s m args below meth c mc ms cu su hA hc hs H locs ls hR hS hl
  have hts := hA.2.2.2.2.2.2.1
  have hK := hA.2.2.2.2.2.2.2.2.2.1
  intro T hT X
  have hcell : H[a]? = some (vp_cell (G.2.1 1) (N, .inr (.inl f))) := (hR.2.2 a _ ho).2 hlo
  have hnm : s.vm.findClass "[J" = some (G.2.1 1) := eNm1.2 G s (hK.2 1 _ rfl).2
  obtain ⟨c0, t0', f1, f2, f3⟩ := Cond.castable_spec (va_Nw.use (A := args) rfl (hA.2.2.2.2.2.2.2.2.2.2.1 _ (List.mem_filter.mpr ⟨q6, rfl⟩)))
  cases hnm.symm.trans f1
  have hcellT : T.heap[a]? = some (vp_cell (G.2.1 1) (N, .inr (.inl f))) := by rw [hT]; exact hcell
  obtain ⟨-, kA, hkA, comp, hkind⟩ := State.isArrayOf_alike X.warmed.alike ((hK.2 1 _ rfl).1 0 (fun _ => .null))
  obtain ⟨-, kS, hkS, compS, hkindS⟩ := (hK.2 1 _ rfl).1 0 (fun _ => .null)
  have hsz : (vp_cell (G.2.1 1) (N, .inr (.inl f))).slots.size = N := arrV_size _ _ _
  obtain ⟨vm', X', st'⟩ := X.cloneArray hA.1 hA.2.2.2.2.2.1 (hts _ q1) (hts _ q2) (hts _ q3) (hts _ q4) (hts _ q5) (a := a) (cell := vp_cell (G.2.1 1) (N, .inr (.inl f))) hcellT (fun k h => by cases h) (fun h => by cases h) hnm f2 f3
    (fun i v hv => by
      have hk' : T.vm.classes[G.2.1 1]? = some kA := hkA
      have hi : i < N := by
        have := (Array.getElem?_eq_some_iff.mp hv).1
        rw [hsz] at this
        exact this
      have e9 : (vp_cell (G.2.1 1) (N, .inr (.inl f))).slots[i]? = some (.long (f i)) := arrV_read _ (fun j => .long (f j)) hi
      have ev : v = .long (f i) := Option.some.inj (hv.symm.trans e9)
      subst ev
      have hcls : (vp_cell (G.2.1 1) (N, .inr (.inl f))).cls = G.2.1 1 := rfl
      rw [hcls]
      simp [State.fitsSlot, State.slotType?, hk', hkind, eTy]
      rfl)
    (g := F0 m pc ls (.ref a :: st)) rfl (by show ls.size = c.maxLocals; rw [hl.1, hA.2.2.2.2.1]) rfl (by rw [hA.2.1]; exact D) hd (by show 2 * 0 + _ + 14 ≤ 128 * d; omega) (show cu + 1 ≤ mc by omega) (by rw [hsz]; show su + N ≤ ms; omega) (hloader := Vm.clonesLoader_of_array hkS hkindS)
  have hcellE : ({ cls := (vp_cell (G.2.1 1) (N, .inr (.inl f))).cls, slots := (vp_cell (G.2.1 1) (N, .inr (.inl f))).slots } : Cell) = vp_cell (G.2.1 1) (N, .inr (.inl f)) := rfl
  rw [hcellE, hsz] at X'
  generalize hH1 : H.push (vp_cell (G.2.1 1) (N, .inr (.inl f))) = H1
  have z1 : H1.size = H.size + 1 := by rw [← hH1, Array.size_push]
  have e1 : H1[H.size]? = some (vp_cell (G.2.1 1) (N, .inr (.inl f))) := by rw [← hH1, Array.getElem?_push_size]
  have o1 : ∀ q : Nat, q < H.size → H1[q]? = H[q]? := fun q hq => by rw [← hH1, Array.getElem?_push, if_neg (Nat.ne_of_lt hq)]
  obtain ⟨t, b1, b2⟩ := x1 p e s m args below meth c mc ms (cu + 1) (su + N) hA (by omega) (by omega) H1 locs ls (hR.nw z1 e1 o1) ⟨Nat.le_trans hS.1 (by omega), fun y h1 h2 => (o1 y (Nat.lt_of_lt_of_le h1 hS.1)).trans (hS.2.1 y h1 h2), hS.2.2⟩ hl ((T.setVm vm').pushCell (vp_cell (G.2.1 1) (N, .inr (.inl f)))) (by rw [← hH1, ← hT]; rfl) X'
  refine ⟨t, st' t ?_, b2⟩
  rw [hcellE, hT, hR.1]
  exact b1
/-- getClass() of an array of Objects -/
theorem e_getC {idx a : Nat} {x : vp_A} (D : decode M.2.2.1 pc = .ok (.invokevirtual idx, 3)) (q1 : Cond.methodLink M.1 idx ⟨"java/lang/Object", "getClass", "()Ljava/lang/Class;"⟩ ∈ lw_all) (q2 : Cond.selects "[Ljava/lang/Object;" ⟨"java/lang/Object", "getClass", "()Ljava/lang/Class;"⟩ ⟨"java/lang/Object", "getClass", "()Ljava/lang/Class;"⟩ ∈ lw_all) (q3 : Cond.instanceMethod ⟨"java/lang/Object", "getClass", "()Ljava/lang/Class;"⟩ ∈ lw_all) (q4 : Cond.native ⟨"java/lang/Object", "getClass", "()Ljava/lang/Class;"⟩ ∈ lw_all) (ho : h.1 a = some (.inl (G.2.1 3, x))) (hd : 1 ≤ d) (hc8 : (st.map fun v => v.category).sum ≤ 8)
    (x1 : E l lo G d M P (pc + 3) lv (.ref (G.2.2.2 8) :: st) h k n) : E l lo G d M P pc lv (.ref a :: st) h k n := by
  intro p e s m args below meth c mc ms cu su hA hc hs H locs ls hR hS hl
  have hts := hA.2.2.2.2.2.2.1
  have hKn := hA.2.2.2.2.2.2.2.2.2
  exact va_getC hA.1 hA.2.1 (by rw [hl.1, hA.2.2.2.2.1]) hA.2.2.2.2.2.1 (hts _ q1) (va_Dc.use hKn.2.2.2.2.2.1) (hts _ q2) (hts _ q3) (hts _ q4) hKn.2.2.2.2.1 (eArc hA hR eNm3 ho) hd (by show _ + 14 ≤ 128 * d; omega) D (x1 p e s m args below meth c mc ms cu su hA hc hs H locs ls hR hS hl)
theorem e_athrow {q : Nat} (D : decode M.2.2.1 pc = .ok (.athrow, 1)) (x1 : EX l lo G d M P pc lv st h k n q) : E l lo G d M P pc lv (.ref q :: st) h k n := by
  intro p e s m args below meth c mc ms cu su hA hc hs H locs ls hR hS hl
  exact vx_athrow hA.1 hA.2.1 D (x1 p e s m args below meth c mc ms cu su hA hc hs H locs ls hR hS hl)
/-- an entry of a table that what is thrown passes by -/
def ePass (M : eM) (pc : Nat) (E : String) (z : Nat × Nat × Nat × Nat) : Prop := covers ⟨z.1, z.2.1, z.2.2.1, z.2.2.2⟩ pc = false ∨ (z.2.2.2 ≠ 0 ∧ Cond.classLink M.1 z.2.2.2 RX10 ∈ lw_all ∧ E = RX8)
theorem eThr {p : Program} {s : State} {m : MethodId} {args : Array Value} {meth : Method} {c : Code} {H : Heap} {q ci : Nat} {fs : List Value} {r : vw_C} (hA : eAct lo G M p s m args meth c) (hR : eRep G lo h H) (hq : h.1 q = some (.inr (ci, fs))) (hr : eCl[ci]? = some r) (hlo : lo ≤ q) : ∃ ce : Cell, H[q]? = some ce ∧ ce.vm = .none ∧ s.vm.findClass r.1 = some ce.cls := by
  obtain ⟨r', g1, cell, q1, q2, q3, q4⟩ := (hR.2.2 q _ hq).2 hlo
  cases Option.some.inj (g1.symm.trans hr)
  exact ⟨cell, q1, q3, by rw [q2]; exact (hA.2.2.2.2.2.2.2.2.2.1.1 ci _ hr).2.1⟩
theorem ex_catch {q ci : Nat} {fs : List Value} {r : vw_C} {nm : String} (pre : List (Nat × Nat × Nat × Nat)) (x : Nat × Nat × Nat × Nat) (suf : List (Nat × Nat × Nat × Nat)) (hsplit : eTab M = pre ++ x :: suf) (hx : covers ⟨x.1, x.2.1, x.2.2.1, x.2.2.2⟩ pc = true) (h0 : x.2.2.2 ≠ 0) (hpass : ∀ z ∈ pre, ePass M pc r.1 z) (q1 : Cond.classLink M.1 x.2.2.2 nm ∈ lw_all) (q2 : Cond.castable r.1 nm ∈ lw_tbl) (hq : h.1 q = some (.inr (ci, fs))) (hr : eCl[ci]? = some r) (hlo : lo ≤ q)
    (x1 : E l lo G d M P x.2.2.1 lv [.ref q] h k n) : EX l lo G d M P pc lv st h k n q := by
  intro p e s m args below meth c mc ms cu su hA hc hs H locs ls hR hS hl
  have hts := hA.2.2.2.2.2.2.1
  have hKn := hA.2.2.2.2.2.2.2.2.2
  obtain ⟨ce, g1, g2, g3⟩ := eThr hA hR hq hr hlo
  refine vx_catch (E := r.1) (name := nm) hA.2.2.2.2.2.1 (tableOf pre) ⟨x.1, x.2.1, x.2.2.1, x.2.2.2⟩ (tableOf suf) (by rw [hA.2.2.2.2.2.2.2.2.1, hsplit]; simp [tableOf]) (fun z hz => ?_) hx h0 (hts _ q1) (va_Nw.use rfl (hKn.2.1 _ (List.mem_filter.mpr ⟨q2, rfl⟩))) g1 g2 g3 (x1 p e s m args below meth c mc ms cu su hA hc hs H locs ls hR hS hl)
  obtain ⟨w, hw, rfl⟩ := List.mem_map.mp hz
  rcases hpass w hw with a | ⟨a1, a2, a3⟩
  · exact Or.inl a
  · exact Or.inr ⟨a1, RX10, hts _ a2, by rw [a3]; exact hKn.2.2.2.2.2.2.2.2.1⟩
theorem ex_out {q ci : Nat} {fs : List Value} {r : vw_C} (hpass : ∀ z ∈ eTab M, ePass M pc r.1 z) (hq : h.1 q = some (.inr (ci, fs))) (hr : eCl[ci]? = some r) (hlo : lo ≤ q) (hP : P (.inr q) h) : EX l lo G d M P pc lv st h k n q := by
  intro p e s m args below meth c mc ms cu su hA hc hs H locs ls hR hS hl
  have hts := hA.2.2.2.2.2.2.1
  have hKn := hA.2.2.2.2.2.2.2.2.2
  obtain ⟨ce, g1, g2, g3⟩ := eThr hA hR hq hr hlo
  refine vx_outP (E := r.1) hA.2.2.2.2.2.1 hA.2.2.2.1 (fun z hz => ?_) g1 g2 g3 (fun t ht _ => ⟨h, ci, fs, r, hP, hq, hr, rfl, by rw [ht]; exact hR, hS.F ht⟩) hS.2.2 (by omega) (by omega)
  rw [hA.2.2.2.2.2.2.2.2.1] at hz
  obtain ⟨w, hw, rfl⟩ := List.mem_map.mp hz
  rcases hpass w hw with a | ⟨a1, a2, a3⟩
  · exact Or.inl a
  · exact Or.inr ⟨a1, RX10, hts _ a2, by rw [a3]; exact hKn.2.2.2.2.2.2.2.2.1⟩
end ERC
