/-! E-rows: references in arrays, casts, constants -/
section ER
variable {l : Launch} {lo : Nat} {G : eG} {d : Nat} {M : eM} {P : eO → eH → Prop} {pc : Nat} {lv : List (Option Value)} {st : List Value} {h : eH} {k n : Nat}
theorem eObj {p : Program} {s : State} {m : MethodId} {args : Array Value} {meth : Method} {c : Code} {H : Heap} {o ci : Nat} {fs : List Value} {r : vw_C} (hA : eAct lo G M p s m args meth c) (hR : eRep G lo h H) (ho : h.1 o = some (.inr (ci, fs))) (hr : eCl[ci]? = some r) : ∃ cell : Cell, H[o]? = some cell ∧ cell.vm.isStatics = false ∧ s.vm.findClass r.1 = some cell.cls := by
  obtain ⟨r', cell, g1, g2, g3, g4, g5, g6⟩ := (hR.2.2 o _ ho).1
  cases Option.some.inj (g1.symm.trans hr)
  exact ⟨cell, g2, g5, by rw [g3]; exact (hA.2.2.2.2.2.2.2.2.2.1.1 ci _ hr).2.1⟩
/-- an array class's name, by its number -/
def eNm (t : Nat) (nm : String) : Prop := (∀ G : eG, (eTys G)[t]? = some (G.2.1 t, eTy t)) ∧ ∀ (G : eG) (U : State), va_RA U (G.2.1 t) (eTy t) → U.vm.findClass nm = some (G.2.1 t)
theorem eNm0 : eNm 0 "[I" := ⟨fun _ => rfl, fun _ _ h => h⟩
theorem eNm1 : eNm 1 "[J" := ⟨fun _ => rfl, fun _ _ h => h⟩
theorem eNm2 : eNm 2 "[B" := ⟨fun _ => rfl, fun _ _ h => h⟩
theorem eNm3 : eNm 3 "[Ljava/lang/Object;" := ⟨fun _ => rfl, fun _ _ h => by obtain ⟨kA, comp, h1, h2, h3, h4⟩ := h; exact h4⟩
theorem eNm4 : eNm 4 "[[I" := ⟨fun _ => rfl, fun _ _ h => h⟩
theorem eNm5 : eNm 5 "[[J" := ⟨fun _ => rfl, fun _ _ h => h⟩
theorem eArc {p : Program} {s : State} {m : MethodId} {args : Array Value} {meth : Method} {c : Code} {H : Heap} {a t : Nat} {v : vp_A} {nm : String} (hA : eAct lo G M p s m args meth c) (hR : eRep G lo h H) (hn : eNm t nm) (ho : h.1 a = some (.inl (G.2.1 t, v))) : ∃ cell : Cell, H[a]? = some cell ∧ cell.vm.isStatics = false ∧ s.vm.findClass nm = some cell.cls := by
  obtain ⟨cell, g2, g3, g4, g5, g6, g7⟩ := (hR.2.2 a _ ho).1
  exact ⟨cell, g2, g5, by rw [g3]; exact hn.2 G s ((hA.2.2.2.2.2.2.2.2.2.1.2 t _ (hn.1 G)).2)⟩
/-- a cell of a named class -/
def eIs (G : eG) (h : eH) (a : Nat) (nm : String) : Prop := (∃ ci fs r, h.1 a = some (.inr (ci, fs)) ∧ eCl[ci]? = some r ∧ r.1 = nm) ∨ ∃ t v, eNm t nm ∧ h.1 a = some (.inl (G.2.1 t, v))
theorem eIs_o {a ci : Nat} {fs : List Value} {r : vw_C} (h1 : h.1 a = some (.inr (ci, fs))) (h2 : eCl[ci]? = some r) : eIs G h a r.1 := Or.inl ⟨ci, fs, r, h1, h2, rfl⟩
theorem eIs_a {a t : Nat} {v : vp_A} {nm : String} (h1 : eNm t nm) (h2 : h.1 a = some (.inl (G.2.1 t, v))) : eIs G h a nm := Or.inr ⟨t, v, h1, h2⟩
theorem eIs_c {p : Program} {s : State} {m : MethodId} {args : Array Value} {meth : Method} {c : Code} {H : Heap} {a : Nat} {nm : String} (hA : eAct lo G M p s m args meth c) (hR : eRep G lo h H) (hi : eIs G h a nm) : ∃ cell : Cell, H[a]? = some cell ∧ cell.vm.isStatics = false ∧ s.vm.findClass nm = some cell.cls := by
  rcases hi with ⟨ci, fs, r, h1, h2, rfl⟩ | ⟨t, v, h1, h2⟩
  · exact eObj hA hR h1 h2
  · exact eArc hA hR h1 h2
theorem e_castE {idx a : Nat} {nm : String} (D : decode M.2.2.1 pc = .ok (.checkcast idx, 3)) (q : Cond.classLink M.1 idx nm ∈ lw_all) (hi : eIs G h a nm) (x1 : E l lo G d M P (pc + 3) lv (.ref a :: st) h k n) : E l lo G d M P pc lv (.ref a :: st) h k n := by
  intro p e s m args below meth c mc ms cu su hA hc hs H locs ls hR hS hl
  exact va_castE hA.1 hA.2.1 hA.2.2.2.2.2.1 (hA.2.2.2.2.2.2.1 _ q) (eIs_c hA hR hi) D (x1 p e s m args below meth c mc ms cu su hA hc hs H locs ls hR hS hl)
theorem e_castY {idx a : Nat} {nm C : String} (D : decode M.2.2.1 pc = .ok (.checkcast idx, 3)) (q : Cond.classLink M.1 idx nm ∈ lw_all) (q2 : Cond.castable C nm ∈ lw_tbl) (hi : eIs G h a C) (x1 : E l lo G d M P (pc + 3) lv (.ref a :: st) h k n) : E l lo G d M P pc lv (.ref a :: st) h k n := by
  intro p e s m args below meth c mc ms cu su hA hc hs H locs ls hR hS hl
  exact va_castY hA.1 hA.2.1 hA.2.2.2.2.2.1 (hA.2.2.2.2.2.2.1 _ q) (hA.2.2.2.2.2.2.2.2.2.2.1 _ (List.mem_filter.mpr ⟨q2, rfl⟩)) (eIs_c hA hR hi) D (x1 p e s m args below meth c mc ms cu su hA hc hs H locs ls hR hS hl)
theorem e_castN {idx : Nat} (D : decode M.2.2.1 pc = .ok (.checkcast idx, 3)) (x1 : E l lo G d M P (pc + 3) lv (.null :: st) h k n) : E l lo G d M P pc lv (.null :: st) h k n := by
  intro p e s m args below meth c mc ms cu su hA hc hs H locs ls hR hS hl
  intro T hT X
  obtain ⟨t, a1, b1⟩ := x1 p e s m args below meth c mc ms cu su hA hc hs H locs ls hR hS hl T hT X
  exact ⟨t, X.checkcastNull hA.1 (g := F0 m pc ls (.null :: st)) rfl rfl (by rw [hA.2.1]; exact D) t a1, b1⟩
theorem e_instE {idx a : Nat} {nm : String} (D : decode M.2.2.1 pc = .ok (.instanceof idx, 3)) (q : Cond.classLink M.1 idx nm ∈ lw_all) (hi : eIs G h a nm) (x1 : E l lo G d M P (pc + 3) lv (.int 1 :: st) h k n) : E l lo G d M P pc lv (.ref a :: st) h k n := by
  intro p e s m args below meth c mc ms cu su hA hc hs H locs ls hR hS hl
  exact va_instE hA.1 hA.2.1 hA.2.2.2.2.2.1 (hA.2.2.2.2.2.2.1 _ q) (eIs_c hA hR hi) D (x1 p e s m args below meth c mc ms cu su hA hc hs H locs ls hR hS hl)
theorem e_gets {idx i : Nat} {C nm ds : String} {v : Value} (D : decode M.2.2.1 pc = .ok (.getstatic idx, 3)) (hz : (eStat G)[i]? = some (C, nm, ds, v)) (q : Cond.fieldLink M.1 idx C nm ds ∈ lw_all) (x1 : E l lo G d M P (pc + 3) lv (v :: st) h k n) : E l lo G d M P pc lv st h k n := by
  intro p e s m args below meth c mc ms cu su hA hc hs H locs ls hR hS hl
  exact va_gets hA.1 hA.2.1 (hA.2.2.2.2.2.2.2.2.2.2.2.1 _ (List.mem_of_getElem? hz)) hS hA.2.2.2.2.2.1 (hA.2.2.2.2.2.2.1 _ q) (fun x hx => hx) D (x1 p e s m args below meth c mc ms cu su hA hc hs H locs ls hR hS hl)
theorem e_ldcS {idx i a : Nat} {tx : String} (D : decode M.2.2.1 pc = .ok (.ldc idx, 2)) (hz : (eStr G)[i]? = some (M.1, idx, tx, a)) (x1 : E l lo G d M P (pc + 2) lv (.ref a :: st) h k n) : E l lo G d M P pc lv st h k n := by
  intro p e s m args below meth c mc ms cu su hA hc hs H locs ls hR hS hl
  exact va_ldcS hA.1 hA.2.1 hA.2.2.2.2.2.1 (hA.2.2.2.2.2.2.2.2.2.2.2.2.1 _ (List.mem_of_getElem? hz)) D (x1 p e s m args below meth c mc ms cu su hA hc hs H locs ls hR hS hl)
theorem e_ldcM {idx : Nat} (D : decode M.2.2.1 pc = .ok (.ldc idx, 2)) (q : Cond.classLink M.1 idx "[Ljava/lang/Object;" ∈ lw_all) (x1 : E l lo G d M P (pc + 2) lv (.ref (G.2.2.2 8) :: st) h k n) : E l lo G d M P pc lv st h k n := by
  intro p e s m args below meth c mc ms cu su hA hc hs H locs ls hR hS hl
  exact va_ldcM hA.1 hA.2.1 hA.2.2.2.2.2.1 (hA.2.2.2.2.2.2.1 _ q) hA.2.2.2.2.2.2.2.2.2.2.2.2.2.1 D (x1 p e s m args below meth c mc ms cu su hA hc hs H locs ls hR hS hl)
theorem e_aaload6 {a N : Nat} {f : Nat → Option Nat} {i : Int32} (D : decode M.2.2.1 pc = .ok (.aaload, 1)) (ho : h.1 a = some (.inl (G.2.1 6, N, .inr (.inr (.inr (.inr f)))))) (hin : vp_in i N)
    (x1 : E l lo G d M P (pc + 1) lv (va_rf (f i.toNatClampNeg) :: st) h k n) : E l lo G d M P pc lv (.int i :: .ref a :: st) h k n := by
  intro p e s m args below meth c mc ms cu su hA hc hs H locs ls hR hS hl
  obtain ⟨cell, g2, g3, g4, g5, g6, g7⟩ := (hR.2.2 a _ ho).1
  have hlt : i.toNatClampNeg < N := Nat.not_le.mp fun q => hin (Or.inr q)
  have hAr := hA.2.2.2.2.2.2.2.2.2.2.2.2.2.2.2.1
  exact W.aald (v := va_rf (f i.toNatClampNeg)) (ty := eTy 6) hA.1 hA.2.1 g2 ⟨(fun k hk => by rw [hk] at g5; cases g5), by rw [g3]; exact (hAr 0 (fun _ => .null)).2⟩ rfl g4 (by rw [g6]; exact hin) (g7 _ hlt) rfl rfl D (x1 p e s m args below meth c mc ms cu su hA hc hs H locs ls hR hS hl)
/-- a store into an array of Objects -/
theorem e_aastore {a N v : Nat} {C : String} {f : Nat → Option Nat} {i : Int32} (D : decode M.2.2.1 pc = .ok (.aastore, 1)) (ho : h.1 a = some (.inl (G.2.1 3, N, .inr (.inr (.inr (.inr f)))))) (hlo : lo ≤ a) (hv : eIs G h v C) (q : Cond.castable C "java/lang/Object" ∈ lw_tbl) (hin : vp_in i N)
    (x1 : E l lo G d M P (pc + 1) lv st (eUp h a (.inl (G.2.1 3, N, .inr (.inr (.inr (.inr (va_up f i.toNatClampNeg (some v)))))))) k n) : E l lo G d M P pc lv (.ref v :: .int i :: .ref a :: st) h k n := by
  intro p e s m args below meth c mc ms cu su hA hc hs H locs ls hR hS hl
  have hcell : H[a]? = some (vp_cell (G.2.1 3) (N, .inr (.inr (.inr (.inr f))))) := (hR.2.2 a _ ho).2 hlo
  have hK := hA.2.2.2.2.2.2.2.2.2.1
  have hlt : i.toNatClampNeg < N := Nat.not_le.mp fun q => hin (Or.inr q)
  have h0 : ¬ i < 0 := fun q => hin (Or.inl q)
  obtain ⟨cellV, g1, g3, g4⟩ := eIs_c hA hR hv
  obtain ⟨kC, hkC, -⟩ := Vm.findClass_spec g4
  obtain ⟨c0, t0, f1, f2, f3⟩ := Cond.castable_spec (va_Nw.use (A := args) rfl (hA.2.2.2.2.2.2.2.2.2.2.1 _ (List.mem_filter.mpr ⟨q, rfl⟩)))
  cases g4.symm.trans f1
  obtain ⟨kA, comp, k1, k2, k3, -⟩ := (hK.2 3 _ rfl).2
  cases k3.symm.trans f2
  obtain ⟨kE, hkE, -⟩ := Vm.findClass_spec k3
  refine W.aast hA.1 hA.2.1 hcell (fun q h => by cases h) (fun h => by cases h) k1 k2 rfl hkE ⟨h0, by show _ < (arrV _ _ _).slots.size; rw [arrV_size]; exact hlt⟩ g1 (fun q h => by rw [h] at g3; cases g3) hkC f3 rfl rfl D fun H1 e1 z oq => ?_
  refine x1 p e s m args below meth c mc ms cu su hA hc hs H1 _ ls (hR.up z ?_ oq) (hS.put z oq hlo) hl
  show H1[a]? = some (vp_cell _ _)
  rw [e1, vp_cell_q, vp_cell_q, arrV_store]
  congr 2
  funext q
  by_cases hq : q = i.toNatClampNeg
  · subst hq
    simp [updV, va_up, va_rf]
  · simp [updV, va_up, hq]
theorem e_aastoreN {a N : Nat} {f : Nat → Option Nat} {i : Int32} (D : decode M.2.2.1 pc = .ok (.aastore, 1)) (ho : h.1 a = some (.inl (G.2.1 3, N, .inr (.inr (.inr (.inr f)))))) (hlo : lo ≤ a) (hin : vp_in i N)
    (x1 : E l lo G d M P (pc + 1) lv st (eUp h a (.inl (G.2.1 3, N, .inr (.inr (.inr (.inr (va_up f i.toNatClampNeg none))))))) k n) : E l lo G d M P pc lv (.null :: .int i :: .ref a :: st) h k n := by
  intro p e s m args below meth c mc ms cu su hA hc hs H locs ls hR hS hl
  have hcell : H[a]? = some (vp_cell (G.2.1 3) (N, .inr (.inr (.inr (.inr f))))) := (hR.2.2 a _ ho).2 hlo
  have hK := hA.2.2.2.2.2.2.2.2.2.1
  refine va_WaastN (C := "java/lang/Object") hA.1 hA.2.1 hcell ((hK.2 3 _ rfl).1 N (fun j => va_rf (f j))) (fun h => by cases h) (by show ¬ (i < 0 ∨ (arrV _ _ _).slots.size ≤ _); rw [arrV_size]; exact hin) rfl rfl D fun H1 e1 z oq => ?_
  refine x1 p e s m args below meth c mc ms cu su hA hc hs H1 _ ls (hR.up z ?_ oq) (hS.put z oq hlo) hl
  show H1[a]? = some (vp_cell _ _)
  rw [e1, vp_cell_q, vp_cell_q, arrV_store]
  congr 2
  funext q
  by_cases hq : q = i.toNatClampNeg
  · subst hq
    simp [updV, va_up, va_rf]
  · simp [updV, va_up, hq]
theorem eAO {M : eM} {lo : Nat} {G : eG} {p : Program} {s : State} {m : MethodId} {args : Array Value} {meth : Method} {c : Code} (hA : eAct lo G M p s m args meth c) {ty : FieldType} (q : Cond.arrayOver ty ∈ lw_tbl) : (Cond.arrayOver ty).before args s = true := hA.2.2.2.2.2.2.2.2.2.2.1 _ (List.mem_filter.mpr ⟨q, rfl⟩)
/-- a new array of references -/
theorem eNewR {p : Program} {s : State} {m : MethodId} {args : Array Value} {meth : Method} {c : Code} {H : Heap} {locs : List Loc} {t N : Nat} (hA : eAct lo G M p s m args meth c) (hR : eRep G lo h H) (hS : va_S (eA lo) s.heap H locs) : let H1 := H.push ({ cls := G.2.1 t, slots := Array.replicate N .null, vm := .none } : Cell)
    eRep G lo (eNw h (.inl (G.2.1 t, N, .inr (.inr (.inr (.inr (fun _ => none))))))) H1 ∧ va_S (eA lo) s.heap H1 locs := by
  intro H1
  have z1 : H1.size = H.size + 1 := Array.size_push _
  have e1 : H1[H.size]? = some (arrV (G.2.1 t) N (fun _ => .null)) := by show (H.push _)[H.size]? = _; rw [Array.getElem?_push_size, ← arrV_new]
  have o1 : ∀ q : Nat, q < H.size → H1[q]? = H[q]? := fun q hq => by show (H.push _)[q]? = _; rw [Array.getElem?_push, if_neg (Nat.ne_of_lt hq)]
  exact ⟨hR.nw z1 e1 o1, ⟨Nat.le_trans hS.1 (by omega), fun q hq hn => (o1 q (Nat.lt_of_lt_of_le hq hS.1)).trans (hS.2.1 q hq hn), hS.2.2⟩⟩
theorem e_anewarray {idx N : Nat} {i : Int32} (D : decode M.2.2.1 pc = .ok (.anewarray idx, 3)) (q : Cond.classLink M.1 idx "java/lang/Object" ∈ lw_all) (q2 : Cond.arrayOver (.object "java/lang/Object") ∈ lw_tbl) (hi : ¬ i < 0) (hN : i.toNatClampNeg = N) (hb : N * 4 ≤ 536870912) {k1 n1 : Nat} (hk : k1 + 1 ≤ k) (hs0 : n1 + N ≤ n)
    (x1 : E l lo G d M P (pc + 3) lv (.ref h.2 :: st) (eNw h (.inl (G.2.1 3, N, .inr (.inr (.inr (.inr (fun _ => none))))))) k1 n1) : E l lo G d M P pc lv (.int i :: st) h k n := by
  intro p e s m args below meth c mc ms cu su hA hc hs H locs ls hR hS hl
  subst hN
  have hK := hA.2.2.2.2.2.2.2.2.2.1
  refine W.anew hA.1 hA.2.1 hA.2.2.2.2.2.1 (hA.2.2.2.2.2.2.1 _ q) (eAO hA q2) rfl D rfl hi hb (show cu + 1 ≤ mc by omega) (show su + i.toNatClampNeg ≤ ms by omega) fun cA kA comp f1 f2 f3 f4 => ?_
  have hcA : cA = G.2.1 3 := Option.some.inj (f1.symm.trans (eNm3.2 G s (hK.2 3 _ rfl).2))
  subst hcA
  obtain ⟨r1, r2⟩ := eNewR (t := 3) (N := i.toNatClampNeg) hA hR hS
  have := x1 p e s m args below meth c mc ms (cu + 1) (su + i.toNatClampNeg) hA (by omega) (by omega) _ locs ls r1 r2 hl
  rw [← hR.1] at this
  exact this
theorem e_anewarrayJ {idx N : Nat} {i : Int32} (D : decode M.2.2.1 pc = .ok (.anewarray idx, 3)) (q : Cond.classLink M.1 idx "[J" ∈ lw_all) (q2 : Cond.arrayOver (.array .long) ∈ lw_tbl) (hi : ¬ i < 0) (hN : i.toNatClampNeg = N) (hb : N * 4 ≤ 536870912) {k1 n1 : Nat} (hk : k1 + 1 ≤ k) (hs0 : n1 + N ≤ n)
    (x1 : E l lo G d M P (pc + 3) lv (.ref h.2 :: st) (eNw h (.inl (G.2.1 5, N, .inr (.inr (.inr (.inr (fun _ => none))))))) k1 n1) : E l lo G d M P pc lv (.int i :: st) h k n := by
  intro p e s m args below meth c mc ms cu su hA hc hs H locs ls hR hS hl
  subst hN
  have hK := hA.2.2.2.2.2.2.2.2.2.1
  refine W.anewA (t := .long) hA.1 hA.2.1 hA.2.2.2.2.2.1 (hA.2.2.2.2.2.2.1 _ q) (eAO hA q2) rfl D rfl hi hb (show cu + 1 ≤ mc by omega) (show su + i.toNatClampNeg ≤ ms by omega) fun cA kA comp f1 f2 f3 f4 => ?_
  have hcA : cA = G.2.1 5 := Option.some.inj (f1.symm.trans (eNm5.2 G s (hK.2 5 _ rfl).2))
  subst hcA
  obtain ⟨r1, r2⟩ := eNewR (t := 5) (N := i.toNatClampNeg) hA hR hS
  have := x1 p e s m args below meth c mc ms (cu + 1) (su + i.toNatClampNeg) hA (by omega) (by omega) _ locs ls r1 r2 hl
  rw [← hR.1] at this
  exact this
/-- a store of an array of longs into an array of such -/
theorem e_aastoreJ {a N v : Nat} {x : vp_A} {f : Nat → Option Nat} {i : Int32} (D : decode M.2.2.1 pc = .ok (.aastore, 1)) (q2 : Cond.arrayOver (.array .long) ∈ lw_tbl) (ho : h.1 a = some (.inl (G.2.1 5, N, .inr (.inr (.inr (.inr f)))))) (hlo : lo ≤ a) (hv : h.1 v = some (.inl (G.2.1 1, x))) (hin : vp_in i N)
    (x1 : E l lo G d M P (pc + 1) lv st (eUp h a (.inl (G.2.1 5, N, .inr (.inr (.inr (.inr (va_up f i.toNatClampNeg (some v)))))))) k n) : E l lo G d M P pc lv (.ref v :: .int i :: .ref a :: st) h k n := by
  intro p e s m args below meth c mc ms cu su hA hc hs H locs ls hR hS hl
  have hcell : H[a]? = some (vp_cell (G.2.1 5) (N, .inr (.inr (.inr (.inr f))))) := (hR.2.2 a _ ho).2 hlo
  have hK := hA.2.2.2.2.2.2.2.2.2.1
  have hlt : i.toNatClampNeg < N := Nat.not_le.mp fun q => hin (Or.inr q)
  have h0 : ¬ i < 0 := fun q => hin (Or.inl q)
  obtain ⟨cellV, g1, g3, g4⟩ := eArc hA hR eNm1 hv
  obtain ⟨kC, hkC, -⟩ := Vm.findClass_spec g4
  obtain ⟨comp, c5, k5, b1, -, b2, b3, b4⟩ := arrayOverA_spec (eAO hA q2)
  have h5 : c5 = G.2.1 5 := Option.some.inj (b4.symm.trans (eNm5.2 G s (hK.2 5 _ rfl).2))
  subst h5
  have hc1 : comp = cellV.cls := Option.some.inj (b1.symm.trans g4)
  subst hc1
  refine W.aast hA.1 hA.2.1 hcell (fun q h => by cases h) (fun h => by cases h) b2 b3 rfl hkC ⟨h0, by show _ < (arrV _ _ _).slots.size; rw [arrV_size]; exact hlt⟩ g1 (fun q h => by rw [h] at g3; cases g3) hkC (va_asg _ _) rfl rfl D fun H1 e1 z oq => ?_
  refine x1 p e s m args below meth c mc ms cu su hA hc hs H1 _ ls (hR.up z ?_ oq) (hS.put z oq hlo) hl
  show H1[a]? = some (vp_cell _ _)
  rw [e1, vp_cell_q, vp_cell_q, arrV_store]
  congr 2
  funext q
  by_cases hq : q = i.toNatClampNeg
  · subst hq
    simp [updV, va_up, va_rf]
  · simp [updV, va_up, hq]
end ER
