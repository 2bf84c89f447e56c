/-! E-rows: a method that is declared above and found below; a private method of a superclass -/
theorem eSel {C owner : String} {x y : MethodName} {args : Array Value} {s : State} (h1 : (Cond.sameMethod x.cls owner x.name x.desc).before args s = true) (h2 : (Cond.selects C ⟨owner, x.name, x.desc⟩ y).before args s = true) (how : owner ≠ "java/lang/invoke/MethodHandle" ∧ owner ≠ "java/lang/invoke/VarHandle") : (Cond.selects C x y).before args s = true := by
  obtain ⟨c, ck, r, -, -, -, hf, hn⟩ := Cond.sameMethod_found h1
  obtain ⟨c2, r2, m2, q1, q2, q3, q4, kP, hkP, hkPi⟩ := Cond.selects_spec h2
  have hr := State.methodFound?_of_named hn how
  cases hr.symm.trans q2
  simp only [Cond.before, Cond.holds, Cond.value, q1, hf, q3, q4, hkP]
  simp
  exact hkPi
theorem eSelP {C : String} {x z y : MethodName} {args : Array Value} {s : State} (hp : (Cond.privateMethod x).before args s = true) (hi : (Cond.instanceMethod x).before args s = true) (hs : (Cond.selects C z y).before args s = true) (hz : y.cls = x.cls) (how : x.cls ≠ "java/lang/invoke/MethodHandle" ∧ x.cls ≠ "java/lang/invoke/VarHandle") : (Cond.selects C x x).before args s = true := by
  obtain ⟨c2, r2, m2, q1, q2, q3, q4, kP, hkP, hkPi⟩ := Cond.selects_spec hs
  obtain ⟨mk, methM, hnamed, hmethM, -, -⟩ := Cond.instanceMethod_spec hi
  have hfound := State.methodFound?_of_named hnamed how
  have hcls : mk.cls = m2.cls := Option.some.inj ((findClass_of_methodNamed hnamed).symm.trans (by rw [← hz]; exact findClass_of_methodNamed q3))
  have hsel : selectMethod {} s.vm c2 mk = .method mk := selectMethod_private hmethM (Cond.privateMethod_at hp mk methM hnamed hmethM)
  simp only [Cond.before, Cond.holds, Cond.value, q1, hfound, hnamed, hsel, hcls, hkP]
  simp
  exact hkPi
section ERE
variable {l : Launch} {lo : Nat} {G : eG} {d : Nat} {M : eM} {P : eO → eH → Prop} {pc : Nat} {lv : List (Option Value)} {st : List Value} {h : eH} {k n : Nat}
/-- a method x that owner declares, for an object's class found as M' -/
theorem e_callO {d' k' n' idx k1 n1 ci o : Nat} {fs : List Value} {r : vw_C} {owner : String} {x : MethodName} {M' : eM} {P' : eO → eH → Prop} {As rest : List Value} (hC : Ct l lo G d' M' (.ref o :: As) h k' n' P') (D : decode M.2.2.1 pc = .ok (.invokevirtual idx, 3)) (hw : eWk M') (hh : M'.2.2.2.2.2 = none) (q1 : Cond.methodLink M.1 idx x ∈ lw_all) (q4 : Cond.sameMethod x.cls owner x.name x.desc ∈ lw_all) (how : owner ≠ "java/lang/invoke/MethodHandle" ∧ owner ≠ "java/lang/invoke/VarHandle") (q5 : Cond.declares ⟨owner, x.name, x.desc⟩ ∈ lw_tbl ∨ (Cond.instanceMethod ⟨owner, x.name, x.desc⟩ ∈ lw_all ∧ ∃ (b9 : ByteArray) (m9 : Nat) (r9 : Option FieldType), Cond.code ⟨owner, x.name, x.desc⟩ b9 m9 r9 ∈ lw_all)) (q2 : Cond.instanceMethod M'.2.1 ∈ lw_all) (q3 : Cond.selects r.1 ⟨owner, x.name, x.desc⟩ M'.2.1 ∈ lw_all) (ho : h.1 o = some (.inr (ci, fs))) (hr : eCl[ci]? = some r) (hnp : (parseMethodDescriptor x.desc).map (fun d => d.parameters.length) = some As.length) (hd : d' + 1 ≤ d) (hst : st = As.reverse ++ .ref o :: rest) (hc8 : (rest.map fun v => v.category).sum ≤ 8) (hk : k1 + k' ≤ k) (hn : n1 + n' ≤ n)
    (x1 : ∀ (v : Option Value) (h' : eH), P' (.inl v) h' → E l lo G d M P (pc + 3) lv (v.toList ++ rest) h' k1 n1) (x2 : ∀ (q : Nat) (h' : eH), P' (.inr q) h' → EX l lo G d M P pc lv rest h' k1 n1 q) : E l lo G d M P pc lv st h k n := by
  intro p e s m args below meth c mc ms cu su hA hc hs H locs ls hR hS hl
  have hts := hA.2.2.2.2.2.2.1
  obtain ⟨w1, w2, w3, w4⟩ := hw
  have hws : ∀ w ∈ eWs M', ∀ (a' : Array Value) (U : State), s.WarmedH U.vm → w.before a' U = true := pay_in hts (eGood w1)
  have SS : CallFix p m c M.2.2.1 M.2.2.2.1 s args lw_all M.1 := ⟨hA.1, hA.2.1, hA.2.2.2.2.1, hA.2.2.2.2.2.1, hts⟩
  have hlo' : 8 + (M'.2.2.2.1 + 11) + 128 * d' ≤ 128 * d := by omega
  have hcd : eCode M' = Cond.code M'.2.1 M'.2.2.1 M'.2.2.2.1 M'.2.2.2.2.1 := by unfold eCode; rw [hh]
  have hcode : (Cond.code M'.2.1 M'.2.2.1 M'.2.2.2.1 M'.2.2.2.2.1).before args s = true := by rw [← hcd]; exact hts _ w1
  have hde : va_Decl s ⟨owner, x.name, x.desc⟩ := by
    rcases q5 with q5 | ⟨q5, b9, m9, r9, q6⟩
    · exact va_Decl.abs (hA.2.2.2.2.2.2.2.2.2.2.1 _ (List.mem_filter.mpr ⟨q5, rfl⟩))
    · exact va_Decl.of (hts _ q5) (hts _ q6)
  have run : vx_Run p l e (eRm d mc ms) s m args below meth c H locs cu su k' n' (F0 m pc ls st) rest (eQc lo G P' (Value.ref o :: As).toArray) (eXc lo G P') (eA lo) :=
    vx_runU (C := r.1) (owner := owner) SS hC ⟨⟨rfl, rfl, hd, hlo', hws, by rw [← hcd]; exact List.mem_cons_self⟩, hcode, hts _ w2, how, eLen hnp, hts _ q1, hts _ q4, hde, eSel (hts _ q4) (hts _ q3) how, hts _ q2⟩ (eRecv hA hR hS ho hr) rfl rfl hl.1 hst (lv_room hc8) D ⟨show cu + k' ≤ mc by omega, show su + n' ≤ ms by omega⟩
  exact eGo run hS (fun v h' H1 locs1 hp hb hs1 => x1 v h' hp p e s m args below meth c mc ms (cu + k') (su + n') hA (by omega) (by omega) H1 locs1 ls hb hs1 hl) (fun q h' H1 locs1 hp hb hs1 => x2 q h' hp p e s m args below meth c mc ms (cu + k') (su + n') hA (by omega) (by omega) H1 locs1 ls hb hs1 hl)
/-- a private method of a superclass; z, y: any method that the object's class finds there -/
theorem e_callVP {d' k' n' idx k1 n1 ci o : Nat} {fs : List Value} {r : vw_C} (z y : MethodName) {M' : eM} {P' : eO → eH → Prop} {As rest : List Value} (hC : Ct l lo G d' M' (.ref o :: As) h k' n' P') (D : decode M.2.2.1 pc = .ok (.invokevirtual idx, 3)) (hw : eWk M') (hh : M'.2.2.2.2.2 = none) (q1 : Cond.methodLink M.1 idx M'.2.1 ∈ lw_all) (q2 : Cond.instanceMethod M'.2.1 ∈ lw_all) (q3 : Cond.selects r.1 z y ∈ lw_all) (hz : y.cls = M'.2.1.cls) (q4 : Cond.privateMethod M'.2.1 ∈ lw_tbl) (ho : h.1 o = some (.inr (ci, fs))) (hr : eCl[ci]? = some r) (hnp : (parseMethodDescriptor M'.2.1.desc).map (fun d => d.parameters.length) = some As.length) (hd : d' + 1 ≤ d) (hst : st = As.reverse ++ .ref o :: rest) (hc8 : (rest.map fun v => v.category).sum ≤ 8) (hk : k1 + k' ≤ k) (hn : n1 + n' ≤ n)
    (x1 : ∀ (v : Option Value) (h' : eH), P' (.inl v) h' → E l lo G d M P (pc + 3) lv (v.toList ++ rest) h' k1 n1) (x2 : ∀ (q : Nat) (h' : eH), P' (.inr q) h' → EX l lo G d M P pc lv rest h' k1 n1 q) : E l lo G d M P pc lv st h k n := by
  intro p e s m args below meth c mc ms cu su hA hc hs H locs ls hR hS hl
  have hts := hA.2.2.2.2.2.2.1
  obtain ⟨w1, w2, w3, w4⟩ := hw
  have hws : ∀ w ∈ eWs M', ∀ (a' : Array Value) (U : State), s.WarmedH U.vm → w.before a' U = true := pay_in hts (eGood w1)
  have hrecv : ∃ cellB : Cell, H[o]? = some cellB ∧ cellB.vm.isStatics = false ∧ s.vm.findClass r.1 = some cellB.cls := by
    obtain ⟨r', cell, g1, g2, g3, g4, g5, g6⟩ := (hR.2.2 o _ ho).1
    cases Option.some.inj (g1.symm.trans hr)
    exact ⟨cell, g2, g5, by rw [g3]; exact (hA.2.2.2.2.2.2.2.2.2.1.1 ci _ hr).2.1⟩
  have SS : CallFix p m c M.2.2.1 M.2.2.2.1 s args lw_all M.1 := ⟨hA.1, hA.2.1, hA.2.2.2.2.1, hA.2.2.2.2.2.1, hts⟩
  have hlo' : 8 + (M'.2.2.2.1 + 11) + 128 * d' ≤ 128 * d := by omega
  have hpv : PreV s H r.1 o (va_Pc (.ref o :: As) (fun U => eRep G lo h U.heap ∧ eKn lo G U U.heap)) As := ⟨eBlind, hrecv, (ePre (av := .ref o :: As) hA hR hS).2⟩
  have hcd : eCode M' = Cond.code M'.2.1 M'.2.2.1 M'.2.2.2.1 M'.2.2.2.2.1 := by unfold eCode; rw [hh]
  have run : vx_Run p l e (eRm d mc ms) s m args below meth c H locs cu su k' n' (F0 m pc ls st) rest (eQc lo G P' (Value.ref o :: As).toArray) (eXc lo G P') (eA lo) :=
    vx_runV SS hC ⟨⟨rfl, rfl, hd, hlo', hws, by rw [← hcd]; exact List.mem_cons_self, by rw [← hcd]; exact hts _ w1, hts _ w2, w3, eLen hnp, hts _ q1⟩, hts _ q2, eSelP (eWord hA q4 rfl rfl) (hts _ q2) (hts _ q3) hz w3⟩ hpv rfl rfl hl.1 hst (lv_room hc8) D ⟨show cu + k' ≤ mc by omega, show su + n' ≤ ms by omega⟩
  exact eGo run hS (fun v h' H1 locs1 hp hb hs1 => x1 v h' hp p e s m args below meth c mc ms (cu + k') (su + n') hA (by omega) (by omega) H1 locs1 ls hb hs1 hl) (fun q h' H1 locs1 hp hb hs1 => x2 q h' hp p e s m args below meth c mc ms (cu + k') (su + n') hA (by omega) (by omega) H1 locs1 ls hb hs1 hl)
end ERE
