/-! E-rows: a method that is declared above and found below -/
section ERE
variable {l : Launch} {lo : Nat} {G : eG} {d : Nat} {M : eM} {P : eO → eH → Prop} {pc : Nat} {lv : List (Option Value)} {st : List Value} {h : eH} {k n : Nat}
/-- a method x that owner declares, for an object's class found as M' -/
theorem e_callO {d' k' n' idx k1 n1 ci o : Nat} {fs : List Value} {r : vw_C} {owner : String} {x : MethodName} {M' : eM} {P' : eO → eH → Prop} {As rest : List Value} (hC : Ct l lo G d' M' (.ref o :: As) h k' n' P') (D : decode M.2.2.1 pc = .ok (.invokevirtual idx, 3)) (hw : eWk M') (hh : M'.2.2.2.2.2 = none) (q1 : Cond.methodLink M.1 idx x ∈ lw_all) (q4 : Cond.sameMethod x.cls owner x.name x.desc ∈ lw_all) (how : owner ≠ "java/lang/invoke/MethodHandle" ∧ owner ≠ "java/lang/invoke/VarHandle") (q5 : Cond.declares ⟨owner, x.name, x.desc⟩ ∈ lw_tbl) (q2 : Cond.instanceMethod M'.2.1 ∈ lw_all) (q3 : Cond.selects r.1 x M'.2.1 ∈ lw_all) (ho : h.1 o = some (.inr (ci, fs))) (hr : eCl[ci]? = some r) (hnp : (parseMethodDescriptor x.desc).map (fun d => d.parameters.length) = some As.length) (hd : d' + 1 ≤ d) (hst : st = As.reverse ++ .ref o :: rest) (hc8 : (rest.map fun v => v.category).sum ≤ 8) (hk : k1 + k' ≤ k) (hn : n1 + n' ≤ n)
    (x1 : ∀ (v : Option Value) (h' : eH), P' (.inl v) h' → E l lo G d M P (pc + 3) lv (v.toList ++ rest) h' k1 n1) (x2 : ∀ (q : Nat) (h' : eH), P' (.inr q) h' → EX l lo G d M P pc lv rest h' k1 n1 q) : E l lo G d M P pc lv st h k n := by
  intro p e s m args below meth c mc ms cu su hA hc hs H locs ls hR hS hl
  have hts := hA.2.2.2.2.2.2.1
  obtain ⟨w1, w2, w3, w4⟩ := hw
  have hws : ∀ w ∈ eWs M', ∀ (a' : Array Value) (U : State), s.WarmedH U.vm → w.before a' U = true := pay_in hts (eGood w1)
  have SS : CallFix p m c M.2.2.1 M.2.2.2.1 s args lw_all M.1 := ⟨hA.1, hA.2.1, hA.2.2.2.2.1, hA.2.2.2.2.2.1, hts⟩
  have hlo' : 8 + (M'.2.2.2.1 + 11) + 128 * d' ≤ 128 * d := by omega
  have hcd : eCode M' = Cond.code M'.2.1 M'.2.2.1 M'.2.2.2.1 M'.2.2.2.2.1 := by unfold eCode; rw [hh]
  have hcode : (Cond.code M'.2.1 M'.2.2.1 M'.2.2.2.1 M'.2.2.2.2.1).before args s = true := by rw [← hcd]; exact hts _ w1
  have run : vx_Run p l e (eRm d mc ms) s m args below meth c H locs cu su k' n' (F0 m pc ls st) rest (eQc lo G P' (Value.ref o :: As).toArray) (eXc lo G P') (eA lo) :=
    vx_runU (C := r.1) (owner := owner) SS hC ⟨⟨rfl, rfl, hd, hlo', hws, by rw [← hcd]; exact List.mem_cons_self⟩, hcode, hts _ w2, how, eLen hnp, hts _ q1, hts _ q4, va_Decl.abs (hA.2.2.2.2.2.2.2.2.2.2.1 _ (List.mem_filter.mpr ⟨q5, rfl⟩)), hts _ q3, hts _ q2⟩ (eRecv hA hR hS ho hr) rfl rfl hl.1 hst (lv_room hc8) D ⟨show cu + k' ≤ mc by omega, show su + n' ≤ ms by omega⟩
  exact eGo run hS (fun v h' H1 locs1 hp hb hs1 => x1 v h' hp p e s m args below meth c mc ms (cu + k') (su + n') hA (by omega) (by omega) H1 locs1 ls hb hs1 hl) (fun q h' H1 locs1 hp hb hs1 => x2 q h' hp p e s m args below meth c mc ms (cu + k') (su + n') hA (by omega) (by omega) H1 locs1 ls hb hs1 hl)
end ERE
