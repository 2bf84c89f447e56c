/-! contracts and calls of the E-layer -/
theorem eBlind {lo : Nat} {G : eG} {h : eH} {av : List Value} : FrameBlind (va_Pc av (fun U => eRep G lo h U.heap ∧ eKn lo G U U.heap)) :=
  fun _ U g mk q => ⟨q.1, q.2.1, eKn.moved (s := U) (U := U.calling g mk _) q.2.2 (State.WarmedH.refl U) (fun _ _ _ => rfl)⟩
theorem eGood {M : eM} (q : eCode M ∈ lw_all) : GoodIn lw_all (eWs M) := by
  intro w hw
  rcases List.mem_cons.mp hw with e | e
  · rw [e]
    exact lw_self _ q
  · exact lw_self _ e
section EC
variable {l : Launch} {lo : Nat} {G : eG} {d : Nat} {M : eM} {P : eO → eH → Prop} {h : eH} {k n : Nat}
/-- a contract out of the walk of the body -/
theorem Ct_of {args : List Value} (lv : List (Option Value)) (hy : plainName M.2.1.cls = true) (hown : M.1 = M.2.1.cls) (hln : (lg_sl args).length ≤ M.2.2.2.1) (hlv : ∀ (j : Nat) (w : Value), lv[j]? = some (some w) → (j, w) ∈ lv_args 0 args) (body : E l lo G d M P 0 lv [] h k n) : Ct l lo G d M args h k n P := by
  have main : ∀ (p : Program) (e : Env) (s : State) (m : MethodId) (args' : Array Value) (below : List Frame) (meth : Method) (c : Code) (s₁ : State), BodyLoose p l M.2.1 (headSpec (eWs M) (eRm d k n)) M.2.2.1 M.2.2.2.1 M.2.2.2.2.1 e s m args' below meth c s₁ → c.maxLocals = M.2.2.2.1 → c.exceptionTable.toList = tableOf (eTab M) → va_Pc args (fun U => eRep G lo h U.heap ∧ eKn lo G U U.heap) args' s →
      W p l e (eRm d k n) s m args' below meth c s.heap [] 0 0 (eMQ lo G P below args' s k n) (entryFrame m args' M.2.2.2.1) := by
    intro p e s m args' below meth c s₁ B hml ht hP
    obtain ⟨rfl, hR, hKn⟩ := hP
    have hts := atoms_spec (ws := eWs M) B.pre
    have hts : ∀ w ∈ lw_all, w.before _ s = true := fun w h => hts w (List.mem_cons_of_mem _ h)
    rw [lg_entry_eq]
    have hl := lv_entry args (n := M.2.2.2.1) hln
    refine body p e s m _ below meth c k n 0 0 ⟨B.exec, B.bytes, B.returns, B.notSynchronized, hml, by rw [hown]; exact findClass_of_methodNamed B.named, hts, (name_of_methodNamed B.named B.method).1, ht, hKn⟩ (by omega) (by omega) s.heap [] _ hR va_S.rf ⟨hl.1, hl.2.1, fun j w hj => hl.2.2 (j, w) (hlv j w hj)⟩
  cases hh : M.2.2.2.2.2 with
  | none =>
    refine vx_ofW (cc := M.2.2.1) (maxL := M.2.2.2.1) (ret := M.2.2.2.2.1) hy (ws' := lw_all) (by unfold eWs eCode; rw [hh]) ?_
    intro p e s m args' below meth c s₁ B hml ht hP
    refine main p e s m args' below meth c s₁ B hml ?_ hP
    have h0 : c.exceptionTable.toList = [] := by
      cases hx : c.exceptionTable.toList with
      | nil => rfl
      | cons a b => exact (ht a (by rw [hx]; exact List.mem_cons_self)).elim
    rw [h0]
    unfold eTab
    rw [hh]
    rfl
  | some hd =>
    refine vx_ofWH (cc := M.2.2.1) (maxL := M.2.2.2.1) (ret := M.2.2.2.2.1) (hh := hd) hy (ws' := lw_all) (by unfold eWs eCode; rw [hh]) ?_
    intro p e s m args' below meth c s₁ B hml hP
    refine main p e s m args' below meth c s₁ B hml ?_ hP
    have h1 := vx_table (x := M.2.1) B (atoms_spec (ws := eWs M) B.pre (Cond.codeWith M.2.1 M.2.2.1 M.2.2.2.1 M.2.2.2.2.1 hd) (by unfold eWs eCode; rw [hh]; exact List.mem_cons_self))
    rw [h1]
    unfold eTab
    rw [hh]
    rfl
/-- behind a call -/
theorem eGo {p : Program} {e : Env} {s : State} {m : MethodId} {args : Array Value} {below : List Frame} {meth : Method} {c : Code} {H : Heap} {locs : List Loc} {cells slots k' n' pc : Nat} {R : Room} {Q : State → Prop} {ls : Array Slot} {st0 rest : List Value} {P' : eO → eH → Prop} {a : Array Value}
    (hr : vx_Run p l e R s m args below meth c H locs cells slots k' n' (F0 m pc ls st0) rest (eQc lo G P' a) (eXc lo G P') (eA lo)) (hS : va_S (eA lo) s.heap H locs)
    (kk : ∀ (v : Option Value) (h' : eH) (H1 : Heap) (locs1 : List Loc), P' (.inl v) h' → eRep G lo h' H1 → va_S (eA lo) s.heap H1 locs1 → W p l e R s m args below meth c H1 locs1 (cells + k') (slots + n') Q (F0 m (pc + 3) ls (v.toList ++ rest)))
    (kx : ∀ (q : Nat) (h' : eH) (H1 : Heap) (locs1 : List Loc), P' (.inr q) h' → eRep G lo h' H1 → va_S (eA lo) s.heap H1 locs1 → vx_W p l e R s m args below meth c H1 locs1 (cells + k') (slots + n') Q (F0 m pc ls rest) q) :
    W p l e R s m args below meth c H locs cells slots Q (F0 m pc ls st0) := by
  intro T hT X
  rcases hr T hT X with ⟨v, st₀, t, T', L, h0, X', hL, e1, e2, ⟨v', h', hv, hp, hb, hF⟩, st⟩ | ⟨q, st₀, t, T', L, E9, ce, h0, X', hL, e1, e2, ⟨h', ci, fs, r, hp, -, -, -, hb, hF⟩, hce, hcv, hcl, st⟩
  · cases hv
    obtain ⟨k1, k2, k3⟩ := vx_keep h0 e1 hS (fun _ _ z => z) (fun _ z => z) hL hF
    obtain ⟨t2, a1, b1⟩ := kk v h' T'.heap (locs ++ L) hp (by rw [e1]; exact hb) k3 T' rfl X'
    exact ⟨t2, st t2 a1, b1⟩
  · obtain ⟨k1, k2, k3⟩ := vx_keep h0 e1 hS (fun _ _ z => z) (fun _ z => z) hL hF
    obtain ⟨t2, a1, b1⟩ := kx q h' T'.heap (locs ++ L) hp (by rw [e1]; exact hb) k3 T' rfl X'
    exact ⟨t2, st.trans a1, b1⟩
variable {pc : Nat} {lv : List (Option Value)} {st : List Value}
theorem ePre {s : State} {H : Heap} {locs : List Loc} {av : List Value} {M : eM} {p : Program} {m : MethodId} {args : Array Value} {meth : Method} {c : Code} (hA : eAct lo G M p s m args meth c) (hR : eRep G lo h H) (hS : va_S (eA lo) s.heap H locs) : PreS s H (va_Pc av (fun U => eRep G lo h U.heap ∧ eKn lo G U U.heap)) av :=
  ⟨eBlind, fun U hU hW => ⟨rfl, by rw [hU]; exact hR, eKn.moved hA.2.2.2.2.2.2.2.2.2 hW (fun a h1 h2 => by rw [hU]; exact hS.2.1 a h1 h2)⟩⟩
/-- facts of a callee, by its words -/
def eWk (M : eM) : Prop := eCode M ∈ lw_all ∧ Cond.initialized M.2.1.cls ∈ lw_all ∧ (M.2.1.cls ≠ "java/lang/invoke/MethodHandle" ∧ M.2.1.cls ≠ "java/lang/invoke/VarHandle") ∧ M.2.2.2.1 ≤ 109
theorem eLen {y : MethodName} {j : Nat} (h : (parseMethodDescriptor y.desc).map (fun d => d.parameters.length) = some j) : ∀ sig, parseMethodDescriptor y.desc = some sig → j = sig.parameters.length := fun sig hs => by
  rw [hs] at h
  exact (Option.some.inj h).symm
theorem e_callS {d' k' n' idx k1 n1 : Nat} {M' : eM} {P' : eO → eH → Prop} {As rest : List Value} (hC : Ct l lo G d' M' As h k' n' P') (D : decode M.2.2.1 pc = .ok (.invokestatic idx, 3)) (hw : eWk M') (q1 : Cond.methodLink M.1 idx M'.2.1 ∈ lw_all) (q2 : Cond.static M'.2.1 ∈ lw_all) (hnp : (parseMethodDescriptor M'.2.1.desc).map (fun d => d.parameters.length) = some As.length) (hd : d' + 1 ≤ d) (hst : st = As.reverse ++ rest) (hc8 : (rest.map fun v => v.category).sum ≤ 8) (hk : k1 + k' ≤ k) (hn : n1 + n' ≤ n)
    (x1 : ∀ (v : Option Value) (h' : eH), P' (.inl v) h' → E l lo G d M P (pc + 3) lv (v.toList ++ rest) h' k1 n1) (x2 : ∀ (q : Nat) (h' : eH), P' (.inr q) h' → EX l lo G d M P pc lv rest h' k1 n1 q) : E l lo G d M P pc lv st h k n := by
  intro p e s m args below meth c mc ms cu su hA hc hs H locs ls hR hS hl
  have hts := hA.2.2.2.2.2.2.1
  obtain ⟨w1, w2, w3, w4⟩ := hw
  have hws : ∀ w ∈ eWs M', ∀ (a' : Array Value) (U : State), s.WarmedH U.vm → w.before a' U = true := pay_in hts (eGood w1)
  have run : vx_Run p l e (eRm d mc ms) s m args below meth c H locs cu su k' n' (F0 m pc ls st) rest (eQc lo G P' As.toArray) (eXc lo G P') (eA lo) := by
    have SS : CallFix p m c M.2.2.1 M.2.2.2.1 s args lw_all M.1 := ⟨hA.1, hA.2.1, hA.2.2.2.2.1, hA.2.2.2.2.2.1, hts⟩
    have hlo' : 8 + (M'.2.2.2.1 + 11) + 128 * d' ≤ 128 * d := by omega
    cases hh : M'.2.2.2.2.2 with
    | none =>
      have hcd : eCode M' = Cond.code M'.2.1 M'.2.2.1 M'.2.2.2.1 M'.2.2.2.2.1 := by unfold eCode; rw [hh]
      exact vx_runS SS hC ⟨⟨rfl, rfl, hd, hlo', hws, by rw [← hcd]; exact List.mem_cons_self, by rw [← hcd]; exact hts _ w1, hts _ w2, w3, eLen hnp, hts _ q1⟩, hts _ q2⟩ (ePre hA hR hS) rfl rfl hl.1 hst (lv_room hc8) D ⟨show cu + k' ≤ mc by omega, show su + n' ≤ ms by omega⟩
    | some hd9 =>
      have hcd : eCode M' = Cond.codeWith M'.2.1 M'.2.2.1 M'.2.2.2.1 M'.2.2.2.2.1 hd9 := by unfold eCode; rw [hh]
      exact vx_runSX SS hC ⟨⟨rfl, rfl, hd, hlo', hws, by rw [← hcd]; exact List.mem_cons_self⟩, by rw [← hcd]; exact hts _ w1, hts _ w2, w3, eLen hnp, hts _ q1, hts _ q2⟩ (ePre hA hR hS) rfl rfl hl.1 hst (lv_room hc8) D ⟨show cu + k' ≤ mc by omega, show su + n' ≤ ms by omega⟩
  exact eGo run hS (fun v h' H1 locs1 hp hb hs1 => x1 v h' hp p e s m args below meth c mc ms (cu + k') (su + n') hA (by omega) (by omega) H1 locs1 ls hb hs1 hl) (fun q h' H1 locs1 hp hb hs1 => x2 q h' hp p e s m args below meth c mc ms (cu + k') (su + n') hA (by omega) (by omega) H1 locs1 ls hb hs1 hl)
theorem e_callV {d' k' n' idx k1 n1 ci o : Nat} {fs : List Value} {r : vw_C} {M' : eM} {P' : eO → eH → Prop} {As rest : List Value} (hC : Ct l lo G d' M' (.ref o :: As) h k' n' P') (D : decode M.2.2.1 pc = .ok (.invokevirtual idx, 3)) (hw : eWk M') (q1 : Cond.methodLink M.1 idx M'.2.1 ∈ lw_all) (q2 : Cond.instanceMethod M'.2.1 ∈ lw_all) (q3 : Cond.selects r.1 M'.2.1 M'.2.1 ∈ lw_all) (ho : h.1 o = some (.inr (ci, fs))) (hr : eCl[ci]? = some r) (hnp : (parseMethodDescriptor M'.2.1.desc).map (fun d => d.parameters.length) = some As.length) (hd : d' + 1 ≤ d) (hst : st = As.reverse ++ .ref o :: rest) (hc8 : (rest.map fun v => v.category).sum ≤ 8) (hk : k1 + k' ≤ k) (hn : n1 + n' ≤ n)
    (x1 : ∀ (v : Option Value) (h' : eH), P' (.inl v) h' → E l lo G d M P (pc + 3) lv (v.toList ++ rest) h' k1 n1) (x2 : ∀ (q : Nat) (h' : eH), P' (.inr q) h' → EX l lo G d M P pc lv rest h' k1 n1 q) : E l lo G d M P pc lv st h k n := by
  intro p e s m args below meth c mc ms cu su hA hc hs H locs ls hR hS hl
  have hts := hA.2.2.2.2.2.2.1
  obtain ⟨w1, w2, w3, w4⟩ := hw
  have hws : ∀ w ∈ eWs M', ∀ (a' : Array Value) (U : State), s.WarmedH U.vm → w.before a' U = true := pay_in hts (eGood w1)
  have hrecv : ∃ cellB : Cell, H[o]? = some cellB ∧ cellB.vm.isStatics = false ∧ s.vm.findClass r.1 = some cellB.cls := by
    obtain ⟨r', cell, g1, g2, g3, g4, g5, g6⟩ := (hR.2.2 o _ ho).1
    cases Option.some.inj (g1.symm.trans hr)
    exact ⟨cell, g2, g5, by rw [g3]; exact (hA.2.2.2.2.2.2.2.2.2.1.1 ci _ hr).2.1⟩
  have run : vx_Run p l e (eRm d mc ms) s m args below meth c H locs cu su k' n' (F0 m pc ls st) rest (eQc lo G P' (Value.ref o :: As).toArray) (eXc lo G P') (eA lo) := by
    have SS : CallFix p m c M.2.2.1 M.2.2.2.1 s args lw_all M.1 := ⟨hA.1, hA.2.1, hA.2.2.2.2.1, hA.2.2.2.2.2.1, hts⟩
    have hlo' : 8 + (M'.2.2.2.1 + 11) + 128 * d' ≤ 128 * d := by omega
    have hpv : PreV s H r.1 o (va_Pc (.ref o :: As) (fun U => eRep G lo h U.heap ∧ eKn lo G U U.heap)) As := ⟨eBlind, hrecv, (ePre (av := .ref o :: As) hA hR hS).2⟩
    cases hh : M'.2.2.2.2.2 with
    | none =>
      have hcd : eCode M' = Cond.code M'.2.1 M'.2.2.1 M'.2.2.2.1 M'.2.2.2.2.1 := by unfold eCode; rw [hh]
      exact vx_runV SS hC ⟨⟨rfl, rfl, hd, hlo', hws, by rw [← hcd]; exact List.mem_cons_self, by rw [← hcd]; exact hts _ w1, hts _ w2, w3, eLen hnp, hts _ q1⟩, hts _ q2, hts _ q3⟩ hpv rfl rfl hl.1 hst (lv_room hc8) D ⟨show cu + k' ≤ mc by omega, show su + n' ≤ ms by omega⟩
    | some hd9 =>
      have hcd : eCode M' = Cond.codeWith M'.2.1 M'.2.2.1 M'.2.2.2.1 M'.2.2.2.2.1 hd9 := by unfold eCode; rw [hh]
      exact vx_runVX SS hC ⟨⟨rfl, rfl, hd, hlo', hws, by rw [← hcd]; exact List.mem_cons_self⟩, by rw [← hcd]; exact hts _ w1, hts _ w2, w3, eLen hnp, hts _ q1, hts _ q2, hts _ q3⟩ hpv rfl rfl hl.1 hst (lv_room hc8) D ⟨show cu + k' ≤ mc by omega, show su + n' ≤ ms by omega⟩
  exact eGo run hS (fun v h' H1 locs1 hp hb hs1 => x1 v h' hp p e s m args below meth c mc ms (cu + k') (su + n') hA (by omega) (by omega) H1 locs1 ls hb hs1 hl) (fun q h' H1 locs1 hp hb hs1 => x2 q h' hp p e s m args below meth c mc ms (cu + k') (su + n') hA (by omega) (by omega) H1 locs1 ls hb hs1 hl)
/-- a constructor (or a superclass's) -/
theorem e_callI {d' k' n' idx k1 n1 o : Nat} {M' : eM} {P' : eO → eH → Prop} {As rest : List Value} (hC : Ct l lo G d' M' (.ref o :: As) h k' n' P') (D : decode M.2.2.1 pc = .ok (.invokespecial idx, 3)) (hw : eWk M') (hh : M'.2.2.2.2.2 = none) (hr0 : M'.2.2.2.2.1 = none) (hi : M'.2.1.name = "<init>") (q1 : Cond.methodLink M.1 idx M'.2.1 ∈ lw_all) (q2 : Cond.instanceMethod M'.2.1 ∈ lw_all) (hnp : (parseMethodDescriptor M'.2.1.desc).map (fun d => d.parameters.length) = some As.length) (hd : d' + 1 ≤ d) (hst : st = As.reverse ++ .ref o :: rest) (hc8 : (rest.map fun v => v.category).sum ≤ 8) (hk : k1 + k' ≤ k) (hn : n1 + n' ≤ n)
    (x1 : ∀ (v : Option Value) (h' : eH), P' (.inl v) h' → E l lo G d M P (pc + 3) lv (v.toList ++ rest) h' k1 n1) (x2 : ∀ (q : Nat) (h' : eH), P' (.inr q) h' → EX l lo G d M P pc lv rest h' k1 n1 q) : E l lo G d M P pc lv st h k n := by
  intro p e s m args below meth c mc ms cu su hA hc hs H locs ls hR hS hl
  have hts := hA.2.2.2.2.2.2.1
  obtain ⟨w1, w2, w3, w4⟩ := hw
  have hws : ∀ w ∈ eWs M', ∀ (a' : Array Value) (U : State), s.WarmedH U.vm → w.before a' U = true := pay_in hts (eGood w1)
  have run : vx_Run p l e (eRm d mc ms) s m args below meth c H locs cu su k' n' (F0 m pc ls st) rest (eQc lo G P' (Value.ref o :: As).toArray) (eXc lo G P') (eA lo) := by
    have SS : CallFix p m c M.2.2.1 M.2.2.2.1 s args lw_all M.1 := ⟨hA.1, hA.2.1, hA.2.2.2.2.1, hA.2.2.2.2.2.1, hts⟩
    have hlo' : 8 + (M'.2.2.2.1 + 11) + 128 * d' ≤ 128 * d := by omega
    have hcd : eCode M' = Cond.code M'.2.1 M'.2.2.1 M'.2.2.2.1 none := by unfold eCode; rw [hh, hr0]
    exact vx_runI SS hC ⟨⟨rfl, rfl, hd, hlo', hws, by rw [← hcd]; exact List.mem_cons_self, by rw [← hcd]; exact hts _ w1, hts _ w2, w3, eLen hnp, hts _ q1⟩, hi, hts _ q2⟩ (ePre (av := .ref o :: As) hA hR hS) rfl rfl hl.1 hst (lv_room hc8) D ⟨show cu + k' ≤ mc by omega, show su + n' ≤ ms by omega⟩
  exact eGo run hS (fun v h' H1 locs1 hp hb hs1 => x1 v h' hp p e s m args below meth c mc ms (cu + k') (su + n') hA (by omega) (by omega) H1 locs1 ls hb hs1 hl) (fun q h' H1 locs1 hp hb hs1 => x2 q h' hp p e s m args below meth c mc ms (cu + k') (su + n') hA (by omega) (by omega) H1 locs1 ls hb hs1 hl)
end EC
