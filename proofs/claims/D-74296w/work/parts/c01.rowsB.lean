/-! E-rows: arrays of arrays; calls of other kinds -/
section ERB
variable {l : Launch} {lo : Nat} {G : eG} {d : Nat} {M : eM} {P : eO → eH → Prop} {pc : Nat} {lv : List (Option Value)} {st : List Value} {h : eH} {k n : Nat}
/-- an array of N arrays of K ints is made -/
def eMw (G : eG) (h : eH) (N K : Nat) : eH := (fun b => if b = h.2 then some (.inl (G.2.1 4, N, .inr (.inr (.inr (.inr (fun j => some (h.2 + 1 + j))))))) else if h.2 < b ∧ b ≤ h.2 + N then some (.inl (G.2.1 0, K, .inl (fun _ => 0))) else h.1 b, h.2 + 1 + N)
theorem outerC_arr (c : ClassId) (N h0 : Nat) : ∀ i, Jvm.Free.Multi.outerC c N h0 i = arrV c N (fun j => if j < i then .ref (h0 + 1 + j) else .null) := by
  intro i
  induction i with
  | zero =>
    show ({ cls := c, slots := Array.replicate N .null, vm := .none } : Cell) = _
    rw [arrV_new]
    congr 1
  | succ i ih =>
    show (Jvm.Free.Multi.outerC c N h0 i).setSlot i (.ref (h0 + 1 + i)) = _
    rw [ih, arrV_store]
    congr 1
    funext j
    unfold updV
    by_cases q : j = i
    · subst q; rw [if_pos rfl, if_pos (by omega)]
    · rw [if_neg q]
      show (if j < i then Value.ref (h0 + 1 + j) else Value.null) = _
      by_cases q2 : j < i
      · rw [if_pos q2, if_pos (by omega)]
      · rw [if_neg q2, if_neg (by omega)]
theorem arrV_cut (c : ClassId) (N : Nat) (f g : Nat → Value) (hfg : ∀ j, j < N → f j = g j) : arrV c N f = arrV c N g := by
  unfold arrV
  congr 2
  funext j
  exact hfg j.1 j.2
theorem e_multinew {idx N K : Nat} {i j : Int32} (D : decode M.2.2.1 pc = .ok (.multianewarray idx 2, 4)) (q : Cond.classLink M.1 idx "[[I" ∈ lw_all) (q2 : Cond.arrayOver (.array .int) ∈ lw_tbl) (q3 : Cond.arrayClass .int ∈ lw_all) (hi : ¬ i < 0) (hj : ¬ j < 0) (hN : i.toNatClampNeg = N) (hK : j.toNatClampNeg = K) (hb1 : N * 4 ≤ 536870912) (hb2 : K * 4 ≤ 536870912) {k1 n1 : Nat} (hk : k1 + (1 + N) ≤ k) (hs0 : n1 + (N + N * K) ≤ n)
    (x1 : E l lo G d M P (pc + 4) lv (.ref h.2 :: st) (eMw G h N K) k1 n1) : E l lo G d M P pc lv (.int j :: .int i :: st) h k n := by
  intro p e s m args below meth c mc ms cu su hA hc hs H locs ls hR hS hl
  subst hN hK
  have hKn := hA.2.2.2.2.2.2.2.2.2.1
  have hts := hA.2.2.2.2.2.2.1
  intro T hT X
  obtain ⟨vm₁, cA, comp, hW, f1, f2, -, -, X', st'⟩ := X.multianewarray2F hA.1 (own := M.1) (index := idx) (ty := .int) hA.2.2.2.2.2.1 (hts _ q) (eAO hA q2) (hts _ q3) (g := F0 m pc ls (.int j :: .int i :: st)) rfl (by rw [hA.2.1]; exact D) rfl hi hj hb1 hb2 (by omega) rfl rfl (show cu + (1 + i.toNatClampNeg) ≤ mc by omega) (show su + (i.toNatClampNeg + i.toNatClampNeg * j.toNatClampNeg) ≤ ms by omega)
  have c4 : cA = G.2.1 4 := Option.some.inj (f1.symm.trans (eNm4.2 G s (hKn.2 4 _ rfl).2))
  have c0 : comp = G.2.1 0 := Option.some.inj (f2.symm.trans (eNm0.2 G s (hKn.2 0 _ rfl).2))
  subst c4 c0
  have hT' : (T.setVm vm₁).heap = H := hT
  obtain ⟨g1, g2, -, -⟩ := Jvm.Free.Multi.fill_facts (T.setVm vm₁) (G.2.1 4) (G.2.1 0) i.toNatClampNeg j.toNatClampNeg (defaultValue .int) i.toNatClampNeg
  have g3 := fun a (ha : a < (T.setVm vm₁).heap.size) => Jvm.Free.Multi.fill_old (T.setVm vm₁) (G.2.1 4) (G.2.1 0) i.toNatClampNeg j.toNatClampNeg (defaultValue .int) ha i.toNatClampNeg
  have g4 := fun x (hx : x < i.toNatClampNeg) => Jvm.Free.Multi.fill_inner (T.setVm vm₁) (G.2.1 4) (G.2.1 0) i.toNatClampNeg j.toNatClampNeg (defaultValue .int) i.toNatClampNeg x hx
  generalize Jvm.Free.Multi.fill (T.setVm vm₁) (G.2.1 4) (G.2.1 0) i.toNatClampNeg j.toNatClampNeg (defaultValue .int) i.toNatClampNeg = T2 at g1 g2 g3 g4 X' st'
  rw [hT'] at g1 g2 g3 g4
  have hR2 : eRep G lo (eMw G h i.toNatClampNeg j.toNatClampNeg) T2.heap := by
    refine ⟨by rw [g1, hR.1]; rfl, ⟨Nat.le_trans hR.2.1.1 (by show h.2 ≤ h.2 + 1 + _; omega), fun b y hb hl => ?_⟩, fun b y hb => ?_⟩
    · have hb2 : (if b = h.2 then some _ else if h.2 < b ∧ b ≤ h.2 + i.toNatClampNeg then some _ else h.1 b) = some y := hb
      by_cases b1 : b = h.2
      · rw [if_pos b1] at hb2
        cases hb2
        trivial
      · rw [if_neg b1] at hb2
        by_cases b2 : h.2 < b ∧ b ≤ h.2 + i.toNatClampNeg
        · rw [if_pos b2] at hb2
          cases hb2
          trivial
        · rw [if_neg b2] at hb2
          exact (hR.2.1.2 b y hb2 hl).kept (g3 b (hR.2.2 b y hb2).1.lt)
    by_cases b1 : b = h.2
    · have : y = .inl (G.2.1 4, i.toNatClampNeg, .inr (.inr (.inr (.inr (fun j => some (h.2 + 1 + j)))))) := by
        have hb2 : (if b = h.2 then some _ else _) = some y := hb
        rw [if_pos b1] at hb2
        exact (Option.some.inj hb2).symm
      subst this
      have he : va_at G.1 eCl (b, .inl (G.2.1 4, i.toNatClampNeg, .inr (.inr (.inr (.inr (fun j => some (h.2 + 1 + j))))))) T2.heap := by
        show T2.heap[b]? = some (vp_cell _ _)
        rw [b1, ← hR.1, g2, outerC_arr, vp_cell_q]
        congr 1
        refine arrV_cut _ _ _ _ (fun x hx => ?_)
        rw [if_pos hx]
        rfl
      exact ⟨eRd_of he, fun _ => he⟩
    · by_cases b2 : h.2 < b ∧ b ≤ h.2 + i.toNatClampNeg
      · have : y = .inl (G.2.1 0, j.toNatClampNeg, .inl (fun _ => 0)) := by
          have hb2 : (if b = h.2 then some _ else if h.2 < b ∧ b ≤ h.2 + i.toNatClampNeg then some _ else _) = some y := hb
          rw [if_neg b1, if_pos b2] at hb2
          exact (Option.some.inj hb2).symm
        subst this
        have he : va_at G.1 eCl (b, .inl (G.2.1 0, j.toNatClampNeg, .inl (fun _ => 0))) T2.heap := by
          show T2.heap[b]? = some (vp_cell _ _)
          obtain ⟨x, rfl⟩ : ∃ x, b = H.size + 1 + x := ⟨b - h.2 - 1, by rw [hR.1]; omega⟩
          rw [g4 x (by rw [hR.1] at b2; omega)]
          show some ({ cls := G.2.1 0, slots := Array.replicate j.toNatClampNeg (.int 0), vm := .none } : Cell) = _
          rw [arrV_new, vp_cell_i]
        exact ⟨eRd_of he, fun _ => he⟩
      · have hb' : h.1 b = some y := by simpa [eMw, b1, b2] using hb
        obtain ⟨h1, h2⟩ := hR.2.2 b y hb'
        have := g3 b h1.lt
        exact ⟨h1.kept this, fun hlo => va_at.kept (q := (b, y)) (h2 hlo) this⟩
  have hS2 : va_S (eA lo) s.heap T2.heap locs := ⟨Nat.le_trans hS.1 (by omega), fun q hq hn => (g3 q (Nat.lt_of_lt_of_le hq hS.1)).trans (hS.2.1 q hq hn), hS.2.2⟩
  obtain ⟨t, a1, b1⟩ := x1 p e s m args below meth c mc ms (cu + 1 + i.toNatClampNeg) (su + i.toNatClampNeg + i.toNatClampNeg * j.toNatClampNeg) hA (by omega) (by omega) T2.heap locs ls hR2 hS2 hl T2 rfl X'
  refine ⟨t, st' t ?_, b1⟩
  rw [← hR.1, ← hT] at a1
  exact a1
/-- behind an interface's call -/
theorem eGo5 {p : Program} {e : Env} {s : State} {m : MethodId} {args : Array Value} {below : List Frame} {meth : Method} {c : Code} {H : Heap} {locs : List Loc} {cells slots k' n' pc : Nat} {R : Room} {Q : State → Prop} {ls : Array Slot} {st0 rest : List Value} {P' : eO → eH → Prop} {a : Array Value}
    (hr : vx_Run5 p l e R s m args below meth c H locs cells slots k' n' (F0 m pc ls st0) rest (eQc lo G P' a) (eXc lo G P') (eA lo)) (hS : va_S (eA lo) s.heap H locs)
    (kk : ∀ (v : Option Value) (h' : eH) (H1 : Heap) (locs1 : List Loc), P' (.inl v) h' → eRep G lo h' H1 → va_S (eA lo) s.heap H1 locs1 → W p l e R s m args below meth c H1 locs1 (cells + k') (slots + n') Q (F0 m (pc + 5) ls (v.toList ++ rest)))
    (kx : ∀ (q : Nat) (h' : eH) (H1 : Heap) (locs1 : List Loc), P' (.inr q) h' → eRep G lo h' H1 → va_S (eA lo) s.heap H1 locs1 → vx_W p l e R s m args below meth c H1 locs1 (cells + k') (slots + n') Q (F0 m pc ls rest) q) :
    W p l e R s m args below meth c H locs cells slots Q (F0 m pc ls st0) := by
  intro T hT X
  rcases hr T hT X with ⟨v, st₀, t, T', L, h0, X', hL, e1, e2, ⟨v', h', hv, hp, hb, hF⟩, st⟩ | ⟨q, st₀, t, T', L, E9, ce, h0, X', hL, e1, e2, ⟨h', ci, fs, r, hp, -, -, -, hb, hF⟩, hce, hcv, hcl, st⟩
  · cases hv
    obtain ⟨k1, k2, k3⟩ := vx_keep h0 e1 hS (fun _ _ z => z) (fun _ z => z) hL hF
    obtain ⟨t2, a1, b1⟩ := kk v h' T'.heap (locs ++ L) hp (by rw [e1]; exact hb) k3 T' rfl X'
    exact ⟨t2, st t2 a1, b1⟩
  · obtain ⟨k1, k2, k3⟩ := vx_keep h0 e1 hS (fun _ _ z => z) (fun _ z => z) hL hF
    obtain ⟨t2, a1, b1⟩ := kx q h' T'.heap (locs ++ L) hp (by rw [e1]; exact hb) k3 T' rfl X'
    exact ⟨t2, st.trans a1, b1⟩
theorem eRecv {s : State} {H : Heap} {p : Program} {m : MethodId} {args : Array Value} {meth : Method} {c : Code} {locs : List Loc} {o ci : Nat} {fs : List Value} {r : vw_C} {As : List Value} (hA : eAct lo G M p s m args meth c) (hR : eRep G lo h H) (hS : va_S (eA lo) s.heap H locs) (ho : h.1 o = some (.inr (ci, fs))) (hr : eCl[ci]? = some r) : PreV s H r.1 o (va_Pc (.ref o :: As) (fun U => eRep G lo h U.heap ∧ eKn lo G U U.heap)) As :=
  ⟨eBlind, eObj hA hR ho hr, (ePre (av := .ref o :: As) hA hR hS).2⟩
/-- an interface's method x, found as M' -/
theorem e_callF {d' k' n' idx count k1 n1 ci o i : Nat} {fs : List Value} {r : vw_C} {x : MethodName} {M' : eM} {P' : eO → eH → Prop} {As rest : List Value} (hC : Ct l lo G d' M' (.ref o :: As) h k' n' P') (D : decode M.2.2.1 pc = .ok (.invokeinterface idx count, 5)) (hw : eWk M') (hh : M'.2.2.2.2.2 = none) (hx : eFws[i]? = some (r.1, x, M'.2.1)) (q1 : Cond.methodLink M.1 idx x ∈ lw_all) (q2 : Cond.instanceMethod M'.2.1 ∈ lw_all) (q3 : Cond.selects r.1 x M'.2.1 ∈ lw_all) (ho : h.1 o = some (.inr (ci, fs))) (hr : eCl[ci]? = some r) (hnp : (parseMethodDescriptor x.desc).map (fun d => d.parameters.length) = some As.length) (hd : d' + 1 ≤ d) (hst : st = As.reverse ++ .ref o :: rest) (hc8 : (rest.map fun v => v.category).sum ≤ 8) (hk : k1 + k' ≤ k) (hn : n1 + n' ≤ n)
    (x1 : ∀ (v : Option Value) (h' : eH), P' (.inl v) h' → E l lo G d M P (pc + 5) lv (v.toList ++ rest) h' k1 n1) (x2 : ∀ (q : Nat) (h' : eH), P' (.inr q) h' → EX l lo G d M P pc lv rest h' k1 n1 q) : E l lo G d M P pc lv st h k n := by
  intro p e s m args below meth c mc ms cu su hA hc hs H locs ls hR hS hl
  have hts := hA.2.2.2.2.2.2.1
  obtain ⟨w1, w2, w3, w4⟩ := hw
  have hws : ∀ w ∈ eWs M', ∀ (a' : Array Value) (U : State), s.WarmedH U.vm → w.before a' U = true := pay_in hts (eGood w1)
  have hF : va_Fw r.1 x M'.2.1 s := hA.2.2.2.2.2.2.2.2.2.2.2.2.2.2.2.2.1 _ (List.mem_of_getElem? hx)
  have hmh := eFws_ok _ (List.mem_of_getElem? hx)
  have SS : CallFix p m c M.2.2.1 M.2.2.2.1 s args lw_all M.1 := ⟨hA.1, hA.2.1, hA.2.2.2.2.1, hA.2.2.2.2.2.1, hts⟩
  have hlo' : 8 + (M'.2.2.2.1 + 11) + 128 * d' ≤ 128 * d := by omega
  have hcd : eCode M' = Cond.code M'.2.1 M'.2.2.1 M'.2.2.2.1 M'.2.2.2.2.1 := by unfold eCode; rw [hh]
  have run : vx_Run5 p l e (eRm d mc ms) s m args below meth c H locs cu su k' n' (F0 m pc ls st) rest (eQc lo G P' (Value.ref o :: As).toArray) (eXc lo G P') (eA lo) :=
    vx_runF (hA.2.2.2.2.2.2.2.2.2.1.1 ci _ hr).2 SS hC ⟨⟨rfl, rfl, hd, hlo', hws, by rw [← hcd]; exact List.mem_cons_self⟩, hts _ q1, va_any rfl hF.1, va_any rfl hF.2.1, hts _ q3, hts _ q2, va_any rfl hF.2.2.1, va_any rfl hF.2.2.2.1, va_any rfl hF.2.2.2.2, hts _ w2, by rw [← hcd]; exact hts _ w1, hmh, eLen hnp⟩ (eRecv hA hR hS ho hr) rfl rfl hl.1 hst (lv_room hc8) D ⟨show cu + k' ≤ mc by omega, show su + n' ≤ ms by omega⟩
  exact eGo5 run hS (fun v h' H1 locs1 hp hb hs1 => x1 v h' hp p e s m args below meth c mc ms (cu + k') (su + n') hA (by omega) (by omega) H1 locs1 ls hb hs1 hl) (fun q h' H1 locs1 hp hb hs1 => x2 q h' hp p e s m args below meth c mc ms (cu + k') (su + n') hA (by omega) (by omega) H1 locs1 ls hb hs1 hl)
/-- a method x of an object's class, found as M' in a class above -/
theorem e_callU {d' k' n' idx k1 n1 ci o : Nat} {fs : List Value} {r : vw_C} {x : MethodName} {M' : eM} {P' : eO → eH → Prop} {As rest : List Value} (hC : Ct l lo G d' M' (.ref o :: As) h k' n' P') (D : decode M.2.2.1 pc = .ok (.invokevirtual idx, 3)) (hw : eWk M') (hh : M'.2.2.2.2.2 = none) (hx : M'.2.1 = ⟨M'.2.1.cls, x.name, x.desc⟩) (q1 : Cond.methodLink M.1 idx x ∈ lw_all) (q4 : Cond.sameMethod x.cls M'.2.1.cls x.name x.desc ∈ lw_all) (q2 : Cond.instanceMethod M'.2.1 ∈ lw_all) (q3 : Cond.selects r.1 x M'.2.1 ∈ lw_all) (ho : h.1 o = some (.inr (ci, fs))) (hr : eCl[ci]? = some r) (hnp : (parseMethodDescriptor x.desc).map (fun d => d.parameters.length) = some As.length) (hd : d' + 1 ≤ d) (hst : st = As.reverse ++ .ref o :: rest) (hc8 : (rest.map fun v => v.category).sum ≤ 8) (hk : k1 + k' ≤ k) (hn : n1 + n' ≤ n)
    (x1 : ∀ (v : Option Value) (h' : eH), P' (.inl v) h' → E l lo G d M P (pc + 3) lv (v.toList ++ rest) h' k1 n1) (x2 : ∀ (q : Nat) (h' : eH), P' (.inr q) h' → EX l lo G d M P pc lv rest h' k1 n1 q) : E l lo G d M P pc lv st h k n := by
  intro p e s m args below meth c mc ms cu su hA hc hs H locs ls hR hS hl
  have hts := hA.2.2.2.2.2.2.1
  obtain ⟨w1, w2, w3, w4⟩ := hw
  have hws : ∀ w ∈ eWs M', ∀ (a' : Array Value) (U : State), s.WarmedH U.vm → w.before a' U = true := pay_in hts (eGood w1)
  have SS : CallFix p m c M.2.2.1 M.2.2.2.1 s args lw_all M.1 := ⟨hA.1, hA.2.1, hA.2.2.2.2.1, hA.2.2.2.2.2.1, hts⟩
  have hlo' : 8 + (M'.2.2.2.1 + 11) + 128 * d' ≤ 128 * d := by omega
  have hcd : eCode M' = Cond.code M'.2.1 M'.2.2.1 M'.2.2.2.1 M'.2.2.2.2.1 := by unfold eCode; rw [hh]
  have hcode : (Cond.code M'.2.1 M'.2.2.1 M'.2.2.2.1 M'.2.2.2.2.1).before args s = true := by rw [← hcd]; exact hts _ w1
  have run : vx_Run p l e (eRm d mc ms) s m args below meth c H locs cu su k' n' (F0 m pc ls st) rest (eQc lo G P' (Value.ref o :: As).toArray) (eXc lo G P') (eA lo) :=
    vx_runU (C := r.1) (owner := M'.2.1.cls) SS hC ⟨⟨rfl, rfl, hd, hlo', hws, by rw [← hcd]; exact List.mem_cons_self⟩, hcode, hts _ w2, w3, eLen hnp, hts _ q1, hts _ q4, by rw [← hx]; exact va_Decl.of (hts _ q2) hcode, hts _ q3, hts _ q2⟩ (eRecv hA hR hS ho hr) rfl rfl hl.1 hst (lv_room hc8) D ⟨show cu + k' ≤ mc by omega, show su + n' ≤ ms by omega⟩
  exact eGo run hS (fun v h' H1 locs1 hp hb hs1 => x1 v h' hp p e s m args below meth c mc ms (cu + k') (su + n') hA (by omega) (by omega) H1 locs1 ls hb hs1 hl) (fun q h' H1 locs1 hp hb hs1 => x2 q h' hp p e s m args below meth c mc ms (cu + k') (su + n') hA (by omega) (by omega) H1 locs1 ls hb hs1 hl)
/-- a nest mate's static method -/
theorem e_callSN {d' k' n' idx k1 n1 : Nat} {host : String} {M' : eM} {P' : eO → eH → Prop} {As rest : List Value} (hC : Ct l lo G d' M' As h k' n' P') (D : decode M.2.2.1 pc = .ok (.invokestatic idx, 3)) (hw : eWk M') (hh : M'.2.2.2.2.2 = none) (q1 : Cond.methodLinkNest M.1 idx M'.2.1 host ∈ lw_tbl) (q2 : Cond.static M'.2.1 ∈ lw_all) (hnp : (parseMethodDescriptor M'.2.1.desc).map (fun d => d.parameters.length) = some As.length) (hd : d' + 1 ≤ d) (hst : st = As.reverse ++ rest) (hc8 : (rest.map fun v => v.category).sum ≤ 8) (hk : k1 + k' ≤ k) (hn : n1 + n' ≤ n)
    (x1 : ∀ (v : Option Value) (h' : eH), P' (.inl v) h' → E l lo G d M P (pc + 3) lv (v.toList ++ rest) h' k1 n1) (x2 : ∀ (q : Nat) (h' : eH), P' (.inr q) h' → EX l lo G d M P pc lv rest h' k1 n1 q) : E l lo G d M P pc lv st h k n := by
  intro p e s m args below meth c mc ms cu su hA hc hs H locs ls hR hS hl
  have hts := hA.2.2.2.2.2.2.1
  obtain ⟨w1, w2, w3, w4⟩ := hw
  have hws : ∀ w ∈ eWs M', ∀ (a' : Array Value) (U : State), s.WarmedH U.vm → w.before a' U = true := pay_in hts (eGood w1)
  have SS : CallFix p m c M.2.2.1 M.2.2.2.1 s args lw_all M.1 := ⟨hA.1, hA.2.1, hA.2.2.2.2.1, hA.2.2.2.2.2.1, hts⟩
  have hlo' : 8 + (M'.2.2.2.1 + 11) + 128 * d' ≤ 128 * d := by omega
  have hcd : eCode M' = Cond.code M'.2.1 M'.2.2.1 M'.2.2.2.1 M'.2.2.2.2.1 := by unfold eCode; rw [hh]
  have hcode : (Cond.code M'.2.1 M'.2.2.1 M'.2.2.2.1 M'.2.2.2.2.1).before args s = true := by rw [← hcd]; exact hts _ w1
  have run : vx_Run p l e (eRm d mc ms) s m args below meth c H locs cu su k' n' (F0 m pc ls st) rest (eQc lo G P' As.toArray) (eXc lo G P') (eA lo) :=
    vx_runSN SS hC ⟨⟨⟨rfl, rfl, hd, hlo', hws, by rw [← hcd]; exact List.mem_cons_self⟩, hcode, hts _ w2, w3, eLen hnp, eWord hA q1 rfl rfl⟩, hts _ q2, trivial⟩ (ePre hA hR hS) rfl rfl hl.1 hst (lv_room hc8) D ⟨show cu + k' ≤ mc by omega, show su + n' ≤ ms by omega⟩
  exact eGo run hS (fun v h' H1 locs1 hp hb hs1 => x1 v h' hp p e s m args below meth c mc ms (cu + k') (su + n') hA (by omega) (by omega) H1 locs1 ls hb hs1 hl) (fun q h' H1 locs1 hp hb hs1 => x2 q h' hp p e s m args below meth c mc ms (cu + k') (su + n') hA (by omega) (by omega) H1 locs1 ls hb hs1 hl)
/-- a nest mate's constructor -/
theorem e_callIN {d' k' n' idx k1 n1 o : Nat} {host : String} {M' : eM} {P' : eO → eH → Prop} {As rest : List Value} (hC : Ct l lo G d' M' (.ref o :: As) h k' n' P') (D : decode M.2.2.1 pc = .ok (.invokespecial idx, 3)) (hw : eWk M') (hh : M'.2.2.2.2.2 = none) (hr0 : M'.2.2.2.2.1 = none) (hi : M'.2.1.name = "<init>") (q1 : Cond.methodLinkNest M.1 idx M'.2.1 host ∈ lw_tbl) (q2 : Cond.instanceMethod M'.2.1 ∈ lw_all) (hnp : (parseMethodDescriptor M'.2.1.desc).map (fun d => d.parameters.length) = some As.length) (hd : d' + 1 ≤ d) (hst : st = As.reverse ++ .ref o :: rest) (hc8 : (rest.map fun v => v.category).sum ≤ 8) (hk : k1 + k' ≤ k) (hn : n1 + n' ≤ n)
    (x1 : ∀ (v : Option Value) (h' : eH), P' (.inl v) h' → E l lo G d M P (pc + 3) lv (v.toList ++ rest) h' k1 n1) (x2 : ∀ (q : Nat) (h' : eH), P' (.inr q) h' → EX l lo G d M P pc lv rest h' k1 n1 q) : E l lo G d M P pc lv st h k n := by
  intro p e s m args below meth c mc ms cu su hA hc hs H locs ls hR hS hl
  have hts := hA.2.2.2.2.2.2.1
  obtain ⟨w1, w2, w3, w4⟩ := hw
  have hws : ∀ w ∈ eWs M', ∀ (a' : Array Value) (U : State), s.WarmedH U.vm → w.before a' U = true := pay_in hts (eGood w1)
  have SS : CallFix p m c M.2.2.1 M.2.2.2.1 s args lw_all M.1 := ⟨hA.1, hA.2.1, hA.2.2.2.2.1, hA.2.2.2.2.2.1, hts⟩
  have hlo' : 8 + (M'.2.2.2.1 + 11) + 128 * d' ≤ 128 * d := by omega
  have hcd : eCode M' = Cond.code M'.2.1 M'.2.2.1 M'.2.2.2.1 none := by unfold eCode; rw [hh, hr0]
  have hcode : (Cond.code M'.2.1 M'.2.2.1 M'.2.2.2.1 none).before args s = true := by rw [← hcd]; exact hts _ w1
  have run : vx_Run p l e (eRm d mc ms) s m args below meth c H locs cu su k' n' (F0 m pc ls st) rest (eQc lo G P' (Value.ref o :: As).toArray) (eXc lo G P') (eA lo) :=
    vx_runIN SS hC ⟨⟨⟨rfl, rfl, hd, hlo', hws, by rw [← hcd]; exact List.mem_cons_self⟩, hcode, hts _ w2, w3, eLen hnp, eWord hA q1 rfl rfl⟩, hi, hts _ q2⟩ (ePre (av := .ref o :: As) hA hR hS) rfl rfl hl.1 hst (lv_room hc8) D ⟨show cu + k' ≤ mc by omega, show su + n' ≤ ms by omega⟩
  exact eGo run hS (fun v h' H1 locs1 hp hb hs1 => x1 v h' hp p e s m args below meth c mc ms (cu + k') (su + n') hA (by omega) (by omega) H1 locs1 ls hb hs1 hl) (fun q h' H1 locs1 hp hb hs1 => x2 q h' hp p e s m args below meth c mc ms (cu + k') (su + n') hA (by omega) (by omega) H1 locs1 ls hb hs1 hl)
/-- super's method -/
theorem e_callSU {d' k' n' idx k1 n1 ci o : Nat} {fs : List Value} {r : vw_C} {M' : eM} {P' : eO → eH → Prop} {As rest : List Value} (hC : Ct l lo G d' M' (.ref o :: As) h k' n' P') (D : decode M.2.2.1 pc = .ok (.invokespecial idx, 3)) (hw : eWk M') (hh : M'.2.2.2.2.2 = none) (hi : M'.2.1.name ≠ "<init>") (q1 : Cond.methodLink M.1 idx M'.2.1 ∈ lw_all) (q4 : Cond.sameMethod M'.2.1.cls M'.2.1.cls M'.2.1.name M'.2.1.desc ∈ lw_all) (q5 : Cond.superclass M.1 M'.2.1.cls ∈ lw_all) (q2 : Cond.instanceMethod M'.2.1 ∈ lw_all) (ho : h.1 o = some (.inr (ci, fs))) (hr : eCl[ci]? = some r) (hnp : (parseMethodDescriptor M'.2.1.desc).map (fun d => d.parameters.length) = some As.length) (hd : d' + 1 ≤ d) (hst : st = As.reverse ++ .ref o :: rest) (hc8 : (rest.map fun v => v.category).sum ≤ 8) (hk : k1 + k' ≤ k) (hn : n1 + n' ≤ n)
    (x1 : ∀ (v : Option Value) (h' : eH), P' (.inl v) h' → E l lo G d M P (pc + 3) lv (v.toList ++ rest) h' k1 n1) (x2 : ∀ (q : Nat) (h' : eH), P' (.inr q) h' → EX l lo G d M P pc lv rest h' k1 n1 q) : E l lo G d M P pc lv st h k n := by
  intro p e s m args below meth c mc ms cu su hA hc hs H locs ls hR hS hl
  have hts := hA.2.2.2.2.2.2.1
  obtain ⟨w1, w2, w3, w4⟩ := hw
  have hws : ∀ w ∈ eWs M', ∀ (a' : Array Value) (U : State), s.WarmedH U.vm → w.before a' U = true := pay_in hts (eGood w1)
  have SS : CallFix p m c M.2.2.1 M.2.2.2.1 s args lw_all M.1 := ⟨hA.1, hA.2.1, hA.2.2.2.2.1, hA.2.2.2.2.2.1, hts⟩
  have hlo' : 8 + (M'.2.2.2.1 + 11) + 128 * d' ≤ 128 * d := by omega
  have hcd : eCode M' = Cond.code M'.2.1 M'.2.2.1 M'.2.2.2.1 M'.2.2.2.2.1 := by unfold eCode; rw [hh]
  have hcode : (Cond.code M'.2.1 M'.2.2.1 M'.2.2.2.1 M'.2.2.2.2.1).before args s = true := by rw [← hcd]; exact hts _ w1
  have run : vx_Run p l e (eRm d mc ms) s m args below meth c H locs cu su k' n' (F0 m pc ls st) rest (eQc lo G P' (Value.ref o :: As).toArray) (eXc lo G P') (eA lo) :=
    vx_runSU (hA.2.2.2.2.2.2.2.2.2.1.1 ci _ hr).2 SS hC ⟨⟨rfl, rfl, hd, hlo', hws, by rw [← hcd]; exact List.mem_cons_self⟩, hts _ q1, hts _ q4, hts _ q5, hts _ q2, hts _ w2, hcode, hi, eLen hnp⟩ (eRecv hA hR hS ho hr) rfl rfl hl.1 hst (lv_room hc8) D ⟨show cu + k' ≤ mc by omega, show su + n' ≤ ms by omega⟩
  exact eGo run hS (fun v h' H1 locs1 hp hb hs1 => x1 v h' hp p e s m args below meth c mc ms (cu + k') (su + n') hA (by omega) (by omega) H1 locs1 ls hb hs1 hl) (fun q h' H1 locs1 hp hb hs1 => x2 q h' hp p e s m args below meth c mc ms (cu + k') (su + n') hA (by omega) (by omega) H1 locs1 ls hb hs1 hl)
end ERB
