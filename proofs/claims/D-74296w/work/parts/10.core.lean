/-! THE E-LAYER: an abstract heap (addresses to cells) and the walk over it. E: what is left of a method from a place on. Ct: a method's contract. -/
abbrev eH : Type := (Nat → Option va_E) × Nat
abbrev eG : Type := va_G × (Nat → ClassId) × (Nat → Value) × (Nat → Nat)
abbrev eM : Type := String × MethodName × ByteArray × Nat × Option FieldType × Option (List (Nat × Nat × Nat × Nat))
abbrev eO : Type := Option Value ⊕ Nat
def TX4 : u_T := fun _ => ("", "", "", false)
def eCl : List vw_C := [(RX0, TX0, 8), (RX1, TX1, 5), (RX2, TX2, 1), (RX3, TX3, 8), ("TroupeSums$BySize", TX4, 0), (RX5, TX5, 4), (RX6, TX6, 66), (RX7, TX7, 11), (RX8, TX8, 8), (RX9, TX9, 2), (RX10, TX10, 6), (RX11, TX11, 6), (RX12, TX12, 6), (RX13, TX13, 4), (RX14, TX14, 1), (RJ2, TJ2, 3), (RJ4, TJ4, 9), (RJ6, TJ6, 1), (RJ7, TJ7, 4), (RJ15, TJ15, 6), (RJ18, TJ18, 1), (RJ20, TJ20, 4), (RJ23, TJ23, 4), (RJ24, TJ24, 4), (RJ25, TJ25, 3), (RJ28, TJ28, 4), (RJ33, TJ33, 6)]
/-- array classes by number: 0 [I, 1 [J, 2 [B, 3 [Ljava/lang/Object;, 4 [[I, 5 [[J, 6 [Ljava/lang/Integer; -/
def eTy (i : Nat) : FieldType := match i with
  | 0 => .int
  | 1 => .long
  | 2 => .byte
  | 3 => .object "java/lang/Object"
  | 4 => .array .int
  | 5 => .array .long
  | _ => .object "java/lang/Integer"
def eTys (G : eG) : List (ClassId × FieldType) := [(G.2.1 0, eTy 0), (G.2.1 1, eTy 1), (G.2.1 2, eTy 2), (G.2.1 3, eTy 3), (G.2.1 4, eTy 4), (G.2.1 5, eTy 5)]
def eA (lo : Nat) : Nat → Prop := fun q => lo ≤ q
/-- words of the tables that ride by their own laws -/
def eWarm : Cond → Bool
  | .fieldLinkNest .. => true
  | .methodLinkNest .. => true
  | .castable .. => true
  | .declares .. => true
  | .privateMethod .. => true
  | .codeSync .. => true
  | .arrayOver .. => true
  | _ => false
theorem eWarm_p {x : MethodName} {s U : State} (hW : s.WarmedH U.vm) (hZ : va_Nw (.privateMethod x) s) : va_Nw (.privateMethod x) U := va_tabs rfl (rfl : (s.setVm U.vm).vm = U.vm) (by rw [Cond.privateMethod_setVm hW.alike]; exact hZ)
theorem eWarm_s {x : MethodName} {b : ByteArray} {m : Nat} {r : Option FieldType} {s U : State} (hW : s.WarmedH U.vm) (hZ : va_Nw (.codeSync x b m r) s) : va_Nw (.codeSync x b m r) U := va_tabs rfl (rfl : (s.setVm U.vm).vm = U.vm) (by unfold Cond.before Cond.holds; rw [Cond.value_setVm hW.alike _ _ rfl]; exact hZ)
theorem eWarm_a {ty : FieldType} {u U : State} (hvm : u.vm.Alike U.vm) (h : va_Nw (.arrayOver ty) u) : va_Nw (.arrayOver ty) U := by
  cases ty with
  | object C => exact va_AO.moved hvm h
  | array t =>
    obtain ⟨comp, c, k, h1, h2, h3, h4, h5⟩ := arrayOverA_spec h
    obtain ⟨k', hk', he⟩ := hvm.2.2 _ _ h3
    have hi : (U.vm.classes.findIdx? fun (x : Class) => match x.kind with | .array component _ => component == comp | _ => false) = some c := by
      have hb : U.vm.bare = u.vm.bare := by first | exact hvm.bare_eq | exact hvm.bare_eq.symm
      have g1 := va_idx_bare U.vm comp
      rw [hb] at g1
      exact g1.symm.trans ((va_idx_bare u.vm comp).trans h2)
    have hkind : k'.kind = .array comp (.array t) := by rw [he]; exact h4
    have f1 : U.vm.findClass (FieldType.array t).toString = some comp := by rw [hvm.findClass]; exact h1
    have f2 : U.vm.findClass ("[" ++ (FieldType.array t).toString) = some c := by rw [hvm.findClass]; exact h5
    unfold va_Nw Cond.before Cond.holds
    simp only [Cond.value]
    rw [f1, Option.bind_some]
    refine (congrArg (fun o : Option Nat => (o.bind (fun c => (U.vm.classes[c]?).map fun (k : Class) => match k.kind with | .array _ ty => decide (ty = FieldType.array t) && decide (U.vm.findClass ("[" ++ (FieldType.array t).toString) = some c) | _ => false) == some true)) hi).trans ?_
    simp [hk', hkind, f2]
  | _ => exact absurd h (by unfold va_Nw Cond.before Cond.holds; simp [Cond.value])
theorem eWarm_moved {w : Cond} {s U : State} (hw : eWarm w = true) (hW : s.WarmedH U.vm) (h : va_Nw w s) : va_Nw w U := by
  cases w <;> first | (exact absurd hw Bool.false_ne_true) | (exact va_Nw.warmF hW h) | (exact va_Nw.warmM hW h) | (exact va_Nw.warmC hW h) | (exact va_Nw.warmD hW h) | (exact eWarm_p hW h) | (exact eWarm_s hW h) | (exact eWarm_a hW.alike h)
def eWw : List Cond := lw_tbl.filter eWarm
/-- an interface's calls: class, method called, method found -/
def eFws : List (String × MethodName × MethodName) := [
  (RX4, ⟨"java/util/Comparator", "compare", "(Ljava/lang/Object;Ljava/lang/Object;)I"⟩, ⟨RX4, "compare", "(Ljava/lang/Object;Ljava/lang/Object;)I"⟩),
  (RX2, ⟨"java/lang/Comparable", "compareTo", "(Ljava/lang/Object;)I"⟩, ⟨RX2, "compareTo", "(Ljava/lang/Object;)I"⟩),
  (RX14, ⟨"java/lang/Comparable", "compareTo", "(Ljava/lang/Object;)I"⟩, ⟨RX14, "compareTo", "(Ljava/lang/Object;)I"⟩),
  (RJ2, ⟨"java/util/List", "size", "()I"⟩, ⟨RJ2, "size", "()I"⟩),
  (RJ2, ⟨"java/util/List", "get", "(I)Ljava/lang/Object;"⟩, ⟨RJ2, "get", "(I)Ljava/lang/Object;"⟩),
  (RJ2, ⟨"java/util/List", "add", "(Ljava/lang/Object;)Z"⟩, ⟨RJ2, "add", "(Ljava/lang/Object;)Z"⟩),
  (RJ2, ⟨"java/util/List", "contains", "(Ljava/lang/Object;)Z"⟩, ⟨RJ2, "contains", "(Ljava/lang/Object;)Z"⟩),
  (RJ2, ⟨"java/util/List", "iterator", "()Ljava/util/Iterator;"⟩, ⟨RJ2, "iterator", "()Ljava/util/Iterator;"⟩),
  (RJ2, ⟨"java/util/List", "indexOf", "(Ljava/lang/Object;)I"⟩, ⟨RJ2, "indexOf", "(Ljava/lang/Object;)I"⟩),
  (RJ18, ⟨"java/util/Set", "iterator", "()Ljava/util/Iterator;"⟩, ⟨RJ18, "iterator", "()Ljava/util/Iterator;"⟩),
  (RJ20, ⟨"java/util/Iterator", "hasNext", "()Z"⟩, ⟨"java/util/TreeMap$PrivateEntryIterator", "hasNext", "()Z"⟩),
  (RJ20, ⟨"java/util/Iterator", "next", "()Ljava/lang/Object;"⟩, ⟨RJ20, "next", "()Ljava/lang/Object;"⟩),
  (RJ24, ⟨"java/util/Iterator", "hasNext", "()Z"⟩, ⟨RJ24, "hasNext", "()Z"⟩),
  (RJ24, ⟨"java/util/Iterator", "next", "()Ljava/lang/Object;"⟩, ⟨RJ24, "next", "()Ljava/lang/Object;"⟩)]
theorem eFws_ok : ∀ z ∈ eFws, z.2.1.cls ≠ "java/lang/invoke/MethodHandle" ∧ z.2.1.cls ≠ "java/lang/invoke/VarHandle" := by decide +kernel
/-- constants: G.2.2.1 their values, G.2.2.2 their places (0 the Integer cache, 1 the empty array of lists, 2 .. 7 texts, 8 a class object) -/
def eStat (G : eG) : List (String × String × String × Value) := [("java/lang/String", "COMPACT_STRINGS", "Z", .int 1), ("java/lang/Integer$IntegerCache", "high", "I", .int 127), ("java/lang/Integer$IntegerCache", "cache", "[Ljava/lang/Integer;", .ref (G.2.2.2 0)), ("java/util/ArrayList", "DEFAULTCAPACITY_EMPTY_ELEMENTDATA", "[Ljava/lang/Object;", .ref (G.2.2.2 1)), ("java/lang/Throwable", "UNASSIGNED_STACK", "[Ljava/lang/StackTraceElement;", G.2.2.1 0), ("java/lang/Throwable", "SUPPRESSED_SENTINEL", "Ljava/util/List;", G.2.2.1 1), ("jdk/internal/util/Preconditions", "SIOOBE_FORMATTER", "Ljava/util/function/BiFunction;", G.2.2.1 2)]
def eStr (G : eG) : List (String × Nat × String × Nat) := [(RX7, 53, "=+-*^();", G.2.2.2 2), (RX7, 99, "move", G.2.2.2 3), (RX7, 97, "places", G.2.2.2 4), (RX7, 101, "let", G.2.2.2 5), (RX7, 91, "", G.2.2.2 6), (RX7, 103, "sort", G.2.2.2 7)]
/-- what holds of the tables and of the constants' cells (below lo) all through a run -/
def eKn (lo : Nat) (G : eG) (U : State) (H : Heap) : Prop := va_K G.1 eCl (eTys G) U ∧ (∀ w ∈ eWw, va_Nw w U) ∧ (∀ z ∈ eStat G, va_Z z.1 z.2.1 z.2.2.1 z.2.2.2 (eA lo) U H) ∧ (∀ z ∈ eStr G, vk_R z.1 z.2.1 z.2.2.1 z.2.2.2 U) ∧ va_Mi "[Ljava/lang/Object;" (G.2.2.2 8) U ∧ va_Dc U ∧ ArrOfT U (G.2.1 6) (eTy 6) ∧ (∀ z ∈ eFws, va_Fw z.1 z.2.1 z.2.2 U) ∧ va_Nc RX8 RX10 U ∧ vx_Zq "java/lang/Throwable" "UNASSIGNED_STACK" "[Ljava/lang/StackTraceElement;" (eA lo) U H ∧ vx_Zq "java/lang/Throwable" "SUPPRESSED_SENTINEL" "Ljava/util/List;" (eA lo) U H
theorem eKn.moved {lo : Nat} {G : eG} {s U : State} {H H1 : Heap} (h : eKn lo G s H) (hW : s.WarmedH U.vm) (hq : ∀ a : Nat, a < H.size → ¬ eA lo a → H1[a]? = H[a]?) : eKn lo G U H1 :=
  ⟨va_K.moved hW.alike h.1, fun w hw => eWarm_moved (List.mem_filter.mp hw).2 hW (h.2.1 w hw), fun z hz => va_Z.moved hW.alike (va_Z.kept (h.2.2.1 z hz) hq), fun z hz => vk_R.warm hW (h.2.2.2.1 z hz), va_Mi.moved hW.alike h.2.2.2.2.1, va_Dc.moved hW.alike h.2.2.2.2.2.1, arrOfT_moved hW.alike h.2.2.2.2.2.2.1, fun z hz => va_Fw.moved (eFws_ok z hz) hW.alike (h.2.2.2.2.2.2.2.1 z hz), va_Nc.moved hW.alike h.2.2.2.2.2.2.2.2.1, vx_Zq.moved hW.alike (vx_Zq.kept h.2.2.2.2.2.2.2.2.2.1 hq), vx_Zq.moved hW.alike (vx_Zq.kept h.2.2.2.2.2.2.2.2.2.2 hq)⟩
def eEl (x : vp_A) (j : Nat) : Value := match x.2 with
  | .inl f => .int (f j)
  | .inr (.inl f) => .long (f j)
  | .inr (.inr (.inl f)) => .float (f j)
  | .inr (.inr (.inr (.inl f))) => .double (f j)
  | .inr (.inr (.inr (.inr f))) => va_rf (f j)
theorem eEl_cell (cA : ClassId) (x : vp_A) : vp_cell cA x = arrV cA x.1 (eEl x) := by
  obtain ⟨n, f | f | f | f | f⟩ := x <;> rfl
/-- a cell that may be read: an array, an object -/
def eRd (G : eG) (a : Nat) (x : va_E) (H : Heap) : Prop := match x with
  | .inl v => ∃ cell : Cell, H[a]? = some cell ∧ cell.cls = v.1 ∧ cell.vm ≠ .unknown ∧ cell.vm.isStatics = false ∧ cell.slots.size = v.2.1 ∧ ∀ j, j < v.2.1 → cell.slots[j]? = some (eEl v.2 j)
  | .inr o => ∃ (r : vw_C) (cell : Cell), eCl[o.1]? = some r ∧ H[a]? = some cell ∧ cell.cls = G.1.1 o.1 ∧ cell.vm ≠ .unknown ∧ cell.vm.isStatics = false ∧ ∀ k, k < r.2.2 → cell.slots[G.1.2 o.1 k]? = some (vp_V o.2 k)
theorem eRd_of {G : eG} {a : Nat} {x : va_E} {H : Heap} (h : va_at G.1 eCl (a, x) H) : eRd G a x H := by
  cases x with
  | inl v => exact ⟨vp_cell v.1 v.2, h, by rw [eEl_cell]; rfl, by rw [eEl_cell]; exact (fun q => by cases q), by rw [eEl_cell]; rfl, by rw [eEl_cell, arrV_size], fun j hj => by rw [eEl_cell]; exact arrV_read _ _ hj⟩
  | inr o =>
    obtain ⟨r, h1, cell, h2, h3, h4, h5⟩ := h
    exact ⟨r, cell, h1, h2, h3, by rw [h4]; exact (fun q => by cases q), by rw [h4]; rfl, h5⟩
theorem eRd.kept {G : eG} {a : Nat} {x : va_E} {H H1 : Heap} (h : eRd G a x H) (hq : H1[a]? = H[a]?) : eRd G a x H1 := by
  cases x with
  | inl v => obtain ⟨cell, h1, h2⟩ := h; exact ⟨cell, by rw [hq]; exact h1, h2⟩
  | inr o => obtain ⟨r, cell, h0, h1, h2⟩ := h; exact ⟨r, cell, h0, by rw [hq]; exact h1, h2⟩
theorem eRd.lt {G : eG} {a : Nat} {x : va_E} {H : Heap} (h : eRd G a x H) : a < H.size := by
  cases x with
  | inl v => obtain ⟨cell, h1, h2⟩ := h; exact (Array.getElem?_eq_some_iff.mp h1).1
  | inr o => obtain ⟨r, cell, h0, h1, h2⟩ := h; exact (Array.getElem?_eq_some_iff.mp h1).1
/-- nobody is in the monitor of an object -/
def eMo (a : Nat) (x : va_E) (H : Heap) : Prop := match x with
  | .inl _ => True
  | .inr _ => ∀ cell : Cell, H[a]? = some cell → cell.monitor.owner = none ∧ cell.monitor.count = 0
theorem eMo.kept {a : Nat} {x : va_E} {H H1 : Heap} (h : eMo a x H) (hq : H1[a]? = H[a]?) : eMo a x H1 := by
  cases x with
  | inl v => trivial
  | inr o => exact fun cell hc => h cell (hq ▸ hc)
theorem eMo.set {a i : Nat} {y y' : Nat × List Value} {v : Value} {cell : Cell} {H H1 : Heap} (h : eMo a (.inr y) H) (hc : H[a]? = some cell) (h1 : H1[a]? = some (cell.setSlot i v)) : eMo a (.inr y') H1 := fun c' hc' => by
  rw [h1] at hc'
  cases hc'
  exact h cell hc
/-- the heap H holds the abstract heap h; its size is h.2; from lo on the cells are the run's own -/
def eRep (G : eG) (lo : Nat) (h : eH) (H : Heap) : Prop := H.size = h.2 ∧ (lo ≤ h.2 ∧ ∀ (a : Nat) (x : va_E), h.1 a = some x → lo ≤ a → eMo a x H) ∧ ∀ (a : Nat) (x : va_E), h.1 a = some x → eRd G a x H ∧ (lo ≤ a → va_at G.1 eCl (a, x) H)
def eUp (h : eH) (a : Nat) (x : va_E) : eH := (fun b => if b = a then some x else h.1 b, h.2)
def eNw (h : eH) (x : va_E) : eH := (fun b => if b = h.2 then some x else h.1 b, h.2 + 1)
theorem eRep.lt {G : eG} {lo : Nat} {h : eH} {H : Heap} (hR : eRep G lo h H) {a : Nat} {x : va_E} (ha : h.1 a = some x) : a < h.2 := by
  have := (hR.2.2 a x ha).1.lt
  rw [hR.1] at this
  exact this
theorem eRep.up {G : eG} {lo : Nat} {h : eH} {H H1 : Heap} {a : Nat} {x : va_E} (hR : eRep G lo h H) (hz : H1.size = H.size) (he : va_at G.1 eCl (a, x) H1) (oq : ∀ q : Nat, q ≠ a → H1[q]? = H[q]?) (hm : eMo a x H1 := by exact trivial) : eRep G lo (eUp h a x) H1 := by
  refine ⟨hz.trans hR.1, ⟨hR.2.1.1, fun b y hb hl => ?_⟩, fun b y hb => ?_⟩
  · by_cases hba : b = a
    · subst hba
      have : some x = some y := by simpa [eUp] using hb
      cases this
      exact hm
    · have hb' : h.1 b = some y := by simpa [eUp, hba] using hb
      exact (hR.2.1.2 b y hb' hl).kept (oq b hba)
  by_cases hba : b = a
  · subst hba
    have : some x = some y := by simpa [eUp] using hb
    cases this
    exact ⟨eRd_of he, fun _ => he⟩
  · have hb' : h.1 b = some y := by simpa [eUp, hba] using hb
    obtain ⟨h1, h2⟩ := hR.2.2 b y hb'
    exact ⟨h1.kept (oq b hba), fun hl => va_at.kept (q := (b, y)) (h2 hl) (oq b hba)⟩
theorem eRep.nw {G : eG} {lo : Nat} {h : eH} {H H1 : Heap} {x : va_E} (hR : eRep G lo h H) (hz : H1.size = H.size + 1) (he : va_at G.1 eCl (H.size, x) H1) (oq : ∀ q : Nat, q < H.size → H1[q]? = H[q]?) (hm : eMo H.size x H1 := by exact trivial) : eRep G lo (eNw h x) H1 := by
  refine ⟨by rw [hz, hR.1]; rfl, ⟨Nat.le_trans hR.2.1.1 (Nat.le_succ _), fun b y hb hl => ?_⟩, fun b y hb => ?_⟩
  · by_cases hba : b = h.2
    · subst hba
      have : some x = some y := by simpa [eNw] using hb
      cases this
      rw [← hR.1]
      exact hm
    · have hb' : h.1 b = some y := by simpa [eNw, hba] using hb
      exact (hR.2.1.2 b y hb' hl).kept (oq b (hR.2.2 b y hb').1.lt)
  by_cases hba : b = h.2
  · subst hba
    have : some x = some y := by simpa [eNw] using hb
    cases this
    rw [hR.1] at he
    exact ⟨eRd_of he, fun _ => he⟩
  · have hb' : h.1 b = some y := by simpa [eNw, hba] using hb
    obtain ⟨h1, h2⟩ := hR.2.2 b y hb'
    exact ⟨h1.kept (oq b h1.lt), fun hl => va_at.kept (q := (b, y)) (h2 hl) (oq b h1.lt)⟩
/-- locals by their places; none: nothing is known -/
def eLv (ls : Array Slot) (nL : Nat) (lv : List (Option Value)) : Prop := ls.size = nL ∧ lv_wf ls ∧ ∀ (j : Nat) (w : Value), lv[j]? = some (some w) → ls[j]? = some (.val w)
def eLl (lv : List (Option Value)) : List (Nat × Value) := lv.zipIdx.filterMap (fun q => q.1.map (fun w => (q.2, w)))
theorem eLl_mem {lv : List (Option Value)} {q : Nat × Value} : q ∈ eLl lv ↔ lv[q.1]? = some (some q.2) := by
  unfold eLl
  rw [List.mem_filterMap]
  constructor
  · rintro ⟨⟨o, i⟩, h1, h2⟩
    rw [List.mem_zipIdx_iff_getElem?] at h1
    cases o with
    | none => cases h2
    | some w => simp only [Option.map_some, Option.some.injEq] at h2; subst h2; exact h1
  · intro h
    exact ⟨(some q.2, q.1), by rw [List.mem_zipIdx_iff_getElem?]; exact h, rfl⟩
theorem eLv.has {ls : Array Slot} {nL : Nat} {lv : List (Option Value)} (h : eLv ls nL lv) : lv_has ls nL (eLl lv) := ⟨h.1, h.2.1, fun q hq => h.2.2 q.1 q.2 (eLl_mem.mp hq)⟩
/-- no long ends at place i -/
def eC1 (lv : List (Option Value)) (i : Nat) : Prop := match i with
  | 0 => True
  | j + 1 => match lv[j]? with
    | some (some w) => w.category = 1
    | _ => True
theorem eLv.store {ls : Array Slot} {nL : Nat} {lv : List (Option Value)} {i : Nat} {v : Value} (hc : eC1 lv i) (h : lv_has ls nL ((i, v) :: (eLl lv).filter (fun q => !(q.1 == i) && !(q.1 + 1 == i && q.2.category == 2)))) : eLv ls nL (lv.set i (some v)) := by
  refine ⟨h.1, h.2.1, fun j w hj => ?_⟩
  by_cases hji : j = i
  · subst hji
    have hl : j < lv.length := by
      have := (List.getElem?_eq_some_iff.mp hj).1
      simpa using this
    rw [List.getElem?_set_self hl] at hj
    cases hj
    exact h.2.2 (j, v) List.mem_cons_self
  · rw [List.getElem?_set_ne (Ne.symm hji)] at hj
    refine h.2.2 (j, w) (List.mem_cons_of_mem _ (List.mem_filter.mpr ⟨eLl_mem.mpr hj, ?_⟩))
    by_cases hs : j + 1 = i
    · subst hs
      simp only [eC1, hj] at hc
      simp [hc]
    · simp [hji, hs]
theorem eLv.store2 {ls : Array Slot} {nL : Nat} {lv : List (Option Value)} {i : Nat} {v : Value} (hc : eC1 lv i) (h : lv_has ls nL ((i, v) :: (eLl lv).filter (fun q => !(q.1 == i) && (!(q.1 == i + 1) && !(q.1 + 1 == i && q.2.category == 2))))) : eLv ls nL ((lv.set i (some v)).set (i + 1) none) := by
  refine ⟨h.1, h.2.1, fun j w hj => ?_⟩
  by_cases hj1 : j = i + 1
  · subst hj1
    rw [List.getElem?_set] at hj
    simp at hj
  · rw [List.getElem?_set_ne (fun q => hj1 q.symm)] at hj
    by_cases hji : j = i
    · subst hji
      have hl : j < lv.length := by
        have := (List.getElem?_eq_some_iff.mp hj).1
        simpa using this
      rw [List.getElem?_set_self hl] at hj
      cases hj
      exact h.2.2 (j, v) List.mem_cons_self
    · rw [List.getElem?_set_ne (Ne.symm hji)] at hj
      refine h.2.2 (j, w) (List.mem_cons_of_mem _ (List.mem_filter.mpr ⟨eLl_mem.mpr hj, ?_⟩))
      by_cases hs : j + 1 = i
      · subst hs
        simp only [eC1, hj] at hc
        simp [hc]
        omega
      · simp [hji, hs, hj1]
theorem eRfC (r : Option Nat) : (va_rf r).category = 1 := by cases r <;> rfl
/-- fewer locals -/
theorem eLv.less {ls : Array Slot} {nL : Nat} {lv lv' : List (Option Value)} (h : eLv ls nL lv) (hl : ∀ (j : Nat) (w : Value), lv'[j]? = some (some w) → lv[j]? = some (some w)) : eLv ls nL lv' := ⟨h.1, h.2.1, fun j w hj => h.2.2 j w (hl j w hj)⟩
def eRm (d k n : Nat) : Room := { frames := d, cells := k, slots := n, locals := 128 * d }
def eCode (M : eM) : Cond := match M.2.2.2.2.2 with
  | none => .code M.2.1 M.2.2.1 M.2.2.2.1 M.2.2.2.2.1
  | some hh => .codeWith M.2.1 M.2.2.1 M.2.2.2.1 M.2.2.2.2.1 hh
def eWs (M : eM) : List Cond := eCode M :: lw_all
def eTab (M : eM) : List (Nat × Nat × Nat × Nat) := M.2.2.2.2.2.getD []
def eQc (lo : Nat) (G : eG) (P : eO → eH → Prop) : Array Value → State → Outcome → State → Prop := fun _ st o t => ∃ (v : Option Value) (h' : eH), o = .returned v ∧ P (.inl v) h' ∧ eRep G lo h' t.heap ∧ va_F (eA lo) st t
def eXc (lo : Nat) (G : eG) (P : eO → eH → Prop) : Addr → String → State → State → Prop := fun q E st t => ∃ (h' : eH) (ci : Nat) (fs : List Value) (r : vw_C), P (.inr q) h' ∧ h'.1 q = some (.inr (ci, fs)) ∧ eCl[ci]? = some r ∧ r.1 = E ∧ eRep G lo h' t.heap ∧ va_F (eA lo) st t
def eMQ (lo : Nat) (G : eG) (P : eO → eH → Prop) (below : List Frame) (args : Array Value) (s : State) (mc ms : Nat) : State → Prop := vx_MQ below (eQc lo G P) (eXc lo G P) args s mc ms (eA lo)
/-- the activation that is walked -/
def eAct (lo : Nat) (G : eG) (M : eM) (p : Program) (s : State) (m : MethodId) (args : Array Value) (meth : Method) (c : Code) : Prop :=
  p.tables.exec = Jvm.exec ∧ c.code = M.2.2.1 ∧ meth.sig.returnType = M.2.2.2.2.1 ∧ meth.locks = false ∧ c.maxLocals = M.2.2.2.1 ∧ s.vm.findClass M.1 = some m.cls ∧ (∀ w ∈ lw_all, w.before args s = true) ∧ meth.name = M.2.1.name ∧ c.exceptionTable.toList = tableOf (eTab M) ∧ eKn lo G s s.heap
/-- from here on (place pc, locals lv, stack st, heap h) the method comes to an end that P allows, with at most k new cells of n slots in all -/
def E (l : Launch) (lo : Nat) (G : eG) (d : Nat) (M : eM) (P : eO → eH → Prop) (pc : Nat) (lv : List (Option Value)) (st : List Value) (h : eH) (k n : Nat) : Prop :=
  ∀ (p : Program) (e : Env) (s : State) (m : MethodId) (args : Array Value) (below : List Frame) (meth : Method) (c : Code) (mc ms cu su : Nat), eAct lo G M p s m args meth c → cu + k ≤ mc → su + n ≤ ms → ∀ (H : Heap) (locs : List Loc) (ls : Array Slot), eRep G lo h H → va_S (eA lo) s.heap H locs → eLv ls M.2.2.2.1 lv →
    W p l e (eRm d mc ms) s m args below meth c H locs cu su (eMQ lo G P below args s mc ms) (F0 m pc ls st)
/-- the same, q having been thrown at pc -/
def EX (l : Launch) (lo : Nat) (G : eG) (d : Nat) (M : eM) (P : eO → eH → Prop) (pc : Nat) (lv : List (Option Value)) (st : List Value) (h : eH) (k n : Nat) (q : Nat) : Prop :=
  ∀ (p : Program) (e : Env) (s : State) (m : MethodId) (args : Array Value) (below : List Frame) (meth : Method) (c : Code) (mc ms cu su : Nat), eAct lo G M p s m args meth c → cu + k ≤ mc → su + n ≤ ms → ∀ (H : Heap) (locs : List Loc) (ls : Array Slot), eRep G lo h H → va_S (eA lo) s.heap H locs → eLv ls M.2.2.2.1 lv →
    vx_W p l e (eRm d mc ms) s m args below meth c H locs cu su (eMQ lo G P below args s mc ms) (F0 m pc ls st) q
/-- a method's contract -/
def Ct (l : Launch) (lo : Nat) (G : eG) (d : Nat) (M : eM) (args : List Value) (h : eH) (k n : Nat) (P : eO → eH → Prop) : Prop :=
  vx_Met l M.2.1 (eWs M) (eRm d k n) (va_Pc args (fun U => eRep G lo h U.heap ∧ eKn lo G U U.heap)) (eQc lo G P) (eXc lo G P) k n (eA lo)
section EL
variable {l : Launch} {lo : Nat} {G : eG} {d : Nat} {M : eM} {P : eO → eH → Prop} {pc : Nat} {lv : List (Option Value)} {st : List Value} {h : eH} {k n : Nat}
theorem E.room {k1 n1 : Nat} (hk : k1 ≤ k) (hn : n1 ≤ n) (x : E l lo G d M P pc lv st h k1 n1) : E l lo G d M P pc lv st h k n :=
  fun p e s m args below meth c mc ms cu su hA hc hs => x p e s m args below meth c mc ms cu su hA (by omega) (by omega)
theorem E.less {lv' : List (Option Value)} (hl : ∀ (j : Nat) (w : Value), lv'[j]? = some (some w) → lv[j]? = some (some w)) (x : E l lo G d M P pc lv' st h k n) : E l lo G d M P pc lv st h k n :=
  fun p e s m args below meth c mc ms cu su hA hc hs H locs ls hR hS hv => x p e s m args below meth c mc ms cu su hA hc hs H locs ls hR hS (hv.less hl)
theorem E.at {pc' : Nat} {lv' : List (Option Value)} {st' : List Value} {h' : eH} (x : E l lo G d M P pc' lv' st' h' k n) (e1 : pc' = pc) (e2 : lv' = lv) (e3 : st' = st) (e4 : h' = h) : E l lo G d M P pc lv st h k n := by
  subst e1; subst e2; subst e3; subst e4; exact x
theorem e_iadd {x y : Int32} (D : decode M.2.2.1 pc = .ok (.iadd, 1)) (x1 : E l lo G d M P (pc + 1) lv (.int (x + y) :: st) h k n) : E l lo G d M P pc lv (.int y :: .int x :: st) h k n :=
  fun p e s m args below meth c mc ms cu su hA hc hs H locs ls hR hS hl => lv_iadd hA.1 hA.2.1 D (x1 p e s m args below meth c mc ms cu su hA hc hs H locs ls hR hS hl)
theorem e_isub {x y : Int32} (D : decode M.2.2.1 pc = .ok (.isub, 1)) (x1 : E l lo G d M P (pc + 1) lv (.int (x - y) :: st) h k n) : E l lo G d M P pc lv (.int y :: .int x :: st) h k n :=
  fun p e s m args below meth c mc ms cu su hA hc hs H locs ls hR hS hl => lv_isub hA.1 hA.2.1 D (x1 p e s m args below meth c mc ms cu su hA hc hs H locs ls hR hS hl)
theorem e_imul {x y : Int32} (D : decode M.2.2.1 pc = .ok (.imul, 1)) (x1 : E l lo G d M P (pc + 1) lv (.int (x * y) :: st) h k n) : E l lo G d M P pc lv (.int y :: .int x :: st) h k n :=
  fun p e s m args below meth c mc ms cu su hA hc hs H locs ls hR hS hl => lv_imul hA.1 hA.2.1 D (x1 p e s m args below meth c mc ms cu su hA hc hs H locs ls hR hS hl)
theorem e_iand {x y : Int32} (D : decode M.2.2.1 pc = .ok (.iand, 1)) (x1 : E l lo G d M P (pc + 1) lv (.int (x &&& y) :: st) h k n) : E l lo G d M P pc lv (.int y :: .int x :: st) h k n :=
  fun p e s m args below meth c mc ms cu su hA hc hs H locs ls hR hS hl => lv_iand hA.1 hA.2.1 D (x1 p e s m args below meth c mc ms cu su hA hc hs H locs ls hR hS hl)
theorem e_ior {x y : Int32} (D : decode M.2.2.1 pc = .ok (.ior, 1)) (x1 : E l lo G d M P (pc + 1) lv (.int (x ||| y) :: st) h k n) : E l lo G d M P pc lv (.int y :: .int x :: st) h k n :=
  fun p e s m args below meth c mc ms cu su hA hc hs H locs ls hR hS hl => lv_ior hA.1 hA.2.1 D (x1 p e s m args below meth c mc ms cu su hA hc hs H locs ls hR hS hl)
theorem e_ixor {x y : Int32} (D : decode M.2.2.1 pc = .ok (.ixor, 1)) (x1 : E l lo G d M P (pc + 1) lv (.int (x ^^^ y) :: st) h k n) : E l lo G d M P pc lv (.int y :: .int x :: st) h k n :=
  fun p e s m args below meth c mc ms cu su hA hc hs H locs ls hR hS hl => lv_ixor hA.1 hA.2.1 D (x1 p e s m args below meth c mc ms cu su hA hc hs H locs ls hR hS hl)
theorem e_ishl {x y : Int32} (D : decode M.2.2.1 pc = .ok (.ishl, 1)) (x1 : E l lo G d M P (pc + 1) lv (.int (x <<< (y &&& 31)) :: st) h k n) : E l lo G d M P pc lv (.int y :: .int x :: st) h k n :=
  fun p e s m args below meth c mc ms cu su hA hc hs H locs ls hR hS hl => lv_ishl hA.1 hA.2.1 D (x1 p e s m args below meth c mc ms cu su hA hc hs H locs ls hR hS hl)
theorem e_ishr {x y : Int32} (D : decode M.2.2.1 pc = .ok (.ishr, 1)) (x1 : E l lo G d M P (pc + 1) lv (.int (x >>> (y &&& 31)) :: st) h k n) : E l lo G d M P pc lv (.int y :: .int x :: st) h k n :=
  fun p e s m args below meth c mc ms cu su hA hc hs H locs ls hR hS hl => lv_ishr hA.1 hA.2.1 D (x1 p e s m args below meth c mc ms cu su hA hc hs H locs ls hR hS hl)
theorem e_idiv {x y : Int32} (D : decode M.2.2.1 pc = .ok (.idiv, 1)) (hne : ¬ y = 0) (x1 : E l lo G d M P (pc + 1) lv (.int (x / y) :: st) h k n) : E l lo G d M P pc lv (.int y :: .int x :: st) h k n :=
  fun p e s m args below meth c mc ms cu su hA hc hs H locs ls hR hS hl => lv_idiv hA.1 hA.2.1 D hne (x1 p e s m args below meth c mc ms cu su hA hc hs H locs ls hR hS hl)
theorem e_irem {x y : Int32} (D : decode M.2.2.1 pc = .ok (.irem, 1)) (hne : ¬ y = 0) (x1 : E l lo G d M P (pc + 1) lv (.int (x - x / y * y) :: st) h k n) : E l lo G d M P pc lv (.int y :: .int x :: st) h k n :=
  fun p e s m args below meth c mc ms cu su hA hc hs H locs ls hR hS hl => lv_irem hA.1 hA.2.1 D hne (x1 p e s m args below meth c mc ms cu su hA hc hs H locs ls hR hS hl)
theorem e_ladd {x y : Int64} (D : decode M.2.2.1 pc = .ok (.ladd, 1)) (x1 : E l lo G d M P (pc + 1) lv (.long (x + y) :: st) h k n) : E l lo G d M P pc lv (.long y :: .long x :: st) h k n :=
  fun p e s m args below meth c mc ms cu su hA hc hs H locs ls hR hS hl => lv_ladd hA.1 hA.2.1 D (x1 p e s m args below meth c mc ms cu su hA hc hs H locs ls hR hS hl)
theorem e_lsub {x y : Int64} (D : decode M.2.2.1 pc = .ok (.lsub, 1)) (x1 : E l lo G d M P (pc + 1) lv (.long (x - y) :: st) h k n) : E l lo G d M P pc lv (.long y :: .long x :: st) h k n :=
  fun p e s m args below meth c mc ms cu su hA hc hs H locs ls hR hS hl => lv_lsub hA.1 hA.2.1 D (x1 p e s m args below meth c mc ms cu su hA hc hs H locs ls hR hS hl)
theorem e_lmul {x y : Int64} (D : decode M.2.2.1 pc = .ok (.lmul, 1)) (x1 : E l lo G d M P (pc + 1) lv (.long (x * y) :: st) h k n) : E l lo G d M P pc lv (.long y :: .long x :: st) h k n :=
  fun p e s m args below meth c mc ms cu su hA hc hs H locs ls hR hS hl => lv_lmul hA.1 hA.2.1 D (x1 p e s m args below meth c mc ms cu su hA hc hs H locs ls hR hS hl)
theorem e_land {x y : Int64} (D : decode M.2.2.1 pc = .ok (.land, 1)) (x1 : E l lo G d M P (pc + 1) lv (.long (x &&& y) :: st) h k n) : E l lo G d M P pc lv (.long y :: .long x :: st) h k n :=
  fun p e s m args below meth c mc ms cu su hA hc hs H locs ls hR hS hl => lv_land hA.1 hA.2.1 D (x1 p e s m args below meth c mc ms cu su hA hc hs H locs ls hR hS hl)
theorem e_lor {x y : Int64} (D : decode M.2.2.1 pc = .ok (.lor, 1)) (x1 : E l lo G d M P (pc + 1) lv (.long (x ||| y) :: st) h k n) : E l lo G d M P pc lv (.long y :: .long x :: st) h k n :=
  fun p e s m args below meth c mc ms cu su hA hc hs H locs ls hR hS hl => lv_lor hA.1 hA.2.1 D (x1 p e s m args below meth c mc ms cu su hA hc hs H locs ls hR hS hl)
theorem e_lxor {x y : Int64} (D : decode M.2.2.1 pc = .ok (.lxor, 1)) (x1 : E l lo G d M P (pc + 1) lv (.long (x ^^^ y) :: st) h k n) : E l lo G d M P pc lv (.long y :: .long x :: st) h k n :=
  fun p e s m args below meth c mc ms cu su hA hc hs H locs ls hR hS hl => lv_lxor hA.1 hA.2.1 D (x1 p e s m args below meth c mc ms cu su hA hc hs H locs ls hR hS hl)
theorem e_ldiv {x y : Int64} (D : decode M.2.2.1 pc = .ok (.ldiv, 1)) (hne : ¬ y = 0) (x1 : E l lo G d M P (pc + 1) lv (.long (x / y) :: st) h k n) : E l lo G d M P pc lv (.long y :: .long x :: st) h k n :=
  fun p e s m args below meth c mc ms cu su hA hc hs H locs ls hR hS hl => lv_ldiv hA.1 hA.2.1 D hne (x1 p e s m args below meth c mc ms cu su hA hc hs H locs ls hR hS hl)
theorem e_lrem {x y : Int64} (D : decode M.2.2.1 pc = .ok (.lrem, 1)) (hne : ¬ y = 0) (x1 : E l lo G d M P (pc + 1) lv (.long (x - x / y * y) :: st) h k n) : E l lo G d M P pc lv (.long y :: .long x :: st) h k n :=
  fun p e s m args below meth c mc ms cu su hA hc hs H locs ls hR hS hl => lv_lrem hA.1 hA.2.1 D hne (x1 p e s m args below meth c mc ms cu su hA hc hs H locs ls hR hS hl)
theorem e_ineg {x : Int32} (D : decode M.2.2.1 pc = .ok (.ineg, 1)) (x1 : E l lo G d M P (pc + 1) lv (.int (-x) :: st) h k n) : E l lo G d M P pc lv (.int x :: st) h k n :=
  fun p e s m args below meth c mc ms cu su hA hc hs H locs ls hR hS hl => lv_ineg hA.1 hA.2.1 D (x1 p e s m args below meth c mc ms cu su hA hc hs H locs ls hR hS hl)
theorem e_lneg {x : Int64} (D : decode M.2.2.1 pc = .ok (.lneg, 1)) (x1 : E l lo G d M P (pc + 1) lv (.long (-x) :: st) h k n) : E l lo G d M P pc lv (.long x :: st) h k n :=
  fun p e s m args below meth c mc ms cu su hA hc hs H locs ls hR hS hl => lv_lneg hA.1 hA.2.1 D (x1 p e s m args below meth c mc ms cu su hA hc hs H locs ls hR hS hl)
theorem e_i2l {x : Int32} (D : decode M.2.2.1 pc = .ok (.i2l, 1)) (x1 : E l lo G d M P (pc + 1) lv (.long x.toInt64 :: st) h k n) : E l lo G d M P pc lv (.int x :: st) h k n :=
  fun p e s m args below meth c mc ms cu su hA hc hs H locs ls hR hS hl => lv_i2l hA.1 hA.2.1 D rfl (x1 p e s m args below meth c mc ms cu su hA hc hs H locs ls hR hS hl)
theorem e_l2i {x : Int64} (D : decode M.2.2.1 pc = .ok (.l2i, 1)) (x1 : E l lo G d M P (pc + 1) lv (.int x.toInt32 :: st) h k n) : E l lo G d M P pc lv (.long x :: st) h k n :=
  fun p e s m args below meth c mc ms cu su hA hc hs H locs ls hR hS hl => lv_l2i hA.1 hA.2.1 D rfl (x1 p e s m args below meth c mc ms cu su hA hc hs H locs ls hR hS hl)
theorem e_i2b {x : Int32} (D : decode M.2.2.1 pc = .ok (.i2b, 1)) (x1 : E l lo G d M P (pc + 1) lv (.int x.toInt8.toInt32 :: st) h k n) : E l lo G d M P pc lv (.int x :: st) h k n :=
  fun p e s m args below meth c mc ms cu su hA hc hs H locs ls hR hS hl => lv_i2b hA.1 hA.2.1 D rfl (x1 p e s m args below meth c mc ms cu su hA hc hs H locs ls hR hS hl)
theorem e_i2c {x : Int32} (D : decode M.2.2.1 pc = .ok (.i2c, 1)) (x1 : E l lo G d M P (pc + 1) lv (.int (x.toUInt32 % 65536).toInt32 :: st) h k n) : E l lo G d M P pc lv (.int x :: st) h k n :=
  fun p e s m args below meth c mc ms cu su hA hc hs H locs ls hR hS hl => lv_i2c hA.1 hA.2.1 D rfl (x1 p e s m args below meth c mc ms cu su hA hc hs H locs ls hR hS hl)
theorem e_iushr {x y : Int32} (D : decode M.2.2.1 pc = .ok (.iushr, 1)) (x1 : E l lo G d M P (pc + 1) lv (.int (x.toUInt32 >>> (y.toUInt32 &&& Int32.toUInt32 31)).toInt32 :: st) h k n) : E l lo G d M P pc lv (.int y :: .int x :: st) h k n :=
  fun p e s m args below meth c mc ms cu su hA hc hs H locs ls hR hS hl => lv_iushr hA.1 hA.2.1 D rfl (x1 p e s m args below meth c mc ms cu su hA hc hs H locs ls hR hS hl)
theorem e_lshr {x : Int64} {y : Int32} (D : decode M.2.2.1 pc = .ok (.lshr, 1)) (x1 : E l lo G d M P (pc + 1) lv (.long (x >>> (y.toInt64 &&& 63)) :: st) h k n) : E l lo G d M P pc lv (.int y :: .long x :: st) h k n :=
  fun p e s m args below meth c mc ms cu su hA hc hs H locs ls hR hS hl => lv_lshr hA.1 hA.2.1 D rfl (x1 p e s m args below meth c mc ms cu su hA hc hs H locs ls hR hS hl)
theorem e_lshl {x : Int64} {y : Int32} (D : decode M.2.2.1 pc = .ok (.lshl, 1)) (x1 : E l lo G d M P (pc + 1) lv (.long (x <<< (y.toInt64 &&& 63)) :: st) h k n) : E l lo G d M P pc lv (.int y :: .long x :: st) h k n :=
  fun p e s m args below meth c mc ms cu su hA hc hs H locs ls hR hS hl => lv_lshl hA.1 hA.2.1 D rfl (x1 p e s m args below meth c mc ms cu su hA hc hs H locs ls hR hS hl)
theorem e_lushr {x : Int64} {y : Int32} (D : decode M.2.2.1 pc = .ok (.lushr, 1)) (x1 : E l lo G d M P (pc + 1) lv (.long (x.toUInt64 >>> (y.toInt64.toUInt64 &&& Int64.toUInt64 63)).toInt64 :: st) h k n) : E l lo G d M P pc lv (.int y :: .long x :: st) h k n :=
  fun p e s m args below meth c mc ms cu su hA hc hs H locs ls hR hS hl => lv_lushr hA.1 hA.2.1 D rfl (x1 p e s m args below meth c mc ms cu su hA hc hs H locs ls hR hS hl)
theorem e_lcmp {x y : Int64} (D : decode M.2.2.1 pc = .ok (.lcmp, 1)) (x1 : E l lo G d M P (pc + 1) lv (.int (lg_cmp x y) :: st) h k n) : E l lo G d M P pc lv (.long y :: .long x :: st) h k n :=
  fun p e s m args below meth c mc ms cu su hA hc hs H locs ls hR hS hl => W.lcmp hA.1 hA.2.1 D (x1 p e s m args below meth c mc ms cu su hA hc hs H locs ls hR hS hl)
theorem e_iconst {i : Int} (v : Int32) (D : decode M.2.2.1 pc = .ok (.iconst i, 1)) (hv : Int32.ofInt i = v) (x1 : E l lo G d M P (pc + 1) lv (.int v :: st) h k n) : E l lo G d M P pc lv st h k n :=
  fun p e s m args below meth c mc ms cu su hA hc hs H locs ls hR hS hl => lv_iconst hA.1 hA.2.1 D hv (x1 p e s m args below meth c mc ms cu su hA hc hs H locs ls hR hS hl)
theorem e_bipush {i : Int} (v : Int32) (D : decode M.2.2.1 pc = .ok (.bipush i, 2)) (hv : (Int8.ofInt i).toInt32 = v) (x1 : E l lo G d M P (pc + 2) lv (.int v :: st) h k n) : E l lo G d M P pc lv st h k n :=
  fun p e s m args below meth c mc ms cu su hA hc hs H locs ls hR hS hl => lv_bipush hA.1 hA.2.1 D hv (x1 p e s m args below meth c mc ms cu su hA hc hs H locs ls hR hS hl)
theorem e_sipush {i : Int} (v : Int32) (D : decode M.2.2.1 pc = .ok (.sipush i, 3)) (hv : (Int16.ofInt i).toInt32 = v) (x1 : E l lo G d M P (pc + 3) lv (.int v :: st) h k n) : E l lo G d M P pc lv st h k n :=
  fun p e s m args below meth c mc ms cu su hA hc hs H locs ls hR hS hl => lv_sipush hA.1 hA.2.1 D hv (x1 p e s m args below meth c mc ms cu su hA hc hs H locs ls hR hS hl)
theorem e_lconst {i : Fin 2} (v : Int64) (D : decode M.2.2.1 pc = .ok (.lconst i, 1)) (hv : Int64.ofNat (i : Nat) = v) (x1 : E l lo G d M P (pc + 1) lv (.long v :: st) h k n) : E l lo G d M P pc lv st h k n :=
  fun p e s m args below meth c mc ms cu su hA hc hs H locs ls hR hS hl => lv_lconst hA.1 hA.2.1 D hv (x1 p e s m args below meth c mc ms cu su hA hc hs H locs ls hR hS hl)
theorem e_null (D : decode M.2.2.1 pc = .ok (.aconst_null, 1)) (x1 : E l lo G d M P (pc + 1) lv (.null :: st) h k n) : E l lo G d M P pc lv st h k n :=
  fun p e s m args below meth c mc ms cu su hA hc hs H locs ls hR hS hl => lv_null hA.1 hA.2.1 D (x1 p e s m args below meth c mc ms cu su hA hc hs H locs ls hR hS hl)
theorem e_dup {v : Value} (D : decode M.2.2.1 pc = .ok (.dup, 1)) (c1 : v.category = 1) (x1 : E l lo G d M P (pc + 1) lv (v :: v :: st) h k n) : E l lo G d M P pc lv (v :: st) h k n :=
  fun p e s m args below meth c mc ms cu su hA hc hs H locs ls hR hS hl => lv_dup hA.1 hA.2.1 D c1 (x1 p e s m args below meth c mc ms cu su hA hc hs H locs ls hR hS hl)
theorem e_pop {v : Value} (D : decode M.2.2.1 pc = .ok (.pop, 1)) (c1 : v.category = 1) (x1 : E l lo G d M P (pc + 1) lv st h k n) : E l lo G d M P pc lv (v :: st) h k n :=
  fun p e s m args below meth c mc ms cu su hA hc hs H locs ls hR hS hl => lv_pop hA.1 hA.2.1 D c1 (x1 p e s m args below meth c mc ms cu su hA hc hs H locs ls hR hS hl)
theorem e_pop2 {v : Value} (D : decode M.2.2.1 pc = .ok (.pop2, 1)) (c1 : v.category = 2) (x1 : E l lo G d M P (pc + 1) lv st h k n) : E l lo G d M P pc lv (v :: st) h k n :=
  fun p e s m args below meth c mc ms cu su hA hc hs H locs ls hR hS hl => lv_pop2_2 hA.1 hA.2.1 D c1 (x1 p e s m args below meth c mc ms cu su hA hc hs H locs ls hR hS hl)
theorem e_dup_x1 {v w : Value} (D : decode M.2.2.1 pc = .ok (.dup_x1, 1)) (c1 : v.category = 1) (c2 : w.category = 1) (x1 : E l lo G d M P (pc + 1) lv (v :: w :: v :: st) h k n) : E l lo G d M P pc lv (v :: w :: st) h k n :=
  fun p e s m args below meth c mc ms cu su hA hc hs H locs ls hR hS hl => lv_dup_x1 hA.1 hA.2.1 D c1 c2 (x1 p e s m args below meth c mc ms cu su hA hc hs H locs ls hR hS hl)
theorem e_dup_x2 {v w z : Value} (D : decode M.2.2.1 pc = .ok (.dup_x2, 1)) (c1 : v.category = 1) (c2 : w.category = 1) (c3 : z.category = 1) (x1 : E l lo G d M P (pc + 1) lv (v :: w :: z :: v :: st) h k n) : E l lo G d M P pc lv (v :: w :: z :: st) h k n :=
  fun p e s m args below meth c mc ms cu su hA hc hs H locs ls hR hS hl => lv_dup_x2 hA.1 hA.2.1 D c1 c2 c3 (x1 p e s m args below meth c mc ms cu su hA hc hs H locs ls hR hS hl)
theorem e_dup2 {v w : Value} (D : decode M.2.2.1 pc = .ok (.dup2, 1)) (c1 : v.category = 1) (c2 : w.category = 1) (x1 : E l lo G d M P (pc + 1) lv (v :: w :: v :: w :: st) h k n) : E l lo G d M P pc lv (v :: w :: st) h k n :=
  fun p e s m args below meth c mc ms cu su hA hc hs H locs ls hR hS hl => lv_dup2_11 hA.1 hA.2.1 D c1 c2 (x1 p e s m args below meth c mc ms cu su hA hc hs H locs ls hR hS hl)
theorem e_dup2L {v : Value} (D : decode M.2.2.1 pc = .ok (.dup2, 1)) (c1 : v.category = 2) (x1 : E l lo G d M P (pc + 1) lv (v :: v :: st) h k n) : E l lo G d M P pc lv (v :: st) h k n :=
  fun p e s m args below meth c mc ms cu su hA hc hs H locs ls hR hS hl => lv_dup2_2 hA.1 hA.2.1 D c1 (x1 p e s m args below meth c mc ms cu su hA hc hs H locs ls hR hS hl)
theorem e_ldc {i : Nat} {v : Int32} (D : decode M.2.2.1 pc = .ok (.ldc i, 2)) (q : Cond.constant M.1 i v ∈ lw_all) (x : E l lo G d M P (pc + 2) lv (.int v :: st) h k n) : E l lo G d M P pc lv st h k n :=
  fun p e s m args below meth c mc ms cu su hA hc hs H locs ls hR hS hl => lv_ldc hA.1 hA.2.1 hA.2.2.2.2.2.1 (hA.2.2.2.2.2.2.1 _ q) D (x p e s m args below meth c mc ms cu su hA hc hs H locs ls hR hS hl)
theorem e_ldcw {i : Nat} {v : Int32} (D : decode M.2.2.1 pc = .ok (.ldc_w i, 3)) (q : Cond.constant M.1 i v ∈ lw_all) (x : E l lo G d M P (pc + 3) lv (.int v :: st) h k n) : E l lo G d M P pc lv st h k n :=
  fun p e s m args below meth c mc ms cu su hA hc hs H locs ls hR hS hl => lv_ldcw hA.1 hA.2.1 hA.2.2.2.2.2.1 (hA.2.2.2.2.2.2.1 _ q) D (x p e s m args below meth c mc ms cu su hA hc hs H locs ls hR hS hl)
theorem e_ldc2 {i : Nat} {v : Int64} (D : decode M.2.2.1 pc = .ok (.ldc2_w i, 3)) (q : Cond.constantLong M.1 i v ∈ lw_all) (x : E l lo G d M P (pc + 3) lv (.long v :: st) h k n) : E l lo G d M P pc lv st h k n :=
  fun p e s m args below meth c mc ms cu su hA hc hs H locs ls hR hS hl => lv_ldc2 hA.1 hA.2.1 hA.2.2.2.2.2.1 (hA.2.2.2.2.2.2.1 _ q) D (x p e s m args below meth c mc ms cu su hA hc hs H locs ls hR hS hl)
theorem e_iload_n {i : Fin 4} {x : Int32} (D : decode M.2.2.1 pc = .ok (.iload_n i, 1)) (hv : lv[(i : Nat)]? = some (some (.int x))) (x1 : E l lo G d M P (pc + 1) lv (.int x :: st) h k n) : E l lo G d M P pc lv st h k n :=
  fun p e s m args below meth c mc ms cu su hA hc hs H locs ls hR hS hl => lv_iload_n hA.1 hA.2.1 D rfl (hl.2.2 _ _ hv) (x1 p e s m args below meth c mc ms cu su hA hc hs H locs ls hR hS hl)
theorem e_iload {i : Nat} {x : Int32} (D : decode M.2.2.1 pc = .ok (.iload i, 2)) (hv : lv[i]? = some (some (.int x))) (x1 : E l lo G d M P (pc + 2) lv (.int x :: st) h k n) : E l lo G d M P pc lv st h k n :=
  fun p e s m args below meth c mc ms cu su hA hc hs H locs ls hR hS hl => lv_iload hA.1 hA.2.1 D (hl.2.2 _ _ hv) (x1 p e s m args below meth c mc ms cu su hA hc hs H locs ls hR hS hl)
theorem e_lload_n {i : Fin 4} {x : Int64} (D : decode M.2.2.1 pc = .ok (.lload_n i, 1)) (hv : lv[(i : Nat)]? = some (some (.long x))) (x1 : E l lo G d M P (pc + 1) lv (.long x :: st) h k n) : E l lo G d M P pc lv st h k n :=
  fun p e s m args below meth c mc ms cu su hA hc hs H locs ls hR hS hl => lv_lload_n hA.1 hA.2.1 D rfl (hl.2.2 _ _ hv) (x1 p e s m args below meth c mc ms cu su hA hc hs H locs ls hR hS hl)
theorem e_lload {i : Nat} {x : Int64} (D : decode M.2.2.1 pc = .ok (.lload i, 2)) (hv : lv[i]? = some (some (.long x))) (x1 : E l lo G d M P (pc + 2) lv (.long x :: st) h k n) : E l lo G d M P pc lv st h k n :=
  fun p e s m args below meth c mc ms cu su hA hc hs H locs ls hR hS hl => lv_lload hA.1 hA.2.1 D (hl.2.2 _ _ hv) (x1 p e s m args below meth c mc ms cu su hA hc hs H locs ls hR hS hl)
theorem e_aload_n {i : Fin 4} {x : Nat} (D : decode M.2.2.1 pc = .ok (.aload_n i, 1)) (hv : lv[(i : Nat)]? = some (some (.ref x))) (x1 : E l lo G d M P (pc + 1) lv (.ref x :: st) h k n) : E l lo G d M P pc lv st h k n :=
  fun p e s m args below meth c mc ms cu su hA hc hs H locs ls hR hS hl => lv_aload_n hA.1 hA.2.1 D rfl (hl.2.2 _ _ hv) (x1 p e s m args below meth c mc ms cu su hA hc hs H locs ls hR hS hl)
theorem e_aload {i : Nat} {x : Nat} (D : decode M.2.2.1 pc = .ok (.aload i, 2)) (hv : lv[i]? = some (some (.ref x))) (x1 : E l lo G d M P (pc + 2) lv (.ref x :: st) h k n) : E l lo G d M P pc lv st h k n :=
  fun p e s m args below meth c mc ms cu su hA hc hs H locs ls hR hS hl => lv_aload hA.1 hA.2.1 D (hl.2.2 _ _ hv) (x1 p e s m args below meth c mc ms cu su hA hc hs H locs ls hR hS hl)
theorem e_aloadR_n {i : Fin 4} {r : Option Nat} (D : decode M.2.2.1 pc = .ok (.aload_n i, 1)) (hv : lv[(i : Nat)]? = some (some (va_rf r))) (x1 : E l lo G d M P (pc + 1) lv (va_rf r :: st) h k n) : E l lo G d M P pc lv st h k n := by
  cases r with
  | none => exact fun p e s m args below meth c mc ms cu su hA hc hs H locs ls hR hS hl => lv_aload_nN hA.1 hA.2.1 D rfl (hl.2.2 _ _ hv) (x1 p e s m args below meth c mc ms cu su hA hc hs H locs ls hR hS hl)
  | some a => exact fun p e s m args below meth c mc ms cu su hA hc hs H locs ls hR hS hl => lv_aload_n hA.1 hA.2.1 D rfl (hl.2.2 _ _ hv) (x1 p e s m args below meth c mc ms cu su hA hc hs H locs ls hR hS hl)
theorem e_aloadR {i : Nat} {r : Option Nat} (D : decode M.2.2.1 pc = .ok (.aload i, 2)) (hv : lv[i]? = some (some (va_rf r))) (x1 : E l lo G d M P (pc + 2) lv (va_rf r :: st) h k n) : E l lo G d M P pc lv st h k n := by
  cases r with
  | none => exact fun p e s m args below meth c mc ms cu su hA hc hs H locs ls hR hS hl => lv_aloadN hA.1 hA.2.1 D (hl.2.2 _ _ hv) (x1 p e s m args below meth c mc ms cu su hA hc hs H locs ls hR hS hl)
  | some a => exact fun p e s m args below meth c mc ms cu su hA hc hs H locs ls hR hS hl => lv_aload hA.1 hA.2.1 D (hl.2.2 _ _ hv) (x1 p e s m args below meth c mc ms cu su hA hc hs H locs ls hR hS hl)
theorem e_istore_n {i : Fin 4} {x : Int32} (lv' : List (Option Value)) (D : decode M.2.2.1 pc = .ok (.istore_n i, 1)) (hn : (i : Nat) < M.2.2.2.1) (hc1 : eC1 lv (i : Nat)) (hlv : lv.set (i : Nat) (some (.int x)) = lv') (x1 : E l lo G d M P (pc + 1) lv' st h k n) : E l lo G d M P pc lv (.int x :: st) h k n :=
  fun p e s m args below meth c mc ms cu su hA hc hs H locs ls hR hS hl => lv_istore_n hA.1 hA.2.1 D rfl hl.has hn rfl (fun ls hl' => x1 p e s m args below meth c mc ms cu su hA hc hs H locs ls hR hS (by subst hlv; exact eLv.store hc1 hl'))
theorem e_istore {i : Nat} {x : Int32} (lv' : List (Option Value)) (D : decode M.2.2.1 pc = .ok (.istore i, 2)) (hn : i < M.2.2.2.1) (hc1 : eC1 lv i) (hlv : lv.set i (some (.int x)) = lv') (x1 : E l lo G d M P (pc + 2) lv' st h k n) : E l lo G d M P pc lv (.int x :: st) h k n :=
  fun p e s m args below meth c mc ms cu su hA hc hs H locs ls hR hS hl => lv_istore hA.1 hA.2.1 D hl.has hn rfl (fun ls hl' => x1 p e s m args below meth c mc ms cu su hA hc hs H locs ls hR hS (by subst hlv; exact eLv.store hc1 hl'))
theorem e_lstore_n {i : Fin 4} {x : Int64} (lv' : List (Option Value)) (D : decode M.2.2.1 pc = .ok (.lstore_n i, 1)) (hn : (i : Nat) + 1 < M.2.2.2.1) (hc1 : eC1 lv (i : Nat)) (hlv : (lv.set (i : Nat) (some (.long x))).set ((i : Nat) + 1) none = lv') (x1 : E l lo G d M P (pc + 1) lv' st h k n) : E l lo G d M P pc lv (.long x :: st) h k n :=
  fun p e s m args below meth c mc ms cu su hA hc hs H locs ls hR hS hl => lv_lstore_n hA.1 hA.2.1 D rfl hl.has hn rfl (fun ls hl' => x1 p e s m args below meth c mc ms cu su hA hc hs H locs ls hR hS (by subst hlv; exact eLv.store2 hc1 hl'))
theorem e_lstore {i : Nat} {x : Int64} (lv' : List (Option Value)) (D : decode M.2.2.1 pc = .ok (.lstore i, 2)) (hn : i + 1 < M.2.2.2.1) (hc1 : eC1 lv i) (hlv : (lv.set i (some (.long x))).set (i + 1) none = lv') (x1 : E l lo G d M P (pc + 2) lv' st h k n) : E l lo G d M P pc lv (.long x :: st) h k n :=
  fun p e s m args below meth c mc ms cu su hA hc hs H locs ls hR hS hl => lv_lstore hA.1 hA.2.1 D hl.has hn rfl (fun ls hl' => x1 p e s m args below meth c mc ms cu su hA hc hs H locs ls hR hS (by subst hlv; exact eLv.store2 hc1 hl'))
theorem e_astore_n {i : Fin 4} {x : Nat} (lv' : List (Option Value)) (D : decode M.2.2.1 pc = .ok (.astore_n i, 1)) (hn : (i : Nat) < M.2.2.2.1) (hc1 : eC1 lv (i : Nat)) (hlv : lv.set (i : Nat) (some (.ref x)) = lv') (x1 : E l lo G d M P (pc + 1) lv' st h k n) : E l lo G d M P pc lv (.ref x :: st) h k n :=
  fun p e s m args below meth c mc ms cu su hA hc hs H locs ls hR hS hl => lv_astore_n hA.1 hA.2.1 D rfl hl.has hn rfl (fun ls hl' => x1 p e s m args below meth c mc ms cu su hA hc hs H locs ls hR hS (by subst hlv; exact eLv.store hc1 hl'))
theorem e_astore {i : Nat} {x : Nat} (lv' : List (Option Value)) (D : decode M.2.2.1 pc = .ok (.astore i, 2)) (hn : i < M.2.2.2.1) (hc1 : eC1 lv i) (hlv : lv.set i (some (.ref x)) = lv') (x1 : E l lo G d M P (pc + 2) lv' st h k n) : E l lo G d M P pc lv (.ref x :: st) h k n :=
  fun p e s m args below meth c mc ms cu su hA hc hs H locs ls hR hS hl => lv_astore hA.1 hA.2.1 D hl.has hn rfl (fun ls hl' => x1 p e s m args below meth c mc ms cu su hA hc hs H locs ls hR hS (by subst hlv; exact eLv.store hc1 hl'))
theorem e_astoreR_n {i : Fin 4} {r : Option Nat} (lv' : List (Option Value)) (D : decode M.2.2.1 pc = .ok (.astore_n i, 1)) (hn : (i : Nat) < M.2.2.2.1) (hc1 : eC1 lv (i : Nat)) (hlv : lv.set (i : Nat) (some (va_rf r)) = lv') (x1 : E l lo G d M P (pc + 1) lv' st h k n) : E l lo G d M P pc lv (va_rf r :: st) h k n := by
  cases r with
  | none => exact fun p e s m args below meth c mc ms cu su hA hc hs H locs ls hR hS hl => lv_astore_nN hA.1 hA.2.1 D rfl hl.has hn rfl (fun ls hl' => x1 p e s m args below meth c mc ms cu su hA hc hs H locs ls hR hS (by subst hlv; exact eLv.store hc1 hl'))
  | some a => exact fun p e s m args below meth c mc ms cu su hA hc hs H locs ls hR hS hl => lv_astore_n hA.1 hA.2.1 D rfl hl.has hn rfl (fun ls hl' => x1 p e s m args below meth c mc ms cu su hA hc hs H locs ls hR hS (by subst hlv; exact eLv.store hc1 hl'))
theorem e_astoreR {i : Nat} {r : Option Nat} (lv' : List (Option Value)) (D : decode M.2.2.1 pc = .ok (.astore i, 2)) (hn : i < M.2.2.2.1) (hc1 : eC1 lv i) (hlv : lv.set i (some (va_rf r)) = lv') (x1 : E l lo G d M P (pc + 2) lv' st h k n) : E l lo G d M P pc lv (va_rf r :: st) h k n := by
  cases r with
  | none => exact fun p e s m args below meth c mc ms cu su hA hc hs H locs ls hR hS hl => lv_astoreN hA.1 hA.2.1 D hl.has hn rfl (fun ls hl' => x1 p e s m args below meth c mc ms cu su hA hc hs H locs ls hR hS (by subst hlv; exact eLv.store hc1 hl'))
  | some a => exact fun p e s m args below meth c mc ms cu su hA hc hs H locs ls hR hS hl => lv_astore hA.1 hA.2.1 D hl.has hn rfl (fun ls hl' => x1 p e s m args below meth c mc ms cu su hA hc hs H locs ls hR hS (by subst hlv; exact eLv.store hc1 hl'))
theorem e_iinc {i : Nat} {j : Int} {x : Int32} (v : Int32) (lv' : List (Option Value)) (D : decode M.2.2.1 pc = .ok (.iinc i j, 3)) (hx : lv[i]? = some (some (.int x))) (hv : x + Int32.ofInt j = v) (hn : i < M.2.2.2.1) (hc1 : eC1 lv i) (hlv : lv.set i (some (.int v)) = lv') (x1 : E l lo G d M P (pc + 3) lv' st h k n) : E l lo G d M P pc lv st h k n := by
  obtain ⟨kk, hkk⟩ := List.getElem?_of_mem (eLl_mem.mpr (show lv[((i, Value.int x) : Nat × Value).1]? = _ from hx))
  exact fun p e s m args below meth c mc ms cu su hA hc hs H locs ls hR hS hl => lv_iinc hA.1 hA.2.1 D hl.has hkk hv hn rfl (fun ls hl' => x1 p e s m args below meth c mc ms cu su hA hc hs H locs ls hR hS (by subst hlv; exact eLv.store hc1 hl'))
theorem e_if_eq {x : Int32} {off : Int} (tgt : Nat) (D : decode M.2.2.1 pc = .ok (.ifCond .eq off, 3)) (ht : (pc : Int) + off = (tgt : Int)) (x1 : x = 0 → E l lo G d M P tgt lv st h k n) (x2 : ¬ x = 0 → E l lo G d M P (pc + 3) lv st h k n) : E l lo G d M P pc lv (.int x :: st) h k n :=
  fun p e s m args below meth c mc ms cu su hA hc hs H locs ls hR hS hl => lv_if_eq hA.1 hA.2.1 D ht (fun g => (x1 g p e s m args below meth c mc ms cu su hA hc hs H locs ls hR hS hl)) (fun g => (x2 g p e s m args below meth c mc ms cu su hA hc hs H locs ls hR hS hl))
theorem e_icmp_eq {x y : Int32} {off : Int} (tgt : Nat) (D : decode M.2.2.1 pc = .ok (.if_icmp .eq off, 3)) (ht : (pc : Int) + off = (tgt : Int)) (x1 : x = y → E l lo G d M P tgt lv st h k n) (x2 : ¬ x = y → E l lo G d M P (pc + 3) lv st h k n) : E l lo G d M P pc lv (.int y :: .int x :: st) h k n :=
  fun p e s m args below meth c mc ms cu su hA hc hs H locs ls hR hS hl => lv_icmp_eq hA.1 hA.2.1 D ht (fun g => (x1 g p e s m args below meth c mc ms cu su hA hc hs H locs ls hR hS hl)) (fun g => (x2 g p e s m args below meth c mc ms cu su hA hc hs H locs ls hR hS hl))
theorem e_if_ne {x : Int32} {off : Int} (tgt : Nat) (D : decode M.2.2.1 pc = .ok (.ifCond .ne off, 3)) (ht : (pc : Int) + off = (tgt : Int)) (x1 : ¬ x = 0 → E l lo G d M P tgt lv st h k n) (x2 : x = 0 → E l lo G d M P (pc + 3) lv st h k n) : E l lo G d M P pc lv (.int x :: st) h k n :=
  fun p e s m args below meth c mc ms cu su hA hc hs H locs ls hR hS hl => lv_if_ne hA.1 hA.2.1 D ht (fun g => (x1 g p e s m args below meth c mc ms cu su hA hc hs H locs ls hR hS hl)) (fun g => (x2 g p e s m args below meth c mc ms cu su hA hc hs H locs ls hR hS hl))
theorem e_icmp_ne {x y : Int32} {off : Int} (tgt : Nat) (D : decode M.2.2.1 pc = .ok (.if_icmp .ne off, 3)) (ht : (pc : Int) + off = (tgt : Int)) (x1 : ¬ x = y → E l lo G d M P tgt lv st h k n) (x2 : x = y → E l lo G d M P (pc + 3) lv st h k n) : E l lo G d M P pc lv (.int y :: .int x :: st) h k n :=
  fun p e s m args below meth c mc ms cu su hA hc hs H locs ls hR hS hl => lv_icmp_ne hA.1 hA.2.1 D ht (fun g => (x1 g p e s m args below meth c mc ms cu su hA hc hs H locs ls hR hS hl)) (fun g => (x2 g p e s m args below meth c mc ms cu su hA hc hs H locs ls hR hS hl))
theorem e_if_lt {x : Int32} {off : Int} (tgt : Nat) (D : decode M.2.2.1 pc = .ok (.ifCond .lt off, 3)) (ht : (pc : Int) + off = (tgt : Int)) (x1 : x < 0 → E l lo G d M P tgt lv st h k n) (x2 : ¬ x < 0 → E l lo G d M P (pc + 3) lv st h k n) : E l lo G d M P pc lv (.int x :: st) h k n :=
  fun p e s m args below meth c mc ms cu su hA hc hs H locs ls hR hS hl => lv_if_lt hA.1 hA.2.1 D ht (fun g => (x1 g p e s m args below meth c mc ms cu su hA hc hs H locs ls hR hS hl)) (fun g => (x2 g p e s m args below meth c mc ms cu su hA hc hs H locs ls hR hS hl))
theorem e_icmp_lt {x y : Int32} {off : Int} (tgt : Nat) (D : decode M.2.2.1 pc = .ok (.if_icmp .lt off, 3)) (ht : (pc : Int) + off = (tgt : Int)) (x1 : x < y → E l lo G d M P tgt lv st h k n) (x2 : ¬ x < y → E l lo G d M P (pc + 3) lv st h k n) : E l lo G d M P pc lv (.int y :: .int x :: st) h k n :=
  fun p e s m args below meth c mc ms cu su hA hc hs H locs ls hR hS hl => lv_icmp_lt hA.1 hA.2.1 D ht (fun g => (x1 g p e s m args below meth c mc ms cu su hA hc hs H locs ls hR hS hl)) (fun g => (x2 g p e s m args below meth c mc ms cu su hA hc hs H locs ls hR hS hl))
theorem e_if_ge {x : Int32} {off : Int} (tgt : Nat) (D : decode M.2.2.1 pc = .ok (.ifCond .ge off, 3)) (ht : (pc : Int) + off = (tgt : Int)) (x1 : 0 ≤ x → E l lo G d M P tgt lv st h k n) (x2 : ¬ 0 ≤ x → E l lo G d M P (pc + 3) lv st h k n) : E l lo G d M P pc lv (.int x :: st) h k n :=
  fun p e s m args below meth c mc ms cu su hA hc hs H locs ls hR hS hl => lv_if_ge hA.1 hA.2.1 D ht (fun g => (x1 g p e s m args below meth c mc ms cu su hA hc hs H locs ls hR hS hl)) (fun g => (x2 g p e s m args below meth c mc ms cu su hA hc hs H locs ls hR hS hl))
theorem e_icmp_ge {x y : Int32} {off : Int} (tgt : Nat) (D : decode M.2.2.1 pc = .ok (.if_icmp .ge off, 3)) (ht : (pc : Int) + off = (tgt : Int)) (x1 : y ≤ x → E l lo G d M P tgt lv st h k n) (x2 : ¬ y ≤ x → E l lo G d M P (pc + 3) lv st h k n) : E l lo G d M P pc lv (.int y :: .int x :: st) h k n :=
  fun p e s m args below meth c mc ms cu su hA hc hs H locs ls hR hS hl => lv_icmp_ge hA.1 hA.2.1 D ht (fun g => (x1 g p e s m args below meth c mc ms cu su hA hc hs H locs ls hR hS hl)) (fun g => (x2 g p e s m args below meth c mc ms cu su hA hc hs H locs ls hR hS hl))
theorem e_if_gt {x : Int32} {off : Int} (tgt : Nat) (D : decode M.2.2.1 pc = .ok (.ifCond .gt off, 3)) (ht : (pc : Int) + off = (tgt : Int)) (x1 : 0 < x → E l lo G d M P tgt lv st h k n) (x2 : ¬ 0 < x → E l lo G d M P (pc + 3) lv st h k n) : E l lo G d M P pc lv (.int x :: st) h k n :=
  fun p e s m args below meth c mc ms cu su hA hc hs H locs ls hR hS hl => lv_if_gt hA.1 hA.2.1 D ht (fun g => (x1 g p e s m args below meth c mc ms cu su hA hc hs H locs ls hR hS hl)) (fun g => (x2 g p e s m args below meth c mc ms cu su hA hc hs H locs ls hR hS hl))
theorem e_icmp_gt {x y : Int32} {off : Int} (tgt : Nat) (D : decode M.2.2.1 pc = .ok (.if_icmp .gt off, 3)) (ht : (pc : Int) + off = (tgt : Int)) (x1 : y < x → E l lo G d M P tgt lv st h k n) (x2 : ¬ y < x → E l lo G d M P (pc + 3) lv st h k n) : E l lo G d M P pc lv (.int y :: .int x :: st) h k n :=
  fun p e s m args below meth c mc ms cu su hA hc hs H locs ls hR hS hl => lv_icmp_gt hA.1 hA.2.1 D ht (fun g => (x1 g p e s m args below meth c mc ms cu su hA hc hs H locs ls hR hS hl)) (fun g => (x2 g p e s m args below meth c mc ms cu su hA hc hs H locs ls hR hS hl))
theorem e_if_le {x : Int32} {off : Int} (tgt : Nat) (D : decode M.2.2.1 pc = .ok (.ifCond .le off, 3)) (ht : (pc : Int) + off = (tgt : Int)) (x1 : x ≤ 0 → E l lo G d M P tgt lv st h k n) (x2 : ¬ x ≤ 0 → E l lo G d M P (pc + 3) lv st h k n) : E l lo G d M P pc lv (.int x :: st) h k n :=
  fun p e s m args below meth c mc ms cu su hA hc hs H locs ls hR hS hl => lv_if_le hA.1 hA.2.1 D ht (fun g => (x1 g p e s m args below meth c mc ms cu su hA hc hs H locs ls hR hS hl)) (fun g => (x2 g p e s m args below meth c mc ms cu su hA hc hs H locs ls hR hS hl))
theorem e_icmp_le {x y : Int32} {off : Int} (tgt : Nat) (D : decode M.2.2.1 pc = .ok (.if_icmp .le off, 3)) (ht : (pc : Int) + off = (tgt : Int)) (x1 : x ≤ y → E l lo G d M P tgt lv st h k n) (x2 : ¬ x ≤ y → E l lo G d M P (pc + 3) lv st h k n) : E l lo G d M P pc lv (.int y :: .int x :: st) h k n :=
  fun p e s m args below meth c mc ms cu su hA hc hs H locs ls hR hS hl => lv_icmp_le hA.1 hA.2.1 D ht (fun g => (x1 g p e s m args below meth c mc ms cu su hA hc hs H locs ls hR hS hl)) (fun g => (x2 g p e s m args below meth c mc ms cu su hA hc hs H locs ls hR hS hl))
theorem e_goto {off : Int} (tgt : Nat) (D : decode M.2.2.1 pc = .ok (.goto off, 3)) (ht : (pc : Int) + off = (tgt : Int)) (x : E l lo G d M P tgt lv st h k n) : E l lo G d M P pc lv st h k n :=
  fun p e s m args below meth c mc ms cu su hA hc hs H locs ls hR hS hl => lv_goto hA.1 hA.2.1 D ht (x p e s m args below meth c mc ms cu su hA hc hs H locs ls hR hS hl)
theorem e_acmp_eq {rx ry : Option Nat} {off : Int} (tgt : Nat) (D : decode M.2.2.1 pc = .ok (.if_acmp .eq off, 3)) (ht : (pc : Int) + off = (tgt : Int)) (x1 : rx = ry → E l lo G d M P tgt lv st h k n) (x2 : ¬ rx = ry → E l lo G d M P (pc + 3) lv st h k n) : E l lo G d M P pc lv (va_rf ry :: va_rf rx :: st) h k n :=
  fun p e s m args below meth c mc ms cu su hA hc hs H locs ls hR hS hl => lv_acmp_eq hA.1 hA.2.1 D ht (fun g => (x1 g p e s m args below meth c mc ms cu su hA hc hs H locs ls hR hS hl)) (fun g => (x2 g p e s m args below meth c mc ms cu su hA hc hs H locs ls hR hS hl))
theorem e_acmp_ne {rx ry : Option Nat} {off : Int} (tgt : Nat) (D : decode M.2.2.1 pc = .ok (.if_acmp .ne off, 3)) (ht : (pc : Int) + off = (tgt : Int)) (x1 : ¬ rx = ry → E l lo G d M P tgt lv st h k n) (x2 : rx = ry → E l lo G d M P (pc + 3) lv st h k n) : E l lo G d M P pc lv (va_rf ry :: va_rf rx :: st) h k n :=
  fun p e s m args below meth c mc ms cu su hA hc hs H locs ls hR hS hl => lv_acmp_ne hA.1 hA.2.1 D ht (fun g => (x1 g p e s m args below meth c mc ms cu su hA hc hs H locs ls hR hS hl)) (fun g => (x2 g p e s m args below meth c mc ms cu su hA hc hs H locs ls hR hS hl))
theorem e_ifnull {r : Option Nat} {off : Int} (tgt : Nat) (D : decode M.2.2.1 pc = .ok (.ifnull off, 3)) (ht : (pc : Int) + off = (tgt : Int)) (x1 : r = none → E l lo G d M P tgt lv st h k n) (x2 : ∀ a, r = some a → E l lo G d M P (pc + 3) lv st h k n) : E l lo G d M P pc lv (va_rf r :: st) h k n := by
  cases r with
  | none => exact fun p e s m args below meth c mc ms cu su hA hc hs H locs ls hR hS hl => lv_ifnullN hA.1 hA.2.1 D ht (x1 rfl p e s m args below meth c mc ms cu su hA hc hs H locs ls hR hS hl)
  | some a => exact fun p e s m args below meth c mc ms cu su hA hc hs H locs ls hR hS hl => lv_ifnull hA.1 hA.2.1 D (x2 a rfl p e s m args below meth c mc ms cu su hA hc hs H locs ls hR hS hl)
theorem e_ifnonnull {r : Option Nat} {off : Int} (tgt : Nat) (D : decode M.2.2.1 pc = .ok (.ifnonnull off, 3)) (ht : (pc : Int) + off = (tgt : Int)) (x1 : ∀ a, r = some a → E l lo G d M P tgt lv st h k n) (x2 : r = none → E l lo G d M P (pc + 3) lv st h k n) : E l lo G d M P pc lv (va_rf r :: st) h k n := by
  cases r with
  | none => exact fun p e s m args below meth c mc ms cu su hA hc hs H locs ls hR hS hl => lv_ifnonnullN hA.1 hA.2.1 D (x2 rfl p e s m args below meth c mc ms cu su hA hc hs H locs ls hR hS hl)
  | some a => exact fun p e s m args below meth c mc ms cu su hA hc hs H locs ls hR hS hl => lv_ifnonnull hA.1 hA.2.1 D ht (x1 a rfl p e s m args below meth c mc ms cu su hA hc hs H locs ls hR hS hl)
theorem e_switchIn {dflt lo9 hi9 : Int} {offs : Array Int} {len : Nat} {x : Int32} {off : Int} (tgt : Nat) (D : decode M.2.2.1 pc = .ok (.tableswitch dflt lo9 hi9 offs, len)) (h1 : ¬ x.toInt < lo9) (h2 : ¬ hi9 < x.toInt) (ho : offs[(x.toInt - lo9).toNat]? = some off) (ht : (pc : Int) + off = (tgt : Int)) (x1 : E l lo G d M P tgt lv st h k n) : E l lo G d M P pc lv (.int x :: st) h k n :=
  fun p e s m args below meth c mc ms cu su hA hc hs H locs ls hR hS hl => lv_tableIn hA.1 hA.2.1 D h1 h2 ho ht (x1 p e s m args below meth c mc ms cu su hA hc hs H locs ls hR hS hl)
theorem e_switchOut {dflt lo9 hi9 : Int} {offs : Array Int} {len : Nat} {x : Int32} (tgt : Nat) (D : decode M.2.2.1 pc = .ok (.tableswitch dflt lo9 hi9 offs, len)) (h1 : x.toInt < lo9 ∨ hi9 < x.toInt) (ht : (pc : Int) + dflt = (tgt : Int)) (x1 : E l lo G d M P tgt lv st h k n) : E l lo G d M P pc lv (.int x :: st) h k n :=
  fun p e s m args below meth c mc ms cu su hA hc hs H locs ls hR hS hl => lv_tableOut hA.1 hA.2.1 D h1 ht (x1 p e s m args below meth c mc ms cu su hA hc hs H locs ls hR hS hl)
theorem e_lookup {dflt : Int} {ps : Array (Int × Int)} {len : Nat} {x : Int32} {off : Int} (tgt : Nat) (D : decode M.2.2.1 pc = .ok (.lookupswitch dflt ps, len)) (hp : (ps.toList.zip (ps.toList.drop 1)).all (fun (a, next) => a.1 < next.1) = true) (ho : Op.lookupswitch.offset ps.toList dflt x.toInt = off) (ht : (pc : Int) + off = (tgt : Int)) (x1 : E l lo G d M P tgt lv st h k n) : E l lo G d M P pc lv (.int x :: st) h k n :=
  fun p e s m args below meth c mc ms cu su hA hc hs H locs ls hR hS hl => lv_lookup hA.1 hA.2.1 D hp ho ht (x1 p e s m args below meth c mc ms cu su hA hc hs H locs ls hR hS hl)
theorem e_ireturn {v : Int32} (ty : FieldType) (D : decode M.2.2.1 pc = .ok (.ireturn, 1)) (ht : M.2.2.2.2.1 = some ty) (hn : narrow ty (.int v) = .int v) (hP : P (.inl (some (.int v))) h) : E l lo G d M P pc lv [.int v] h k n :=
  fun p e s m args below meth c mc ms cu su hA hc hs H locs ls hR hS hl => W.widen (k := mc) (n := ms) (by omega) (by omega) (vx_ret (W.zret hA.1 hA.2.1 (hA.2.2.1.trans ht) hn (fun t ht hW => ⟨some (.int v), h, rfl, hP, by rw [ht]; exact hR, hS.F ht⟩) hS.2.2 D hA.2.2.2.1))
theorem e_lreturn {v : Int64} (D : decode M.2.2.1 pc = .ok (.lreturn, 1)) (ht : M.2.2.2.2.1 = some .long) (hP : P (.inl (some (.long v))) h) : E l lo G d M P pc lv [.long v] h k n :=
  fun p e s m args below meth c mc ms cu su hA hc hs H locs ls hR hS hl => W.widen (k := mc) (n := ms) (by omega) (by omega) (vx_ret (W.lret hA.1 hA.2.1 (hA.2.2.1.trans ht) (fun t ht hW => ⟨some (.long v), h, rfl, hP, by rw [ht]; exact hR, hS.F ht⟩) hS.2.2 D hA.2.2.2.1))
theorem e_return (D : decode M.2.2.1 pc = .ok (.return_, 1)) (ht : M.2.2.2.2.1 = none) (hP : P (.inl none) h) : E l lo G d M P pc lv [] h k n :=
  fun p e s m args below meth c mc ms cu su hA hc hs H locs ls hR hS hl => W.widen (k := mc) (n := ms) (by omega) (by omega) (vx_ret (W.vret hA.1 hA.2.1 (hA.2.2.1.trans ht) (fun t ht hW => ⟨none, h, rfl, hP, by rw [ht]; exact hR, hS.F ht⟩) hS.2.2 D hA.2.2.2.1))
theorem e_areturn {r : Option Nat} (ty : FieldType) (D : decode M.2.2.1 pc = .ok (.areturn, 1)) (ht : M.2.2.2.2.1 = some ty) (hn : (∃ n, ty = .object n) ∨ ∃ t, ty = .array t) (hP : P (.inl (some (va_rf r))) h) : E l lo G d M P pc lv [va_rf r] h k n :=
  fun p e s m args below meth c mc ms cu su hA hc hs H locs ls hR hS hl => W.widen (k := mc) (n := ms) (by omega) (by omega) (vx_ret (W.aret hA.1 hA.2.1 (hA.2.2.1.trans ht) hn (by cases r; exact Or.inl rfl; exact Or.inr ⟨_, rfl⟩) (fun t ht hW => ⟨some (va_rf r), h, rfl, hP, by rw [ht]; exact hR, hS.F ht⟩) hS.2.2 D hA.2.2.2.1))
end EL
