/-! the twin answers: units -/
def ngC (S set : Nat) (md : List Nat) : Nat → Nat := cnt (fun t => set.testBit (S - 1 - md.getD t 0))
/-- marks of 1 and -1 keep a congruence -/
def uOk (S set : Nat) (md : List Nat) : Bool := 2 * ngC S set md md.length % md.length == 0
theorem u_rem : ∀ a, a < 25 → ∀ b, b < 25 → 1 ≤ a + b → ((nI a - nI b) - (nI a - nI b) / nI (a + b) * nI (a + b) = 0 ↔ 2 * b % (a + b) = 0) := by decide +kernel
theorem nI_sub1 (a b : Nat) : nI a - nI b + (-1) = nI a - nI (b + 1) := by
  rw [nI_succ, Int32.sub_eq_add_neg, Int32.sub_eq_add_neg, Int32.neg_add, Int32.sub_eq_add_neg, Int32.add_assoc]
theorem nI_sub2 (a b : Nat) : nI a - nI b + 1 = nI (a + 1) - nI b := by
  rw [nI_succ, Int32.sub_eq_add_neg, Int32.sub_eq_add_neg, Int32.add_assoc, Int32.add_comm (-nI b), ← Int32.add_assoc]
theorem ct_isUnitAt {T0 : tS} {S : Nat} {md : List Nat} (h26 : T0.1 26 = nI S) (hS : S ≤ 31) (hl : tLi T0 55 54 md) (m1 : 1 ≤ md.length) (m2 : md.length ≤ 24) (m3 : ∀ t, t ∈ md → t < S) {set : Nat} (hs : set < 2 ^ 31) (j : Int32) : tMi mX6_isUnitAt 1 (fun _ => [.int (nI set), .int j]) T0 (fun r T' => r = zI (uOk S set md = true) ∧ T' = T0) := by
  refine en_isUnitAt _ j T0 _ (fun c hc => s_isUnitAt_0 c _ T0 ?_)
  have hcl : ∀ k, ngC S set md k ≤ k := cnt_le _
  have h0 : nI (0 - ngC S set md 0) - nI (ngC S set md 0) = 0 := by
    show nI 0 - nI 0 = 0
    decide
  have key : h_isUnitAt_5 c (nI set) (nI (0 - ngC S set md 0) - nI (ngC S set md 0)) (nI 0) T0 := by
    refine loopUp (N := md.length) (P := fun k => h_isUnitAt_5 c (nI set) (nI (k - ngC S set md k) - nI (ngC S set md k)) (nI k) T0) ?_ ?_ 0 (Nat.zero_le _)
    · refine s_isUnitAt_5 c _ _ _ T0 ⟨fun _ => ?_, fun q => absurd (by rw [hl.1]; exact Int32.le_refl _) q⟩
      have hb := hcl md.length
      have hr := u_rem (md.length - ngC S set md md.length) (by omega) (ngC S set md md.length) (by omega) (by omega)
      rw [show md.length - ngC S set md md.length + ngC S set md md.length = md.length by omega] at hr
      rw [hl.1, hr, hc]
      refine ⟨nI_ne0 (by omega) (by omega), fun q => ⟨_, rfl, ?_, rfl⟩, fun q => ⟨_, rfl, ?_, rfl⟩⟩
      · rw [zI_f (by unfold uOk; rw [beq_iff_eq]; exact q)]
      · rw [zI_t (by unfold uOk; rw [beq_iff_eq]; exact q)]
    · intro k hk nx
      have hm := m3 _ (gD_mem hk)
      have hb := hcl k
      refine s_isUnitAt_5 c _ _ _ T0 ⟨fun q => absurd q (by rw [hl.1]; exact nI_ge hk (by omega)), fun _ => ⟨vpI (by omega), ?_⟩⟩
      have ei : (nI S - (1 : Int32)) - nI (md.getD k 0) = nI (S - 1 - md.getD k 0) := by
        rw [show (1 : Int32) = nI 1 from rfl, pk_sub (by omega), pk_sub (by omega)]
      rw [nI_clamp (show k < 2 ^ 31 by omega), hl.2 k hk, h26, ei, zI_0, Classical.not_not, x_bit hs (show S - 1 - md.getD k 0 < 31 by omega), nI_1]
      refine ⟨fun q => ?_, fun q => ?_⟩
      · have e1 : ngC S set md (k + 1) = ngC S set md k := cnt_f (p := fun t => set.testBit (S - 1 - md.getD t 0)) q
        rw [e1] at nx
        rw [nI_sub2, show k - ngC S set md k + 1 = k + 1 - ngC S set md k by omega]
        exact nx
      · have e1 : ngC S set md (k + 1) = ngC S set md k + 1 := cnt_t (p := fun t => set.testBit (S - 1 - md.getD t 0)) q
        rw [e1, show k + 1 - (ngC S set md k + 1) = k - ngC S set md k by omega] at nx
        rw [nI_sub1]
        exact nx
  rw [h0] at key
  exact key
/-- sets of bits whose congruences hold, the last d sorts' -/
def unL (S : Nat) (md : Nat → List Nat) : Nat → List Nat
  | 0 => [0]
  | d + 1 => (unL S md d).filter (fun u => uOk S u (md (S - 1 - d))) ++ ((unL S md d).map (fun u => u ||| 2 ^ d)).filter (fun u => uOk S u (md (S - 1 - d)))
theorem unL_lt {S : Nat} {md : Nat → List Nat} : ∀ d u, u ∈ unL S md d → u < 2 ^ d := by
  intro d
  induction d with
  | zero => intro u hu; rw [List.mem_singleton.mp hu]; decide
  | succ d ih =>
    intro u hu
    rcases List.mem_append.mp hu with q | q
    · have := ih u (List.mem_filter.mp q).1
      exact lt_pow this (by omega)
    · obtain ⟨w, hw, rfl⟩ := List.mem_map.mp (List.mem_filter.mp q).1
      exact or_lt (lt_pow (ih w hw) (by omega)) (pow_lt (by omega))
def tUns (T : tS) (S : Nat) (md : Nat → List Nat) : Prop := T.1 58 = 0 ∨ (T.1 58 = 1 ∧ tLi T 57 56 (unL S md S))
theorem fl_take {L : List Nat} {P : Nat → Bool} {k : Nat} (hk : k < L.length) : (L.take (k + 1)).filter P = if P (L.getD k 0) = true then (L.take k).filter P ++ [L.getD k 0] else (L.take k).filter P := by
  rw [List.take_succ, List.filter_append, List.getElem?_eq_getElem hk, gD_at hk]
  show _ ++ List.filter P [L[k]] = _
  by_cases q : P L[k] = true
  · rw [if_pos q, List.filter_cons_of_pos q]; rfl
  · rw [if_neg q, List.filter_cons_of_neg q]; simp
theorem gD_map {L : List Nat} {g : Nat → Nat} {k : Nat} (hk : k < L.length) : (L.map g).getD k 0 = g (L.getD k 0) := by
  rw [gD_at (by simpa using hk), gD_at hk, List.getElem_map]
theorem gD_appR {L M : List Nat} {k : Nat} : (L ++ M).getD (L.length + k) 0 = M.getD k 0 := by
  rw [List.getD_eq_getElem?_getD, List.getElem?_append_right (by omega), Nat.add_sub_cancel_left, ← List.getD_eq_getElem?_getD]
theorem fl_len {L : List Nat} {P : Nat → Bool} (k : Nat) : ((L.take k).filter P).length ≤ k := Nat.le_trans (List.length_filter_le _ _) (by rw [List.length_take]; omega)
theorem ct_laysUnits {T0 : tS} {n : Nat} {mul : Nat → Nat → Nat} {inv : Nat → Nat} {L F : List Nat} (h : tGrp T0 n mul inv L F) (hF : F.length ≤ 31) (hu : tUns T0 F.length (mdL n mul inv F)) (hU : ∀ d, d ≤ F.length → (unL F.length (mdL n mul inv F) d).length ≤ 32768) : tMv mX6_laysUnits 4 (fun _ => []) T0 (fun T' => tEq [54, 55, 56, 57, 58] T0 T' ∧ T'.1 58 = 1 ∧ tLi T' 57 56 (unL F.length (mdL n mul inv F) F.length)) := by
  have g6 := h.2.2.2.2.2.1
  generalize hmd : mdL n mul inv F = md at hu hU
  refine en_laysUnits T0 _ (fun c hc => s_laysUnits_0 c T0 ⟨fun e => ⟨vpI (n := 0) (by decide), ?_⟩, fun e => ?_⟩)
  · rw [show (0 : Int32).toNatClampNeg = 0 from rfl, g6.1]
    have key : ∀ r d, d + r = F.length → ∀ T, tEq [54, 55, 56, 57, 58] T0 T → T.1 58 = 1 → tLi T 57 56 (unL F.length md d) → h_laysUnits_32 c (nI r - 1) T := by
      intro r
      induction r with
      | zero =>
        intro d hd T et h58 hl
        refine s_laysUnits_32 c _ T ⟨fun _ => ?_, fun q => absurd (by decide) q⟩
        rw [hc]
        rw [show d = F.length by omega] at hl
        exact ⟨rfl, et, h58, hl⟩
      | succ r ih =>
        intro d hd T et h58 hl
        have hr : r < F.length := by omega
        have hT := h.same et (by decide)
        obtain ⟨m1, m2, m3⟩ := tGrp_md h hr
        rw [nI_pred]
        refine s_laysUnits_32 c _ T ⟨fun q => absurd q (nI_pos (by omega)), fun _ => ⟨_, ct_laysMade hT (by omega) hr, ?_⟩⟩
        rintro T5 ⟨e5, l5⟩
        have et5 : tEq [54, 55, 56, 57, 58] T0 T5 := et.trans (e5.mono (by decide))
        have hl5 : tLi T5 57 56 (unL F.length md d) := hl.same e5 (by decide) (by decide)
        have h58' : T5.1 58 = 1 := by rw [e5.i 58 (by decide)]; exact h58
        rw [hmd] at l5 m1 m2 m3
        have e26 : T5.1 26 = nI F.length := by rw [et5.i 26 (by decide)]; exact g6.1
        have eb : ((1 : Int32) <<< ((((T5.1 26) - (1 : Int32)) - nI r) &&& 31)) = nI (2 ^ d) := by
          rw [e26, show (1 : Int32) = nI 1 from rfl, pk_sub (by omega), pk_sub (by omega), show F.length - 1 - r = d by omega]
          exact x_shl1 (by omega)
        rw [eb, hl5.1]
        have hUd := hU d (by omega)
        have hlt := unL_lt (S := F.length) (md := md) d
        have hj : F.length - 1 - d = r := by omega
        have eL : unL F.length md (d + 1) = (unL F.length md d).filter (fun u => uOk F.length u (md r)) ++ ((unL F.length md d).map (fun u => u ||| 2 ^ d)).filter (fun u => uOk F.length u (md r)) := by
          show List.filter _ _ ++ List.filter _ _ = _
          rw [hj]
        generalize hU0 : unL F.length md d = U at hl5 hUd hlt eL
        have hgl : ∀ k, k < U.length → U.getD k 0 < 2 ^ d := fun k hk => hlt _ (gD_mem hk)
        have hd31 : d < 31 := by omega
        have hb31 : ∀ x, x < 2 ^ (d + 1) → x < 2 ^ 31 := fun x hx => lt_pow hx (by omega)
        have hgd : ∀ k, k < U.length → U.getD k 0 ||| 2 ^ d < 2 ^ 31 := fun k hk => hb31 _ (or_lt (lt_pow (hgl k hk) (by omega)) (pow_lt (by omega)))
        have hgd0 : ∀ k, k < U.length → U.getD k 0 < 2 ^ 31 := fun k hk => hb31 _ (lt_pow (hgl k hk) (by omega))
        -- the third loop
        have third : ∀ (A B : List Nat), A.length ≤ U.length → U.length + B.length ≤ 65536 → unL F.length md (d + 1) = A ++ B → ∀ T6, tEq [54, 55, 56, 57, 58] T0 T6 → T6.1 58 = 1 → (∀ i, i < A.length → T6.2.2.1 56 i = nI (A.getD i 0)) → (∀ i, i < B.length → T6.2.2.1 56 (U.length + i) = nI (B.getD i 0)) → h_laysUnits_175 c (nI r) (nI A.length) (nI (U.length + B.length)) (nI U.length) T6 := by
          intro A B hA hB eAB T6 e6 g58 gA gB
          refine loopUp (N := B.length) (P := fun k => ∀ T6, tEq [54, 55, 56, 57, 58] T0 T6 → T6.1 58 = 1 → (∀ i, i < A.length → T6.2.2.1 56 i = nI (A.getD i 0)) → (∀ i, i < k → T6.2.2.1 56 (A.length + i) = nI (B.getD i 0)) → (∀ i, i < B.length → k ≤ i → T6.2.2.1 56 (U.length + i) = nI (B.getD i 0)) → h_laysUnits_175 c (nI r) (nI (A.length + k)) (nI (U.length + B.length)) (nI (U.length + k)) T6) ?_ ?_ 0 (Nat.zero_le _) T6 e6 g58 gA (fun i hi => absurd hi (Nat.not_lt_zero _)) (fun i hi _ => gB i hi)
          · intro T7 e7 k58 kA kB _
            refine s_laysUnits_175 c _ _ _ _ T7 ⟨fun _ => ?_, fun q => absurd (Int32.le_refl _) q⟩
            rw [show nI r + (-1) = nI r - 1 by rw [Int32.sub_eq_add_neg]]
            refine ih (d + 1) (by omega) _ (e7.trans (tEq.sI _ _ (by decide))) (by rw [tI_in (by decide)]; exact k58) ⟨by rw [tI_is, eAB]; simp, fun i hi => ?_⟩
            rw [eAB] at hi ⊢
            show T7.2.2.1 56 i = _
            by_cases z : i < A.length
            · rw [gD_app z]; exact kA i z
            · obtain ⟨i', rfl⟩ : ∃ i', i = A.length + i' := ⟨i - A.length, by omega⟩
              rw [gD_appR]
              refine kB i' ?_
              rw [List.length_append] at hi
              omega
          · intro k hk nx T7 e7 k58 kA kB kC
            refine s_laysUnits_175 c _ _ _ _ T7 ⟨fun q => absurd q (nI_ge (by omega) (by omega)), fun _ => ⟨vpI (by omega), vpI (by omega), ?_⟩⟩
            rw [nI_clamp (by omega), nI_clamp (by omega), kC k hk (Nat.le_refl _), nI_1, nI_1]
            refine nx _ (e7.trans (tEq.sA _ _ (by decide))) k58 (fun i hi => ?_) (fun i hi => ?_) (fun i hi hki => ?_)
            · rw [tA_as, up_ne (by omega)]; exact kA i hi
            · rw [tA_as]
              by_cases z : i = k
              · subst z; rw [up_self]
              · rw [up_ne (by omega)]; exact kB i (by omega)
            · rw [tA_as, up_ne (by omega)]; exact kC i hi (by omega)
        -- the second loop
        have second : ∀ (B : List Nat), U.length + B.length ≤ 65536 → unL F.length md (d + 1) = U.filter (fun u => uOk F.length u (md r)) ++ B → ∀ T6, tEq [54, 55, 56, 57, 58] T0 T6 → tLi T6 55 54 (md r) → T6.1 58 = 1 → T6.1 57 = nI U.length → (∀ i, i < U.length → T6.2.2.1 56 i = nI (U.getD i 0)) → (∀ i, i < B.length → T6.2.2.1 56 (U.length + i) = nI (B.getD i 0)) → h_laysUnits_120 c (nI r) (nI 0) (nI (U.length + B.length)) (nI 0) T6 := by
          intro B hB eAB T6 e6 l6 g58 g57 gU gB
          have lk := fun k => fl_len (L := U) (P := fun u => uOk F.length u (md r)) k
          have := loopUp (N := U.length) (P := fun k => ∀ T6, tEq [54, 55, 56, 57, 58] T0 T6 → tLi T6 55 54 (md r) → T6.1 58 = 1 → T6.1 57 = nI U.length → (∀ i, i < ((U.take k).filter (fun u => uOk F.length u (md r))).length → T6.2.2.1 56 i = nI (((U.take k).filter (fun u => uOk F.length u (md r))).getD i 0)) → (∀ i, i < U.length → k ≤ i → T6.2.2.1 56 i = nI (U.getD i 0)) → (∀ i, i < B.length → T6.2.2.1 56 (U.length + i) = nI (B.getD i 0)) → h_laysUnits_120 c (nI r) (nI ((U.take k).filter (fun u => uOk F.length u (md r))).length) (nI (U.length + B.length)) (nI k) T6) ?_ ?_ 0 (Nat.zero_le _) T6 e6 l6 g58 g57 (fun i hi => absurd hi (by simp)) (fun i hi _ => gU i hi) gB
          · exact this
          · intro T7 e7 l7 k58 k57 kA kU kB
            refine s_laysUnits_120 c _ _ _ _ T7 ⟨fun _ => ?_, fun q => absurd (by rw [k57]; exact Int32.le_refl _) q⟩
            rw [List.take_length] at *
            rw [k57]
            exact third _ B (by have := lk U.length; rw [List.take_length] at this; exact this) hB eAB T7 e7 k58 kA kB
          · intro k hk nx T7 e7 l7 k58 k57 kA kU kB
            have lk' := lk k
            refine s_laysUnits_120 c _ _ _ _ T7 ⟨fun q => absurd q (by rw [k57]; exact nI_ge hk (by omega)), fun _ => ⟨vpI (by omega), ?_⟩⟩
            rw [nI_clamp (show k < 2 ^ 31 by omega), kU k hk (Nat.le_refl _)]
            refine ⟨_, ct_isUnitAt (by rw [e7.i 26 (by decide)]; exact g6.1) hF l7 m1 m2 m3 (hgd0 k hk) _, ?_⟩
            rintro z T8 ⟨rfl, rfl⟩
            rw [fl_take hk] at nx
            refine ⟨fun q => ?_, fun q => ?_⟩
            · rw [zI_n0] at q
              rw [if_pos q] at nx
              refine ⟨vpI (by omega), vpI (by omega), s_laysUnits_163 c _ _ _ _ _ ?_⟩
              rw [nI_1, nI_1, nI_clamp (by omega), kU k hk (Nat.le_refl _)]
              have el : ((U.take k).filter (fun u => uOk F.length u (md r)) ++ [U.getD k 0]).length = ((U.take k).filter (fun u => uOk F.length u (md r))).length + 1 := by simp
              rw [el] at nx
              refine nx _ (e7.trans (tEq.sA _ _ (by decide))) (l7.same (tEq.sA (S := [56]) _ _ (by decide)) (by decide) (by decide)) k58 k57 (fun i hi => ?_) (fun i hi hki => ?_) (fun i hi => ?_)
              · rw [tA_as]
                by_cases z : i = ((U.take k).filter (fun u => uOk F.length u (md r))).length
                · subst z
                  rw [up_self]
                  have := gD_appR (L := (U.take k).filter (fun u => uOk F.length u (md r))) (M := [U.getD k 0]) (k := 0)
                  rw [Nat.add_zero] at this
                  rw [this]
                  rfl
                · rw [up_ne z, gD_app (by omega)]; exact kA i (by omega)
              · rw [tA_as, up_ne (by omega)]; exact kU i hi (by omega)
              · rw [tA_as, up_ne (by omega)]; exact kB i hi
            · rw [zI_0] at q
              rw [if_neg q] at nx
              refine s_laysUnits_163 c _ _ _ _ _ ?_
              rw [nI_1]
              exact nx _ e7 l7 k58 k57 kA (fun i hi hki => kU i hi (by omega)) kB
        -- the first loop
        generalize hV : U.map (fun u => u ||| 2 ^ d) = V at eL
        have hVl : V.length = U.length := by rw [← hV]; simp
        have hVg : ∀ k, k < U.length → V.getD k 0 = U.getD k 0 ||| 2 ^ d := fun k hk => by rw [← hV]; exact gD_map hk
        have lk := fun k => fl_len (L := V) (P := fun u => uOk F.length u (md r)) k
        have fin := loopUp (N := U.length) (P := fun k => ∀ T6, tEq [54, 55, 56, 57, 58] T0 T6 → tLi T6 55 54 (md r) → T6.1 58 = 1 → T6.1 57 = nI U.length → (∀ i, i < U.length → T6.2.2.1 56 i = nI (U.getD i 0)) → (∀ i, i < ((V.take k).filter (fun u => uOk F.length u (md r))).length → T6.2.2.1 56 (U.length + i) = nI (((V.take k).filter (fun u => uOk F.length u (md r))).getD i 0)) → h_laysUnits_63 c (nI r) (nI (2 ^ d)) 0 (nI (U.length + ((V.take k).filter (fun u => uOk F.length u (md r))).length)) (nI k) T6) ?_ ?_ 0 (Nat.zero_le _) T5 et5 l5 h58' hl5.1 (fun i hi => hl5.2 i hi) (fun i hi => absurd hi (by simp))
        · exact fin
        · intro T7 e7 l7 k58 k57 kU kB
          refine s_laysUnits_63 c _ _ _ _ _ T7 ⟨fun _ => ?_, fun q => absurd (by rw [k57]; exact Int32.le_refl _) q⟩
          have tk : V.take U.length = V := by rw [← hVl]; exact List.take_length
          rw [tk] at kB ⊢
          exact second _ (by have := lk U.length; rw [tk] at this; omega) eL T7 e7 l7 k58 k57 kU kB
        · intro k hk nx T7 e7 l7 k58 k57 kU kB
          have lk' := lk k
          refine s_laysUnits_63 c _ _ _ _ _ T7 ⟨fun q => absurd q (by rw [k57]; exact nI_ge hk (by omega)), fun _ => ⟨vpI (by omega), ?_⟩⟩
          rw [nI_clamp (show k < 2 ^ 31 by omega), kU k hk, x_or]
          refine ⟨_, ct_isUnitAt (by rw [e7.i 26 (by decide)]; exact g6.1) hF l7 m1 m2 m3 (hgd k hk) _, ?_⟩
          rintro z T8 ⟨rfl, rfl⟩
          rw [fl_take (by omega), hVg k hk] at nx
          refine ⟨fun q => ?_, fun q => ?_⟩
          · rw [zI_n0] at q
            rw [if_pos q] at nx
            refine ⟨vpI (by omega), vpI (by omega), s_laysUnits_111 c _ _ _ _ _ _ ?_⟩
            rw [nI_1, nI_1, nI_clamp (by omega), kU k hk, x_or]
            have el : ((V.take k).filter (fun u => uOk F.length u (md r)) ++ [U.getD k 0 ||| 2 ^ d]).length = ((V.take k).filter (fun u => uOk F.length u (md r))).length + 1 := by simp
            rw [el] at nx
            refine nx _ (e7.trans (tEq.sA _ _ (by decide))) (l7.same (tEq.sA (S := [56]) _ _ (by decide)) (by decide) (by decide)) k58 k57 (fun i hi => ?_) (fun i hi => ?_)
            · rw [tA_as, up_ne (by omega)]; exact kU i hi
            · rw [tA_as]
              by_cases z : i = ((V.take k).filter (fun u => uOk F.length u (md r))).length
              · subst z
                rw [up_self]
                have := gD_appR (L := (V.take k).filter (fun u => uOk F.length u (md r))) (M := [U.getD k 0 ||| 2 ^ d]) (k := 0)
                rw [Nat.add_zero] at this
                rw [this]
                rfl
              · rw [up_ne (by omega), gD_app (by omega)]; exact kB i (by omega)
          · rw [zI_0] at q
            rw [if_neg q] at nx
            refine s_laysUnits_111 c _ _ _ _ _ _ ?_
            rw [nI_1]
            exact nx _ e7 l7 k58 k57 kU kB
    refine key F.length 0 (by omega) _ (((tEq.sI _ _ (by decide)).trans (tEq.sI _ _ (by decide))).trans (tEq.sA _ _ (by decide))) ?_ ⟨?_, fun i hi => ?_⟩
    · show (tI (tI T0 58 1) 57 1).1 58 = 1
      rw [tI_in (by decide), tI_is]
    · show (tI (tI T0 58 1) 57 1).1 57 = nI 1
      rw [tI_is]
      rfl
    · have : i = 0 := by
        have : (unL F.length md 0).length = 1 := rfl
        omega
      subst this
      rw [tA_as, up_self]
      rfl
  · rcases hu with q | ⟨q1, q2⟩
    · exact absurd q e
    · rw [hc]
      exact ⟨rfl, tEq.refl _ _, q1, q2⟩
theorem ct_units {T0 : tS} {n : Nat} {mul : Nat → Nat → Nat} {inv : Nat → Nat} {L F : List Nat} (h : tGrp T0 n mul inv L F) (hF : F.length ≤ 31) (hu : tUns T0 F.length (mdL n mul inv F)) (hU : ∀ d, d ≤ F.length → (unL F.length (mdL n mul inv F) d).length ≤ 32768) : tMi mX6_units 5 (fun _ => []) T0 (fun r T' => r = nI (unL F.length (mdL n mul inv F) F.length).length ∧ tEq [54, 55, 56, 57, 58] T0 T' ∧ tUns T' F.length (mdL n mul inv F)) := by
  refine en_units T0 _ (fun c hc => s_units_0 c T0 ⟨_, ct_laysUnits h hF hu hU, ?_⟩)
  rintro T4 ⟨e, e1, e2⟩
  rw [hc, e2.1]
  exact ⟨_, rfl, rfl, e, Or.inr ⟨e1, e2⟩⟩
def unM (S u : Nat) (j : Nat) : Int64 := if u.testBit (S - 1 - j) = true then -1 else 1
theorem ct_unit {T0 : tS} {n : Nat} {mul : Nat → Nat → Nat} {inv : Nat → Nat} {L F : List Nat} (h : tGrp T0 n mul inv L F) (hF : F.length ≤ 31) {mk : Nat → Nat → Nat} (hM : tMk T0 F.length mk) (hu : tUns T0 F.length (mdL n mul inv F)) (hU : ∀ d, d ≤ F.length → (unL F.length (mdL n mul inv F) d).length ≤ 32768) (a b : Int32) : tMi mX6_unit 5 (fun _ => [.int a, .int b]) T0 (fun r T' => ((∃ k i, k < (unL F.length (mdL n mul inv F) F.length).length ∧ i < F.length ∧ a = nI k ∧ b = nI i ∧ r = (slv F.length mk (unM F.length ((unL F.length (mdL n mul inv F) F.length).getD k 0)) i).toInt32) ∨ (¬ (∃ k i, k < (unL F.length (mdL n mul inv F) F.length).length ∧ i < F.length ∧ a = nI k ∧ b = nI i) ∧ r = -1000000)) ∧ tEq [34, 48, 54, 55, 56, 57, 58] T0 T' ∧ tUns T' F.length (mdL n mul inv F)) := by
  have g6 := h.2.2.2.2.2.1
  refine en_unit _ _ T0 _ (fun c hc => s_unit_0 c _ _ T0 ?_)
  rw [g6.1]
  refine ⟨fun e => ⟨_, ct_laysUnits h hF hu hU, ?_⟩, fun e => ?_⟩
  · rw [zI_n0, zRng (by omega)] at e
    obtain ⟨i, hi, rfl⟩ := e
    have hUF := hU _ (Nat.le_refl _)
    have hlt := unL_lt (S := F.length) (md := mdL n mul inv F) F.length
    rintro T9 ⟨e9, e1, e2⟩
    generalize hUe : unL F.length (mdL n mul inv F) F.length = U at e2 hUF hlt hc
    rw [e2.1]
    refine ⟨fun e => ?_, fun e => ?_⟩
    · rw [zI_n0, zRng (by omega)] at e
      obtain ⟨k, hk, rfl⟩ := e
      have hul : U.getD k 0 < 2 ^ 31 := lt_pow (hlt _ (gD_mem hk)) (by omega)
      refine loopUp (N := F.length) (P := fun j => ∀ T, tEq [34] T9 T → tSeg T 34 0 j (unM F.length (U.getD k 0)) → h_unit_38 c (nI k) (nI i) (nI j) T) ?_ ?_ 0 (Nat.zero_le _) T9 (tEq.refl _ _) (fun t ht => absurd ht (Nat.not_lt_zero _))
      · intro T e hs
        have hMT := (hM.same e9 (by decide) (by decide)).same e (by decide) (by decide)
        refine s_unit_38 c _ _ _ T ⟨fun _ => ⟨_, ct_numbers hMT (fa := 34) (ft := 48) (o := 0) (by decide) (by decide) (by decide) (by decide) (by decide) (by show F.length ≤ 64; omega) (by show 0 + F.length ≤ 64; omega) hs, ?_⟩, fun q => absurd (by rw [e.i 26 (by decide), e9.i 26 (by decide), g6.1]; exact Int32.le_refl _) q⟩
        rintro T5 ⟨w1, w2, -⟩
        have ww := w1 i hi
        rw [Nat.zero_add] at ww
        rw [nI_clamp (by omega), ww, hc]
        have ee : tEq [34, 48, 54, 55, 56, 57, 58] T9 T5 := (e.mono (by decide)).trans (w2.mono (by decide))
        have e58 : T5.1 58 = T9.1 58 := by rw [w2.i 58 (by decide), e.i 58 (by decide)]
        refine ⟨vpI (by omega), _, rfl, Or.inl ⟨k, i, hk, hi, rfl, rfl, rfl⟩, (e9.mono (by decide)).trans ee, Or.inr ⟨by rw [e58]; exact e1, ?_⟩⟩
        rw [hUe]
        exact (e2.same e (by decide) (by decide)).same w2 (by decide) (by decide)
      · intro j hj nx T e hs
        refine s_unit_38 c _ _ _ T ⟨fun q => absurd q (by rw [e.i 26 (by decide), e9.i 26 (by decide), g6.1]; exact nI_ge hj (by omega)), fun _ => ⟨vpI (by omega), ?_⟩⟩
        have ei : (nI F.length - (1 : Int32)) - nI j = nI (F.length - 1 - j) := by
          rw [show (1 : Int32) = nI 1 from rfl, pk_sub (by omega), pk_sub (by omega)]
        rw [e.i 26 (by decide), e9.i 26 (by decide), g6.1, ei, nI_clamp (by omega), e.a 56 (by decide), e2.2 k hk, zI_0, Classical.not_not, x_bit hul (by omega), nI_clamp (by omega), nI_1]
        have fin : ∀ v, v = unM F.length (U.getD k 0) j → h_unit_38 c (nI k) (nI i) (nI (j + 1)) (tB T 34 (va_up (T.2.2.2 34) j v)) := fun v hv => by
          refine nx _ (e.trans (tEq.sB _ _ (by decide))) (fun t ht => ?_)
          rw [tB_bs]
          by_cases z : t = j
          · subst z; rw [Nat.zero_add, up_self, hv]
          · rw [up_ne (by omega)]; exact hs t (by omega)
        refine ⟨fun q => ⟨vpI (by omega), fin _ ?_⟩, fun q => ⟨vpI (by omega), fin _ ?_⟩⟩
        · unfold unM; rw [if_neg q]
        · unfold unM; rw [if_pos q]
    · rw [zI_0, zRng (by omega)] at e
      rw [hc]
      exact ⟨_, rfl, Or.inr ⟨fun ⟨k, i, hk, _, q, _⟩ => e ⟨k, hk, q⟩, rfl⟩, e9.mono (by decide), Or.inr ⟨e1, by rw [hUe]; exact e2⟩⟩
  · rw [zI_0, zRng (by omega)] at e
    rw [hc]
    exact ⟨_, rfl, Or.inr ⟨fun ⟨k, i, _, hi, _, q⟩ => e ⟨i, hi, q⟩, rfl⟩, tEq.refl _ _, hu⟩
