/-! the twin builds the members: the whole walk -/
def tCl (q : Nat) (mv : Nat → List Nat) (N : Nat) (f : Nat → List Nat) (m k : Nat) : Prop := ∀ i j, j < q → (i < m ∨ (i = m ∧ j < k)) → ∃ x, x < N ∧ f x = thn (f i) (mv j)
/-- one more row -/
def moF (f : Nat → List Nat) (N : Nat) (r : List Nat) : Nat → List Nat := fun i => if i = N then r else f i
theorem moF_s {f : Nat → List Nat} {N : Nat} {r : List Nat} : moF f N r N = r := if_pos rfl
theorem moF_n {f : Nat → List Nat} {N : Nat} {r : List Nat} {i : Nat} (h : i < N) : moF f N r i = f i := if_neg (by omega)
theorem nI_nm1 {n : Nat} (h : n < 2 ^ 31) : ¬ nI n = -1 := fun e => by
  rw [show (-1 : Int32) = nI 4294967295 from rfl, x_inj (by omega) (by decide)] at e
  omega
theorem ct_buildsMembers {T0 : tS} {p q : Nat} {mv : Nat → List Nat} (hm : tMov T0 p q mv) : tMi mX6_buildsMembers 1 (fun _ => []) T0 (fun x T' => tEq tSm T0 T' ∧ ((rFew p q mv ∧ x = 1 ∧ ∃ N f, rGrp p q mv N f ∧ tMemF T' p N f ∧ tTab T' N (mulF f N) (invF f N)) ∨ (¬ rFew p q mv ∧ x = 0))) := by
  obtain ⟨p1, p6, q4, mok, h12, h13, h15⟩ := id hm
  refine en_buildsMembers T0 _ (fun c hc => s_buildsMembers_0 c T0 ?_)
  have fin : ∀ T N f, tEq tSm T0 T → tFnd T p q mv N f → tCl q mv N f N 0 → h_buildsMembers_171 c 0 T := by
    intro T N f he hf hcl
    obtain ⟨f1, f2, f3, f4, f5, f6, f7⟩ := id hf
    have hm' := hm.same he (by decide) (by decide) (by decide)
    refine t_sortM (N := N) hm' f2 f3 (fun T1 g e1 g1 g2 => ?_) 0 (Nat.zero_le _) T f (tEq.refl _ _) f4 (fun r => ⟨fun hr => ?_, fun ⟨i, hi, e⟩ => e ▸ f5 i hi⟩) f6 (fun i j hi => by omega)
    · have hm1 := hm'.same e1 (by decide) (by decide) (by decide)
      refine t_prods hm1 g2 g1 (by rw [e1.i 20 (by decide)]; exact f3) (fun T2 e2 t2 => ?_) 0 (Nat.zero_le _) T1 (tEq.refl _ _) (fun x y h => by omega) (fun x h => by omega)
      rw [hc]
      refine ⟨_, rfl, he.trans ((e1.mono (by decide)).trans (e2.mono (by decide))), Or.inl ⟨⟨(List.range N).map g, fun r hr => ?_, by simp; exact f2⟩, rfl, N, g, g2, g1.same e2 (by decide), t2⟩⟩
      obtain ⟨i, hi, e⟩ := (g2.2.1 r).mp hr
      exact List.mem_map.mpr ⟨i, List.mem_range.mpr hi, e⟩
    · refine hr.all (S := fun r => ∃ i, i < N ∧ f i = r) f7 ?_
      rintro r k ⟨i, hi, rfl⟩ hk
      exact hcl i k hk (Or.inl hi)
  have bfs : ∀ m, m ≤ 24 → ∀ T N f, m ≤ N → tEq tSm T0 T → tFnd T p q mv N f → tCl q mv N f m 0 → h_buildsMembers_28 c (nI m) T := by
    refine loopUp (N := 24) (P := fun m => ∀ T N f, m ≤ N → tEq tSm T0 T → tFnd T p q mv N f → tCl q mv N f m 0 → h_buildsMembers_28 c (nI m) T) ?_ ?_
    · intro T N f hmN he hf hcl
      have : N = 24 := by have := hf.2.1; omega
      subst this
      exact s_buildsMembers_28 c _ T ⟨fun _ => fin T 24 f he hf hcl, fun e => absurd (by rw [hf.2.2.1]; exact Int32.le_refl _) e⟩
    · intro m hm24 nx T N f hmN he hf hcl
      by_cases hend : m = N
      · subst hend
        exact s_buildsMembers_28 c _ T ⟨fun _ => fin T m f he hf hcl, fun e => absurd (by rw [hf.2.2.1]; exact Int32.le_refl _) e⟩
      · have hmlt : m < N := by omega
        refine s_buildsMembers_28 c _ T ⟨fun e => absurd e (by rw [hf.2.2.1]; exact nI_ge hmlt (by have := hf.2.1; omega)), fun _ => ?_⟩
        refine loopUp (N := q) (P := fun k => ∀ T N f, m < N → tEq tSm T0 T → tFnd T p q mv N f → tCl q mv N f m k → h_buildsMembers_38 c (nI m) (nI k) T) ?_ ?_ 0 (Nat.zero_le _) T N f hmlt he hf hcl
        · intro T N f hmN he hf hcl
          have hm' := hm.same he (by decide) (by decide) (by decide)
          refine s_buildsMembers_38 c _ _ T ⟨fun _ => ?_, fun e => absurd (by rw [hm'.2.2.2.2.2.1]; exact Int32.le_refl _) e⟩
          rw [nI_1]
          exact nx T N f hmN he hf (fun i j hj h => hcl i j hj (by omega))
        · intro k hk nx2 T N f hmN he hf hcl
          have hm' := hm.same he (by decide) (by decide) (by decide)
          refine s_buildsMembers_38 c _ _ T ⟨fun e => absurd e (by rw [hm'.2.2.2.2.2.1]; exact nI_ge hk (by omega)), fun _ => ?_⟩
          obtain ⟨f1, f2, f3, f4, f5, f6, f7⟩ := id hf
          have ok : ∀ x, x < N → rOk p (f x) := fun x hx => (f5 x hx).ok mok
          have okr : rOk p (thn (f m) (mv k)) := rOk_thn (ok m hmN) (mok k hk)
          have rr : Rch p q mv (thn (f m) (mv k)) := (f5 m hmN).step hk
          refine loopUp (N := p) (P := fun i => ∀ T, tEq tSm T0 T → tFnd T p q mv N f → (∀ j, j < i → T.2.2.1 22 j = nI (rAt (thn (f m) (mv k)) j)) → h_buildsMembers_48 c (nI m) (nI k) (nI i) T) ?_ ?_ 0 (Nat.zero_le _) T he hf (fun j hj => by omega)
          · intro T he hf hcm
            have hm' := hm.same he (by decide) (by decide) (by decide)
            obtain ⟨f1, f2, f3, f4, f5, f6, f7⟩ := id hf
            refine s_buildsMembers_48 c _ _ _ T ⟨fun _ => ?_, fun e => absurd (by rw [hm'.2.2.2.2.1]; exact Int32.le_refl _) e⟩
            refine ⟨_, ct_indexOf p6 hm'.2.2.2.2.1 f2 f3 f4 ok okr hcm, ?_⟩
            rintro r T5 ⟨hx, rfl⟩
            rcases hx with ⟨x, x1, x2, rfl⟩ | ⟨x1, rfl⟩
            · refine ⟨fun g => absurd g (nI_nm1 (by omega)), fun _ => s_buildsMembers_157 c _ _ _ ?_⟩
              rw [nI_1]
              refine nx2 _ N f hmN he hf (fun i j hj h => ?_)
              by_cases e : i = m ∧ j = k
              · obtain ⟨rfl, rfl⟩ := e; exact ⟨x, x1, x2⟩
              · exact hcl i j hj (by omega)
            · refine ⟨fun _ => ⟨fun g => ?_, fun g => ?_⟩, fun g => absurd rfl g⟩
              · have hN : N < 24 := by
                  apply Classical.byContradiction
                  intro z
                  have : N = 24 := by omega
                  subst this
                  exact g f3
                refine loopUp (N := p) (P := fun i => ∀ T, tEq tSm T0 T → tFnd T p q mv N f → (∀ j, j < p → T.2.2.1 22 j = nI (rAt (thn (f m) (mv k)) j)) → (∀ j, j < i → T.2.2.1 21 (6 * N + j) = nI (rAt (thn (f m) (mv k)) j)) → h_buildsMembers_113 c (nI m) (nI k) (nI i) T) ?_ ?_ 0 (Nat.zero_le _) _ he hf hcm (fun j hj => by omega)
                · intro T he hf hcm hnew
                  have hm' := hm.same he (by decide) (by decide) (by decide)
                  obtain ⟨f1, f2, f3, f4, f5, f6, f7⟩ := id hf
                  refine s_buildsMembers_113 c _ _ _ T ⟨fun _ => s_buildsMembers_157 c _ _ _ ?_, fun e => absurd (by rw [hm'.2.2.2.2.1]; exact Int32.le_refl _) e⟩
                  rw [nI_1, f3, nI_1]
                  refine nx2 _ (N + 1) (moF f N (thn (f m) (mv k))) (by omega) (he.trans (tEq.sI _ _ (by decide))) ⟨by omega, by omega, by rw [tI_is], fun a ha i hi => ?_, fun i hi => ?_, fun i j hi hj e => ?_, ?_⟩ (fun i j hj h => ?_)
                  · by_cases e : a = N
                    · subst e; rw [moF_s]; exact hnew i hi
                    · rw [moF_n (by omega)]; exact f4 a (by omega) i hi
                  · by_cases e : i = N
                    · subst e; rw [moF_s]; exact rr
                    · rw [moF_n (by omega)]; exact f5 i (by omega)
                  · by_cases e1 : i = N
                    · by_cases e2 : j = N
                      · omega
                      · rw [e1, moF_s, moF_n (by omega)] at e
                        exact absurd e.symm (x1 j (by omega))
                    · by_cases e2 : j = N
                      · rw [e2, moF_s, moF_n (by omega)] at e
                        exact absurd e (x1 i (by omega))
                      · rw [moF_n (by omega), moF_n (by omega)] at e
                        exact f6 i j (by omega) (by omega) e
                  · obtain ⟨i, hi, e⟩ := f7
                    exact ⟨i, by omega, by rw [moF_n hi]; exact e⟩
                  · by_cases e : i = m ∧ j = k
                    · obtain ⟨rfl, rfl⟩ := e
                      exact ⟨N, by omega, by rw [moF_s, moF_n hmN]⟩
                    · obtain ⟨x, h1, h2⟩ := hcl i j hj (by omega)
                      exact ⟨x, by omega, by rw [moF_n h1, moF_n (by omega)]; exact h2⟩
                · intro i hi nx3 T he hf hcm hnew
                  have hm' := hm.same he (by decide) (by decide) (by decide)
                  obtain ⟨f1, f2, f3, f4, f5, f6, f7⟩ := id hf
                  refine s_buildsMembers_113 c _ _ _ T ⟨fun e => absurd e (by rw [hm'.2.2.2.2.1]; exact nI_ge hi (by omega)), fun _ => ?_⟩
                  rw [f3, tIx6, nI_clamp (show 6 * N + i < 2 ^ 31 by omega), nI_clamp (show i < 2 ^ 31 by omega), hcm i hi, nI_1]
                  refine ⟨vpI (by omega), vpI (by omega), nx3 _ (he.trans (tEq.sA _ _ (by decide))) ⟨f1, f2, f3, fun a ha j hj => ?_, f5, f6, f7⟩ (fun j hj => by rw [tA_an (by decide)]; exact hcm j hj) (fun j hj => ?_)⟩
                  · rw [tA_as, up_ne (by omega)]; exact f4 a ha j hj
                  · rw [tA_as]
                    by_cases e : j = i
                    · subst e; exact up_self
                    · rw [up_ne (by omega)]; exact hnew j (by omega)
              · rw [hc]
                have hN : N = 24 := (x_inj (by omega) (by decide)).mp (f3.symm.trans g)
                subst hN
                exact ⟨_, rfl, he, Or.inr ⟨notFew f5 f6 rr x1, rfl⟩⟩
          · intro i hi nx3 T he hf hcm
            have hm' := hm.same he (by decide) (by decide) (by decide)
            obtain ⟨f1, f2, f3, f4, f5, f6, f7⟩ := id hf
            have b1 := (ok m hmN).2.1 i hi
            refine s_buildsMembers_48 c _ _ _ T ⟨fun e => absurd e (by rw [hm'.2.2.2.2.1]; exact nI_ge hi (by omega)), fun _ => ?_⟩
            rw [tIx6, nI_clamp (show 6 * m + i < 2 ^ 31 by omega), f4 m hmN i hi, tIx6, nI_clamp (show 6 * k + rAt (f m) i < 2 ^ 31 by omega), hm'.2.2.2.2.2.2 k _ hk b1, nI_1, nI_clamp (show i < 2 ^ 31 by omega)]
            refine ⟨vpI (by omega), vpI (by omega), vpI (by omega), nx3 _ (he.trans (tEq.sA _ _ (by decide))) ⟨f1, f2, f3, fun a ha j hj => by rw [tA_an (by decide)]; exact f4 a ha j hj, f5, f6, f7⟩ (fun j hj => ?_)⟩
            rw [tA_as]
            by_cases e : j = i
            · subst e; rw [up_self, thn_at (by rw [(ok m hmN).1]; exact hi)]
            · rw [up_ne e]; exact hcm j (by omega)
  refine loopUp (N := 6) (P := fun i => ∀ T, tEq tSm T0 T → T.1 20 = 1 → (∀ j, j < i → T.2.2.1 21 j = nI j) → h_buildsMembers_7 c (nI i) T) ?_ ?_ 0 (Nat.zero_le _) _ (tEq.sI _ _ (by decide)) (by rw [tI_is]) (fun j hj => by omega)
  · intro T he h20 h21
    refine s_buildsMembers_7 c _ T ⟨fun _ => ?_, fun e => absurd (Int32.le_refl _) e⟩
    refine bfs 0 (by omega) T 1 (fun _ => List.range p) (by omega) he ⟨by omega, by omega, h20, fun a ha i hi => ?_, fun i hi => Rch.one, fun i j hi hj _ => by omega, ⟨0, by omega, rfl⟩⟩ (fun i j hj h => by omega)
    have : a = 0 := by omega
    subst this
    rw [rAt_range hi, show 6 * 0 + i = i by omega]
    exact h21 i (by omega)
  · intro i hi nx T he h20 h21
    refine s_buildsMembers_7 c _ T ⟨fun e => absurd e (nI_ge hi (by decide)), fun _ => ?_⟩
    rw [nI_1, nI_clamp (show i < 2 ^ 31 by omega)]
    refine ⟨vpI (by omega), nx _ (he.trans (tEq.sA _ _ (by decide))) (by rw [tA_i]; exact h20) (fun j hj => ?_)⟩
    rw [tA_as]
    by_cases e : j = i
    · subst e; exact up_self
    · rw [up_ne e]; exact h21 j (by omega)
