/-! contracts of the twin's methods that are functions of its memory -/
def tBy (T : tS) (a b : Int32) : Int32 := T.2.2.1 23 ((24 : Int32) * a + b).toNatClampNeg
def tHere (T : tS) (k : Int32) : Int32 := if T.1 2 ≤ T.1 3 + k then -1 else T.2.2.1 0 (T.1 3 + k).toNatClampNeg
abbrev tName (T : tS) : Prop := T.1 5 = 1 ∧ ¬ T.2.1 11 = 123610792682867 ∧ ¬ T.2.1 11 = 1836021349 ∧ ¬ T.2.1 11 = 7103860 ∧ ¬ T.2.1 11 = 1936683636
theorem ct_by (T : tS) (a b : Int32) (g : vp_in (24 * a + b) 576) : tMi mX6_by 0 (fun _ => [.int a, .int b]) T (fun r T' => r = tBy T a b ∧ T' = T) := by
  refine en_by a b T _ (fun c hc => s_by_0 c a b T ?_)
  rw [hc]
  exact ⟨g, _, rfl, rfl, rfl⟩
theorem ct_here (T : tS) (k : Int32) (g : T.1 3 + k < T.1 2 → vp_in (T.1 3 + k) 700) : tMi mX6_here 0 (fun _ => [.int k]) T (fun r T' => r = tHere T k ∧ T' = T) := by
  refine en_here k T _ (fun c hc => s_here_0 c k T ?_)
  rw [hc]
  refine ⟨fun h => ⟨_, rfl, by rw [tHere, if_pos h], rfl⟩, fun h => ⟨g (Int32.not_le.mp h), _, rfl, by rw [tHere, if_neg h], rfl⟩⟩
theorem ct_isGood (T : tS) : tMi mX6_isGood 0 (fun _ => []) T (fun r T' => r = zI (T.1 7 = 0) ∧ T' = T) := by
  refine en_isGood T _ (fun c hc => s_isGood_0 c T ?_)
  rw [hc]
  exact ⟨fun h => ⟨_, rfl, (zI_f h).symm, rfl⟩, fun h => ⟨_, rfl, (zI_t h).symm, rfl⟩⟩
theorem ct_isWord (T : tS) (v : Int64) : tMi mX6_isWord 0 (fun _ => [.long v]) T (fun r T' => r = zI (T.1 7 = 0 ∧ T.1 5 = 1 ∧ T.2.1 11 = v) ∧ T' = T) := by
  refine en_isWord v T _ (fun c hc => s_isWord_0 c v T ?_)
  rw [hc, lg_cmp_eq]
  refine ⟨fun h => ⟨_, rfl, (zI_f (fun q => h q.1)).symm, rfl⟩, fun h => ⟨fun h2 => ⟨_, rfl, (zI_f (fun q => h2 q.2.1)).symm, rfl⟩, fun h2 => ⟨fun h3 => ⟨_, rfl, (zI_f (fun q => h3 q.2.2)).symm, rfl⟩, fun h3 => ⟨_, rfl, (zI_t ⟨h, h2, h3⟩).symm, rfl⟩⟩⟩⟩
theorem ct_isSignHere (T : tS) (v : Int32) : tMi mX6_isSignHere 0 (fun _ => [.int v]) T (fun r T' => r = zI (T.1 7 = 0 ∧ T.1 5 = 3 ∧ T.1 6 = v) ∧ T' = T) := by
  refine en_isSignHere v T _ (fun c hc => s_isSignHere_0 c v T ?_)
  rw [hc]
  refine ⟨fun h => ⟨_, rfl, (zI_f (fun q => h q.1)).symm, rfl⟩, fun h => ⟨fun h2 => ⟨_, rfl, (zI_f (fun q => h2 q.2.1)).symm, rfl⟩, fun h2 => ⟨fun h3 => ⟨_, rfl, (zI_f (fun q => h3 q.2.2)).symm, rfl⟩, fun h3 => ⟨_, rfl, (zI_t ⟨h, h2, h3⟩).symm, rfl⟩⟩⟩⟩
theorem ct_isName (T : tS) : tMi mX6_isName 0 (fun _ => []) T (fun r T' => r = zI (tName T) ∧ T' = T) := by
  refine en_isName T _ (fun c hc => s_isName_0 c T ?_)
  simp only [lg_cmp_eq]
  rw [hc]
  refine ⟨fun h => ⟨_, rfl, (zI_f (fun q => h q.1)).symm, rfl⟩, fun h => ⟨fun h2 => ⟨_, rfl, (zI_f (fun q => q.2.1 h2)).symm, rfl⟩, fun h2 => ⟨fun h3 => ⟨_, rfl, (zI_f (fun q => q.2.2.1 h3)).symm, rfl⟩, fun h3 => ⟨fun h4 => ⟨_, rfl, (zI_f (fun q => q.2.2.2.1 h4)).symm, rfl⟩, fun h4 => ⟨fun h5 => ⟨_, rfl, (zI_f (fun q => q.2.2.2.2 h5)).symm, rfl⟩, fun h5 => ⟨_, rfl, (zI_t ⟨h, h2, h3, h4, h5⟩).symm, rfl⟩⟩⟩⟩⟩⟩
theorem ct_isSort (T : tS) (i : Int32) : tMi mX6_isSort 1 (fun _ => [.int i]) T (fun r T' => r = zI (0 ≤ i.toInt64 ∧ i.toInt64 ≤ (T.1 26 - 1).toInt64) ∧ T' = T) := by
  refine en_isSort i T _ (fun c hc => s_isSort_0 c i T ⟨zI_nar _, ?_⟩)
  rw [hc]
  exact ⟨_, rfl, rfl, rfl⟩
theorem ct_isMember (T : tS) (i : Int32) : tMi mX6_isMember 1 (fun _ => [.int i]) T (fun r T' => r = zI (0 ≤ i.toInt64 ∧ i.toInt64 ≤ (T.1 20 - 1).toInt64) ∧ T' = T) := by
  refine en_isMember i T _ (fun c hc => s_isMember_0 c i T ⟨zI_nar _, ?_⟩)
  rw [hc]
  exact ⟨_, rfl, rfl, rfl⟩
theorem ct_areMembers (T : tS) (i : Int32) : tMi mX6_areMembers 1 (fun _ => [.int i]) T (fun r T' => r = zI (0 ≤ i.toInt64 ∧ i.toInt64 ≤ ((1 : Int32) <<< (T.1 20 &&& 31) - 1).toInt64) ∧ T' = T) := by
  refine en_areMembers i T _ (fun c hc => s_areMembers_0 c i T ⟨zI_nar _, ?_⟩)
  rw [hc]
  exact ⟨_, rfl, rfl, rfl⟩
