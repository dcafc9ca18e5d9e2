/-! act: what has run is traced (first rows) -/
/-- the class has traced L, nothing else is written -/
def kT0 (h0 h : Hp) (L : List Nat) : Prop := h.2 = h0.2 ∧ (∀ q, q ≠ 0 → q ≠ 14 → zi h q = zi h0 q) ∧ (∀ k, k ≠ 33 → zi h 0 k = zi h0 0 k) ∧ zi h 0 33 = nI L.length ∧ ∀ k, k < 24 → k < L.length → zi h 14 k = nI (L.getD k 0)
def kT2 (h0 h : Hp) (L : List Nat) : Prop := h.2 = h0.2 ∧ (∀ q, q ≠ 17 → q ≠ 37 → zi h q = zi h0 q) ∧ (∀ k, k ≠ 43 → zi h 17 k = zi h0 17 k) ∧ zi h 17 43 = nI L.length ∧ ∀ k, k < 24 → k < L.length → zi h 37 k = nI (L.getD k 0)
theorem getD_a (L : List Nat) (c k : Nat) (hk : k < L.length + 1) : (L ++ [c]).getD k 0 = if k = L.length then c else L.getD k 0 := by
  by_cases z : k = L.length
  · rw [if_pos z, z]; simp [List.getD]
  · rw [if_neg z]; simp [List.getD, List.getElem?_append, show k < L.length from by omega]
theorem kT0.ran {h0 h : Hp} {L : List Nat} (t : kT0 h0 h L) {c : Nat} (hc : c < 128) (hL : L.length < 1000) : ∃ h', X0_ran h (nI c) = some ((), h') ∧ kT0 h0 h' (L ++ [c]) := by
  obtain ⟨t1, t2, t3, t4, t5⟩ := t
  unfold X0_ran
  rw [nm_u, t4]
  by_cases z : 24 ≤ L.length
  · rw [if_pos (show (24 : Int32) ≤ nI L.length from (nI_leI (a := 24) (by omega) (by omega)).mpr z)]
    refine ⟨zsi h 0 33 (nI (L.length + 1)), ?_, t1, fun q h1 h2 => ?_, fun k hk => (zi_ne _ _ _ _ (Or.inr hk)).trans (t3 k hk), by rw [zi_eq, List.length_append]; rfl, fun k h1 h2 => ?_⟩
    · show nm _ _ = _
      rw [t4, nI_1, nm_u, nm_u]
    · rw [← t2 q h1 h2]; funext k; exact zi_ne _ _ _ _ (Or.inl h1)
    · rw [List.length_append] at h2
      rw [getD_a L c k h2, if_neg (by omega), zi_ne _ _ _ _ (Or.inl (by decide))]
      exact t5 k h1 (by omega)
  · rw [if_neg (by intro y; exact z ((nI_leI (by omega) (by omega)).mp (show nI 24 ≤ nI L.length from y))), nm_u, ck_i (by omega) (by omega), nI_clamp (by omega), b_byte c hc, nm_u]
    refine ⟨zsi (zsi h 14 L.length (nI c)) 0 33 (nI (L.length + 1)), ?_, t1, fun q h1 h2 => ?_, fun k hk => ?_, by rw [zi_eq, List.length_append]; rfl, fun k h1 h2 => ?_⟩
    · show nm _ _ = _
      rw [zi_ne _ _ _ _ (Or.inl (by decide)), t4, nI_1, nm_u, nm_u]
    · rw [← t2 q h1 h2]; funext k; rw [zi_ne _ _ _ _ (Or.inl h1), zi_ne _ _ _ _ (Or.inl h2)]
    · rw [zi_ne _ _ _ _ (Or.inr hk), zi_ne _ _ _ _ (Or.inl (by decide))]; exact t3 k hk
    · rw [List.length_append] at h2
      rw [getD_a L c k h2, zi_ne _ _ _ _ (Or.inl (by decide)), upd_i]
      by_cases y : k = L.length
      · rw [if_pos y, if_pos y]
      · rw [if_neg y, if_neg y]; exact t5 k h1 (by have : k < L.length + 1 := h2; omega)
theorem kT2.begins {h0 h : Hp} {L : List Nat} (t : kT2 h0 h L) {c : Nat} (hL : L.length < 1000) : ∃ h', X2_begins h (nI c) = some ((), h') ∧ kT2 h0 h' (L ++ [c]) := by
  obtain ⟨t1, t2, t3, t4, t5⟩ := t
  unfold X2_begins
  rw [nm_u, t4]
  by_cases z : 24 ≤ L.length
  · rw [if_pos (show (24 : Int32) ≤ nI L.length from (nI_leI (a := 24) (by omega) (by omega)).mpr z)]
    refine ⟨zsi h 17 43 (nI (L.length + 1)), ?_, t1, fun q h1 h2 => ?_, fun k hk => (zi_ne _ _ _ _ (Or.inr hk)).trans (t3 k hk), by rw [zi_eq, List.length_append]; rfl, fun k h1 h2 => ?_⟩
    · show nm _ _ = _
      rw [t4, nI_1, nm_u, nm_u]
    · rw [← t2 q h1 h2]; funext k; exact zi_ne _ _ _ _ (Or.inl h1)
    · rw [List.length_append] at h2
      rw [getD_a L c k h2, if_neg (by omega), zi_ne _ _ _ _ (Or.inl (by decide))]
      exact t5 k h1 (by omega)
  · rw [if_neg (by intro y; exact z ((nI_leI (by omega) (by omega)).mp (show nI 24 ≤ nI L.length from y))), ck_i (by omega) (by omega), nI_clamp (by omega), nm_u]
    refine ⟨zsi (zsi h 37 L.length (nI c)) 17 43 (nI (L.length + 1)), ?_, t1, fun q h1 h2 => ?_, fun k hk => ?_, by rw [zi_eq, List.length_append]; rfl, fun k h1 h2 => ?_⟩
    · show nm _ _ = _
      rw [zi_ne _ _ _ _ (Or.inl (by decide)), t4, nI_1, nm_u, nm_u]
    · rw [← t2 q h1 h2]; funext k; rw [zi_ne _ _ _ _ (Or.inl h1), zi_ne _ _ _ _ (Or.inl h2)]
    · rw [zi_ne _ _ _ _ (Or.inr hk), zi_ne _ _ _ _ (Or.inl (by decide))]; exact t3 k hk
    · rw [List.length_append] at h2
      rw [getD_a L c k h2, zi_ne _ _ _ _ (Or.inl (by decide)), upd_i]
      by_cases y : k = L.length
      · rw [if_pos y, if_pos y]
      · rw [if_neg y, if_neg y]; exact t5 k h1 (by have : k < L.length + 1 := h2; omega)
