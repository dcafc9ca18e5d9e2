/-! act: class and model alike -/
theorem Inv.act {i : Nat} {h h2 : Hp} (v : Inv i h) (e : h2.2 = h.2) (L : ∀ q, q ≠ 0 → q ≠ 14 → q ≠ 17 → q ≠ 37 → zi h2 q = zi h q) (L0 : ∀ k, k ≠ 33 → zi h2 0 k = zi h 0 k) (L17 : ∀ k, k ≠ 43 → k ≠ 44 → k ≠ 45 → zi h2 17 k = zi h 17 k) (vTr' : iTr h2) : Inv (i + 1) h2 := by
  obtain ⟨n, pa, ord, plc, b, D, m, ba, vP, vO, vB, vD, vC, vT, vBo, vTr, vS, vR, vLC, vLM, vDb, vx⟩ := v
  have hi : ∀ q, 42 ≤ q → zi h2 q = zi h q := fun q hq => L q (by omega) (by omega) (by omega) (by omega)
  have l : ∀ q, q ≠ 0 → q ≠ 14 → q ≠ 17 → q ≠ 37 → zi h2 q = zi h q := L
  exact ⟨n, pa, ord, plc, b, D, m, ba, vP.lo e hi (L0 3 (by omega)) (L17 6 (by omega) (by omega) (by omega)) (l 18 (by omega) (by omega) (by omega) (by omega)), vO.lo (l 2 (by omega) (by omega) (by omega) (by omega)) (l 22 (by omega) (by omega) (by omega) (by omega)) (l 23 (by omega) (by omega) (by omega) (by omega)), vB.lo e (L0 4 (by omega)) (L17 9 (by omega) (by omega) (by omega)) (l 3 (by omega) (by omega) (by omega) (by omega)) (l 24 (by omega) (by omega) (by omega) (by omega)), vD.lo (fun k _ _ => L0 k (by omega)) (fun k _ _ => L17 k (by omega) (by omega) (by omega)), vC.lo e hi (L0 6 (by omega)) (L0 7 (by omega)) (L17 5 (by omega) (by omega) (by omega)) (L17 4 (by omega) (by omega) (by omega)) (l 19 (by omega) (by omega) (by omega) (by omega)) (l 20 (by omega) (by omega) (by omega) (by omega)) (l 21 (by omega) (by omega) (by omega) (by omega)), vT.lo (L0 9 (by omega)) (L17 13 (by omega) (by omega) (by omega)) (l 26 (by omega) (by omega) (by omega) (by omega)) (l 5 (by omega) (by omega) (by omega) (by omega)), vBo.lo e hi (L0 36 (by omega)) (L17 40 (by omega) (by omega) (by omega)) (l 36 (by omega) (by omega) (by omega) (by omega)), vTr', vS.lo e hi (l 38 (by omega) (by omega) (by omega) (by omega)) (l 39 (by omega) (by omega) (by omega) (by omega)), vR.lo e (Nat.le_succ _), vLC.lo e hi, vLM.lo (L17 15 (by omega) (by omega) (by omega)) (l 27 (by omega) (by omega) (by omega) (by omega)), vDb, by rw [e_x e]; exact vx⟩
/-- both have run -/
theorem act_core {i : Nat} {h : Hp} (v : Inv i h) {f g : Hp → Option (Int32 × Hp)} {w k bn : Int32} {C : List Nat} (hC : C.length < 1000) (m : runs f h w C) (m2 : ∀ h1, zi h1 17 45 = bn → zi h1 17 44 = k → runs2 g h1 w C) :
    ∃ h1 h2, f (zsi h 0 33 0) = some (w, h1) ∧ g (zsi (zsi (zsi h1 17 43 0) 17 44 k) 17 45 bn) = some (w, h2) ∧ (∀ q, q ≠ 0 → q ≠ 14 → zi h1 q = zi h q) ∧ Inv (i + 1) h2 := by
  obtain ⟨h1, e1, t1, t2, t3, t4, t5⟩ := m [] (zsi h 0 33 0) ⟨rfl, fun q h1 _ => funext fun j => zi_ne _ _ _ _ (Or.inl h1), fun j hj => zi_ne _ _ _ _ (Or.inr hj), zi_eq _ _ _ _, fun j _ hj => absurd hj (Nat.not_lt_zero _)⟩ (by show 0 + C.length < 1000; omega)
  obtain ⟨h2, e2, s1, s2, s3, s4, s5⟩ := m2 (zsi (zsi (zsi h1 17 43 0) 17 44 k) 17 45 bn) (zi_eq _ _ _ _) (by rw [zi_ne _ _ _ _ (Or.inr (by decide)), zi_eq]) [] _ ⟨rfl, fun _ _ _ => rfl, fun _ _ => rfl, by rw [zi_ne _ _ _ _ (Or.inr (by decide)), zi_ne _ _ _ _ (Or.inr (by decide)), zi_eq]; rfl, fun j _ hj => absurd hj (Nat.not_lt_zero _)⟩ (by show 0 + C.length < 1000; omega)
  rw [List.nil_append] at t4 t5 s4 s5
  have M : ∀ q, q ≠ 17 → zi (zsi (zsi (zsi h1 17 43 0) 17 44 k) 17 45 bn) q = zi h1 q := fun q hq => funext fun j => by
    rw [zi_ne _ _ _ _ (Or.inl hq), zi_ne _ _ _ _ (Or.inl hq), zi_ne _ _ _ _ (Or.inl hq)]
  refine ⟨h1, h2, e1, e2, t2, v.act (s1.trans t1) (fun q a1 a2 a3 a4 => ?_) (fun j hj => ?_) (fun j a1 a2 a3 => ?_) ⟨C.length, hC, ?_, s4, fun j a1 a2 => ?_⟩⟩
  · rw [s2 q a3 a4, M q a3, t2 q a1 a2]
  · rw [s2 0 (by decide) (by decide), M 0 (by decide)]; exact t3 j hj
  · rw [s3 j a1, zi_ne _ _ _ _ (Or.inr a3), zi_ne _ _ _ _ (Or.inr a2), zi_ne _ _ _ _ (Or.inr a1), t2 17 (by decide) (by decide)]
  · rw [s2 0 (by decide) (by decide), M 0 (by decide)]; exact t4
  · rw [s2 14 (by decide) (by decide), M 14 (by decide), t5 j a1 a2, s5 j a1 a2]
