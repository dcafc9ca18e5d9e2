/-! redo, order -/
theorem sim_redo (i : Nat) : Sim i X0_redo X2_redo := by
  intro h v
  have v' := v
  obtain ⟨n, pa, ord, plc, b, D, m, ba, vP, vO, vB, vD, vC, vT, vBo, vTr, vS, vR, vLC, vLM, vDb, vx⟩ := v'
  have hn := vP.1
  obtain ⟨d, u, b1, b2, b3, b4, b5, b6⟩ := vC
  by_cases c : u = 0
  · refine ⟨-5, h, h, ?_, ?_, v.fQ (Nat.le_succ i) (fQ.mk (fS.rf h) (fS2.rf h))⟩
    · unfold X0_redo; rw [if_pos (by rw [b3, c]; rfl)]
    · unfold X2_redo; rw [if_pos (by rw [b4, b5, c]; rfl)]
  · obtain ⟨u, rfl⟩ : ∃ u', u = u' + 1 := ⟨u - 1, by omega⟩
    obtain ⟨a, w, p, x1, x2, x3, x4, x5, x6, x7, x8, x9, x10, x11, x12, x13⟩ := b6 d (by omega)
    have q := vP.2.2.2.1 p x6
    refine ⟨nI u, zsi (zsi (zsi h (pa p) w (zi h 21 d)) 0 6 (nI (d + 1))) 0 7 (nI u), zsi (zsi (zsi (zsi (zsi h (pa p) w (zi h 21 d)) 0 6 (nI (d + 1))) 0 7 (nI u)) 18 (4 * w + p) (zi h 21 d)) 17 5 (nI (d + 1)), ?_, ?_, ?_⟩
    · unfold X0_redo
      rw [b3, if_neg (nI_ne0 (by omega) (by omega)), b2, ck_i (by omega) (by omega), nm_u, nI_clamp (by omega), x1, dr_s, ck_i (by omega) (by omega), nm_u, dr_s, ck_i (by omega) (by omega), nm_u, dr_s, x7, x8, x11, sX0_setTo x5 (by omega) q.1, bd_s, zi_ne _ _ _ _ (Or.inl (by omega)), b2, nI_1, nm_u, nm_u, zi_ne _ _ _ _ (Or.inr (by decide)), zi_ne _ _ _ _ (Or.inl (by omega)), b3, nI_pred, nm_u, nm_u, zi_eq]
    · unfold X2_redo
      have L : ∀ q k, q < 42 → q ≠ 0 → zi (zsi (zsi (zsi h (pa p) w (zi h 21 d)) 0 6 (nI (d + 1))) 0 7 (nI u)) q k = zi h q k := fun q k h1 h2 => by
        rw [zi_ne _ _ _ _ (Or.inl h2), zi_ne _ _ _ _ (Or.inl h2), zi_ne _ _ _ _ (Or.inl (by omega))]
      rw [L 17 5 (by omega) (by omega), L 17 4 (by omega) (by omega), b4, b5, if_neg (fun z => by have := (nI_eq (by omega) (by omega)).mp z; omega), ck_i (by omega) (by omega), ck_i (by omega) (by omega), nI_clamp (by omega), nm_u, L 19 d (by omega) (by omega), x9, ck_i (by omega) (by omega), nm_u, nI_clamp (by omega), L 21 d (by omega) (by omega), zi_ne _ _ _ _ (Or.inl (by decide)), L 17 5 (by omega) (by omega), b4, nI_1, nm_u, nm_u, zi_eq, zi_ne _ _ _ _ (Or.inr (by decide)), zi_ne _ _ _ _ (Or.inl (by decide)), L 17 4 (by omega) (by omega), b5, pk_sub (by omega), show d + (u + 1) - (d + 1) = u from by omega]
    · have od : oldc3 h (zsi (zsi (zsi (zsi (zsi h (pa p) w (zi h 21 d)) 0 6 (nI (d + 1))) 0 7 (nI u)) 18 (4 * w + p) (zi h 21 d)) 17 5 (nI (d + 1))) := ((((((oldc.rf h).o3).si (Or.inr (Or.inr q.2.2.2.1))).si (Or.inl (by omega))).si (Or.inl (by omega))).si (Or.inl (by omega))).si (Or.inl (by omega))
      have L : ∀ q, q < 42 → q ≠ 0 → q ≠ 17 → q ≠ 18 → zi (zsi (zsi (zsi (zsi (zsi h (pa p) w (zi h 21 d)) 0 6 (nI (d + 1))) 0 7 (nI u)) 18 (4 * w + p) (zi h 21 d)) 17 5 (nI (d + 1))) q = zi h q := fun q h1 h2 h3 h4 => by
        funext k
        rw [zi_ne _ _ _ _ (Or.inl h3), zi_ne _ _ _ _ (Or.inl h4), zi_ne _ _ _ _ (Or.inl h2), zi_ne _ _ _ _ (Or.inl h2), zi_ne _ _ _ _ (Or.inl (by omega))]
      have L0 : ∀ k, k ≠ 6 → k ≠ 7 → zi (zsi (zsi (zsi (zsi (zsi h (pa p) w (zi h 21 d)) 0 6 (nI (d + 1))) 0 7 (nI u)) 18 (4 * w + p) (zi h 21 d)) 17 5 (nI (d + 1))) 0 k = zi h 0 k := fun k h1 h2 => by
        rw [zi_ne _ _ _ _ (Or.inl (by decide)), zi_ne _ _ _ _ (Or.inl (by decide)), zi_ne _ _ _ _ (Or.inr h2), zi_ne _ _ _ _ (Or.inr h1), zi_ne _ _ _ _ (Or.inl (by omega))]
      have L17 : ∀ k, k ≠ 5 → zi (zsi (zsi (zsi (zsi (zsi h (pa p) w (zi h 21 d)) 0 6 (nI (d + 1))) 0 7 (nI u)) 18 (4 * w + p) (zi h 21 d)) 17 5 (nI (d + 1))) 17 k = zi h 17 k := fun k h1 => by
        rw [zi_ne _ _ _ _ (Or.inr h1), zi_ne _ _ _ _ (Or.inl (by decide)), zi_ne _ _ _ _ (Or.inl (by decide)), zi_ne _ _ _ _ (Or.inl (by decide)), zi_ne _ _ _ _ (Or.inl (by omega))]
      refine ⟨n, pa, ord, plc, b, D, m, ba, vP.set od (L0 3 (by omega) (by omega)) (L17 6 (by omega)) rfl x6 x5 x13 (fun q' k h1 h2 => ?_) (fun k => ?_), vO.lo (L 2 (by omega) (by omega) (by omega) (by omega)) (L 22 (by omega) (by omega) (by omega) (by omega)) (L 23 (by omega) (by omega) (by omega) (by omega)), vB.ol (L0 4 (by omega) (by omega)) (L17 9 (by omega)) (L 3 (by omega) (by omega) (by omega) (by omega)) (L 24 (by omega) (by omega) (by omega) (by omega)) rfl, vD.lo (fun k _ _ => L0 k (by omega) (by omega)) (fun k _ _ => L17 k (by omega)), ⟨d + 1, u, by omega, ?_, ?_, ?_, ?_, fun k hk => ?_⟩, vT.lo (L0 9 (by omega) (by omega)) (L17 13 (by omega)) (L 26 (by omega) (by omega) (by omega) (by omega)) (L 5 (by omega) (by omega) (by omega) (by omega)), vBo.o3 od (L0 36 (by omega) (by omega)) (L17 40 (by omega)) (L 36 (by omega) (by omega) (by omega) (by omega)) rfl, vTr.lo (L0 33 (by omega) (by omega)) (L17 43 (by omega)) (L 14 (by omega) (by omega) (by omega) (by omega)) (L 37 (by omega) (by omega) (by omega) (by omega)), vS.o3 od (L 38 (by omega) (by omega) (by omega) (by omega)) (L 39 (by omega) (by omega) (by omega) (by omega)) rfl rfl, vR.le (Nat.le_succ _), vLC.o3 od rfl, vLM.lo (L17 15 (by omega)) (L 27 (by omega) (by omega) (by omega) (by omega)), vDb, vx⟩
      · rw [zi_ne _ _ _ _ (Or.inl (by omega)), zi_ne _ _ _ _ (Or.inl (by omega)), zi_ne _ _ _ _ (Or.inl (by omega)), zi_ne _ _ _ _ (Or.inl (by omega)), zi_si]
      · rw [zi_ne _ _ _ _ (Or.inl (by decide)), upd_i, zi_ne _ _ _ _ (Or.inl (by decide)), zi_ne _ _ _ _ (Or.inl (by decide)), zi_ne _ _ _ _ (Or.inl (by omega))]
      · rw [zi_ne _ _ _ _ (Or.inl (by decide)), zi_ne _ _ _ _ (Or.inl (by decide)), zi_ne _ _ _ _ (Or.inr (by decide)), zi_eq]
      · rw [zi_ne _ _ _ _ (Or.inl (by decide)), zi_ne _ _ _ _ (Or.inl (by decide)), zi_eq]
      · rw [zi_eq]
      · rw [L17 4 (by omega), b5]; congr 1; omega
      · exact (b6 k (by omega)).o3 od (by rw [L 19 (by omega) (by omega) (by omega) (by omega)]) (by rw [L 20 (by omega) (by omega) (by omega) (by omega)]) (by rw [L 21 (by omega) (by omega) (by omega) (by omega)]) rfl
