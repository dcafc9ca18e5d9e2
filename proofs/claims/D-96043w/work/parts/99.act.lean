theorem act_len : ∀ j, j < 8 → (aL j).length < 1000 ∧ (hL j).length < 1000 ∧ (tL j).length < 1000 ∧ (lL j).length < 1000 := by decide
theorem sim_act (i : Nat) (x y z : Int32) : Sim i (fun h => X0_act h x y z) (fun h => X2_act h x y z) := by
  intro h v
  have v' := v
  obtain ⟨n, pa, ord, plc, b, D, m, ba, vP, vO, vB, vD, vC, vT, vBo, vTr, vS, vR, vLC, vLM, vDb, vx⟩ := v'
  have hm := vBo.1
  have tr0 : ∀ h2 : Hp, zi h2 0 33 = 0 → zi h2 17 43 = 0 → iTr h2 := fun h2 e1 e2 => ⟨0, by omega, e1, e2, fun k _ hk => absurd hk (Nat.not_lt_zero _)⟩
  by_cases c1 : 0 ≤ x ∧ x ≤ nI m - 1
  · obtain ⟨w, hw, rfl⟩ := (nI_isP (by omega)).mp c1
    obtain ⟨q1, q2, q3, q4, j, q5, q6, q7, q8⟩ := vBo.2.2.2 w hw
    have ln := act_len j (by omega)
    have start : ∀ h1 : Hp, (∀ q, q ≠ 0 → q ≠ 14 → zi h1 q = zi h q) → X2_act h1 (nI w) y z = (if y = (0 : Int32) then (bd (X2_aimsAs 4 (zsi (zsi (zsi h1 17 43 0) 17 44 (nI j)) 17 45 (nI w)) (nI j) z) fun r11 h10 => some (r11, h10)) else if y = (1 : Int32) then (bd (X2_throwsAs 4 (zsi (zsi (zsi h1 17 43 0) 17 44 (nI j)) 17 45 (nI w)) (nI j) z) fun r14 h13 => some (r14, h13)) else if y = (2 : Int32) then (bd (X2_hitsAs 4 (zsi (zsi (zsi h1 17 43 0) 17 44 (nI j)) 17 45 (nI w)) (nI j) z) fun r17 h16 => some (r17, h16)) else if y = (3 : Int32) then (bd (X2_tellsAs 4 (zsi (zsi (zsi h1 17 43 0) 17 44 (nI j)) 17 45 (nI w)) (nI j) z) fun r20 h19 => some (r20, h19)) else (some ((0 : Int32), (zsi (zsi (zsi h1 17 43 0) 17 44 (nI j)) 17 45 (nI w))))) := by
      intro h1 l
      unfold X2_act
      have e36 : zi (zsi h1 17 43 0) 36 w = nI j := by
        show zi h1 36 w = _
        rw [l 36 (by decide) (by decide)]; exact q7
      have e40 : zi (zsi h1 17 43 0) 17 40 = nI m := by
        show zi h1 17 40 = _
        rw [l 17 (by decide) (by decide)]; exact vBo.2.2.1
      rw [nm_u, sX2_isBo e40, bd_s, if_neg (fun z => (pB0.mp z) c1), ck_i (by omega) (by omega), nI_clamp (by omega), e36, nm_u, nm_u, nm_u, show zi (zsi (zsi (zsi h1 17 43 0) 17 44 (nI j)) 17 45 (nI w)) 17 44 = nI j from rfl]
    have cls : X0_act h (nI w) y z = (bd (X0_in (zsi h 0 33 0) y (0 : Int32) (3 : Int32)) fun r6 h5 => if r6 = 0 then (some ((0 : Int32), h5)) else (ck (0 ≤ (nI w).toInt ∧ (nI w).toInt < 50) <| nm (zr h5 15 (nI w).toNatClampNeg) fun o9 => if y = 0 then (dr o9 fun a22 => bd (VA_aiming h5 a22 z) fun r24 h23 => some (r24, h23)) else (if y = (3 : Int32) then (dr o9 fun a19 => bd (VT_tells h5 a19 z) fun r21 h20 => some (r21, h20)) else (if y = (1 : Int32) then (dr o9 fun a16 => bd (V14_throwsBy h5 a16 z) fun r18 h17 => some (r18, h17)) else (dr o9 fun a13 => bd (V14_hitting h5 a13 z) fun r15 h14 => some (r15, h14)))))) := by
      unfold X0_act
      rw [nm_u, sX0_isBo (show zi (zsi h 0 33 0) 0 36 = nI m from vBo.2.1), bd_s, if_neg (fun z => (pB0.mp z) c1)]
    by_cases c2 : 0 ≤ y ∧ y ≤ nI 3
    · obtain ⟨t, ht, rfl⟩ := nI_rg (by omega) c2.1 c2.2
      have : t = 0 ∨ t = 1 ∨ t = 2 ∨ t = 3 := by omega
      rw [show (3 : Int32) = nI 3 from rfl, sX0_inN, bd_s, if_neg (fun z => (pB0.mp z) c2), ck_i (by omega) (by omega), nI_clamp (by omega), show zr (zsi h 0 33 0) 15 w = some (ba w) from q1, nm_u] at cls
      rcases this with rfl | rfl | rfl | rfl
      · obtain ⟨h1, h2, e1, e2, l, vv⟩ := act_core v (f := fun h => V14_aiming h (ba w) z) (g := fun h => X2_aimsAs 4 h (nI j) z) (k := nI j) (bn := nI w) ln.1 (rV14_aiming (by omega) q2 q6 q8 z) (fun h1 a1 a2 => by have := mA (h0 := h1) (k := j) (by omega) z; rw [a1, ← q4] at this; exact this)
        refine ⟨aV j (zi h (ba w) 0) z, h1, h2, ?_, ?_, vv⟩
        · show X0_act h (nI w) (nI 0) z = _
          rw [cls, if_pos (show nI 0 = (0 : Int32) from rfl), dr_s, show VA_aiming (zsi h 0 33 0) (ba w) z = _ from e1, bd_s]
        · show X2_act h1 (nI w) (nI 0) z = _
          rw [start h1 l, if_pos (show nI 0 = (0 : Int32) from rfl), show X2_aimsAs 4 (zsi (zsi (zsi h1 17 43 0) 17 44 (nI j)) 17 45 (nI w)) (nI j) z = _ from e2, bd_s]
      · obtain ⟨h1, h2, e1, e2, l, vv⟩ := act_core v (f := fun h => V14_throwsBy h (ba w) z) (g := fun h => X2_throwsAs 4 h (nI j) z) (k := nI j) (bn := nI w) ln.2.2.1 (rV14_throwsBy (by omega) q2 q6 q8 z) (fun h1 a1 a2 => by have := mT (h0 := h1) (k := j) (by omega) a2 z; rw [a1, ← q4] at this; exact this)
        refine ⟨tV j (zi h (ba w) 0) z, h1, h2, ?_, ?_, vv⟩
        · show X0_act h (nI w) (nI 1) z = _
          rw [cls, if_neg (show ¬ nI 1 = (0 : Int32) from by decide), if_neg (show ¬ nI 1 = nI 3 from by decide), if_pos (show nI 1 = (1 : Int32) from rfl), dr_s, show V14_throwsBy (zsi h 0 33 0) (ba w) z = _ from e1, bd_s]
        · show X2_act h1 (nI w) (nI 1) z = _
          rw [start h1 l, if_neg (show ¬ nI 1 = (0 : Int32) from by decide), if_pos (show nI 1 = (1 : Int32) from rfl), show X2_throwsAs 4 (zsi (zsi (zsi h1 17 43 0) 17 44 (nI j)) 17 45 (nI w)) (nI j) z = _ from e2, bd_s]
      · obtain ⟨h1, h2, e1, e2, l, vv⟩ := act_core v (f := fun h => V14_hitting h (ba w) z) (g := fun h => X2_hitsAs 4 h (nI j) z) (k := nI j) (bn := nI w) ln.2.1 (rV14_hitting (by omega) q2 q6 q8 z) (fun h1 a1 a2 => by have := mH (h0 := h1) (k := j) (by omega) a2 z; rw [a1, ← q4] at this; exact this)
        refine ⟨hV j (zi h (ba w) 0) z, h1, h2, ?_, ?_, vv⟩
        · show X0_act h (nI w) (nI 2) z = _
          rw [cls, if_neg (show ¬ nI 2 = (0 : Int32) from by decide), if_neg (show ¬ nI 2 = nI 3 from by decide), if_neg (show ¬ nI 2 = (1 : Int32) from by decide), dr_s, show V14_hitting (zsi h 0 33 0) (ba w) z = _ from e1, bd_s]
        · show X2_act h1 (nI w) (nI 2) z = _
          rw [start h1 l, if_neg (show ¬ nI 2 = (0 : Int32) from by decide), if_neg (show ¬ nI 2 = (1 : Int32) from by decide), if_pos (show nI 2 = (2 : Int32) from rfl), show X2_hitsAs 4 (zsi (zsi (zsi h1 17 43 0) 17 44 (nI j)) 17 45 (nI w)) (nI j) z = _ from e2, bd_s]
      · obtain ⟨h1, h2, e1, e2, l, vv⟩ := act_core v (f := fun h => VT_tells h (ba w) z) (g := fun h => X2_tellsAs 4 h (nI j) z) (k := nI j) (bn := nI w) ln.2.2.2 (rVT_tells (by omega) q2 q6 q8 z) (fun h1 a1 a2 => by have := mE (h0 := h1) (k := j) (by omega) a2 z; rw [a1, ← q4] at this; exact this)
        refine ⟨lV j (zi h (ba w) 0) z, h1, h2, ?_, ?_, vv⟩
        · show X0_act h (nI w) (nI 3) z = _
          rw [cls, if_neg (show ¬ nI 3 = (0 : Int32) from by decide), if_pos (show nI 3 = nI 3 from rfl), dr_s, show VT_tells (zsi h 0 33 0) (ba w) z = _ from e1, bd_s]
        · show X2_act h1 (nI w) (nI 3) z = _
          rw [start h1 l, if_neg (show ¬ nI 3 = (0 : Int32) from by decide), if_neg (show ¬ nI 3 = (1 : Int32) from by decide), if_neg (show ¬ nI 3 = (2 : Int32) from by decide), if_pos (show nI 3 = (3 : Int32) from rfl), show X2_tellsAs 4 (zsi (zsi (zsi h1 17 43 0) 17 44 (nI j)) 17 45 (nI w)) (nI j) z = _ from e2, bd_s]
    · have nk : ∀ k, k ≤ 3 → ¬ y = nI k := fun k hk e => c2 (by rw [e]; exact ⟨nI_pos' (by omega), (nI_leI (by omega) (by omega)).mpr hk⟩)
      refine ⟨0, zsi h 0 33 0, zsi (zsi (zsi (zsi h 0 33 0) 17 43 0) 17 44 (nI j)) 17 45 (nI w), ?_, ?_, v.act rfl (fun q a1 _ a3 _ => ?_) (fun k hk => ?_) (fun k a1 a2 a3 => ?_) (tr0 _ rfl rfl)⟩
      · show X0_act h (nI w) y z = _
        rw [cls, show (3 : Int32) = nI 3 from rfl, sX0_inN, bd_s, if_pos (pB0.mpr c2)]
      · show X2_act _ (nI w) y z = _
        rw [start _ (fun q a1 _ => funext fun j => zi_ne _ _ _ _ (Or.inl a1)), if_neg (by exact nk 0 (by omega)), if_neg (by exact nk 1 (by omega)), if_neg (by exact nk 2 (by omega)), if_neg (by exact nk 3 (by omega))]
      · funext j; rw [zi_ne _ _ _ _ (Or.inl a3), zi_ne _ _ _ _ (Or.inl a3), zi_ne _ _ _ _ (Or.inl a3), zi_ne _ _ _ _ (Or.inl a1)]
      · rw [zi_ne _ _ _ _ (Or.inl (by decide)), zi_ne _ _ _ _ (Or.inl (by decide)), zi_ne _ _ _ _ (Or.inl (by decide)), zi_ne _ _ _ _ (Or.inr hk)]
      · rw [zi_ne _ _ _ _ (Or.inr a3), zi_ne _ _ _ _ (Or.inr a2), zi_ne _ _ _ _ (Or.inr a1), zi_ne _ _ _ _ (Or.inl (by decide))]
  · refine ⟨0, zsi h 0 33 0, zsi (zsi h 0 33 0) 17 43 0, ?_, ?_, v.act rfl (fun q a1 _ a3 _ => ?_) (fun k hk => ?_) (fun k a1 a2 a3 => ?_) (tr0 _ rfl rfl)⟩
    · show X0_act h x y z = _
      unfold X0_act
      rw [nm_u, sX0_isBo (show zi (zsi h 0 33 0) 0 36 = nI m from vBo.2.1), bd_s, if_pos (pB0.mpr c1)]
    · show X2_act _ x y z = _
      unfold X2_act
      rw [nm_u, sX2_isBo (show zi (zsi (zsi h 0 33 0) 17 43 0) 17 40 = nI m from vBo.2.2.1), bd_s, if_pos (pB0.mpr c1)]
    · funext j; rw [zi_ne _ _ _ _ (Or.inl a3), zi_ne _ _ _ _ (Or.inl a1)]
    · rw [zi_ne _ _ _ _ (Or.inl (by decide)), zi_ne _ _ _ _ (Or.inr hk)]
    · rw [zi_ne _ _ _ _ (Or.inr a1), zi_ne _ _ _ _ (Or.inl (by decide))]
