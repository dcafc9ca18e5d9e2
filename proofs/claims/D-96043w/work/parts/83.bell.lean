/-! bell, prize, feed, step -/
theorem sX0_begin0 {h : Hp} {n : Nat} (hn : n ≤ 4) (e : zi h 0 3 = nI n) : X0_beginAnew h = some ((), zsi (zsi (zsi (zsi h 0 32 0) 0 26 (nI (2 ^ n - 1))) 0 27 0) 0 28 0) := by
  unfold X0_beginAnew
  rw [nm_u, sX0_all _ hn (show zi (zsi h 0 32 0) 0 3 = nI n from e), bd_s]
  rfl
theorem sX2_starts {h : Hp} {n : Nat} (hn : n ≤ 4) (e : zi h 17 6 = nI n) : X2_startsAnew h = some ((), zsi (zsi (zsi (zsi h 17 36 0) 17 33 (nI (2 ^ n - 1))) 17 34 (zi h 22 0)) 17 35 0) := by
  unfold X2_startsAnew
  rw [nm_u, sX2_allN _ hn (show zi (zsi h 17 36 0) 17 6 = nI n from e), bd_s, nm_u, ck_t (by decide)]
  rfl
theorem sX2_w0 (h : Hp) (x : Int32) (b : Nat) (hb : b < 2 ^ 31) : X2_within h x.toInt64 (0 : Int64) (lN b) = some (pB (0 ≤ x ∧ x ≤ nI b), h) := by
  rw [show (0 : Int64) = (0 : Int32).toInt64 from by decide, ← nI_l hb, sX2_wi]
theorem sim_bell (i : Nat) (x : Int32) : Sim i (fun h => X0_bell h x) (fun h => X2_bell h x) := by
  intro h v
  have v' := v
  obtain ⟨n, pa, ord, plc, b, D, m, ba, vP, vO, vB, vD, vC, vT, vBo, vTr, vS, vR, vLC, vLM, vDb, vx⟩ := v'
  by_cases c : 0 ≤ x ∧ x ≤ nI 9
  · obtain ⟨k, hk, rfl⟩ := nI_rg (by omega) c.1 c.2
    refine ⟨nI b, zsi (zsi (zsi (zsi (zsi h 0 4 (nI k)) 0 32 0) 0 26 (nI (2 ^ n - 1))) 0 27 0) 0 28 0, zsi (zsi (zsi (zsi (zsi (zsi (zsi (zsi (zsi (zsi h 0 4 (nI k)) 0 32 0) 0 26 (nI (2 ^ n - 1))) 0 27 0) 0 28 0) 17 9 (nI k)) 17 36 0) 17 33 (nI (2 ^ n - 1))) 17 34 (zi h 22 0)) 17 35 0, ?_, ?_, ?_⟩
    · show X0_bell h (nI k) = _
      unfold X0_bell
      rw [show (9 : Int32) = nI 9 from rfl, sX0_in, bd_s, if_neg (fun z => (pB0.mp z) c), nm_u, nm_u, sX0_begin0 vP.1 (show zi (zsi h 0 4 (nI k)) 0 3 = nI n from vP.2.1), bd_s, vB.2.1]
    · show X2_bell _ (nI k) = _
      unfold X2_bell
      rw [show (9 : Int64) = lN 9 from rfl, sX2_w0 _ _ 9 (by omega), bd_s, if_neg (fun z => (pB0.mp z) c), nm_u, nm_u, sX2_starts (n := n) vP.1 (by exact vP.2.2.1), bd_s]
      rw [show zi (zsi (zsi (zsi (zsi (zsi h 0 4 (nI k)) 0 32 0) 0 26 (nI (2 ^ n - 1))) 0 27 0) 0 28 0) 17 9 = nI b from vB.2.2.1]
      rfl
    · have hi : ∀ q, 42 ≤ q → zi (zsi (zsi (zsi (zsi (zsi (zsi (zsi (zsi (zsi (zsi h 0 4 (nI k)) 0 32 0) 0 26 (nI (2 ^ n - 1))) 0 27 0) 0 28 0) 17 9 (nI k)) 17 36 0) 17 33 (nI (2 ^ n - 1))) 17 34 (zi h 22 0)) 17 35 0) q = zi h q :=
        hi_si (by omega) (hi_si (by omega) (hi_si (by omega) (hi_si (by omega) (hi_si (by omega) (hi_si (by omega) (hi_si (by omega) (hi_si (by omega) (hi_si (by omega) (hi_si (by omega) (fun _ _ => rfl))))))))))
      refine ⟨n, pa, ord, plc, k, D, m, ba, vP.lo rfl hi rfl rfl rfl, vO.lo rfl rfl rfl, ?_, ?_, vC.lo rfl hi rfl rfl rfl rfl rfl rfl rfl, vT.lo rfl rfl rfl rfl, vBo.lo rfl hi rfl rfl rfl, vTr.lo rfl rfl rfl rfl, vS.lo rfl hi rfl rfl, vR.lo rfl (Nat.le_succ _), vLC.lo rfl hi, vLM.lo rfl rfl, vDb, vx⟩
      · exact ⟨hk, rfl, rfl, vB.2.2.2.1, vB.2.2.2.2⟩
      · exact iD.new vP.1 (fun z => (vO.2.1 0 z).1) rfl rfl rfl rfl (vO.1 0 (by omega)).2.1 rfl (Or.inl ⟨rfl, rfl⟩)
  · refine ⟨-1, h, h, ?_, ?_, v.fQ (Nat.le_succ _) (fQ.mk (fS.rf h) (fS2.rf h))⟩
    · show X0_bell h x = _
      unfold X0_bell
      rw [show (9 : Int32) = nI 9 from rfl, sX0_in, bd_s, if_pos (pB0.mpr c)]
    · show X2_bell h x = _
      unfold X2_bell
      rw [show (9 : Int64) = lN 9 from rfl, sX2_w0 _ _ 9 (by omega), bd_s, if_pos (pB0.mpr c)]
theorem sim_prize (i : Nat) (x y : Int32) : Sim i (fun h => X0_prize h x y) (fun h => X2_prize h x y) := by
  intro h v
  have v' := v
  obtain ⟨n, pa, ord, plc, b, D, m, ba, vP, vO, vB, vD, vC, vT, vBo, vTr, vS, vR, vLC, vLM, vDb, vx⟩ := v'
  have same := v.fQ (Nat.le_succ i) (fQ.mk (fS.rf h) (fS2.rf h))
  by_cases c1 : 1 ≤ x ∧ x ≤ 4
  · obtain ⟨k, hk1, hk, rfl⟩ := nI_rgL (a := 1) (b := 4) (by omega) (by omega) c1.1 c1.2
    by_cases c2 : 0 ≤ y ∧ y ≤ nI 9
    · obtain ⟨p, hp, rfl⟩ := nI_rg (by omega) c2.1 c2.2
      refine ⟨zi h 24 k, zsi h 3 k (nI p), zsi (zsi h 3 k (nI p)) 24 k (nI p), ?_, ?_, ?_⟩
      · show X0_prize h (nI k) (nI p) = _
        unfold X0_prize
        rw [sX0_in, bd_s, if_neg (fun z => (pB0.mp z) c1), show (9 : Int32) = nI 9 from rfl, sX0_in, bd_s, if_neg (fun z => (pB0.mp z) c2), ck_i (by omega) (by omega), nm_u, ck_i (by omega) (by omega), nm_u, nI_clamp (by omega), (vB.2.2.2.1 k (by omega)).1]
      · show X2_prize _ (nI k) (nI p) = _
        unfold X2_prize
        rw [show (1 : Int64) = (1 : Int32).toInt64 from by decide, show (4 : Int64) = (4 : Int32).toInt64 from by decide, sX2_wi, bd_s, if_neg (fun z => (pB0.mp z) c1), show (9 : Int64) = lN 9 from rfl, sX2_w0 _ _ 9 (by omega), bd_s, if_neg (fun z => (pB0.mp z) c2), ck_i (by omega) (by omega), nm_u, ck_i (by omega) (by omega), nm_u, nI_clamp (by omega)]
        rfl
      · have hi : ∀ q, 42 ≤ q → zi (zsi (zsi h 3 k (nI p)) 24 k (nI p)) q = zi h q := hi_si (by omega) (hi_si (by omega) (fun _ _ => rfl))
        refine ⟨n, pa, ord, plc, b, D, m, ba, vP.lo rfl hi rfl rfl rfl, vO.lo rfl rfl rfl, ?_, vD.lo (fun k _ _ => rfl) (fun k _ _ => rfl), vC.lo rfl hi rfl rfl rfl rfl rfl rfl rfl, vT.lo rfl rfl rfl rfl, vBo.lo rfl hi rfl rfl rfl, vTr.lo rfl rfl rfl rfl, vS.lo rfl hi rfl rfl, vR.lo rfl (Nat.le_succ _), vLC.lo rfl hi, vLM.lo rfl rfl, vDb, vx⟩
        refine ⟨vB.1, vB.2.1, vB.2.2.1, fun j hj => ?_, vB.2.2.2.2⟩
        have e3 : zi (zsi (zsi h 3 k (nI p)) 24 k (nI p)) 3 j = if j = k then nI p else zi h 3 j := by
          rw [zi_ne _ _ _ _ (Or.inl (by decide)), zi_si]
          by_cases z : j = k
          · rw [if_pos ⟨rfl, z⟩, if_pos z]
          · rw [if_neg (fun y => z y.2), if_neg z]
        have e24 : zi (zsi (zsi h 3 k (nI p)) 24 k (nI p)) 24 j = if j = k then nI p else zi h 24 j := by
          rw [zi_si]
          by_cases z : j = k
          · rw [if_pos ⟨rfl, z⟩, if_pos z]
          · rw [if_neg (fun y => z y.2), if_neg z, zi_ne _ _ _ _ (Or.inl (by decide))]
        rw [e3, e24]
        by_cases z : j = k
        · rw [if_pos z, if_pos z]; exact ⟨rfl, p, hp, rfl⟩
        · rw [if_neg z, if_neg z]; exact vB.2.2.2.1 j hj
    · refine ⟨-1, h, h, ?_, ?_, same⟩
      · show X0_prize h (nI k) y = _
        unfold X0_prize
        rw [sX0_in, bd_s, if_neg (fun z => (pB0.mp z) c1), show (9 : Int32) = nI 9 from rfl, sX0_in, bd_s, if_pos (pB0.mpr c2)]
      · show X2_prize h (nI k) y = _
        unfold X2_prize
        rw [show (1 : Int64) = (1 : Int32).toInt64 from by decide, show (4 : Int64) = (4 : Int32).toInt64 from by decide, sX2_wi, bd_s, if_neg (fun z => (pB0.mp z) c1), show (9 : Int64) = lN 9 from rfl, sX2_w0 _ _ 9 (by omega), bd_s, if_pos (pB0.mpr c2)]
  · refine ⟨-1, h, h, ?_, ?_, same⟩
    · show X0_prize h x y = _
      unfold X0_prize
      rw [sX0_in, bd_s, if_pos (pB0.mpr c1)]
    · show X2_prize h x y = _
      unfold X2_prize
      rw [show (1 : Int64) = (1 : Int32).toInt64 from by decide, show (4 : Int64) = (4 : Int32).toInt64 from by decide, sX2_wi, bd_s, if_pos (pB0.mpr c1)]
theorem sim_feed (i : Nat) (x : Int32) : Sim i (fun h => X0_feed h x) (fun h => X2_feed h x) := by
  intro h v
  have v' := v
  obtain ⟨n, pa, ord, plc, b, D, m, ba, vP, vO, vB, vD, vC, vT, vBo, vTr, vS, vR, vLC, vLM, vDb, vx⟩ := v'
  have same := v.fQ (Nat.le_succ i) (fQ.mk (fS.rf h) (fS2.rf h))
  obtain ⟨t, t1, t2, t3, t4⟩ := vT
  by_cases c1 : 0 ≤ x ∧ x ≤ nI 255
  · obtain ⟨k, hk, rfl⟩ := nI_rg (by omega) c1.1 c1.2
    by_cases c2 : t = 120
    · refine ⟨-3, h, h, ?_, ?_, same⟩
      · show X0_feed h (nI k) = _
        unfold X0_feed
        rw [show (255 : Int32) = nI 255 from rfl, sX0_in, bd_s, if_neg (fun z => (pB0.mp z) c1), if_pos (by rw [t2, c2]; rfl)]
      · show X2_feed h (nI k) = _
        unfold X2_feed
        rw [show (255 : Int64) = lN 255 from rfl, sX2_w0 _ _ 255 (by omega), bd_s, if_neg (fun z => (pB0.mp z) c1), if_pos (by rw [t3, c2]; rfl)]
    · have ne : ¬ nI t = (120 : Int32) := fun z => c2 ((nI_eq (by omega) (by omega)).mp (show nI t = nI 120 from z))
      refine ⟨nI (t + 1), zsi (zsi h 5 t ((nI k).toInt8.toInt32)) 0 9 (nI (t + 1)), zsi (zsi (zsi (zsi h 5 t ((nI k).toInt8.toInt32)) 0 9 (nI (t + 1))) 26 t (nI k)) 17 13 (nI (t + 1)), ?_, ?_, ?_⟩
      · show X0_feed h (nI k) = _
        unfold X0_feed
        rw [show (255 : Int32) = nI 255 from rfl, sX0_in, bd_s, if_neg (fun z => (pB0.mp z) c1), t2, if_neg ne, nm_u, ck_i (by omega) (by omega), nI_clamp (by omega), pk_vb, nm_u, nm_u, nm_u, zi_eq, zi_ne _ _ _ _ (Or.inl (by decide)), t2, nI_1]
      · show X2_feed _ (nI k) = _
        unfold X2_feed
        have e13 : zi (zsi (zsi h 5 t ((nI k).toInt8.toInt32)) 0 9 (nI (t + 1))) 17 13 = nI t := t3
        rw [show (255 : Int64) = lN 255 from rfl, sX2_w0 _ _ 255 (by omega), bd_s, if_neg (fun z => (pB0.mp z) c1), e13, if_neg ne, ck_i (by omega) (by omega), nI_clamp (by omega), nm_u, nm_u, nm_u, zi_eq, zi_ne _ _ _ _ (Or.inl (by decide)), e13, nI_1]
      · have hi : ∀ q, 42 ≤ q → zi (zsi (zsi (zsi (zsi h 5 t ((nI k).toInt8.toInt32)) 0 9 (nI (t + 1))) 26 t (nI k)) 17 13 (nI (t + 1))) q = zi h q := hi_si (by omega) (hi_si (by omega) (hi_si (by omega) (hi_si (by omega) (fun _ _ => rfl))))
        refine ⟨n, pa, ord, plc, b, D, m, ba, vP.lo rfl hi rfl rfl rfl, vO.lo rfl rfl rfl, vB.lo rfl rfl rfl rfl rfl, vD.lo (fun k h1 h2 => ?_) (fun k h1 h2 => ?_), vC.lo rfl hi rfl rfl rfl rfl rfl rfl rfl, ?_, vBo.lo rfl hi rfl rfl rfl, vTr.lo rfl rfl rfl rfl, vS.lo rfl hi rfl rfl, vR.lo rfl (Nat.le_succ _), vLC.lo rfl hi, vLM.lo rfl rfl, vDb, vx⟩
        · rw [zi_ne _ _ _ _ (Or.inl (by decide)), zi_ne _ _ _ _ (Or.inl (by decide)), zi_ne _ _ _ _ (Or.inr (by omega)), zi_ne _ _ _ _ (Or.inl (by decide))]
        · rw [zi_ne _ _ _ _ (Or.inr (by omega)), zi_ne _ _ _ _ (Or.inl (by decide)), zi_ne _ _ _ _ (Or.inl (by decide)), zi_ne _ _ _ _ (Or.inl (by decide))]
        · refine ⟨t + 1, by omega, rfl, rfl, fun j hj => ?_⟩
          have e26 : zi (zsi (zsi (zsi (zsi h 5 t ((nI k).toInt8.toInt32)) 0 9 (nI (t + 1))) 26 t (nI k)) 17 13 (nI (t + 1))) 26 j = if j = t then nI k else zi h 26 j := by
            rw [zi_ne _ _ _ _ (Or.inl (by decide)), zi_si]
            by_cases z : j = t
            · rw [if_pos ⟨rfl, z⟩, if_pos z]
            · rw [if_neg (fun y => z y.2), if_neg z]; rfl
          have e5 : zi (zsi (zsi (zsi (zsi h 5 t ((nI k).toInt8.toInt32)) 0 9 (nI (t + 1))) 26 t (nI k)) 17 13 (nI (t + 1))) 5 j = if j = t then (nI k).toInt8.toInt32 else zi h 5 j := by
            rw [zi_ne _ _ _ _ (Or.inl (by decide)), zi_ne _ _ _ _ (Or.inl (by decide)), zi_ne _ _ _ _ (Or.inl (by decide)), zi_si]
            by_cases z : j = t
            · rw [if_pos ⟨rfl, z⟩, if_pos z]
            · rw [if_neg (fun y => z y.2), if_neg z]
          rw [e26, e5]
          rcases Nat.lt_or_ge j t with l | l
          · rw [if_neg (by omega), if_neg (by omega)]; exact t4 j l
          · rw [if_pos (by omega), if_pos (by omega)]; exact ⟨k, hk, rfl, rfl⟩
  · refine ⟨-1, h, h, ?_, ?_, same⟩
    · show X0_feed h x = _
      unfold X0_feed
      rw [show (255 : Int32) = nI 255 from rfl, sX0_in, bd_s, if_pos (pB0.mpr c1)]
    · show X2_feed h x = _
      unfold X2_feed
      rw [show (255 : Int64) = lN 255 from rfl, sX2_w0 _ _ 255 (by omega), bd_s, if_pos (pB0.mpr c1)]
