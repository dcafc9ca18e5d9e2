/-! mend: class and model alike -/
theorem hCh_p {h hB : Hp} {dd s w p a : Nat} {x y : Int32} (bb : bCh h hB dd s) (vx : 42 ≤ zx h) (ha : 42 ≤ a) (hax : a < zx h) :
    (∀ q k, q ≠ 0 → q ≠ zx h → zi (hCh hB dd w p a x y) q k = if q = a ∧ k = w then y else zi h q k) ∧ (∀ k, k ≠ 6 → k ≠ 7 → zi (hCh hB dd w p a x y) 0 k = zi h 0 k) ∧ zi (hCh hB dd w p a x y) 0 6 = nI (dd + 1) ∧ zi (hCh hB dd w p a x y) 0 7 = 0 ∧
    (zi (hCh hB dd w p a x y) (zx h) 0 = nI w ∧ zi (hCh hB dd w p a x y) (zx h) 1 = nI p ∧ zi (hCh hB dd w p a x y) (zx h) 2 = x ∧ zi (hCh hB dd w p a x y) (zx h) 3 = y) ∧
    (∀ q, q ≠ zx h → zj (hCh hB dd w p a x y) q = zj h q ∧ zt (hCh hB dd w p a x y) q = zt h q ∧ zn (hCh hB dd w p a x y) q = zn h q ∧ (q ≠ 4 → zr (hCh hB dd w p a x y) q = zr h q)) ∧ zt (hCh hB dd w p a x y) (zx h) = 4 ∧ zr (hCh hB dd w p a x y) 4 dd = some (zx h) ∧ (∀ j, j < dd → zr (hCh hB dd w p a x y) 4 j = zr h 4 (j + s)) ∧ zx (hCh hB dd w p a x y) = zx h + 1 ∧ zc (hCh hB dd w p a x y) = zc h + 1 ∧ zs (hCh hB dd w p a x y) = zs h + 4 := by
  obtain ⟨b1, b2, b3, b4, b5, b6, b7, b8⟩ := bb
  have ez : zx hB = zx h := congrArg (fun x => x.2.2.1) b8
  have et : zt hB = zt h := congrArg (fun x => x.1) b8
  have en : zn hB = zn h := congrArg (fun x => x.2.1) b8
  have ec : zc hB = zc h := congrArg (fun x => x.2.2.2.1) b8
  have es : zs hB = zs h := congrArg (fun x => x.2.2.2.2) b8
  unfold hCh
  rw [ez]
  refine ⟨fun q k h0 hq => ?_, fun k h6 h7 => ?_, ?_, ?_, ⟨?_, ?_, ?_, ?_⟩, fun q hq => ⟨?_, ?_, ?_, fun h4 => ?_⟩, ?_, ?_, fun j hj => ?_, ?_, ?_, ?_⟩
  · rw [zi_si, zi_ne _ _ _ _ (Or.inl h0)]
    show (if _ then y else zi (zsi (zsi (zsi (zsi (zne hB 4 0 4) (zx h) 0 (nI w)) (zx h) 1 (nI p)) (zx h) 2 x) (zx h) 3 y) q k) = _
    rw [zi_ne _ _ _ _ (Or.inl hq), zi_ne _ _ _ _ (Or.inl hq), zi_ne _ _ _ _ (Or.inl hq), zi_ne _ _ _ _ (Or.inl hq), zi_nw _ _ _ _ (by rw [ez]; exact hq), b1 q h0]
  · rw [zi_ne _ _ _ _ (Or.inl (by omega)), zi_ne _ _ _ _ (Or.inr h6)]
    show zi (zsi (zsi (zsi (zsi (zne hB 4 0 4) (zx h) 0 (nI w)) (zx h) 1 (nI p)) (zx h) 2 x) (zx h) 3 y) 0 k = _
    rw [zi_ne _ _ _ _ (Or.inl (by omega)), zi_ne _ _ _ _ (Or.inl (by omega)), zi_ne _ _ _ _ (Or.inl (by omega)), zi_ne _ _ _ _ (Or.inl (by omega)), zi_nw _ _ _ _ (by rw [ez]; omega), b2 k h6 h7]
  · rw [zi_ne _ _ _ _ (Or.inl (by omega)), zi_eq]
  · rw [zi_ne _ _ _ _ (Or.inl (by omega)), zi_ne _ _ _ _ (Or.inr (by decide))]
    show zi (zsi (zsi (zsi (zsi (zne hB 4 0 4) (zx h) 0 (nI w)) (zx h) 1 (nI p)) (zx h) 2 x) (zx h) 3 y) 0 7 = _
    rw [zi_ne _ _ _ _ (Or.inl (by omega)), zi_ne _ _ _ _ (Or.inl (by omega)), zi_ne _ _ _ _ (Or.inl (by omega)), zi_ne _ _ _ _ (Or.inl (by omega)), zi_nw _ _ _ _ (by rw [ez]; omega), b4]
  · rw [zi_ne _ _ _ _ (Or.inl (by omega)), zi_ne _ _ _ _ (Or.inl (by omega))]
    show zi (zsi (zsi (zsi (zsi (zne hB 4 0 4) (zx h) 0 (nI w)) (zx h) 1 (nI p)) (zx h) 2 x) (zx h) 3 y) (zx h) 0 = _
    rw [zi_ne _ _ _ _ (Or.inr (by decide)), zi_ne _ _ _ _ (Or.inr (by decide)), zi_ne _ _ _ _ (Or.inr (by decide)), zi_eq]
  · rw [zi_ne _ _ _ _ (Or.inl (by omega)), zi_ne _ _ _ _ (Or.inl (by omega))]
    show zi (zsi (zsi (zsi (zsi (zne hB 4 0 4) (zx h) 0 (nI w)) (zx h) 1 (nI p)) (zx h) 2 x) (zx h) 3 y) (zx h) 1 = _
    rw [zi_ne _ _ _ _ (Or.inr (by decide)), zi_ne _ _ _ _ (Or.inr (by decide)), zi_eq]
  · rw [zi_ne _ _ _ _ (Or.inl (by omega)), zi_ne _ _ _ _ (Or.inl (by omega))]
    show zi (zsi (zsi (zsi (zsi (zne hB 4 0 4) (zx h) 0 (nI w)) (zx h) 1 (nI p)) (zx h) 2 x) (zx h) 3 y) (zx h) 2 = _
    rw [zi_ne _ _ _ _ (Or.inr (by decide)), zi_eq]
  · rw [zi_ne _ _ _ _ (Or.inl (by omega)), zi_ne _ _ _ _ (Or.inl (by omega))]
    show zi (zsi (zsi (zsi (zsi (zne hB 4 0 4) (zx h) 0 (nI w)) (zx h) 1 (nI p)) (zx h) 2 x) (zx h) 3 y) (zx h) 3 = _
    rw [zi_eq]
  · funext k
    show zj (zne hB 4 0 4) q k = _
    rw [zj_nw _ _ _ _ (by rw [ez]; exact hq), b5]
  · show zt (zne hB 4 0 4) q = _
    rw [zt_nw _ _ _ _ (by rw [ez]; exact hq), et]
  · show zn (zne hB 4 0 4) q = _
    rw [zn_nw _ _ _ _ (by rw [ez]; exact hq), en]
  · funext k
    show zr (zsr (zsi (zsi (zsi (zsi (zne hB 4 0 4) (zx h) 0 (nI w)) (zx h) 1 (nI p)) (zx h) 2 x) (zx h) 3 y) 4 dd (some (zx h))) q k = _
    rw [zr_ne _ _ _ _ (Or.inl h4)]
    show zr (zne hB 4 0 4) q k = _
    rw [zr_nw _ _ _ _ (by rw [ez]; exact hq), b6 q h4]
  · show zt (zne hB 4 0 4) (zx h) = 4
    rw [← ez, zt_nn]
  · exact zr_eq _ _ _ _
  · show zr (zsr (zsi (zsi (zsi (zsi (zne hB 4 0 4) (zx h) 0 (nI w)) (zx h) 1 (nI p)) (zx h) 2 x) (zx h) 3 y) 4 dd (some (zx h))) 4 j = _
    rw [zr_ne _ _ _ _ (Or.inr (by omega))]
    show zr (zne hB 4 0 4) 4 j = _
    rw [zr_nw _ _ _ _ (by rw [ez]; omega), b7 j hj]
  · show zx hB + 1 = _
    rw [ez]
  · show zc hB + 1 = _
    rw [ec]
  · show zs hB + 4 = _
    rw [es]
theorem mend_core {i : Nat} (hi : i < 64) {h : Hp} {n b m d u w p : Nat} {pa ord plc ba : Nat → Nat} {D : Nat → Nat → Nat → Nat → Nat → Nat} {y : Int32} (v : Inv i h) (vP : iP h n pa) (vO : iO h n ord plc) (vB : iB h b) (vD : iD h n ord b) (b1 : d + u ≤ 40) (b2 : zi h 0 6 = nI d) (b4 : zi h 17 5 = nI d) (b6 : ∀ k, k < d + u → iC1 h n k) (vT : iT h) (vBo : iBo h m ba) (vTr : iTr h) (vS : iS h m ba) (vR : iR h i) (vLC : LC h D) (vLM : LM h D) (vDb : ∀ a w t m k, a ≤ 12 → D a w t m k ≤ 12) (vx : 42 ≤ zx h) (hw : w < 3) (hp : p < n) (hy : iRg w y) :
    ∃ r h1 h2, X0_become h (nI w) (nI p) (zi h 18 (4 * w + p)) y = some (r, h1) ∧ X2_becomes h1 (nI (4 * w + p)) y = some (r, h2) ∧ zi h1 17 6 = zi h 17 6 ∧ Inv (i + 1) h2 := by
  have hn := vP.1
  have q := vP.2.2.2.1 p hp
  by_cases c : zi h 18 (4 * w + p) = y
  · refine ⟨zi h 18 (4 * w + p), h, h, ?_, ?_, rfl, v.fQ (Nat.le_succ i) (fQ.mk (fS.rf h) (fS2.rf h))⟩
    · unfold X0_become; rw [if_pos c]
    · unfold X2_becomes
      rw [ck_i (by omega) (by omega), nI_clamp (by omega), nm_u, if_pos c]
  · obtain ⟨r, h1, e1, er, hB, dd, s, k1, k2, k3, k4, bb, rfl⟩ := sX0_become vP vx (d := d) (by omega) b2 hw hp c (vR.room hi (by omega) (by omega))
    have F := hCh_p (w := w) (p := p) (x := zi h 18 (4 * w + p)) (y := y) bb vx q.2.1 q.2.2.1
    obtain ⟨f1, f2, f3, f4, f5, f6, f7, f8, f9, f10, f11, f12⟩ := F
    have lowi : ∀ q' k, q' < 42 → q' ≠ 0 → zi (hCh hB dd w p (pa p) (zi h 18 (4 * w + p)) y) q' k = zi h q' k := fun q' k h1 h2 => by
      rw [f1 q' k h2 (by omega), if_neg (by omega)]
    obtain ⟨r', h2, e2, er', hM, dd', s', l1, l2, l3, l4, mm, rfl⟩ := sX2_becomes (h := hCh hB dd w p (pa p) (zi h 18 (4 * w + p)) y) (d := d) (W := 4 * w + p) (by omega) (by rw [lowi 17 5 (by omega) (by omega)]; exact b4) (by omega) (lowi 18 _ (by omega) (by omega)) c
    have ed : dd' = dd ∧ s' = s := by
      by_cases z : d = 40
      · have := k3.mp z; have := l3.mp z; omega
      · have := k4.mp z; have := l4.mp z; omega
    obtain ⟨rfl, rfl⟩ := ed
    obtain ⟨m1, m2, m3, m4, m5⟩ := mm
    obtain rfl : r' = r := er'.trans er.symm
    refine ⟨r', _, _, e1, e2, lowi 17 6 (by omega) (by omega), ?_⟩
    have S : ∀ q', q' ≠ 17 → q' ≠ 18 → q' ≠ 19 → q' ≠ 20 → q' ≠ 21 → zi (hMe hM dd' (4 * w + p) (zi h 18 (4 * w + p)) y) q' = zi (hCh hB dd' w p (pa p) (zi h 18 (4 * w + p)) y) q' := by
      intro q' h1 h2 h3 h4 h5
      rw [← m2 q' h1 h3 h4 h5]
      funext k
      unfold hMe
      rw [zi_ne _ _ _ _ (Or.inl h2), zi_ne _ _ _ _ (Or.inl h1), zi_ne _ _ _ _ (Or.inl h1), zi_ne _ _ _ _ (Or.inl h5), zi_ne _ _ _ _ (Or.inl h4), zi_ne _ _ _ _ (Or.inl h3)]
    have E2 : (hMe hM dd' (4 * w + p) (zi h 18 (4 * w + p)) y).2 = (hCh hB dd' w p (pa p) (zi h 18 (4 * w + p)) y).2 := m1
    have eA : ∀ q' k j, (q' = 19 ∨ q' = 20 ∨ q' = 21) → j < dd' → k = j + s' → zi hM q' j = zi h q' k := fun q' k j hq hj ek => by rw [m5 q' hq j hj, lowi q' _ (by omega) (by omega), ek]
    refine Inv.mend (dd := dd') (s := s') (w := w) (p := p) (x := zi h 18 (4 * w + p)) (y := y) vP vO vB vD b6 vT vBo vTr vS vR vLC vLM vDb vx hw hp (q.2.2.2.2 w hw).2 hy (by omega) k1 ⟨by rw [e_x E2, f10]; omega, fun q' h1 h2 => ?_⟩ (fun q' h1 h2 h3 h4 h5 h6 h7 => ?_) (fun k h6 h7 => ?_) ?_ ?_ (fun k h4 h5 => ?_) ?_ ?_ (fun k => ?_) (fun q' k h1 h2 h3 => ?_) (fun q' h1 h2 => ?_) (fun q' h1 => ?_) (fun k hk => ?_) ?_ (by rw [e_x E2, f10]) (by rw [e_c E2, f11]) (by rw [e_s E2, f12])
    · have g := f6 q' (by omega)
      refine ⟨by rw [e_t E2]; exact g.2.1, by rw [e_n E2]; exact g.2.2.1, fun h3 => ?_, by rw [e_j E2]; exact g.1, by rw [e_r E2]; exact g.2.2.2 (by omega)⟩
      rw [S q' (by omega) (by omega) (by omega) (by omega) (by omega)]
      funext k
      rw [f1 q' k (by omega) (by omega), if_neg (by rintro ⟨z, _⟩; rw [z, q.2.2.2.1] at h3; exact h3 rfl)]
    · rw [S q' h3 h4 h5 h6 h7]; funext k; exact lowi q' k h1 h2
    · rw [S 0 (by decide) (by decide) (by decide) (by decide) (by decide)]; exact f2 k h6 h7
    · rw [S 0 (by decide) (by decide) (by decide) (by decide) (by decide)]; exact f3
    · rw [S 0 (by decide) (by decide) (by decide) (by decide) (by decide)]; exact f4
    · unfold hMe
      rw [zi_ne _ _ _ _ (Or.inl (by decide)), zi_ne _ _ _ _ (Or.inr h4), zi_ne _ _ _ _ (Or.inr h5), zi_ne _ _ _ _ (Or.inl (by decide)), zi_ne _ _ _ _ (Or.inl (by decide)), zi_ne _ _ _ _ (Or.inl (by decide)), m3 k h5, lowi 17 k (by omega) (by omega)]
    · unfold hMe
      rw [zi_ne _ _ _ _ (Or.inl (by decide)), zi_ne _ _ _ _ (Or.inr (by decide)), zi_eq]
    · unfold hMe
      rw [zi_ne _ _ _ _ (Or.inl (by decide)), zi_eq]
    · unfold hMe
      rw [upd_i, zi_ne _ _ _ _ (Or.inl (by decide)), zi_ne _ _ _ _ (Or.inl (by decide)), zi_ne _ _ _ _ (Or.inl (by decide)), zi_ne _ _ _ _ (Or.inl (by decide)), zi_ne _ _ _ _ (Or.inl (by decide)), m2 18 (by decide) (by decide) (by decide) (by decide), lowi 18 k (by omega) (by omega)]
    · rw [S q' (by omega) (by omega) (by omega) (by omega) (by omega)]; exact f1 q' k (by omega) (by omega)
    · rw [e_r E2]; exact (f6 q' (by omega)).2.2.2 h2
    · rw [e_j E2]; exact (f6 q' (by omega)).1
    · refine ⟨by rw [e_r E2]; exact f9 k hk, ?_, ?_, ?_⟩
      · unfold hMe
        rw [zi_ne _ _ _ _ (Or.inl (by decide)), zi_ne _ _ _ _ (Or.inl (by decide)), zi_ne _ _ _ _ (Or.inl (by decide)), zi_ne _ _ _ _ (Or.inl (by decide)), zi_ne _ _ _ _ (Or.inl (by decide)), zi_ne _ _ _ _ (Or.inr (by omega))]; exact eA 19 _ k (by omega) hk rfl
      · unfold hMe
        rw [zi_ne _ _ _ _ (Or.inl (by decide)), zi_ne _ _ _ _ (Or.inl (by decide)), zi_ne _ _ _ _ (Or.inl (by decide)), zi_ne _ _ _ _ (Or.inl (by decide)), zi_ne _ _ _ _ (Or.inr (by omega)), zi_ne _ _ _ _ (Or.inl (by decide))]; exact eA 20 _ k (by omega) hk rfl
      · unfold hMe
        rw [zi_ne _ _ _ _ (Or.inl (by decide)), zi_ne _ _ _ _ (Or.inl (by decide)), zi_ne _ _ _ _ (Or.inl (by decide)), zi_ne _ _ _ _ (Or.inr (by omega)), zi_ne _ _ _ _ (Or.inl (by decide)), zi_ne _ _ _ _ (Or.inl (by decide))]; exact eA 21 _ k (by omega) hk rfl
    · have SA : zi (hMe hM dd' (4 * w + p) (zi h 18 (4 * w + p)) y) (zx h) = zi (hCh hB dd' w p (pa p) (zi h 18 (4 * w + p)) y) (zx h) := S (zx h) (by omega) (by omega) (by omega) (by omega) (by omega)
      refine ⟨by rw [e_r E2]; exact f8, by rw [e_t E2]; exact f7, by rw [SA]; exact f5.1, by rw [SA]; exact f5.2.1, by rw [SA]; exact f5.2.2.1, by rw [SA]; exact f5.2.2.2, ?_, ?_, ?_⟩
      · unfold hMe
        rw [zi_ne _ _ _ _ (Or.inl (by decide)), zi_ne _ _ _ _ (Or.inl (by decide)), zi_ne _ _ _ _ (Or.inl (by decide)), zi_ne _ _ _ _ (Or.inl (by decide)), zi_ne _ _ _ _ (Or.inl (by decide)), zi_eq]
      · unfold hMe
        rw [zi_ne _ _ _ _ (Or.inl (by decide)), zi_ne _ _ _ _ (Or.inl (by decide)), zi_ne _ _ _ _ (Or.inl (by decide)), zi_ne _ _ _ _ (Or.inl (by decide)), zi_eq]
      · unfold hMe
        rw [zi_ne _ _ _ _ (Or.inl (by decide)), zi_ne _ _ _ _ (Or.inl (by decide)), zi_ne _ _ _ _ (Or.inl (by decide)), zi_eq]
theorem sX0_of3 {σ : Sg} {h : Hp} {pa : Nat → Nat} (ok : sOK σ) (g : gc σ h) (vP : iP h (sN σ) pa) {p w : Nat} (hp : p < sN σ) (hw : w < 3) : X0_of h (nI p) (nI w) = some (zi h 18 (4 * w + p), h) := by
  have hn := ok.1
  have q := vP.2.2.2.1 p hp
  have c0 : isP σ (nI p) := (nI_isP (by omega)).mpr ⟨p, hp, rfl⟩
  have c1 : 0 ≤ nI w ∧ nI w ≤ nI 4 := ⟨nI_pos' (by omega), (nI_leI (by omega) (by omega)).mpr (by omega)⟩
  unfold X0_of
  rw [sX0_isP g, bd_s, if_neg (fun z => (pB0.mp z) c0), show (4 : Int32) = nI 4 from rfl, sX0_inN, bd_s, if_neg (fun z => (pB0.mp z) c1), ck_i (by omega) (by omega), nI_clamp (by omega), q.1, nm_u]
  have : w = 0 ∨ w = 1 ∨ w = 2 := by omega
  rcases this with rfl | rfl | rfl
  · rw [if_pos nI_0, dr_s, (q.2.2.2.2 0 (by omega)).1]
  · rw [if_neg (show ¬ nI 1 = (0 : Int32) from by decide), if_pos (show nI 1 = (1 : Int32) from rfl), dr_s, (q.2.2.2.2 1 (by omega)).1]
  · rw [if_neg (show ¬ nI 2 = (0 : Int32) from by decide), if_neg (show ¬ nI 2 = (1 : Int32) from by decide), if_pos (show nI 2 = (2 : Int32) from rfl), dr_s, (q.2.2.2.2 2 (by omega)).1]
theorem sim_mend (i : Nat) (hi : i < 64) (x y z : Int32) : Sim i (fun h => X0_mend h x y z) (fun h => X2_mend h x y z) := by
  intro h v
  have v' := v
  obtain ⟨n, pa, ord, plc, b, D, m, ba, vP, vO, vB, vD, vC, vT, vBo, vTr, vS, vR, vLC, vLM, vDb, vx⟩ := v'
  obtain ⟨σ, ok, g1, g2, en, eo, ep, eb⟩ := sg_of vP vO vB vLC vLM vDb
  subst en eo ep eb
  obtain ⟨d, u, b1, b2, b3, b4, b5, b6⟩ := vC
  have hn := ok.1
  have same := v.fQ (Nat.le_succ i) (fQ.mk (fS.rf h) (fS2.rf h))
  by_cases c0 : isP σ x
  · obtain ⟨p, hp, rfl⟩ := c0.nI ok
    by_cases c1 : 0 ≤ y ∧ y ≤ nI 2
    · obtain ⟨w, hw, rfl⟩ := nI_rg (by omega) c1.1 c1.2
      have key : ∀ B : Nat, B = (if w = 0 then 12 else if w = 1 then 5 else 3) → ∃ r h1 h2, (bd (X0_in h z (0 : Int32) (nI B)) fun r11 h10 => if r11 = 0 then (some ((-1 : Int32), h10)) else (bd (X0_of h10 (nI p) (nI w)) fun r14 h13 => bd (X0_become h13 (nI w) (nI p) r14 z) fun r16 h15 => some (r16, h15))) = some (r, h1) ∧ zi h1 17 6 = zi h 17 6 ∧ (0 ≤ z ∧ z ≤ nI B → X2_becomes h1 (nI (4 * w + p)) z = some (r, h2)) ∧ (¬ (0 ≤ z ∧ z ≤ nI B) → r = -1 ∧ h1 = h ∧ h2 = h) ∧ Inv (i + 1) h2 := by
        intro B eB
        rw [sX0_in, bd_s]
        by_cases c2 : 0 ≤ z ∧ z ≤ nI B
        · have hB : B ≤ 12 := by rw [eB]; split; omega; split <;> omega
          obtain ⟨k, hk, rfl⟩ := nI_rg (by omega) c2.1 c2.2
          obtain ⟨r, h1, h2, e1, e2, e17, vv⟩ := mend_core hi v vP vO vB vD b1 b2 b4 b6 vT vBo vTr vS vR vLC vLM vDb vx (w := w) (p := p) (y := nI k) (by omega) hp ⟨k, by rw [← eB]; exact hk, rfl⟩
          refine ⟨r, h1, h2, ?_, e17, fun _ => e2, fun zz => absurd c2 zz, vv⟩
          rw [if_neg (fun z => (pB0.mp z) c2), sX0_of3 ok g1 vP hp (by omega), bd_s, e1, bd_s]
        · exact ⟨-1, h, h, by rw [if_pos (pB0.mpr c2)], rfl, fun zz => absurd zz c2, fun _ => ⟨rfl, rfl, rfl⟩, same⟩
      have g2p : ∀ h1 : Hp, zi h1 17 6 = zi h 17 6 → X2_isPlayer h1 (nI p) = some (pB (isP σ (nI p)), h1) := by
        intro h1 e
        unfold X2_isPlayer
        rw [e, g2.1, show (0 : Int64) = (0 : Int32).toInt64 from by decide, sX2_wi, bd_s]
      have : w = 0 ∨ w = 1 ∨ w = 2 := by omega
      rcases this with rfl | rfl | rfl
      · obtain ⟨r, h1, h2, e1, e17, e2, e3, vv⟩ := key 12 rfl
        rw [Nat.mul_zero, Nat.zero_add] at e2
        refine ⟨r, h1, h2, ?_, ?_, vv⟩
        · show X0_mend h (nI p) (nI 0) z = _
          unfold X0_mend
          rw [sX0_isP g1, bd_s, if_neg (fun z => (pB0.mp z) c0), show (2 : Int32) = nI 2 from rfl, sX0_inN, bd_s, if_neg (fun z => (pB0.mp z) c1), nm_u, if_pos (show nI 0 = (0 : Int32) from rfl)]
          exact e1
        · show X2_mend h1 (nI p) (nI 0) z = _
          unfold X2_mend
          rw [g2p h1 e17, bd_s, if_neg (fun z => (pB0.mp z) c0), if_pos (show nI 0 = (0 : Int32) from rfl), show (12 : Int64) = lN 12 from rfl, sX2_w0 _ _ 12 (by omega), bd_s]
          by_cases c2 : 0 ≤ z ∧ z ≤ nI 12
          · rw [if_neg (fun z => (pB0.mp z) c2), e2 c2, bd_s]
          · obtain ⟨rfl, rfl, rfl⟩ := e3 c2
            rw [if_pos (pB0.mpr c2)]
      · obtain ⟨r, h1, h2, e1, e17, e2, e3, vv⟩ := key 5 rfl
        rw [Nat.mul_one] at e2
        refine ⟨r, h1, h2, ?_, ?_, vv⟩
        · show X0_mend h (nI p) (nI 1) z = _
          unfold X0_mend
          rw [sX0_isP g1, bd_s, if_neg (fun z => (pB0.mp z) c0), show (2 : Int32) = nI 2 from rfl, sX0_inN, bd_s, if_neg (fun z => (pB0.mp z) c1), nm_u, if_neg (show ¬ nI 1 = (0 : Int32) from by decide), if_pos (show nI 1 = (1 : Int32) from rfl)]
          exact e1
        · show X2_mend h1 (nI p) (nI 1) z = _
          unfold X2_mend
          rw [g2p h1 e17, bd_s, if_neg (fun z => (pB0.mp z) c0), if_neg (show ¬ nI 1 = (0 : Int32) from by decide), if_pos (show nI 1 = (1 : Int32) from rfl), show (5 : Int64) = lN 5 from rfl, sX2_w0 _ _ 5 (by omega), bd_s]
          by_cases c2 : 0 ≤ z ∧ z ≤ nI 5
          · rw [if_neg (fun z => (pB0.mp z) c2), show (4 : Int32) = nI 4 from rfl, nI_add, e2 c2, bd_s]
          · obtain ⟨rfl, rfl, rfl⟩ := e3 c2
            rw [if_pos (pB0.mpr c2)]
      · obtain ⟨r, h1, h2, e1, e17, e2, e3, vv⟩ := key 3 rfl
        rw [show 4 * 2 + p = 8 + p from by omega] at e2
        refine ⟨r, h1, h2, ?_, ?_, vv⟩
        · show X0_mend h (nI p) (nI 2) z = _
          unfold X0_mend
          rw [sX0_isP g1, bd_s, if_neg (fun z => (pB0.mp z) c0), show (2 : Int32) = nI 2 from rfl, sX0_inN, bd_s, if_neg (fun z => (pB0.mp z) c1), nm_u, if_neg (show ¬ nI 2 = (0 : Int32) from by decide), if_neg (show ¬ nI 2 = (1 : Int32) from by decide)]
          exact e1
        · show X2_mend h1 (nI p) (nI 2) z = _
          unfold X2_mend
          rw [g2p h1 e17, bd_s, if_neg (fun z => (pB0.mp z) c0), if_neg (show ¬ nI 2 = (0 : Int32) from by decide), if_neg (show ¬ nI 2 = (1 : Int32) from by decide), if_pos (show nI 2 = (2 : Int32) from rfl), show (3 : Int64) = lN 3 from rfl, sX2_w0 _ _ 3 (by omega), bd_s]
          by_cases c2 : 0 ≤ z ∧ z ≤ nI 3
          · rw [if_neg (fun z => (pB0.mp z) c2), show (8 : Int32) = nI 8 from rfl, nI_add, e2 c2, bd_s]
          · obtain ⟨rfl, rfl, rfl⟩ := e3 c2
            rw [if_pos (pB0.mpr c2)]
    · have nk : ∀ k, k ≤ 2 → ¬ y = nI k := fun k hk e => c1 (by rw [e]; exact ⟨nI_pos' (by omega), (nI_leI (by omega) (by omega)).mpr hk⟩)
      refine ⟨-1, h, h, ?_, ?_, same⟩
      · show X0_mend h (nI p) y z = _
        unfold X0_mend
        rw [sX0_isP g1, bd_s, if_neg (fun z => (pB0.mp z) c0), show (2 : Int32) = nI 2 from rfl, sX0_inN, bd_s, if_pos (pB0.mpr c1)]
      · show X2_mend h (nI p) y z = _
        unfold X2_mend
        rw [sX2_isP g2, bd_s, if_neg (fun z => (pB0.mp z) c0), if_neg (by exact nk 0 (by omega)), if_neg (by exact nk 1 (by omega)), if_neg (by exact nk 2 (by omega))]
  · refine ⟨-1, h, h, ?_, ?_, same⟩
    · show X0_mend h x y z = _
      unfold X0_mend
      rw [sX0_isP g1, bd_s, if_pos (pB0.mpr c0)]
    · show X2_mend h x y z = _
      unfold X2_mend
      rw [sX2_isP g2, bd_s, if_pos (pB0.mpr c0)]
