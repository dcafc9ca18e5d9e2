/-! step, of, keep, body -/
/-- what steps may write -/
def fG (h h' : Hp) : Prop := h'.2.2 = h.2.2 ∧ (∀ q k, q ≠ 7 → q ≠ 9 → q ≠ 13 → q ≠ 28 → q ≠ 31 → q ≠ 32 → q ≠ 35 → ¬ (q = 0 ∧ 19 ≤ k ∧ k ≤ 23) → ¬ (q = 0 ∧ 26 ≤ k ∧ k ≤ 28) → ¬ (q = 17 ∧ (16 ≤ k ∧ k ≤ 20 ∨ k = 29 ∨ k = 30)) → ¬ (q = 17 ∧ 33 ≤ k ∧ k ≤ 35) → zi h' q k = zi h q k) ∧ ∀ q k, q ≠ 8 → q ≠ 11 → q ≠ 12 → q ≠ 0 → q ≠ 29 → q ≠ 30 → q ≠ 33 → q ≠ 34 → q ≠ 17 → zj h' q k = zj h q k
theorem fG.mk {h h1 h2 : Hp} (a : fD h h1) (b : fD2 h1 h2) : fG h h2 := ⟨b.1.trans a.1, fun q k h1 h2 h3 h4 h5 h6 h7 h8 h9 h10 h11 => (b.2.1 q k h4 h5 h6 h10 h11).trans (a.2.1 q k h1 h2 h8 h9), fun q k h1 h2 h3 h4 h5 h6 h7 h8 h9 => (b.2.2 q k h5 h6 h7 h8 h9).trans (a.2.2 q k h1 h2 h3 h4)⟩
theorem fG.all {i j : Nat} {h h' : Hp} (f : fG h h') (e : i ≤ j) {n b m : Nat} {pa ord plc ba : Nat → Nat} {D : Nat → Nat → Nat → Nat → Nat → Nat} (vP : iP h n pa) (vO : iO h n ord plc) (vB : iB h b) (vC : iC h n) (vT : iT h) (vBo : iBo h m ba) (vTr : iTr h) (vS : iS h m ba) (vR : iR h i) (vLC : LC h D) (vLM : LM h D) : iP h' n pa ∧ iO h' n ord plc ∧ iB h' b ∧ iC h' n ∧ iT h' ∧ iBo h' m ba ∧ iTr h' ∧ iS h' m ba ∧ iR h' j ∧ LC h' D ∧ LM h' D ∧ zx h' = zx h := by
  have hr : zr h' = zr h := congrArg (fun x => x.1) f.1
  have ht : zt h' = zt h := congrArg (fun x => x.2.1) f.1
  have hnn : zn h' = zn h := congrArg (fun x => x.2.2.1) f.1
  have hx : zx h' = zx h := congrArg (fun x => x.2.2.2.1) f.1
  have hc : zc h' = zc h := congrArg (fun x => x.2.2.2.2.1) f.1
  have hs : zs h' = zs h := congrArg (fun x => x.2.2.2.2.2) f.1
  have I := f.2.1
  have J := f.2.2
  have Ih : ∀ q k, 42 ≤ q → zi h' q k = zi h q k := fun q k hq => I q k (by omega) (by omega) (by omega) (by omega) (by omega) (by omega) (by omega) (by omega) (by omega) (by omega) (by omega)
  have Jh : ∀ q k, 42 ≤ q → zj h' q k = zj h q k := fun q k hq => J q k (by omega) (by omega) (by omega) (by omega) (by omega) (by omega) (by omega) (by omega) (by omega)
  have Il : ∀ q k, 1 ≤ q → q ≠ 17 → q ≠ 7 → q ≠ 9 → q ≠ 13 → q ≠ 28 → q ≠ 31 → q ≠ 32 → q ≠ 35 → zi h' q k = zi h q k := fun q k a1 a2 a3 a4 a5 a6 a7 a8 a9 => I q k a3 a4 a5 a6 a7 a8 a9 (by omega) (by omega) (by omega) (by omega)
  have I0 : ∀ k, k < 19 ∨ 28 < k → zi h' 0 k = zi h 0 k := fun k hk => I 0 k (by decide) (by decide) (by decide) (by decide) (by decide) (by decide) (by decide) (by omega) (by omega) (by omega) (by omega)
  have I17 : ∀ k, k < 16 ∨ 35 < k → zi h' 17 k = zi h 17 k := fun k hk => I 17 k (by decide) (by decide) (by decide) (by decide) (by decide) (by decide) (by decide) (by omega) (by omega) (by omega) (by omega)
  have i18 : zi h' 18 = zi h 18 := funext fun k => Il 18 k (by decide) (by decide) (by decide) (by decide) (by decide) (by decide) (by decide) (by decide) (by decide)
  have j40 : zj h' 40 = zj h 40 := funext fun k => J 40 k (by decide) (by decide) (by decide) (by decide) (by decide) (by decide) (by decide) (by decide) (by decide)
  have ix : ∀ q, q = 2 ∨ q = 3 ∨ q = 5 ∨ q = 14 ∨ q = 19 ∨ q = 20 ∨ q = 21 ∨ q = 22 ∨ q = 23 ∨ q = 24 ∨ q = 26 ∨ q = 27 ∨ q = 36 ∨ q = 37 ∨ q = 38 ∨ q = 39 → zi h' q = zi h q := fun q hq => funext fun k => Il q k (by omega) (by omega) (by omega) (by omega) (by omega) (by omega) (by omega) (by omega) (by omega)
  refine ⟨?_, ?_, ?_, ?_, ?_, ?_, ?_, ?_, ?_, vLC.fr ?_, vLM.fr ⟨I17 15 (by omega), fun k => by rw [ix 27 (by omega)]⟩, hx⟩
  · refine ⟨vP.1, (I0 3 (by omega)).trans vP.2.1, (I17 6 (by omega)).trans vP.2.2.1, fun p hp => ?_, vP.2.2.2.2⟩
    have := vP.2.2.2.1 p hp
    rw [hr, ht, hx, i18]
    exact ⟨this.1, this.2.1, this.2.2.1, this.2.2.2.1, fun w hw => by rw [Ih _ _ this.2.1]; exact this.2.2.2.2 w hw⟩
  · unfold iO; rw [ix 2 (by omega), ix 22 (by omega), ix 23 (by omega)]; exact vO
  · refine ⟨vB.1, (I0 4 (by omega)).trans vB.2.1, (I17 9 (by omega)).trans vB.2.2.1, ?_, fun k hk => (J 10 k (by decide) (by decide) (by decide) (by decide) (by decide) (by decide) (by decide) (by decide) (by decide)).trans (vB.2.2.2.2 k hk)⟩
    rw [ix 3 (by omega), ix 24 (by omega)]; exact vB.2.2.2.1
  · obtain ⟨d, u, a1, a2, a3, a4, a5, a6⟩ := vC
    refine ⟨d, u, a1, (I0 6 (by omega)).trans a2, (I0 7 (by omega)).trans a3, (I17 5 (by omega)).trans a4, (I17 4 (by omega)).trans a5, fun k hk => ?_⟩
    obtain ⟨a, w, p, b1, b2, b3, b4, b5, b6, b7, b8, b9, b10, b11, b12, b13⟩ := a6 k hk
    refine ⟨a, w, p, by rw [hr]; exact b1, b2, by rw [hx]; exact b3, by rw [ht]; exact b4, b5, b6, ?_⟩
    rw [Ih _ _ b2, Ih _ _ b2, Ih _ _ b2, Ih _ _ b2, ix 19 (by omega), ix 20 (by omega), ix 21 (by omega)]
    exact ⟨b7, b8, b9, b10, b11, b12, b13⟩
  · obtain ⟨t, a1, a2, a3, a4⟩ := vT
    refine ⟨t, a1, (I0 9 (by omega)).trans a2, (I17 13 (by omega)).trans a3, ?_⟩
    rw [ix 26 (by omega), ix 5 (by omega)]; exact a4
  · refine ⟨vBo.1, (I0 36 (by omega)).trans vBo.2.1, (I17 40 (by omega)).trans vBo.2.2.1, fun k hk => ?_⟩
    obtain ⟨b1, b2, b3, b4, b5⟩ := vBo.2.2.2 k hk
    rw [hr, hx, ht, Ih _ _ b2, ix 36 (by omega)]
    exact ⟨b1, b2, b3, b4, b5⟩
  · obtain ⟨r, a1, a2, a3, a4⟩ := vTr
    refine ⟨r, a1, (I0 33 (by omega)).trans a2, (I17 43 (by omega)).trans a3, ?_⟩
    rw [ix 14 (by omega), ix 37 (by omega)]; exact a4
  · obtain ⟨ra, a1, a2⟩ := vS
    refine ⟨ra, fun d hd => ?_, ?_⟩
    · rcases a1 d hd with z | z | ⟨a, s, l, b1, b2, b3, b4, b5, b6, b7, b8, b9, b10, b11, b12, b13, b14⟩
      · left; rw [hr, ix 38 (by omega)]; exact z
      · right; left; rw [hr, ix 38 (by omega)]; exact z
      · right; right
        refine ⟨a, s, l, ?_⟩
        rw [hr, hx, ht, hnn, ix 38 (by omega), ix 39 (by omega), j40]
        refine ⟨b1, b2, b3, b4, b5, b6, b7, b8, b9, b10, b11, b12, b13, fun i hi => ?_⟩
        rw [Ih _ _ b7, Jh _ _ b7]; exact b14 i hi
    · rw [ix 38 (by omega)]; exact a2
  · have := vR.le e
    unfold iR; rw [hc, hs]; exact this
  · exact ⟨by rw [hr], by rw [hx]; exact Nat.le_refl _, fun q h1 _ _ => ⟨by rw [ht], fun k => ⟨Ih q k h1, by rw [hr]⟩⟩⟩
theorem sg_of {h : Hp} {n b : Nat} {pa ord plc : Nat → Nat} {D : Nat → Nat → Nat → Nat → Nat → Nat} (vP : iP h n pa) (vO : iO h n ord plc) (vB : iB h b) (vLC : LC h D) (vLM : LM h D) (vDb : ∀ a w t m k, a ≤ 12 → D a w t m k ≤ 12) : ∃ σ, sOK σ ∧ gc σ h ∧ gm σ h ∧ sN σ = n ∧ sO σ = ord ∧ sP σ = plc ∧ sB σ = b := by
  have hm : ∀ p, p < n → ∀ w, w < 3 → ∃ a, a ≤ (if w = 0 then 12 else if w = 1 then 5 else 3) ∧ zi h 18 (4 * w + p) = nI a ∧ (zi h 18 (4 * w + p)).toNatClampNeg = a := by
    intro p hp w hw
    obtain ⟨a, ha, e⟩ := ((vP.2.2.2.1 p hp).2.2.2.2 w hw).2
    refine ⟨a, ha, e, ?_⟩
    rw [e, nI_clamp (by split at ha; omega; split at ha <;> omega)]
  have hz : ∀ k, k < 5 → ∃ a, a ≤ 9 ∧ zi h 24 k = nI a ∧ (zi h 24 k).toNatClampNeg = a := by
    intro k hk
    obtain ⟨a, ha, e⟩ := (vB.2.2.2.1 k hk).2
    exact ⟨a, ha, e, by rw [e, nI_clamp (by omega)]⟩
  refine ⟨(n, ord, plc, (fun k => (zi h 18 k).toNatClampNeg), b, (fun k => (zi h 24 k).toNatClampNeg), D), ?_, ?_, ?_, rfl, rfl, rfl, rfl⟩
  · refine ⟨vP.1, fun k hk => vO.2.1 k hk, fun p hp => ⟨(vO.2.2 p hp).1, (vO.2.2 p hp).2.1⟩, fun p hp => ?_, vB.1, fun k hk => ?_, vDb⟩
    · obtain ⟨a0, h0, _, e0⟩ := hm p hp 0 (by omega)
      obtain ⟨a1, h1, _, e1⟩ := hm p hp 1 (by omega)
      obtain ⟨a2, h2, _, e2⟩ := hm p hp 2 (by omega)
      rw [if_pos rfl] at h0
      rw [if_neg (by decide), if_pos rfl] at h1
      rw [if_neg (by decide), if_neg (by decide)] at h2
      rw [Nat.mul_zero, Nat.zero_add] at e0
      rw [Nat.mul_one] at e1
      exact ⟨by show (zi h 18 p).toNatClampNeg ≤ 12; omega, by show (zi h 18 (4 + p)).toNatClampNeg ≤ 5; omega, by show (zi h 18 (4 * 2 + p)).toNatClampNeg ≤ 3; omega⟩
    · obtain ⟨a, ha, _, e⟩ := hz k hk
      show (zi h 24 k).toNatClampNeg ≤ 9
      omega
  · refine ⟨vP.2.1, fun k hk => (vO.1 k (by have := vP.1; have : k < n := hk; omega)).1, fun p hp => ?_, vB.2.1, fun k hk => ?_, vB.2.2.2.2, vLC, fun p q a hp hq e1 e2 => ?_⟩
    · have := vP.2.2.2.1 p hp
      refine ⟨pa p, this.1, ⟨this.2.1, this.2.2.2.1⟩, fun w hw => ?_⟩
      obtain ⟨a, _, e, e'⟩ := hm p hp w hw
      rw [(this.2.2.2.2 w hw).1, e]
      show nI a = nI ((zi h 18 (4 * w + p)).toNatClampNeg)
      rw [e']
    · obtain ⟨a, _, e, e'⟩ := hz k hk
      rw [(vB.2.2.2.1 k hk).1, e]
      show nI a = nI ((zi h 24 k).toNatClampNeg)
      rw [e']
    · have a1 := (vP.2.2.2.1 p hp).1
      have a2 := (vP.2.2.2.1 q hq).1
      rw [e1] at a1
      rw [e2] at a2
      exact vP.2.2.2.2 p q hp hq (by rw [← Option.some.inj a1, Option.some.inj a2])
  · refine ⟨vP.2.2.1, fun k hk => (vO.1 k (by have := vP.1; have : k < n := hk; omega)).2.1, fun p hp => (vO.2.2 p hp).2.2, fun p hp w hw => ?_, vB.2.2.1, fun k hk => ?_, vLM⟩
    · obtain ⟨a, _, e, e'⟩ := hm p hp w hw
      rw [e]
      show nI a = nI ((zi h 18 (4 * w + p)).toNatClampNeg)
      rw [e']
    · obtain ⟨a, _, e, e'⟩ := hz k hk
      rw [e]
      show nI a = nI ((zi h 24 k).toNatClampNeg)
      rw [e']
theorem gm.fD {σ : Sg} {h h' : Hp} (g : gm σ h) (a : fD h h') : gm σ h' :=
  ⟨(a.2.1 17 6 (by decide) (by decide) (by omega) (by omega)).trans g.1, fun k hk => (a.2.1 22 k (by decide) (by decide) (by omega) (by omega)).trans (g.2.1 k hk), fun k hk => (a.2.1 23 k (by decide) (by decide) (by omega) (by omega)).trans (g.2.2.1 k hk), fun p hp w hw => (a.2.1 18 _ (by decide) (by decide) (by omega) (by omega)).trans (g.2.2.2.1 p hp w hw), (a.2.1 17 9 (by decide) (by decide) (by omega) (by omega)).trans g.2.2.2.2.1, fun m hm => (a.2.1 24 m (by decide) (by decide) (by omega) (by omega)).trans (g.2.2.2.2.2.1 m hm), g.2.2.2.2.2.2.fr ⟨a.2.1 17 15 (by decide) (by decide) (by omega) (by omega), fun k => a.2.1 27 k (by decide) (by decide) (by omega) (by omega)⟩⟩
theorem sim_step (i : Nat) (x : Int32) : Sim i (fun h => X0_step h x) (fun h => X2_step h x) := by
  intro h v
  have v' := v
  obtain ⟨n, pa, ord, plc, b, D, m, ba, vP, vO, vB, vD, vC, vT, vBo, vTr, vS, vR, vLC, vLM, vDb, vx⟩ := v'
  obtain ⟨σ, ok, g1, g2, en, eo, ep, eb⟩ := sg_of vP vO vB vLC vLM vDb
  obtain ⟨s, pl, mm, d1, d2, d3, d4, d5, d6, d7, d8, d9, d10⟩ := vD.1
  subst en eo ep eb
  obtain ⟨r, h1, e1, q1, q2⟩ := sX0_step ok g1 d1 d4 d8 d3 d7 d10 x
  by_cases c : 0 ≤ x ∧ x ≤ 11 ∧ ¬ isOv σ s mm
  · obtain ⟨k1, k2, k3, k4, fr1⟩ := q1 ⟨c.1, c.2.1⟩ c.2.2
    have z33 : zi h1 17 33 = nI s := (fr1.2.1 17 33 (by decide) (by decide) (by omega) (by omega)).trans d2
    have z34 : zi h1 17 34 = nI (sO σ pl) := (fr1.2.1 17 34 (by decide) (by decide) (by omega) (by omega)).trans d6
    have z35 : zi h1 17 35 = nI mm := (fr1.2.1 17 35 (by decide) (by decide) (by omega) (by omega)).trans d9
    obtain ⟨r', h2, e2, p1, _⟩ := sX2_step ok (g2.fD fr1) z33 z34 z35 d3 d7 d10 x
    obtain ⟨l1, l2, l3, l4, fr2⟩ := p1 ⟨c.1, c.2.1⟩ c.2.2
    refine ⟨r, h1, h2, e1, by rw [k1, ← l1]; exact e2, ?_⟩
    obtain ⟨w1, w2, w3, w4, w5, w6, w7, w8, w9, w10, w11, w12⟩ := (fG.mk fr1 fr2).all (Nat.le_succ i) vP vO vB vC vT vBo vTr vS vR vLC vLM
    refine ⟨_, pa, _, _, _, D, m, ba, w1, w2, w3, ?_, w4, w5, w6, w7, w8, w9, w10, w11, vDb, by rw [w12]; exact vx⟩
    have co' : ¬ (sB σ ≤ mm ∨ pc s ≤ 1) := c.2.2
    have hn0 : 0 < sN σ := by
      rcases Nat.eq_zero_or_pos (sN σ) with z | z
      · rw [z] at d3
        exact absurd (Or.inr (by rw [show s = 0 from by omega, pc_0]; omega)) co'
      · exact z
    obtain ⟨hp, hb⟩ := d7 hn0
    have hq := qSs_p ok (v := x.toNatClampNeg) d3 hp hb c.2.2
    have I0 : ∀ k, k < 19 ∨ 28 < k → zi h2 0 k = zi h 0 k := fun k hk => (fr2.2.1 0 k (by decide) (by decide) (by decide) (by omega) (by omega)).trans (fr1.2.1 0 k (by decide) (by decide) (by omega) (by omega))
    have I17 : ∀ k, 35 < k → zi h2 17 k = zi h 17 k := fun k hk => (fr2.2.1 17 k (by decide) (by decide) (by decide) (by omega) (by omega)).trans (fr1.2.1 17 k (by decide) (by decide) (by omega) (by omega))
    have J0 : ∀ k, 26 ≤ k → k ≤ 28 → zi h2 0 k = zi h1 0 k := fun k _ _ => fr2.2.1 0 k (by decide) (by decide) (by decide) (by omega) (by omega)
    refine ⟨⟨_, _, mm + 1, (J0 26 (by omega) (by omega)).trans k2, l2, hq.1, (J0 27 (by omega) (by omega)).trans k3, by have := nxp_lt (s := qSs σ s pl mm x.toNatClampNeg) hp; have := ok.1; omega, l3, fun _ => ⟨nxp_lt hp, nxp_bit hp hq.2⟩, (J0 28 (by omega) (by omega)).trans k4, l4, by omega⟩, ?_⟩
    rw [I0 32 (by omega), I0 29 (by omega), I0 30 (by omega), I0 31 (by omega), I17 36 (by omega), I17 37 (by omega), I17 38 (by omega), I17 39 (by omega)]
    exact vD.2
  · obtain ⟨k1, rfl⟩ := q2 c
    obtain ⟨r', h2, e2, _, p2⟩ := sX2_step ok g2 d2 d6 d9 d3 d7 d10 x
    obtain ⟨l1, rfl⟩ := p2 c
    exact ⟨r, _, _, e1, by rw [k1, ← l1]; exact e2, v.fQ (Nat.le_succ _) (fQ.mk (fS.rf _) (fS2.rf _))⟩
