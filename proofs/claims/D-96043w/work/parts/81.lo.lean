/-! PARTS OF THE INVARIANT where nothing is made and no reference is written -/
theorem e_r {h h' : Hp} (e : h'.2 = h.2) : zr h' = zr h := congrArg (fun x => x.2.1) e
theorem e_j {h h' : Hp} (e : h'.2 = h.2) : zj h' = zj h := congrArg (fun x => x.1) e
theorem e_t {h h' : Hp} (e : h'.2 = h.2) : zt h' = zt h := congrArg (fun x => x.2.2.1) e
theorem e_n {h h' : Hp} (e : h'.2 = h.2) : zn h' = zn h := congrArg (fun x => x.2.2.2.1) e
theorem e_x {h h' : Hp} (e : h'.2 = h.2) : zx h' = zx h := congrArg (fun x => x.2.2.2.2.1) e
theorem e_c {h h' : Hp} (e : h'.2 = h.2) : zc h' = zc h := congrArg (fun x => x.2.2.2.2.2.1) e
theorem e_s {h h' : Hp} (e : h'.2 = h.2) : zs h' = zs h := congrArg (fun x => x.2.2.2.2.2.2) e
theorem iP.lo {h h' : Hp} {n : Nat} {pa : Nat → Nat} (v : iP h n pa) (e : h'.2 = h.2) (hi : ∀ q, 42 ≤ q → zi h' q = zi h q) (a : zi h' 0 3 = zi h 0 3) (b : zi h' 17 6 = zi h 17 6) (c : zi h' 18 = zi h 18) : iP h' n pa := by
  refine ⟨v.1, a.trans v.2.1, b.trans v.2.2.1, fun p hp => ?_, v.2.2.2.2⟩
  have := v.2.2.2.1 p hp
  rw [e_r e, e_t e, e_x e, c, hi _ this.2.1]
  exact this
theorem iO.lo {h h' : Hp} {n : Nat} {ord plc : Nat → Nat} (v : iO h n ord plc) (a : zi h' 2 = zi h 2) (b : zi h' 22 = zi h 22) (c : zi h' 23 = zi h 23) : iO h' n ord plc := by
  unfold iO; rw [a, b, c]; exact v
theorem iB.lo {h h' : Hp} {b : Nat} (v : iB h b) (e : h'.2 = h.2) (a1 : zi h' 0 4 = zi h 0 4) (a2 : zi h' 17 9 = zi h 17 9) (a3 : zi h' 3 = zi h 3) (a4 : zi h' 24 = zi h 24) : iB h' b := by
  unfold iB; rw [a1, a2, a3, a4, e_j e]; exact v
theorem iD.lo {h h' : Hp} {n b : Nat} {ord : Nat → Nat} (v : iD h n ord b) (a : ∀ k, 26 ≤ k → k ≤ 32 → zi h' 0 k = zi h 0 k) (c : ∀ k, 33 ≤ k → k ≤ 39 → zi h' 17 k = zi h 17 k) : iD h' n ord b := by
  unfold iD
  rw [a 26 (by omega) (by omega), a 27 (by omega) (by omega), a 28 (by omega) (by omega), a 29 (by omega) (by omega), a 30 (by omega) (by omega), a 31 (by omega) (by omega), a 32 (by omega) (by omega), c 33 (by omega) (by omega), c 34 (by omega) (by omega), c 35 (by omega) (by omega), c 36 (by omega) (by omega), c 37 (by omega) (by omega), c 38 (by omega) (by omega), c 39 (by omega) (by omega)]
  exact v
theorem iC.lo {h h' : Hp} {n : Nat} (v : iC h n) (e : h'.2 = h.2) (hi : ∀ q, 42 ≤ q → zi h' q = zi h q) (a6 : zi h' 0 6 = zi h 0 6) (a7 : zi h' 0 7 = zi h 0 7) (c5 : zi h' 17 5 = zi h 17 5) (c4 : zi h' 17 4 = zi h 17 4) (d1 : zi h' 19 = zi h 19) (d2 : zi h' 20 = zi h 20) (d3 : zi h' 21 = zi h 21) : iC h' n := by
  obtain ⟨d, u, b1, b2, b3, b4, b5, b6⟩ := v
  refine ⟨d, u, b1, a6.trans b2, a7.trans b3, c5.trans b4, c4.trans b5, fun k hk => ?_⟩
  obtain ⟨a, w, p, x1, x2, x3⟩ := b6 k hk
  refine ⟨a, w, p, ?_⟩
  rw [e_r e, e_t e, e_x e, hi _ x2, d1, d2, d3]
  exact ⟨x1, x2, x3⟩
theorem iT.lo {h h' : Hp} (v : iT h) (a : zi h' 0 9 = zi h 0 9) (b : zi h' 17 13 = zi h 17 13) (c : zi h' 26 = zi h 26) (d : zi h' 5 = zi h 5) : iT h' := by
  unfold iT; rw [a, b, c, d]; exact v
theorem iBo.lo {h h' : Hp} {m : Nat} {ba : Nat → Nat} (v : iBo h m ba) (e : h'.2 = h.2) (hi : ∀ q, 42 ≤ q → zi h' q = zi h q) (a : zi h' 0 36 = zi h 0 36) (b : zi h' 17 40 = zi h 17 40) (c : zi h' 36 = zi h 36) : iBo h' m ba := by
  refine ⟨v.1, a.trans v.2.1, b.trans v.2.2.1, fun k hk => ?_⟩
  have := v.2.2.2 k hk
  rw [e_r e, e_t e, e_x e, c, hi _ this.2.1]
  exact this
theorem iTr.lo {h h' : Hp} (v : iTr h) (a : zi h' 0 33 = zi h 0 33) (b : zi h' 17 43 = zi h 17 43) (c : zi h' 14 = zi h 14) (d : zi h' 37 = zi h 37) : iTr h' := by
  unfold iTr; rw [a, b, c, d]; exact v
theorem iS1.lo {h h' : Hp} {m : Nat} {ba : Nat → Nat} {d ra : Nat} (v : iS1 h m ba d ra) (e : h'.2 = h.2) (hi : ∀ q, 42 ≤ q → zi h' q = zi h q) (a : zi h' 38 = zi h 38) (b : zi h' 39 = zi h 39) : iS1 h' m ba d ra := by
  unfold iS1 at v ⊢
  rw [e_r e, e_x e, e_t e, e_n e, e_j e, a, b]
  rcases v with z | z | ⟨x, s, l, b1, b2, b3, b4, b5, b6, b7, b8⟩
  · exact Or.inl z
  · exact Or.inr (Or.inl z)
  · exact Or.inr (Or.inr ⟨x, s, l, b1, b2, b3, b4, b5, b6, b7, by rw [hi _ b7]; exact b8⟩)
theorem iS.lo {h h' : Hp} {m : Nat} {ba : Nat → Nat} (v : iS h m ba) (e : h'.2 = h.2) (hi : ∀ q, 42 ≤ q → zi h' q = zi h q) (a : zi h' 38 = zi h 38) (b : zi h' 39 = zi h 39) : iS h' m ba := by
  obtain ⟨ra, h1, h2⟩ := v
  exact ⟨ra, fun d hd => (h1 d hd).lo e hi a b, by rw [a]; exact h2⟩
theorem iR.lo {h h' : Hp} {i j : Nat} (v : iR h i) (e : h'.2 = h.2) (l : i ≤ j) : iR h' j := by
  have := v.le l
  unfold iR; rw [e_c e, e_s e]; exact this
theorem LC.lo {h h' : Hp} {D : Nat → Nat → Nat → Nat → Nat → Nat} (v : LC h D) (e : h'.2 = h.2) (hi : ∀ q, 42 ≤ q → zi h' q = zi h q) : LC h' D := v.fr ⟨by rw [e_r e], by rw [e_x e]; exact Nat.le_refl _, fun q h1 _ _ => ⟨by rw [e_t e], fun k => ⟨by rw [hi q h1], by rw [e_r e]⟩⟩⟩
theorem LM.lo {h h' : Hp} {D : Nat → Nat → Nat → Nat → Nat → Nat} (v : LM h D) (a : zi h' 17 15 = zi h 17 15) (b : zi h' 27 = zi h 27) : LM h' D := v.fr ⟨a, fun k => by rw [b]⟩
/-- writing at low addresses -/
theorem hi_si {h h0 : Hp} {q k : Nat} {v : Int32} (hq : q < 42) (f : ∀ a, 42 ≤ a → zi h a = zi h0 a) : ∀ a, 42 ≤ a → zi (zsi h q k v) a = zi h0 a := fun a ha => by
  rw [← f a ha]; funext b; exact zi_ne _ _ _ _ (Or.inl (by omega))
theorem sim_count (i : Nat) (x : Int32) : Sim i (fun h => X0_count h x) (fun h => X2_count h x) := by
  intro h v
  have v' := v
  obtain ⟨n, pa, ord, plc, b, D, m, ba, vP, vO, vB, vD, vC, vT, vBo, vTr, vS, vR, vLC, vLM, vDb, vx⟩ := v'
  obtain ⟨s, pl, mm, d1, d2, d3, d4, d5, d6, d7, d8, d9, d10⟩ := vD.1
  obtain ⟨dn, u, c1, c2, c3, c4, c5, c6⟩ := vC
  obtain ⟨t, t1, t2, t3, t4⟩ := vT
  obtain ⟨r, r1, r2, r3, r4⟩ := vTr
  have eq : X2_count h x = X0_count h x := by
    unfold X0_count X2_count
    rw [vP.2.1, vP.2.2.1, d1, d2, d8, d9, t2, t3, c2, c4, vBo.2.1, vBo.2.2.1, r2, r3]
  have ex : ∃ r, X0_count h x = some (r, h) := by
    unfold X0_count
    repeat' split
    all_goals exact ⟨_, rfl⟩
  obtain ⟨r, er⟩ := ex
  exact ⟨r, h, h, er, eq.trans er, v.fQ (Nat.le_succ _) (fQ.mk (fS.rf h) (fS2.rf h))⟩
theorem sim_trace (i : Nat) (x : Int32) : Sim i (fun h => X0_trace h x) (fun h => X2_trace h x) := by
  intro h v
  have v' := v
  obtain ⟨n, pa, ord, plc, b, D, m, ba, vP, vO, vB, vD, vC, vT, vBo, vTr, vS, vR, vLC, vLM, vDb, vx⟩ := v'
  obtain ⟨r, r1, r2, r3, r4⟩ := vTr
  have ex : ∃ y, X0_trace h x = some (y, h) ∧ X2_trace h x = some (y, h) := by
    unfold X0_trace X2_trace
    rw [r2, r3]
    by_cases c1 : x < 0
    · rw [if_pos c1, if_pos c1]; exact ⟨_, rfl, rfl⟩
    rw [if_neg c1, if_neg c1]
    by_cases c2 : nI r ≤ x
    · rw [if_pos c2, if_pos c2]; exact ⟨_, rfl, rfl⟩
    rw [if_neg c2, if_neg c2]
    by_cases c3 : (24 : Int32) ≤ x
    · rw [if_pos c3, if_pos c3]; exact ⟨_, rfl, rfl⟩
    rw [if_neg c3, if_neg c3]
    obtain ⟨k, hk, rfl⟩ := nI_of c1
    have k1 : k < r := by
      apply Nat.lt_of_not_le; intro z; exact c2 ((nI_leI (by omega) hk).mpr z)
    have k2 : k < 24 := by
      apply Nat.lt_of_not_le; intro z; exact c3 ((nI_leI (a := 24) (by omega) hk).mpr z)
    rw [ck_i (by omega) (by omega), ck_i (by omega) (by omega), nI_clamp (by omega), r4 k k2 k1]
    exact ⟨_, rfl, rfl⟩
  obtain ⟨y, e1, e2⟩ := ex
  exact ⟨y, h, h, e1, e2, v.fQ (Nat.le_succ _) (fQ.mk (fS.rf h) (fS2.rf h))⟩
/-- only the fight in deed has changed -/
theorem Inv.deed {i j : Nat} {h h' : Hp} (e : h'.2 = h.2) (hi : ∀ q, 42 ≤ q → zi h' q = zi h q) (l : i ≤ j) (lo : ∀ q, 1 ≤ q → q ≠ 17 → zi h' q = zi h q) (l0 : ∀ k, k < 26 ∨ 32 < k → zi h' 0 k = zi h 0 k) (l17 : ∀ k, k < 33 ∨ 39 < k → zi h' 17 k = zi h 17 k) (v : Inv i h) (vD : ∀ n pa ord plc b, iP h n pa → iO h n ord plc → iD h n ord b → iD h' n ord b) : Inv j h' := by
  obtain ⟨n, pa, ord, plc, b, D, m, ba, vP, vO, vB, vD', vC, vT, vBo, vTr, vS, vR, vLC, vLM, vDb, vx⟩ := v
  have L : ∀ q, 1 ≤ q → q ≠ 17 → zi h' q = zi h q := lo
  exact ⟨n, pa, ord, plc, b, D, m, ba, vP.lo e hi (l0 3 (by omega)) (l17 6 (by omega)) (L 18 (by omega) (by omega)), vO.lo (L 2 (by omega) (by omega)) (L 22 (by omega) (by omega)) (L 23 (by omega) (by omega)), vB.lo e (l0 4 (by omega)) (l17 9 (by omega)) (L 3 (by omega) (by omega)) (L 24 (by omega) (by omega)), vD n pa ord plc b vP vO vD', vC.lo e hi (l0 6 (by omega)) (l0 7 (by omega)) (l17 5 (by omega)) (l17 4 (by omega)) (L 19 (by omega) (by omega)) (L 20 (by omega) (by omega)) (L 21 (by omega) (by omega)), vT.lo (l0 9 (by omega)) (l17 13 (by omega)) (L 26 (by omega) (by omega)) (L 5 (by omega) (by omega)), vBo.lo e hi (l0 36 (by omega)) (l17 40 (by omega)) (L 36 (by omega) (by omega)), vTr.lo (l0 33 (by omega)) (l17 43 (by omega)) (L 14 (by omega) (by omega)) (L 37 (by omega) (by omega)), vS.lo e hi (L 38 (by omega) (by omega)) (L 39 (by omega) (by omega)), vR.lo e l, vLC.lo e hi, vLM.lo (l17 15 (by omega)) (L 27 (by omega) (by omega)), vDb, by rw [e_x e]; exact vx⟩
