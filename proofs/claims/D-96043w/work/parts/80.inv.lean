/-! THE INVARIANT as a whole; questions keep it -/
def Inv (i : Nat) (h : Hp) : Prop := ∃ n pa ord plc b D m ba, iP h n pa ∧ iO h n ord plc ∧ iB h b ∧ iD h n ord b ∧ iC h n ∧ iT h ∧ iBo h m ba ∧ iTr h ∧ iS h m ba ∧ iR h i ∧ LC h D ∧ LM h D ∧ (∀ a w t m k, a ≤ 12 → D a w t m k ≤ 12) ∧ 42 ≤ zx h
/-- what questions may write -/
def fQ (h h' : Hp) : Prop := h'.2.2 = h.2.2 ∧ (∀ q k, q ≠ 7 → q ≠ 9 → q ≠ 13 → q ≠ 28 → q ≠ 31 → q ≠ 32 → q ≠ 35 → ¬ (q = 0 ∧ 19 ≤ k ∧ k ≤ 23) → ¬ (q = 17 ∧ (16 ≤ k ∧ k ≤ 20 ∨ k = 29 ∨ k = 30)) → zi h' q k = zi h q k) ∧ ∀ q k, q ≠ 8 → q ≠ 11 → q ≠ 12 → q ≠ 0 → q ≠ 29 → q ≠ 30 → q ≠ 33 → q ≠ 34 → q ≠ 17 → zj h' q k = zj h q k
theorem fQ.mk {h h1 h2 : Hp} (a : fS h h1) (b : fS2 h1 h2) : fQ h h2 := ⟨b.1.trans a.1, fun q k h1 h2 h3 h4 h5 h6 h7 h8 h9 => (b.2.1 q k h4 h5 h6 h7 h9).trans (a.2.1 q k h1 h2 h3 h8), fun q k h1 h2 h3 h4 h5 h6 h7 h8 h9 => (b.2.2 q k h5 h6 h7 h8 h9).trans (a.2.2 q k h1 h2 h3 h4)⟩
theorem iR.le {h : Hp} {i j : Nat} (a : iR h i) (e : i ≤ j) : iR h j := ⟨Nat.le_trans a.1 (by omega), Nat.le_trans a.2 (by omega)⟩
theorem Inv.fQ {i j : Nat} {h h' : Hp} (v : Inv i h) (e : i ≤ j) (f : fQ h h') : Inv j h' := by
  obtain ⟨n, pa, ord, plc, b, D, m, ba, vP, vO, vB, vD, vC, vT, vBo, vTr, vS, vR, vLC, vLM, vDb, vx⟩ := v
  have hr : zr h' = zr h := congrArg (fun x => x.1) f.1
  have ht : zt h' = zt h := congrArg (fun x => x.2.1) f.1
  have hnn : zn h' = zn h := congrArg (fun x => x.2.2.1) f.1
  have hx : zx h' = zx h := congrArg (fun x => x.2.2.2.1) f.1
  have hc : zc h' = zc h := congrArg (fun x => x.2.2.2.2.1) f.1
  have hs : zs h' = zs h := congrArg (fun x => x.2.2.2.2.2) f.1
  have I : ∀ q k, q ≠ 7 → q ≠ 9 → q ≠ 13 → q ≠ 28 → q ≠ 31 → q ≠ 32 → q ≠ 35 → ¬ (q = 0 ∧ 19 ≤ k ∧ k ≤ 23) → ¬ (q = 17 ∧ (16 ≤ k ∧ k ≤ 20 ∨ k = 29 ∨ k = 30)) → zi h' q k = zi h q k := f.2.1
  have J := f.2.2
  have Ih : ∀ q k, 42 ≤ q → zi h' q k = zi h q k := fun q k hq => I q k (by omega) (by omega) (by omega) (by omega) (by omega) (by omega) (by omega) (by omega) (by omega)
  have Jh : ∀ q k, 42 ≤ q → zj h' q k = zj h q k := fun q k hq => J q k (by omega) (by omega) (by omega) (by omega) (by omega) (by omega) (by omega) (by omega) (by omega)
  have Il : ∀ q k, 1 ≤ q → q ≠ 17 → q ≠ 7 → q ≠ 9 → q ≠ 13 → q ≠ 28 → q ≠ 31 → q ≠ 32 → q ≠ 35 → zi h' q k = zi h q k := fun q k a1 a2 a3 a4 a5 a6 a7 a8 a9 => I q k a3 a4 a5 a6 a7 a8 a9 (by omega) (by omega)
  have I0 : ∀ k, k < 19 ∨ 23 < k → zi h' 0 k = zi h 0 k := fun k hk => I 0 k (by decide) (by decide) (by decide) (by decide) (by decide) (by decide) (by decide) (by omega) (by omega)
  have I17 : ∀ k, k < 16 ∨ (20 < k ∧ k ≠ 29 ∧ k ≠ 30) → zi h' 17 k = zi h 17 k := fun k hk => I 17 k (by decide) (by decide) (by decide) (by decide) (by decide) (by decide) (by decide) (by omega) (by omega)
  have i18 : zi h' 18 = zi h 18 := funext fun k => Il 18 k (by decide) (by decide) (by decide) (by decide) (by decide) (by decide) (by decide) (by decide) (by decide)
  have j40 : zj h' 40 = zj h 40 := funext fun k => J 40 k (by decide) (by decide) (by decide) (by decide) (by decide) (by decide) (by decide) (by decide) (by decide)
  have ix : ∀ q, q = 2 ∨ q = 3 ∨ q = 5 ∨ q = 14 ∨ q = 19 ∨ q = 20 ∨ q = 21 ∨ q = 22 ∨ q = 23 ∨ q = 24 ∨ q = 26 ∨ q = 27 ∨ q = 36 ∨ q = 37 ∨ q = 38 ∨ q = 39 → zi h' q = zi h q := fun q hq => funext fun k => Il q k (by omega) (by omega) (by omega) (by omega) (by omega) (by omega) (by omega) (by omega) (by omega)
  refine ⟨n, pa, ord, plc, b, D, m, ba, ?_, ?_, ?_, ?_, ?_, ?_, ?_, ?_, ?_, ?_, vLC.fr ?_, vLM.fr ⟨I17 15 (by omega), fun k => by rw [ix 27 (by omega)]⟩, vDb, by rw [hx]; exact vx⟩
  · refine ⟨vP.1, (I0 3 (by omega)).trans vP.2.1, (I17 6 (by omega)).trans vP.2.2.1, fun p hp => ?_, vP.2.2.2.2⟩
    have := vP.2.2.2.1 p hp
    rw [hr, ht, hx, i18]
    exact ⟨this.1, this.2.1, this.2.2.1, this.2.2.2.1, fun w hw => by rw [Ih _ _ this.2.1]; exact this.2.2.2.2 w hw⟩
  · unfold iO; rw [ix 2 (by omega), ix 22 (by omega), ix 23 (by omega)]; exact vO
  · refine ⟨vB.1, (I0 4 (by omega)).trans vB.2.1, (I17 9 (by omega)).trans vB.2.2.1, ?_, fun k hk => (J 10 k (by decide) (by decide) (by decide) (by decide) (by decide) (by decide) (by decide) (by decide) (by decide)).trans (vB.2.2.2.2 k hk)⟩
    rw [ix 3 (by omega), ix 24 (by omega)]; exact vB.2.2.2.1
  · unfold iD
    rw [I0 26 (by omega), I0 27 (by omega), I0 28 (by omega), I0 29 (by omega), I0 30 (by omega), I0 31 (by omega), I0 32 (by omega), I17 33 (by omega), I17 34 (by omega), I17 35 (by omega), I17 36 (by omega), I17 37 (by omega), I17 38 (by omega), I17 39 (by omega)]
    exact vD
  · obtain ⟨d, u, a1, a2, a3, a4, a5, a6⟩ := vC
    refine ⟨d, u, a1, (I0 6 (by omega)).trans a2, (I0 7 (by omega)).trans a3, (I17 5 (by omega)).trans a4, (I17 4 (by omega)).trans a5, fun k hk => ?_⟩
    obtain ⟨a, w, p, b1, b2, b3, b4, b5, b6, b7, b8, b9, b10, b11, b12, b13⟩ := a6 k hk
    refine ⟨a, w, p, by rw [hr]; exact b1, b2, by rw [hx]; exact b3, by rw [ht]; exact b4, b5, b6, ?_⟩
    rw [Ih _ _ b2, Ih _ _ b2, Ih _ _ b2, Ih _ _ b2, ix 19 (by omega), ix 20 (by omega), ix 21 (by omega)]
    exact ⟨b7, b8, b9, b10, b11, b12, b13⟩
  · obtain ⟨t, a1, a2, a3, a4⟩ := vT
    refine ⟨t, a1, (I0 9 (by omega)).trans a2, (I17 13 (by omega)).trans a3, ?_⟩
    rw [ix 26 (by omega), ix 5 (by omega)]; exact a4
  · refine ⟨vBo.1, (I0 36 (by omega)).trans vBo.2.1, (I17 40 (by omega)).trans vBo.2.2.1, fun k hk => ?_⟩
    obtain ⟨b1, b2, b3, b4, b5⟩ := vBo.2.2.2 k hk
    rw [hr, hx, ht, Ih _ _ b2, ix 36 (by omega)]
    exact ⟨b1, b2, b3, b4, b5⟩
  · obtain ⟨r, a1, a2, a3, a4⟩ := vTr
    refine ⟨r, a1, (I0 33 (by omega)).trans a2, (I17 43 (by omega)).trans a3, ?_⟩
    rw [ix 14 (by omega), ix 37 (by omega)]; exact a4
  · obtain ⟨ra, a1, a2⟩ := vS
    refine ⟨ra, fun d hd => ?_, ?_⟩
    · rcases a1 d hd with z | z | ⟨a, s, l, b1, b2, b3, b4, b5, b6, b7, b8, b9, b10, b11, b12, b13, b14⟩
      · left; rw [hr, ix 38 (by omega)]; exact z
      · right; left; rw [hr, ix 38 (by omega)]; exact z
      · right; right
        refine ⟨a, s, l, ?_⟩
        rw [hr, hx, ht, hnn, ix 38 (by omega), ix 39 (by omega), j40]
        refine ⟨b1, b2, b3, b4, b5, b6, b7, b8, b9, b10, b11, b12, b13, fun i hi => ?_⟩
        rw [Ih _ _ b7, Jh _ _ b7]; exact b14 i hi
    · rw [ix 38 (by omega)]; exact a2
  · have := vR.le e
    unfold iR; rw [hc, hs]; exact this
  · exact ⟨by rw [hr], by rw [hx]; exact Nat.le_refl _, fun q h1 _ _ => ⟨by rw [ht], fun k => ⟨Ih q k h1, by rw [hr]⟩⟩⟩
/-- the settings that the invariant gives -/
theorem Inv.sg {i : Nat} {h : Hp} (v : Inv i h) : ∃ σ, sOK σ ∧ gc σ h ∧ gm σ h := by
  obtain ⟨n, pa, ord, plc, b, D, m, ba, vP, vO, vB, vD, vC, vT, vBo, vTr, vS, vR, vLC, vLM, vDb, vx⟩ := v
  have hm : ∀ p, p < n → ∀ w, w < 3 → ∃ a, a ≤ (if w = 0 then 12 else if w = 1 then 5 else 3) ∧ zi h 18 (4 * w + p) = nI a ∧ (zi h 18 (4 * w + p)).toNatClampNeg = a := by
    intro p hp w hw
    obtain ⟨a, ha, e⟩ := ((vP.2.2.2.1 p hp).2.2.2.2 w hw).2
    refine ⟨a, ha, e, ?_⟩
    rw [e, nI_clamp (by split at ha; omega; split at ha <;> omega)]
  have hz : ∀ k, k < 5 → ∃ a, a ≤ 9 ∧ zi h 24 k = nI a ∧ (zi h 24 k).toNatClampNeg = a := by
    intro k hk
    obtain ⟨a, ha, e⟩ := (vB.2.2.2.1 k hk).2
    exact ⟨a, ha, e, by rw [e, nI_clamp (by omega)]⟩
  refine ⟨(n, ord, plc, (fun k => (zi h 18 k).toNatClampNeg), b, (fun k => (zi h 24 k).toNatClampNeg), D), ?_, ?_, ?_⟩
  · refine ⟨vP.1, fun k hk => vO.2.1 k hk, fun p hp => ⟨(vO.2.2 p hp).1, (vO.2.2 p hp).2.1⟩, fun p hp => ?_, vB.1, fun k hk => ?_, vDb⟩
    · obtain ⟨a0, h0, _, e0⟩ := hm p hp 0 (by omega)
      obtain ⟨a1, h1, _, e1⟩ := hm p hp 1 (by omega)
      obtain ⟨a2, h2, _, e2⟩ := hm p hp 2 (by omega)
      rw [if_pos rfl] at h0
      rw [if_neg (by decide), if_pos rfl] at h1
      rw [if_neg (by decide), if_neg (by decide)] at h2
      rw [Nat.mul_zero, Nat.zero_add] at e0
      rw [Nat.mul_one] at e1
      exact ⟨by show (zi h 18 p).toNatClampNeg ≤ 12; omega, by show (zi h 18 (4 + p)).toNatClampNeg ≤ 5; omega, by show (zi h 18 (4 * 2 + p)).toNatClampNeg ≤ 3; omega⟩
    · obtain ⟨a, ha, _, e⟩ := hz k hk
      show (zi h 24 k).toNatClampNeg ≤ 9
      omega
  · refine ⟨vP.2.1, fun k hk => (vO.1 k (by have := vP.1; have : k < n := hk; omega)).1, fun p hp => ?_, vB.2.1, fun k hk => ?_, vB.2.2.2.2, vLC, fun p q a hp hq e1 e2 => ?_⟩
    · have := vP.2.2.2.1 p hp
      refine ⟨pa p, this.1, ⟨this.2.1, this.2.2.2.1⟩, fun w hw => ?_⟩
      obtain ⟨a, _, e, e'⟩ := hm p hp w hw
      rw [(this.2.2.2.2 w hw).1, e]
      show nI a = nI ((zi h 18 (4 * w + p)).toNatClampNeg)
      rw [e']
    · obtain ⟨a, _, e, e'⟩ := hz k hk
      rw [(vB.2.2.2.1 k hk).1, e]
      show nI a = nI ((zi h 24 k).toNatClampNeg)
      rw [e']
    · have a1 := (vP.2.2.2.1 p hp).1
      have a2 := (vP.2.2.2.1 q hq).1
      rw [e1] at a1
      rw [e2] at a2
      exact vP.2.2.2.2 p q hp hq (by rw [← Option.some.inj a1, Option.some.inj a2])
  · refine ⟨vP.2.2.1, fun k hk => (vO.1 k (by have := vP.1; have : k < n := hk; omega)).2.1, fun p hp => (vO.2.2 p hp).2.2, fun p hp w hw => ?_, vB.2.2.1, fun k hk => ?_, vLM⟩
    · obtain ⟨a, _, e, e'⟩ := hm p hp w hw
      rw [e]
      show nI a = nI ((zi h 18 (4 * w + p)).toNatClampNeg)
      rw [e']
    · obtain ⟨a, _, e, e'⟩ := hz k hk
      rw [e]
      show nI a = nI ((zi h 24 k).toNatClampNeg)
      rw [e']
/-- class and model answer alike, and the invariant stands -/
def Sim {α : Type} (i : Nat) (f g : Hp → Option (α × Hp)) : Prop := ∀ h, Inv i h → ∃ r h1 h2, f h = some (r, h1) ∧ g h1 = some (r, h2) ∧ Inv (i + 1) h2
theorem gm.fS {σ : Sg} {h h' : Hp} (g : gm σ h) (a : fS h h') : gm σ h' :=
  ⟨(a.2.1 17 6 (by decide) (by decide) (by decide) (by omega)).trans g.1, fun k hk => (a.2.1 22 k (by decide) (by decide) (by decide) (by omega)).trans (g.2.1 k hk), fun k hk => (a.2.1 23 k (by decide) (by decide) (by decide) (by omega)).trans (g.2.2.1 k hk), fun p hp w hw => (a.2.1 18 _ (by decide) (by decide) (by decide) (by omega)).trans (g.2.2.2.1 p hp w hw), (a.2.1 17 9 (by decide) (by decide) (by decide) (by omega)).trans g.2.2.2.2.1, fun m hm => (a.2.1 24 m (by decide) (by decide) (by decide) (by omega)).trans (g.2.2.2.2.2.1 m hm), g.2.2.2.2.2.2.fr ⟨a.2.1 17 15 (by decide) (by decide) (by decide) (by omega), fun k => a.2.1 27 k (by decide) (by decide) (by decide) (by omega)⟩⟩
/-- a question -/
theorem Sim.q {α : Type} {i : Nat} {f g : Hp → Option (α × Hp)} (q : Sg → α) (hf : ∀ σ h, sOK σ → gc σ h → wp (f h) (fun r h' => r = q σ ∧ fS h h')) (hg : ∀ σ h, sOK σ → gm σ h → wp (g h) (fun r h' => r = q σ ∧ fS2 h h')) : Sim i f g := by
  intro h v
  obtain ⟨σ, ok, g1, g2⟩ := v.sg
  obtain ⟨r, h1, e1, er, fr1⟩ := hf σ h ok g1
  obtain ⟨r', h2, e2, er', fr2⟩ := hg σ h1 ok (g2.fS fr1)
  exact ⟨r, h1, h2, e1, by rw [e2, er, er'], v.fQ (Nat.le_succ _) (fQ.mk fr1 fr2)⟩
theorem wp.q0 {α : Type} {o : Option (α × Hp)} {v : α} {h : Hp} (w : wp o (fun r h' => r = v ∧ f0 h h')) : wp o (fun r h' => r = v ∧ fS h h') := w.mono (fun _ _ a => ⟨a.1, a.2.fS⟩)
theorem wp.q2 {α : Type} {o : Option (α × Hp)} {v : α} {h : Hp} (w : wp o (fun r h' => r = v ∧ f2 h h')) : wp o (fun r h' => r = v ∧ fS2 h h') := w.mono (fun _ _ a => ⟨a.1, a.2.fS2⟩)
theorem sim_begin (i : Nat) (x : Int32) : Sim i (fun h => X0_begin h x) (fun h => X2_begin h x) := Sim.q (fun σ => qBegin σ x) (fun _ _ ok g => (sX0_begin ok g x).q0) (fun _ _ ok g => (sX2_begin ok g x).q2)
theorem sim_league (i : Nat) (x : Int32) : Sim i (fun h => X0_league h x) (fun h => X2_league h x) := Sim.q (fun σ => qLeague σ x) (fun _ _ ok g => (sX0_league ok g x).q0) (fun _ _ ok g => (sX2_league ok g x).q2)
theorem sim_points (i : Nat) (x : Int32) : Sim i (fun h => X0_points h x) (fun h => X2_points h x) := Sim.q (fun σ => qPoints σ x) (fun _ _ ok g => (sX0_points ok g x).q0) (fun _ _ ok g => (sX2_points ok g x).q2)
theorem sim_would (i : Nat) (x : Int32) : Sim i (fun h => X0_would h x) (fun h => X2_would h x) := Sim.q (fun σ => qWould σ x) (fun _ _ ok g => (sX0_would ok g x).q0) (fun _ _ ok g => (sX2_would ok g x).q2)
theorem sim_rest (i : Nat) : Sim i X0_rest X2_rest := Sim.q (fun σ => qRest σ) (fun _ _ ok g => (sX0_rest ok g).q0) (fun _ _ ok g => (sX2_rest ok g).q2)
theorem sim_settle (i : Nat) (x : Int32) : Sim i (fun h => X0_settle h x) (fun h => X2_settle h x) := Sim.q (fun σ => qSettle σ x) (fun _ _ ok g => sX0_settle ok g x) (fun _ _ ok g => sX2_settle ok g x)
theorem sim_even (i : Nat) (x : Int32) : Sim i (fun h => X0_even h x) (fun h => X2_even h x) := Sim.q (fun σ => qEven σ x) (fun _ _ ok g => (sX0_even ok g x).q0) (fun _ _ ok g => (sX2_even ok g x).q2)
theorem sim_fair (i : Nat) : Sim i X0_fair X2_fair := Sim.q (fun σ => qFair σ) (fun _ _ ok g => (sX0_fair ok g).q0) (fun _ _ ok g => (sX2_fair ok g).q2)
theorem sim_aims (i : Nat) (x y z : Int32) : Sim i (fun h => X0_aims h x y z) (fun h => X2_aims h x y z) := Sim.q (fun σ => qAims σ x y z) (fun _ _ ok g => (sX0_aims ok g x y z).q0) (fun _ _ ok g => (sX2_aims ok g x y z).q2)
theorem sim_worth (i : Nat) (x y z : Int32) : Sim i (fun h => X0_worth h x y z) (fun h => X2_worth h x y z) := Sim.q (fun σ => qWorth σ x y z) (fun _ _ ok g => (sX0_worth ok g x y z).q0) (fun _ _ ok g => (sX2_worth ok g x y z).q2)
theorem sim_just (i : Nat) (x y : Int32) : Sim i (fun h => X0_just h x y) (fun h => X2_just h x y) := Sim.q (fun σ => qJust σ x y) (fun _ _ ok g => (sX0_just ok g x y).q0) (fun _ _ ok g => (sX2_just ok g x y).q2)
theorem sim_drawn (i : Nat) (x y z : Int32) : Sim i (fun h => X0_drawn h x y z) (fun h => X2_drawn h x y z) := Sim.q (fun σ => qDrawn σ x y z) (fun _ _ ok g => (sX0_drawn ok g x y z).q0) (fun _ _ ok g => (sX2_drawn ok g x y z).q2)
theorem sim_seen (i : Nat) (x y : Int32) : Sim i (fun h => X0_seen h x y) (fun h => X2_seen h x y) := fun h v => ⟨_, h, h, sX0_seen h x y, sX2_seen h x y, v.fQ (Nat.le_succ _) (fQ.mk (fS.rf h) (fS2.rf h))⟩
