/-! image, back, anew, bell, prize, feed, step -/
def dFr (h h' : Hp) : Prop := h'.2 = h.2 ∧ (∀ q, 42 ≤ q → zi h' q = zi h q) ∧ (∀ q, 1 ≤ q → q ≠ 17 → zi h' q = zi h q) ∧ (∀ k, k < 26 ∨ 32 < k → zi h' 0 k = zi h 0 k) ∧ ∀ k, k < 33 ∨ 39 < k → zi h' 17 k = zi h 17 k
theorem dFr.rf (h : Hp) : dFr h h := ⟨rfl, fun _ _ => rfl, fun _ _ _ => rfl, fun _ _ => rfl, fun _ _ => rfl⟩
theorem dFr.s0 {h h' : Hp} (a : dFr h h') {k : Nat} {v : Int32} (hk : 26 ≤ k ∧ k ≤ 32) : dFr h (zsi h' 0 k v) :=
  ⟨a.1, hi_si (by omega) a.2.1, fun q h1 h2 => by rw [← a.2.2.1 q h1 h2]; funext b; exact zi_ne _ _ _ _ (Or.inl (by omega)), fun b hb => (zi_ne _ _ _ _ (Or.inr (by omega))).trans (a.2.2.2.1 b hb), fun b hb => (zi_ne _ _ _ _ (Or.inl (by omega))).trans (a.2.2.2.2 b hb)⟩
theorem dFr.s17 {h h' : Hp} (a : dFr h h') {k : Nat} {v : Int32} (hk : 33 ≤ k ∧ k ≤ 39) : dFr h (zsi h' 17 k v) :=
  ⟨a.1, hi_si (by omega) a.2.1, fun q h1 h2 => by rw [← a.2.2.1 q h1 h2]; funext b; exact zi_ne _ _ _ _ (Or.inl (by omega)), fun b hb => (zi_ne _ _ _ _ (Or.inl (by omega))).trans (a.2.2.2.1 b hb), fun b hb => (zi_ne _ _ _ _ (Or.inr (by omega))).trans (a.2.2.2.2 b hb)⟩
theorem Inv.dFr {i : Nat} {h h' : Hp} (v : Inv i h) (f : dFr h h') (vD : ∀ n pa ord plc b, iP h n pa → iO h n ord plc → iD h n ord b → iD h' n ord b) : Inv (i + 1) h' :=
  Inv.deed f.1 f.2.1 (Nat.le_succ i) f.2.2.1 f.2.2.2.1 f.2.2.2.2 v vD
theorem iD.new {h : Hp} {n b : Nat} {ord : Nat → Nat} (hn : n ≤ 4) (ho : 0 < n → ord 0 < n) (a1 : zi h 0 26 = nI (2 ^ n - 1)) (a2 : zi h 0 27 = 0) (a3 : zi h 0 28 = 0) (a4 : zi h 17 33 = nI (2 ^ n - 1)) (a5 : zi h 17 34 = nI (ord 0)) (a6 : zi h 17 35 = 0) (x : (zi h 0 32 = 0 ∧ zi h 17 36 = 0) ∨ (zi h 0 32 = 1 ∧ zi h 17 36 = 1 ∧ iDd n ord b (zi h 0 29) (zi h 0 30) (zi h 0 31) (zi h 17 37) (zi h 17 38) (zi h 17 39))) : iD h n ord b := by
  have hpos : 0 < 2 ^ n := Nat.pos_of_ne_zero (by intro z; have := Nat.pow_eq_zero.mp z; omega)
  exact ⟨⟨2 ^ n - 1, 0, 0, a1, a4, by omega, a2, by omega, a5, fun z => ⟨z, (all_bit n (by omega) _ (by have := ho z; omega)).mpr (ho z)⟩, a3, a6, Nat.zero_le _⟩, x⟩
theorem sim_image (i : Nat) : Sim i X0_image X2_image := by
  intro h v
  have v' := v
  obtain ⟨n, pa, ord, plc, b, D, m, ba, vP, vO, vB, vD, _⟩ := v'
  obtain ⟨s, pl, mm, d1, d2, d3, d4, d5, d6, d7, d8, d9, d10⟩ := vD.1
  refine ⟨zi h 0 28, zsi (zsi (zsi (zsi h 0 32 1) 0 29 (zi h 0 26)) 0 30 (zi h 0 27)) 0 31 (zi h 0 28), zsi (zsi (zsi (zsi (zsi (zsi (zsi (zsi h 0 32 1) 0 29 (zi h 0 26)) 0 30 (zi h 0 27)) 0 31 (zi h 0 28)) 17 36 1) 17 37 (zi h 17 33)) 17 38 (zi h 17 34)) 17 39 (zi h 17 35), rfl, ?_, ?_⟩
  · rw [d8, ← d9]; rfl
  · refine v.dFr (((((((((dFr.rf h).s0 (by omega)).s0 (by omega)).s0 (by omega)).s0 (by omega)).s17 (by omega)).s17 (by omega)).s17 (by omega)).s17 (by omega)) (fun n pa ord plc b _ _ vD => ⟨vD.1, Or.inr ⟨rfl, rfl, vD.1⟩⟩)
theorem sim_back (i : Nat) : Sim i X0_back X2_back := by
  intro h v
  have v' := v
  obtain ⟨n, pa, ord, plc, b, D, m, ba, vP, vO, vB, vD, _⟩ := v'
  rcases vD.2 with ⟨z1, z2⟩ | ⟨z1, z2, z3⟩
  · refine ⟨-5, h, h, ?_, ?_, v.fQ (Nat.le_succ _) (fQ.mk (fS.rf h) (fS2.rf h))⟩
    · unfold X0_back; rw [if_pos z1]
    · unfold X2_back; rw [if_pos z2]
  · obtain ⟨s, pl, mm, d1, d2, d3, d4, d5, d6, d7, d8, d9, d10⟩ := z3
    refine ⟨zi h 0 31, zsi (zsi (zsi h 0 26 (zi h 0 29)) 0 27 (zi h 0 30)) 0 28 (zi h 0 31), zsi (zsi (zsi (zsi (zsi (zsi h 0 26 (zi h 0 29)) 0 27 (zi h 0 30)) 0 28 (zi h 0 31)) 17 33 (zi h 17 37)) 17 34 (zi h 17 38)) 17 35 (zi h 17 39), ?_, ?_, ?_⟩
    · unfold X0_back; rw [if_neg (by rw [z1]; decide)]; rfl
    · unfold X2_back
      rw [if_neg (by show ¬ zi h 17 36 = 0; rw [z2]; decide), d8, ← d9]; rfl
    · refine v.dFr (((((((dFr.rf h).s0 (by omega)).s0 (by omega)).s0 (by omega)).s17 (by omega)).s17 (by omega)).s17 (by omega)) (fun n' pa' ord' plc' b' _ _ vD' => ?_)
      rcases vD'.2 with ⟨y1, y2⟩ | ⟨y1, y2, y3⟩
      · rw [z1] at y1; exact absurd y1 (by decide)
      · exact ⟨y3, Or.inr ⟨y1, y2, y3⟩⟩
theorem sim_anew (i : Nat) : Sim i X0_anew X2_anew := by
  intro h v
  have v' := v
  obtain ⟨n, pa, ord, plc, b, D, m, ba, vP, vO, vB, vD, _⟩ := v'
  obtain ⟨s, pl, mm, d1, d2, d3, d4, d5, d6, d7, d8, d9, d10⟩ := vD.1
  refine ⟨zi h 0 28, zsi (zsi (zsi h 0 26 (nI (2 ^ n - 1))) 0 27 0) 0 28 0, zsi (zsi (zsi (zsi (zsi (zsi h 0 26 (nI (2 ^ n - 1))) 0 27 0) 0 28 0) 17 33 (nI (2 ^ n - 1))) 17 34 (zi h 22 0)) 17 35 0, ?_, ?_, ?_⟩
  · unfold X0_anew; rw [nm_u, sX0_all h vP.1 vP.2.1, bd_s]; rfl
  · unfold X2_anew
    rw [nm_u, sX2_allN _ vP.1 (show zi (zsi (zsi (zsi h 0 26 (nI (2 ^ n - 1))) 0 27 0) 0 28 0) 17 6 = nI n from vP.2.2.1), bd_s, d8, ← d9, nm_u, ck_t (by decide)]
    rfl
  · refine v.dFr (((((((dFr.rf h).s0 (by omega)).s0 (by omega)).s0 (by omega)).s17 (by omega)).s17 (by omega)).s17 (by omega)) (fun n' pa' ord' plc' b' vP' vO' vD' => ?_)
    have en : n' = n := (nI_eq (by have := vP'.1; omega) (by have := vP.1; omega)).mp (by rw [← vP'.2.1, vP.2.1])
    subst en
    exact iD.new vP'.1 (fun z => (vO'.2.1 0 z).1) rfl rfl rfl rfl (vO'.1 0 (by omega)).2.1 rfl vD'.2
