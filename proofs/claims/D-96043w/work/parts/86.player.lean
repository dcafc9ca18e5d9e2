/-! player -/
theorem upd_i (h : Hp) (q k : Nat) (v : Int32) (j : Nat) : zi (zsi h q k v) q j = if j = k then v else zi h q j := by
  rw [zi_si]
  by_cases z : j = k
  · rw [if_pos ⟨rfl, z⟩, if_pos z]
  · rw [if_neg (fun y => z y.2), if_neg z]
theorem upd_r (h : Hp) (q k : Nat) (v : Option Nat) (j : Nat) : zr (zsr h q k v) q j = if j = k then v else zr h q j := by
  rw [zr_sr]
  by_cases z : j = k
  · rw [if_pos ⟨rfl, z⟩, if_pos z]
  · rw [if_neg (fun y => z y.2), if_neg z]
/-- a new player's cell -/
def nPl (h : Hp) (x y : Int32) : Hp := zsi (zsi (zne h 3 0 3) (zx h) 0 x) (zx h) 1 y
theorem nPl_lo {h : Hp} (hx : 42 ≤ zx h) (x y : Int32) (q : Nat) (hq : q < 42) : zi (nPl h x y) q = zi h q ∧ zj (nPl h x y) q = zj h q ∧ zr (nPl h x y) q = zr h q := by
  refine ⟨funext fun k => ?_, funext fun k => ?_, funext fun k => ?_⟩
  · show zi (zsi (zsi (zne h 3 0 3) (zx h) 0 x) (zx h) 1 y) q k = _
    rw [zi_ne _ _ _ _ (Or.inl (by omega)), zi_ne _ _ _ _ (Or.inl (by omega)), zi_nw _ _ _ _ (by omega)]
  · exact zj_nw _ _ _ _ (by omega) k
  · exact zr_nw _ _ _ _ (by omega) k
theorem nPl_ol {h : Hp} (hx : 42 ≤ zx h) (x y : Int32) : oldc h (nPl h x y) := (((oldc.rf h).ne).si (Or.inr (Nat.le_refl _))).si (Or.inr (Nat.le_refl _))
theorem nPl_new (h : Hp) (x y : Int32) : zi (nPl h x y) (zx h) 0 = x ∧ zi (nPl h x y) (zx h) 1 = y ∧ zi (nPl h x y) (zx h) 2 = 0 ∧ zt (nPl h x y) (zx h) = 3 ∧ zx (nPl h x y) = zx h + 1 := by
  refine ⟨?_, zi_eq _ _ _ _, ?_, zt_nn _ _ _ _, rfl⟩
  · show zi (zsi (zsi (zne h 3 0 3) (zx h) 0 x) (zx h) 1 y) (zx h) 0 = x
    rw [zi_ne _ _ _ _ (Or.inr (by decide)), zi_eq]
  · show zi (zsi (zsi (zne h 3 0 3) (zx h) 0 x) (zx h) 1 y) (zx h) 2 = 0
    rw [zi_ne _ _ _ _ (Or.inr (by decide)), zi_ne _ _ _ _ (Or.inr (by decide)), zi_nn]
/-- the class's heap behind a player -/
def hPl (h : Hp) (n : Nat) (x y : Int32) : Hp := zsi (zsi (zsi (zsi (zsi (zsi (zsr (nPl h x y) 1 n (some (zx h))) 2 n (nI n)) 0 3 (nI (n + 1))) 0 32 0) 0 26 (nI (2 ^ (n + 1) - 1))) 0 27 0) 0 28 0
def hPl2 (h : Hp) (n : Nat) (x y : Int32) : Hp := zsi (zsi (zsi (zsi (zsi (zsi (zsi (zsi (zsi (zsi (hPl h n x y) 18 n x) 18 (4 + n) y) 18 (8 + n) 0) 22 n (nI n)) 23 n (nI n)) 17 6 (nI (n + 1))) 17 36 0) 17 33 (nI (2 ^ (n + 1) - 1))) 17 34 (if n = 0 then nI n else zi h 22 0)) 17 35 0
theorem sX0_add {h : Hp} {n : Nat} (hn : n < 4) (hx : 42 ≤ zx h) (e : zi h 0 3 = nI n) (r1 : zc h + 1 ≤ zLC ∧ zs h + 3 ≤ zLS) (x y : Int32) : X0_addPlayer h x y = some (nI n, hPl h n x y) := by
  have L := nPl_lo hx x y
  have e3 : zi (nPl h x y) 0 3 = nI n := by rw [(L 0 (by omega)).1]; exact e
  unfold X0_addPlayer
  rw [ck_t r1, nm_u, nm_u, show X3_init (zne h 3 0 3) (zx h) x y = some ((), nPl h x y) from rfl, bd_s, e, ck_i (by omega) (by omega), nm_u, nI_clamp (by omega)]
  rw [show zi (zsr (nPl h x y) 1 n (some (zx h))) 0 3 = nI n from e3, nm_u, ck_i (by omega) (by omega), nm_u, nI_clamp (by omega)]
  rw [show zi (zsi (zsr (nPl h x y) 1 n (some (zx h))) 2 n (nI n)) 0 3 = nI n from e3, nI_1, nm_u, nm_u, sX0_begin0 (n := n + 1) (by omega) rfl, bd_s]
  show some (nI (n + 1) - 1, _) = _
  rw [nI_pred]
  rfl
theorem sX2_adds {h0 h : Hp} {n : Nat} (hn : n < 4) (e : zi h 17 6 = nI n) (x y : Int32) : X2_adds h x y = some ((), zsi (zsi (zsi (zsi (zsi (zsi (zsi (zsi (zsi (zsi h 18 n x) 18 (4 + n) y) 18 (8 + n) 0) 22 n (nI n)) 23 n (nI n)) 17 6 (nI (n + 1))) 17 36 0) 17 33 (nI (2 ^ (n + 1) - 1))) 17 34 (if n = 0 then nI n else zi h 22 0)) 17 35 0) := by
  unfold X2_adds
  rw [e, ck_i (by omega) (by omega), nm_u, nI_clamp (by omega), show zi (zsi h 18 n x) 17 6 = nI n from e, show (4 : Int32) = nI 4 from rfl, nI_add, ck_i (by omega) (by omega), nm_u, nI_clamp (by omega)]
  rw [show zi (zsi (zsi h 18 n x) 18 (4 + n) y) 17 6 = nI n from e, show (8 : Int32) = nI 8 from rfl, nI_add, ck_i (by omega) (by omega), nm_u, nI_clamp (by omega)]
  rw [show zi (zsi (zsi (zsi h 18 n x) 18 (4 + n) y) 18 (8 + n) 0) 17 6 = nI n from e, nm_u, ck_i (by omega) (by omega), nm_u, nI_clamp (by omega)]
  rw [show zi (zsi (zsi (zsi (zsi h 18 n x) 18 (4 + n) y) 18 (8 + n) 0) 22 n (nI n)) 17 6 = nI n from e, nm_u, ck_i (by omega) (by omega), nm_u, nI_clamp (by omega)]
  rw [show zi (zsi (zsi (zsi (zsi (zsi h 18 n x) 18 (4 + n) y) 18 (8 + n) 0) 22 n (nI n)) 23 n (nI n)) 17 6 = nI n from e, nI_1, nm_u, nm_u, sX2_starts (n := n + 1) (by omega) rfl, bd_s]
  have e22 : zi (zsi (zsi (zsi (zsi (zsi (zsi h 18 n x) 18 (4 + n) y) 18 (8 + n) 0) 22 n (nI n)) 23 n (nI n)) 17 6 (nI (n + 1))) 22 0 = if n = 0 then nI n else zi h 22 0 := by
    rw [zi_ne _ _ _ _ (Or.inl (by decide)), zi_ne _ _ _ _ (Or.inl (by decide)), upd_i]
    by_cases z : n = 0
    · rw [if_pos z.symm, if_pos z]
    · rw [if_neg (fun y => z y.symm), if_neg z]; rfl
  rw [e22]
/-- the invariant behind a player -/
theorem Inv.player {i : Nat} {h : Hp} {n b m : Nat} {pa ord plc ba : Nat → Nat} {D : Nat → Nat → Nat → Nat → Nat → Nat} (hn : n < 4) (vP : iP h n pa) (vO : iO h n ord plc) (vB : iB h b) (vC : iC h n) (vT : iT h) (vBo : iBo h m ba) (vTr : iTr h) (vS : iS h m ba) (vR : iR h i) (vLC : LC h D) (vLM : LM h D) (vDb : ∀ a w t m k, a ≤ 12 → D a w t m k ≤ 12) (vx : 42 ≤ zx h) {x y : Nat} (hx : x ≤ 12) (hy : y ≤ 5) : Inv (i + 1) (hPl2 h n (nI x) (nI y)) := by
  have L := nPl_lo vx (nI x) (nI y)
  have od : oldc h (hPl2 h n (nI x) (nI y)) := (((((((((((((((((nPl_ol vx (nI x) (nI y)).sr (Or.inl (by omega))).si (Or.inl (by omega))).si (Or.inl (by omega))).si (Or.inl (by omega))).si (Or.inl (by omega))).si (Or.inl (by omega))).si (Or.inl (by omega))).si (Or.inl (by omega))).si (Or.inl (by omega))).si (Or.inl (by omega))).si (Or.inl (by omega))).si (Or.inl (by omega))).si (Or.inl (by omega))).si (Or.inl (by omega))).si (Or.inl (by omega))).si (Or.inl (by omega))).si (Or.inl (by omega))
  have N := nPl_new h (nI x) (nI y)
  have hiA : ∀ q, 42 ≤ q → zi (hPl2 h n (nI x) (nI y)) q = zi (nPl h (nI x) (nI y)) q := hi_si (by omega) (hi_si (by omega) (hi_si (by omega) (hi_si (by omega) (hi_si (by omega) (hi_si (by omega) (hi_si (by omega) (hi_si (by omega) (hi_si (by omega) (hi_si (by omega) (hi_si (by omega) (hi_si (by omega) (hi_si (by omega) (hi_si (by omega) (hi_si (by omega) (hi_si (by omega) (fun _ _ => rfl))))))))))))))))
  have z18 : ∀ j, zi (hPl2 h n (nI x) (nI y)) 18 j = if j = 8 + n then 0 else if j = 4 + n then nI y else if j = n then nI x else zi h 18 j := by
    intro j
    show zi (zsi (zsi (zsi (hPl h n (nI x) (nI y)) 18 n (nI x)) 18 (4 + n) (nI y)) 18 (8 + n) 0) 18 j = _
    rw [upd_i, upd_i, upd_i, show zi (hPl h n (nI x) (nI y)) 18 = zi h 18 from (L 18 (by omega)).1]
  have z22 : ∀ j, zi (hPl2 h n (nI x) (nI y)) 22 j = if j = n then nI n else zi h 22 j := by
    intro j
    show zi (zsi (zsi (zsi (zsi (hPl h n (nI x) (nI y)) 18 n (nI x)) 18 (4 + n) (nI y)) 18 (8 + n) 0) 22 n (nI n)) 22 j = _
    rw [upd_i]
    by_cases z : j = n
    · rw [if_pos z, if_pos z]
    · rw [if_neg z, if_neg z]
      show zi (nPl h (nI x) (nI y)) 22 j = _
      rw [(L 22 (by omega)).1]
  have z23 : ∀ j, zi (hPl2 h n (nI x) (nI y)) 23 j = if j = n then nI n else zi h 23 j := by
    intro j
    show zi (zsi (zsi (zsi (zsi (zsi (hPl h n (nI x) (nI y)) 18 n (nI x)) 18 (4 + n) (nI y)) 18 (8 + n) 0) 22 n (nI n)) 23 n (nI n)) 23 j = _
    rw [upd_i]
    by_cases z : j = n
    · rw [if_pos z, if_pos z]
    · rw [if_neg z, if_neg z]
      show zi (nPl h (nI x) (nI y)) 23 j = _
      rw [(L 23 (by omega)).1]
  have z2 : ∀ j, zi (hPl2 h n (nI x) (nI y)) 2 j = if j = n then nI n else zi h 2 j := by
    intro j
    show zi (zsi (zsr (nPl h (nI x) (nI y)) 1 n (some (zx h))) 2 n (nI n)) 2 j = _
    rw [upd_i]
    by_cases z : j = n
    · rw [if_pos z, if_pos z]
    · rw [if_neg z, if_neg z]
      show zi (nPl h (nI x) (nI y)) 2 j = _
      rw [(L 2 (by omega)).1]
  have r1 : ∀ j, zr (hPl2 h n (nI x) (nI y)) 1 j = if j = n then some (zx h) else zr h 1 j := by
    intro j
    show zr (zsr (nPl h (nI x) (nI y)) 1 n (some (zx h))) 1 j = _
    rw [upd_r, (L 1 (by omega)).2.2]
  have S : ∀ q, q < 42 → q ≠ 0 → q ≠ 2 → q ≠ 17 → q ≠ 18 → q ≠ 22 → q ≠ 23 → zi (hPl2 h n (nI x) (nI y)) q = zi h q := by
    intro q h1 h2 h3 h4 h5 h6 h7
    rw [← (L q h1).1]
    funext j
    unfold hPl2 hPl
    rw [zi_ne _ _ _ _ (Or.inl h4), zi_ne _ _ _ _ (Or.inl h4), zi_ne _ _ _ _ (Or.inl h4), zi_ne _ _ _ _ (Or.inl h4), zi_ne _ _ _ _ (Or.inl h4), zi_ne _ _ _ _ (Or.inl h7), zi_ne _ _ _ _ (Or.inl h6), zi_ne _ _ _ _ (Or.inl h5), zi_ne _ _ _ _ (Or.inl h5), zi_ne _ _ _ _ (Or.inl h5), zi_ne _ _ _ _ (Or.inl h2), zi_ne _ _ _ _ (Or.inl h2), zi_ne _ _ _ _ (Or.inl h2), zi_ne _ _ _ _ (Or.inl h2), zi_ne _ _ _ _ (Or.inl h2), zi_ne _ _ _ _ (Or.inl h3)]
    rfl
  have s0 : ∀ k, zi (nPl h (nI x) (nI y)) 0 k = zi h 0 k := fun k => by rw [(L 0 (by omega)).1]
  have s17 : ∀ k, zi (nPl h (nI x) (nI y)) 17 k = zi h 17 k := fun k => by rw [(L 17 (by omega)).1]
  have iDn : ∀ o : Nat → Nat, o 0 = (if n = 0 then n else ord 0) → (0 < n + 1 → o 0 < n + 1) → iD (hPl2 h n (nI x) (nI y)) (n + 1) o b := by
    intro o eo hlt
    refine iD.new (by omega) hlt rfl rfl rfl rfl ?_ rfl (Or.inl ⟨rfl, rfl⟩)
    show (if n = 0 then nI n else zi h 22 0) = _
    rw [eo]
    by_cases z : n = 0
    · rw [if_pos z, if_pos z]
    · rw [if_neg z, if_neg z, (vO.1 0 (by omega)).2.1]
  refine ⟨n + 1, (fun p => if p = n then zx h else pa p), (fun k => if k = n then n else ord k), (fun k => if k = n then n else plc k), b, D, m, ba, ?_, ?_, vB.ol (s0 4) (s17 9) (S 3 (by omega) (by omega) (by omega) (by omega) (by omega) (by omega) (by omega)) (S 24 (by omega) (by omega) (by omega) (by omega) (by omega) (by omega) (by omega)) (L 10 (by omega)).2.1, ?_, ?_, vT.lo (s0 9) (s17 13) (S 26 (by omega) (by omega) (by omega) (by omega) (by omega) (by omega) (by omega)) (S 5 (by omega) (by omega) (by omega) (by omega) (by omega) (by omega) (by omega)), vBo.ol od (s0 36) (s17 40) (S 36 (by omega) (by omega) (by omega) (by omega) (by omega) (by omega) (by omega)) (L 15 (by omega)).2.2, vTr.lo (s0 33) (s17 43) (S 14 (by omega) (by omega) (by omega) (by omega) (by omega) (by omega) (by omega)) (S 37 (by omega) (by omega) (by omega) (by omega) (by omega) (by omega) (by omega)), vS.ol od (S 38 (by omega) (by omega) (by omega) (by omega) (by omega) (by omega) (by omega)) (S 39 (by omega) (by omega) (by omega) (by omega) (by omega) (by omega) (by omega)) (L 16 (by omega)).2.2 (L 40 (by omega)).2.1, ?_, vLC.ol od (by show zr (nPl h (nI x) (nI y)) 0 10 = _; rw [(L 0 (by omega)).2.2]), vLM.lo (s17 15) (S 27 (by omega) (by omega) (by omega) (by omega) (by omega) (by omega) (by omega)), vDb, ?_⟩
  · refine ⟨by omega, rfl, rfl, fun p hp => ?_, fun p q hp hq e => ?_⟩
    · by_cases z : p = n
      · subst z
        rw [r1, if_pos rfl]
        simp only [if_true]
        rw [hiA _ vx]
        refine ⟨trivial, vx, by show zx h < zx h + 1; omega, N.2.2.2.1, fun w hw => ?_⟩
        have : w = 0 ∨ w = 1 ∨ w = 2 := by omega
        rcases this with rfl | rfl | rfl
        · rw [z18, if_neg (by omega), if_neg (by omega), if_pos (by omega)]; exact ⟨N.1, x, by rw [if_pos rfl]; exact hx, rfl⟩
        · rw [z18, if_neg (by omega), if_pos (by omega)]; exact ⟨N.2.1, y, by rw [if_neg (by decide), if_pos rfl]; exact hy, rfl⟩
        · rw [z18, if_pos (by omega)]; exact ⟨N.2.2.1, 0, by rw [if_neg (by decide), if_neg (by decide)]; omega, rfl⟩
      · have q := vP.2.2.2.1 p (by omega)
        have r := od.2 _ q.2.1 q.2.2.1
        rw [r1, if_neg z]
        simp only [z, if_false]
        rw [r.1, r.2.2.1]
        refine ⟨q.1, q.2.1, Nat.lt_of_lt_of_le q.2.2.1 od.1, q.2.2.2.1, fun w hw => ?_⟩
        rw [z18, if_neg (by omega), if_neg (by omega), if_neg (by omega)]
        exact q.2.2.2.2 w hw
    · by_cases z1 : p = n
      · by_cases z2 : q = n
        · omega
        · simp only [z1, z2, if_true, if_false] at e
          have := (vP.2.2.2.1 q (by omega)).2.2.1; omega
      · by_cases z2 : q = n
        · simp only [z1, z2, if_true, if_false] at e
          have := (vP.2.2.2.1 p (by omega)).2.2.1; omega
        · simp only [z1, z2, if_false] at e
          exact vP.2.2.2.2 p q (by omega) (by omega) e
  · refine ⟨fun k hk => ?_, fun k hk => ?_, fun p hp => ?_⟩
    · rw [z2, z22]
      by_cases z : k = n
      · simp only [z, if_true]; exact ⟨trivial, trivial, by omega⟩
      · simp only [z, if_false]; exact vO.1 k hk
    · by_cases z : k = n
      · simp only [z, if_true]; exact ⟨by omega, trivial⟩
      · have q := vO.2.1 k (by omega)
        have : ord k ≠ n := by omega
        simp only [z, if_false, this]; exact ⟨by omega, q.2⟩
    · rw [z23]
      by_cases z : p = n
      · simp only [z, if_true]; exact ⟨by omega, trivial, trivial⟩
      · have q := vO.2.2 p (by omega)
        have : plc p ≠ n := by omega
        simp only [z, if_false, this]; exact ⟨by omega, q.2.1, q.2.2⟩
  · refine iDn _ ?_ (fun _ => ?_)
    · by_cases z : n = 0
      · rw [if_pos z.symm, if_pos z]
      · rw [if_neg (fun y => z y.symm), if_neg z]
    · by_cases z : n = 0
      · rw [if_pos z.symm]; omega
      · rw [if_neg (fun y => z y.symm)]; have := (vO.2.1 0 (by omega)).1; omega
  · have := vC.ol od (s0 6) (s0 7) (s17 5) (s17 4) (S 19 (by omega) (by omega) (by omega) (by omega) (by omega) (by omega) (by omega)) (S 20 (by omega) (by omega) (by omega) (by omega) (by omega) (by omega) (by omega)) (S 21 (by omega) (by omega) (by omega) (by omega) (by omega) (by omega) (by omega)) (L 4 (by omega)).2.2
    obtain ⟨d, u, b1, b2, b3, b4, b5, b6⟩ := this
    refine ⟨d, u, b1, b2, b3, b4, b5, fun k hk => ?_⟩
    obtain ⟨a, w, p, x1, x2, x3, x4, x5, x6, x7⟩ := b6 k hk
    exact ⟨a, w, p, x1, x2, x3, x4, x5, by omega, x7⟩
  · have a1 := vR.1
    have a2 := vR.2
    exact ⟨by show zc h + 1 ≤ _; omega, by show zs h + 3 ≤ _; omega⟩
  · show 42 ≤ zx h + 1
    omega
theorem sX0_pSo (h : Hp) (x y : Int32) : X0_isPlayerSo h x y = some (pB ((0 ≤ x ∧ x ≤ nI 12) ∧ (0 ≤ y ∧ y ≤ nI 5)), h) := by
  unfold X0_isPlayerSo
  rw [show (12 : Int32) = nI 12 from rfl, show (5 : Int32) = nI 5 from rfl, sX0_in, bd_s]
  by_cases c1 : 0 ≤ x ∧ x ≤ nI 12
  · rw [if_neg (fun z => (pB0.mp z) c1), sX0_in, bd_s]
    by_cases c2 : 0 ≤ y ∧ y ≤ nI 5
    · rw [if_neg (fun z => (pB0.mp z) c2)]; unfold pB; rw [if_pos ⟨c1, c2⟩]
    · rw [if_pos (pB0.mpr c2)]; unfold pB; rw [if_neg (fun z => c2 z.2)]
  · rw [if_pos (pB0.mpr c1)]; unfold pB; rw [if_neg (fun z => c1 z.1)]
theorem sX2_one (h : Hp) (x y : Int32) : X2_isOne h x.toInt64 y.toInt64 = some (pB ((0 ≤ x ∧ x ≤ nI 12) ∧ (0 ≤ y ∧ y ≤ nI 5)), h) := by
  unfold X2_isOne
  rw [show (12 : Int64) = lN 12 from rfl, show (5 : Int64) = lN 5 from rfl, sX2_w0 _ _ 12 (by omega), bd_s]
  by_cases c1 : 0 ≤ x ∧ x ≤ nI 12
  · rw [if_neg (fun z => (pB0.mp z) c1), sX2_w0 _ _ 5 (by omega), bd_s]
    by_cases c2 : 0 ≤ y ∧ y ≤ nI 5
    · rw [if_neg (fun z => (pB0.mp z) c2)]; unfold pB; rw [if_pos ⟨c1, c2⟩]
    · rw [if_pos (pB0.mpr c2)]; unfold pB; rw [if_neg (fun z => c2 z.2)]
  · rw [if_pos (pB0.mpr c1)]; unfold pB; rw [if_neg (fun z => c1 z.1)]
/-- there is room in the first 64 calls -/
theorem iR.room {h : Hp} {i : Nat} (v : iR h i) (hi : i < 64) {c s : Nat} (hc : c ≤ 9000) (hs : s ≤ 100000) : zc h + c ≤ zLC ∧ zs h + s ≤ zLS := by
  have a1 := v.1
  have a2 := v.2
  unfold zLC zLS
  omega
theorem sim_player (i : Nat) (hi : i < 64) (x y : Int32) : Sim i (fun h => X0_player h x y) (fun h => X2_player h x y) := by
  intro h v
  have v' := v
  obtain ⟨n, pa, ord, plc, b, D, m, ba, vP, vO, vB, vD, vC, vT, vBo, vTr, vS, vR, vLC, vLM, vDb, vx⟩ := v'
  have same := v.fQ (Nat.le_succ i) (fQ.mk (fS.rf h) (fS2.rf h))
  have hn := vP.1
  by_cases c : (0 ≤ x ∧ x ≤ nI 12) ∧ (0 ≤ y ∧ y ≤ nI 5)
  · by_cases c4 : n = 4
    · refine ⟨-3, h, h, ?_, ?_, same⟩
      · show X0_player h x y = _
        unfold X0_player
        rw [sX0_pSo, bd_s, if_neg (fun z => (pB0.mp z) c), if_pos (by rw [vP.2.1, c4]; rfl)]
      · show X2_player h x y = _
        unfold X2_player
        rw [sX2_one, bd_s, if_neg (fun z => (pB0.mp z) c), if_pos (by rw [vP.2.2.1, c4]; rfl)]
    · obtain ⟨p, hp, rfl⟩ := nI_rg (by omega) c.1.1 c.1.2
      obtain ⟨q, hq, rfl⟩ := nI_rg (by omega) c.2.1 c.2.2
      refine ⟨nI n, hPl h n (nI p) (nI q), hPl2 h n (nI p) (nI q), ?_, ?_, Inv.player (by omega) vP vO vB vC vT vBo vTr vS vR vLC vLM vDb vx hp hq⟩
      · show X0_player h (nI p) (nI q) = _
        unfold X0_player
        rw [sX0_pSo, bd_s, if_neg (fun z => (pB0.mp z) c), if_neg (by rw [vP.2.1]; exact nI_n4 (by omega) c4), sX0_add (by omega) vx vP.2.1 (vR.room hi (by omega) (by omega)), bd_s]
      · show X2_player _ (nI p) (nI q) = _
        unfold X2_player
        have e6 : zi (hPl h n (nI p) (nI q)) 17 6 = nI n := by
          show zi (nPl h (nI p) (nI q)) 17 6 = _
          rw [(nPl_lo vx (nI p) (nI q) 17 (by omega)).1]; exact vP.2.2.1
        have e22 : zi (hPl h n (nI p) (nI q)) 22 0 = zi h 22 0 := by
          show zi (nPl h (nI p) (nI q)) 22 0 = _
          rw [(nPl_lo vx (nI p) (nI q) 22 (by omega)).1]
        rw [sX2_one, bd_s, if_neg (fun z => (pB0.mp z) c), e6, if_neg (nI_n4 (by omega) c4), sX2_adds (h0 := h) (by omega) e6, bd_s, e22]
        show some (nI (n + 1) - 1, _) = _
        rw [nI_pred]
        rfl
  · refine ⟨-1, h, h, ?_, ?_, same⟩
    · show X0_player h x y = _
      unfold X0_player
      rw [sX0_pSo, bd_s, if_pos (pB0.mpr c)]
    · show X2_player h x y = _
      unfold X2_player
      rw [sX2_one, bd_s, if_pos (pB0.mpr c)]
