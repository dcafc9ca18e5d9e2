/-! row -/
theorem iS1.ol2 {h h' : Hp} {m : Nat} {ba : Nat → Nat} {d ra : Nat} (v : iS1 h m ba d ra) (o : oldc h h') (a : zi h' 38 d = zi h 38 d) (b : zi h' 39 d = zi h 39 d) (c : zr h' 16 d = zr h 16 d) (j : ∀ k, k < 60 → zj h' 40 (60 * d + k) = zj h 40 (60 * d + k)) : iS1 h' m ba d ra := by
  unfold iS1 at v ⊢
  rw [a, b, c]
  rcases v with z | z | ⟨x, s, l, b1, b2, b3, b4, b5, b6, b7, b8, b9, b10, b11, b12, b13, b14⟩
  · exact Or.inl z
  · exact Or.inr (Or.inl z)
  · have r := o.2 x b2 b3
    have r2 := o.2 ra b7 b8
    refine Or.inr (Or.inr ⟨x, s, l, b1, b2, Nat.lt_of_lt_of_le b3 o.1, b4, by rw [r.1]; exact b5, by rw [r.2.2.2.2]; exact b6, b7, Nat.lt_of_lt_of_le b8 o.1, by rw [r2.1]; exact b9, by rw [r2.2.1]; exact b10, b11, b12, b13, fun i hi => ?_⟩)
    rw [r2.2.2.1, r2.2.2.2.1, j i (by omega)]; exact b14 i hi
/-- shelves and new cells only -/
theorem Inv.nwS {i : Nat} {h h' : Hp} (v : Inv i h) (o : oldc h h') (li : ∀ q, q < 42 → q ≠ 38 → q ≠ 39 → zi h' q = zi h q) (lj : ∀ q, q < 42 → q ≠ 40 → zj h' q = zj h q) (lr : ∀ q, q < 42 → q ≠ 16 → zr h' q = zr h q)
    (hS : ∀ m ba, iBo h m ba → iS h m ba → iS h' m ba) (hR : iR h' (i + 1)) : Inv (i + 1) h' := by
  obtain ⟨n, pa, ord, plc, b, D, m, ba, vP, vO, vB, vD, vC, vT, vBo, vTr, vS, vR, vLC, vLM, vDb, vx⟩ := v
  have L : ∀ q, q < 38 → zi h' q = zi h q := fun q hq => li q (by omega) (by omega) (by omega)
  have e0 := L 0 (by omega)
  have e17 := L 17 (by omega)
  exact ⟨n, pa, ord, plc, b, D, m, ba, vP.ol o (by rw [e0]) (by rw [e17]) (L 18 (by omega)) (lr 1 (by omega) (by omega)), vO.lo (L 2 (by omega)) (L 22 (by omega)) (L 23 (by omega)), vB.ol (by rw [e0]) (by rw [e17]) (L 3 (by omega)) (L 24 (by omega)) (lj 10 (by omega) (by omega)), vD.lo (fun k _ _ => by rw [e0]) (fun k _ _ => by rw [e17]), vC.ol o (by rw [e0]) (by rw [e0]) (by rw [e17]) (by rw [e17]) (L 19 (by omega)) (L 20 (by omega)) (L 21 (by omega)) (lr 4 (by omega) (by omega)), vT.lo (by rw [e0]) (by rw [e17]) (L 26 (by omega)) (L 5 (by omega)), vBo.ol o (by rw [e0]) (by rw [e17]) (L 36 (by omega)) (lr 15 (by omega) (by omega)), vTr.lo (by rw [e0]) (by rw [e17]) (L 14 (by omega)) (L 37 (by omega)), hS m ba vBo vS, hR, vLC.ol o (by rw [lr 0 (by omega) (by omega)]), vLM.fr ⟨by rw [e17], fun k => by rw [L 27 (by omega)]⟩, vDb, Nat.le_trans vx o.1⟩
theorem lp_row {d : Nat} (hd : d ≤ 5) : ∀ k N h, k ≤ 60 → k < N → ∃ h', zfix (fun _ _ => none) (X2_row_b57 (nI d)) N h (nI (60 * d + 60 - k)) = some (1, h') ∧ h'.1 = h.1 ∧ h'.2.2 = h.2.2 ∧ ∀ q e, zj h' q e = if q = 40 ∧ 60 * d + 60 - k ≤ e ∧ e < 60 * d + 60 then 0 else zj h q e := by
  intro k
  induction k with
  | zero =>
    intro N h _ hN
    obtain ⟨N, rfl⟩ : ∃ M, N = M + 1 := ⟨N - 1, by omega⟩
    refine ⟨h, ?_, rfl, rfl, fun q e => ?_⟩
    · rw [zfix_s]
      rw [X2_row_b57]
      rw [if_pos]
      rw [show (60 : Int32) = nI 60 from rfl, pk_mul, nI_add, nI_leI (by omega) (by omega)]
      omega
    · rw [if_neg (by omega)]
  | succ k ih =>
    intro N h hk hN
    obtain ⟨N, rfl⟩ : ∃ M, N = M + 1 := ⟨N - 1, by omega⟩
    obtain ⟨h', e1, e2, e3, e4⟩ := ih N (zsj h 40 (60 * d + 60 - (k + 1)) 0) (by omega) (by omega)
    refine ⟨h', ?_, e2, e3, fun q e => ?_⟩
    · rw [zfix_s]
      rw [X2_row_b57]
      rw [show (60 : Int32) = nI 60 from rfl, pk_mul, nI_add, if_neg (by rw [nI_leI (by omega) (by omega)]; omega), ck_i (by omega) (by omega), nm_u, nm_u, nI_clamp (by omega), nI_1, show 60 * d + 60 - (k + 1) + 1 = 60 * d + 60 - k from by omega]
      exact e1
    · rw [e4, zj_sj]
      by_cases z : q = 40 ∧ 60 * d + 60 - k ≤ e ∧ e < 60 * d + 60
      · rw [if_pos z, if_pos (by omega)]
      · rw [if_neg z]
        by_cases y : q = 40 ∧ e = 60 * d + 60 - (k + 1)
        · rw [if_pos y, if_pos (by omega)]
        · rw [if_neg y, if_neg (by omega)]
theorem zj_nn (h : Hp) (t n w b : Nat) : zj (zne h t n w) (zx h) b = 0 := by
  show zu1 (zj h) (zx h) (fun _ => 0) (zx h) b = 0
  unfold zu1
  rw [if_pos rfl]
/-- the tag of a row's array -/
def aT (s : Nat) : Nat := if s = 0 then 101 else if s = 1 then 102 else if s = 2 then 100 else if s = 3 then 104 else 103
def nR (h : Hp) (s n : Nat) : Hp := zsr (zne (zne h (23 + s) 0 1) (aT s) n n) (zx h) 0 (some (zx h + 1))
theorem sX0_nR {h : Hp} (hrm : zc h + 8000 ≤ zLC ∧ zs h + 90000 ≤ zLS) {s n : Nat} (hs : s < 5) (hn : n ≤ 60) : X0_newRow h (nI s) (nI n) = some (some (zx h), nR h s n) ∧ X0_newRowTn h (nI s) (nI n) = none := by
  have r1 : ∀ {β : Type} (k : Option β), ck (zc h + 1 ≤ zLC ∧ zs h + 1 ≤ zLS) k = k := fun k => ck_t (by omega)
  have r2 : ∀ {β : Type} (t : Nat) (k : Option β), ck (zc (zne h t 0 1) + 1 ≤ zLC ∧ zs (zne h t 0 1) + n ≤ zLS) k = k := fun t k => ck_t (show zc h + 1 + 1 ≤ zLC ∧ zs h + 1 + n ≤ zLS from by omega)
  have hp : ∀ {β : Type} (k : Option β), ck (¬ nI n < 0) k = k := fun k => ck_t (nI_nlt0 (by omega))
  have hp' : ∀ {β : Type} (k : Option β), ck (nI n < 0) k = none := fun k => ck_f (nI_nlt0 (by omega))
  have hc := nI_clamp (show n < 2 ^ 31 by omega)
  unfold X0_newRow X0_newRowTn
  rcases s5 hs with rfl | rfl | rfl | rfl | rfl
  · refine ⟨?_, ?_⟩
    · rw [if_pos (by decide), r1, nm_u, nm_u]
      unfold X23_init X22_init X13_init
      rw [bd_s, bd_s, hp, hc, r2]
      rfl
    · rw [if_pos (by decide), r1, nm_u, nm_u]
      unfold X23_initTn X22_init X13_init
      rw [bd_s, bd_s, hp']
      rfl
  · refine ⟨?_, ?_⟩
    · rw [if_neg (by decide), if_pos (by decide), r1, nm_u, nm_u]
      unfold X24_init X22_init X13_init
      rw [bd_s, bd_s, hp, hc, r2]
      rfl
    · rw [if_neg (by decide), if_pos (by decide), r1, nm_u, nm_u]
      unfold X24_initTn X22_init X13_init
      rw [bd_s, bd_s, hp']
      rfl
  · refine ⟨?_, ?_⟩
    · rw [if_neg (by decide), if_neg (by decide), if_pos (by decide), r1, nm_u, nm_u]
      unfold X25_init X22_init X13_init
      rw [bd_s, bd_s, hp, hc, r2]
      rfl
    · rw [if_neg (by decide), if_neg (by decide), if_pos (by decide), r1, nm_u, nm_u]
      unfold X25_initTn X22_init X13_init
      rw [bd_s, bd_s, hp']
      rfl
  · refine ⟨?_, ?_⟩
    · rw [if_neg (by decide), if_neg (by decide), if_neg (by decide), if_pos (by decide), r1, nm_u, nm_u]
      unfold X26_init X22_init X13_init
      rw [bd_s, bd_s, hp, hc, r2]
      rfl
    · rw [if_neg (by decide), if_neg (by decide), if_neg (by decide), if_pos (by decide), r1, nm_u, nm_u]
      unfold X26_initTn X22_init X13_init
      rw [bd_s, bd_s, hp']
      rfl
  · refine ⟨?_, ?_⟩
    · rw [if_neg (by decide), if_neg (by decide), if_neg (by decide), if_neg (by decide), r1, nm_u, nm_u]
      unfold X27_init X22_init X13_init
      rw [bd_s, bd_s, hp, hc, r2]
      rfl
    · rw [if_neg (by decide), if_neg (by decide), if_neg (by decide), if_neg (by decide), r1, nm_u, nm_u]
      unfold X27_initTn X22_init X13_init
      rw [bd_s, bd_s, hp']
      rfl
theorem sX0_nRT {h : Hp} (hrm : zc h + 8000 ≤ zLC ∧ zs h + 90000 ≤ zLS) {s : Nat} (hs : s < 5) {x : Int32} (hx : x < 0) : X0_newRowTn h (nI s) x = some ((), zga (zne h (23 + s) 0 1) 3 54) := by
  have r1 : ∀ {β : Type} (k : Option β), ck (zc h + 1 ≤ zLC ∧ zs h + 1 ≤ zLS) k = k := fun k => ck_t (by omega)
  have r2 : ∀ {β : Type} (t : Nat) (k : Option β), ck (zc (zne h t 0 1) + 3 ≤ zLC ∧ zs (zne h t 0 1) + 54 ≤ zLS) k = k := fun t k => ck_t (show zc h + 1 + 3 ≤ zLC ∧ zs h + 1 + 54 ≤ zLS from by omega)
  have hp : ∀ {β : Type} (k : Option β), ck (x < 0) k = k := fun k => ck_t hx
  unfold X0_newRowTn
  rcases s5 hs with rfl | rfl | rfl | rfl | rfl
  · rw [if_pos (by decide), r1, nm_u, nm_u]
    unfold X23_initTn X22_init X13_init
    rw [bd_s, bd_s, hp, r2]
    rfl
  · rw [if_neg (by decide), if_pos (by decide), r1, nm_u, nm_u]
    unfold X24_initTn X22_init X13_init
    rw [bd_s, bd_s, hp, r2]
    rfl
  · rw [if_neg (by decide), if_neg (by decide), if_pos (by decide), r1, nm_u, nm_u]
    unfold X25_initTn X22_init X13_init
    rw [bd_s, bd_s, hp, r2]
    rfl
  · rw [if_neg (by decide), if_neg (by decide), if_neg (by decide), if_pos (by decide), r1, nm_u, nm_u]
    unfold X26_initTn X22_init X13_init
    rw [bd_s, bd_s, hp, r2]
    rfl
  · rw [if_neg (by decide), if_neg (by decide), if_neg (by decide), if_neg (by decide), r1, nm_u, nm_u]
    unfold X27_initTn X22_init X13_init
    rw [bd_s, bd_s, hp, r2]
    rfl
theorem sim_row (i : Nat) (hi : i < 64) (x y z : Int32) : Sim i (fun h => X0_row h x y z) (fun h => X2_row h x y z) := by
  intro h v
  have v' := v
  obtain ⟨n, pa, ord, plc, b, D, m, ba, vP, vO, vB, vD, vC, vT, vBo, vTr, vS, vR, vLC, vLM, vDb, vx⟩ := v'
  have same := v.fQ (Nat.le_succ i) (fQ.mk (fS.rf h) (fS2.rf h))
  have hrm := v.rm hi
  have hm := vBo.1
  by_cases c1 : 0 ≤ x ∧ x ≤ nI 5
  · obtain ⟨d, hd, rfl⟩ := nI_rg (by omega) c1.1 c1.2
    by_cases c2 : 0 ≤ y ∧ y ≤ nI 4
    · obtain ⟨s, hs, rfl⟩ := nI_rg (by omega) c2.1 c2.2
      have f1 : X0_row h (nI d) (nI s) z = if z ≤ (60 : Int32) then (tc (X0_newRowTn h (nI s) z) (fun h8 => some ((-14 : Int32), h8)) (bd (X0_newRow h (nI s) z) fun r11 h10 => some ((1 : Int32), zsr h10 16 d r11))) else (some ((-1 : Int32), h)) := by
        unfold X0_row
        have ck5 : ∀ {α : Type} (k : Option α), ck (0 ≤ (nI d).toInt ∧ (nI d).toInt < 6) k = k := fun k => ck_i (by omega) (by omega)
        rw [sX0_isSh, bd_s, if_neg (fun z => (pB0.mp z) c1), show (4 : Int32) = nI 4 from rfl, sX0_inN, bd_s, if_neg (fun z => (pB0.mp z) c2)]
        simp only [ck5, nI_clamp (show d < 2 ^ 31 by omega)]
        rfl
      have f2 : ∀ h', X2_row h' (nI d) (nI s) z = if z ≤ (60 : Int32) then (if 0 ≤ z then zfix (fun _ _ => none) (X2_row_b57 (nI d)) zFU (zsi (zsi h' 38 d (nI (50 + s))) 39 d z) (nI (60 * d)) else (some ((-14 : Int32), h'))) else (some ((-1 : Int32), h')) := by
        intro h'
        unfold X2_row
        rw [sX2_isSh, bd_s, if_neg (fun z => (pB0.mp z) c1), show (4 : Int64) = lN 4 from rfl, sX2_w0 _ _ 4 (by omega), bd_s, if_neg (fun z => (pB0.mp z) c2), nm_u, show (50 : Int32) = nI 50 from rfl, nI_add, ck_i (by omega) (by omega), nm_u, ck_i (by omega) (by omega), nm_u, nI_clamp (by omega), nm_u, show (60 : Int32) * nI d = nI (60 * d) from pk_mul 60 d]
      by_cases c3 : z ≤ (60 : Int32)
      · rw [if_pos c3] at f1
        by_cases c4 : 0 ≤ z
        · obtain ⟨l, hl, rfl⟩ := nI_rg (b := 60) (by omega) c4 c3
          obtain ⟨g1, g2⟩ := sX0_nR hrm (s := s) (n := l) (by omega) hl
          have hx : 42 ≤ zx h := vx
          -- the class's heap
          have o1 : oldc h (zsr (nR h s l) 16 d (some (zx h))) := (((oldc.rf h).ne.ne).sr (Or.inr (Nat.le_refl _))).sr (Or.inl (by omega))
          obtain ⟨h', e1, e2, e3, e4⟩ := lp_row hd 60 zFU (zsi (zsi (zsr (nR h s l) 16 d (some (zx h))) 38 d (nI (50 + s))) 39 d (nI l)) (by omega) (by rw [zFU_u]; omega)
          rw [show 60 * d + 60 - 60 = 60 * d from by omega] at e1 e4
          have N1 : ∀ q, q < zx h → ∀ k, zi (nR h s l) q k = zi h q k ∧ zj (nR h s l) q k = zj h q k ∧ zr (nR h s l) q k = zr h q k := fun q hq k => by
            have a1 : q ≠ zx (zne h (23 + s) 0 1) := by rw [zx_ne]; omega
            have a2 : q ≠ zx h := by omega
            refine ⟨?_, ?_, ?_⟩
            · show zi (zne (zne h (23 + s) 0 1) (aT s) l l) q k = _
              rw [zi_nw _ _ _ _ a1, zi_nw _ _ _ _ a2]
            · show zj (zne (zne h (23 + s) 0 1) (aT s) l l) q k = _
              rw [zj_nw _ _ _ _ a1, zj_nw _ _ _ _ a2]
            · show zr (zsr _ _ _ _) q k = _
              rw [zr_ne _ _ _ _ (Or.inl a2), zr_nw _ _ _ _ a1, zr_nw _ _ _ _ a2]
          have hI : ∀ q, zi h' q = zi (zsi (zsi (zsr (nR h s l) 16 d (some (zx h))) 38 d (nI (50 + s))) 39 d (nI l)) q := fun q => congrFun e2 q
          have hR : zr h' = zr (zsr (nR h s l) 16 d (some (zx h))) := congrArg (fun x => x.1) e3
          have hT : zt h' = zt (nR h s l) := congrArg (fun x => x.2.1) e3
          have hN : zn h' = zn (nR h s l) := congrArg (fun x => x.2.2.1) e3
          have hX : zx h' = zx h + 2 := congrArg (fun x => x.2.2.2.1) e3
          have hC : zc h' = zc h + 2 := congrArg (fun x => x.2.2.2.2.1) e3
          have hSs : zs h' = zs h + 1 + l := congrArg (fun x => x.2.2.2.2.2) e3
          have od : oldc h h' := by
            refine ⟨by omega, fun q h1 h2 => ?_⟩
            have o2 := (o1.si (a := 38) (k := d) (v := nI (50 + s)) (Or.inl (by omega))).si (a := 39) (k := d) (v := nI l) (Or.inl (by omega))
            have p := o2.2 q h1 h2
            refine ⟨by rw [hT]; exact p.1, by rw [hN]; exact p.2.1, by rw [hI]; exact p.2.2.1, ?_, by rw [hR]; exact p.2.2.2.2⟩
            rw [← p.2.2.2.1]; funext e; rw [e4, if_neg (by omega)]
          have z38 : ∀ e, zi h' 38 e = if e = d then nI (50 + s) else zi h 38 e := fun e => by
            rw [hI, zi_ne _ _ _ _ (Or.inl (by decide)), zi_si]
            by_cases z : e = d
            · rw [if_pos ⟨rfl, z⟩, if_pos z]
            · rw [if_neg (fun y => z y.2), if_neg z]; exact (N1 38 (by omega) e).1
          have z39 : ∀ e, zi h' 39 e = if e = d then nI l else zi h 39 e := fun e => by
            rw [hI, zi_si]
            by_cases z : e = d
            · rw [if_pos ⟨rfl, z⟩, if_pos z]
            · rw [if_neg (fun y => z y.2), if_neg z, zi_ne _ _ _ _ (Or.inl (by decide))]; exact (N1 39 (by omega) e).1
          have r16 : ∀ e, zr h' 16 e = if e = d then some (zx h) else zr h 16 e := fun e => by
            rw [hR, zr_sr]
            by_cases z : e = d
            · rw [if_pos ⟨rfl, z⟩, if_pos z]
            · rw [if_neg (fun y => z y.2), if_neg z]; exact (N1 16 (by omega) e).2.2
          have zH : ∀ q, 42 ≤ q → ∀ k, zi h' q k = zi (nR h s l) q k ∧ zj h' q k = zj (nR h s l) q k ∧ zr h' q k = zr (nR h s l) q k := fun q hq k => by
            refine ⟨?_, ?_, ?_⟩
            · rw [hI, zi_ne _ _ _ _ (Or.inl (by omega)), zi_ne _ _ _ _ (Or.inl (by omega))]; rfl
            · rw [e4, if_neg (by omega)]; rfl
            · rw [hR, zr_ne _ _ _ _ (Or.inl (by omega))]
          have x1 : zx (zne h (23 + s) 0 1) = zx h + 1 := rfl
          refine ⟨1, zsr (nR h s l) 16 d (some (zx h)), h', ?_, ?_, v.nwS od (fun q h1 h2 h3 => ?_) (fun q h1 h2 => ?_) (fun q h1 h2 => ?_) (fun m' ba' vb vs => ?_) ?_⟩
          · show X0_row h (nI d) (nI s) (nI l) = _
            rw [f1, g2, tc_n, g1, bd_s]
          · show X2_row _ (nI d) (nI s) (nI l) = _
            rw [f2, if_pos c3, if_pos c4]
            exact e1
          · rw [hI]; funext e
            rw [zi_ne _ _ _ _ (Or.inl h3), zi_ne _ _ _ _ (Or.inl h2)]; exact (N1 q (by omega) e).1
          · funext e
            rw [e4, if_neg (by omega)]; exact (N1 q (by omega) e).2.1
          · rw [hR]; funext e
            rw [zr_ne _ _ _ _ (Or.inl h2)]; exact (N1 q (by omega) e).2.2
          · obtain ⟨ra, s1, s2⟩ := vs
            have bnd : ∀ e, e < 6 → 50 ≤ (zi h 38 e).toInt → ra e < zx h := by
              intro e he h5
              rcases s1 e he with ⟨x1, x2⟩ | ⟨k, hk, x1, x2⟩ | ⟨a', s', l', b1, b2, b3, b4, b5, b6, b7, b8, _⟩
              · rw [x2] at h5; exact absurd h5 (by decide)
              · rw [x2, nI_toInt (by have := vb.1; omega)] at h5; have := vb.1; omega
              · exact b8
            refine ⟨fun e => if e = d then zx h + 1 else ra e, fun e he => ?_, fun e f he hf a1 a2 a3 => ?_⟩
            · by_cases z : e = d
              · dsimp only
                rw [if_pos z]
                right; right
                refine ⟨zx h, s, l, by rw [r16, if_pos z], hx, by omega, by omega, ?_, ?_, by omega, by omega, ?_, ?_, hl, by rw [z38, if_pos z], by rw [z39, if_pos z], fun k hk => ?_⟩
                · rw [hT]
                  show zt (zne (zne h (23 + s) 0 1) (aT s) l l) (zx h) = _
                  rw [zt_nw _ _ _ _ (by omega), zt_nn]
                · rw [(zH (zx h) hx 0).2.2]; exact zr_eq _ _ _ _
                · rw [hT]
                  show zt (zne (zne h (23 + s) 0 1) (aT s) l l) (zx h + 1) = _
                  rw [← x1, zt_nn]; rfl
                · rw [hN]
                  show zn (zne (zne h (23 + s) 0 1) (aT s) l l) (zx h + 1) = _
                  rw [← x1, zn_nn]
                · have w := zH (zx h + 1) (by omega) k
                  have q1 : zi (nR h s l) (zx h + 1) k = 0 := by
                    show zi (zne (zne h (23 + s) 0 1) (aT s) l l) (zx h + 1) k = _
                    rw [← x1, zi_nn]
                  have q2 : zj (nR h s l) (zx h + 1) k = 0 := by
                    show zj (zne (zne h (23 + s) 0 1) (aT s) l l) (zx h + 1) k = _
                    rw [← x1]; exact zj_nn _ _ _ _ _
                  rw [w.1, w.2.1, q1, q2, e4, if_pos (c := 40 = 40 ∧ 60 * d ≤ 60 * e + k ∧ 60 * e + k < 60 * d + 60) ⟨rfl, by omega, by omega⟩]
                  refine ⟨?_, ?_⟩
                  · by_cases s3 : s = 3
                    · rw [if_pos s3]
                    · rw [if_neg s3]; rfl
                  · rcases s5 (show s < 5 by omega) with rfl | rfl | rfl | rfl | rfl
                    · exact Or.inr (by decide)
                    · exact Or.inr (by decide)
                    · exact Or.inr (by decide)
                    · exact Or.inl rfl
                    · exact Or.inr (by decide)
              · dsimp only
                rw [if_neg z]
                refine (s1 e he).ol2 od (by rw [z38, if_neg z]) (by rw [z39, if_neg z]) (by rw [r16, if_neg z]) (fun k hk => ?_)
                rw [e4, if_neg (by omega)]
                exact (N1 40 (by omega) _).2.1
            · rw [z38] at a1 a2
              dsimp only at a3
              by_cases z1 : e = d
              · by_cases z2 : f = d
                · omega
                · rw [if_pos z1, if_neg z2] at a3
                  rw [if_neg z2] at a2
                  have := bnd f hf a2
                  omega
              · by_cases z2 : f = d
                · rw [if_neg z1, if_pos z2] at a3
                  rw [if_neg z1] at a1
                  have := bnd e he a1
                  omega
                · rw [if_neg z1, if_neg z2] at a3
                  rw [if_neg z1] at a1
                  rw [if_neg z2] at a2
                  exact s2 e f he hf a1 a2 a3
          · have := vR.1
            have := vR.2
            exact ⟨by omega, by omega⟩
        · have c5 : z < 0 := Int32.not_le.mp c4
          refine ⟨-14, zga (zne h (23 + s) 0 1) 3 54, zga (zne h (23 + s) 0 1) 3 54, ?_, ?_, ?_⟩
          · show X0_row h (nI d) (nI s) z = _
            rw [f1, sX0_nRT hrm (by omega) c5]; rfl
          · show X2_row _ (nI d) (nI s) z = _
            rw [f2, if_pos c3, if_neg c4]
          · have od : oldc h (zga (zne h (23 + s) 0 1) 3 54) := (oldc.rf h).ne (w := 1)
            have hx : 42 ≤ zx h := vx
            have li : ∀ q, q < 42 → zi (zga (zne h (23 + s) 0 1) 3 54) q = zi h q := fun q hq => funext fun k => zi_nw h (23 + s) 0 1 (by omega) k
            have lj : ∀ q, q < 42 → zj (zga (zne h (23 + s) 0 1) 3 54) q = zj h q := fun q hq => funext fun k => zj_nw h (23 + s) 0 1 (by omega) k
            have lr : ∀ q, q < 42 → zr (zga (zne h (23 + s) 0 1) 3 54) q = zr h q := fun q hq => funext fun k => zr_nw h (23 + s) 0 1 (by omega) k
            refine v.nwS od (fun q h1 _ _ => li q h1) (fun q h1 _ => lj q h1) (fun q h1 _ => lr q h1) (fun m' ba' vb vs => vs.ol od (li 38 (by omega)) (li 39 (by omega)) (lr 16 (by omega)) (lj 40 (by omega))) ?_
            have := vR.1
            have := vR.2
            refine ⟨?_, ?_⟩
            · show zc h + 1 + 3 ≤ _
              omega
            · show zs h + 1 + 54 ≤ _
              omega
      · rw [if_neg c3] at f1
        refine ⟨-1, h, h, f1, ?_, same⟩
        show X2_row h (nI d) (nI s) z = _
        rw [f2, if_neg c3]
    · refine ⟨-1, h, h, ?_, ?_, same⟩
      · show X0_row h (nI d) y z = _
        unfold X0_row
        rw [sX0_isSh, bd_s, if_neg (fun z => (pB0.mp z) c1), show (4 : Int32) = nI 4 from rfl, sX0_inN, bd_s, if_pos (pB0.mpr c2)]
      · show X2_row h (nI d) y z = _
        unfold X2_row
        rw [sX2_isSh, bd_s, if_neg (fun z => (pB0.mp z) c1), show (4 : Int64) = lN 4 from rfl, sX2_w0 _ _ 4 (by omega), bd_s, if_pos (pB0.mpr c2)]
  · refine ⟨-1, h, h, ?_, ?_, same⟩
    · show X0_row h x y z = _
      unfold X0_row
      rw [sX0_isSh, bd_s, if_pos (pB0.mpr c1)]
    · show X2_row h x y z = _
      unfold X2_row
      rw [sX2_isSh, bd_s, if_pos (pB0.mpr c1)]
