/-! of, keep; parts of the invariant where cells are added and old ones stay -/
theorem sX0_inN (h : Hp) (x : Int32) (b : Nat) : X0_in h x 0 (nI b) = some (pB (0 ≤ x ∧ x ≤ nI b), h) := sX0_in h x 0 (nI b)
theorem sim_of (i : Nat) (x y : Int32) : Sim i (fun h => X0_of h x y) (fun h => X2_of h x y) := by
  intro h v
  have v' := v
  obtain ⟨n, pa, ord, plc, b, D, m, ba, vP, vO, vB, vD, vC, vT, vBo, vTr, vS, vR, vLC, vLM, vDb, vx⟩ := v'
  obtain ⟨σ, ok, g1, g2, en, eo, ep, eb⟩ := sg_of vP vO vB vLC vLM vDb
  obtain ⟨s, pl, mm, d1, d2, d3, d4, d5, d6, d7, d8, d9, d10⟩ := vD.1
  subst en eo ep eb
  have hn := ok.1
  have hpw := pow16 hn
  have ex : ∃ r, X0_of h x y = some (r, h) ∧ X2_of h x y = some (r, h) := by
    unfold X0_of X2_of
    rw [sX0_isP g1, bd_s, sX2_isP g2, bd_s]
    by_cases c0 : isP σ x
    · rw [if_neg (fun z => (pB0.mp z) c0), if_neg (fun z => (pB0.mp z) c0)]
      obtain ⟨p, hp, rfl⟩ := c0.nI ok
      have q := vP.2.2.2.1 p hp
      rw [show (4 : Int32) = nI 4 from rfl, sX0_inN, bd_s]
      by_cases c1 : 0 ≤ y ∧ y ≤ nI 4
      · obtain ⟨k, hk, rfl⟩ := nI_rg (by omega) c1.1 c1.2
        rw [if_neg (fun z => (pB0.mp z) c1), ck_i (by omega) (by omega), nI_clamp (by omega), q.1, nm_u]
        have : k = 0 ∨ k = 1 ∨ k = 2 ∨ k = 3 ∨ k = 4 := by omega
        have ix : ∀ k, k < 3 → nI 4 * nI k + nI p = nI (4 * k + p) := fun k _ => by rw [pk_mul, nI_add]
        rcases this with rfl | rfl | rfl | rfl | rfl
        · rw [if_pos nI_0, if_pos (show nI 0 = (0 : Int32) from rfl), dr_s, ix 0 (by omega), ck_i (by omega) (by omega), nI_clamp (by omega), (q.2.2.2.2 0 (by omega)).1]
          exact ⟨_, rfl, rfl⟩
        · rw [if_neg (show ¬ nI 1 = (0 : Int32) from by decide), if_pos (show nI 1 = (1 : Int32) from rfl), if_neg (show ¬ nI 1 = (0 : Int32) from by decide), if_pos (show nI 1 = (1 : Int32) from rfl), dr_s, ix 1 (by omega), ck_i (by omega) (by omega), nI_clamp (by omega), (q.2.2.2.2 1 (by omega)).1]
          exact ⟨_, rfl, rfl⟩
        · rw [if_neg (show ¬ nI 2 = (0 : Int32) from by decide), if_neg (show ¬ nI 2 = (1 : Int32) from by decide), if_pos (show nI 2 = (2 : Int32) from rfl), if_neg (show ¬ nI 2 = (0 : Int32) from by decide), if_neg (show ¬ nI 2 = (1 : Int32) from by decide), if_pos (show nI 2 = (2 : Int32) from rfl), dr_s, ix 2 (by omega), ck_i (by omega) (by omega), nI_clamp (by omega), (q.2.2.2.2 2 (by omega)).1]
          exact ⟨_, rfl, rfl⟩
        · rw [if_neg (show ¬ nI 3 = (0 : Int32) from by decide), if_neg (show ¬ nI 3 = (1 : Int32) from by decide), if_neg (show ¬ nI 3 = (2 : Int32) from by decide), if_pos (show nI 3 = (3 : Int32) from rfl), if_neg (show ¬ nI 3 = (0 : Int32) from by decide), if_neg (show ¬ nI 3 = (1 : Int32) from by decide), if_neg (show ¬ nI 3 = (2 : Int32) from by decide), if_pos (show nI 3 = (3 : Int32) from rfl), sX0_placeOf ok g1 hp, bd_s, ck_i (by omega) (by omega), g2.2.2.1 p hp]
          exact ⟨_, rfl, rfl⟩
        · rw [if_neg (show ¬ nI 4 = (0 : Int32) from by decide), if_neg (show ¬ nI 4 = (1 : Int32) from by decide), if_neg (show ¬ nI 4 = (2 : Int32) from by decide), if_neg (show ¬ nI 4 = (3 : Int32) from by decide), if_neg (show ¬ nI 4 = (0 : Int32) from by decide), if_neg (show ¬ nI 4 = (1 : Int32) from by decide), if_neg (show ¬ nI 4 = (2 : Int32) from by decide), if_neg (show ¬ nI 4 = (3 : Int32) from by decide), if_pos rfl, d1, d2, b_bit s (by omega) p (by omega), sX2_isIn h (by omega) (by omega), bd_s]
          by_cases cb : s.testBit p = true
          · rw [if_pos cb, if_neg (fun z => (pB0.mp z) cb)]; exact ⟨_, rfl, rfl⟩
          · rw [if_neg cb, if_pos (pB0.mpr cb)]; exact ⟨_, rfl, rfl⟩
      · rw [if_pos (pB0.mpr c1)]
        have nk : ∀ k, k ≤ 4 → ¬ y = nI k := fun k hk z => c1 (by rw [z]; exact ⟨nI_pos' (by omega), (nI_leI (by omega) (by omega)).mpr hk⟩)
        rw [if_neg (by exact nk 0 (by omega)), if_neg (by exact nk 1 (by omega)), if_neg (by exact nk 2 (by omega)), if_neg (by exact nk 3 (by omega)), if_neg (by exact nk 4 (by omega))]
        exact ⟨_, rfl, rfl⟩
    · rw [if_pos (pB0.mpr c0), if_pos (pB0.mpr c0)]; exact ⟨_, rfl, rfl⟩
  obtain ⟨r, e1, e2⟩ := ex
  exact ⟨r, h, h, e1, e2, v.fQ (Nat.le_succ _) (fQ.mk (fS.rf h) (fS2.rf h))⟩
/-- old cells stay -/
def oldc (h h' : Hp) : Prop := zx h ≤ zx h' ∧ ∀ q, 42 ≤ q → q < zx h → zt h' q = zt h q ∧ zn h' q = zn h q ∧ zi h' q = zi h q ∧ zj h' q = zj h q ∧ zr h' q = zr h q
theorem oldc.rf (h : Hp) : oldc h h := ⟨Nat.le_refl _, fun _ _ _ => ⟨rfl, rfl, rfl, rfl, rfl⟩⟩
theorem oldc.si {h h' : Hp} (o : oldc h h') {a k : Nat} {v : Int32} (ha : a < 42 ∨ zx h ≤ a) : oldc h (zsi h' a k v) := ⟨o.1, fun q h1 h2 => ⟨(o.2 q h1 h2).1, (o.2 q h1 h2).2.1, by rw [← (o.2 q h1 h2).2.2.1]; funext b; exact zi_ne _ _ _ _ (Or.inl (by omega)), (o.2 q h1 h2).2.2.2.1, (o.2 q h1 h2).2.2.2.2⟩⟩
theorem oldc.sj {h h' : Hp} (o : oldc h h') {a k : Nat} {v : Int64} (ha : a < 42 ∨ zx h ≤ a) : oldc h (zsj h' a k v) := ⟨o.1, fun q h1 h2 => ⟨(o.2 q h1 h2).1, (o.2 q h1 h2).2.1, (o.2 q h1 h2).2.2.1, by rw [← (o.2 q h1 h2).2.2.2.1]; funext b; exact zj_ne _ _ _ _ (Or.inl (by omega)), (o.2 q h1 h2).2.2.2.2⟩⟩
theorem oldc.sr {h h' : Hp} (o : oldc h h') {a k : Nat} {v : Option Nat} (ha : a < 42 ∨ zx h ≤ a) : oldc h (zsr h' a k v) := ⟨o.1, fun q h1 h2 => ⟨(o.2 q h1 h2).1, (o.2 q h1 h2).2.1, (o.2 q h1 h2).2.2.1, (o.2 q h1 h2).2.2.2.1, by rw [← (o.2 q h1 h2).2.2.2.2]; funext b; exact zr_ne _ _ _ _ (Or.inl (by omega))⟩⟩
theorem oldc.ne {h h' : Hp} (o : oldc h h') {t n w : Nat} : oldc h (zne h' t n w) := ⟨Nat.le_succ_of_le o.1, fun q h1 h2 => by
  have hq : q ≠ zx h' := by have := o.1; omega
  have p := o.2 q h1 h2
  refine ⟨(zt_nw _ _ _ _ hq).trans p.1, (zn_nw _ _ _ _ hq).trans p.2.1, ?_, ?_, ?_⟩
  · rw [← p.2.2.1]; funext b; exact zi_nw _ _ _ _ hq b
  · rw [← p.2.2.2.1]; funext b; exact zj_nw _ _ _ _ hq b
  · rw [← p.2.2.2.2]; funext b; exact zr_nw _ _ _ _ hq b⟩
theorem iP.ol {h h' : Hp} {n : Nat} {pa : Nat → Nat} (v : iP h n pa) (o : oldc h h') (a : zi h' 0 3 = zi h 0 3) (b : zi h' 17 6 = zi h 17 6) (c : zi h' 18 = zi h 18) (d : zr h' 1 = zr h 1) : iP h' n pa := by
  refine ⟨v.1, a.trans v.2.1, b.trans v.2.2.1, fun p hp => ?_, v.2.2.2.2⟩
  have q := v.2.2.2.1 p hp
  have r := o.2 _ q.2.1 q.2.2.1
  rw [d, c, r.1, r.2.2.1]
  exact ⟨q.1, q.2.1, Nat.lt_of_lt_of_le q.2.2.1 o.1, q.2.2.2.1, q.2.2.2.2⟩
theorem iC.ol {h h' : Hp} {n : Nat} (v : iC h n) (o : oldc h h') (a6 : zi h' 0 6 = zi h 0 6) (a7 : zi h' 0 7 = zi h 0 7) (c5 : zi h' 17 5 = zi h 17 5) (c4 : zi h' 17 4 = zi h 17 4) (d1 : zi h' 19 = zi h 19) (d2 : zi h' 20 = zi h 20) (d3 : zi h' 21 = zi h 21) (d4 : zr h' 4 = zr h 4) : iC h' n := by
  obtain ⟨d, u, b1, b2, b3, b4, b5, b6⟩ := v
  refine ⟨d, u, b1, a6.trans b2, a7.trans b3, c5.trans b4, c4.trans b5, fun k hk => ?_⟩
  obtain ⟨a, w, p, x1, x2, x3, x4⟩ := b6 k hk
  have r := o.2 a x2 x3
  refine ⟨a, w, p, ?_⟩
  rw [d4, r.1, r.2.2.1, d1, d2, d3]
  exact ⟨x1, x2, Nat.lt_of_lt_of_le x3 o.1, x4⟩
theorem iBo.ol {h h' : Hp} {m : Nat} {ba : Nat → Nat} (v : iBo h m ba) (o : oldc h h') (a : zi h' 0 36 = zi h 0 36) (b : zi h' 17 40 = zi h 17 40) (c : zi h' 36 = zi h 36) (d : zr h' 15 = zr h 15) : iBo h' m ba := by
  refine ⟨v.1, a.trans v.2.1, b.trans v.2.2.1, fun k hk => ?_⟩
  have q := v.2.2.2 k hk
  have r := o.2 _ q.2.1 q.2.2.1
  rw [d, c, r.1, r.2.2.1, r.2.2.2.2]
  exact ⟨q.1, q.2.1, Nat.lt_of_lt_of_le q.2.2.1 o.1, q.2.2.2⟩
theorem iB.ol {h h' : Hp} {b : Nat} (v : iB h b) (a1 : zi h' 0 4 = zi h 0 4) (a2 : zi h' 17 9 = zi h 17 9) (a3 : zi h' 3 = zi h 3) (a4 : zi h' 24 = zi h 24) (a5 : zj h' 10 = zj h 10) : iB h' b := by
  unfold iB; rw [a1, a2, a3, a4, a5]; exact v
theorem iS1.ol {h h' : Hp} {m : Nat} {ba : Nat → Nat} {d ra : Nat} (v : iS1 h m ba d ra) (o : oldc h h') (a : zi h' 38 d = zi h 38 d) (b : zi h' 39 d = zi h 39 d) (c : zr h' 16 d = zr h 16 d) (j : zj h' 40 = zj h 40) : iS1 h' m ba d ra := by
  unfold iS1 at v ⊢
  rw [a, b, c, j]
  rcases v with z | z | ⟨x, s, l, b1, b2, b3, b4, b5, b6, b7, b8, b9, b10, b11⟩
  · exact Or.inl z
  · exact Or.inr (Or.inl z)
  · have r := o.2 x b2 b3
    have r2 := o.2 ra b7 b8
    refine Or.inr (Or.inr ⟨x, s, l, b1, b2, Nat.lt_of_lt_of_le b3 o.1, b4, by rw [r.1]; exact b5, by rw [r.2.2.2.2]; exact b6, b7, Nat.lt_of_lt_of_le b8 o.1, by rw [r2.1]; exact b9, by rw [r2.2.1]; exact b10, ?_⟩)
    rw [r2.2.2.1, r2.2.2.2.1]; exact b11
theorem iS.ol {h h' : Hp} {m : Nat} {ba : Nat → Nat} (v : iS h m ba) (o : oldc h h') (a : zi h' 38 = zi h 38) (b : zi h' 39 = zi h 39) (c : zr h' 16 = zr h 16) (j : zj h' 40 = zj h 40) : iS h' m ba := by
  obtain ⟨ra, h1, h2⟩ := v
  exact ⟨ra, fun d hd => (h1 d hd).ol o (by rw [a]) (by rw [b]) (by rw [c]) j, by rw [a]; exact h2⟩
theorem LC.ol {h h' : Hp} {D : Nat → Nat → Nat → Nat → Nat → Nat} (v : LC h D) (o : oldc h h') (c : zr h' 0 10 = zr h 0 10) : LC h' D := v.fr ⟨c, o.1, fun q h1 h2 _ => ⟨(o.2 q h1 h2).1, fun k => ⟨by rw [(o.2 q h1 h2).2.2.1], by rw [(o.2 q h1 h2).2.2.2.2]⟩⟩⟩
theorem sX0_isBo {h : Hp} {m : Nat} (e : zi h 0 36 = nI m) (x : Int32) : X0_isBody h x = some (pB (0 ≤ x ∧ x ≤ nI m - 1), h) := by
  unfold X0_isBody; rw [e, sX0_in, bd_s]
theorem sX2_isBo {h : Hp} {m : Nat} (e : zi h 17 40 = nI m) (x : Int32) : X2_isBody h x = some (pB (0 ≤ x ∧ x ≤ nI m - 1), h) := by
  unfold X2_isBody; rw [e, show (0 : Int64) = (0 : Int32).toInt64 from by decide, sX2_wi, bd_s]
theorem sX0_isSh (h : Hp) (x : Int32) : X0_isShelf h x = some (pB (0 ≤ x ∧ x ≤ nI 5), h) := by
  unfold X0_isShelf; rw [show (5 : Int32) = nI 5 from rfl, sX0_in, bd_s]
theorem sX2_isSh (h : Hp) (x : Int32) : X2_isShelf h x = some (pB (0 ≤ x ∧ x ≤ nI 5), h) := by
  unfold X2_isShelf; rw [show (5 : Int64) = lN 5 from rfl, sX2_w0 _ _ 5 (by omega), bd_s]
theorem sim_keep (i : Nat) (x y : Int32) : Sim i (fun h => X0_keep h x y) (fun h => X2_keep h x y) := by
  intro h v
  have v' := v
  obtain ⟨n, pa, ord, plc, b, D, m, ba, vP, vO, vB, vD, vC, vT, vBo, vTr, vS, vR, vLC, vLM, vDb, vx⟩ := v'
  have same := v.fQ (Nat.le_succ i) (fQ.mk (fS.rf h) (fS2.rf h))
  have hm := vBo.1
  by_cases c1 : 0 ≤ x ∧ x ≤ nI 5
  · obtain ⟨d, hd, rfl⟩ := nI_rg (by omega) c1.1 c1.2
    have fin : ∀ o : Option Nat, (o = none ∧ y = -1 ∨ ∃ k, k < m ∧ o = some (ba k) ∧ y = nI k) → Inv (i + 1) (zsi (zsi (zsr h 16 d o) 38 d y) 39 d 0) := by
      intro o ho
      have od : oldc h (zsi (zsi (zsr h 16 d o) 38 d y) 39 d 0) := (((oldc.rf h).sr (Or.inl (by omega))).si (Or.inl (by omega))).si (Or.inl (by omega))
      obtain ⟨ra, s1, s2⟩ := vS
      have e38 : ∀ e, zi (zsi (zsi (zsr h 16 d o) 38 d y) 39 d 0) 38 e = if e = d then y else zi h 38 e := by
        intro e
        rw [zi_ne _ _ _ _ (Or.inl (by decide)), zi_si]
        by_cases z : e = d
        · rw [if_pos ⟨rfl, z⟩, if_pos z]
        · rw [if_neg (fun y => z y.2), if_neg z]; rfl
      have lowy : ¬ 50 ≤ y.toInt := by
        rcases ho with ⟨_, ey⟩ | ⟨k, hk, _, ey⟩
        · rw [ey]; decide
        · rw [ey, nI_toInt (by omega)]; omega
      refine ⟨n, pa, ord, plc, b, D, m, ba, vP.ol od rfl rfl rfl rfl, vO.lo rfl rfl rfl, vB.ol rfl rfl rfl rfl rfl, vD.lo (fun k _ _ => rfl) (fun k _ _ => rfl), vC.ol od rfl rfl rfl rfl rfl rfl rfl rfl, vT.lo rfl rfl rfl rfl, vBo.ol od rfl rfl rfl rfl, vTr.lo rfl rfl rfl rfl, ⟨ra, fun e he => ?_, fun e f he hf a1 a2 a3 => ?_⟩, vR.le (Nat.le_succ _), vLC.ol od rfl, vLM.lo rfl rfl, vDb, vx⟩
      · by_cases z : e = d
        · have r16 : zr (zsi (zsi (zsr h 16 d o) 38 d y) 39 d 0) 16 e = o := by
            rw [z]; exact zr_eq _ _ _ _
          rcases ho with ⟨h1, h2⟩ | ⟨k, hk, h1, h2⟩
          · exact Or.inl ⟨by rw [r16, h1], by rw [e38, if_pos z, h2]⟩
          · exact Or.inr (Or.inl ⟨k, hk, by rw [r16, h1], by rw [e38, if_pos z, h2]⟩)
        · refine (s1 e he).ol od (by rw [e38, if_neg z]) ?_ ?_ rfl
          · rw [zi_ne _ _ _ _ (Or.inr z), zi_ne _ _ _ _ (Or.inl (by decide))]; rfl
          · exact zr_ne _ _ _ _ (Or.inr z)
      · rw [e38] at a1 a2
        by_cases z1 : e = d
        · rw [if_pos z1] at a1; exact absurd a1 lowy
        · by_cases z2 : f = d
          · rw [if_pos z2] at a2; exact absurd a2 lowy
          · rw [if_neg z1] at a1; rw [if_neg z2] at a2
            exact s2 e f he hf a1 a2 a3
    by_cases c2 : y = -1
    · refine ⟨1, zsr h 16 d none, zsi (zsi (zsr h 16 d none) 38 d y) 39 d 0, ?_, ?_, fin none (Or.inl ⟨rfl, c2⟩)⟩
      · show X0_keep h (nI d) y = _
        unfold X0_keep
        rw [sX0_isSh, bd_s, if_neg (fun z => (pB0.mp z) c1), nm_u, if_pos c2]
        show nm _ _ = _
        rw [nm_u, if_neg (by rw [c2]; decide)]
        show ck _ _ = _
        rw [ck_i (by omega) (by omega), nm_u, nI_clamp (by omega)]
      · show X2_keep _ (nI d) y = _
        unfold X2_keep
        rw [sX2_isSh, bd_s, if_neg (fun z => (pB0.mp z) c1), nm_u, if_pos c2]
        show ck _ _ = _
        rw [ck_i (by omega) (by omega), nm_u, ck_i (by omega) (by omega), nm_u, nI_clamp (by omega)]
    · by_cases c3 : 0 ≤ y ∧ y ≤ nI m - 1
      · obtain ⟨k, hk, rfl⟩ := (nI_isP (by omega)).mp c3
        refine ⟨1, zsr h 16 d (some (ba k)), zsi (zsi (zsr h 16 d (some (ba k))) 38 d (nI k)) 39 d 0, ?_, ?_, fin _ (Or.inr ⟨k, hk, rfl, rfl⟩)⟩
        · show X0_keep h (nI d) (nI k) = _
          unfold X0_keep
          rw [sX0_isSh, bd_s, if_neg (fun z => (pB0.mp z) c1), nm_u, if_neg c2, sX0_isBo vBo.2.1, bd_s, if_neg (fun z => (pB0.mp z) c3)]
          show nm _ _ = _
          rw [nm_u, if_pos c3.1, ck_i (by omega) (by omega), nm_u]
          show ck _ _ = _
          rw [ck_i (by omega) (by omega), nm_u, nI_clamp (by omega), nI_clamp (by omega), (vBo.2.2.2 k hk).1]
        · show X2_keep _ (nI d) (nI k) = _
          unfold X2_keep
          rw [sX2_isSh, bd_s, if_neg (fun z => (pB0.mp z) c1), nm_u, if_neg c2, sX2_isBo (show zi (zsr h 16 d (some (ba k))) 17 40 = nI m from vBo.2.2.1), bd_s, if_neg (fun z => (pB0.mp z) c3)]
          show ck _ _ = _
          rw [ck_i (by omega) (by omega), nm_u, ck_i (by omega) (by omega), nm_u, nI_clamp (by omega)]
      · refine ⟨-1, h, h, ?_, ?_, same⟩
        · show X0_keep h (nI d) y = _
          unfold X0_keep
          rw [sX0_isSh, bd_s, if_neg (fun z => (pB0.mp z) c1), nm_u, if_neg c2, sX0_isBo vBo.2.1, bd_s, if_pos (pB0.mpr c3)]
        · show X2_keep h (nI d) y = _
          unfold X2_keep
          rw [sX2_isSh, bd_s, if_neg (fun z => (pB0.mp z) c1), nm_u, if_neg c2, sX2_isBo vBo.2.2.1, bd_s, if_pos (pB0.mpr c3)]
  · refine ⟨-1, h, h, ?_, ?_, same⟩
    · show X0_keep h x y = _
      unfold X0_keep
      rw [sX0_isSh, bd_s, if_pos (pB0.mpr c1)]
    · show X2_keep h x y = _
      unfold X2_keep
      rw [sX2_isSh, bd_s, if_pos (pB0.mpr c1)]
