/-! judge, chance: the calls -/
theorem gT_num {σ : Sg} (ok : sOK σ) (c : Nat → Int32) (l : Nat) : ∀ f k s pl o p q P U, s < 2 ^ sN σ → (0 < sN σ → pl < sN σ ∧ s.testBit (sO σ pl) = true) → p = lN P → q = lN U → P ≤ 12 ^ k → U ≤ 12 ^ k → 0 < U → k ≤ 9 → ∃ P' U', (gT σ c l f k s pl o p q).2.2.1 = lN P' ∧ (gT σ c l f k s pl o p q).2.2.2 = lN U' ∧ P' ≤ 12 ^ 9 ∧ U' ≤ 12 ^ 9 ∧ 0 < U' := by
  have hn := ok.1
  have hb9 := ok.2.2.2.2.1
  intro f
  induction f with
  | zero =>
    intro k s pl o p q P U _ _ hp hq h1 h2 h3 hk
    have : 12 ^ k ≤ 12 ^ 9 := Nat.pow_le_pow_right (by omega) hk
    exact ⟨P, U, hp, hq, by omega, by omega, h3⟩
  | succ f ih =>
    intro k s pl o p q P U hs hpb hp hq h1 h2 h3 hk
    have k9 : 12 ^ k ≤ 12 ^ 9 := Nat.pow_le_pow_right (by omega) hk
    rw [gT]
    by_cases c1 : l ≤ 2 * k
    · rw [if_pos c1]; exact ⟨P, U, hp, hq, by omega, by omega, h3⟩
    · rw [if_neg c1]
      by_cases c2 : 2 * k + 1 < l ∧ gOk σ s pl k (c (2 * k)) (c (2 * k + 1))
      · rw [if_pos c2]
        obtain ⟨_, gk⟩ := c2
        have co : ¬ (sB σ ≤ k ∨ pc s ≤ 1) := gk.1
        have h0' : 0 < sN σ := by
          rcases Nat.eq_zero_or_pos (sN σ) with z | z
          · rw [z] at hs
            have : s = 0 := by omega
            subst this
            exact absurd (Or.inr (show pc 0 ≤ 1 by decide)) gk.1
          · exact z
        obtain ⟨hpl, hb⟩ := hpb h0'
        have hw := (ok.2.1 pl hpl).1
        have sp : gS s (c (2 * k)) (c (2 * k + 1)) < 2 ^ sN σ ∧ (gS s (c (2 * k)) (c (2 * k + 1))).testBit (sO σ pl) = true := by
          unfold gS
          by_cases cy : c (2 * k + 1) = 1
          · rw [if_pos cy]
            rcases gk.2.2 with ⟨_, z⟩ | ⟨_, t', h1', h2, h3, _⟩
            · rw [cy] at z; exact absurd z (by decide)
            · rw [h2, nI_clamp (by omega)]
              exact ⟨Nat.lt_of_le_of_lt (cl_le _ _) hs, cl_keep ok hs hw hb h1' h3⟩
          · rw [if_neg cy]; exact ⟨hs, hb⟩
        have pw : 12 ^ (k + 1) = 12 ^ k * 12 := Nat.pow_succ 12 k
        have bP : ∃ P', gP σ s pl k (c (2 * k)) (c (2 * k + 1)) p = lN P' ∧ P' ≤ 12 ^ (k + 1) := by
          unfold gP
          by_cases c9 : c (2 * k) = 9
          · rw [if_pos c9]; exact ⟨P, hp, by omega⟩
          · rw [if_neg c9, hp]
            have hh := sH12 ok (w := sO σ pl) (t := (c (2 * k)).toNatClampNeg) (m := pc s) (k := k) hw
            unfold gV
            by_cases cy : c (2 * k + 1) = 1
            · rw [if_pos cy, nI_l (by omega), lN_mul]
              exact ⟨_, rfl, by rw [pw]; exact Nat.mul_le_mul h1 hh⟩
            · rw [if_neg cy, show (12 : Int32) = nI 12 from rfl, pk_sub hh, nI_l (by omega), lN_mul]
              exact ⟨_, rfl, by rw [pw]; exact Nat.mul_le_mul h1 (by omega)⟩
        have bU : ∃ U', gQ (c (2 * k)) q = lN U' ∧ U' ≤ 12 ^ (k + 1) ∧ 0 < U' := by
          unfold gQ
          by_cases c9 : c (2 * k) = 9
          · rw [if_pos c9]; exact ⟨U, hq, by omega, h3⟩
          · rw [if_neg c9, hq, show (12 : Int64) = lN 12 from rfl, lN_mul]
            exact ⟨_, rfl, by rw [pw]; exact Nat.mul_le_mul h2 (Nat.le_refl _), by omega⟩
        obtain ⟨P', eP, lP⟩ := bP
        obtain ⟨U', eU, lU, pU⟩ := bU
        exact ih (k + 1) _ _ _ _ _ P' U' sp.1 (fun _ => ⟨nxp_lt hpl, nxp_bit hpl sp.2⟩) eP eU lP lU pU (by omega)
      · rw [if_neg c2]; exact ⟨P, U, hp, hq, by omega, by omega, h3⟩
theorem both_n {i : Nat} {h : Hp} (v : Inv i h) {d a ra l : Nat} (hd : d ≤ 5) (hl : l ≤ 60) (q1 : zt h a = 23) (q2 : zr h a 0 = some ra) (q3 : zn h ra = l) (hra : 42 ≤ ra) (q5 : zi h 39 d = nI l) (q4 : ∀ j, j < l → (zi h ra j).toInt64 = zj h 40 (60 * d + j) ∧ iFt 0 (zi h ra j)) : ∃ h1 b o P U, P ≤ 12 ^ 9 ∧ U ≤ 12 ^ 9 ∧ 0 < U ∧ X0_goThrough h (some a) = some ((), h1) ∧ zi h1 0 22 = b ∧ zi h1 0 23 = o ∧ zj h1 0 24 = lN P ∧ zj h1 0 25 = lN U ∧ (∀ q k, q = 38 → zi h1 q k = zi h q k) ∧ ∃ h2, X2_looksAt h1 (nI d) = some ((), h2) ∧ zi h2 17 29 = b ∧ zi h2 17 30 = o ∧ zj h2 17 31 = lN P ∧ zj h2 17 32 = lN U ∧ Inv (i + 1) h2 := by
  obtain ⟨σ, ok, g1, g2⟩ := v.sg
  obtain ⟨r, h1, e1, fr, eG⟩ := sX0_gT ok g1 q1 q2 q3 hl hra (c := zi h ra) (fun j hj => ⟨rfl, (q4 j hj).2⟩)
  have k39 : zi h1 39 d = nI l := (fr.2.1 39 d (by decide) (by decide) (by omega)).trans q5
  obtain ⟨r2, h2, e2, fr2, eG2⟩ := sX2_gT ok (g2.fS fr.fS) hd hl k39 (c := zi h ra) (fun j hj => (fr.2.2 40 _ (by decide) (by decide) (by decide) (by decide)).trans (q4 j hj).1.symm)
  obtain ⟨P, U, n1, n2, n3, n4, n5⟩ := gT_num ok (zi h ra) l 31 0 (2 ^ sN σ - 1) 0 (-2) 1 1 1 1 (all_lt σ) (fun z => ⟨z, allb ok z⟩) rfl rfl (by omega) (by omega) (by omega) (by omega)
  rw [← eG] at n1 n2
  rw [← eG] at eG2
  have x1 := congrArg (fun x => x.1) eG2
  have x2 := congrArg (fun x => x.2.1) eG2
  have x3 := congrArg (fun x => x.2.2.1) eG2
  have x4 := congrArg (fun x => x.2.2.2) eG2
  exact ⟨h1, _, _, P, U, n3, n4, n5, e1, rfl, rfl, n1, n2, fun q k hq => fr.2.1 q k (by omega) (by omega) (by omega), h2, e2, x1, x2, x3.trans n1, x4.trans n2, v.fQ (Nat.le_succ _) (fQ.mk fr.fS fr2.fS2)⟩
theorem sim_judge (i : Nat) (hi : i < 64) (x y : Int32) : Sim i (fun h => X0_judge h x y) (fun h => X2_judge h x y) := by
  intro h v
  have v' := v
  obtain ⟨n, pa, ord, plc, b, D, m, ba, vP, vO, vB, vD, vC, vT, vBo, vTr, vS, vR, vLC, vLM, vDb, vx⟩ := v'
  have same := v.fQ (Nat.le_succ i) (fQ.mk (fS.rf h) (fS2.rf h))
  have hrm := v.rm hi
  have hm := vBo.1
  by_cases c1 : 0 ≤ x ∧ x ≤ nI 5
  · obtain ⟨d, hd, rfl⟩ := nI_rg (by omega) c1.1 c1.2
    by_cases c2 : 0 ≤ y ∧ y ≤ nI 1
    · obtain ⟨ra, s1, s2⟩ := vS
      have sd := s1 d (by omega)
      have ck5 : ∀ {α : Type} (k : Option α), ck (0 ≤ (nI d).toInt ∧ (nI d).toInt < 6) k = k := fun k => ck_i (by omega) (by omega)
      have f1 : X0_judge h (nI d) y = if zcs 23 h (zr h 16 d) = true then (oc (zr h 16 d) (some ((-11 : Int32), zga h 1 8)) fun a16 => bd (X23_size h a16) fun r18 h17 => bd (X0_goThrough h17 (some a16)) fun _ h19 => if y = 0 then (some (zi h19 0 22, h19)) else (if (zi h19 0 22) < 0 then (some (zi h19 0 23, h19)) else (some ((-2 : Int32), h19)))) else some ((-12 : Int32), zga h 3 1210) := by
        unfold X0_judge
        rw [sX0_isSh, bd_s, if_neg (fun z => (pB0.mp z) c1), show (1 : Int32) = nI 1 from rfl, sX0_inN, bd_s, if_neg (fun z => (pB0.mp z) c2), ck5, nI_clamp (by omega), nm_u, ck_t (show zc h + 1 ≤ zLC ∧ zs h + 8 ≤ zLS by omega), nm_u, ck_t (show zc h + 3 ≤ zLC ∧ zs h + 1210 ≤ zLS by omega), nm_u]
      have f2 : ∀ h', X2_judge h' (nI d) y = if 0 ≤ zi h' 38 d then (if zi h' 38 d = (50 : Int32) then (bd (X2_looksAt h' (nI d)) fun _ h11 => if y = 0 then (some (zi h11 17 29, h11)) else (if (zi h11 17 29) < 0 then (some (zi h11 17 30, h11)) else (some ((-2 : Int32), h11)))) else (some ((-12 : Int32), h'))) else (some ((-11 : Int32), h')) := by
        intro h'
        unfold X2_judge
        rw [sX2_isSh, bd_s, if_neg (fun z => (pB0.mp z) c1), show (1 : Int64) = lN 1 from rfl, sX2_w0 _ _ 1 (by omega), bd_s, if_neg (fun z => (pB0.mp z) c2), ck5, ck5, nI_clamp (by omega)]
      rcases id sd with ⟨e1, e2⟩ | ⟨k, hk, e1, e2⟩ | ⟨a, s, l, e1, b2, b3, b4, b5, b6, b7, b8, b9, b10, b11, e2, e3, b14⟩
      · refine ⟨-11, zga h 1 8, zga h 1 8, ?_, ?_, v.ga (by omega) (by omega)⟩
        · show X0_judge h (nI d) y = _
          rw [f1, e1]; rfl
        · show X2_judge _ (nI d) y = _
          rw [f2, show zi (zga h 1 8) 38 d = -1 from e2, if_neg (by decide)]
      · refine ⟨-12, zga h 3 1210, zga h 3 1210, ?_, ?_, v.ga (by omega) (by omega)⟩
        · show X0_judge h (nI d) y = _
          rw [f1, e1, zcs_b vBo hk, if_neg (by decide)]
        · show X2_judge _ (nI d) y = _
          rw [f2, show zi (zga h 3 1210) 38 d = nI k from e2, if_pos (nI_pos' (by omega)), if_neg (fun w => by have := (nI_eq (by omega) (by omega)).mp (show nI k = nI 50 from w); omega)]
      · by_cases hs : s = 0
        · subst hs
          obtain ⟨h1, bb, oo, P, U, _, _, _, g1, g2, g3, _, _, g38, h2, g6, g7, g8, _, _, gI⟩ := both_n v hd b11 b5 b6 b10 b7 e3 (fun j hj => b14 j hj)
          have hz23 : zcs 23 h (some a) = true := by
            show zsub 23 (zt h a) = true
            rw [b5]; decide
          have sz : X23_size h a = some (nI l, h) := by
            unfold X23_size; rw [nm_u, b6, dr_s, b10]
          have cl : X0_judge h (nI d) y = some ((if y = 0 then bb else if bb < 0 then oo else -2), h1) := by
            rw [f1, e1, if_pos hz23, oc_1, sz, bd_s, g1, bd_s, g2, g3]
            by_cases y0 : y = 0
            · rw [if_pos y0, if_pos y0]
            · rw [if_neg y0, if_neg y0]
              by_cases b0 : bb < 0
              · rw [if_pos b0, if_pos b0]
              · rw [if_neg b0, if_neg b0]
          have mo : X2_judge h1 (nI d) y = some ((if y = 0 then bb else if bb < 0 then oo else -2), h2) := by
            rw [f2, (g38 38 d rfl).trans e2, if_pos (by decide), if_pos (by decide), g6, bd_s, g7, g8]
            by_cases y0 : y = 0
            · rw [if_pos y0, if_pos y0]
            · rw [if_neg y0, if_neg y0]
              by_cases b0 : bb < 0
              · rw [if_pos b0, if_pos b0]
              · rw [if_neg b0, if_neg b0]
          exact ⟨_, h1, h2, cl, mo, gI⟩
        · refine ⟨-12, zga h 3 1210, zga h 3 1210, ?_, ?_, v.ga (by omega) (by omega)⟩
          · show X0_judge h (nI d) y = _
            rw [f1, e1, if_neg]
            rw [show zcs 23 h (some a) = _ from zcs_row (s := 0) (by omega) b4 b5]
            intro u
            exact hs (of_decide_eq_true u).symm
          · show X2_judge _ (nI d) y = _
            rw [f2, show zi (zga h 3 1210) 38 d = nI (50 + s) from e2, if_pos (nI_pos' (by omega)), if_neg (fun w => by have := (nI_eq (by omega) (by omega)).mp (show nI (50 + s) = nI 50 from w); omega)]
    · refine ⟨-1, h, h, ?_, ?_, same⟩
      · show X0_judge h (nI d) y = _
        unfold X0_judge
        rw [sX0_isSh, bd_s, if_neg (fun z => (pB0.mp z) c1), show (1 : Int32) = nI 1 from rfl, sX0_inN, bd_s, if_pos (pB0.mpr c2)]
      · show X2_judge h (nI d) y = _
        unfold X2_judge
        rw [sX2_isSh, bd_s, if_neg (fun z => (pB0.mp z) c1), show (1 : Int64) = lN 1 from rfl, sX2_w0 _ _ 1 (by omega), bd_s, if_pos (pB0.mpr c2)]
  · refine ⟨-1, h, h, ?_, ?_, same⟩
    · show X0_judge h x y = _
      unfold X0_judge
      rw [sX0_isSh, bd_s, if_pos (pB0.mpr c1)]
    · show X2_judge h x y = _
      unfold X2_judge
      rw [sX2_isSh, bd_s, if_pos (pB0.mpr c1)]
theorem sim_chance (i : Nat) (hi : i < 64) (x y : Int32) : Sim i (fun h => X0_chance h x y) (fun h => X2_chance h x y) := by
  intro h v
  have v' := v
  obtain ⟨n, pa, ord, plc, b, D, m, ba, vP, vO, vB, vD, vC, vT, vBo, vTr, vS, vR, vLC, vLM, vDb, vx⟩ := v'
  have same := v.fQ (Nat.le_succ i) (fQ.mk (fS.rf h) (fS2.rf h))
  have hrm := v.rm hi
  have hm := vBo.1
  by_cases c1 : 0 ≤ x ∧ x ≤ nI 5
  · obtain ⟨d, hd, rfl⟩ := nI_rg (by omega) c1.1 c1.2
    by_cases c2 : 0 ≤ y ∧ y ≤ nI 1
    · obtain ⟨ra, s1, s2⟩ := vS
      have sd := s1 d (by omega)
      have ck5 : ∀ {α : Type} (k : Option α), ck (0 ≤ (nI d).toInt ∧ (nI d).toInt < 6) k = k := fun k => ck_i (by omega) (by omega)
      have f1 : X0_chance h (nI d) y = if zcs 23 h (zr h 16 d) = true then (oc (zr h 16 d) (some ((-9223372036854775808 : Int64), zga h 1 8)) fun a16 => bd (X23_size h a16) fun r18 h17 => bd (X0_goThrough h17 (some a16)) fun _ h19 => if (zi h19 0 22) < 0 then (bd (X0_part h19 (zj h19 0 24) (zj h19 0 25) y) fun r23 h22 => some (r23, h22)) else (some (y.toInt64, h19))) else some ((-9223372036854775808 : Int64), zga h 3 1210) := by
        unfold X0_chance
        rw [sX0_isSh, bd_s, if_neg (fun z => (pB0.mp z) c1), show (1 : Int32) = nI 1 from rfl, sX0_inN, bd_s, if_neg (fun z => (pB0.mp z) c2), ck5, nI_clamp (by omega), nm_u, ck_t (show zc h + 1 ≤ zLC ∧ zs h + 8 ≤ zLS by omega), nm_u, ck_t (show zc h + 3 ≤ zLC ∧ zs h + 1210 ≤ zLS by omega), nm_u]
      have f2 : ∀ h', X2_chance h' (nI d) y = if zi h' 38 d = (50 : Int32) then (bd (X2_looksAt h' (nI d)) fun _ h9 => if (zi h9 17 29) < 0 then (bd (X2_common h9 (zj h9 17 31) (zj h9 17 32)) fun r13 h12 => if y = 0 then (ck (¬ r13 = 0) <| some ((zj h12 17 31) / r13, h12)) else (ck (¬ r13 = 0) <| some ((zj h12 17 32) / r13, h12))) else (some (y.toInt64, h9))) else (some ((-9223372036854775808 : Int64), h')) := by
        intro h'
        unfold X2_chance
        rw [sX2_isSh, bd_s, if_neg (fun z => (pB0.mp z) c1), show (1 : Int64) = lN 1 from rfl, sX2_w0 _ _ 1 (by omega), bd_s, if_neg (fun z => (pB0.mp z) c2), ck5, nI_clamp (by omega)]
      rcases id sd with ⟨e1, e2⟩ | ⟨k, hk, e1, e2⟩ | ⟨a, s, l, e1, b2, b3, b4, b5, b6, b7, b8, b9, b10, b11, e2, e3, b14⟩
      · refine ⟨-9223372036854775808, zga h 1 8, zga h 1 8, ?_, ?_, v.ga (by omega) (by omega)⟩
        · show X0_chance h (nI d) y = _
          rw [f1, e1]; rfl
        · show X2_chance _ (nI d) y = _
          rw [f2, show zi (zga h 1 8) 38 d = -1 from e2, if_neg (by decide)]
      · refine ⟨-9223372036854775808, zga h 3 1210, zga h 3 1210, ?_, ?_, v.ga (by omega) (by omega)⟩
        · show X0_chance h (nI d) y = _
          rw [f1, e1, zcs_b vBo hk, if_neg (by decide)]
        · show X2_chance _ (nI d) y = _
          rw [f2, show zi (zga h 3 1210) 38 d = nI k from e2, if_neg (fun w => by have := (nI_eq (by omega) (by omega)).mp (show nI k = nI 50 from w); omega)]
      · by_cases hs : s = 0
        · subst hs
          obtain ⟨h1, bb, oo, P, U, l1, l2, l3, g1, g2, g3, g4, g5, g38, h2, g6, g7, g8, g9, g10, gI⟩ := both_n v hd b11 b5 b6 b10 b7 e3 (fun j hj => b14 j hj)
          have hz23 : zcs 23 h (some a) = true := by
            show zsub 23 (zt h a) = true
            rw [b5]; decide
          have sz : X23_size h a = some (nI l, h) := by
            unfold X23_size; rw [nm_u, b6, dr_s, b10]
          have n12 : 12 ^ 9 < 2 ^ 62 := by decide
          have cl : X0_chance h (nI d) y = some ((if bb < 0 then qPart P U y else y.toInt64), h1) := by
            rw [f1, e1, if_pos hz23, oc_1, sz, bd_s, g1, bd_s, g2, g4, g5]
            by_cases b0 : bb < 0
            · rw [if_pos b0, if_pos b0, sX0_part h1 (by omega) (by omega) l3, bd_s]
            · rw [if_neg b0, if_neg b0]
          have mo : X2_chance h1 (nI d) y = some ((if bb < 0 then qPart P U y else y.toInt64), h2) := by
            rw [f2, (g38 38 d rfl).trans e2, if_pos (by decide), g6, bd_s, g7]
            by_cases b0 : bb < 0
            · have hg : Nat.gcd P U ≤ U := Nat.le_of_dvd l3 (Nat.gcd_dvd_right P U)
              have hg0 : 0 < Nat.gcd P U := Nat.gcd_pos_of_pos_right P l3
              have hz : ¬ lN (Nat.gcd P U) = (0 : Int64) := fun z => by have := (pk_lEQ (by omega) (by omega)).mp (show lN (Nat.gcd P U) = lN 0 from z); omega
              rw [if_pos b0, if_pos b0, g9, g10, sX2_common h2 (by omega) (by omega), bd_s, g9, g10]
              unfold qPart
              by_cases y0 : y = 0
              · rw [if_pos y0, if_pos y0, ck_t hz]
              · rw [if_neg y0, if_neg y0, ck_t hz]
            · rw [if_neg b0, if_neg b0]
          exact ⟨_, h1, h2, cl, mo, gI⟩
        · refine ⟨-9223372036854775808, zga h 3 1210, zga h 3 1210, ?_, ?_, v.ga (by omega) (by omega)⟩
          · show X0_chance h (nI d) y = _
            rw [f1, e1, if_neg]
            rw [show zcs 23 h (some a) = _ from zcs_row (s := 0) (by omega) b4 b5]
            intro u
            exact hs (of_decide_eq_true u).symm
          · show X2_chance _ (nI d) y = _
            rw [f2, show zi (zga h 3 1210) 38 d = nI (50 + s) from e2, if_neg (fun w => by have := (nI_eq (by omega) (by omega)).mp (show nI (50 + s) = nI 50 from w); omega)]
    · refine ⟨-9223372036854775808, h, h, ?_, ?_, same⟩
      · show X0_chance h (nI d) y = _
        unfold X0_chance
        rw [sX0_isSh, bd_s, if_neg (fun z => (pB0.mp z) c1), show (1 : Int32) = nI 1 from rfl, sX0_inN, bd_s, if_pos (pB0.mpr c2)]
      · show X2_chance h (nI d) y = _
        unfold X2_chance
        rw [sX2_isSh, bd_s, if_neg (fun z => (pB0.mp z) c1), show (1 : Int64) = lN 1 from rfl, sX2_w0 _ _ 1 (by omega), bd_s, if_pos (pB0.mpr c2)]
  · refine ⟨-9223372036854775808, h, h, ?_, ?_, same⟩
    · show X0_chance h x y = _
      unfold X0_chance
      rw [sX0_isSh, bd_s, if_pos (pB0.mpr c1)]
    · show X2_chance h x y = _
      unfold X2_chance
      rw [sX2_isSh, bd_s, if_pos (pB0.mpr c1)]
