/-! taken -/
def uV (j p : Nat) : Bool := if j = p then true else if j = 0 then false else if j = 3 then (p == 2 || p == 0) else if j = 4 then (p == 1 || p == 0) else if j = 5 then (p == 3 || p == 2 || p == 0) else if j = 7 then (p == 4 || p == 1 || p == 0) else p == 0
theorem c8 {j : Nat} (h : j ≤ 7) : j = 0 ∨ j = 1 ∨ j = 2 ∨ j = 3 ∨ j = 4 ∨ j = 5 ∨ j = 6 ∨ j = 7 := by omega
theorem sV_kind {h : Hp} {a j : Nat} (hj : j ≤ 7) (ht : zt h a = 14 + j) : V14_kind h a = some (nI j, h) := by
  unfold V14_kind
  rw [ht]
  rcases c8 hj with rfl | rfl | rfl | rfl | rfl | rfl | rfl | rfl <;> rfl
theorem sV_under {h : Hp} {a j p : Nat} (hj : j ≤ 7) (hp : p ≤ 7) (ht : zt h a = 14 + j) : V14_isUnder h a (nI p) = some ((if uV j p = true then 1 else 0), h) := by
  have k := sV_kind hj ht
  unfold V14_isUnder
  rw [ht]
  rcases c8 hj with rfl | rfl | rfl | rfl | rfl | rfl | rfl | rfl
  all_goals first | rw [if_pos rfl] | rw [if_neg (by decide), if_pos rfl] | rw [if_neg (by decide), if_neg (by decide), if_pos rfl] | rw [if_neg (by decide), if_neg (by decide), if_neg (by decide), if_pos rfl] | rw [if_neg (by decide), if_neg (by decide), if_neg (by decide), if_neg (by decide), if_pos rfl] | rw [if_neg (by decide), if_neg (by decide), if_neg (by decide), if_neg (by decide), if_neg (by decide), if_pos rfl] | rw [if_neg (by decide), if_neg (by decide), if_neg (by decide), if_neg (by decide), if_neg (by decide), if_neg (by decide), if_pos rfl] | rw [if_neg (by decide), if_neg (by decide), if_neg (by decide), if_neg (by decide), if_neg (by decide), if_neg (by decide), if_neg (by decide), if_pos rfl]
  · unfold X14_isUnder; rw [k]; rcases c8 hp with rfl | rfl | rfl | rfl | rfl | rfl | rfl | rfl <;> rfl
  · unfold X15_isUnder X14_isUnder; rw [k]; rcases c8 hp with rfl | rfl | rfl | rfl | rfl | rfl | rfl | rfl <;> rfl
  · unfold X16_isUnder X14_isUnder; rw [k]; rcases c8 hp with rfl | rfl | rfl | rfl | rfl | rfl | rfl | rfl <;> rfl
  · unfold X17_isUnder X16_isUnder X14_isUnder; rw [k]; rcases c8 hp with rfl | rfl | rfl | rfl | rfl | rfl | rfl | rfl <;> rfl
  · unfold X18_isUnder X15_isUnder X14_isUnder; rw [k]; rcases c8 hp with rfl | rfl | rfl | rfl | rfl | rfl | rfl | rfl <;> rfl
  · unfold X17_isUnder X16_isUnder X14_isUnder; rw [k]; rcases c8 hp with rfl | rfl | rfl | rfl | rfl | rfl | rfl | rfl <;> rfl
  · unfold X14_isUnder; rw [k]; rcases c8 hp with rfl | rfl | rfl | rfl | rfl | rfl | rfl | rfl <;> rfl
  · unfold X18_isUnder X15_isUnder X14_isUnder; rw [k]; rcases c8 hp with rfl | rfl | rfl | rfl | rfl | rfl | rfl | rfl <;> rfl
theorem sX2_tk {h : Hp} {j p : Nat} (hj : j ≤ 7) (hp : p ≤ 7) (J : Hp → Int32 → Option (Int32 × Hp)) : zfix (fun _ _ => none) (X2_taken_b58 (nI p) J) zFU h (nI j) = J h (if uV j p = true then nI p else 0) := by
  rw [show zFU = 4091 + 1 + 1 + 1 + 1 + 1 from rfl]
  rcases c8 hj with rfl | rfl | rfl | rfl | rfl | rfl | rfl | rfl
  all_goals (rcases c8 hp with rfl | rfl | rfl | rfl | rfl | rfl | rfl | rfl <;> rfl)
theorem sim_taken (i : Nat) (hi : i < 64) (x y : Int32) : Sim i (fun h => X0_taken h x y) (fun h => X2_taken h x y) := by
  intro h v
  have v' := v
  obtain ⟨n, pa, ord, plc, b, D, m, ba, vP, vO, vB, vD, vC, vT, vBo, vTr, vS, vR, vLC, vLM, vDb, vx⟩ := v'
  have same := v.fQ (Nat.le_succ i) (fQ.mk (fS.rf h) (fS2.rf h))
  have hrm := v.rm hi
  have hm := vBo.1
  by_cases c1 : 0 ≤ x ∧ x ≤ nI 5
  · obtain ⟨d, hd, rfl⟩ := nI_rg (by omega) c1.1 c1.2
    by_cases c2 : 0 ≤ y ∧ y ≤ nI 7
    · obtain ⟨p, hp, rfl⟩ := nI_rg (by omega) c2.1 c2.2
      obtain ⟨ra, s1, s2⟩ := vS
      have sd := s1 d (by omega)
      have c0 : X0_taken h (nI d) (nI p) = if zcs 52 h (zr h 16 d) = true then (oc (zr h 16 d) (some ((-11 : Int32), zga h 1 8)) fun a16 => bd (V14_isUnder h a16 (nI p)) fun r18 h17 => if r18 = 0 then (some ((-12 : Int32), h17)) else (bd (V14_kind h17 a16) fun r21 h20 => some (r21, h20))) else some ((-12 : Int32), zga h 3 1210) := by
        unfold X0_taken
        rw [sX0_isSh, bd_s, if_neg (fun z => (pB0.mp z) c1), show (7 : Int32) = nI 7 from rfl, sX0_inN, bd_s, if_neg (fun z => (pB0.mp z) c2), ck_i (by omega) (by omega), nI_clamp (by omega), nm_u, ck_t (show zc h + 1 ≤ zLC ∧ zs h + 8 ≤ zLS by omega), nm_u, ck_t (show zc h + 3 ≤ zLC ∧ zs h + 1210 ≤ zLS by omega), nm_u]
      have m0 : ∀ h', X2_taken h' (nI d) (nI p) = if 0 ≤ zi h' 38 d then (if zi h' 38 d < (50 : Int32) then (bd (X2_kindOf h' (zi h' 38 d)) fun r13 h12 => nm (fun (h14 : Hp) (v15 : Int32) => if v15 = nI p then (bd (X2_kindOf h14 (zi h14 38 d)) fun r20 h19 => some (r20, h19)) else (some ((-12 : Int32), h14))) fun j75_16 => zfix (fun _ _ => none) (X2_taken_b58 (nI p) j75_16) zFU h12 r13) else (some ((-12 : Int32), h'))) else (some ((-11 : Int32), h')) := by
        intro h'
        unfold X2_taken
        have ck5 : ∀ {α : Type} (k : Option α), ck (0 ≤ (nI d).toInt ∧ (nI d).toInt < 6) k = k := fun k => ck_i (by omega) (by omega)
        rw [sX2_isSh, bd_s, if_neg (fun z => (pB0.mp z) c1), show (7 : Int64) = lN 7 from rfl, sX2_w0 _ _ 7 (by omega), bd_s, if_neg (fun z => (pB0.mp z) c2)]
        simp only [ck5, nI_clamp (show d < 2 ^ 31 by omega)]
      rcases id sd with ⟨e1, e2⟩ | ⟨k, hk, e1, e2⟩ | ⟨a, s, l, e1, b2, b3, b4, b5, b6, b7, b8, b9, b10, b11, e2, e3, b14⟩
      · refine ⟨-11, zga h 1 8, zga h 1 8, ?_, ?_, v.ga (by omega) (by omega)⟩
        · show X0_taken h (nI d) (nI p) = _
          rw [c0, e1]; rfl
        · show X2_taken _ (nI d) (nI p) = _
          rw [m0, show zi (zga h 1 8) 38 d = -1 from e2, if_neg (by decide)]
      · obtain ⟨q1, q2, q3, q4, j, q5, q6, q7, q8⟩ := vBo.2.2.2 k hk
        have hz : zcs 52 h (some (ba k)) = true := by
          show zsub 52 (zt h (ba k)) = true
          rw [q6]
          rcases c8 q5 with rfl | rfl | rfl | rfl | rfl | rfl | rfl | rfl <;> decide
        have kO : X2_kindOf h (nI k) = some (nI j, h) := by
          unfold X2_kindOf
          rw [ck_i (by omega) (by omega), nI_clamp (by omega), q7]
        have mm : X2_taken h (nI d) (nI p) = if (if uV j p = true then nI p else 0) = nI p then some (nI j, h) else some (-12, h) := by
          rw [m0, e2, if_pos (nI_pos' (by omega)), if_pos (by rw [show (50 : Int32) = nI 50 from rfl, Int32.lt_iff_toInt_lt, nI_toInt (by omega), nI_toInt (by omega)]; omega), kO, bd_s, nm_u, sX2_tk q5 hp]
          show (if _ = nI p then bd (X2_kindOf h (zi h 38 d)) _ else _) = _
          rw [e2, kO, bd_s]
        by_cases u : uV j p = true
        · refine ⟨nI j, h, h, ?_, ?_, same⟩
          · show X0_taken h (nI d) (nI p) = _
            rw [c0, e1, if_pos hz, oc_s', sV_under q5 hp q6, bd_s, if_pos u, if_neg (by decide), sV_kind q5 q6, bd_s]
          · show X2_taken _ (nI d) (nI p) = _
            rw [mm, if_pos u, if_pos rfl]
        · refine ⟨-12, h, h, ?_, ?_, same⟩
          · show X0_taken h (nI d) (nI p) = _
            rw [c0, e1, if_pos hz, oc_s', sV_under q5 hp q6, bd_s, if_neg u, if_pos rfl]
          · show X2_taken _ (nI d) (nI p) = _
            rw [mm, if_neg u, if_neg]
            intro z
            have : p = 0 := ((nI_eq (by omega) (by omega)).mp (show nI 0 = nI p from z)).symm
            subst this
            apply u
            rcases c8 q5 with rfl | rfl | rfl | rfl | rfl | rfl | rfl | rfl <;> decide
      · refine ⟨-12, zga h 3 1210, zga h 3 1210, ?_, ?_, v.ga (by omega) (by omega)⟩
        · show X0_taken h (nI d) (nI p) = _
          rw [c0, e1, if_neg]
          show ¬ zsub 52 (zt h a) = true
          rw [b5]
          rcases s5 b4 with rfl | rfl | rfl | rfl | rfl <;> decide
        · show X2_taken _ (nI d) (nI p) = _
          rw [m0, show zi (zga h 3 1210) 38 d = nI (50 + s) from e2, if_pos (nI_pos' (by omega)), if_neg (by rw [show (50 : Int32) = nI 50 from rfl, Int32.lt_iff_toInt_lt, nI_toInt (by omega), nI_toInt (by omega)]; omega)]
    · refine ⟨-1, h, h, ?_, ?_, same⟩
      · show X0_taken h (nI d) y = _
        unfold X0_taken
        rw [sX0_isSh, bd_s, if_neg (fun z => (pB0.mp z) c1), show (7 : Int32) = nI 7 from rfl, sX0_inN, bd_s, if_pos (pB0.mpr c2)]
      · show X2_taken h (nI d) y = _
        unfold X2_taken
        rw [sX2_isSh, bd_s, if_neg (fun z => (pB0.mp z) c1), show (7 : Int64) = lN 7 from rfl, sX2_w0 _ _ 7 (by omega), bd_s, if_pos (pB0.mpr c2)]
  · refine ⟨-1, h, h, ?_, ?_, same⟩
    · show X0_taken h x y = _
      unfold X0_taken
      rw [sX0_isSh, bd_s, if_pos (pB0.mpr c1)]
    · show X2_taken h x y = _
      unfold X2_taken
      rw [sX2_isSh, bd_s, if_pos (pB0.mpr c1)]
