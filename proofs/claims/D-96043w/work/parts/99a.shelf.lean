/-! SHELVES: rows and what is thrown: element, put, taken -/
/-- arrays of rows and the model's items may change, nothing else -/
def oldA (h h' : Hp) : Prop := zx h' = zx h ∧ zt h' = zt h ∧ zn h' = zn h ∧ zr h' = zr h ∧ (∀ q, 42 ≤ q → zt h q < 100 → zi h' q = zi h q) ∧ (∀ q, q < 42 → zi h' q = zi h q) ∧ ∀ q, q < 40 → zj h' q = zj h q
theorem oldA.rf (h : Hp) : oldA h h := ⟨rfl, rfl, rfl, rfl, fun _ _ _ => rfl, fun _ _ => rfl, fun _ _ => rfl⟩
theorem Inv.oa {i : Nat} {h h' : Hp} (v : Inv i h) (o : oldA h h') (hR : iR h' (i + 1)) (hS : ∀ m ba, iBo h m ba → iS h m ba → iS h' m ba) : Inv (i + 1) h' := by
  obtain ⟨n, pa, ord, plc, b, D, m, ba, vP, vO, vB, vD, vC, vT, vBo, vTr, vS, vR, vLC, vLM, vDb, vx⟩ := v
  obtain ⟨ox, ot, on, or, oi, oi2, oj⟩ := o
  have I : ∀ q, q < 42 → zi h' q = zi h q := oi2
  refine ⟨n, pa, ord, plc, b, D, m, ba, ⟨vP.1, by rw [I 0 (by omega)]; exact vP.2.1, by rw [I 17 (by omega)]; exact vP.2.2.1, fun p hp => ?_, vP.2.2.2.2⟩, vO.lo (I 2 (by omega)) (I 22 (by omega)) (I 23 (by omega)), vB.ol (by rw [I 0 (by omega)]) (by rw [I 17 (by omega)]) (I 3 (by omega)) (I 24 (by omega)) (oj 10 (by omega)), vD.lo (fun k _ _ => by rw [I 0 (by omega)]) (fun k _ _ => by rw [I 17 (by omega)]), ?_, vT.lo (by rw [I 0 (by omega)]) (by rw [I 17 (by omega)]) (I 26 (by omega)) (I 5 (by omega)), ⟨vBo.1, by rw [I 0 (by omega)]; exact vBo.2.1, by rw [I 17 (by omega)]; exact vBo.2.2.1, fun k hk => ?_⟩, vTr.lo (by rw [I 0 (by omega)]) (by rw [I 17 (by omega)]) (I 14 (by omega)) (I 37 (by omega)), hS m ba vBo vS, hR, vLC.fr ⟨by rw [or], by rw [ox]; exact Nat.le_refl _, fun q h1 h2 h3 => ⟨by rw [ot], fun k => ⟨by rw [oi q h1 (by omega)], by rw [or]⟩⟩⟩, vLM.fr ⟨by rw [I 17 (by omega)], fun k => by rw [I 27 (by omega)]⟩, vDb, by rw [ox]; exact vx⟩
  · have q := vP.2.2.2.1 p hp
    rw [or, ox, ot, I 18 (by omega), oi _ q.2.1 (by rw [q.2.2.2.1]; decide)]
    exact q
  · obtain ⟨d, u, b1, b2, b3, b4, b5, b6⟩ := vC
    refine ⟨d, u, b1, by rw [I 0 (by omega)]; exact b2, by rw [I 0 (by omega)]; exact b3, by rw [I 17 (by omega)]; exact b4, by rw [I 17 (by omega)]; exact b5, fun k hk => ?_⟩
    obtain ⟨a, w, p, x1, x2, x3, x4, x5⟩ := b6 k hk
    refine ⟨a, w, p, ?_⟩
    rw [or, ox, ot, oi a x2 (by rw [x4]; decide), I 19 (by omega), I 20 (by omega), I 21 (by omega)]
    exact ⟨x1, x2, x3, x4, x5⟩
  · have q := vBo.2.2.2 k hk
    obtain ⟨q1, q2, q3, q4, j, q5, q6, q7⟩ := q
    rw [or, ox, ot, I 36 (by omega), oi _ q2 (by rw [q6]; omega)]
    exact ⟨q1, q2, q3, q4, j, q5, q6, q7⟩
theorem iR.ga {i : Nat} {h : Hp} (v : iR h i) {k w : Nat} (hk : k ≤ 100) (hw : w ≤ 5000) : iR (zga h k w) (i + 1) := by
  refine ⟨?_, ?_⟩
  · show zc h + k ≤ _
    have := v.1
    omega
  · show zs h + w ≤ _
    have := v.2
    omega
theorem Inv.ga {i : Nat} {h : Hp} (v : Inv i h) {k w : Nat} (hk : k ≤ 100) (hw : w ≤ 5000) : Inv (i + 1) (zga h k w) := by
  have v' := v
  obtain ⟨n, pa, ord, plc, b, D, m, ba, vP, vO, vB, vD, vC, vT, vBo, vTr, vS, vR, vLC, vLM, vDb, vx⟩ := v'
  exact v.oa ⟨rfl, rfl, rfl, rfl, fun _ _ _ => rfl, fun _ _ => rfl, fun _ _ => rfl⟩ (vR.ga hk hw) (fun _ _ _ s => s)
theorem Inv.rm {i : Nat} {h : Hp} (v : Inv i h) (hi : i < 64) : zc h + 8000 ≤ zLC ∧ zs h + 90000 ≤ zLS := by
  obtain ⟨n, pa, ord, plc, b, D, m, ba, vP, vO, vB, vD, vC, vT, vBo, vTr, vS, vR, vLC, vLM, vDb, vx⟩ := v
  obtain ⟨h1, h2⟩ := vR
  unfold zLC zLS
  omega
/-- a row's sort, as a number -/
theorem s5 {s : Nat} (h : s < 5) : s = 0 ∨ s = 1 ∨ s = 2 ∨ s = 3 ∨ s = 4 := by omega
theorem i64_b {x : Int32} (h : fits .boolean (.int x) = true) : x = 0 ∨ x = 1 := by
  simp only [fits, Bool.or_eq_true, beq_iff_eq] at h
  exact h
section Rows
variable {h : Hp} {a ra s l : Nat} (ht : zt h a = 23 + s) (hs : s < 5) (hr : zr h a 0 = some ra) (hn : zn h ra = l) (hl : l ≤ 60)
theorem sR_at (ht : zt h a = 23 + s) (hs : s < 5) (hr : zr h a 0 = some ra) (hn : zn h ra = l) (hl : l ≤ 60) {i : Nat} (hi : i < l) (hf : iFt s (zi h ra i)) : V22_at h a (nI i) = some ((if s = 3 then zj h ra i else (zi h ra i).toInt64), h) := by
  have hc : ∀ {β : Type} (k : Option β), ck (0 ≤ (nI i).toInt ∧ (nI i).toInt < (zn h ra : Int)) k = k := fun k => by rw [hn]; exact ck_i (by omega) (by omega)
  rcases s5 hs with rfl | rfl | rfl | rfl | rfl
  · rw [V22_at_23 ht]; unfold X23_at; rw [nm_u, hr, dr_s, hc, nI_clamp (by omega)]; rfl
  · rw [V22_at_24 ht]; unfold X24_at; rw [nm_u, hr, dr_s, hc, nI_clamp (by omega)]; rfl
  · rw [V22_at_25 ht]; unfold X25_at; rw [nm_u, hr, dr_s, hc, nI_clamp (by omega)]; rfl
  · rw [V22_at_26 ht]; unfold X26_at; rw [nm_u, hr, dr_s, hc, nI_clamp (by omega)]; rfl
  · rw [V22_at_27 ht]; unfold X27_at; rw [nm_u, hr, dr_s, hc, nI_clamp (by omega)]
    rcases hf with z | z
    · omega
    · rcases i64_b z with e | e
      · rw [e]; rfl
      · rw [e]; rfl
theorem sR_atT (ht : zt h a = 23 + s) (hs : s < 5) (hr : zr h a 0 = some ra) (hn : zn h ra = l) (hl : l ≤ 60) {x : Int32} (hx : ¬ (0 ≤ x.toInt ∧ x.toInt < (l : Int))) (hrm : zc h + 8000 ≤ zLC ∧ zs h + 90000 ≤ zLS) : V22_atTi h a x = some ((), zga h 3 222) := by
  have hc : ∀ {β : Type} (k : Option β), ck (¬ (0 ≤ x.toInt ∧ x.toInt < (zn h ra : Int))) k = k := fun k => ck_t (by rw [hn]; exact hx)
  have hc2 : ∀ {β : Type} (k : Option β), ck (zn h ra < 2 ^ 31 ∧ zc h + 3 ≤ zLC ∧ zs h + 222 ≤ zLS) k = k := fun k => ck_t (by rw [hn]; omega)
  rcases s5 hs with rfl | rfl | rfl | rfl | rfl
  · rw [V22_atTi_23 ht]; unfold X23_atTi; rw [nm_u, hr, dr_s, hc, hc2, nm_u]
  · rw [V22_atTi_24 ht]; unfold X24_atTi; rw [nm_u, hr, dr_s, hc, hc2, nm_u]
  · rw [V22_atTi_25 ht]; unfold X25_atTi; rw [nm_u, hr, dr_s, hc, hc2, nm_u]
  · rw [V22_atTi_26 ht]; unfold X26_atTi; rw [nm_u, hr, dr_s, hc, hc2, nm_u]
  · rw [V22_atTi_27 ht]; unfold X27_atTi; rw [nm_u, hr, dr_s, hc, hc2, nm_u]
theorem tc_n {α : Type} (k : Hp → Option α) (n : Option α) : tc none k n = n := rfl
theorem tc_s {α : Type} (h1 : Hp) (k : Hp → Option α) (n : Option α) : tc (some ((), h1)) k n = k h1 := rfl
theorem oc_s' {α : Type} (a : Nat) (n : Option α) (k : Nat → Option α) : oc (some a) n k = k a := rfl
theorem ck_f {α : Type} {c : Prop} [Decidable c] {k : Option α} (h : ¬ c) : ck c k = none := if_neg h
theorem sR_atN (ht : zt h a = 23 + s) (hs : s < 5) (hr : zr h a 0 = some ra) (hn : zn h ra = l) {x : Int32} (hx : 0 ≤ x.toInt ∧ x.toInt < (l : Int)) : V22_atTi h a x = none := by
  have hc : ∀ {β : Type} (k : Option β), ck (¬ (0 ≤ x.toInt ∧ x.toInt < (zn h ra : Int))) k = none := fun k => ck_f (by rw [hn]; exact fun z => z hx)
  rcases s5 hs with rfl | rfl | rfl | rfl | rfl
  · rw [V22_atTi_23 ht]; unfold X23_atTi; rw [nm_u, hr, dr_s, hc]
  · rw [V22_atTi_24 ht]; unfold X24_atTi; rw [nm_u, hr, dr_s, hc]
  · rw [V22_atTi_25 ht]; unfold X25_atTi; rw [nm_u, hr, dr_s, hc]
  · rw [V22_atTi_26 ht]; unfold X26_atTi; rw [nm_u, hr, dr_s, hc]
  · rw [V22_atTi_27 ht]; unfold X27_atTi; rw [nm_u, hr, dr_s, hc]
/-- what a row of sort s keeps of a long -/
def rK (s : Nat) (v : Int64) : Int32 := if s = 0 then v.toInt32.toInt8.toInt32 else if s = 1 then v.toInt32.toInt16.toInt32 else if s = 2 then v.toInt32 else if v = 0 then 0 else 1
def rH (h : Hp) (ra s i : Nat) (v : Int64) : Hp := if s = 3 then zsj h ra i v else zsi h ra i (rK s v)
theorem nar_b (x : Int32) : vp_nar .byte x.toInt8.toInt32 = x.toInt8.toInt32 := by
  show x.toInt8.toInt32.toInt8.toInt32 = x.toInt8.toInt32
  simp
theorem nar_s (x : Int32) : vp_nar .short x.toInt16.toInt32 = x.toInt16.toInt32 := by
  show x.toInt16.toInt32.toInt16.toInt32 = x.toInt16.toInt32
  simp
theorem sR_put (ht : zt h a = 23 + s) (hs : s < 5) (hr : zr h a 0 = some ra) (hn : zn h ra = l) (hl : l ≤ 60) {i : Nat} (hi : i < l) (v : Int64) : V22_put h a (nI i) v = some (1, rH h ra s i v) := by
  have hc : ∀ {β : Type} (k : Option β), ck (0 ≤ (nI i).toInt ∧ (nI i).toInt < (zn h ra : Int)) k = k := fun k => by rw [hn]; exact ck_i (by omega) (by omega)
  rcases s5 hs with rfl | rfl | rfl | rfl | rfl
  · rw [V22_put_23 ht]; unfold X23_put; rw [nm_u, nm_u, hr, dr_s, hc, nI_clamp (by omega), nar_b, nm_u]; rfl
  · rw [V22_put_24 ht]; unfold X24_put; rw [nm_u, nm_u, hr, dr_s, hc, nI_clamp (by omega), nar_s, nm_u]; rfl
  · rw [V22_put_25 ht]; unfold X25_put; rw [nm_u, nm_u, hr, dr_s, hc, nI_clamp (by omega), nm_u]; rfl
  · rw [V22_put_26 ht]; unfold X26_put; rw [nm_u, hr, dr_s, hc, nI_clamp (by omega), nm_u]; rfl
  · rw [V22_put_27 ht]; unfold X27_put; rw [nm_u, nm_u]
    by_cases z : v = 0
    · rw [if_pos z, hr]; dsimp only; rw [dr_s, hc, nI_clamp (by omega), nm_u]; unfold rH rK; rw [if_neg (by decide), if_neg (by decide), if_neg (by decide), if_neg (by decide), if_pos z]; rfl
    · rw [if_neg z, hr]; dsimp only; rw [dr_s, hc, nI_clamp (by omega), nm_u]; unfold rH rK; rw [if_neg (by decide), if_neg (by decide), if_neg (by decide), if_neg (by decide), if_neg z]; rfl
theorem sR_putT (ht : zt h a = 23 + s) (hs : s < 5) (hr : zr h a 0 = some ra) (hn : zn h ra = l) (hl : l ≤ 60) {x : Int32} (v : Int64) (hx : ¬ (0 ≤ x.toInt ∧ x.toInt < (l : Int))) (hrm : zc h + 8000 ≤ zLC ∧ zs h + 90000 ≤ zLS) : V22_putTi h a x v = some ((), zga h 3 222) := by
  have hc : ∀ {β : Type} (k : Option β), ck (¬ (0 ≤ x.toInt ∧ x.toInt < (zn h ra : Int))) k = k := fun k => ck_t (by rw [hn]; exact hx)
  have hc2 : ∀ {β : Type} (k : Option β), ck (zn h ra < 2 ^ 31 ∧ zc h + 3 ≤ zLC ∧ zs h + 222 ≤ zLS) k = k := fun k => ck_t (by rw [hn]; omega)
  rcases s5 hs with rfl | rfl | rfl | rfl | rfl
  · rw [V22_putTi_23 ht]; unfold X23_putTi; rw [nm_u, nm_u, hr, dr_s, hc, hc2, nm_u]
  · rw [V22_putTi_24 ht]; unfold X24_putTi; rw [nm_u, nm_u, hr, dr_s, hc, hc2, nm_u]
  · rw [V22_putTi_25 ht]; unfold X25_putTi; rw [nm_u, nm_u, hr, dr_s, hc, hc2, nm_u]
  · rw [V22_putTi_26 ht]; unfold X26_putTi; rw [nm_u, hr, dr_s, hc, hc2, nm_u]
  · rw [V22_putTi_27 ht]; unfold X27_putTi; rw [nm_u, nm_u, hr]
    by_cases z : v = 0
    · rw [if_pos z]; dsimp only; rw [dr_s, hc, hc2, nm_u]
    · rw [if_neg z]; dsimp only; rw [dr_s, hc, hc2, nm_u]
theorem sR_putN (ht : zt h a = 23 + s) (hs : s < 5) (hr : zr h a 0 = some ra) (hn : zn h ra = l) {x : Int32} (v : Int64) (hx : 0 ≤ x.toInt ∧ x.toInt < (l : Int)) : V22_putTi h a x v = none := by
  have hc : ∀ {β : Type} (k : Option β), ck (¬ (0 ≤ x.toInt ∧ x.toInt < (zn h ra : Int))) k = none := fun k => ck_f (by rw [hn]; exact fun z => z hx)
  rcases s5 hs with rfl | rfl | rfl | rfl | rfl
  · rw [V22_putTi_23 ht]; unfold X23_putTi; rw [nm_u, nm_u, hr, dr_s, hc]
  · rw [V22_putTi_24 ht]; unfold X24_putTi; rw [nm_u, nm_u, hr, dr_s, hc]
  · rw [V22_putTi_25 ht]; unfold X25_putTi; rw [nm_u, nm_u, hr, dr_s, hc]
  · rw [V22_putTi_26 ht]; unfold X26_putTi; rw [nm_u, hr, dr_s, hc]
  · rw [V22_putTi_27 ht]; unfold X27_putTi; rw [nm_u, nm_u, hr]
    by_cases z : v = 0
    · rw [if_pos z]; dsimp only; rw [dr_s, hc]
    · rw [if_neg z]; dsimp only; rw [dr_s, hc]
end Rows
/-- where an index lies -/
theorem ix_in {x : Int32} {l : Nat} (hl : l ≤ 60) (h : 0 ≤ x.toInt ∧ x.toInt < (l : Int)) : ∃ i, i < l ∧ x = nI i := by
  have h0 : 0 ≤ x := by rw [Int32.le_iff_toInt_le]; simpa using h.1
  refine ⟨x.toNatClampNeg, ?_, nI_to h0⟩
  have e := nI_to h0
  have hc := Int32.toNatClampNeg_lt x
  rw [e, nI_toInt hc] at h
  omega
theorem sX2_ref {h : Hp} {m : Nat} {ba : Nat → Nat} {d ra : Nat} (hd : d < 6) (hm : m ≤ 50) (v : iS1 h m ba d ra) (x : Int32) : X2_refusal h (nI d) x = some ((if zr h 16 d = none then -11 else if (zi h 38 d).toInt < 50 then -12 else if 0 ≤ x.toInt ∧ x.toInt < (zi h 39 d).toInt then 0 else -13), h) := by
  unfold X2_refusal
  rw [sX2_isSh, bd_s, if_neg (fun z => (pB0.mp z) ⟨nI_pos' (by omega), (nI_leI (by omega) (by omega)).mpr (by omega)⟩), ck_i (by omega) (by omega), nI_clamp (by omega)]
  have hx0 : x < 0 ↔ ¬ 0 ≤ x.toInt := by
    rw [Int32.lt_iff_toInt_lt, show (0 : Int32).toInt = 0 from by decide]; omega
  rcases v with ⟨e1, e2⟩ | ⟨k, hk, e1, e2⟩ | ⟨a, s, l, e1, b2, b3, b4, b5, b6, b7, b8, b9, b10, b11, e2, e3, b14⟩
  · rw [e2, if_neg (by decide), e1, if_pos rfl]
  · rw [e2, if_pos (nI_pos' (by omega)), ck_i (by omega) (by omega), if_neg (by rw [show (50 : Int32) = nI 50 from rfl, nI_leI (by omega) (by omega)]; omega), e1, if_neg (fun z => by cases z), nI_toInt (by omega), if_pos (by omega)]
  · rw [e2, if_pos (nI_pos' (by omega)), ck_i (by omega) (by omega), if_pos (by rw [show (50 : Int32) = nI 50 from rfl, nI_leI (by omega) (by omega)]; omega), e1, if_neg (c := some a = none) (fun z => by cases z), nI_toInt (n := 50 + s) (by omega), if_neg (c := ((50 + s : Nat) : Int) < 50) (by omega), e3, nI_toInt (n := l) (by omega)]
    by_cases c1 : x < 0
    · rw [if_pos c1, if_neg (fun z => (hx0.mp c1) z.1)]
    · rw [if_neg c1, ck_i (by omega) (by omega)]
      have h0 : 0 ≤ x.toInt := Classical.not_not.mp (fun z => c1 (hx0.mpr z))
      by_cases c2 : nI l ≤ x
      · rw [if_pos c2, if_neg (by rw [Int32.le_iff_toInt_le, nI_toInt (by omega)] at c2; omega)]
      · rw [if_neg c2, if_pos (by rw [Int32.le_iff_toInt_le, nI_toInt (by omega)] at c2; omega)]
/-! element -/
theorem sim_element (i : Nat) (hi : i < 64) (x y : Int32) : Sim i (fun h => X0_element h x y) (fun h => X2_element h x y) := by
  intro h v
  have v' := v
  obtain ⟨n, pa, ord, plc, b, D, m, ba, vP, vO, vB, vD, vC, vT, vBo, vTr, vS, vR, vLC, vLM, vDb, vx⟩ := v'
  have same := v.fQ (Nat.le_succ i) (fQ.mk (fS.rf h) (fS2.rf h))
  have hrm := v.rm hi
  have hm := vBo.1
  by_cases c1 : 0 ≤ x ∧ x ≤ nI 5
  · obtain ⟨d, hd, rfl⟩ := nI_rg (by omega) c1.1 c1.2
    obtain ⟨ra, s1, s2⟩ := vS
    have sd := s1 d (by omega)
    have m2 : ∀ h', iS1 h' m ba d (ra d) → ∀ r, X2_refusal h' (nI d) y = some (r, h') → ¬ r = 0 → X2_element h' (nI d) y = some (-9223372036854775808, h') := by
      intro h' _ r e hr
      unfold X2_element
      rw [e, bd_s, if_neg hr]
    have c0 : X0_element h (nI d) y = if zcs 53 h (zr h 16 d) = true then (oc (zr h 16 d) (some ((-9223372036854775808 : Int64), zga h 1 8)) fun a13 => tc (V22_atTi h a13 y) (fun h14 => some ((-9223372036854775808 : Int64), h14)) (bd (V22_at h a13 y) fun r17 h16 => some (r17, h16))) else some ((-9223372036854775808 : Int64), zga h 3 1210) := by
      unfold X0_element
      rw [sX0_isSh, bd_s, if_neg (fun z => (pB0.mp z) c1), ck_i (by omega) (by omega), nI_clamp (by omega), nm_u, ck_t (show zc h + 1 ≤ zLC ∧ zs h + 8 ≤ zLS by omega), nm_u, ck_t (show zc h + 3 ≤ zLC ∧ zs h + 1210 ≤ zLS by omega), nm_u]
    rcases id sd with ⟨e1, e2⟩ | ⟨k, hk, e1, e2⟩ | ⟨a, s, l, e1, b2, b3, b4, b5, b6, b7, b8, b9, b10, b11, e2, e3, b14⟩
    · refine ⟨-9223372036854775808, zga h 1 8, zga h 1 8, ?_, ?_, v.ga (by omega) (by omega)⟩
      · show X0_element h (nI d) y = _
        rw [c0, e1]; rfl
      · refine m2 (zga h 1 8) sd _ (sX2_ref (h := zga h 1 8) (by omega) hm sd y) ?_
        rw [if_pos (show zr (zga h 1 8) 16 d = none from e1)]; decide
    · obtain ⟨q1, q2, q3, q4, j, q5, q6, q7⟩ := vBo.2.2.2 k hk
      refine ⟨-9223372036854775808, zga h 3 1210, zga h 3 1210, ?_, ?_, v.ga (by omega) (by omega)⟩
      · show X0_element h (nI d) y = _
        rw [c0, e1, if_neg]
        show ¬ zsub 53 (zt h (ba k)) = true
        rw [q6]
        have : j = 0 ∨ j = 1 ∨ j = 2 ∨ j = 3 ∨ j = 4 ∨ j = 5 ∨ j = 6 ∨ j = 7 := by omega
        rcases this with rfl | rfl | rfl | rfl | rfl | rfl | rfl | rfl <;> decide
      · refine m2 (zga h 3 1210) sd _ (sX2_ref (h := zga h 3 1210) (by omega) hm sd y) ?_
        rw [if_neg (show ¬ zr (zga h 3 1210) 16 d = none from by intro z; rw [show zr (zga h 3 1210) 16 d = zr h 16 d from rfl, e1] at z; cases z), if_pos (show (zi (zga h 3 1210) 38 d).toInt < 50 from by rw [show zi (zga h 3 1210) 38 d = nI k from e2, nI_toInt (by omega)]; omega)]; decide
    · have hz : zcs 53 h (zr h 16 d) = true := by
        rw [e1]
        show zsub 53 (zt h a) = true
        rw [b5]
        rcases s5 b4 with rfl | rfl | rfl | rfl | rfl <;> decide
      rw [e1] at hz
      by_cases cy : 0 ≤ y.toInt ∧ y.toInt < (l : Int)
      · obtain ⟨k, hk, rfl⟩ := ix_in b11 cy
        have hb := b14 k hk
        refine ⟨zj h 40 (60 * d + k), h, h, ?_, ?_, same⟩
        · show X0_element h (nI d) (nI k) = _
          rw [c0, e1, if_pos hz, oc_s', sR_atN b5 b4 b6 b10 cy, tc_n, sR_at b5 b4 b6 b10 b11 hk hb.2, bd_s, hb.1]
        · show X2_element h (nI d) (nI k) = _
          unfold X2_element
          rw [sX2_ref (by omega) hm sd, bd_s, if_pos (by rw [if_neg (by rw [e1]; intro z; cases z), e2, nI_toInt (n := 50 + s) (by omega), if_neg (by omega), e3, nI_toInt (n := l) (by omega), if_pos cy]), show (60 : Int32) = nI 60 from rfl, pk_mul, nI_add, ck_i (by omega) (by omega), nI_clamp (by omega)]
      · refine ⟨-9223372036854775808, zga h 3 222, zga h 3 222, ?_, ?_, v.ga (by omega) (by omega)⟩
        · show X0_element h (nI d) y = _
          rw [c0, e1, if_pos hz, oc_s', sR_atT b5 b4 b6 b10 b11 cy hrm]
          rfl
        · refine m2 (zga h 3 222) sd _ (sX2_ref (h := zga h 3 222) (by omega) hm sd y) ?_
          rw [if_neg (show ¬ zr (zga h 3 222) 16 d = none from by intro z; rw [show zr (zga h 3 222) 16 d = zr h 16 d from rfl, e1] at z; cases z), if_neg (show ¬ (zi (zga h 3 222) 38 d).toInt < 50 from by rw [show zi (zga h 3 222) 38 d = nI (50 + s) from e2, nI_toInt (by omega)]; omega), if_neg (show ¬ (0 ≤ y.toInt ∧ y.toInt < (zi (zga h 3 222) 39 d).toInt) from by rw [show zi (zga h 3 222) 39 d = nI l from e3, nI_toInt (by omega)]; exact cy)]; decide
  · refine ⟨-9223372036854775808, h, h, ?_, ?_, same⟩
    · show X0_element h x y = _
      unfold X0_element
      rw [sX0_isSh, bd_s, if_pos (pB0.mpr c1)]
    · show X2_element h x y = _
      unfold X2_element X2_refusal
      rw [sX2_isSh, bd_s, if_pos (pB0.mpr c1), bd_s, if_neg (by decide)]
