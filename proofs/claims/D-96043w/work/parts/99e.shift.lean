/-! shift -/
theorem i_sub {a b : Int32} (h1 : -2147483648 ≤ a.toInt - b.toInt) (h2 : a.toInt - b.toInt < 2147483648) : (a - b).toInt = a.toInt - b.toInt := by
  rw [Int32.toInt_sub]
  exact Int.bmod_eq_of_le (by omega) (by omega)
theorem i_lt0 (x : Int32) : x < 0 ↔ x.toInt < 0 := by rw [Int32.lt_iff_toInt_lt]; rfl
theorem i_of {x : Int32} (h : ¬ x < 0) : ∃ k, k < 2 ^ 31 ∧ x = nI k ∧ x.toInt = (k : Int) ∧ x.toNatClampNeg = k := by
  have e := nI_to (Int32.not_lt.mp h)
  have l := Int32.toNatClampNeg_lt x
  exact ⟨x.toNatClampNeg, l, e, by rw [e, nI_toInt l, nI_clamp l], rfl⟩
def cT (s : Nat) : FieldType := if s = 0 then .byte else if s = 1 then .short else if s = 2 then .int else .boolean
def cH (h : Hp) (ra rb s p q c : Nat) : Hp := if s = 3 then zaj h rb (va_cpy (zj h ra) (zj h rb) p q c) else zai h rb (va_cpy (zi h ra) (zi h rb) p q c)
theorem zai_k (h : Hp) (a : Nat) (f : Nat → Int32) (q k : Nat) : zi (zai h a f) q k = if q = a then f k else zi h q k := by
  show zu1 h.1 a f q k = _
  unfold zu1
  by_cases z : q = a
  · rw [if_pos z, if_pos z]
  · rw [if_neg z, if_neg z]; rfl
theorem zaj_k (h : Hp) (a : Nat) (f : Nat → Int64) (q k : Nat) : zj (zaj h a f) q k = if q = a then f k else zj h q k := by
  show zu1 h.2.1 a f q k = _
  unfold zu1
  by_cases z : q = a
  · rw [if_pos z, if_pos z]
  · rw [if_neg z, if_neg z]; rfl
theorem cH_2 (h : Hp) (ra rb s p q c : Nat) : (cH h ra rb s p q c).2.2 = h.2.2 := by
  unfold cH
  by_cases z : s = 3
  · rw [if_pos z]; rfl
  · rw [if_neg z]; rfl
theorem cH_oi (h : Hp) {ra rb s p q c x : Nat} (hx : x ≠ rb) : zi (cH h ra rb s p q c) x = zi h x := by
  unfold cH
  by_cases z : s = 3
  · rw [if_pos z]; rfl
  · rw [if_neg z]; funext k; rw [zai_k, if_neg hx]
theorem cH_oj (h : Hp) {ra rb s p q c x : Nat} (hx : x ≠ rb) : zj (cH h ra rb s p q c) x = zj h x := by
  unfold cH
  by_cases z : s = 3
  · rw [if_pos z]; funext k; rw [zaj_k, if_neg hx]
  · rw [if_neg z]; rfl
theorem cH_k (h : Hp) (ra rb s p q c k : Nat) : (if s = 3 then zj (cH h ra rb s p q c) rb k else (zi (cH h ra rb s p q c) rb k).toInt64) = (if q ≤ k ∧ k < q + c then (if s = 3 then zj h ra (p + (k - q)) else (zi h ra (p + (k - q))).toInt64) else (if s = 3 then zj h rb k else (zi h rb k).toInt64)) ∧ (s ≠ 3 → zi (cH h ra rb s p q c) rb k = if q ≤ k ∧ k < q + c then zi h ra (p + (k - q)) else zi h rb k) := by
  unfold cH
  by_cases z : s = 3
  · rw [if_pos z, if_pos z, if_pos z, if_pos z, zaj_k, if_pos rfl]
    exact ⟨rfl, fun y => absurd z y⟩
  · rw [if_neg z, if_neg z, if_neg z, if_neg z, zai_k, if_pos rfl]
    refine ⟨?_, fun _ => rfl⟩
    show (if q ≤ k ∧ k < q + c then zi h ra (p + (k - q)) else zi h rb k).toInt64 = _
    by_cases y : q ≤ k ∧ k < q + c
    · rw [if_pos y, if_pos y]
    · rw [if_neg y, if_neg y]
section Cop
variable {h : Hp} {a b ra rb s t l l' : Nat}
theorem zcs_row (hs : s < 5) (ht : t < 5) (hb : zt h b = 23 + t) : zcs (23 + s) h (some b) = decide (s = t) := by
  show zsub (23 + s) (zt h b) = _
  rw [hb]
  rcases s5 hs with rfl | rfl | rfl | rfl | rfl <;> rcases s5 ht with rfl | rfl | rfl | rfl | rfl <;> decide
theorem cp_c (ha : zt h a = 23 + s) (hs : s < 5) (ht : t < 5) (hb : zt h b = 23 + t) (ne : s ≠ t) (hrm : zc h + 8000 ≤ zLC ∧ zs h + 90000 ≤ zLS) (x y z : Int32) : V22_copyTc h a x (some b) y z = some ((), zga h 3 1210) := by
  have c1 : ∀ {β : Type} (k : Option β), ck (zcs (23 + s) h (some b) = false) k = k := fun k => ck_t (by rw [zcs_row hs ht hb]; exact decide_eq_false ne)
  have c2 : ∀ {β : Type} (k : Option β), ck (zc h + 3 ≤ zLC ∧ zs h + 1210 ≤ zLS) k = k := fun k => ck_t (by omega)
  rcases s5 hs with rfl | rfl | rfl | rfl | rfl
  · rw [V22_copyTc_23 ha]; unfold X23_copyTc; rw [nm_u, c1, c2, nm_u]
  · rw [V22_copyTc_24 ha]; unfold X24_copyTc; rw [nm_u, c1, c2, nm_u]
  · rw [V22_copyTc_25 ha]; unfold X25_copyTc; rw [nm_u, c1, c2, nm_u]
  · rw [V22_copyTc_26 ha]; unfold X26_copyTc; rw [nm_u, c1, c2, nm_u]
  · rw [V22_copyTc_27 ha]; unfold X27_copyTc; rw [nm_u, c1, c2, nm_u]
theorem cp_cn (ha : zt h a = 23 + s) (hs : s < 5) (hb : zt h b = 23 + s) (x y z : Int32) : V22_copyTc h a x (some b) y z = none := by
  have c1 : ∀ {β : Type} (k : Option β), ck (zcs (23 + s) h (some b) = false) k = none := fun k => ck_f (by rw [zcs_row hs hs hb]; simp)
  rcases s5 hs with rfl | rfl | rfl | rfl | rfl
  · rw [V22_copyTc_23 ha]; unfold X23_copyTc; rw [nm_u, c1]
  · rw [V22_copyTc_24 ha]; unfold X24_copyTc; rw [nm_u, c1]
  · rw [V22_copyTc_25 ha]; unfold X25_copyTc; rw [nm_u, c1]
  · rw [V22_copyTc_26 ha]; unfold X26_copyTc; rw [nm_u, c1]
  · rw [V22_copyTc_27 ha]; unfold X27_copyTc; rw [nm_u, c1]
theorem cp_i (ha : zt h a = 23 + s) (hs : s < 5) (hb : zt h b = 23 + s) (ra0 : zr h a 0 = some ra) (rb0 : zr h b 0 = some rb) (na : zn h ra = l) (nb : zn h rb = l') (hl : l ≤ 60) (hl' : l' ≤ 60) (hrm : zc h + 8000 ≤ zLC ∧ zs h + 90000 ≤ zLS) {x y z : Int32} (hx : x < 0 ∨ y < 0 ∨ z < 0 ∨ x.toInt + z.toInt > (l : Int) ∨ y.toInt + z.toInt > (l' : Int)) : V22_copyTi h a x (some b) y z = some ((), zga h 3 490) := by
  have c1 : ∀ {β : Type} (k : Option β), ck (zcs (23 + s) h (some b) = true) k = k := fun k => ck_t (by rw [zcs_row hs hs hb]; simp)
  have c2 : ∀ {β : Type} (k : Option β), ck (x < 0 ∨ y < 0 ∨ z < 0 ∨ x.toInt + z.toInt > zn h ra ∨ y.toInt + z.toInt > zn h rb) k = k := fun k => ck_t (by rw [na, nb]; exact hx)
  have c3 : ∀ {β : Type} (k : Option β), ck (zn h ra < 2 ^ 31 ∧ zn h rb < 2 ^ 31 ∧ zc h + 3 ≤ zLC ∧ zs h + 490 ≤ zLS) k = k := fun k => ck_t (by rw [na, nb]; omega)
  rcases s5 hs with rfl | rfl | rfl | rfl | rfl
  · rw [V22_copyTi_23 ha]; unfold X23_copyTi; rw [nm_u, c1, dr_s, nm_u, ra0, rb0, dr_s, dr_s, c2, c3, nm_u]
  · rw [V22_copyTi_24 ha]; unfold X24_copyTi; rw [nm_u, c1, dr_s, nm_u, ra0, rb0, dr_s, dr_s, c2, c3, nm_u]
  · rw [V22_copyTi_25 ha]; unfold X25_copyTi; rw [nm_u, c1, dr_s, nm_u, ra0, rb0, dr_s, dr_s, c2, c3, nm_u]
  · rw [V22_copyTi_26 ha]; unfold X26_copyTi; rw [nm_u, c1, dr_s, nm_u, ra0, rb0, dr_s, dr_s, c2, c3, nm_u]
  · rw [V22_copyTi_27 ha]; unfold X27_copyTi; rw [nm_u, c1, dr_s, nm_u, ra0, rb0, dr_s, dr_s, c2, c3, nm_u]
theorem cp_in (ha : zt h a = 23 + s) (hs : s < 5) (hb : zt h b = 23 + s) (ra0 : zr h a 0 = some ra) (rb0 : zr h b 0 = some rb) (na : zn h ra = l) (nb : zn h rb = l') {x y z : Int32} (hx : ¬ (x < 0 ∨ y < 0 ∨ z < 0 ∨ x.toInt + z.toInt > (l : Int) ∨ y.toInt + z.toInt > (l' : Int))) : V22_copyTi h a x (some b) y z = none := by
  have c1 : ∀ {β : Type} (k : Option β), ck (zcs (23 + s) h (some b) = true) k = k := fun k => ck_t (by rw [zcs_row hs hs hb]; simp)
  have c2 : ∀ {β : Type} (k : Option β), ck (x < 0 ∨ y < 0 ∨ z < 0 ∨ x.toInt + z.toInt > zn h ra ∨ y.toInt + z.toInt > zn h rb) k = none := fun k => ck_f (by rw [na, nb]; exact hx)
  rcases s5 hs with rfl | rfl | rfl | rfl | rfl
  · rw [V22_copyTi_23 ha]; unfold X23_copyTi; rw [nm_u, c1, dr_s, nm_u, ra0, rb0, dr_s, dr_s, c2]
  · rw [V22_copyTi_24 ha]; unfold X24_copyTi; rw [nm_u, c1, dr_s, nm_u, ra0, rb0, dr_s, dr_s, c2]
  · rw [V22_copyTi_25 ha]; unfold X25_copyTi; rw [nm_u, c1, dr_s, nm_u, ra0, rb0, dr_s, dr_s, c2]
  · rw [V22_copyTi_26 ha]; unfold X26_copyTi; rw [nm_u, c1, dr_s, nm_u, ra0, rb0, dr_s, dr_s, c2]
  · rw [V22_copyTi_27 ha]; unfold X27_copyTi; rw [nm_u, c1, dr_s, nm_u, ra0, rb0, dr_s, dr_s, c2]
theorem cp_d (ha : zt h a = 23 + s) (hs : s < 5) (hb : zt h b = 23 + s) (ra0 : zr h a 0 = some ra) (rb0 : zr h b 0 = some rb) (na : zn h ra = l) (nb : zn h rb = l') (hl : l ≤ 60) (hl' : l' ≤ 60) {p q c : Nat} (hp : p + c ≤ l) (hq : q + c ≤ l') (ft : ∀ i, i < l → iFt s (zi h ra i)) : V22_copy h a (nI p) (some b) (nI q) (nI c) = some ((), cH h ra rb s p q c) := by
  have c1 : ∀ {β : Type} (k : Option β), ck (zcs (23 + s) h (some b) = true) k = k := fun k => ck_t (by rw [zcs_row hs hs hb]; simp)
  have tp := nI_toInt (n := p) (by omega)
  have tq := nI_toInt (n := q) (by omega)
  have tc := nI_toInt (n := c) (by omega)
  have kp := nI_clamp (n := p) (by omega)
  have kq := nI_clamp (n := q) (by omega)
  have kc := nI_clamp (n := c) (by omega)
  have C : ¬ nI p < 0 ∧ ¬ nI q < 0 ∧ ¬ nI c < 0 ∧ (nI p).toInt + (nI c).toInt ≤ zn h ra ∧ (nI q).toInt + (nI c).toInt ≤ zn h rb := ⟨nI_nlt0 (by omega), nI_nlt0 (by omega), nI_nlt0 (by omega), by rw [tp, tc, na]; omega, by rw [tq, tc, nb]; omega⟩
  have F : ∀ ty, (s ≠ 3 → cT s = ty) → s ≠ 3 → zcf ty h ra (nI p).toNatClampNeg (nI c).toNatClampNeg = true := by
    intro ty e n3
    rw [kp, kc]
    refine List.all_eq_true.mpr (fun i hi => ?_)
    have hi := List.mem_range.mp hi
    rcases ft (p + i) (by omega) with z | z
    · exact absurd z n3
    · rw [← e n3]; exact z
  rcases s5 hs with rfl | rfl | rfl | rfl | rfl
  · rw [V22_copy_23 ha]; unfold X23_copy; rw [nm_u, c1, dr_s, nm_u, ra0, rb0, dr_s, dr_s, ck_t ⟨C, F .byte (fun _ => rfl) (by decide)⟩, nm_u, kp, kq, kc]; rfl
  · rw [V22_copy_24 ha]; unfold X24_copy; rw [nm_u, c1, dr_s, nm_u, ra0, rb0, dr_s, dr_s, ck_t ⟨C, F .short (fun _ => rfl) (by decide)⟩, nm_u, kp, kq, kc]; rfl
  · rw [V22_copy_25 ha]; unfold X25_copy; rw [nm_u, c1, dr_s, nm_u, ra0, rb0, dr_s, dr_s, ck_t ⟨C, F .int (fun _ => rfl) (by decide)⟩, nm_u, kp, kq, kc]; rfl
  · rw [V22_copy_26 ha]; unfold X26_copy; rw [nm_u, c1, dr_s, nm_u, ra0, rb0, dr_s, dr_s, ck_t C, nm_u, kp, kq, kc]; rfl
  · rw [V22_copy_27 ha]; unfold X27_copy; rw [nm_u, c1, dr_s, nm_u, ra0, rb0, dr_s, dr_s, ck_t ⟨C, F .boolean (fun _ => rfl) (by decide)⟩, nm_u, kp, kq, kc]; rfl
end Cop
/-! the model's two loops -/
theorem lp_s1 {d p c : Nat} (hd : d ≤ 5) (hp : p + c ≤ 60) (J : Hp → Option (Int32 × Hp)) : ∀ k N h, k ≤ c → k < N → ∃ h', zfix (fun _ _ => none) (X2_shift_b113 (nI d) (nI p) (nI c) J) N h (nI (c - k)) = J h' ∧ h'.1 = h.1 ∧ h'.2.2 = h.2.2 ∧ ∀ q e, zj h' q e = if q = 41 ∧ c - k ≤ e ∧ e < c then zj h 40 (60 * d + p + e) else zj h q e := by
  intro k
  induction k with
  | zero =>
    intro N h _ hN
    obtain ⟨N, rfl⟩ : ∃ M, N = M + 1 := ⟨N - 1, by omega⟩
    refine ⟨h, ?_, rfl, rfl, fun q e => ?_⟩
    · rw [zfix_s, X2_shift_b113, if_pos (by rw [nI_leI (by omega) (by omega)]; omega)]
    · rw [if_neg (by omega)]
  | succ k ih =>
    intro N h hk hN
    obtain ⟨N, rfl⟩ : ∃ M, N = M + 1 := ⟨N - 1, by omega⟩
    obtain ⟨h', e1, e2, e3, e4⟩ := ih N (zsj h 41 (c - (k + 1)) (zj h 40 (60 * d + p + (c - (k + 1))))) (by omega) (by omega)
    refine ⟨h', ?_, e2, e3, fun q e => ?_⟩
    · rw [zfix_s, X2_shift_b113, show (60 : Int32) = nI 60 from rfl, pk_mul, nI_add, nI_add, if_neg (by rw [nI_leI (by omega) (by omega)]; omega), ck_i (by omega) (by omega), nm_u, ck_i (by omega) (by omega), nm_u, nm_u, nI_clamp (by omega), nI_clamp (by omega), nI_1, show c - (k + 1) + 1 = c - k from by omega]
      exact e1
    · rw [e4, zj_ne (a := 40) _ _ _ _ (Or.inl (by decide)), zj_sj]
      by_cases z : q = 41 ∧ c - k ≤ e ∧ e < c
      · rw [if_pos z, if_pos (by omega)]
      · rw [if_neg z]
        by_cases y : q = 41 ∧ e = c - (k + 1)
        · rw [if_pos y, if_pos (by omega), y.2]
        · rw [if_neg y, if_neg (by omega)]
theorem lp_s2 {d p c : Nat} (hd : d ≤ 5) (hp : p + c ≤ 60) : ∀ k N h, k ≤ c → k < N → ∃ h', zfix (fun _ _ => none) (X2_shift_b150 (nI d) (nI p) (nI c)) N h (nI (c - k)) = some (nI c, h') ∧ h'.1 = h.1 ∧ h'.2.2 = h.2.2 ∧ ∀ q e, zj h' q e = if q = 40 ∧ 60 * d + p + (c - k) ≤ e ∧ e < 60 * d + p + c then zj h 41 (e - (60 * d + p)) else zj h q e := by
  intro k
  induction k with
  | zero =>
    intro N h _ hN
    obtain ⟨N, rfl⟩ : ∃ M, N = M + 1 := ⟨N - 1, by omega⟩
    refine ⟨h, ?_, rfl, rfl, fun q e => ?_⟩
    · rw [zfix_s, X2_shift_b150, if_pos (by rw [nI_leI (by omega) (by omega)]; omega)]
    · rw [if_neg (by omega)]
  | succ k ih =>
    intro N h hk hN
    obtain ⟨N, rfl⟩ : ∃ M, N = M + 1 := ⟨N - 1, by omega⟩
    obtain ⟨h', e1, e2, e3, e4⟩ := ih N (zsj h 40 (60 * d + p + (c - (k + 1))) (zj h 41 (c - (k + 1)))) (by omega) (by omega)
    refine ⟨h', ?_, e2, e3, fun q e => ?_⟩
    · rw [zfix_s, X2_shift_b150, show (60 : Int32) = nI 60 from rfl, pk_mul, nI_add, nI_add, if_neg (by rw [nI_leI (by omega) (by omega)]; omega), ck_i (by omega) (by omega), nm_u, ck_i (by omega) (by omega), nm_u, nm_u, nI_clamp (by omega), nI_clamp (by omega), nI_1, show c - (k + 1) + 1 = c - k from by omega]
      exact e1
    · rw [e4, zj_ne (a := 41) _ _ _ _ (Or.inl (by decide)), zj_sj]
      by_cases z : q = 40 ∧ 60 * d + p + (c - k) ≤ e ∧ e < 60 * d + p + c
      · rw [if_pos z, if_pos (by omega)]
      · rw [if_neg z]
        by_cases y : q = 40 ∧ e = 60 * d + p + (c - (k + 1))
        · rw [if_pos y, if_pos (by omega), y.2, show 60 * d + p + (c - (k + 1)) - (60 * d + p) = c - (k + 1) from by omega]
        · rw [if_neg y, if_neg (by omega)]
/-- what a shelf holds, in the class's words and in the model's -/
theorem shK {h : Hp} {m : Nat} {ba : Nat → Nat} {d ra : Nat} (vb : iBo h m ba) (v : iS1 h m ba d ra) : (zr h 16 d = none ∧ zi h 38 d = -1) ∨ (∃ a k, k < 50 ∧ zr h 16 d = some a ∧ zi h 38 d = nI k ∧ zcs 53 h (some a) = false) ∨ (∃ a s l, zr h 16 d = some a ∧ zi h 38 d = nI (50 + s) ∧ zcs 53 h (some a) = true ∧ s < 5 ∧ zt h a = 23 + s ∧ zr h a 0 = some ra ∧ zn h ra = l ∧ l ≤ 60 ∧ zi h 39 d = nI l ∧ 42 ≤ ra ∧ 100 ≤ zt h ra ∧ ∀ i, i < l → (if s = 3 then zj h ra i else (zi h ra i).toInt64) = zj h 40 (60 * d + i) ∧ iFt s (zi h ra i)) := by
  rcases v with ⟨e1, e2⟩ | ⟨k, hk, e1, e2⟩ | ⟨a, s, l, e1, b2, b3, b4, b5, b6, b7, b8, b9, b10, b11, e2, e3, b14⟩
  · exact Or.inl ⟨e1, e2⟩
  · obtain ⟨q1, q2, q3, q4, j, q5, q6, q7⟩ := vb.2.2.2 k hk
    refine Or.inr (Or.inl ⟨ba k, k, by have := vb.1; omega, e1, e2, ?_⟩)
    show zsub 53 (zt h (ba k)) = false
    rw [q6]
    rcases c8 q5 with rfl | rfl | rfl | rfl | rfl | rfl | rfl | rfl <;> decide
  · refine Or.inr (Or.inr ⟨a, s, l, e1, e2, ?_, b4, b5, b6, b10, b11, e3, b7, ?_, b14⟩)
    · show zsub 53 (zt h a) = true
      rw [b5]
      rcases s5 b4 with rfl | rfl | rfl | rfl | rfl <;> decide
    · rw [b9]
      rcases s5 b4 with rfl | rfl | rfl | rfl | rfl <;> decide
theorem sim_shift (i : Nat) (hi : i < 64) (x y x' y' z : Int32) : Sim i (fun h => X0_shift h x y x' y' z) (fun h => X2_shift h x y x' y' z) := by
  intro h v
  have v' := v
  obtain ⟨n, pa, ord, plc, b, D, m, ba, vP, vO, vB, vD, vC, vT, vBo, vTr, vS, vR, vLC, vLM, vDb, vx⟩ := v'
  have same := v.fQ (Nat.le_succ i) (fQ.mk (fS.rf h) (fS2.rf h))
  have hrm := v.rm hi
  by_cases c1 : 0 ≤ x ∧ x ≤ nI 5
  · obtain ⟨d, hd, rfl⟩ := nI_rg (by omega) c1.1 c1.2
    by_cases c2 : 0 ≤ x' ∧ x' ≤ nI 5
    · obtain ⟨e, he, rfl⟩ := nI_rg (by omega) c2.1 c2.2
      obtain ⟨ra, s1, s2⟩ := id vS
      have f1 : X0_shift h (nI d) y (nI e) y' z = oc (zr h 16 d) (some ((-11 : Int32), h)) fun a9 => oc (zr h 16 e) (some ((-11 : Int32), h)) fun a12 => if zcs 53 h (zr h 16 d) = true then (if zcs 53 h (zr h 16 e) = true then (dr (zr h 16 d) fun a25 => tc (V22_copyTc h a25 y (zr h 16 e) y' z) (fun h26 => some ((-12 : Int32), h26)) (tc (V22_copyTi h a25 y (zr h 16 e) y' z) (fun h28 => some ((-13 : Int32), h28)) (bd (V22_copy h a25 y (zr h 16 e) y' z) fun _ h30 => some (z, h30)))) else some ((-12 : Int32), zga h 3 1210)) else some ((-12 : Int32), zga h 3 1210) := by
        unfold X0_shift
        have ck5 : ∀ {α : Type} (k : Option α), ck (0 ≤ (nI d).toInt ∧ (nI d).toInt < 6) k = k := fun k => ck_i (by omega) (by omega)
        have ck6 : ∀ {α : Type} (k : Option α), ck (0 ≤ (nI e).toInt ∧ (nI e).toInt < 6) k = k := fun k => ck_i (by omega) (by omega)
        have ckr : ∀ {α : Type} (k : Option α), ck (zc h + 3 ≤ zLC ∧ zs h + 1210 ≤ zLS) k = k := fun k => ck_t (by omega)
        rw [sX0_isSh, bd_s, if_neg (fun z => (pB0.mp z) c1), sX0_isSh, bd_s, if_neg (fun z => (pB0.mp z) c2)]
        simp only [ck5, ck6, ckr, nm_u, nI_clamp (show d < 2 ^ 31 by omega), nI_clamp (show e < 2 ^ 31 by omega)]
      have f2 : ∀ h', X2_shift h' (nI d) y (nI e) y' z = if zi h' 38 d < 0 then (some ((-11 : Int32), h')) else (if 0 ≤ zi h' 38 e then (if zi h' 38 d < (50 : Int32) then (some ((-12 : Int32), h')) else (if zi h' 38 d = zi h' 38 e then (if z < 0 then (some ((-13 : Int32), h')) else (if y < 0 then (some ((-13 : Int32), h')) else (if y' < 0 then (some ((-13 : Int32), h')) else (if ((zi h' 39 d) - z) < y then (some ((-13 : Int32), h')) else (if y' ≤ ((zi h' 39 e) - z) then (zfix (fun _ _ => none) (X2_shift_b113 (nI d) y z (fun h23 => zfix (fun _ _ => none) (X2_shift_b150 (nI e) y' z) zFU h23 (0 : Int32))) zFU h' (0 : Int32)) else (some ((-13 : Int32), h'))))))) else (some ((-12 : Int32), h')))) else (some ((-11 : Int32), h'))) := by
        intro h'
        unfold X2_shift
        have ck5 : ∀ {α : Type} (k : Option α), ck (0 ≤ (nI d).toInt ∧ (nI d).toInt < 6) k = k := fun k => ck_i (by omega) (by omega)
        have ck6 : ∀ {α : Type} (k : Option α), ck (0 ≤ (nI e).toInt ∧ (nI e).toInt < 6) k = k := fun k => ck_i (by omega) (by omega)
        rw [sX2_isSh, bd_s, if_neg (fun z => (pB0.mp z) c1), sX2_isSh, bd_s, if_neg (fun z => (pB0.mp z) c2), nm_u]
        simp only [ck5, ck6, nI_clamp (show d < 2 ^ 31 by omega), nI_clamp (show e < 2 ^ 31 by omega)]
      rcases shK vBo (s1 d (by omega)) with ⟨a1, a2⟩ | ⟨a, k, a3, a1, a2, a4⟩ | ⟨a, s, l, a1, a2, a3, a4, a5, a6, a7, a8, a9, a10, a11, a12⟩
      · refine ⟨-11, h, h, ?_, ?_, same⟩
        · show X0_shift h (nI d) y (nI e) y' z = _
          rw [f1, a1, oc_0]
        · show X2_shift h (nI d) y (nI e) y' z = _
          rw [f2, a2, if_pos (by decide)]
      · rcases shK vBo (s1 e (by omega)) with ⟨b1, b2⟩ | ⟨a', k', b3, b1, b2, b4⟩ | ⟨a', s', l', b1, b2, b3, b4, _⟩
        · refine ⟨-11, h, h, ?_, ?_, same⟩
          · show X0_shift h (nI d) y (nI e) y' z = _
            rw [f1, a1, oc_1, b1, oc_0]
          · show X2_shift h (nI d) y (nI e) y' z = _
            rw [f2, a2, if_neg (nI_nlt0 (by omega)), b2, if_neg (by decide)]
        all_goals
          refine ⟨-12, zga h 3 1210, zga h 3 1210, ?_, ?_, v.ga (by omega) (by omega)⟩
          · show X0_shift h (nI d) y (nI e) y' z = _
            rw [f1, a1, oc_1, b1, oc_1, a4, if_neg (by decide)]
          · show X2_shift _ (nI d) y (nI e) y' z = _
            rw [f2, show zi (zga h 3 1210) 38 d = nI k from a2, if_neg (nI_nlt0 (by omega)), show zi (zga h 3 1210) 38 e = _ from b2, if_pos (nI_pos' (by omega)), if_pos (by rw [show (50 : Int32) = nI 50 from rfl, Int32.lt_iff_toInt_lt, nI_toInt (by omega), nI_toInt (by omega)]; omega)]
      · have lt50 : ¬ nI (50 + s) < (50 : Int32) := by rw [show (50 : Int32) = nI 50 from rfl, Int32.lt_iff_toInt_lt, nI_toInt (by omega), nI_toInt (by omega)]; omega
        rcases shK vBo (s1 e (by omega)) with ⟨b1, b2⟩ | ⟨a', k', b3, b1, b2, b4⟩ | ⟨a', s', l', b1, b2, b3, b4, b5, b6, b7, b8, b9, b10, b11, b12⟩
        · refine ⟨-11, h, h, ?_, ?_, same⟩
          · show X0_shift h (nI d) y (nI e) y' z = _
            rw [f1, a1, oc_1, b1, oc_0]
          · show X2_shift h (nI d) y (nI e) y' z = _
            rw [f2, a2, if_neg (nI_nlt0 (by omega)), b2, if_neg (by decide)]
        · refine ⟨-12, zga h 3 1210, zga h 3 1210, ?_, ?_, v.ga (by omega) (by omega)⟩
          · show X0_shift h (nI d) y (nI e) y' z = _
            rw [f1, a1, oc_1, b1, oc_1, a3, if_pos rfl, b4, if_neg (by decide)]
          · show X2_shift _ (nI d) y (nI e) y' z = _
            rw [f2, show zi (zga h 3 1210) 38 d = _ from a2, if_neg (nI_nlt0 (by omega)), show zi (zga h 3 1210) 38 e = _ from b2, if_pos (nI_pos' (by omega)), if_neg lt50, if_neg (fun w => by have := (nI_eq (by omega) (by omega)).mp w; omega)]
        · by_cases es : s = s'
          · subst es
            have fC : X0_shift h (nI d) y (nI e) y' z = tc (V22_copyTi h a y (some a') y' z) (fun h28 => some ((-13 : Int32), h28)) (bd (V22_copy h a y (some a') y' z) fun _ h30 => some (z, h30)) := by
              rw [f1, a1, oc_1, b1, oc_1, a3, if_pos rfl, b3, if_pos rfl, dr_s, cp_cn a5 a4 b5, tc_n]
            by_cases C : y < 0 ∨ y' < 0 ∨ z < 0 ∨ y.toInt + z.toInt > (l : Int) ∨ y'.toInt + z.toInt > (l' : Int)
            · refine ⟨-13, zga h 3 490, zga h 3 490, ?_, ?_, v.ga (by omega) (by omega)⟩
              · show X0_shift h (nI d) y (nI e) y' z = _
                rw [fC, cp_i a5 a4 b5 a6 b6 a7 b7 a8 b8 hrm C]; rfl
              · show X2_shift _ (nI d) y (nI e) y' z = _
                rw [f2, show zi (zga h 3 490) 38 d = _ from a2, if_neg (nI_nlt0 (by omega)), show zi (zga h 3 490) 38 e = _ from b2, if_pos (nI_pos' (by omega)), if_neg lt50, if_pos rfl]
                by_cases z1 : z < 0
                · rw [if_pos z1]
                · rw [if_neg z1]
                  by_cases z2 : y < 0
                  · rw [if_pos z2]
                  · rw [if_neg z2]
                    by_cases z3 : y' < 0
                    · rw [if_pos z3]
                    · rw [if_neg z3, show zi (zga h 3 490) 39 d = _ from a9, show zi (zga h 3 490) 39 e = _ from b9]
                      obtain ⟨c, hc, ec, tc', _⟩ := i_of z1
                      obtain ⟨p, hp, ep, tp, _⟩ := i_of z2
                      obtain ⟨q, hq, eq, tq, _⟩ := i_of z3
                      have t1 := nI_toInt (n := l) (by omega)
                      have t2 := nI_toInt (n := l') (by omega)
                      have u1 := i_sub (a := nI l) (b := z) (by omega) (by omega)
                      have u2 := i_sub (a := nI l') (b := z) (by omega) (by omega)
                      by_cases z4 : nI l - z < y
                      · rw [if_pos z4]
                      · rw [if_neg z4, if_neg]
                        rw [Int32.lt_iff_toInt_lt] at z4
                        rw [Int32.le_iff_toInt_le]
                        rcases C with w | w | w | w | w
                        · exact absurd w z2
                        · exact absurd w z3
                        · exact absurd w z1
                        · omega
                        · omega
            · have z1 : ¬ z < 0 := fun w => C (Or.inr (Or.inr (Or.inl w)))
              have z2 : ¬ y < 0 := fun w => C (Or.inl w)
              have z3 : ¬ y' < 0 := fun w => C (Or.inr (Or.inl w))
              have z4 : ¬ y.toInt + z.toInt > (l : Int) := fun w => C (Or.inr (Or.inr (Or.inr (Or.inl w))))
              have z5 : ¬ y'.toInt + z.toInt > (l' : Int) := fun w => C (Or.inr (Or.inr (Or.inr (Or.inr w))))
              obtain ⟨c, hc, ec, tc', _⟩ := i_of z1
              obtain ⟨p, hp, ep, tp, _⟩ := i_of z2
              obtain ⟨q, hq, eq, tq, _⟩ := i_of z3
              have hpc : p + c ≤ l := by omega
              have hqc : q + c ≤ l' := by omega
              subst ec ep eq
              have r2 := cH_2 h (ra d) (ra e) s p q c
              have I : ∀ x, x ≠ ra e → zi (cH h (ra d) (ra e) s p q c) x = zi h x := fun x hx => cH_oi h hx
              have J : ∀ x, x ≠ ra e → zj (cH h (ra d) (ra e) s p q c) x = zj h x := fun x hx => cH_oj h hx
              obtain ⟨h2, g1, g2, g3, g4⟩ := lp_s1 (d := d) (p := p) (c := c) hd (by omega) (fun h23 => zfix (fun _ _ => none) (X2_shift_b150 (nI e) (nI q) (nI c)) zFU h23 (0 : Int32)) c zFU (cH h (ra d) (ra e) s p q c) (Nat.le_refl _) (by rw [zFU_u]; omega)
              obtain ⟨h3, k1, k2, k3, k4⟩ := lp_s2 (d := e) (p := q) (c := c) he (by omega) c zFU h2 (Nat.le_refl _) (by rw [zFU_u]; omega)
              rw [Nat.sub_self] at g1 g4 k1 k4
              have e2 : h3.2.2 = h.2.2 := k3.trans (g3.trans r2)
              have hR : zr h3 = zr h := congrArg (fun x => x.1) e2
              have hT : zt h3 = zt h := congrArg (fun x => x.2.1) e2
              have hN : zn h3 = zn h := congrArg (fun x => x.2.2.1) e2
              have hX : zx h3 = zx h := congrArg (fun x => x.2.2.2.1) e2
              have hC : zc h3 = zc h := congrArg (fun x => x.2.2.2.2.1) e2
              have hSs : zs h3 = zs h := congrArg (fun x => x.2.2.2.2.2) e2
              have hI : ∀ x, zi h3 x = zi (cH h (ra d) (ra e) s p q c) x := fun x => congrFun (k2.trans g2) x
              have hJ : ∀ x, x ≠ 40 → x ≠ 41 → zj h3 x = zj (cH h (ra d) (ra e) s p q c) x := fun x n1 n2 => by
                funext k; rw [k4, if_neg (fun w => n1 w.1), g4, if_neg (fun w => n2 w.1)]
              have h40 : ∀ k, zj h3 40 k = if 60 * e + q ≤ k ∧ k < 60 * e + q + c then zj h 40 (60 * d + p + (k - (60 * e + q))) else zj h 40 k := fun k => by
                rw [k4]
                by_cases w : 60 * e + q ≤ k ∧ k < 60 * e + q + c
                · rw [if_pos (c := 40 = 40 ∧ _) ⟨rfl, by omega, w.2⟩, if_pos w, g4, if_pos (c := 41 = 41 ∧ _) ⟨rfl, by omega, by omega⟩, J 40 (by omega)]
                · rw [if_neg (c := 40 = 40 ∧ _) (fun u => w ⟨by omega, u.2.2⟩), if_neg w, g4, if_neg (c := 40 = 41 ∧ _) (fun u => absurd u.1 (by decide)), J 40 (by omega)]
              have oA : oldA h h3 := ⟨hX, hT, hN, hR, fun x w1 w2 => by rw [hI]; exact I x (by intro w; rw [w] at w2; omega), fun x w1 => by rw [hI]; exact I x (by omega), fun x w1 => by rw [hJ x (by omega) (by omega)]; exact J x (by omega)⟩
              refine ⟨nI c, cH h (ra d) (ra e) s p q c, h3, ?_, ?_, v.oa oA ?_ (fun m' ba' vb vs => vs.up vb.1 oA (d := e) (a := a') (s := s) (l := l') (ra := ra e) (by omega) b4 b1 b2 b6 b7 (fun x w1 w2 => ⟨by rw [hI]; exact I x w2, by rw [hJ x (by omega) (by omega)]; exact J x w2⟩) (fun k hk => by rw [h40, if_neg (by omega)]) (fun k hk => ?_))⟩
              · show X0_shift h (nI d) (nI p) (nI e) (nI q) (nI c) = _
                rw [fC, cp_in a5 a4 b5 a6 b6 a7 b7 C, tc_n, cp_d a5 a4 b5 a6 b6 a7 b7 a8 b8 hpc hqc (fun i hi => (a12 i hi).2), bd_s]
              · show X2_shift _ (nI d) (nI p) (nI e) (nI q) (nI c) = _
                have t1 := nI_toInt (n := l) (by omega)
                have t2 := nI_toInt (n := l') (by omega)
                have u1 := i_sub (a := nI l) (b := nI c) (by omega) (by omega)
                have u2 := i_sub (a := nI l') (b := nI c) (by omega) (by omega)
                rw [f2, I 38 (by omega), I 39 (by omega), a2, b2, a9, b9, if_neg (nI_nlt0 (by omega)), if_pos (nI_pos' (by omega)), if_neg lt50, if_pos rfl, if_neg z1, if_neg z2, if_neg z3, if_neg (by rw [Int32.lt_iff_toInt_lt]; omega), if_pos (by rw [Int32.le_iff_toInt_le]; omega)]
                exact g1.trans k1
              · have := vR.le (Nat.le_succ i)
                exact ⟨by rw [hC]; exact this.1, by rw [hSs]; exact this.2⟩
              · have t := cH_k h (ra d) (ra e) s p q c k
                rw [hI, hJ (ra e) (by omega) (by omega), t.1, h40]
                by_cases w : q ≤ k ∧ k < q + c
                · have u := a12 (p + (k - q)) (by omega)
                  rw [if_pos w, if_pos (c := 60 * e + q ≤ 60 * e + k ∧ _) ⟨by omega, by omega⟩, u.1]
                  refine ⟨by congr 1; omega, ?_⟩
                  by_cases s3 : s = 3
                  · exact Or.inl s3
                  · rw [t.2 s3, if_pos w]; exact u.2
                · have u := b12 k hk
                  rw [if_neg w, if_neg (c := 60 * e + q ≤ 60 * e + k ∧ _) (fun u => w ⟨by omega, by omega⟩)]
                  refine ⟨u.1, ?_⟩
                  by_cases s3 : s = 3
                  · exact Or.inl s3
                  · rw [t.2 s3, if_neg w]; exact u.2
          · refine ⟨-12, zga h 3 1210, zga h 3 1210, ?_, ?_, v.ga (by omega) (by omega)⟩
            · show X0_shift h (nI d) y (nI e) y' z = _
              rw [f1, a1, oc_1, b1, oc_1, a3, if_pos rfl, b3, if_pos rfl, dr_s, cp_c a5 a4 b4 b5 es hrm]; rfl
            · show X2_shift _ (nI d) y (nI e) y' z = _
              rw [f2, show zi (zga h 3 1210) 38 d = _ from a2, if_neg (nI_nlt0 (by omega)), show zi (zga h 3 1210) 38 e = _ from b2, if_pos (nI_pos' (by omega)), if_neg lt50, if_neg (fun w => by have := (nI_eq (by omega) (by omega)).mp w; omega)]
    · refine ⟨-1, h, h, ?_, ?_, same⟩
      · show X0_shift h (nI d) y x' y' z = _
        unfold X0_shift
        rw [sX0_isSh, bd_s, if_neg (fun z => (pB0.mp z) c1), sX0_isSh, bd_s, if_pos (pB0.mpr c2)]
      · show X2_shift h (nI d) y x' y' z = _
        unfold X2_shift
        rw [sX2_isSh, bd_s, if_neg (fun z => (pB0.mp z) c1), sX2_isSh, bd_s, if_pos (pB0.mpr c2)]
  · refine ⟨-1, h, h, ?_, ?_, same⟩
    · show X0_shift h x y x' y' z = _
      unfold X0_shift
      rw [sX0_isSh, bd_s, if_pos (pB0.mpr c1)]
    · show X2_shift h x y x' y' z = _
      unfold X2_shift
      rw [sX2_isSh, bd_s, if_pos (pB0.mpr c1)]
