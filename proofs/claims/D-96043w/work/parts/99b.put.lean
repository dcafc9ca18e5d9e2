/-! put, taken -/
theorem nI_nlt0 {a : Nat} (h : a < 2 ^ 31) : ¬ nI a < 0 := Int32.not_lt.mpr (nI_pos' h)
theorem iS.up {h h' : Hp} {m : Nat} {ba : Nat → Nat} (v : iS h m ba) (hm : m ≤ 50) (o : oldA h h') {d a s l ra : Nat} (hd : d < 6) (hs : s < 5) (e1 : zr h 16 d = some a) (e2 : zi h 38 d = nI (50 + s)) (er : zr h a 0 = some ra) (el : zn h ra = l)
    (oth : ∀ q, 42 ≤ q → q ≠ ra → zi h' q = zi h q ∧ zj h' q = zj h q) (o40 : ∀ k, (k < 60 * d ∨ 60 * d + 60 ≤ k) → zj h' 40 k = zj h 40 k)
    (new : ∀ i, i < l → (if s = 3 then zj h' ra i else (zi h' ra i).toInt64) = zj h' 40 (60 * d + i) ∧ iFt s (zi h' ra i)) : iS h' m ba := by
  obtain ⟨ra', s1, s2⟩ := v
  obtain ⟨ox, ot, on, or, oi, oi2, oj⟩ := o
  have row : ∀ e, e < 6 → ∀ x, iS1 h m ba e x → zi h 38 e = nI (50 + s) → ∃ a s : Nat, s < 5 ∧ zr h 16 e = some a ∧ zr h a 0 = some x := by
    intro e he x w ew
    rcases w with ⟨x1, x2⟩ | ⟨k, hk, x1, x2⟩ | ⟨a', s', l', b1, b2, b3, b4, b5, b6, b7, b8, b9, b10, b11, b12, b13, b14⟩
    · rw [x2] at ew; exact absurd ew.symm (nI_ni (by omega))
    · rw [x2] at ew; have := (nI_eq (by omega) (by omega)).mp ew; omega
    · exact ⟨a', s', b4, b1, b6⟩
  refine ⟨ra', fun e he => ?_, ?_⟩
  · have key : e = d → ra' e = ra := by
      intro z
      subst z
      obtain ⟨a', s', _, x1, x2⟩ := row e he _ (s1 e he) e2
      rw [e1] at x1
      rw [← Option.some.inj x1, er] at x2
      exact (Option.some.inj x2).symm
    rcases s1 e he with z | z | ⟨a', s', l', b1, b2, b3, b4, b5, b6, b7, b8, b9, b10, b11, b12, b13, b14⟩
    · left; rw [or, oi2 38 (by omega)]; exact z
    · right; left; rw [or, oi2 38 (by omega)]; exact z
    · right; right
      refine ⟨a', s', l', ?_⟩
      rw [or, ox, ot, on, oi2 38 (by omega), oi2 39 (by omega)]
      refine ⟨b1, b2, b3, b4, b5, b6, b7, b8, b9, b10, b11, b12, b13, fun i hi => ?_⟩
      by_cases z : e = d
      · have k := key z
        subst z
        have q : s' = s := by
          rw [e2] at b12
          have := (nI_eq (by omega) (by omega)).mp b12
          omega
        rw [k] at b10
        rw [k, q]
        exact new i (by omega)
      · have q : ra' e ≠ ra := by
          intro w
          refine z (Classical.byContradiction fun z => ?_)
          have x := s2 e d he hd (by rw [b12, nI_toInt (n := 50 + s') (by omega)]; omega) (by rw [e2, nI_toInt (n := 50 + s) (by omega)]; omega)
          obtain ⟨a3, s3, _, y1, y2⟩ := row d hd _ (s1 d hd) e2
          rw [e1] at y1
          rw [← Option.some.inj y1, er] at y2
          exact z (x (by rw [w]; exact Option.some.inj y2))
        have p := oth (ra' e) b7 q
        rw [p.1, p.2, o40 (60 * e + i) (by omega)]
        exact b14 i hi
  · rw [oi2 38 (by omega)]; exact s2
theorem fitK {s : Nat} (hs : s < 5) (v : Int64) : iFt s (rK s v) := by
  rcases s5 hs with rfl | rfl | rfl | rfl | rfl
  · refine Or.inr ?_
    exact fits_narrow_byte v.toInt32
  · refine Or.inr ?_
    exact fits_narrow_short v.toInt32
  · exact Or.inr rfl
  · exact Or.inl rfl
  · refine Or.inr ?_
    show fits .boolean (.int (if v = 0 then 0 else 1)) = true
    by_cases z : v = 0
    · rw [if_pos z]; rfl
    · rw [if_neg z]; rfl
/-- what the model keeps of a long -/
def rV (s : Nat) (v : Int64) : Int64 := if s = 3 then v else (rK s v).toInt64
theorem sX2_asS (h : Hp) {s : Nat} (hs : s < 5) (v : Int64) : X2_asSort h (nI (50 + s) - 50) v = some (rV s v, h) := by
  unfold X2_asSort
  rcases s5 hs with rfl | rfl | rfl | rfl | rfl
  · rw [if_pos (by decide)]; rfl
  · rw [if_neg (by decide), if_pos (by decide)]; rfl
  · rw [if_neg (by decide), if_neg (by decide), if_pos (by decide)]; rfl
  · rw [if_neg (by decide), if_neg (by decide), if_neg (by decide), if_neg (by decide)]; rfl
  · rw [if_neg (by decide), if_neg (by decide), if_neg (by decide), if_pos (by decide)]
    show _ = some ((if v = 0 then (0 : Int32) else 1).toInt64, h)
    by_cases z : v = 0
    · rw [if_pos z, if_pos z]; rfl
    · rw [if_neg z, if_neg z]; rfl
theorem rH_oi (h : Hp) {ra s i q : Nat} (v : Int64) (hq : q ≠ ra) : zi (rH h ra s i v) q = zi h q := by
  unfold rH
  by_cases z : s = 3
  · rw [if_pos z]; rfl
  · rw [if_neg z]; funext k; exact zi_ne _ _ _ _ (Or.inl hq)
theorem rH_oj (h : Hp) {ra s i q : Nat} (v : Int64) (hq : q ≠ ra) : zj (rH h ra s i v) q = zj h q := by
  unfold rH
  by_cases z : s = 3
  · rw [if_pos z]; funext k; exact zj_ne _ _ _ _ (Or.inl hq)
  · rw [if_neg z]; rfl
theorem rH_2 (h : Hp) (ra s i : Nat) (v : Int64) : (rH h ra s i v).2.2 = h.2.2 := by
  unfold rH
  by_cases z : s = 3
  · rw [if_pos z]; rfl
  · rw [if_neg z]; rfl
theorem rH_k {h : Hp} {ra s i : Nat} {v : Int64} (k : Nat) : (if s = 3 then zj (rH h ra s i v) ra k else (zi (rH h ra s i v) ra k).toInt64) = (if k = i then rV s v else if s = 3 then zj h ra k else (zi h ra k).toInt64) ∧ (s ≠ 3 → zi (rH h ra s i v) ra k = if k = i then rK s v else zi h ra k) := by
  unfold rH rV
  by_cases z : s = 3
  · rw [if_pos z, if_pos z, if_pos z, if_pos z, zj_sj]
    refine ⟨?_, fun y => absurd z y⟩
    by_cases y : k = i
    · rw [if_pos ⟨rfl, y⟩, if_pos y]
    · rw [if_neg (fun w => y w.2), if_neg y]
  · rw [if_neg z, if_neg z, if_neg z, if_neg z, zi_si]
    by_cases y : k = i
    · rw [if_pos ⟨rfl, y⟩, if_pos y]; exact ⟨rfl, fun _ => (if_pos y).symm⟩
    · rw [if_neg (fun w => y w.2), if_neg y]; exact ⟨rfl, fun _ => (if_neg y).symm⟩
theorem sim_put (i : Nat) (hi : i < 64) (x y : Int32) (w : Int64) : Sim i (fun h => X0_put h x y w) (fun h => X2_put h x y w) := by
  intro h v
  have v' := v
  obtain ⟨n, pa, ord, plc, b, D, m, ba, vP, vO, vB, vD, vC, vT, vBo, vTr, vS, vR, vLC, vLM, vDb, vx⟩ := v'
  have same := v.fQ (Nat.le_succ i) (fQ.mk (fS.rf h) (fS2.rf h))
  have hrm := v.rm hi
  have hm := vBo.1
  by_cases c1 : 0 ≤ x ∧ x ≤ nI 5
  · obtain ⟨d, hd, rfl⟩ := nI_rg (by omega) c1.1 c1.2
    have vS' := vS
    obtain ⟨ra, s1, s2⟩ := vS
    have sd := s1 d (by omega)
    have m2 : ∀ h', ∀ r, X2_refusal h' (nI d) y = some (r, h') → ¬ r = 0 → X2_put h' (nI d) y w = some (r, h') := by
      intro h' r e hr
      unfold X2_put
      rw [e, bd_s, nm_u, if_neg hr]
      show (if r = 0 then _ else _) = _
      rw [if_neg hr]
    have c0 : X0_put h (nI d) y w = if zcs 53 h (zr h 16 d) = true then (oc (zr h 16 d) (some ((-11 : Int32), zga h 1 8)) fun a13 => tc (V22_putTi h a13 y w) (fun h14 => some ((-13 : Int32), h14)) (bd (V22_put h a13 y w) fun r17 h16 => if r17 = 0 then (some ((-1 : Int32), h16)) else (some ((1 : Int32), h16)))) else some ((-12 : Int32), zga h 3 1210) := by
      unfold X0_put
      rw [sX0_isSh, bd_s, if_neg (fun z => (pB0.mp z) c1), ck_i (by omega) (by omega), nI_clamp (by omega), nm_u, ck_t (show zc h + 1 ≤ zLC ∧ zs h + 8 ≤ zLS by omega), nm_u, ck_t (show zc h + 3 ≤ zLC ∧ zs h + 1210 ≤ zLS by omega), nm_u]
    rcases id sd with ⟨e1, e2⟩ | ⟨k, hk, e1, e2⟩ | ⟨a, s, l, e1, b2, b3, b4, b5, b6, b7, b8, b9, b10, b11, e2, e3, b14⟩
    · refine ⟨-11, zga h 1 8, zga h 1 8, ?_, ?_, v.ga (by omega) (by omega)⟩
      · show X0_put h (nI d) y w = _
        rw [c0, e1]; rfl
      · have q := sX2_ref (h := zga h 1 8) (by omega) hm sd y
        rw [if_pos (show zr (zga h 1 8) 16 d = none from e1)] at q
        exact m2 _ _ q (by decide)
    · obtain ⟨q1, q2, q3, q4, j, q5, q6, q7⟩ := vBo.2.2.2 k hk
      refine ⟨-12, zga h 3 1210, zga h 3 1210, ?_, ?_, v.ga (by omega) (by omega)⟩
      · show X0_put h (nI d) y w = _
        rw [c0, e1, if_neg]
        show ¬ zsub 53 (zt h (ba k)) = true
        rw [q6]
        have : j = 0 ∨ j = 1 ∨ j = 2 ∨ j = 3 ∨ j = 4 ∨ j = 5 ∨ j = 6 ∨ j = 7 := by omega
        rcases this with rfl | rfl | rfl | rfl | rfl | rfl | rfl | rfl <;> decide
      · have q := sX2_ref (h := zga h 3 1210) (by omega) hm sd y
        rw [if_neg (show ¬ zr (zga h 3 1210) 16 d = none from by intro z; rw [show zr (zga h 3 1210) 16 d = zr h 16 d from rfl, e1] at z; cases z), if_pos (show (zi (zga h 3 1210) 38 d).toInt < 50 from by rw [show zi (zga h 3 1210) 38 d = nI k from e2, nI_toInt (by omega)]; omega)] at q
        exact m2 _ _ q (by decide)
    · have hz : zcs 53 h (zr h 16 d) = true := by
        rw [e1]
        show zsub 53 (zt h a) = true
        rw [b5]
        rcases s5 b4 with rfl | rfl | rfl | rfl | rfl <;> decide
      rw [e1] at hz
      by_cases cy : 0 ≤ y.toInt ∧ y.toInt < (l : Int)
      · obtain ⟨k, hk, rfl⟩ := ix_in b11 cy
        have r2 := rH_2 h (ra d) s k w
        have I : ∀ q, q ≠ ra d → zi (rH h (ra d) s k w) q = zi h q := fun q hq => rH_oi h w hq
        have J : ∀ q, q ≠ ra d → zj (rH h (ra d) s k w) q = zj h q := fun q hq => rH_oj h w hq
        have hR : zr (rH h (ra d) s k w) = zr h := congrArg (fun x => x.1) r2
        have hT : zt (rH h (ra d) s k w) = zt h := congrArg (fun x => x.2.1) r2
        have hN : zn (rH h (ra d) s k w) = zn h := congrArg (fun x => x.2.2.1) r2
        have hX : zx (rH h (ra d) s k w) = zx h := congrArg (fun x => x.2.2.2.1) r2
        have hC : zc (rH h (ra d) s k w) = zc h := congrArg (fun x => x.2.2.2.2.1) r2
        have hS : zs (rH h (ra d) s k w) = zs h := congrArg (fun x => x.2.2.2.2.2) r2
        have ht100 : 100 ≤ zt h (ra d) := by
          rw [b9]
          rcases s5 b4 with rfl | rfl | rfl | rfl | rfl <;> decide
        refine ⟨1, rH h (ra d) s k w, zsj (rH h (ra d) s k w) 40 (60 * d + k) (rV s w), ?_, ?_, ?_⟩
        · show X0_put h (nI d) (nI k) w = _
          rw [c0, e1, if_pos hz, oc_s', sR_putN b5 b4 b6 b10 w cy, tc_n, sR_put b5 b4 b6 b10 b11 hk w, bd_s, if_neg (by decide)]
        · show X2_put (rH h (ra d) s k w) (nI d) (nI k) w = _
          unfold X2_put X2_refusal
          rw [sX2_isSh, bd_s, if_neg (fun z => (pB0.mp z) c1), ck_i (by omega) (by omega), nI_clamp (by omega), I 38 (by omega), I 39 (by omega), e2, e3, if_pos (nI_pos' (by omega)), ck_i (by omega) (by omega), if_pos (by rw [show (50 : Int32) = nI 50 from rfl, nI_leI (by omega) (by omega)]; omega), if_neg (nI_nlt0 (by omega)), ck_i (by omega) (by omega), if_neg (by rw [nI_leI (by omega) (by omega)]; omega), bd_s, nm_u, if_pos rfl, ck_i (by omega) (by omega), I 38 (by omega), e2, sX2_asS _ b4, bd_s, show (60 : Int32) = nI 60 from rfl, pk_mul, nI_add, ck_i (by omega) (by omega), nm_u, nI_clamp (by omega)]
          rfl
        · have oA : oldA h (zsj (rH h (ra d) s k w) 40 (60 * d + k) (rV s w)) := by
            refine ⟨hX, hT, hN, hR, fun q h1 h2 => ?_, fun q hq => ?_, fun q h1 => ?_⟩
            · exact I q (by intro z; rw [z] at h2; omega)
            · exact I q (by omega)
            · rw [← J q (by omega)]; funext e; exact zj_ne _ _ _ _ (Or.inl (by omega))
          have j40 : ∀ e, zj (zsj (rH h (ra d) s k w) 40 (60 * d + k) (rV s w)) 40 e = if e = 60 * d + k then rV s w else zj h 40 e := fun e => by
            rw [zj_sj, J 40 (by omega)]
            by_cases z : e = 60 * d + k
            · rw [if_pos ⟨rfl, z⟩, if_pos z]
            · rw [if_neg (fun y => z y.2), if_neg z]
          have jo : ∀ q, q ≠ 40 → zj (zsj (rH h (ra d) s k w) 40 (60 * d + k) (rV s w)) q = zj (rH h (ra d) s k w) q := fun q hq => by
            funext e; exact zj_ne _ _ _ _ (Or.inl hq)
          refine v.oa oA ?_ (fun m' ba' vb vs => vs.up vb.1 oA (d := d) (a := a) (s := s) (l := l) (ra := ra d) (by omega) b4 e1 e2 b6 b10 (fun q h1 h2 => ⟨I q h2, by rw [jo q (by omega)]; exact J q h2⟩) (fun e he => by rw [j40, if_neg (by omega)]) (fun e he => ?_))
          · have := vR.le (Nat.le_succ i)
            refine ⟨?_, ?_⟩
            · show zc (rH h (ra d) s k w) ≤ _
              rw [hC]; exact this.1
            · show zs (rH h (ra d) s k w) ≤ _
              rw [hS]; exact this.2
          · have q := b14 e he
            have t := rH_k (h := h) (ra := ra d) (s := s) (i := k) (v := w) e
            rw [jo (ra d) (by omega), j40]
            refine ⟨?_, ?_⟩
            · show (if s = 3 then zj (rH h (ra d) s k w) (ra d) e else (zi (rH h (ra d) s k w) (ra d) e).toInt64) = _
              rw [t.1]
              by_cases z : e = k
              · rw [if_pos z, if_pos (c := 60 * d + e = 60 * d + k) (by omega)]
              · rw [if_neg z, if_neg (c := 60 * d + e = 60 * d + k) (by omega)]; exact q.1
            · show iFt s (zi (rH h (ra d) s k w) (ra d) e)
              by_cases z3 : s = 3
              · exact Or.inl z3
              · rw [t.2 z3]
                by_cases z : e = k
                · rw [if_pos z]; exact fitK b4 w
                · rw [if_neg z]; exact q.2
      · refine ⟨-13, zga h 3 222, zga h 3 222, ?_, ?_, v.ga (by omega) (by omega)⟩
        · show X0_put h (nI d) y w = _
          rw [c0, e1, if_pos hz, oc_s', sR_putT b5 b4 b6 b10 b11 w cy hrm]
          rfl
        · have q := sX2_ref (h := zga h 3 222) (by omega) hm sd y
          rw [if_neg (show ¬ zr (zga h 3 222) 16 d = none from by intro z; rw [show zr (zga h 3 222) 16 d = zr h 16 d from rfl, e1] at z; cases z), if_neg (show ¬ (zi (zga h 3 222) 38 d).toInt < 50 from by rw [show zi (zga h 3 222) 38 d = nI (50 + s) from e2, nI_toInt (by omega)]; omega), if_neg (show ¬ (0 ≤ y.toInt ∧ y.toInt < (zi (zga h 3 222) 39 d).toInt) from by rw [show zi (zga h 3 222) 39 d = nI l from e3, nI_toInt (by omega)]; exact cy)] at q
          exact m2 _ _ q (by decide)
  · refine ⟨-1, h, h, ?_, ?_, same⟩
    · show X0_put h x y w = _
      unfold X0_put
      rw [sX0_isSh, bd_s, if_pos (pB0.mpr c1)]
    · show X2_put h x y w = _
      unfold X2_put X2_refusal
      rw [sX2_isSh, bd_s, if_pos (pB0.mpr c1), bd_s, nm_u, if_neg (by decide)]
      rfl
