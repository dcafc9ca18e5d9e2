/-! undo, redo: a player's number is set -/
def oldc3 (h h' : Hp) : Prop := zx h ≤ zx h' ∧ ∀ q, 42 ≤ q → q < zx h → zt h' q = zt h q ∧ zn h' q = zn h q ∧ (zt h q ≠ 3 → zi h' q = zi h q) ∧ zj h' q = zj h q ∧ zr h' q = zr h q
theorem oldc.o3 {h h' : Hp} (o : oldc h h') : oldc3 h h' := ⟨o.1, fun q h1 h2 => ⟨(o.2 q h1 h2).1, (o.2 q h1 h2).2.1, fun _ => (o.2 q h1 h2).2.2.1, (o.2 q h1 h2).2.2.2.1, (o.2 q h1 h2).2.2.2.2⟩⟩
theorem oldc3.si {h h' : Hp} (o : oldc3 h h') {a k : Nat} {v : Int32} (ha : a < 42 ∨ zx h ≤ a ∨ zt h a = 3) : oldc3 h (zsi h' a k v) := ⟨o.1, fun q h1 h2 => ⟨(o.2 q h1 h2).1, (o.2 q h1 h2).2.1, fun h3 => by
  rw [← (o.2 q h1 h2).2.2.1 h3]; funext b; refine zi_ne _ _ _ _ (Or.inl ?_)
  rintro rfl
  rcases ha with z | z | z
  · omega
  · omega
  · exact h3 z, (o.2 q h1 h2).2.2.2.1, (o.2 q h1 h2).2.2.2.2⟩⟩
theorem oldc3.sr {h h' : Hp} (o : oldc3 h h') {a k : Nat} {v : Option Nat} (ha : a < 42 ∨ zx h ≤ a) : oldc3 h (zsr h' a k v) := ⟨o.1, fun q h1 h2 => ⟨(o.2 q h1 h2).1, (o.2 q h1 h2).2.1, (o.2 q h1 h2).2.2.1, (o.2 q h1 h2).2.2.2.1, by rw [← (o.2 q h1 h2).2.2.2.2]; funext b; exact zr_ne _ _ _ _ (Or.inl (by omega))⟩⟩
theorem iC1.o3 {h h' : Hp} {n k : Nat} (v : iC1 h n k) (o : oldc3 h h') (d1 : zi h' 19 k = zi h 19 k) (d2 : zi h' 20 k = zi h 20 k) (d3 : zi h' 21 k = zi h 21 k) (d4 : zr h' 4 k = zr h 4 k) : iC1 h' n k := by
  obtain ⟨a, w, p, x1, x2, x3, x4, x5, x6, x7⟩ := v
  have r := o.2 a x2 x3
  refine ⟨a, w, p, ?_⟩
  rw [d4, r.1, r.2.2.1 (by rw [x4]; decide), d1, d2, d3]
  exact ⟨x1, x2, Nat.lt_of_lt_of_le x3 o.1, x4, x5, x6, x7⟩
theorem iBo.o3 {h h' : Hp} {m : Nat} {ba : Nat → Nat} (v : iBo h m ba) (o : oldc3 h h') (a : zi h' 0 36 = zi h 0 36) (b : zi h' 17 40 = zi h 17 40) (c : zi h' 36 = zi h 36) (d : zr h' 15 = zr h 15) : iBo h' m ba := by
  refine ⟨v.1, a.trans v.2.1, b.trans v.2.2.1, fun k hk => ?_⟩
  obtain ⟨q1, q2, q3, q4, j, q5, q6, q7⟩ := v.2.2.2 k hk
  have r := o.2 _ q2 q3
  rw [d, c, r.1, r.2.2.1 (by rw [q6]; omega), r.2.2.2.2]
  exact ⟨q1, q2, Nat.lt_of_lt_of_le q3 o.1, q4, j, q5, q6, q7⟩
theorem iS.o3 {h h' : Hp} {m : Nat} {ba : Nat → Nat} (v : iS h m ba) (o : oldc3 h h') (a : zi h' 38 = zi h 38) (b : zi h' 39 = zi h 39) (c : zr h' 16 = zr h 16) (j : zj h' 40 = zj h 40) : iS h' m ba := by
  obtain ⟨ra, h1, h2⟩ := v
  refine ⟨ra, fun d hd => ?_, by rw [a]; exact h2⟩
  have v1 := h1 d hd
  unfold iS1 at v1 ⊢
  rw [a, b, c, j]
  rcases v1 with z | z | ⟨x, s, l, b1, b2, b3, b4, b5, b6, b7, b8, b9, b10, b11⟩
  · exact Or.inl z
  · exact Or.inr (Or.inl z)
  · have r := o.2 x b2 b3
    have r2 := o.2 (ra d) b7 b8
    refine Or.inr (Or.inr ⟨x, s, l, b1, b2, Nat.lt_of_lt_of_le b3 o.1, b4, by rw [r.1]; exact b5, by rw [r.2.2.2.2]; exact b6, b7, Nat.lt_of_lt_of_le b8 o.1, by rw [r2.1]; exact b9, by rw [r2.2.1]; exact b10, ?_⟩)
    rw [r2.2.2.1 (by rw [b9]; split; decide; split; decide; split; decide; split <;> decide), r2.2.2.2.1]; exact b11
theorem LC.o3 {h h' : Hp} {D : Nat → Nat → Nat → Nat → Nat → Nat} (v : LC h D) (o : oldc3 h h') (c : zr h' 0 10 = zr h 0 10) : LC h' D := v.fr ⟨c, o.1, fun q h1 h2 h3 => ⟨(o.2 q h1 h2).1, fun k => ⟨by rw [(o.2 q h1 h2).2.2.1 (by omega)], by rw [(o.2 q h1 h2).2.2.2.2]⟩⟩⟩
/-- one number of one player is set, in class and model -/
theorem iP.set {h h' : Hp} {n : Nat} {pa : Nat → Nat} (v : iP h n pa) (o : oldc3 h h') (a : zi h' 0 3 = zi h 0 3) (b : zi h' 17 6 = zi h 17 6) (d : zr h' 1 = zr h 1) {p0 w0 : Nat} {x : Int32} (hp0 : p0 < n) (hw0 : w0 < 3) (hx : iRg w0 x) (c1 : ∀ q k, 42 ≤ q → zt h q = 3 → zi h' q k = if q = pa p0 ∧ k = w0 then x else zi h q k) (c2 : ∀ k, zi h' 18 k = if k = 4 * w0 + p0 then x else zi h 18 k) : iP h' n pa := by
  have hn := v.1
  refine ⟨v.1, a.trans v.2.1, b.trans v.2.2.1, fun p hp => ?_, v.2.2.2.2⟩
  have q := v.2.2.2.1 p hp
  have r := o.2 _ q.2.1 q.2.2.1
  rw [d, r.1]
  refine ⟨q.1, q.2.1, Nat.lt_of_lt_of_le q.2.2.1 o.1, q.2.2.2.1, fun w hw => ?_⟩
  rw [c1 _ _ q.2.1 q.2.2.2.1, c2]
  by_cases z : p = p0 ∧ w = w0
  · rw [if_pos ⟨by rw [z.1], z.2⟩, if_pos (by rw [z.1, z.2])]
    exact ⟨rfl, by rw [z.2]; exact hx⟩
  · rw [if_neg (fun y => z ⟨v.2.2.2.2 p p0 hp hp0 y.1, y.2⟩), if_neg (by intro y; apply z; omega)]
    exact q.2.2.2.2 w hw
theorem sX0_setTo {h : Hp} {w p a : Nat} (hw : w < 3) (hp : p < 4) (e : zr h 1 p = some a) (x : Int32) : X0_setTo h (nI w) (nI p) x = some ((), zsi h a w x) := by
  unfold X0_setTo
  have : w = 0 ∨ w = 1 ∨ w = 2 := by omega
  rcases this with rfl | rfl | rfl
  · rw [if_pos nI_0, ck_i (by omega) (by omega), nI_clamp (by omega), e, nm_u, dr_s, nm_u]
  · rw [if_neg (by decide), if_pos (by decide), ck_i (by omega) (by omega), nI_clamp (by omega), e, nm_u, dr_s, nm_u]
  · rw [if_neg (by decide), if_neg (by decide), ck_i (by omega) (by omega), nI_clamp (by omega), e, nm_u, dr_s, nm_u]
theorem sim_undo (i : Nat) : Sim i X0_undo X2_undo := by
  intro h v
  have v' := v
  obtain ⟨n, pa, ord, plc, b, D, m, ba, vP, vO, vB, vD, vC, vT, vBo, vTr, vS, vR, vLC, vLM, vDb, vx⟩ := v'
  have hn := vP.1
  obtain ⟨d, u, b1, b2, b3, b4, b5, b6⟩ := vC
  by_cases c : d = 0
  · refine ⟨-5, h, h, ?_, ?_, v.fQ (Nat.le_succ i) (fQ.mk (fS.rf h) (fS2.rf h))⟩
    · unfold X0_undo; rw [if_pos (by rw [b2, c]; rfl)]
    · unfold X2_undo; rw [if_pos (by rw [b4, c]; rfl)]
  · obtain ⟨d, rfl⟩ : ∃ d', d = d' + 1 := ⟨d - 1, by omega⟩
    obtain ⟨a, w, p, x1, x2, x3, x4, x5, x6, x7, x8, x9, x10, x11, x12, x13⟩ := b6 d (by omega)
    have q := vP.2.2.2.1 p x6
    have ne : a ≠ pa p := by intro z; rw [z, q.2.2.2.1] at x4; omega
    refine ⟨nI d, zsi (zsi (zsi h 0 6 (nI d)) 0 7 (nI (u + 1))) (pa p) w (zi h 20 d), zsi (zsi (zsi (zsi (zsi h 0 6 (nI d)) 0 7 (nI (u + 1))) (pa p) w (zi h 20 d)) 17 5 (nI d)) 18 (4 * w + p) (zi h 20 d), ?_, ?_, ?_⟩
    · unfold X0_undo
      have e6 : zi (zsi (zsi h 0 6 (nI d)) 0 7 (nI (u + 1))) 0 6 = nI d := rfl
      have er : zr (zsi (zsi h 0 6 (nI d)) 0 7 (nI (u + 1))) 4 d = some a := x1
      have ea : ∀ k, zi (zsi (zsi h 0 6 (nI d)) 0 7 (nI (u + 1))) a k = zi h a k := fun k => by
        rw [zi_ne _ _ _ _ (Or.inl (by omega)), zi_ne _ _ _ _ (Or.inl (by omega))]
      rw [b2, if_neg (nI_ne0 (by omega) (by omega)), nI_pred, nm_u, nm_u, show zi (zsi h 0 6 (nI d)) 0 7 = nI u from b3, nI_1, nm_u, nm_u, e6, ck_i (by omega) (by omega), nm_u, nI_clamp (by omega), er, dr_s, ck_i (by omega) (by omega), nm_u, dr_s, ck_i (by omega) (by omega), nm_u, dr_s, ea, ea, ea, x7, x8, x10, sX0_setTo x5 (by omega) (show zr (zsi (zsi h 0 6 (nI d)) 0 7 (nI (u + 1))) 1 p = some (pa p) from q.1), bd_s, zi_ne _ _ _ _ (Or.inl (by omega)), e6]
    · unfold X2_undo
      have L : ∀ q k, q < 42 → q ≠ 0 → zi (zsi (zsi (zsi h 0 6 (nI d)) 0 7 (nI (u + 1))) (pa p) w (zi h 20 d)) q k = zi h q k := fun q k h1 h2 => by
        rw [zi_ne _ _ _ _ (Or.inl (by omega)), zi_ne _ _ _ _ (Or.inl h2), zi_ne _ _ _ _ (Or.inl h2)]
      rw [L 17 5 (by omega) (by omega), b4, if_neg (nI_ne0 (by omega) (by omega)), nI_pred, nm_u, nm_u, zi_eq, ck_i (by omega) (by omega), ck_i (by omega) (by omega), nI_clamp (by omega), nm_u, zi_ne _ _ _ _ (Or.inl (by decide)), L 19 d (by omega) (by omega), x9, ck_i (by omega) (by omega), nm_u, nI_clamp (by omega), zi_ne _ _ _ _ (Or.inl (by decide)), zi_eq, zi_ne _ _ _ _ (Or.inl (by decide)), L 20 d (by omega) (by omega)]
    · have od : oldc3 h (zsi (zsi (zsi (zsi (zsi h 0 6 (nI d)) 0 7 (nI (u + 1))) (pa p) w (zi h 20 d)) 17 5 (nI d)) 18 (4 * w + p) (zi h 20 d)) := ((((((oldc.rf h).o3).si (Or.inl (by omega))).si (Or.inl (by omega))).si (Or.inr (Or.inr q.2.2.2.1))).si (Or.inl (by omega))).si (Or.inl (by omega))
      have L : ∀ q, q < 42 → q ≠ 0 → q ≠ 17 → q ≠ 18 → zi (zsi (zsi (zsi (zsi (zsi h 0 6 (nI d)) 0 7 (nI (u + 1))) (pa p) w (zi h 20 d)) 17 5 (nI d)) 18 (4 * w + p) (zi h 20 d)) q = zi h q := fun q h1 h2 h3 h4 => by
        funext k
        rw [zi_ne _ _ _ _ (Or.inl h4), zi_ne _ _ _ _ (Or.inl h3), zi_ne _ _ _ _ (Or.inl (by omega)), zi_ne _ _ _ _ (Or.inl h2), zi_ne _ _ _ _ (Or.inl h2)]
      have L0 : ∀ k, k ≠ 6 → k ≠ 7 → zi (zsi (zsi (zsi (zsi (zsi h 0 6 (nI d)) 0 7 (nI (u + 1))) (pa p) w (zi h 20 d)) 17 5 (nI d)) 18 (4 * w + p) (zi h 20 d)) 0 k = zi h 0 k := fun k h1 h2 => by
        rw [zi_ne _ _ _ _ (Or.inl (by decide)), zi_ne _ _ _ _ (Or.inl (by decide)), zi_ne _ _ _ _ (Or.inl (by omega)), zi_ne _ _ _ _ (Or.inr h2), zi_ne _ _ _ _ (Or.inr h1)]
      have L17 : ∀ k, k ≠ 5 → zi (zsi (zsi (zsi (zsi (zsi h 0 6 (nI d)) 0 7 (nI (u + 1))) (pa p) w (zi h 20 d)) 17 5 (nI d)) 18 (4 * w + p) (zi h 20 d)) 17 k = zi h 17 k := fun k h1 => by
        rw [zi_ne _ _ _ _ (Or.inl (by decide)), zi_ne _ _ _ _ (Or.inr h1), zi_ne _ _ _ _ (Or.inl (by omega)), zi_ne _ _ _ _ (Or.inl (by decide)), zi_ne _ _ _ _ (Or.inl (by decide))]
      refine ⟨n, pa, ord, plc, b, D, m, ba, vP.set od (L0 3 (by omega) (by omega)) (L17 6 (by omega)) rfl x6 x5 x12 (fun q' k h1 h2 => ?_) (fun k => ?_), vO.lo (L 2 (by omega) (by omega) (by omega) (by omega)) (L 22 (by omega) (by omega) (by omega) (by omega)) (L 23 (by omega) (by omega) (by omega) (by omega)), vB.ol (L0 4 (by omega) (by omega)) (L17 9 (by omega)) (L 3 (by omega) (by omega) (by omega) (by omega)) (L 24 (by omega) (by omega) (by omega) (by omega)) rfl, vD.lo (fun k _ _ => L0 k (by omega) (by omega)) (fun k _ _ => L17 k (by omega)), ⟨d, u + 1, by omega, ?_, ?_, ?_, ?_, fun k hk => ?_⟩, vT.lo (L0 9 (by omega) (by omega)) (L17 13 (by omega)) (L 26 (by omega) (by omega) (by omega) (by omega)) (L 5 (by omega) (by omega) (by omega) (by omega)), vBo.o3 od (L0 36 (by omega) (by omega)) (L17 40 (by omega)) (L 36 (by omega) (by omega) (by omega) (by omega)) rfl, vTr.lo (L0 33 (by omega) (by omega)) (L17 43 (by omega)) (L 14 (by omega) (by omega) (by omega) (by omega)) (L 37 (by omega) (by omega) (by omega) (by omega)), vS.o3 od (L 38 (by omega) (by omega) (by omega) (by omega)) (L 39 (by omega) (by omega) (by omega) (by omega)) rfl rfl, vR.le (Nat.le_succ _), vLC.o3 od rfl, vLM.lo (L17 15 (by omega)) (L 27 (by omega) (by omega) (by omega) (by omega)), vDb, vx⟩
      · rw [zi_ne _ _ _ _ (Or.inl (by omega)), zi_ne _ _ _ _ (Or.inl (by omega)), zi_si, zi_ne _ _ _ _ (Or.inl (by omega)), zi_ne _ _ _ _ (Or.inl (by omega))]
      · rw [upd_i, zi_ne _ _ _ _ (Or.inl (by decide)), zi_ne _ _ _ _ (Or.inl (by omega)), zi_ne _ _ _ _ (Or.inl (by decide)), zi_ne _ _ _ _ (Or.inl (by decide))]
      · rw [zi_ne _ _ _ _ (Or.inl (by decide)), zi_ne _ _ _ _ (Or.inl (by decide)), zi_ne _ _ _ _ (Or.inl (by omega)), zi_ne _ _ _ _ (Or.inr (by decide)), zi_eq]
      · rw [zi_ne _ _ _ _ (Or.inl (by decide)), zi_ne _ _ _ _ (Or.inl (by decide)), zi_ne _ _ _ _ (Or.inl (by omega)), zi_eq]
      · rw [zi_ne _ _ _ _ (Or.inl (by decide)), zi_eq]
      · rw [L17 4 (by omega), b5]; congr 1; omega
      · exact (b6 k (by omega)).o3 od (by rw [L 19 (by omega) (by omega) (by omega) (by omega)]) (by rw [L 20 (by omega) (by omega) (by omega) (by omega)]) (by rw [L 21 (by omega) (by omega) (by omega) (by omega)]) rfl
