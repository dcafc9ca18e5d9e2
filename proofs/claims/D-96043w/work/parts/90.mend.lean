/-! mend: the invariant behind a change -/
theorem Inv.mend {i : Nat} {h h2 : Hp} {n b m d u dd s w p : Nat} {pa ord plc ba : Nat → Nat} {D : Nat → Nat → Nat → Nat → Nat → Nat} {x y : Int32} (vP : iP h n pa) (vO : iO h n ord plc) (vB : iB h b) (vD : iD h n ord b) (b6 : ∀ k, k < d + u → iC1 h n k) (vT : iT h) (vBo : iBo h m ba) (vTr : iTr h) (vS : iS h m ba) (vR : iR h i) (vLC : LC h D) (vLM : LM h D) (vDb : ∀ a w t m k, a ≤ 12 → D a w t m k ≤ 12) (vx : 42 ≤ zx h)
    (hw : w < 3) (hp : p < n) (hx : iRg w x) (hy : iRg w y) (hdd : dd + s ≤ d) (hd40 : dd < 40)
    (od : oldc3 h h2) (L : ∀ q, q < 42 → q ≠ 0 → q ≠ 17 → q ≠ 18 → q ≠ 19 → q ≠ 20 → q ≠ 21 → zi h2 q = zi h q)
    (L0 : ∀ k, k ≠ 6 → k ≠ 7 → zi h2 0 k = zi h 0 k) (a6 : zi h2 0 6 = nI (dd + 1)) (a7 : zi h2 0 7 = 0)
    (L17 : ∀ k, k ≠ 4 → k ≠ 5 → zi h2 17 k = zi h 17 k) (a5 : zi h2 17 5 = nI (dd + 1)) (a4 : zi h2 17 4 = nI (dd + 1))
    (c2 : ∀ k, zi h2 18 k = if k = 4 * w + p then y else zi h 18 k) (c1 : ∀ q k, 42 ≤ q → q < zx h → zt h q = 3 → zi h2 q k = if q = pa p ∧ k = w then y else zi h q k)
    (R : ∀ q, q < 42 → q ≠ 4 → zr h2 q = zr h q) (J : ∀ q, q < 42 → zj h2 q = zj h q)
    (en : ∀ k, k < dd → zr h2 4 k = zr h 4 (k + s) ∧ zi h2 19 k = zi h 19 (k + s) ∧ zi h2 20 k = zi h 20 (k + s) ∧ zi h2 21 k = zi h 21 (k + s))
    (ne : zr h2 4 dd = some (zx h) ∧ zt h2 (zx h) = 4 ∧ zi h2 (zx h) 0 = nI w ∧ zi h2 (zx h) 1 = nI p ∧ zi h2 (zx h) 2 = x ∧ zi h2 (zx h) 3 = y ∧ zi h2 19 dd = nI (4 * w + p) ∧ zi h2 20 dd = x ∧ zi h2 21 dd = y)
    (hz : zx h2 = zx h + 1) (hc : zc h2 = zc h + 1) (hs : zs h2 = zs h + 4) : Inv (i + 1) h2 := by
  have hn := vP.1
  have P' : iP h2 n pa := by
    refine ⟨vP.1, (L0 3 (by omega) (by omega)).trans vP.2.1, (L17 6 (by omega) (by omega)).trans vP.2.2.1, fun p' hp' => ?_, vP.2.2.2.2⟩
    have q := vP.2.2.2.1 p' hp'
    have r := od.2 _ q.2.1 q.2.2.1
    rw [R 1 (by omega) (by omega), r.1]
    refine ⟨q.1, q.2.1, by omega, q.2.2.2.1, fun w' hw' => ?_⟩
    rw [c1 _ _ q.2.1 q.2.2.1 q.2.2.2.1, c2]
    by_cases z : p' = p ∧ w' = w
    · rw [if_pos ⟨by rw [z.1], z.2⟩, if_pos (by rw [z.1, z.2])]
      exact ⟨rfl, by rw [z.2]; exact hy⟩
    · rw [if_neg (fun e => z ⟨vP.2.2.2.2 p' p hp' hp e.1, e.2⟩), if_neg (by intro e; apply z; omega)]
      exact q.2.2.2.2 w' hw'
  have lo : ∀ q, q < 42 → q ≠ 0 → q ≠ 17 → q ≠ 18 → q ≠ 19 → q ≠ 20 → q ≠ 21 → zi h2 q = zi h q := L
  refine ⟨n, pa, ord, plc, b, D, m, ba, P', vO.lo (L 2 (by omega) (by omega) (by omega) (by omega) (by omega) (by omega) (by omega)) (L 22 (by omega) (by omega) (by omega) (by omega) (by omega) (by omega) (by omega)) (L 23 (by omega) (by omega) (by omega) (by omega) (by omega) (by omega) (by omega)), vB.ol (L0 4 (by omega) (by omega)) (L17 9 (by omega) (by omega)) (L 3 (by omega) (by omega) (by omega) (by omega) (by omega) (by omega) (by omega)) (L 24 (by omega) (by omega) (by omega) (by omega) (by omega) (by omega) (by omega)) (J 10 (by omega)), vD.lo (fun k _ _ => L0 k (by omega) (by omega)) (fun k _ _ => L17 k (by omega) (by omega)), ⟨dd + 1, 0, by omega, a6, a7, a5, a4, fun k hk => ?_⟩, vT.lo (L0 9 (by omega) (by omega)) (L17 13 (by omega) (by omega)) (L 26 (by omega) (by omega) (by omega) (by omega) (by omega) (by omega) (by omega)) (L 5 (by omega) (by omega) (by omega) (by omega) (by omega) (by omega) (by omega)), vBo.o3 od (L0 36 (by omega) (by omega)) (L17 40 (by omega) (by omega)) (L 36 (by omega) (by omega) (by omega) (by omega) (by omega) (by omega) (by omega)) (R 15 (by omega) (by omega)), vTr.lo (L0 33 (by omega) (by omega)) (L17 43 (by omega) (by omega)) (L 14 (by omega) (by omega) (by omega) (by omega) (by omega) (by omega) (by omega)) (L 37 (by omega) (by omega) (by omega) (by omega) (by omega) (by omega) (by omega)), vS.o3 od (L 38 (by omega) (by omega) (by omega) (by omega) (by omega) (by omega) (by omega)) (L 39 (by omega) (by omega) (by omega) (by omega) (by omega) (by omega) (by omega)) (R 16 (by omega) (by omega)) (J 40 (by omega)), ⟨by rw [hc]; have := vR.1; omega, by rw [hs]; have := vR.2; omega⟩, vLC.o3 od (by rw [R 0 (by omega) (by omega)]), vLM.lo (L17 15 (by omega) (by omega)) (L 27 (by omega) (by omega) (by omega) (by omega) (by omega) (by omega) (by omega)), vDb, by rw [hz]; omega⟩
  rcases Nat.lt_or_ge k dd with l | l
  · obtain ⟨e1, e2, e3, e4⟩ := en k l
    exact (b6 (k + s) (by omega)).mv od e2 e3 e4 e1
  · rw [show k = dd from by omega]
    obtain ⟨e1, e2, e3, e4, e5, e6, e7, e8, e9⟩ := ne
    exact ⟨zx h, w, p, e1, vx, by omega, e2, hw, hp, e3, e4, e7, by rw [e5, e8], by rw [e6, e9], by rw [e8]; exact hx, by rw [e9]; exact hy⟩
/-- the class's heap before it makes a change -/
def bCh (h hB : Hp) (dd s : Nat) : Prop := (∀ q, q ≠ 0 → zi hB q = zi h q) ∧ (∀ k, k ≠ 6 → k ≠ 7 → zi hB 0 k = zi h 0 k) ∧ zi hB 0 6 = nI dd ∧ zi hB 0 7 = 0 ∧ zj hB = zj h ∧ (∀ q, q ≠ 4 → zr hB q = zr h q) ∧ (∀ j, j < dd → zr hB 4 j = zr h 4 (j + s)) ∧ hB.2.2.2 = h.2.2.2
theorem sX0_become {h : Hp} {n d w p : Nat} {pa : Nat → Nat} {x y : Int32} (vP : iP h n pa) (vx : 42 ≤ zx h) (hd : d ≤ 40) (e6 : zi h 0 6 = nI d) (hw : w < 3) (hp : p < n) (hxy : ¬ x = y) (r1 : zc h + 1 ≤ zLC ∧ zs h + 4 ≤ zLS) : wp (X0_become h (nI w) (nI p) x y) (fun r h1 => r = x ∧ ∃ hB dd s, dd < 40 ∧ dd + s = d ∧ (d = 40 ↔ s = 1) ∧ (d ≠ 40 ↔ s = 0) ∧ bCh h hB dd s ∧ h1 = hCh hB dd w p (pa p) x y) := by
  have hn := vP.1
  have q := vP.2.2.2.1 p hp
  unfold X0_become
  rw [if_neg hxy, nm_u, nm_u, show zi (zsi h 0 7 0) 0 6 = nI d from e6]
  have fin : ∀ hB dd s, dd < 40 → dd + s = d → (d = 40 ↔ s = 1) → (d ≠ 40 ↔ s = 0) → bCh h hB dd s → wp (ck (zc hB + 1 ≤ zLC ∧ zs hB + 4 ≤ zLS) <| nm (zx hB) fun a6 => nm (zne hB 4 0 4) fun h7 => bd (X4_init h7 a6 (nI w) (nI p) x y) fun _ h8 => ck (0 ≤ (zi hB 0 6).toInt ∧ (zi hB 0 6).toInt < 40) <| nm (zsr h8 4 (zi hB 0 6).toNatClampNeg (some a6)) fun h11 => nm ((zi h11 0 6) + (1 : Int32) : Int32) fun v12 => nm (zsi h11 0 6 v12) fun h13 => bd (X0_setTo h13 (nI w) (nI p) y) fun _ h14 => some (x, h14)) (fun r h1 => r = x ∧ ∃ hB dd s, dd < 40 ∧ dd + s = d ∧ (d = 40 ↔ s = 1) ∧ (d ≠ 40 ↔ s = 0) ∧ bCh h hB dd s ∧ h1 = hCh hB dd w p (pa p) x y) := by
    intro hB dd s h1 h2 h3 h4 bb
    have ez : zx hB = zx h := congrArg (fun x => x.2.2.1) bb.2.2.2.2.2.2.2
    have ec : zc hB = zc h := congrArg (fun x => x.2.2.2.1) bb.2.2.2.2.2.2.2
    have es : zs hB = zs h := congrArg (fun x => x.2.2.2.2) bb.2.2.2.2.2.2.2
    rw [lX0_64 (a := pa p) (by rw [ez]; exact vx) h1 bb.2.2.1 hw (by omega) (by rw [bb.2.2.2.2.2.1 1 (by decide)]; exact q.1) (by rw [ec, es]; exact r1)]
    exact wp.of rfl ⟨rfl, hB, dd, s, h1, h2, h3, h4, bb, rfl⟩
  by_cases c : d = 40
  · rw [if_pos (by rw [c]; rfl), nm_u]
    refine lX0_25 (zsi h 0 7 0) _ (fun h' mv => ?_) zFU 1 _ ⟨rfl, rfl, rfl, fun _ _ => rfl, fun j => by rw [if_neg (by omega)]⟩ (by omega) (by omega) (by rw [zFU_u]; omega)
    have zi' : zi h' = zi (zsi h 0 7 0) := mv.1
    show wp (nm _ _) _
    rw [nm_u, nm_u, show zi h' 0 6 = nI 40 from by rw [zi', zi_ne _ _ _ _ (Or.inr (by decide)), e6, c]]
    refine fin (zsi h' 0 6 (nI 40 - 1)) 39 1 (by omega) (by omega) ⟨fun _ => rfl, fun _ => c⟩ ⟨fun z => absurd c z, fun z => by omega⟩ ⟨fun q hq => ?_, fun k h1 h2 => ?_, ?_, ?_, mv.2.1, mv.2.2.2.1, fun j hj => ?_, mv.2.2.1⟩
    · funext k
      rw [zi_ne _ _ _ _ (Or.inl hq), zi', zi_ne _ _ _ _ (Or.inl hq)]
    · rw [zi_ne _ _ _ _ (Or.inr h1), zi', zi_ne _ _ _ _ (Or.inr h2)]
    · rw [zi_eq]; exact nI_pred 39
    · rw [zi_ne _ _ _ _ (Or.inr (by decide)), zi', zi_eq]
    · show zr h' 4 j = _
      rw [mv.2.2.2.2 j, if_pos (by omega)]; rfl
  · rw [if_neg (by intro z; exact c ((nI_eq (by omega) (by omega)).mp (show nI d = nI 40 from z)))]
    refine fin (zsi h 0 7 0) d 0 (by omega) (by omega) ⟨fun z => absurd z c, fun z => by omega⟩ ⟨fun _ => rfl, fun _ => c⟩ ⟨fun q hq => ?_, fun k _ h2 => zi_ne _ _ _ _ (Or.inr h2), e6, zi_eq _ _ _ _, rfl, fun _ _ => rfl, fun _ _ => rfl, rfl⟩
    funext k; exact zi_ne _ _ _ _ (Or.inl hq)
/-- the model's heap before and behind a change -/
def bMe (h hM : Hp) (dd s : Nat) : Prop := hM.2 = h.2 ∧ (∀ q, q ≠ 17 → q ≠ 19 → q ≠ 20 → q ≠ 21 → zi hM q = zi h q) ∧ (∀ k, k ≠ 5 → zi hM 17 k = zi h 17 k) ∧ zi hM 17 5 = nI dd ∧ ∀ q, q = 19 ∨ q = 20 ∨ q = 21 → ∀ j, j < dd → zi hM q j = zi h q (j + s)
def hMe (h : Hp) (dd W : Nat) (x y : Int32) : Hp := zsi (zsi (zsi (zsi (zsi (zsi h 19 dd (nI W)) 20 dd x) 21 dd y) 17 5 (nI (dd + 1))) 17 4 (nI (dd + 1))) 18 W y
theorem sX2_becomes {h : Hp} {d W : Nat} {x y : Int32} (hd : d ≤ 40) (e5 : zi h 17 5 = nI d) (hW : W < 12) (ex : zi h 18 W = x) (hxy : ¬ x = y) : wp (X2_becomes h (nI W) y) (fun r h2 => r = x ∧ ∃ hM dd s, dd < 40 ∧ dd + s = d ∧ (d = 40 ↔ s = 1) ∧ (d ≠ 40 ↔ s = 0) ∧ bMe h hM dd s ∧ h2 = hMe hM dd W x y) := by
  unfold X2_becomes
  rw [ck_i (by omega) (by omega), nI_clamp (by omega), ex, nm_u, if_neg hxy, nm_u, e5]
  have fin : ∀ hM dd s, dd < 40 → dd + s = d → (d = 40 ↔ s = 1) → (d ≠ 40 ↔ s = 0) → bMe h hM dd s → wp (ck (0 ≤ (zi hM 17 5).toInt ∧ (zi hM 17 5).toInt < 40) <| nm (zsi hM 19 (zi hM 17 5).toNatClampNeg (nI W)) fun h7 => ck (0 ≤ (zi h7 17 5).toInt ∧ (zi h7 17 5).toInt < 40) <| nm (zsi h7 20 (zi h7 17 5).toNatClampNeg x) fun h9 => ck (0 ≤ (zi h9 17 5).toInt ∧ (zi h9 17 5).toInt < 40) <| nm (zsi h9 21 (zi h9 17 5).toNatClampNeg y) fun h11 => nm ((zi h11 17 5) + (1 : Int32) : Int32) fun v12 => nm (zsi h11 17 5 v12) fun h13 => nm (zi h13 17 5 : Int32) fun v14 => nm (zsi h13 17 4 v14) fun h15 => ck (0 ≤ (nI W).toInt ∧ (nI W).toInt < 12) <| nm (zsi h15 18 W y) fun h17 => some (x, h17)) (fun r h2 => r = x ∧ ∃ hM dd s, dd < 40 ∧ dd + s = d ∧ (d = 40 ↔ s = 1) ∧ (d ≠ 40 ↔ s = 0) ∧ bMe h hM dd s ∧ h2 = hMe hM dd W x y) := by
    intro hM dd s h1 h2 h3 h4 bb
    have e := bb.2.2.2.1
    rw [e, ck_i (by omega) (by omega), nm_u, nI_clamp (by omega), show zi (zsi hM 19 dd (nI W)) 17 5 = nI dd from e, ck_i (by omega) (by omega), nm_u, nI_clamp (by omega), show zi (zsi (zsi hM 19 dd (nI W)) 20 dd x) 17 5 = nI dd from e, ck_i (by omega) (by omega), nm_u, nI_clamp (by omega), show zi (zsi (zsi (zsi hM 19 dd (nI W)) 20 dd x) 21 dd y) 17 5 = nI dd from e, nI_1, nm_u, nm_u, nm_u, nm_u, zi_eq, ck_i (by omega) (by omega), nm_u]
    exact wp.of rfl ⟨rfl, hM, dd, s, h1, h2, h3, h4, bb, rfl⟩
  by_cases c : d = 40
  · rw [if_pos (by rw [c]; rfl), nm_u]
    refine lX2_26 h _ (fun h' mv => ?_) zFU 1 _ ⟨rfl, fun _ _ _ _ => rfl, fun q _ j => by rw [if_neg (by omega)]⟩ (by omega) (by omega) (by rw [zFU_u]; omega)
    show wp (nm _ _) _
    rw [nm_u, nm_u, show zi h' 17 5 = nI 40 from by rw [mv.2.1 17 (by decide) (by decide) (by decide), e5, c]]
    refine fin (zsi h' 17 5 (nI 40 - 1)) 39 1 (by omega) (by omega) ⟨fun _ => rfl, fun _ => c⟩ ⟨fun z => absurd c z, fun z => by omega⟩ ⟨mv.1, fun q h1 h2 h3 h4 => ?_, fun k h1 => ?_, ?_, fun q hq j hj => ?_⟩
    · rw [← mv.2.1 q h2 h3 h4]; funext k; exact zi_ne _ _ _ _ (Or.inl h1)
    · rw [zi_ne _ _ _ _ (Or.inr h1), mv.2.1 17 (by decide) (by decide) (by decide)]
    · rw [zi_eq]; exact nI_pred 39
    · rw [zi_ne _ _ _ _ (Or.inl (by omega)), mv.2.2 q hq j, if_pos (by omega)]
  · rw [if_neg (by intro z; exact c ((nI_eq (by omega) (by omega)).mp (show nI d = nI 40 from z)))]
    exact fin h d 0 (by omega) (by omega) ⟨fun z => absurd z c, fun z => by omega⟩ ⟨fun _ => rfl, fun _ => c⟩ ⟨rfl, fun _ _ _ _ _ => rfl, fun _ _ => rfl, e5, fun _ _ _ _ => rfl⟩
