/-! judge, chance: the class -/
def gOk (σ : Sg) (s pl k : Nat) (x y : Int32) : Prop := ¬ isOv σ s k ∧ (0 ≤ y ∧ y ≤ 1) ∧ ((x = 9 ∧ y = 0) ∨ (x ≠ 9 ∧ ∃ t, t < sN σ ∧ x = nI t ∧ t ≠ sO σ pl ∧ s.testBit t = true ∧ (y = 1 → sH σ (sO σ pl) t (pc s) k ≠ 0) ∧ (y = 0 → sH σ (sO σ pl) t (pc s) k ≠ 12)))
def gS (s : Nat) (x y : Int32) : Nat := if y = 1 then cl s x.toNatClampNeg else s
def gO (σ : Sg) (s pl k : Nat) (x o : Int32) : Int32 := if x = nI (dG σ (sB σ - k) s (sO σ pl)) then o else if 0 ≤ o then o else nI k
def gV (σ : Sg) (s pl k : Nat) (x : Int32) : Int32 := nI (sH σ (sO σ pl) x.toNatClampNeg (pc s) k)
def gP (σ : Sg) (s pl k : Nat) (x y : Int32) (p : Int64) : Int64 := if x = 9 then p else p * (if y = 1 then (gV σ s pl k x).toInt64 else ((12 : Int32) - gV σ s pl k x).toInt64)
def gQ (x : Int32) (q : Int64) : Int64 := if x = 9 then q else q * 12
noncomputable def gT (σ : Sg) (c : Nat → Int32) (l : Nat) : Nat → Nat → Nat → Nat → Int32 → Int64 → Int64 → Int32 × Int32 × Int64 × Int64
  | 0, _, _, _, o, p, q => (-2, o, p, q)
  | f + 1, k, s, pl, o, p, q => if l ≤ 2 * k then (-2, o, p, q) else @ite _ (2 * k + 1 < l ∧ gOk σ s pl k (c (2 * k)) (c (2 * k + 1))) (Classical.propDecidable _) (gT σ c l f (k + 1) (gS s (c (2 * k)) (c (2 * k + 1))) (nxp σ (gS s (c (2 * k)) (c (2 * k + 1))) pl) (gO σ s pl k (c (2 * k)) o) (gP σ s pl k (c (2 * k)) (c (2 * k + 1)) p) (gQ (c (2 * k)) q)) (nI k, o, p, q)
def gTl (x1 x2 v12 : Int32) (h16 : Hp) : Option (Int32 × Hp) := bd (X0_at h16 (zi h16 0 19) (zi h16 0 20) (zi h16 0 21)) fun r19 h18 => ck (0 ≤ r19.toInt ∧ r19.toInt < 640) <| nm (fun (h21 : Hp)  => nm (fun (h23 : Hp)  => nm (fun (h25 : Hp) (v26 : Int32) => bd (X0_goTo h25 v26 (zi h25 0 20)) fun _ h28 => some ((1 : Int32), h28)) fun j229_27 => if x2 = (1 : Int32) then (j229_27 h23 ((zi h23 0 19) &&& (((1 : Int32) <<< (x1 &&& 31)) ^^^ (-1 : Int32)))) else (j229_27 h23 (zi h23 0 19))) fun j206_24 => if x1 = (9 : Int32) then (j206_24 h21 ) else (nm (fun (h32 : Hp) (v33 : Int64) => nm ((zj h21 0 24) * v33 : Int64) fun v35 => nm (zsj h32 0 24 v35) fun h36 => nm ((zj h36 0 25) * (12 : Int64) : Int64) fun v37 => nm (zsj h36 0 25 v37) fun h38 => j206_24 h38 ) fun j190_34 => if x2 = (1 : Int32) then (j190_34 h21 v12.toInt64) else (j190_34 h21 (((12 : Int32) - v12).toInt64)))) fun j162_22 => if x1 = (zi h18 9 r19.toNatClampNeg) then (j162_22 h18 ) else (if 0 ≤ (zi h18 0 23) then (j162_22 h18 ) else (nm (zi h18 0 21 : Int32) fun v42 => nm (zsi h18 0 23 v42) fun h43 => j162_22 h43 ))
def gMd (x1 x2 : Int32) (h11 : Hp) (v12 : Int32) : Option (Int32 × Hp) := if x2 = (1 : Int32) then (if v12 = 0 then (some ((0 : Int32), h11)) else (if x2 = 0 then (if v12 = (12 : Int32) then (some ((0 : Int32), h11)) else (gTl x1 x2 v12 h11 )) else (gTl x1 x2 v12 h11 ))) else (if x2 = 0 then (if v12 = (12 : Int32) then (some ((0 : Int32), h11)) else (gTl x1 x2 v12 h11 )) else (gTl x1 x2 v12 h11 ))
def gHd (x1 x2 v8 : Int32) (h9 : Hp) : Option (Int32 × Hp) := if x1 = (9 : Int32) then (gMd x1 x2 h9 (0 : Int32)) else (bd (X0_hitsOf h9 v8 x1 (zi h9 0 19) (zi h9 0 21)) fun r50 h49 => gMd x1 x2 h49 r50)
theorem goes_e (h : Hp) (x1 x2 : Int32) : X0_goes h x1 x2 = bd (X0_isOver h (zi h 0 19) (zi h 0 21)) fun r2 h1 => if r2 = 0 then (bd (X0_in h1 x2 (0 : Int32) (1 : Int32)) fun r5 h4 => if r5 = 0 then (some ((0 : Int32), h4)) else (ck (0 ≤ (zi h4 0 20).toInt ∧ (zi h4 0 20).toInt < 4) <| nm (zi h4 2 (zi h4 0 20).toNatClampNeg : Int32) fun v8 => if x1 = (9 : Int32) then (gHd x1 x2 v8 h4 ) else (bd (X0_in h4 x1 (0 : Int32) ((zi h4 0 3) - (1 : Int32))) fun r53 h52 => if r53 = 0 then (some ((0 : Int32), h52)) else (if x1 = v8 then (some ((0 : Int32), h52)) else (bd (X0_has h52 (zi h52 0 19) x1) fun r57 h56 => if r57 = 0 then (some ((0 : Int32), h56)) else (gHd x1 x2 v8 h56 )))))) else (some ((0 : Int32), h1)) := rfl
/-- what stands behind a throw that may be -/
def gGd (σ : Sg) (s pl k : Nat) (x y : Int32) (h H : Hp) : Prop := f0 h H ∧ tC σ H 0 ∧ zi H 0 19 = nI (gS s x y) ∧ zi H 0 20 = nI (nxp σ (gS s x y) pl) ∧ zi H 0 21 = nI (k + 1) ∧ zi H 0 22 = zi h 0 22 ∧ zi H 0 23 = gO σ s pl k x (zi h 0 23) ∧ zj H 0 24 = gP σ s pl k x y (zj h 0 24) ∧ zj H 0 25 = gQ x (zj h 0 25)
theorem tC.j0 {σ : Sg} {h : Hp} {lo k : Nat} {v : Int64} (t : tC σ h lo) : tC σ (zsj h 0 k v) lo := fun m h1 h2 s h3 h4 pl h5 h6 => ⟨(t m h1 h2 s h3 h4 pl h5 h6).1, fun p hp => (zj_ne _ _ _ _ (Or.inl (by decide))).trans ((t m h1 h2 s h3 h4 pl h5 h6).2 p hp)⟩
theorem gTl_s {σ : Sg} (ok : sOK σ) {h : Hp} (g : gc σ h) (t : tC σ h 0) {s pl k : Nat} (e19 : zi h 0 19 = nI s) (e20 : zi h 0 20 = nI pl) (e21 : zi h 0 21 = nI k) (hs : s < 2 ^ sN σ) (hp : pl < sN σ) (hb : s.testBit (sO σ pl) = true) (x y : Int32) (hg : gOk σ s pl k x y) {v : Int32} (hv : x ≠ 9 → v = gV σ s pl k x) : ∃ H, gTl x y v h = some (1, H) ∧ gGd σ s pl k x y h H := by
  have hn := ok.1
  have hb9 := ok.2.2.2.2.1
  have hpw := pow16 hn
  obtain ⟨co, hy, hx⟩ := hg
  have co' : ¬ (sB σ ≤ k ∨ pc s ≤ 1) := co
  have et := (t k (Nat.zero_le _) (by omega) s hs (by omega) pl hp hb).1
  have hw := (ok.2.1 pl hp).1
  -- the new set
  have sx : (if y = 1 then nI s &&& (((1 : Int32) <<< (x &&& 31)) ^^^ (-1 : Int32)) else nI s) = nI (gS s x y) ∧ gS s x y < 2 ^ sN σ ∧ (gS s x y).testBit (sO σ pl) = true := by
    unfold gS
    by_cases c : y = 1
    · rw [if_pos c, if_pos c]
      rcases hx with ⟨_, z⟩ | ⟨_, t', h1, h2, h3, h4, _⟩
      · rw [c] at z; exact absurd z (by decide)
      · rw [h2, nI_clamp (by omega), b_cl s (by omega) t' (by omega)]
        exact ⟨rfl, Nat.lt_of_le_of_lt (cl_le _ _) hs, cl_keep ok hs hw hb h1 h3⟩
    · rw [if_neg c, if_neg c]; exact ⟨rfl, hs, hb⟩
  -- the end
  have fin : ∀ h23, gc σ h23 → tC σ h23 0 → f0 h h23 → zi h23 0 19 = nI s → zi h23 0 20 = nI pl → zi h23 0 21 = nI k → zi h23 0 22 = zi h 0 22 → zi h23 0 23 = gO σ s pl k x (zi h 0 23) → zj h23 0 24 = gP σ s pl k x y (zj h 0 24) → zj h23 0 25 = gQ x (zj h 0 25) → ∃ H, (nm (fun (h25 : Hp) (v26 : Int32) => bd (X0_goTo h25 v26 (zi h25 0 20)) fun _ h28 => some ((1 : Int32), h28)) fun j229_27 => if y = (1 : Int32) then (j229_27 h23 ((zi h23 0 19) &&& (((1 : Int32) <<< (x &&& 31)) ^^^ (-1 : Int32)))) else (j229_27 h23 (zi h23 0 19))) = some (1, H) ∧ gGd σ s pl k x y h H := by
    intro h23 g3 t3 fr a1 a2 a3 a4 a5 a6 a7
    refine ⟨zsi (zsi (zsi h23 0 19 (nI (gS s x y))) 0 20 (nI (nxp σ (gS s x y) pl))) 0 21 (nI (k + 1)), ?_, ?_⟩
    · rw [nm_u, a1]
      have : (if y = (1 : Int32) then (bd (X0_goTo h23 (nI s &&& (((1 : Int32) <<< (x &&& 31)) ^^^ (-1 : Int32))) (zi h23 0 20)) fun _ h28 => some ((1 : Int32), h28)) else (bd (X0_goTo h23 (nI s) (zi h23 0 20)) fun _ h28 => some ((1 : Int32), h28))) = bd (X0_goTo h23 (if y = 1 then nI s &&& (((1 : Int32) <<< (x &&& 31)) ^^^ (-1 : Int32)) else nI s) (zi h23 0 20)) fun _ h28 => some ((1 : Int32), h28) := by
        by_cases c : y = 1
        · rw [if_pos c, if_pos c]
        · rw [if_neg c, if_neg c]
      refine Eq.trans this ?_
      rw [sx.1, a2, sX0_goTo ok g3 sx.2.1 hp a3, bd_s]
    · refine ⟨fr.tr ((f0.s19 (by omega)).tr ((f0.s19 (by omega)).tr (f0.s19 (by omega)))), t3.s0.s0.s0, ?_, ?_, zi_eq _ _ _ _, ?_, ?_, a6, a7⟩
      · rw [zi_ne _ _ _ _ (Or.inr (by decide)), zi_ne _ _ _ _ (Or.inr (by decide)), zi_eq]
      · rw [zi_ne _ _ _ _ (Or.inr (by decide)), zi_eq]
      · rw [zi_ne _ _ _ _ (Or.inr (by decide)), zi_ne _ _ _ _ (Or.inr (by decide)), zi_ne _ _ _ _ (Or.inr (by decide))]; exact a4
      · rw [zi_ne _ _ _ _ (Or.inr (by decide)), zi_ne _ _ _ _ (Or.inr (by decide)), zi_ne _ _ _ _ (Or.inr (by decide))]; exact a5
  -- the parts
  have mid : ∀ h21, gc σ h21 → tC σ h21 0 → f0 h h21 → zi h21 0 19 = nI s → zi h21 0 20 = nI pl → zi h21 0 21 = nI k → zi h21 0 22 = zi h 0 22 → zi h21 0 23 = gO σ s pl k x (zi h 0 23) → zj h21 0 24 = zj h 0 24 → zj h21 0 25 = zj h 0 25 → ∃ H, (nm (fun (h23 : Hp)  => nm (fun (h25 : Hp) (v26 : Int32) => bd (X0_goTo h25 v26 (zi h25 0 20)) fun _ h28 => some ((1 : Int32), h28)) fun j229_27 => if y = (1 : Int32) then (j229_27 h23 ((zi h23 0 19) &&& (((1 : Int32) <<< (x &&& 31)) ^^^ (-1 : Int32)))) else (j229_27 h23 (zi h23 0 19))) fun j206_24 => if x = (9 : Int32) then (j206_24 h21 ) else (nm (fun (h32 : Hp) (v33 : Int64) => nm ((zj h21 0 24) * v33 : Int64) fun v35 => nm (zsj h32 0 24 v35) fun h36 => nm ((zj h36 0 25) * (12 : Int64) : Int64) fun v37 => nm (zsj h36 0 25 v37) fun h38 => j206_24 h38 ) fun j190_34 => if y = (1 : Int32) then (j190_34 h21 v.toInt64) else (j190_34 h21 (((12 : Int32) - v).toInt64)))) = some (1, H) ∧ gGd σ s pl k x y h H := by
    intro h21 g2 t2 fr a1 a2 a3 a4 a5 a6 a7
    rw [nm_u]
    by_cases c9 : x = 9
    · rw [if_pos c9]
      exact fin h21 g2 t2 fr a1 a2 a3 a4 a5 (by unfold gP; rw [if_pos c9]; exact a6) (by unfold gQ; rw [if_pos c9]; exact a7)
    · rw [if_neg c9, nm_u, hv c9]
      have two : ∀ w : Int64, gP σ s pl k x y (zj h 0 24) = zj h 0 24 * w → ∃ H, ((fun (h32 : Hp) (v33 : Int64) => nm ((zj h21 0 24) * v33 : Int64) fun v35 => nm (zsj h32 0 24 v35) fun h36 => nm ((zj h36 0 25) * (12 : Int64) : Int64) fun v37 => nm (zsj h36 0 25 v37) fun h38 => (fun (h23 : Hp)  => nm (fun (h25 : Hp) (v26 : Int32) => bd (X0_goTo h25 v26 (zi h25 0 20)) fun _ h28 => some ((1 : Int32), h28)) fun j229_27 => if y = (1 : Int32) then (j229_27 h23 ((zi h23 0 19) &&& (((1 : Int32) <<< (x &&& 31)) ^^^ (-1 : Int32)))) else (j229_27 h23 (zi h23 0 19))) h38 ) h21 w) = some (1, H) ∧ gGd σ s pl k x y h H := by
        intro w ew
        refine fin (zsj (zsj h21 0 24 (zj h21 0 24 * w)) 0 25 (zj (zsj h21 0 24 (zj h21 0 24 * w)) 0 25 * 12)) ((g2.fr (f0.sj (by omega))).fr (f0.sj (by omega))) t2.j0.j0 (fr.tr ((f0.sj (by omega)).tr (f0.sj (by omega)))) a1 a2 a3 a4 a5 ?_ ?_
        · rw [zj_ne _ _ _ _ (Or.inr (by decide)), zj_eq, a6, ew]
        · rw [zj_eq, zj_ne _ _ _ _ (Or.inr (by decide)), a7]; unfold gQ; rw [if_neg c9]
      by_cases c : y = 1
      · rw [if_pos c]
        exact two _ (by unfold gP; rw [if_neg c9, if_pos c])
      · rw [if_neg c]
        exact two _ (by unfold gP; rw [if_neg c9, if_neg c])
  unfold gTl
  rw [e19, e20, e21, sX0_at, bd_s, ck_i (by omega) (by omega), nI_clamp (by omega), et, nm_u]
  by_cases c1 : x = nI (dG σ (sB σ - k) s (sO σ pl))
  · rw [if_pos c1]
    exact mid h g t (f0.rf h) e19 e20 e21 rfl (by unfold gO; rw [if_pos c1]) rfl rfl
  · rw [if_neg c1]
    by_cases c2 : 0 ≤ zi h 0 23
    · rw [if_pos c2]
      exact mid h g t (f0.rf h) e19 e20 e21 rfl (by unfold gO; rw [if_neg c1, if_pos c2]) rfl rfl
    · rw [if_neg c2, nm_u, nm_u, e21]
      exact mid (zsi h 0 23 (nI k)) (g.sD (by omega)) t.s0 (f0.s19 (by omega)) ((zi_ne _ _ _ _ (Or.inr (by decide))).trans e19) ((zi_ne _ _ _ _ (Or.inr (by decide))).trans e20) ((zi_ne _ _ _ _ (Or.inr (by decide))).trans e21) (zi_ne _ _ _ _ (Or.inr (by decide))) (by unfold gO; rw [if_neg c1, if_neg c2, zi_eq]) rfl rfl
theorem sH12 {σ : Sg} (ok : sOK σ) {w t m k : Nat} (hw : w < sN σ) : sH σ w t m k ≤ 12 := ok.2.2.2.2.2.2 _ _ _ _ _ (ok.2.2.2.1 _ hw).1
theorem y01 {y : Int32} (h : 0 ≤ y ∧ y ≤ 1) : y = 0 ∨ y = 1 := by
  obtain ⟨a, ha, e⟩ := nI_rg (b := 1) (by omega) h.1 h.2
  have : a = 0 ∨ a = 1 := by omega
  rcases this with rfl | rfl
  · exact Or.inl e
  · exact Or.inr e
theorem sX0_goes {σ : Sg} (ok : sOK σ) {h : Hp} (g : gc σ h) (t : tC σ h 0) {s pl k : Nat} (e19 : zi h 0 19 = nI s) (e20 : zi h 0 20 = nI pl) (e21 : zi h 0 21 = nI k) (hs : s < 2 ^ sN σ) (hpb : 0 < sN σ → pl < sN σ ∧ s.testBit (sO σ pl) = true) (hk : k ≤ 60) (x y : Int32) : wp (X0_goes h x y) (fun r h' => (gOk σ s pl k x y ∧ r = 1 ∧ gGd σ s pl k x y h h') ∨ (¬ gOk σ s pl k x y ∧ r = 0 ∧ f7 h h')) := by
  have hn := ok.1
  have hb9 := ok.2.2.2.2.1
  have hpw := pow16 hn
  rw [goes_e, e19, e21, sX0_isOver h (by omega) (by omega) (by omega) g.2.2.2.1, bd_s]
  by_cases co : isOv σ s k
  · rw [if_neg (fun z => (pB0.mp z) co), wp_s]
    exact Or.inr ⟨fun z => z.1 co, rfl, f7.rf h⟩
  · have co' : ¬ (sB σ ≤ k ∨ pc s ≤ 1) := co
    have h0 : 0 < sN σ := by
      rcases Nat.eq_zero_or_pos (sN σ) with z | z
      · rw [z] at hs
        have : s = 0 := by omega
        subst this
        exact absurd (show pc 0 ≤ 1 by decide) (fun w => co' (Or.inr w))
      · exact z
    obtain ⟨hp, hb⟩ := hpb h0
    have hw := (ok.2.1 pl hp).1
    rw [if_pos (pB0.mpr co), sX0_in, bd_s]
    by_cases cy : 0 ≤ y ∧ y ≤ 1
    · rw [if_neg (fun z => (pB0.mp z) cy), e20, ck_i (by omega) (by omega), nm_u, nI_clamp (by omega), g.2.1 pl hp]
      -- behind the aim
      have md : ∀ h1 v, f7 h h1 → (x = 9 → v = 0) → (x ≠ 9 → v = gV σ s pl k x ∧ ∃ t, t < sN σ ∧ x = nI t ∧ t ≠ sO σ pl ∧ s.testBit t = true) → wp (gMd x y h1 v) (fun r h' => (gOk σ s pl k x y ∧ r = 1 ∧ gGd σ s pl k x y h h') ∨ (¬ gOk σ s pl k x y ∧ r = 0 ∧ f7 h h')) := by
        intro h1 v f7' v9 vn
        have no : ∀ _ : ¬ gOk σ s pl k x y, wp (some ((0 : Int32), h1)) (fun r h' => (gOk σ s pl k x y ∧ r = 1 ∧ gGd σ s pl k x y h h') ∨ (¬ gOk σ s pl k x y ∧ r = 0 ∧ f7 h h')) := fun z => by
          rw [wp_s]; exact Or.inr ⟨z, rfl, f7'⟩
        have yes : ∀ _ : gOk σ s pl k x y, wp (gTl x y v h1) (fun r h' => (gOk σ s pl k x y ∧ r = 1 ∧ gGd σ s pl k x y h h') ∨ (¬ gOk σ s pl k x y ∧ r = 0 ∧ f7 h h')) := fun z => by
          obtain ⟨H, e, q⟩ := gTl_s ok (g.fr f7'.f0) (t.f7 f7') ((f7'.2 0 19 (by decide)).trans e19) ((f7'.2 0 20 (by decide)).trans e20) ((f7'.2 0 21 (by decide)).trans e21) hs hp hb x y z (v := v) (fun w => (vn w).1)
          refine wp.of e (Or.inl ⟨z, rfl, ?_⟩)
          obtain ⟨q1, q2, q3, q4, q5, q6, q7, q8, q9⟩ := q
          refine ⟨f7'.f0.tr q1, q2, q3, q4, q5, q6.trans (f7'.2 0 22 (by decide)), ?_, ?_, ?_⟩
          · rw [q7, f7'.2 0 23 (by decide)]
          · rw [q8, f7'.zj]
          · rw [q9, f7'.zj]
        unfold gMd
        rcases y01 cy with ey | ey
        · rw [if_neg (by rw [ey]; decide), if_pos ey]
          by_cases c12 : v = 12
          · rw [if_pos c12]
            refine no (fun z => ?_)
            rcases z.2.2 with ⟨z1, _⟩ | ⟨z1, t', h1', h2, h3, h4, _, h6⟩
            · rw [v9 z1] at c12; exact absurd c12 (by decide)
            · have ev := (vn z1).1
              rw [c12] at ev
              unfold gV at ev
              rw [h2, nI_clamp (by omega)] at ev
              have hh := sH12 ok (w := sO σ pl) (t := t') (m := pc s) (k := k) hw
              exact h6 ey ((nI_eq (by omega) (by omega)).mp (show nI (sH σ (sO σ pl) t' (pc s) k) = nI 12 from ev.symm))
          · rw [if_neg c12]
            refine yes ⟨co, cy, ?_⟩
            by_cases c9 : x = 9
            · exact Or.inl ⟨c9, ey⟩
            · obtain ⟨ev, t', h1', h2, h3, h4⟩ := vn c9
              refine Or.inr ⟨c9, t', h1', h2, h3, h4, fun z => by rw [ey] at z; exact absurd z (by decide), fun _ z => c12 ?_⟩
              rw [ev]; unfold gV; rw [h2, nI_clamp (by omega), z]; rfl
        · rw [if_pos ey]
          by_cases c0 : v = 0
          · rw [if_pos c0]
            refine no (fun z => ?_)
            rcases z.2.2 with ⟨z1, z2⟩ | ⟨z1, t', h1', h2, h3, h4, h5, _⟩
            · rw [ey] at z2; exact absurd z2 (by decide)
            · have ev := (vn z1).1
              rw [c0] at ev
              unfold gV at ev
              rw [h2, nI_clamp (by omega)] at ev
              have hh := sH12 ok (w := sO σ pl) (t := t') (m := pc s) (k := k) hw
              exact h5 ey ((nI_eq (by omega) (by omega)).mp (show nI (sH σ (sO σ pl) t' (pc s) k) = nI 0 from ev.symm))
          · rw [if_neg c0, if_neg (by rw [ey]; decide)]
            have c9 : x ≠ 9 := fun z => c0 (v9 z)
            obtain ⟨ev, t', h1', h2, h3, h4⟩ := vn c9
            refine yes ⟨co, cy, Or.inr ⟨c9, t', h1', h2, h3, h4, fun _ z => c0 ?_, fun z => by rw [ey] at z; exact absurd z (by decide)⟩⟩
            rw [ev]; unfold gV; rw [h2, nI_clamp (by omega), z]; rfl
      unfold gHd
      by_cases c9 : x = 9
      · rw [if_pos c9, if_pos c9]
        exact md h 0 (f7.rf h) (fun _ => rfl) (fun z => absurd c9 z)
      · have rej : ∀ h1, f7 h h1 → (∀ t', t' < sN σ → x = nI t' → t' ≠ sO σ pl → s.testBit t' = true → False) → wp (some ((0 : Int32), h1)) (fun r h' => (gOk σ s pl k x y ∧ r = 1 ∧ gGd σ s pl k x y h h') ∨ (¬ gOk σ s pl k x y ∧ r = 0 ∧ f7 h h')) := by
          intro h1 f7' z
          rw [wp_s]
          refine Or.inr ⟨fun w => ?_, rfl, f7'⟩
          rcases w.2.2 with ⟨z1, _⟩ | ⟨_, t', h1', h2, h3, h4, _⟩
          · exact c9 z1
          · exact z t' h1' h2 h3 h4
        rw [if_neg c9, sX0_in, bd_s, g.1]
        by_cases cp : 0 ≤ x ∧ x ≤ nI (sN σ) - 1
        · obtain ⟨a, ha, rfl⟩ := (nI_isP (by omega)).mp cp
          rw [if_neg (fun z => (pB0.mp z) cp)]
          by_cases cw : nI a = nI (sO σ pl)
          · rw [if_pos cw]
            refine rej h (f7.rf h) (fun t' h1 h2 h3 _ => h3 ?_)
            rw [cw] at h2
            exact ((nI_eq (by omega) (by omega)).mp h2).symm
          · rw [if_neg cw, e19, sX0_has _ (by omega) (by omega), bd_s]
            by_cases cb : s.testBit a = true
            · rw [if_neg (fun z => (pB0.mp z) cb), if_neg c9, e19, e21, wp_bd]
              refine (gc.hits ok g hw ha (by omega) (by omega)).mono ?_
              rintro r h1 ⟨er, f7'⟩
              refine md h1 r f7' (fun z => absurd z c9) (fun _ => ⟨?_, a, ha, rfl, fun z => cw (by rw [z]), cb⟩)
              rw [er]; unfold gV; rw [nI_clamp (by omega)]
            · rw [if_pos (pB0.mpr cb)]
              refine rej h (f7.rf h) (fun t' h1 h2 h3 h4 => cb ?_)
              rw [(nI_eq (by omega) (by omega)).mp h2]; exact h4
        · rw [if_pos (pB0.mpr cp)]
          exact rej h (f7.rf h) (fun t' h1 h2 _ _ => cp ((nI_isP (by omega)).mpr ⟨t', h1, h2⟩))
    · rw [if_pos (pB0.mpr cy), wp_s]
      exact Or.inr ⟨fun z => cy z.2.1, rfl, f7.rf h⟩
