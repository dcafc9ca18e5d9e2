/-! judge, chance: the model's side and the calls -/
theorem i64i {x y : Int32} : x.toInt64 = y.toInt64 ↔ x = y := ⟨fun h => by rw [← i3264 x, h, i3264], fun h => by rw [h]⟩
theorem i64_1 : (1 : Int64) = (1 : Int32).toInt64 := by decide
theorem i64_0 : (0 : Int64) = (0 : Int32).toInt64 := by decide
theorem i64_9 : (9 : Int64) = (9 : Int32).toInt64 := by decide
theorem sX2_may {σ : Sg} (ok : sOK σ) {h : Hp} (g : gm σ h) {s pl w k : Nat} (hs : s < 2 ^ sN σ) (hpb : 0 < sN σ → (pl < sN σ ∧ s.testBit (sO σ pl) = true) ∧ w = sO σ pl) (hk : k ≤ 60) (x y : Int32) : wp (X2_mayThrow h (nI k) (nI s) (nI w) x.toInt64 y.toInt64) (fun r h' => ((gOk σ s pl k x y ∧ r = 1) ∨ (¬ gOk σ s pl k x y ∧ r = 0)) ∧ f28 h h') := by
  have hn := ok.1
  have hb9 := ok.2.2.2.2.1
  have hpw := pow16 hn
  unfold X2_mayThrow
  rw [sX2_isOver h (by omega) (by omega) (by omega) g.2.2.2.2.1, bd_s]
  by_cases co : isOv σ s k
  · rw [if_neg (fun z => (pB0.mp z) co), wp_s]
    exact ⟨Or.inr ⟨fun z => z.1 co, rfl⟩, f28.rf h⟩
  · have co' : ¬ (sB σ ≤ k ∨ pc s ≤ 1) := co
    have h0 : 0 < sN σ := by
      rcases Nat.eq_zero_or_pos (sN σ) with z | z
      · rw [z] at hs
        have : s = 0 := by omega
        subst this
        exact absurd (show pc 0 ≤ 1 by decide) (fun w => co' (Or.inr w))
      · exact z
    obtain ⟨⟨hp, hb⟩, ew⟩ := hpb h0
    have hw := (ok.2.1 pl hp).1
    subst ew
    rw [if_pos (pB0.mpr co), i64_0, i64_1, sX2_wi, bd_s]
    by_cases cy : 0 ≤ y ∧ y ≤ 1
    · rw [if_neg (fun z => (pB0.mp z) cy), i64_9]
      by_cases c9 : x = 9
      · rw [if_pos (by rw [c9])]
        by_cases y0 : y = 0
        · rw [if_pos (by rw [y0]), wp_s]
          exact ⟨Or.inl ⟨⟨co, cy, Or.inl ⟨c9, y0⟩⟩, rfl⟩, f28.rf h⟩
        · rw [if_neg (fun z => y0 (i64i.mp z)), wp_s]
          refine ⟨Or.inr ⟨fun z => ?_, rfl⟩, f28.rf h⟩
          rcases z.2.2 with ⟨_, z1⟩ | ⟨z1, _⟩
          · exact y0 z1
          · exact z1 c9
      · have rej : (∀ t', t' < sN σ → x = nI t' → t' ≠ sO σ pl → s.testBit t' = true → False) → wp (some ((0 : Int32), h)) (fun r h' => ((gOk σ s pl k x y ∧ r = 1) ∨ (¬ gOk σ s pl k x y ∧ r = 0)) ∧ f28 h h') := by
          intro z
          rw [wp_s]
          refine ⟨Or.inr ⟨fun w => ?_, rfl⟩, f28.rf h⟩
          rcases w.2.2 with ⟨z1, _⟩ | ⟨_, t', h1', h2, h3, h4, _⟩
          · exact c9 z1
          · exact z t' h1' h2 h3 h4
        rw [if_neg (fun z => c9 (i64i.mp z)), g.1, sX2_wi, bd_s]
        by_cases cp : 0 ≤ x ∧ x ≤ nI (sN σ) - 1
        · obtain ⟨a, ha, rfl⟩ := (nI_isP (by omega)).mp cp
          rw [if_neg (fun z => (pB0.mp z) cp)]
          by_cases cw : a = sO σ pl
          · rw [if_pos (by rw [cw])]
            exact rej (fun t' h1 h2 h3 _ => h3 (by rw [← cw]; exact ((nI_eq (by omega) (by omega)).mp h2).symm))
          · rw [if_neg (fun z => cw ((nI_eq (by omega) (by omega)).mp (i64i.mp z))), i3264, sX2_isIn _ (by omega) (by omega), bd_s]
            by_cases cb : s.testBit a = true
            · rw [if_neg (fun z => (pB0.mp z) cb), sX2_bitsOf _ (by omega), bd_s, wp_bd]
              refine (gm.hits ok g hw ha (by have := pc_le s; omega) (by omega)).mono ?_
              rintro r h1 ⟨er, f'⟩
              have hh := sH12 ok (w := sO σ pl) (t := a) (m := pc s) (k := k) hw
              have uq : ∀ t', t' < sN σ → nI a = nI t' → t' = a := fun t' h1 h2 => ((nI_eq (by omega) (by omega)).mp h2).symm
              rcases y01 cy with ey | ey
              · rw [if_neg (fun z => absurd (ey.symm.trans (i64i.mp z)) (by decide)), er]
                by_cases c12 : (12 : Int32) ≤ nI (sH σ (sO σ pl) a (pc s) k)
                · rw [if_pos c12, wp_s]
                  rw [show (12 : Int32) = nI 12 from rfl, nI_leI (by omega) (by omega)] at c12
                  refine ⟨Or.inr ⟨fun z => ?_, rfl⟩, f'⟩
                  rcases z.2.2 with ⟨z1, _⟩ | ⟨_, t', h1', h2, h3, h4, h5, h6⟩
                  · exact c9 z1
                  · rw [uq t' h1' h2] at h6; exact h6 ey (by omega)
                · rw [if_neg c12, wp_s]
                  rw [show (12 : Int32) = nI 12 from rfl, nI_leI (by omega) (by omega)] at c12
                  exact ⟨Or.inl ⟨⟨co, cy, Or.inr ⟨c9, a, ha, rfl, cw, cb, fun z => by rw [ey] at z; exact absurd z (by decide), fun _ => by omega⟩⟩, rfl⟩, f'⟩
              · rw [if_pos (by rw [ey]), er]
                by_cases c0 : nI (sH σ (sO σ pl) a (pc s) k) ≤ (0 : Int32)
                · rw [if_pos c0, wp_s]
                  rw [show (0 : Int32) = nI 0 from rfl, nI_leI (by omega) (by omega)] at c0
                  refine ⟨Or.inr ⟨fun z => ?_, rfl⟩, f'⟩
                  rcases z.2.2 with ⟨z1, _⟩ | ⟨_, t', h1', h2, h3, h4, h5, h6⟩
                  · exact c9 z1
                  · rw [uq t' h1' h2] at h5; exact h5 ey (by omega)
                · rw [if_neg c0, wp_s]
                  rw [show (0 : Int32) = nI 0 from rfl, nI_leI (by omega) (by omega)] at c0
                  exact ⟨Or.inl ⟨⟨co, cy, Or.inr ⟨c9, a, ha, rfl, cw, cb, fun _ => by omega, fun z => by rw [ey] at z; exact absurd z (by decide)⟩⟩, rfl⟩, f'⟩
            · rw [if_pos (pB0.mpr cb)]
              refine rej (fun t' h1 h2 h3 h4 => cb ?_)
              rw [(nI_eq (by omega) (by omega)).mp h2]; exact h4
        · rw [if_pos (pB0.mpr cp)]
          exact rej (fun t' h1 h2 _ _ => cp ((nI_isP (by omega)).mpr ⟨t', h1, h2⟩))
    · rw [if_pos (pB0.mpr cy), wp_s]
      exact ⟨Or.inr ⟨fun z => cy z.2.1, rfl⟩, f28.rf h⟩
def lGd (σ : Sg) (s pl k : Nat) (x y : Int32) (h H : Hp) : Prop := f2 h H ∧ tM σ H 0 ∧ zi H 17 29 = zi h 17 29 ∧ zi H 17 30 = gO σ s pl k x (zi h 17 30) ∧ zj H 17 31 = gP σ s pl k x y (zj h 17 31) ∧ zj H 17 32 = gQ x (zj h 17 32)
theorem lTl_s {σ : Sg} (ok : sOK σ) {h : Hp} (g : gm σ h) (t : tM σ h 0) {s pl k : Nat} (hs : s < 2 ^ sN σ) (hp : pl < sN σ) (hb : s.testBit (sO σ pl) = true) (x y : Int32) (hg : gOk σ s pl k x y) {Q : Unit → Hp → Prop} (K : Hp → Int32 → Int32 → Int32 → Option (Unit × Hp)) (hK : ∀ H, lGd σ s pl k x y h H → gS s x y < 2 ^ sN σ → (gS s x y).testBit (sO σ pl) = true → wp (K H (nI (gS s x y)) (nI (sO σ (nxp σ (gS s x y) pl))) (nI (k + 1))) Q) : wp (lTl K (nI s) (nI (sO σ pl)) (nI k) x.toInt64 y.toInt64 h) Q := by
  have hn := ok.1
  have hb9 := ok.2.2.2.2.1
  have hpw := pow16 hn
  obtain ⟨co, hy, hx⟩ := id hg
  have co' : ¬ (sB σ ≤ k ∨ pc s ≤ 1) := co
  have hw := (ok.2.1 pl hp).1
  have et := (t k (Nat.zero_le _) (by omega) s hs _ hw (Or.inr (Or.inr hb))).1
  have hG2 : dG2 σ k s (sO σ pl) = dG σ (sB σ - k) s (sO σ pl) := by unfold dG2; rw [if_neg co']
  rw [hG2] at et
  have sx : (if y = 1 then nI s &&& (((1 : Int32) <<< (x &&& 31)) ^^^ (-1 : Int32)) else nI s) = nI (gS s x y) ∧ gS s x y < 2 ^ sN σ ∧ (gS s x y).testBit (sO σ pl) = true := by
    unfold gS
    by_cases c : y = 1
    · rw [if_pos c, if_pos c]
      rcases hx with ⟨_, z⟩ | ⟨_, t', h1, h2, h3, h4, _⟩
      · rw [c] at z; exact absurd z (by decide)
      · rw [h2, nI_clamp (by omega), b_cl s (by omega) t' (by omega)]
        exact ⟨rfl, Nat.lt_of_le_of_lt (cl_le _ _) hs, cl_keep ok hs hw hb h1 h3⟩
    · rw [if_neg c, if_neg c]; exact ⟨rfl, hs, hb⟩
  have y1 : (y.toInt64 = (1 : Int64)) ↔ y = 1 := by rw [i64_1]; exact i64i
  have x9 : (x.toInt64 = (9 : Int64)) ↔ x = 9 := by rw [i64_9]; exact i64i
  have fin : ∀ h45, lGd σ s pl k x y h h45 → wp (nm (fun (h47 : Hp) (v48 : Int32) => bd (X2_nextOf h47 (nI (sO σ pl)) v48) fun r51 h50 => nm (nI k + (1 : Int32) : Int32) fun v33 => K h50 v48 r51 v33) fun j290_49 => if y.toInt64 = (1 : Int64) then (j290_49 h45 (nI s &&& (((1 : Int32) <<< (x &&& 31)) ^^^ (-1 : Int32)))) else (j290_49 h45 (nI s))) Q := by
    intro h45 G
    rw [nm_u]
    have : (if y.toInt64 = (1 : Int64) then (bd (X2_nextOf h45 (nI (sO σ pl)) (nI s &&& (((1 : Int32) <<< (x &&& 31)) ^^^ (-1 : Int32)))) fun r51 h50 => nm (nI k + (1 : Int32) : Int32) fun v33 => K h50 (nI s &&& (((1 : Int32) <<< (x &&& 31)) ^^^ (-1 : Int32))) r51 v33) else (bd (X2_nextOf h45 (nI (sO σ pl)) (nI s)) fun r51 h50 => nm (nI k + (1 : Int32) : Int32) fun v33 => K h50 (nI s) r51 v33)) = bd (X2_nextOf h45 (nI (sO σ pl)) (if y = 1 then nI s &&& (((1 : Int32) <<< (x &&& 31)) ^^^ (-1 : Int32)) else nI s)) fun r51 h50 => nm (nI k + (1 : Int32) : Int32) fun v33 => K h50 (if y = 1 then nI s &&& (((1 : Int32) <<< (x &&& 31)) ^^^ (-1 : Int32)) else nI s) r51 v33 := by
      by_cases c : y = 1
      · rw [if_pos (y1.mpr c), if_pos c]
      · rw [if_neg (fun z => c (y1.mp z)), if_neg c]
    refine Eq.mpr (congrArg (fun o => wp o Q) this) ?_
    rw [sx.1, sX2_next ok (g.fr G.1) (by omega) hw sx.2.2, bd_s, nm_u, nI_1, ← nxw_pl ok hp]
    exact hK h45 G sx.2.1 sx.2.2
  have mid : ∀ h41 v42, f28 h h41 → v42 = gO σ s pl k x (zi h 17 30) → wp (nm (zsi h41 17 30 v42) fun h44 => nm (fun (h45 : Hp)  => nm (fun (h47 : Hp) (v48 : Int32) => bd (X2_nextOf h47 (nI (sO σ pl)) v48) fun r51 h50 => nm (nI k + (1 : Int32) : Int32) fun v33 => K h50 v48 r51 v33) fun j290_49 => if y.toInt64 = (1 : Int64) then (j290_49 h45 (nI s &&& (((1 : Int32) <<< (x.toInt64.toInt32 &&& 31)) ^^^ (-1 : Int32)))) else (j290_49 h45 (nI s))) fun j270_46 => if x.toInt64 = (9 : Int64) then (j270_46 h44 ) else (bd (X2_bitsOf h44 (nI s)) fun r55 h54 => bd (X2_hitsOf h54 (nI (sO σ pl)) x.toInt64.toInt32 r55 (nI k)) fun r57 h56 => nm (fun (h58 : Hp) (v59 : Int64) => nm ((zj h56 17 31) * v59 : Int64) fun v61 => nm (zsj h58 17 31 v61) fun h62 => nm ((zj h62 17 32) * (12 : Int64) : Int64) fun v63 => nm (zsj h62 17 32 v63) fun h64 => j270_46 h64 ) fun j254_60 => if y.toInt64 = (1 : Int64) then (j254_60 h56 r57.toInt64) else (j254_60 h56 (((12 : Int32) - r57).toInt64)))) Q := by
    intro h41 v42 fr ev
    rw [i3264, nm_u, nm_u]
    have g4 : gm σ (zsi h41 17 30 v42) := (g.fr fr.fN.f2).fr (f2.s29 (by omega))
    have t4 : tM σ (zsi h41 17 30 v42) 0 := (t.fN fr.fN).s17
    have r4 : f2 h (zsi h41 17 30 v42) := fr.fN.f2.tr (f2.s29 (by omega))
    have k29 : zi (zsi h41 17 30 v42) 17 29 = zi h 17 29 := (zi_ne _ _ _ _ (Or.inr (by decide))).trans (fr.2 17 29 (by decide) (by omega))
    by_cases c9 : x = 9
    · rw [if_pos (x9.mpr c9)]
      refine fin _ ⟨r4, t4, k29, (zi_eq _ _ _ _).trans ev, ?_, ?_⟩
      · rw [zj_si, fr.zj]; unfold gP; rw [if_pos c9]
      · rw [zj_si, fr.zj]; unfold gQ; rw [if_pos c9]
    · rw [if_neg (fun z => c9 (x9.mp z)), sX2_bitsOf _ (by omega), bd_s, wp_bd]
      rcases hx with ⟨z1, _⟩ | ⟨_, a, ha, ex, _⟩
      · exact absurd z1 c9
      · have ek : x.toNatClampNeg = a := by rw [ex, nI_clamp (by omega)]
        have H := gm.hits ok g4 hw ha (m := pc s) (k := k) (by have := pc_le s; omega) (by omega)
        rw [← ex] at H
        refine H.mono ?_
        rintro r h56 ⟨er, f'⟩
        have er' : r = gV σ s pl k x := by rw [er]; unfold gV; rw [ek]
        rw [nm_u]
        have two : ∀ w : Int64, gP σ s pl k x y (zj h 17 31) = zj h 17 31 * w → wp ((fun (h58 : Hp) (v59 : Int64) => nm ((zj h56 17 31) * v59 : Int64) fun v61 => nm (zsj h58 17 31 v61) fun h62 => nm ((zj h62 17 32) * (12 : Int64) : Int64) fun v63 => nm (zsj h62 17 32 v63) fun h64 => (fun (h45 : Hp)  => nm (fun (h47 : Hp) (v48 : Int32) => bd (X2_nextOf h47 (nI (sO σ pl)) v48) fun r51 h50 => nm (nI k + (1 : Int32) : Int32) fun v33 => K h50 v48 r51 v33) fun j290_49 => if y.toInt64 = (1 : Int64) then (j290_49 h45 (nI s &&& (((1 : Int32) <<< (x &&& 31)) ^^^ (-1 : Int32)))) else (j290_49 h45 (nI s))) h64 ) h56 w) Q := by
          intro w ew
          refine fin (zsj (zsj h56 17 31 (zj h56 17 31 * w)) 17 32 (zj (zsj h56 17 31 (zj h56 17 31 * w)) 17 32 * 12)) ⟨(r4.tr f'.fN.f2).tr (f2.j17.tr f2.j17), ((t4.fN f'.fN).j17).j17, (f'.2 17 29 (by decide) (by omega)).trans k29, (f'.2 17 30 (by decide) (by omega)).trans ((zi_eq _ _ _ _).trans ev), ?_, ?_⟩
          · rw [zj_ne _ _ _ _ (Or.inr (by decide)), zj_eq, f'.zj, zj_si, fr.zj, ew]
          · rw [zj_eq, zj_ne _ _ _ _ (Or.inr (by decide)), f'.zj, zj_si, fr.zj]; unfold gQ; rw [if_neg c9]
        by_cases c : y = 1
        · rw [if_pos (y1.mpr c), er']
          exact two _ (by unfold gP; rw [if_neg c9, if_pos c])
        · rw [if_neg (fun z => c (y1.mp z)), er']
          exact two _ (by unfold gP; rw [if_neg c9, if_neg c])
  unfold lTl
  rw [nm_u, nm_u]
  by_cases c2 : 0 ≤ zi h 17 30
  · rw [if_pos c2]
    refine mid h _ (f28.rf h) ?_
    unfold gO
    by_cases c1 : x = nI (dG σ (sB σ - k) s (sO σ pl))
    · rw [if_pos c1]
    · rw [if_neg c1, if_pos c2]
  · rw [if_neg c2, sX2_st, bd_s, ck_i (by omega) (by omega), nI_clamp (by omega), et]
    by_cases c1 : x = nI (dG σ (sB σ - k) s (sO σ pl))
    · rw [if_pos (by rw [c1])]
      exact mid h _ (f28.rf h) (by unfold gO; rw [if_pos c1])
    · rw [if_neg (fun z => c1 (i64i.mp z).symm)]
      exact mid h _ (f28.rf h) (by unfold gO; rw [if_neg c1, if_neg c2])
theorem lp_g2 {σ : Sg} (ok : sOK σ) {c : Nat → Int32} {l d : Nat} {h0 : Hp} (hd : d ≤ 5) (hl : l ≤ 60) (q1 : zi h0 39 d = nI l) (q2 : ∀ i, i < l → zj h0 40 (60 * d + i) = (c i).toInt64) : ∀ f k s pl w o p q N h, gm σ h → tM σ h 0 → f2 h0 h → zi h 17 29 = -2 → zi h 17 30 = o → zj h 17 31 = p → zj h 17 32 = q → s < 2 ^ sN σ → (0 < sN σ → (pl < sN σ ∧ s.testBit (sO σ pl) = true) ∧ w = sO σ pl) → l ≤ 2 * (f + k) → k + f ≤ 31 → f + 1 < N → wp (zfix (fun _ _ _ _ => none) (X2_looksAt_b52 (nI d)) N h (nI s) (nI w) (nI k)) (fun _ h' => f2 h0 h' ∧ (zi h' 17 29, zi h' 17 30, zj h' 17 31, zj h' 17 32) = gT σ c l f k s pl o p q) := by
  have e39 : ∀ h, f2 h0 h → zi h 39 d = nI l := fun h fr => (fr.2.1 39 d (by decide) (by decide) (by decide) (by omega)).trans q1
  have e40 : ∀ h, f2 h0 h → ∀ i, i < l → zj h 40 (60 * d + i) = (c i).toInt64 := fun h fr i hi => (fr.2.2 40 _ (by decide) (by decide) (by decide) (by decide) (by decide)).trans (q2 i hi)
  have ck5 : ∀ {α : Type} (k : Option α), ck (0 ≤ (nI d).toInt ∧ (nI d).toInt < 6) k = k := fun k => ck_i (by omega) (by omega)
  have kd := nI_clamp (n := d) (by omega)
  have stop : ∀ N h v13 v14 k b, f2 h0 h → b < 100 → zi h 17 29 = nI b → zfix (fun _ _ _ _ => none) (X2_looksAt_b52 (nI d)) (N + 1) h v13 v14 (nI k) = some ((), h) := by
    intro N h v13 v14 k b fr hb e
    rw [zfix_s, looks_e, ck5, kd, e39 h fr, e]
    by_cases z : nI l ≤ (2 : Int32) * nI k
    · rw [if_pos z]
    · rw [if_neg z, if_pos (nI_pos' (by omega))]
  intro f
  induction f with
  | zero =>
    intro k s pl w o p q N h g t fr e29 e30 e31 e32 _ _ hf _ hN
    obtain ⟨N, rfl⟩ : ∃ M, N = M + 1 := ⟨N - 1, by omega⟩
    rw [zfix_s, looks_e, ck5, kd, e39 h fr, if_pos (by rw [show (2 : Int32) = nI 2 from rfl, pk_mul, nI_leI (by omega) (by omega)]; omega), wp_s]
    exact ⟨fr, by rw [e29, e30, e31, e32]; rfl⟩
  | succ f ih =>
    intro k s pl w o p q N h g t fr e29 e30 e31 e32 hs hpb hf hkf hN
    obtain ⟨N, rfl⟩ : ∃ M, N = M + 1 + 1 := ⟨N - 2, by omega⟩
    rw [zfix_s, looks_e, ck5, kd, e39 h fr, show (2 : Int32) * nI k = nI (2 * k) from pk_mul 2 k, gT]
    by_cases c1 : l ≤ 2 * k
    · rw [if_pos (by rw [nI_leI (by omega) (by omega)]; exact c1), if_pos c1, wp_s]
      exact ⟨fr, by rw [e29, e30, e31, e32]⟩
    · rw [if_neg (by rw [nI_leI (by omega) (by omega)]; exact c1), if_neg c1, e29, if_neg (by decide), show (60 : Int32) * nI d = nI (60 * d) from pk_mul 60 d, nI_add, nI_1, nI_1, ck_i (by omega) (by omega), ck5, nI_clamp (show 60 * d + 2 * k < 2 ^ 31 by omega), nI_clamp (show 60 * d + 2 * k + 1 < 2 ^ 31 by omega)]
      have bad : ∀ h1, f28 h h1 → ¬ (2 * k + 1 < l ∧ gOk σ s pl k (c (2 * k)) (c (2 * k + 1))) → wp (lNo (zfix (fun _ _ _ _ => none) (X2_looksAt_b52 (nI d)) (N + 1)) (nI s) (nI w) (nI k) h1) (fun _ h' => f2 h0 h' ∧ (zi h' 17 29, zi h' 17 30, zj h' 17 31, zj h' 17 32) = @ite _ (2 * k + 1 < l ∧ gOk σ s pl k (c (2 * k)) (c (2 * k + 1))) (Classical.propDecidable _) (gT σ c l f (k + 1) (gS s (c (2 * k)) (c (2 * k + 1))) (nxp σ (gS s (c (2 * k)) (c (2 * k + 1))) pl) (gO σ s pl k (c (2 * k)) o) (gP σ s pl k (c (2 * k)) (c (2 * k + 1)) p) (gQ (c (2 * k)) q)) (nI k, o, p, q)) := by
        intro h1 f' nb
        unfold lNo
        have F : f2 h0 (zsi h1 17 29 (nI k)) := (fr.tr f'.fN.f2).tr (f2.s29 (by omega))
        rw [nm_u, nm_u, nI_1, stop N _ _ _ _ k F (by omega) (zi_eq _ _ _ _), wp_s, if_neg nb]
        refine ⟨F, ?_⟩
        rw [zi_eq, zi_ne _ _ _ _ (Or.inr (by decide)), f'.2 17 30 (by decide) (by omega), e30, zj_si, f'.zj, e31, e32]
      by_cases c2 : l ≤ 2 * k + 1
      · rw [if_pos (by rw [nI_leI (by omega) (by omega)]; exact c2)]
        exact bad h (f28.rf h) (fun z => by omega)
      · rw [if_neg (by rw [nI_leI (by omega) (by omega)]; exact c2), ck_i (by omega) (by omega), show 60 * d + 2 * k + 1 = 60 * d + (2 * k + 1) from by omega, e40 h fr (2 * k) (by omega), e40 h fr (2 * k + 1) (by omega), wp_bd]
        refine (sX2_may ok g hs hpb (by omega) _ _).mono ?_
        rintro r h1 ⟨(⟨gk, er⟩ | ⟨gk, er⟩), f'⟩
        · rw [er, if_neg (by decide), if_pos ⟨by omega, gk⟩]
          have h0' : 0 < sN σ := by
            rcases Nat.eq_zero_or_pos (sN σ) with z | z
            · rw [z] at hs
              have : s = 0 := by omega
              subst this
              exact absurd (Or.inr (show pc 0 ≤ 1 by decide)) gk.1
            · exact z
          obtain ⟨⟨hp, hb⟩, ew⟩ := hpb h0'
          subst ew
          refine lTl_s ok (g.fr f'.fN.f2) (t.fN f'.fN) hs hp hb _ _ gk _ (fun H G hs' hb' => ?_)
          obtain ⟨G1, G2, G3, G4, G5, G6⟩ := G
          have fr1 := fr.tr f'.fN.f2
          exact ih (k + 1) _ _ _ _ _ _ (N + 1) H ((g.fr f'.fN.f2).fr G1) G2 (fr1.tr G1) (by rw [G3, f'.2 17 29 (by decide) (by omega), e29]) (by rw [G4, f'.2 17 30 (by decide) (by omega), e30]) (by rw [G5, f'.zj, e31]) (by rw [G6, f'.zj, e32]) hs' (fun _ => ⟨⟨nxp_lt hp, nxp_bit hp hb'⟩, rfl⟩) (by omega) (by omega) (by omega)
        · rw [er, if_pos rfl]
          exact bad h1 f' (fun z => gk z.2)
theorem sX2_gT {σ : Sg} (ok : sOK σ) {c : Nat → Int32} {l d : Nat} {h : Hp} (g : gm σ h) (hd : d ≤ 5) (hl : l ≤ 60) (q1 : zi h 39 d = nI l) (q2 : ∀ i, i < l → zj h 40 (60 * d + i) = (c i).toInt64) : wp (X2_looksAt h (nI d)) (fun _ h' => f2 h h' ∧ (zi h' 17 29, zi h' 17 30, zj h' 17 31, zj h' 17 32) = gT σ c l 31 0 (2 ^ sN σ - 1) 0 (-2) 1 1) := by
  have hn := ok.1
  unfold X2_looksAt
  rw [wp_bd]
  refine (sX2_solves ok g).mono ?_
  rintro _ h1 ⟨fv, t, _⟩
  have g1 := g.fr fv
  have F : f2 h1 (zsj (zsj (zsi (zsi h1 17 29 (-2)) 17 30 (-2)) 17 31 1) 17 32 1) := (((f2.s29 (by omega)).tr (f2.s29 (by omega))).tr f2.j17).tr f2.j17
  have g2 := g1.fr F
  rw [nm_u, nm_u, nm_u, nm_u, sX2_allN _ hn g2.1, bd_s, nm_u, g2.1]
  have go : ∀ w, (0 < sN σ → w = sO σ 0) → wp (zfix (fun _ _ _ _ => none) (X2_looksAt_b52 (nI d)) zFU (zsj (zsj (zsi (zsi h1 17 29 (-2)) 17 30 (-2)) 17 31 1) 17 32 1) (nI (2 ^ sN σ - 1)) (nI w) (nI 0)) (fun _ h' => f2 h h' ∧ (zi h' 17 29, zi h' 17 30, zj h' 17 31, zj h' 17 32) = gT σ c l 31 0 (2 ^ sN σ - 1) 0 (-2) 1 1) := fun w hw =>
    lp_g2 ok (h0 := h) hd hl q1 q2 31 0 (2 ^ sN σ - 1) 0 w (-2) 1 1 zFU _ g2 (tM.j17 (tM.j17 (tM.s17 (tM.s17 t)))) (fv.tr F) rfl rfl rfl rfl (all_lt σ) (fun z => ⟨⟨z, allb ok z⟩, hw z⟩) (by omega) (by omega) (by rw [zFU_u]; omega)
  by_cases z : sN σ = 0
  · rw [if_pos (by rw [z]; rfl)]
    exact go 0 (fun y => by omega)
  · rw [if_neg (nI_n0 (by omega) z), ck_t (by decide), show (0 : Int32).toNatClampNeg = 0 from rfl, g2.2.1 0 (by omega)]
    exact go (sO σ 0) (fun _ => rfl)
/-! the calls -/
theorem sg6 {i : Nat} {h : Hp} (v : Inv i h) : ∃ σ, sOK σ ∧ gc σ h ∧ gm σ h := v.sg
/-- what both look at: the shelf's row of bytes -/
theorem both_g {i : Nat} {h : Hp} (v : Inv i h) {d a ra l : Nat} (hd : d ≤ 5) (hl : l ≤ 60) (q1 : zt h a = 23) (q2 : zr h a 0 = some ra) (q3 : zn h ra = l) (hra : 42 ≤ ra) (q5 : zi h 39 d = nI l) (q4 : ∀ j, j < l → (zi h ra j).toInt64 = zj h 40 (60 * d + j) ∧ iFt 0 (zi h ra j)) : ∃ h1 G, X0_goThrough h (some a) = some ((), h1) ∧ f0 h h1 ∧ (zi h1 0 22, zi h1 0 23, zj h1 0 24, zj h1 0 25) = G ∧ ∃ h2, X2_looksAt h1 (nI d) = some ((), h2) ∧ f2 h1 h2 ∧ (zi h2 17 29, zi h2 17 30, zj h2 17 31, zj h2 17 32) = G ∧ Inv (i + 1) h2 := by
  obtain ⟨σ, ok, g1, g2⟩ := v.sg
  obtain ⟨r, h1, e1, fr, eG⟩ := sX0_gT ok g1 q1 q2 q3 hl hra (c := zi h ra) (fun j hj => ⟨rfl, (q4 j hj).2⟩)
  have k39 : zi h1 39 d = nI l := (fr.2.1 39 d (by decide) (by decide) (by omega)).trans q5
  obtain ⟨r2, h2, e2, fr2, eG2⟩ := sX2_gT ok (g2.fS fr.fS) hd hl k39 (c := zi h ra) (fun j hj => (fr.2.2 40 _ (by decide) (by decide) (by decide) (by decide)).trans (q4 j hj).1.symm)
  exact ⟨h1, _, e1, fr, eG, h2, e2, fr2, eG2, v.fQ (Nat.le_succ _) (fQ.mk fr.fS fr2.fS2)⟩
