/-! step (the model), drawn -/
theorem sX2_step {σ : Sg} (ok : sOK σ) {h : Hp} (g : gm σ h) {s pl m : Nat} (e1 : zi h 17 33 = nI s) (e2 : zi h 17 34 = nI (sO σ pl)) (e3 : zi h 17 35 = nI m) (hs : s < 2 ^ sN σ) (hpb : 0 < sN σ → pl < sN σ ∧ s.testBit (sO σ pl) = true) (hm : m ≤ sB σ) (x : Int32) :
    wp (X2_step h x) (fun r h' => (0 ≤ x ∧ x ≤ 11 → ¬ isOv σ s m → r = qSr σ s pl m x.toNatClampNeg ∧ zi h' 17 33 = nI (qSs σ s pl m x.toNatClampNeg) ∧ zi h' 17 34 = nI (sO σ (nxp σ (qSs σ s pl m x.toNatClampNeg) pl)) ∧ zi h' 17 35 = nI (m + 1) ∧ fD2 h h') ∧ (¬ (0 ≤ x ∧ x ≤ 11 ∧ ¬ isOv σ s m) → r = (if 0 ≤ x ∧ x ≤ 11 then -5 else -1) ∧ h' = h)) := by
  have hn := ok.1
  have hb9 := ok.2.2.2.2.1
  have hpw := pow16 hn
  unfold X2_step
  rw [show (0 : Int64) = (0 : Int32).toInt64 from by decide, show (11 : Int64) = (11 : Int32).toInt64 from by decide, sX2_wi, bd_s]
  by_cases c1 : 0 ≤ x ∧ x ≤ 11
  · rw [if_neg (fun z => (pB0.mp z) c1), e1, e3, sX2_isOver h (by omega) (by omega) (by omega) g.2.2.2.2.1, bd_s]
    by_cases co : isOv σ s m
    · rw [if_neg (fun z => (pB0.mp z) co)]
      exact wp.of rfl ⟨fun _ z => absurd co z, fun _ => ⟨by rw [if_pos c1], rfl⟩⟩
    · rw [if_pos (pB0.mpr co), wp_bd]
      have hn0 : 0 < sN σ := by
        rcases Nat.eq_zero_or_pos (sN σ) with z | z
        · rw [z] at hs
          have : s = 0 := by omega
          exact absurd (Or.inr (by rw [this, pc_0]; omega)) co
        · exact z
      obtain ⟨hp, hb⟩ := hpb hn0
      obtain ⟨v, hv, rfl⟩ := nI_rg (b := 11) (by omega) c1.1 c1.2
      have hw := (ok.2.1 pl hp).1
      have hA := dG_aim ok hs hw hb co
      rw [nI_clamp (by omega)]
      have hq := qSs_p ok (v := v) hs hp hb co
      refine (sX2_solves ok g).mono ?_
      rintro _ h1 ⟨fr, t, _⟩
      have g1 := g.fr fr
      have e1' : zi h1 17 33 = nI s := (fr.2.1 17 33 (by decide) (by decide) (by decide) (by omega)).trans e1
      have e2' : zi h1 17 34 = nI (sO σ pl) := (fr.2.1 17 34 (by decide) (by decide) (by decide) (by omega)).trans e2
      have e3' : zi h1 17 35 = nI m := (fr.2.1 17 35 (by decide) (by decide) (by decide) (by omega)).trans e3
      have et := t m (Nat.zero_le _) hm s hs _ hw (Or.inr (Or.inr hb))
      have hG2 : dG2 σ m s (sO σ pl) = dG σ (sB σ - m) s (sO σ pl) := by unfold dG2; rw [if_neg co]
      have hKd : dK σ m s (sO σ pl) = if dG σ (sB σ - m) s (sO σ pl) = 9 then 0 else sH σ (sO σ pl) (dG σ (sB σ - m) s (sO σ pl)) (pc s) m := by unfold dK; rw [hG2]
      have k1 := et.1
      have k2 := et.2.1
      rw [hG2] at k1
      rw [e1', e2', e3', sX2_st, bd_s, ck_i (by omega) (by omega), nI_clamp (by omega), k1, k2, e2', nm_u, ck_i (by omega) (by omega), nm_u, nm_u]
      have h9b : dG σ (sB σ - m) s (sO σ pl) < 2 ^ 31 := by rcases hA with z | z <;> omega
      have endp : ∀ u, u < 2 ^ sN σ → u.testBit (sO σ pl) = true → u = qSs σ s pl m v → ∀ y : Int32, ∀ d : Nat, (y = 0 ∧ d = 0 ∨ y = 1 ∧ d = 1) → d = (if dG σ (sB σ - m) s (sO σ pl) ≠ 9 ∧ v < sH σ (sO σ pl) (dG σ (sB σ - m) s (sO σ pl)) (pc s) m then 1 else 0) → wp (nm (zsi h1 17 33 (nI u)) fun h20 => bd (X2_nextOf h20 (zi h20 17 34) (zi h20 17 33)) fun r22 h21 => nm (zsi h21 17 34 r22) fun h23 => nm ((zi h23 17 35) + (1 : Int32) : Int32) fun v24 => nm (zsi h23 17 35 v24) fun h25 => if y = 0 then (some (((100 : Int32) * nI (sO σ pl)) + ((10 : Int32) * nI (dG σ (sB σ - m) s (sO σ pl))), h25)) else (some (((100 : Int32) * nI (sO σ pl)) + ((10 : Int32) * nI (dG σ (sB σ - m) s (sO σ pl))) + (1 : Int32), h25))) (fun r h' => (0 ≤ nI v ∧ nI v ≤ 11 → ¬ isOv σ s m → r = qSr σ s pl m v ∧ zi h' 17 33 = nI (qSs σ s pl m v) ∧ zi h' 17 34 = nI (sO σ (nxp σ (qSs σ s pl m v) pl)) ∧ zi h' 17 35 = nI (m + 1) ∧ fD2 h h') ∧ (¬ (0 ≤ nI v ∧ nI v ≤ 11 ∧ ¬ isOv σ s m) → r = (if 0 ≤ nI v ∧ nI v ≤ 11 then -5 else -1) ∧ h' = h)) := by
        intro u hu hub eu y d hy ed
        rw [nm_u, zi_ne _ _ _ _ (Or.inr (by decide)), zi_eq, e2', sX2_next ok (g1.sD (by omega)) (by omega) hw hub, bd_s, nm_u, nm_u, nm_u, zi_ne _ _ _ _ (Or.inr (by decide)), zi_ne _ _ _ _ (Or.inr (by decide)), e3', nI_1, show (100 : Int32) = nI 100 from rfl, show (10 : Int32) = nI 10 from rfl, pk_mul, pk_mul, nI_add, nI_1]
        have post : ∀ r, r = qSr σ s pl m v → (fun r h' => (0 ≤ nI v ∧ nI v ≤ 11 → ¬ isOv σ s m → r = qSr σ s pl m v ∧ zi h' 17 33 = nI (qSs σ s pl m v) ∧ zi h' 17 34 = nI (sO σ (nxp σ (qSs σ s pl m v) pl)) ∧ zi h' 17 35 = nI (m + 1) ∧ fD2 h h') ∧ (¬ (0 ≤ nI v ∧ nI v ≤ 11 ∧ ¬ isOv σ s m) → r = (if 0 ≤ nI v ∧ nI v ≤ 11 then (-5 : Int32) else -1) ∧ h' = h)) r (zsi (zsi (zsi h1 17 33 (nI u)) 17 34 (nI (nxw σ u (sO σ pl)))) 17 35 (nI (m + 1))) := by
          intro r er
          refine ⟨fun _ _ => ⟨er, ?_, ?_, zi_eq _ _ _ _, fr.fD2.tr ((fD2.si (by omega)).tr ((fD2.si (by omega)).tr (fD2.si (by omega))))⟩, fun z => absurd ⟨c1.1, c1.2, co⟩ z⟩
          · rw [zi_ne _ _ _ _ (Or.inr (by decide)), zi_ne _ _ _ _ (Or.inr (by decide)), zi_eq, eu]
          · rw [zi_ne _ _ _ _ (Or.inr (by decide)), zi_eq, eu, nxw_pl ok hp]
        rcases hy with ⟨y0, d0⟩ | ⟨y1, d1⟩
        · rw [if_pos y0]
          refine wp.of rfl (post _ ?_)
          unfold qSr
          rw [← ed, d0, Nat.add_zero]
        · rw [y1, if_neg (by decide)]
          refine wp.of rfl (post _ ?_)
          unfold qSr
          rw [← ed, d1]
      have miss : ¬ (dG σ (sB σ - m) s (sO σ pl) ≠ 9 ∧ v < sH σ (sO σ pl) (dG σ (sB σ - m) s (sO σ pl)) (pc s) m) → _ := fun nh => endp s hs hb (by unfold qSs; rw [if_neg nh]) 0 0 (Or.inl ⟨rfl, rfl⟩) (by rw [if_neg nh])
      by_cases c9 : dG σ (sB σ - m) s (sO σ pl) = 9
      · rw [if_pos (by rw [c9]; rfl)]
        show wp (nm _ _) _
        rw [nm_u, if_pos rfl, e1']
        exact miss (fun z => z.1 c9)
      · have ht := hA.resolve_left c9
        have h12 : sH σ (sO σ pl) (dG σ (sB σ - m) s (sO σ pl)) (pc s) m ≤ 12 := ok.2.2.2.2.2.2 _ _ _ _ _ (ok.2.2.2.1 _ hw).1
        rw [if_neg (nI_n9 h9b c9), ck_i (by omega) (by omega), hKd, if_neg c9]
        by_cases ch : v < sH σ (sO σ pl) (dG σ (sB σ - m) s (sO σ pl)) (pc s) m
        · rw [if_neg (fun z => by have := (nI_leI (by omega) (by omega)).mp z; omega)]
          show wp (nm _ _) _
          rw [nm_u, if_neg (by decide), ck_i (by omega) (by omega), k1, e1', b_cl s (by omega) _ (by omega)]
          exact endp (cl s (dG σ (sB σ - m) s (sO σ pl))) (Nat.lt_of_le_of_lt (cl_le _ _) hs) (cl_keep ok hs hw hb ht.1 ht.2.1) (by unfold qSs; rw [if_pos ⟨c9, ch⟩]) 1 1 (Or.inr ⟨rfl, rfl⟩) (by rw [if_pos ⟨c9, ch⟩])
        · rw [if_pos ((nI_leI (by omega) (by omega)).mpr (by omega))]
          show wp (nm _ _) _
          rw [nm_u, if_pos rfl, e1']
          exact miss (fun z => ch z.2)
  · rw [if_pos (pB0.mpr c1)]
    exact wp.of rfl ⟨fun z => absurd z c1, fun _ => ⟨by rw [if_neg c1], rfl⟩⟩
/-! drawn -/
def uZ (z : Int32) : Int32 := z * (1103515245 : Int32) + (12345 : Int32)
def uM (z : Int32) : Int32 := ((z.toUInt32 >>> ((8 : Int32).toUInt32 &&& Int32.toUInt32 31)).toInt32) - ((z.toUInt32 >>> ((8 : Int32).toUInt32 &&& Int32.toUInt32 31)).toInt32) / (12 : Int32) * (12 : Int32)
/-- a fight with drawn numbers: the next number, who is in at the end -/
def qDf (σ : Sg) : Nat → Int32 → Nat → Nat → Int32 × Nat
  | 0, z, s, _ => (z, s)
  | f + 1, z, s, pl => if pc s ≤ 1 then (z, s) else if dG σ (f + 1) s (sO σ pl) = 9 then qDf σ f z s (nxp σ s pl) else if nI (sH σ (sO σ pl) (dG σ (f + 1) s (sO σ pl)) (pc s) (sB σ - (f + 1))) ≤ uM (uZ z) then qDf σ f (uZ z) s (nxp σ s pl) else qDf σ f (uZ z) (cl s (dG σ (f + 1) s (sO σ pl))) (nxp σ (cl s (dG σ (f + 1) s (sO σ pl))) pl)
theorem qDf_lt {σ : Sg} : ∀ f z s pl, (qDf σ f z s pl).2 ≤ s := by
  intro f
  induction f with
  | zero => intro z s pl; exact Nat.le_refl _
  | succ f ih =>
    intro z s pl
    unfold qDf
    split
    · exact Nat.le_refl _
    · split
      · exact ih _ _ _
      · split
        · exact ih _ _ _
        · exact Nat.le_trans (ih _ _ _) (cl_le _ _)
theorem f0.s19 {h : Hp} {k : Nat} {v : Int32} (hk : 19 ≤ k ∧ k ≤ 23) : f0 h (zsi h 0 k v) := f0.si (Or.inr (Or.inr ⟨rfl, hk⟩))
theorem tC.s0 {σ : Sg} {h : Hp} {lo k : Nat} {v : Int32} (t : tC σ h lo) : tC σ (zsi h 0 k v) lo := fun m h1 h2 s h3 h4 pl h5 h6 => ⟨(zi_ne _ _ _ _ (Or.inl (by decide))).trans (t m h1 h2 s h3 h4 pl h5 h6).1, (t m h1 h2 s h3 h4 pl h5 h6).2⟩
theorem sX0_goTo {σ : Sg} (ok : sOK σ) {h : Hp} (g : gc σ h) {s pl m : Nat} (hs : s < 2 ^ sN σ) (hp : pl < sN σ) (e : zi h 0 21 = nI m) : X0_goTo h (nI s) (nI pl) = some ((), zsi (zsi (zsi h 0 19 (nI s)) 0 20 (nI (nxp σ s pl))) 0 21 (nI (m + 1))) := by
  have hn := ok.1
  have hpw := pow16 hn
  unfold X0_goTo
  rw [nm_u, nm_u, (g.sD (k := 19) (v := nI s) (by omega)).1, if_neg (nI_n0 (by omega) (by omega)), sX0_next ok (g.sD (by omega)) (by omega) hp, bd_s]
  show nm _ _ = _
  rw [nm_u, nm_u, nm_u, zi_ne _ _ _ _ (Or.inr (by decide)), zi_ne _ _ _ _ (Or.inr (by decide)), e, nI_1]
theorem lX0_57 {σ : Sg} (ok : sOK σ) {Q : Int32 → Hp → Prop} (j : Hp → Int32 → Option (Int32 × Hp)) (h0 : Hp) :
    ∀ N, (fun N r => ∀ f z s pl m h, gc σ h → tC σ h 0 → f0 h0 h → zi h 0 19 = nI s → zi h 0 20 = nI pl → zi h 0 21 = nI m → s < 2 ^ sN σ → pl < sN σ → s.testBit (sO σ pl) = true → f + m = sB σ → (∀ h', gc σ h' → tC σ h' 0 → f0 h0 h' → zi h' 0 19 = nI (qDf σ f z s pl).2 → wp (j h' (qDf σ f z s pl).1) Q) → f < N → wp (r h z) Q) N (zfix (fun (_ : Hp) (_ : Int32) => (none : Option (Int32 × Hp))) (X0_drawn_b57 j) N) := by
  have hn := ok.1
  have hb9 := ok.2.2.2.2.1
  have hpw := pow16 hn
  refine zfix_ind (σ := Hp → Int32 → Option (Int32 × Hp)) _ _ (fun N r => ∀ f z s pl m h, gc σ h → tC σ h 0 → f0 h0 h → zi h 0 19 = nI s → zi h 0 20 = nI pl → zi h 0 21 = nI m → s < 2 ^ sN σ → pl < sN σ → s.testBit (sO σ pl) = true → f + m = sB σ → (∀ h', gc σ h' → tC σ h' 0 → f0 h0 h' → zi h' 0 19 = nI (qDf σ f z s pl).2 → wp (j h' (qDf σ f z s pl).1) Q) → f < N → wp (r h z) Q) (fun f _ _ _ _ _ _ _ _ _ _ _ _ _ _ _ _ z => absurd z (Nat.not_lt_zero _)) (fun N r ih f z s pl m h g t fr e1 e2 e3 hs hp hb hf hj hN => ?_)
  unfold X0_drawn_b57
  rw [e1, e3, sX0_isOver h (by omega) (by omega) (by omega) g.2.2.2.1, bd_s]
  by_cases co : isOv σ s m
  · rw [if_neg (fun z => (pB0.mp z) co)]
    have eq : qDf σ f z s pl = (z, s) := by
      cases f with
      | zero => rfl
      | succ f => unfold qDf; rw [if_pos (by rcases co with z | z <;> omega)]
    have := hj h g t fr
    rw [eq] at this
    exact this e1
  · rw [if_pos (pB0.mpr co)]
    obtain ⟨f, rfl⟩ : ∃ f', f = f' + 1 := ⟨f - 1, by have : ¬ (sB σ ≤ m ∨ pc s ≤ 1) := co; omega⟩
    have co' : ¬ (sB σ ≤ m ∨ pc s ≤ 1) := co
    have hw := (ok.2.1 pl hp).1
    have hA := dG_aim ok hs hw hb co
    have et := (t m (Nat.zero_le _) (by omega) s hs (by omega) pl hp hb).1
    rw [show sB σ - m = f + 1 from by omega] at hA et
    have h9b : dG σ (f + 1) s (sO σ pl) < 2 ^ 31 := by rcases hA with z | z <;> omega
    rw [e1, e2, e3, sX0_at, bd_s, ck_i (by omega) (by omega), nI_clamp (by omega), et, nm_u, nm_u, nm_u]
    have go : ∀ h1 z' s', f7 h h1 → s' < 2 ^ sN σ → s'.testBit (sO σ pl) = true → qDf σ (f + 1) z s pl = qDf σ f z' s' (nxp σ s' pl) → wp (bd (X0_goTo h1 (nI s') (zi h1 0 20)) fun _ h40 => r h40 z') Q := by
      intro h1 z' s' f7' hs' hb' eq
      have g1 := g.fr f7'.f0
      rw [(f7'.2 0 20 (by decide)).trans e2, sX0_goTo ok g1 hs' hp ((f7'.2 0 21 (by decide)).trans e3), bd_s]
      refine ih f z' s' (nxp σ s' pl) (m + 1) _ (((g1.sD (by omega)).sD (by omega)).sD (by omega)) (((t.f7 f7').s0).s0).s0 (fr.tr (f7'.f0.tr ((f0.s19 (by omega)).tr ((f0.s19 (by omega)).tr (f0.s19 (by omega)))))) ?_ ?_ (zi_eq _ _ _ _) hs' (nxp_lt hp) (nxp_bit hp hb') (by omega) ?_ (by omega)
      · rw [zi_ne _ _ _ _ (Or.inr (by decide)), zi_ne _ _ _ _ (Or.inr (by decide)), zi_eq]
      · rw [zi_ne _ _ _ _ (Or.inr (by decide)), zi_eq]
      · rw [← eq]; exact hj
    by_cases c9 : dG σ (f + 1) s (sO σ pl) = 9
    · rw [if_pos (by rw [c9]; rfl), e1]
      refine go h z s (f7.rf h) hs hb ?_
      conv => lhs; unfold qDf
      rw [if_neg (by omega), if_pos c9]
    · have ht := hA.resolve_left c9
      rw [if_neg (nI_n9 h9b c9), nm_u, ck_t (by decide), e2, ck_i (by omega) (by omega), nI_clamp (by omega), g.2.1 pl hp, e3, e1, wp_bd]
      refine (gc.hits ok g hw ht.1 (by omega) (by omega)).mono ?_
      rintro y h1 ⟨ey, f7'⟩
      rw [ey]
      have em : sB σ - (f + 1) = m := by omega
      by_cases ch : nI (sH σ (sO σ pl) (dG σ (f + 1) s (sO σ pl)) (pc s) m) ≤ uM (uZ z)
      · rw [if_pos (by exact ch)]
        refine go h1 (uZ z) s f7' hs hb ?_
        conv => lhs; unfold qDf
        rw [if_neg (by omega), if_neg c9, em, if_pos ch]
      · rw [if_neg (by exact ch), nm_u, b_cl s (by omega) _ (by omega)]
        refine go h1 (uZ z) _ f7' (Nat.lt_of_le_of_lt (cl_le _ _) hs) (cl_keep ok hs hw hb ht.1 ht.2.1) ?_
        conv => lhs; unfold qDf
        rw [if_neg (by omega), if_neg c9, em, if_neg ch]
