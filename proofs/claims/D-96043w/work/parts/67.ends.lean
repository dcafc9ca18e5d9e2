/-! WHO IS IN AT THE END, how many throws: the model works it out from the bell back -/
def dh (σ : Sg) (f s w : Nat) : Nat := if dG σ f s w = 9 then 0 else sH σ w (dG σ f s w) (pc s) (sB σ - f)
def dl (σ : Sg) (f s w : Nat) : Nat := if dG σ f s w = 9 then s else cl s (dG σ f s w)
/-- with a number for each throw and one for each set at the end -/
def dU (σ : Sg) (c : Int64) (e : Nat → Int64) : Nat → Nat → Nat → Int64
  | 0, s, _ => e s * lN (12 ^ 0)
  | f + 1, s, w => if pc s ≤ 1 then e s * lN (12 ^ (f + 1)) else c * lN (12 ^ (f + 1)) + (lN (dh σ (f + 1) s w) * dU σ c e f (dl σ (f + 1) s w) (nxw σ (dl σ (f + 1) s w) w) + lN (12 - dh σ (f + 1) s w) * dU σ c e f s (nxw σ s w))
/-- the model's: what counts at the end may depend on the throws -/
def dQ (σ : Sg) (e : Nat → Nat → Int64) : Nat → Nat → Nat → Int64
  | 0, s, _ => e (sB σ) s * lN (12 ^ 0)
  | f + 1, s, w => if pc s ≤ 1 then e (sB σ - (f + 1)) s * lN (12 ^ (f + 1)) else lN (dh σ (f + 1) s w) * dQ σ e f (dl σ (f + 1) s w) (nxw σ (dl σ (f + 1) s w) w) + lN (12 - dh σ (f + 1) s w) * dQ σ e f s (nxw σ s w)
theorem dQ_0 (σ : Sg) (e : Nat → Int64) : ∀ f s w, dQ σ (fun _ => e) f s w = dU σ 0 e f s w := by
  intro f
  induction f with
  | zero => intro s w; rfl
  | succ f ih =>
    intro s w
    unfold dQ dU
    split
    · rfl
    · rw [ih, ih, Int64.zero_mul, Int64.zero_add]
theorem dh_le {σ : Sg} (ok : sOK σ) {f s w : Nat} (hw : w < sN σ) : dh σ f s w ≤ 12 := by
  unfold dh; split
  · omega
  · exact ok.2.2.2.2.2.2 _ _ _ _ _ (ok.2.2.2.1 _ hw).1
theorem dl_le (σ : Sg) (f s w : Nat) : dl σ f s w ≤ s := by
  unfold dl; split
  · exact Nat.le_refl _
  · exact cl_le _ _
theorem dQ_3 {σ : Sg} (ok : sOK σ) : ∀ f s w, f ≤ sB σ → w < sN σ → dQ σ (fun m _ => lN m) f s w = dU σ 1 (fun _ => 0) f s w + lN (sB σ - f) * lN (12 ^ f) := by
  intro f
  induction f with
  | zero =>
    intro s w _ _
    show lN (sB σ) * lN (12 ^ 0) = (0 : Int64) * lN (12 ^ 0) + lN (sB σ - 0) * lN (12 ^ 0)
    rw [Int64.zero_mul, Int64.zero_add, Nat.sub_zero]
  | succ f ih =>
    intro s w hf hw
    unfold dQ dU
    split
    · rw [Int64.zero_mul, Int64.zero_add]
    · rw [ih _ _ (by omega) (nxw_lt ok hw), ih _ _ (by omega) (nxw_lt ok hw)]
      have h12 := dh_le ok (f := f + 1) (s := s) hw
      generalize dU σ 1 (fun _ => 0) f (dl σ (f + 1) s w) (nxw σ (dl σ (f + 1) s w) w) = A
      generalize dU σ 1 (fun _ => 0) f s (nxw σ s w) = B
      generalize dh σ (f + 1) s w = d at h12
      have e1 : lN (12 - d) = lN 12 - lN d := (lN_sub h12).symm
      have e2 : lN (sB σ - f) = lN (sB σ - (f + 1)) + 1 := by rw [lN_1]; congr 1; omega
      have e3 : lN (12 ^ (f + 1)) = lN 12 * lN (12 ^ f) := by rw [lN_mul, Nat.pow_succ, Nat.mul_comm]
      rw [e1, e2, e3]
      generalize lN 12 = T
      generalize lN d = D
      generalize lN (12 ^ f) = P
      generalize lN (sB σ - (f + 1)) = M
      grind
theorem dU_b {σ : Sg} (ok : sOK σ) {c : Int64} {e : Nat → Int64} {c' : Nat} (hc : c = lN c') (hc1 : c' ≤ 1) (he : ∀ s, ∃ x, x ≤ 1 ∧ e s = lN x) : ∀ f s w, w < sN σ → ∃ x, x ≤ (f + 1) * 12 ^ f ∧ dU σ c e f s w = lN x := by
  intro f
  induction f with
  | zero =>
    intro s w _
    obtain ⟨x, hx, ex⟩ := he s
    refine ⟨x * 12 ^ 0, by rw [Nat.pow_zero]; omega, ?_⟩
    show e s * lN (12 ^ 0) = _
    rw [ex, lN_mul]
  | succ f ih =>
    intro s w hw
    have hp : 0 < 12 ^ f := Nat.pos_of_ne_zero (fun z => by have := Nat.pow_eq_zero.mp z; omega)
    have hp1 : 12 ^ (f + 1) = 12 * 12 ^ f := by rw [Nat.pow_succ, Nat.mul_comm]
    unfold dU
    split
    · obtain ⟨x, hx, ex⟩ := he s
      refine ⟨x * 12 ^ (f + 1), Nat.mul_le_mul_right _ (by omega), by rw [ex, lN_mul]⟩
    · obtain ⟨y, hy, ey⟩ := ih (dl σ (f + 1) s w) _ (nxw_lt ok hw)
      obtain ⟨z, hz, ez⟩ := ih s _ (nxw_lt ok hw)
      have h12 := dh_le ok (f := f + 1) (s := s) hw
      generalize dh σ (f + 1) s w = d at h12
      rw [ey, ez, hc, lN_mul, lN_mul, lN_mul, lN_add, lN_add]
      refine ⟨_, ?_, rfl⟩
      have a1 := Nat.mul_le_mul_left d hy
      have a2 := Nat.mul_le_mul_left (12 - d) hz
      have a3 : d * ((f + 1) * 12 ^ f) + (12 - d) * ((f + 1) * 12 ^ f) = 12 * ((f + 1) * 12 ^ f) := by rw [← Nat.add_mul]; congr 1; omega
      have a4 := Nat.mul_le_mul_right (12 ^ (f + 1)) hc1
      have a5 : (f + 1 + 1) * 12 ^ (f + 1) = 12 ^ (f + 1) + 12 * ((f + 1) * 12 ^ f) := by
        rw [Nat.add_mul (f + 1) 1, Nat.one_mul, hp1, Nat.add_comm, Nat.mul_left_comm]
      omega
/-- what the model asks at the end -/
def eK (kind asked : Nat) (m s : Nat) : Int64 := if kind = 0 then (if s.testBit asked = true then 1 else 0) else if kind = 1 then (if s = 2 ^ asked then 1 else 0) else if kind = 2 then (if s = asked then 1 else 0) else lN m
theorem b_1p : ∀ p, p < 4 → (1 : Int32) <<< (nI p &&& 31) = nI (2 ^ p) := by decide
theorem p16 : ∀ p, p < 4 → 2 ^ p < 16 := by decide
theorem sX2_atEnd (h : Hp) {kind asked m s : Nat} (hk : kind < 4) (ha : asked < 16) (h4 : kind ≤ 1 → asked < 4) (hs : s < 16) (hm : m < 10) : X2_atEnd h (nI m) (nI s) (nI kind) (nI asked) = some (eK kind asked m s, h) := by
  unfold X2_atEnd eK
  have : kind = 0 ∨ kind = 1 ∨ kind = 2 ∨ kind = 3 := by omega
  rcases this with rfl | rfl | rfl | rfl
  · rw [if_pos nI_0, if_pos rfl, sX2_isIn h hs (h4 (by omega)), bd_s]
    by_cases c : s.testBit asked = true
    · rw [if_neg (fun z => (pB0.mp z) c), if_pos c]
    · rw [if_pos (pB0.mpr c), if_neg c]
  · rw [if_neg (show ¬ nI 1 = (0 : Int32) from by decide), if_pos (show nI 1 = (1 : Int32) from rfl), if_neg (show ¬ (1 : Nat) = 0 from by decide), if_pos (show (1 : Nat) = 1 from rfl), b_1p _ (h4 (by omega))]
    by_cases c : s = 2 ^ asked
    · rw [if_pos (by rw [c]), if_pos c]
    · rw [if_neg (fun z => c ((nI_eq (by omega) (by have := p16 asked (h4 (by omega)); omega)).mp z)), if_neg c]
  · rw [if_neg (show ¬ nI 2 = (0 : Int32) from by decide), if_neg (show ¬ nI 2 = (1 : Int32) from by decide), if_pos (show nI 2 = (2 : Int32) from rfl), if_neg (show ¬ (2 : Nat) = 0 from by decide), if_neg (show ¬ (2 : Nat) = 1 from by decide), if_pos (show (2 : Nat) = 2 from rfl)]
    by_cases c : s = asked
    · rw [if_pos (by rw [c]), if_pos c]
    · rw [if_neg (fun z => c ((nI_eq (by omega) (by omega)).mp z)), if_neg c]
  · rw [if_neg (show ¬ nI 3 = (0 : Int32) from by decide), if_neg (show ¬ nI 3 = (1 : Int32) from by decide), if_neg (show ¬ nI 3 = (2 : Int32) from by decide), if_neg (show ¬ (3 : Nat) = 0 from by decide), if_neg (show ¬ (3 : Nat) = 1 from by decide), if_neg (show ¬ (3 : Nat) = 2 from by decide), nI_l (by omega)]
/-- the model's table of answers -/
def tQ (σ : Sg) (e : Nat → Nat → Int64) (h : Hp) (lo : Nat) : Prop := ∀ m, lo ≤ m → m ≤ sB σ → ∀ s, s < 2 ^ sN σ → ∀ w, w < sN σ → (sB σ ≤ m ∨ pc s ≤ 1 ∨ s.testBit w = true) → zj h 34 ((m * 16 + s) * 4 + w) = dQ σ e (sB σ - m) s w
theorem dQ_over {σ : Sg} {e : Nat → Nat → Int64} {m s w : Nat} (hm : m ≤ sB σ) (c : sB σ ≤ m ∨ pc s ≤ 1) : dQ σ e (sB σ - m) s w = e m s * lN (12 ^ (sB σ - m)) := by
  cases q : sB σ - m with
  | zero => unfold dQ; rw [show sB σ = m from by omega]
  | succ f => unfold dQ; rw [if_pos (by omega), show sB σ - (f + 1) = m from by omega]
/-- only the answers' table is written -/
def f34 (h h' : Hp) : Prop := h'.1 = h.1 ∧ h'.2.2 = h.2.2 ∧ ∀ q k, q ≠ 34 → zj h' q k = zj h q k
theorem f34.rf (h : Hp) : f34 h h := ⟨rfl, rfl, fun _ _ _ => rfl⟩
theorem f34.tr {h h' h2 : Hp} (a : f34 h h') (b : f34 h' h2) : f34 h h2 := ⟨b.1.trans a.1, b.2.1.trans a.2.1, fun q k hq => (b.2.2 q k hq).trans (a.2.2 q k hq)⟩
theorem f34.f2 {h h' : Hp} (a : f34 h h') : f2 h h' := ⟨a.2.1, fun q k _ _ _ _ => congrFun (congrFun a.1 q) k, fun q k _ _ _ h4 _ => a.2.2 q k h4⟩
theorem f34.tM {σ : Sg} {h h' : Hp} {lo : Nat} (a : f34 h h') (t : tM σ h lo) : tM σ h' lo := fun m h1 h2 s h3 w h4 h5 => by
  have := t m h1 h2 s h3 w h4 h5
  have z : zi h' = zi h := a.1
  exact ⟨by rw [z]; exact this.1, by rw [z]; exact this.2.1, fun p hp => (a.2.2 30 _ (by decide)).trans (this.2.2 p hp)⟩
theorem f34.sj {h : Hp} {k : Nat} {v : Int64} : f34 h (zsj h 34 k v) := ⟨rfl, rfl, fun _ _ hq => zj_ne _ _ _ _ (Or.inl hq)⟩
theorem lX2_v54 {σ : Sg} (ok : sOK σ) {h0 : Hp} (g0 : gm σ h0) (t0 : tM σ h0 0) (pw : pw12 h0) {kind asked m s : Nat} (hk : kind < 4) (ha : asked < 16) (h4 : kind ≤ 1 → asked < 4) (hs : s < 2 ^ sN σ) (hm : m ≤ sB σ) {Q : Int64 → Hp → Prop} (j : Hp → Option (Int64 × Hp)) (h1 : Hp) (hj : ∀ h', f34 h0 h' → tQ σ (eK kind asked) h' (m + 1) → (∀ s', s' < 2 ^ sN σ → s' ≠ s → ∀ w', w' < sN σ → zj h' 34 ((m * 16 + s') * 4 + w') = zj h1 34 ((m * 16 + s') * 4 + w')) → (∀ w', w' < sN σ → (sB σ ≤ m ∨ pc s ≤ 1 ∨ s.testBit w' = true) → zj h' 34 ((m * 16 + s) * 4 + w') = dQ σ (eK kind asked) (sB σ - m) s w') → wp (j h') Q) :
    ∀ N, (fun N r => ∀ k h, f34 h0 h → tQ σ (eK kind asked) h (m + 1) → (∀ s', s' < 2 ^ sN σ → s' ≠ s → ∀ w', w' < sN σ → zj h 34 ((m * 16 + s') * 4 + w') = zj h1 34 ((m * 16 + s') * 4 + w')) → (∀ w', w' < k → (sB σ ≤ m ∨ pc s ≤ 1 ∨ s.testBit w' = true) → zj h 34 ((m * 16 + s) * 4 + w') = dQ σ (eK kind asked) (sB σ - m) s w') → k ≤ sN σ → sN σ - k < N → wp (r h (nI k)) Q) N (zfix (fun (_ : Hp) (_ : Int32) => (none : Option (Int64 × Hp))) (X2_valueOf_b54 (nI kind) (nI asked) (nI m) (nI s) j) N) := by
  have hn := ok.1
  have hb9 := ok.2.2.2.2.1
  have hpw := pow16 hn
  refine zfix_ind (σ := Hp → Int32 → Option (Int64 × Hp)) _ _ (fun N r => ∀ k h, f34 h0 h → tQ σ (eK kind asked) h (m + 1) → (∀ s', s' < 2 ^ sN σ → s' ≠ s → ∀ w', w' < sN σ → zj h 34 ((m * 16 + s') * 4 + w') = zj h1 34 ((m * 16 + s') * 4 + w')) → (∀ w', w' < k → (sB σ ≤ m ∨ pc s ≤ 1 ∨ s.testBit w' = true) → zj h 34 ((m * 16 + s) * 4 + w') = dQ σ (eK kind asked) (sB σ - m) s w') → k ≤ sN σ → sN σ - k < N → wp (r h (nI k)) Q) (fun k _ _ _ _ _ _ z => absurd z (Nat.not_lt_zero _)) (fun N r ih k h fr t ko kn hk' hN => ?_)
  have g := g0.fr fr.f2
  have tm := fr.tM t0
  unfold X2_valueOf_b54
  rw [g.1]
  by_cases c : sN σ ≤ k
  · rw [if_pos ((nI_leI (by omega) (by omega)).mpr c)]
    exact hj h fr t ko (fun w' b1 b2 => kn w' (by omega) b2)
  · rw [if_neg (fun z => c ((nI_leI (by omega) (by omega)).mp z)), sX2_st, bd_s, sX2_isOver h (by omega) (by omega) (by omega) g.2.2.2.2.1, bd_s]
    simp only [nm_u]
    rw [nI_1]
    have stp : ∀ v, v = dQ σ (eK kind asked) (sB σ - m) s k → wp (r (zsj h 34 ((m * 16 + s) * 4 + k) v) (nI (k + 1))) Q := by
      intro v ev
      refine ih (k + 1) _ (fr.tr f34.sj) (fun m' b1 b2 s' b3 w' b4 b5 => ?_) (fun s' b1 b2 w' b3 => ?_) (fun w' b1 b2 => ?_) (by omega) (by omega)
      · rw [zj_ne _ _ _ _ (Or.inr (by omega))]; exact t m' b1 b2 s' b3 w' b4 b5
      · rw [zj_ne _ _ _ _ (Or.inr (by omega))]; exact ko s' b1 b2 w' b3
      · rcases Nat.lt_or_ge w' k with l | l
        · rw [zj_ne _ _ _ _ (Or.inr (by omega))]; exact kn w' l b2
        · rw [show w' = k from by omega, zj_eq, ev]
    by_cases co : sB σ ≤ m ∨ pc s ≤ 1
    · rw [if_neg (fun z => (pB0.mp z) co), sX2_atEnd h hk ha h4 (by omega) (by omega), bd_s, g.2.2.2.2.1, pk_sub hm, ck_i (by omega) (by omega), nI_clamp (by omega), ck_i (by omega) (by omega), nI_clamp (by omega), fr.2.2 29 _ (by decide), pw _ (by omega)]
      exact stp _ (dQ_over hm co).symm
    · rw [if_pos (pB0.mpr co), sX2_isIn h (by omega) (by omega), bd_s]
      by_cases cb : s.testBit k = true
      · have e := tm m (Nat.zero_le _) hm s hs k (by omega) (Or.inr (Or.inr cb))
        have hG2 : dG2 σ m s k = dG σ (sB σ - m) s k := by unfold dG2; rw [if_neg co]
        have hKd : dK σ m s k = dh σ (sB σ - m) s k := by unfold dK dh; rw [hG2, show sB σ - (sB σ - m) = m from by omega]
        have hA := dG2_aim ok hs (show k < sN σ by omega) cb hm
        have h12 := dh_le ok (f := sB σ - m) (s := s) (show k < sN σ by omega)
        have hl : dl σ (sB σ - m) s k < 2 ^ sN σ := Nat.lt_of_le_of_lt (dl_le σ _ s k) hs
        have hlb : (dl σ (sB σ - m) s k).testBit k = true := by
          unfold dl
          rw [← hG2]
          split
          · exact cb
          · rename_i h9
            have ht2 := hA.resolve_left h9
            rw [cl_bit s (by omega) _ (by omega) k (by omega), cb]
            simp only [Bool.true_and, decide_eq_true_eq]
            exact fun z => ht2.2.1 z.symm
        have x1 := nxw_lt ok (s := s) (show k < sN σ by omega)
        have x2 := nxw_lt ok (s := dl σ (sB σ - m) s k) (show k < sN σ by omega)
        have q1 := t (m + 1) (Nat.le_refl _) (by omega) s hs _ x1 (Or.inr (Or.inr (nxw_bit ok (by omega) cb)))
        have q2 := t (m + 1) (Nat.le_refl _) (by omega) _ hl _ x2 (Or.inr (Or.inr (nxw_bit ok (by omega) hlb)))
        rw [if_neg (fun z => (pB0.mp z) cb), ck_i (by omega) (by omega), nI_clamp (by omega), e.1]
        have body : ∀ x, x = nI (dl σ (sB σ - m) s k) → wp (ck (0 ≤ (nI ((m * 16 + s) * 4 + k)).toInt ∧ (nI ((m * 16 + s) * 4 + k)).toInt < 640) (bd (X2_nextOf h (nI k) x) fun r51 h50 => bd (X2_stateOf h50 (nI m + 1) x r51) fun r53 h52 => ck (0 ≤ r53.toInt ∧ r53.toInt < 640) (ck (0 ≤ (nI ((m * 16 + s) * 4 + k)).toInt ∧ (nI ((m * 16 + s) * 4 + k)).toInt < 640) (bd (X2_nextOf h52 (nI k) (nI s)) fun r57 h56 => bd (X2_stateOf h56 (nI m + 1) (nI s) r57) fun r59 h58 => ck (0 ≤ r59.toInt ∧ r59.toInt < 640) (ck (0 ≤ (nI ((m * 16 + s) * 4 + k)).toInt ∧ (nI ((m * 16 + s) * 4 + k)).toInt < 640) (r (zsj h58 34 ((m * 16 + s) * 4 + k) ((((zi h 32 ((m * 16 + s) * 4 + k)).toInt64) * (zj h52 34 r53.toNatClampNeg)) + ((((12 : Int32) - (zi h52 32 ((m * 16 + s) * 4 + k))).toInt64) * (zj h58 34 r59.toNatClampNeg)))) (nI (k + 1))))))) ) Q := by
          intro x ex
          rw [ex, ck_i (by omega) (by omega), sX2_next ok g (by omega) (by omega) hlb, bd_s, nI_1, sX2_st, bd_s, ck_i (by omega) (by omega), ck_i (by omega) (by omega), sX2_next ok g (by omega) (by omega) cb, bd_s, sX2_st, bd_s, ck_i (by omega) (by omega), ck_i (by omega) (by omega), nI_clamp (by omega), nI_clamp (by omega), e.2.1, q1, q2, hKd, show (12 : Int32) = nI 12 from rfl, pk_sub h12, nI_l (by omega), nI_l (by omega)]
          refine stp _ ?_
          rw [show sB σ - m = sB σ - (m + 1) + 1 from by omega]
          conv => rhs; unfold dQ
          rw [if_neg (by omega)]
        by_cases c9 : dG2 σ m s k = 9
        · rw [if_pos (by rw [c9]; rfl)]
          refine body _ ?_
          unfold dl; rw [← hG2, if_pos c9]
        · rw [if_neg (nI_n9 (by rcases hA with z | z <;> omega) c9), b_cl s (by omega) _ (by have := hA.resolve_left c9; omega)]
          refine body _ ?_
          unfold dl; rw [← hG2, if_neg c9]
      · rw [if_pos (pB0.mpr cb)]
        refine ih (k + 1) h fr t ko (fun w' b1 b2 => ?_) (by omega) (by omega)
        rcases Nat.lt_or_ge w' k with l | l
        · exact kn w' l b2
        · rw [show w' = k from by omega] at b2
          rcases b2 with z | z | z
          · exact absurd (Or.inl z) co
          · exact absurd (Or.inr z) co
          · exact absurd z cb
