/-! PLAIN LEAN: small numbers as ints and longs; the rule for what a function answers -/
theorem nI_ni {a : Nat} (h : a < 2 ^ 31) : ¬ nI a = (-1 : Int32) := by
  rw [← Int32.toInt_inj, nI_toInt h, show (-1 : Int32).toInt = -1 from by decide]; omega
theorem nI_to {x : Int32} (h0 : 0 ≤ x) : x = nI x.toNatClampNeg := (Int32.ofNat_toNatClampNeg x h0).symm
theorem nI_rg {x : Int32} {b : Nat} (hb : b < 2 ^ 31) (h0 : 0 ≤ x) (h1 : x ≤ nI b) : ∃ a, a ≤ b ∧ x = nI a := by
  refine ⟨x.toNatClampNeg, ?_, nI_to h0⟩
  rw [nI_to h0, nI_leI (Int32.toNatClampNeg_lt x) hb] at h1
  exact h1
theorem nI_rgL {x : Int32} {a b : Nat} (ha : a < 2 ^ 31) (hb : b < 2 ^ 31) (h0 : nI a ≤ x) (h1 : x ≤ nI b) : ∃ c, a ≤ c ∧ c ≤ b ∧ x = nI c := by
  have h2 : 0 ≤ x := by
    rw [Int32.le_iff_toInt_le] at h0 ⊢
    rw [nI_toInt ha] at h0
    rw [show (0 : Int32).toInt = 0 from by decide]; omega
  obtain ⟨c, hc, e⟩ := nI_rg hb h2 h1
  refine ⟨c, ?_, hc, e⟩
  rw [e, nI_leI ha (by omega)] at h0
  exact h0
/-- one of the first n -/
theorem nI_isP {x : Int32} {n : Nat} (hn : n < 2 ^ 31) : (0 ≤ x ∧ x ≤ nI n - 1) ↔ ∃ a, a < n ∧ x = nI a := by
  cases n with
  | zero =>
    constructor
    · rintro ⟨h0, h1⟩
      rw [Int32.le_iff_toInt_le] at h0 h1
      rw [show (nI 0 - 1 : Int32).toInt = -1 from by decide] at h1
      rw [show (0 : Int32).toInt = 0 from by decide] at h0
      omega
    · rintro ⟨a, ha, _⟩; omega
  | succ n =>
    rw [nI_pred]
    constructor
    · rintro ⟨h0, h1⟩
      obtain ⟨a, ha, e⟩ := nI_rg (by omega) h0 h1
      exact ⟨a, by omega, e⟩
    · rintro ⟨a, ha, e⟩
      rw [e]
      exact ⟨nI_pos' (by omega), (nI_leI (by omega) (by omega)).mpr (by omega)⟩
/-- the check of an index -/
theorem nI_ix {a b : Nat} (h : a < b) (hb : b < 2 ^ 31) : 0 ≤ (nI a).toInt ∧ (nI a).toInt < (b : Int) := by
  rw [nI_toInt (by omega)]; omega
theorem ck_i {α : Type} {a : Nat} {b : Int} {k : Option α} (h : (a : Int) < b) (hb : b ≤ 2147483648) : ck (0 ≤ (nI a).toInt ∧ (nI a).toInt < b) k = k := by
  refine ck_t ?_
  rw [nI_toInt (by omega)]; omega
theorem nI_n0 {a : Nat} (ha : a < 2 ^ 31) (h : ¬ a = 0) : ¬ nI a = (0 : Int32) := fun z => h ((nI_eq ha (by omega)).mp z)
theorem nI_n1 {a : Nat} (ha : a < 2 ^ 31) (h : ¬ a = 1) : ¬ nI a = (1 : Int32) := fun z => h ((nI_eq ha (by omega)).mp z)
theorem nI_n2 {a : Nat} (ha : a < 2 ^ 31) (h : ¬ a = 2) : ¬ nI a = (2 : Int32) := fun z => h ((nI_eq ha (by omega)).mp z)
theorem nI_n3 {a : Nat} (ha : a < 2 ^ 31) (h : ¬ a = 3) : ¬ nI a = (3 : Int32) := fun z => h ((nI_eq ha (by omega)).mp z)
theorem nI_n4 {a : Nat} (ha : a < 2 ^ 31) (h : ¬ a = 4) : ¬ nI a = (4 : Int32) := fun z => h ((nI_eq ha (by omega)).mp z)
theorem nI_n5 {a : Nat} (ha : a < 2 ^ 31) (h : ¬ a = 5) : ¬ nI a = (5 : Int32) := fun z => h ((nI_eq ha (by omega)).mp z)
theorem nI_n9 {a : Nat} (ha : a < 2 ^ 31) (h : ¬ a = 9) : ¬ nI a = (9 : Int32) := fun z => h ((nI_eq ha (by omega)).mp z)
/-! what a function answers -/
def wp {α : Type} (o : Option (α × Hp)) (Q : α → Hp → Prop) : Prop := ∃ r h, o = some (r, h) ∧ Q r h
theorem wp_s {α : Type} (r : α) (h : Hp) (Q : α → Hp → Prop) : wp (some (r, h)) Q ↔ Q r h := by
  constructor
  · rintro ⟨r', h', e, q⟩; cases e; exact q
  · exact fun q => ⟨r, h, rfl, q⟩
theorem wp_bd {α β : Type} (o : Option (α × Hp)) (k : α → Hp → Option (β × Hp)) (Q : β → Hp → Prop) : wp (bd o k) Q ↔ wp o (fun r h => wp (k r h) Q) := by
  constructor
  · rintro ⟨r, h, e, q⟩
    obtain ⟨r1, h1, e1, e2⟩ := bd_o e
    exact ⟨r1, h1, e1, r, h, e2, q⟩
  · rintro ⟨r1, h1, e1, r, h, e2, q⟩
    exact ⟨r, h, by rw [e1]; exact e2, q⟩
theorem wp_ck {α : Type} {c : Prop} [Decidable c] (k : Option (α × Hp)) (Q : α → Hp → Prop) : wp (ck c k) Q ↔ c ∧ wp k Q := by
  constructor
  · rintro ⟨r, h, e, q⟩
    obtain ⟨e1, e2⟩ := ck_o e
    exact ⟨e1, r, h, e2, q⟩
  · rintro ⟨hc, r, h, e, q⟩
    exact ⟨r, h, by rw [ck_t hc]; exact e, q⟩
theorem wp_nm {α β : Type} (a : α) (f : α → Option (β × Hp)) (Q : β → Hp → Prop) : wp (nm a f) Q ↔ wp (f a) Q := Iff.rfl
theorem wp_dr {α : Type} (o : Option Nat) (k : Nat → Option (α × Hp)) (Q : α → Hp → Prop) : wp (dr o k) Q ↔ ∃ a, o = some a ∧ wp (k a) Q := by
  constructor
  · rintro ⟨r, h, e, q⟩
    obtain ⟨a, e1, e2⟩ := dr_o e
    exact ⟨a, e1, r, h, e2, q⟩
  · rintro ⟨a, e1, r, h, e2, q⟩
    exact ⟨r, h, by rw [e1]; exact e2, q⟩
theorem wp_if {α : Type} {c : Prop} [Decidable c] (a b : Option (α × Hp)) (Q : α → Hp → Prop) : wp (if c then a else b) Q ↔ (c → wp a Q) ∧ (¬ c → wp b Q) := by
  by_cases hc : c <;> simp [hc]
theorem wp.mono {α : Type} {o : Option (α × Hp)} {Q Q' : α → Hp → Prop} (w : wp o Q) (m : ∀ r h, Q r h → Q' r h) : wp o Q' := by
  obtain ⟨r, h, e, q⟩ := w
  exact ⟨r, h, e, m r h q⟩
theorem wp.of {α : Type} {o : Option (α × Hp)} {r : α} {h : Hp} {Q : α → Hp → Prop} (e : o = some (r, h)) (q : Q r h) : wp o Q := ⟨r, h, e, q⟩
theorem wp_of {α β : Type} {o : Option (α × Hp)} {r : α} {h : Hp} (e : o = some (r, h)) (k : α → Hp → Option (β × Hp)) : bd o k = k r h := by rw [e]; rfl
/-- loops -/
theorem zfix_ind {σ : Type} (d : σ) (f : σ → σ) (P : Nat → σ → Prop) (h0 : P 0 d) (hs : ∀ m g, P m g → P (m + 1) (f g)) (n : Nat) : P n (zfix d f n) := by
  induction n with
  | zero => exact h0
  | succ n ih => exact hs n _ ih
theorem zFU_u : zFU = 4096 := rfl
/-! more of the pure heap -/
theorem zi_ne (h : Hp) (q k : Nat) (v : Int32) {a b : Nat} (n : a ≠ q ∨ b ≠ k) : zi (zsi h q k v) a b = zi h a b := by
  rw [zi_si, if_neg]; rintro ⟨x, y⟩; cases n with
  | inl z => exact z x
  | inr z => exact z y
theorem zi_eq (h : Hp) (q k : Nat) (v : Int32) : zi (zsi h q k v) q k = v := by rw [zi_si, if_pos ⟨rfl, rfl⟩]
theorem zj_ne (h : Hp) (q k : Nat) (v : Int64) {a b : Nat} (n : a ≠ q ∨ b ≠ k) : zj (zsj h q k v) a b = zj h a b := by
  rw [zj_sj, if_neg]; rintro ⟨x, y⟩; cases n with
  | inl z => exact z x
  | inr z => exact z y
theorem zj_eq (h : Hp) (q k : Nat) (v : Int64) : zj (zsj h q k v) q k = v := by rw [zj_sj, if_pos ⟨rfl, rfl⟩]
theorem zr_ne (h : Hp) (q k : Nat) (v : Option Nat) {a b : Nat} (n : a ≠ q ∨ b ≠ k) : zr (zsr h q k v) a b = zr h a b := by
  rw [zr_sr, if_neg]; rintro ⟨x, y⟩; cases n with
  | inl z => exact z x
  | inr z => exact z y
theorem zr_eq (h : Hp) (q k : Nat) (v : Option Nat) : zr (zsr h q k v) q k = v := by rw [zr_sr, if_pos ⟨rfl, rfl⟩]
theorem zt_si (h : Hp) (q k : Nat) (v : Int32) : zt (zsi h q k v) = zt h := rfl
theorem zt_sj (h : Hp) (q k : Nat) (v : Int64) : zt (zsj h q k v) = zt h := rfl
theorem zt_sr (h : Hp) (q k : Nat) (v : Option Nat) : zt (zsr h q k v) = zt h := rfl
theorem zn_si (h : Hp) (q k : Nat) (v : Int32) : zn (zsi h q k v) = zn h := rfl
theorem zn_sj (h : Hp) (q k : Nat) (v : Int64) : zn (zsj h q k v) = zn h := rfl
theorem zn_sr (h : Hp) (q k : Nat) (v : Option Nat) : zn (zsr h q k v) = zn h := rfl
theorem zx_si (h : Hp) (q k : Nat) (v : Int32) : zx (zsi h q k v) = zx h := rfl
theorem zx_sj (h : Hp) (q k : Nat) (v : Int64) : zx (zsj h q k v) = zx h := rfl
theorem zx_sr (h : Hp) (q k : Nat) (v : Option Nat) : zx (zsr h q k v) = zx h := rfl
theorem zc_si (h : Hp) (q k : Nat) (v : Int32) : zc (zsi h q k v) = zc h := rfl
theorem zc_sj (h : Hp) (q k : Nat) (v : Int64) : zc (zsj h q k v) = zc h := rfl
theorem zc_sr (h : Hp) (q k : Nat) (v : Option Nat) : zc (zsr h q k v) = zc h := rfl
theorem zs_si (h : Hp) (q k : Nat) (v : Int32) : zs (zsi h q k v) = zs h := rfl
theorem zs_sj (h : Hp) (q k : Nat) (v : Int64) : zs (zsj h q k v) = zs h := rfl
theorem zs_sr (h : Hp) (q k : Nat) (v : Option Nat) : zs (zsr h q k v) = zs h := rfl
theorem zx_ne (h : Hp) (t n w : Nat) : zx (zne h t n w) = zx h + 1 := rfl
theorem zc_ne (h : Hp) (t n w : Nat) : zc (zne h t n w) = zc h + 1 := rfl
theorem zs_ne (h : Hp) (t n w : Nat) : zs (zne h t n w) = zs h + w := rfl
theorem zi_nw (h : Hp) (t n w : Nat) {a : Nat} (ha : a ≠ zx h) (b : Nat) : zi (zne h t n w) a b = zi h a b := by
  show zu1 h.1 (zx h) _ a b = _; unfold zu1; rw [if_neg ha]; rfl
theorem zj_nw (h : Hp) (t n w : Nat) {a : Nat} (ha : a ≠ zx h) (b : Nat) : zj (zne h t n w) a b = zj h a b := by
  show zu1 h.2.1 (zx h) _ a b = _; unfold zu1; rw [if_neg ha]; rfl
theorem zr_nw (h : Hp) (t n w : Nat) {a : Nat} (ha : a ≠ zx h) (b : Nat) : zr (zne h t n w) a b = zr h a b := by
  show zu1 h.2.2.1 (zx h) _ a b = _; unfold zu1; rw [if_neg ha]; rfl
theorem zt_nw (h : Hp) (t n w : Nat) {a : Nat} (ha : a ≠ zx h) : zt (zne h t n w) a = zt h a := by
  show zu1 h.2.2.2.1 (zx h) _ a = _; unfold zu1; rw [if_neg ha]; rfl
theorem zn_nw (h : Hp) (t n w : Nat) {a : Nat} (ha : a ≠ zx h) : zn (zne h t n w) a = zn h a := by
  show zu1 h.2.2.2.2.1 (zx h) _ a = _; unfold zu1; rw [if_neg ha]; rfl
theorem zi_nn (h : Hp) (t n w b : Nat) : zi (zne h t n w) (zx h) b = 0 := by
  show zu1 h.1 (zx h) _ (zx h) b = _; unfold zu1; rw [if_pos rfl]
theorem zr_nn (h : Hp) (t n w b : Nat) : zr (zne h t n w) (zx h) b = none := by
  show zu1 h.2.2.1 (zx h) _ (zx h) b = _; unfold zu1; rw [if_pos rfl]
theorem zt_nn (h : Hp) (t n w : Nat) : zt (zne h t n w) (zx h) = t := by
  show zu1 h.2.2.2.1 (zx h) _ (zx h) = _; unfold zu1; rw [if_pos rfl]
theorem zn_nn (h : Hp) (t n w : Nat) : zn (zne h t n w) (zx h) = n := by
  show zu1 h.2.2.2.2.1 (zx h) _ (zx h) = _; unfold zu1; rw [if_pos rfl]
