/-! THE PURE HEAP: ints, longs, references by (address, slot); tags, lengths; the next address; cells and slots used -/
abbrev Hp : Type := (Nat → Nat → Int32) × (Nat → Nat → Int64) × (Nat → Nat → Option Nat) × (Nat → Nat) × (Nat → Nat) × Nat × Nat × Nat
def zi (h : Hp) : Nat → Nat → Int32 := h.1
def zj (h : Hp) : Nat → Nat → Int64 := h.2.1
def zr (h : Hp) : Nat → Nat → Option Nat := h.2.2.1
def zt (h : Hp) : Nat → Nat := h.2.2.2.1
def zn (h : Hp) : Nat → Nat := h.2.2.2.2.1
def zx (h : Hp) : Nat := h.2.2.2.2.2.1
def zc (h : Hp) : Nat := h.2.2.2.2.2.2.1
def zs (h : Hp) : Nat := h.2.2.2.2.2.2.2
def zu1 {α : Type} (f : Nat → α) (q : Nat) (v : α) : Nat → α := fun a => if a = q then v else f a
def zu2 {α : Type} (f : Nat → Nat → α) (q k : Nat) (v : α) : Nat → Nat → α := fun a b => if a = q ∧ b = k then v else f a b
def zsi (h : Hp) (q k : Nat) (v : Int32) : Hp := (zu2 h.1 q k v, h.2)
def zsj (h : Hp) (q k : Nat) (v : Int64) : Hp := (h.1, zu2 h.2.1 q k v, h.2.2)
def zsr (h : Hp) (q k : Nat) (v : Option Nat) : Hp := (h.1, h.2.1, zu2 h.2.2.1 q k v, h.2.2.2)
/-- an array's whole contents -/
def zai (h : Hp) (q : Nat) (f : Nat → Int32) : Hp := (zu1 h.1 q f, h.2)
def zaj (h : Hp) (q : Nat) (f : Nat → Int64) : Hp := (h.1, zu1 h.2.1 q f, h.2.2)
/-- a new cell with tag t, length n, of w slots -/
def zne (h : Hp) (t n w : Nat) : Hp := (zu1 h.1 (zx h) (fun _ => 0), zu1 h.2.1 (zx h) (fun _ => 0), zu1 h.2.2.1 (zx h) (fun _ => none), zu1 h.2.2.2.1 (zx h) t, zu1 h.2.2.2.2.1 (zx h) n, zx h + 1, zc h + 1, zs h + w)
/-- cells and slots that nobody keeps (a caught exception's) -/
def zga (h : Hp) (k w : Nat) : Hp := (h.1, h.2.1, h.2.2.1, h.2.2.2.1, h.2.2.2.2.1, zx h, zc h + k, zs h + w)
/-- the claim's room -/
def zLC : Nat := 603072
def zLS : Nat := 7262314
/-! combinators of the functions -/
def nm {α β : Type} (a : α) (f : α → β) : β := f a
def ck {α : Type} (c : Prop) [Decidable c] (k : Option α) : Option α := if c then k else none
def dr {α : Type} (o : Option Nat) (k : Nat → Option α) : Option α := match o with | none => none | some a => k a
def oc {α : Type} (o : Option Nat) (n : Option α) (k : Nat → Option α) : Option α := match o with | none => n | some a => k a
def bd {α β : Type} (o : Option (α × Hp)) (k : α → Hp → Option β) : Option β := match o with | none => none | some x => k x.1 x.2
theorem nm_o {α β : Type} {a : α} {f : α → β} {x : β} (h : nm a f = x) : ∃ y, y = a ∧ f y = x := ⟨a, rfl, h⟩
theorem ck_o {α : Type} {c : Prop} [Decidable c] {k : Option α} {x : α} (h : ck c k = some x) : c ∧ k = some x := by
  unfold ck at h
  by_cases hc : c
  · rw [if_pos hc] at h; exact ⟨hc, h⟩
  · rw [if_neg hc] at h; cases h
theorem dr_o {α : Type} {o : Option Nat} {k : Nat → Option α} {x : α} (h : dr o k = some x) : ∃ a, o = some a ∧ k a = some x := by
  cases o with
  | none => cases h
  | some a => exact ⟨a, rfl, h⟩
theorem bd_o {α β : Type} {o : Option (α × Hp)} {k : α → Hp → Option β} {x : β} (h : bd o k = some x) : ∃ r h1, o = some (r, h1) ∧ k r h1 = some x := by
  cases o with
  | none => cases h
  | some a => exact ⟨a.1, a.2, rfl, h⟩
theorem if_t {α : Type} {c : Prop} [Decidable c] {a b : α} {x : α} (hc : c) (h : (if c then a else b) = x) : a = x := by rw [if_pos hc] at h; exact h
theorem if_f {α : Type} {c : Prop} [Decidable c] {a b : α} {x : α} (hc : ¬ c) (h : (if c then a else b) = x) : b = x := by rw [if_neg hc] at h; exact h
/-! what a cell looks like -/
def zfv (h : Hp) (ad : Nat → Nat) (q k t : Nat) : Value := if t = 0 then .int (zi h q k) else if t = 1 then .long (zj h q k) else va_re ad (zr h q k)
def zfs (h : Hp) (ad : Nat → Nat) (q : Nat) (ks : List Nat) : List Value := ks.mapIdx (fun k t => zfv h ad q k t)
def zar (h : Hp) (ad : Nat → Nat) (q t : Nat) : (Nat → Int32) ⊕ (Nat → Int64) ⊕ (Nat → UInt32) ⊕ (Nat → UInt64) ⊕ (Nat → Option Nat) := if t < 104 then .inl (zi h q) else if t = 104 then .inr (.inl (zj h q)) else .inr (.inr (.inr (.inr (fun k => (zr h q k).map ad))))
def zen (tA : Nat → ClassId) (h : Hp) (ad : Nat → Nat) (q : Nat) : va_E := if zt h q < 100 then .inr (zt h q, zfs h ad q (zft (zt h q))) else .inl (tA (zt h q - 100), zn h q, zar h ad q (zt h q))
def zwl (tA : Nat → ClassId) (h : Hp) (ad : Nat → Nat) : va_W := (List.range (zx h)).map (fun q => (ad q, zen tA h ad q))
abbrev ztys (tA : Nat → ClassId) : List (ClassId × FieldType) := [(tA 0, .int), (tA 1, .byte), (tA 2, .short), (tA 3, .boolean), (tA 4, .long), (tA 5, .object "ThreeSnowballs$Player"), (tA 6, .object "ThreeSnowballs$Change"), (tA 7, .object "ThreeSnowballs$Thrower"), (tA 8, .object "ThreeSnowballs$Held")]
/-- the class of tag t is under the declared type -/
def zfam (τ : Nat) : List Nat := if τ = 50 then [8, 9, 10, 11, 12] else if τ = 51 then [14, 15, 16, 17, 18, 19, 20, 21, 23, 24, 25, 26, 27] else if τ = 52 then [14, 15, 16, 17, 18, 19, 20, 21] else if τ = 53 then [23, 24, 25, 26, 27] else if τ = 54 then [15, 18, 21] else if τ = 55 then [16, 17, 19] else if τ = 56 then [17, 19] else if τ = 57 then [18, 21] else [τ]
def zsub (τ t : Nat) : Bool := if τ = 99 then true else decide (t ∈ zfam τ)
def zTy (h : Hp) (a τ : Nat) : Prop := a < zx h ∧ zsub τ (zt h a) = true
def zWT (h : Hp) : Prop := ∀ q, q < zx h → ∀ k a, zr h q k = some a → zTy h a (zrt (zt h q) k)
def zSh (h : Hp) : Prop := zSN ≤ zx h ∧ (∀ e ∈ zShT, zt h e.1 = e.2.1 ∧ zn h e.1 = e.2.2) ∧ (∀ e ∈ zShC, zr h e.1 e.2.1 = some e.2.2) ∧ ∀ q, q < zx h → (zt h q = 0 → q = 0) ∧ (zt h q = 1 → q = 6) ∧ (zt h q = 2 → q = 17)
def zLm (h : Hp) : Prop := zc h ≤ zLC ∧ zs h ≤ zLS
def zOk (h : Hp) : Prop := zWT h ∧ zSh h ∧ zLm h
/-- tags and lengths stay, cells are only added -/
def zEx (h h' : Hp) : Prop := zx h ≤ zx h' ∧ zc h ≤ zc h' ∧ zs h ≤ zs h' ∧ ∀ q, q < zx h → zt h' q = zt h q ∧ zn h' q = zn h q
theorem zEx.rf (h : Hp) : zEx h h := ⟨Nat.le_refl _, Nat.le_refl _, Nat.le_refl _, fun _ _ => ⟨rfl, rfl⟩⟩
theorem zEx.tr {h h' h2 : Hp} (a : zEx h h') (b : zEx h' h2) : zEx h h2 := ⟨Nat.le_trans a.1 b.1, Nat.le_trans a.2.1 b.2.1, Nat.le_trans a.2.2.1 b.2.2.1, fun q hq => ⟨(b.2.2.2 q (Nat.lt_of_lt_of_le hq a.1)).1.trans (a.2.2.2 q hq).1, (b.2.2.2 q (Nat.lt_of_lt_of_le hq a.1)).2.trans (a.2.2.2 q hq).2⟩⟩
theorem zTy.ex {h h' : Hp} {a τ : Nat} (t : zTy h a τ) (e : zEx h h') : zTy h' a τ := ⟨Nat.lt_of_lt_of_le t.1 e.1, by rw [(e.2.2.2 a t.1).1]; exact t.2⟩
theorem zEx.si {h : Hp} {q k : Nat} {v : Int32} : zEx h (zsi h q k v) := zEx.rf h
theorem zEx.sj {h : Hp} {q k : Nat} {v : Int64} : zEx h (zsj h q k v) := zEx.rf h
theorem zEx.sr {h : Hp} {q k : Nat} {v : Option Nat} : zEx h (zsr h q k v) := zEx.rf h
theorem zEx.ai {h : Hp} {q : Nat} {f : Nat → Int32} : zEx h (zai h q f) := zEx.rf h
theorem zEx.aj {h : Hp} {q : Nat} {f : Nat → Int64} : zEx h (zaj h q f) := zEx.rf h
theorem zEx.ga {h : Hp} {k w : Nat} : zEx h (zga h k w) := ⟨Nat.le_refl _, Nat.le_add_right _ _, Nat.le_add_right _ _, fun _ _ => ⟨rfl, rfl⟩⟩
theorem zEx.ne {h : Hp} {t n w : Nat} : zEx h (zne h t n w) := ⟨Nat.le_succ _, Nat.le_succ _, Nat.le_add_right _ _, fun q hq => by
  have hne : q ≠ zx h := Nat.ne_of_lt hq
  exact ⟨by show zu1 (zt h) (zx h) t q = zt h q; simp [zu1, hne], by show zu1 (zn h) (zx h) n q = zn h q; simp [zu1, hne]⟩⟩
theorem zOk.si {h : Hp} {q k : Nat} {v : Int32} (o : zOk h) : zOk (zsi h q k v) := o
theorem zOk.sj {h : Hp} {q k : Nat} {v : Int64} (o : zOk h) : zOk (zsj h q k v) := o
theorem zOk.ai {h : Hp} {q : Nat} {f : Nat → Int32} (o : zOk h) : zOk (zai h q f) := o
theorem zOk.aj {h : Hp} {q : Nat} {f : Nat → Int64} (o : zOk h) : zOk (zaj h q f) := o
theorem zOk.ga {h : Hp} {k w : Nat} (o : zOk h) (hr : zc h + k ≤ zLC ∧ zs h + w ≤ zLS) : zOk (zga h k w) := ⟨o.1, o.2.1, hr⟩
theorem zWT.sr {h : Hp} {q k : Nat} {v : Option Nat} (o : zWT h) (hv : ∀ a, v = some a → zTy h a (zrt (zt h q) k)) : zWT (zsr h q k v) := by
  intro q' hq' k' a ha
  have ha : zu2 (zr h) q k v q' k' = some a := ha
  unfold zu2 at ha
  by_cases hc : q' = q ∧ k' = k
  · rw [if_pos hc] at ha
    rw [hc.1, hc.2]
    exact hv a ha
  · rw [if_neg hc] at ha
    exact o q' hq' k' a ha
theorem zOk.sr {h : Hp} {q k : Nat} {v : Option Nat} (o : zOk h) (hv : ∀ a, v = some a → zTy h a (zrt (zt h q) k)) (hc : ∀ e ∈ zShC, ¬ (e.1 = q ∧ e.2.1 = k)) : zOk (zsr h q k v) := by
  refine ⟨o.1.sr hv, ⟨o.2.1.1, o.2.1.2.1, fun e he => ?_, o.2.1.2.2.2⟩, o.2.2⟩
  show zu2 (zr h) q k v e.1 e.2.1 = _
  unfold zu2
  rw [if_neg (hc e he)]
  exact o.2.1.2.2.1 e he
theorem zWT.ne {h : Hp} {t n w : Nat} (o : zWT h) : zWT (zne h t n w) := by
  intro q hq k a ha
  have hq : q < zx h + 1 := hq
  have ha : zu1 (zr h) (zx h) (fun _ => none) q k = some a := ha
  unfold zu1 at ha
  by_cases hc : q = zx h
  · rw [if_pos hc] at ha; cases ha
  · rw [if_neg hc] at ha
    have hl : q < zx h := by omega
    have := (o q hl k a ha).ex (zEx.ne (t := t) (n := n) (w := w))
    rw [(zEx.ne (h := h) (t := t) (n := n) (w := w)).2.2.2 q hl |>.1]
    exact this
theorem zOk.ne {h : Hp} {t n w : Nat} (o : zOk h) (ht : t ≠ 0 ∧ t ≠ 1 ∧ t ≠ 2) (hr : zc h + 1 ≤ zLC ∧ zs h + w ≤ zLS) : zOk (zne h t n w) := by
  refine ⟨o.1.ne, ⟨Nat.le_succ_of_le o.2.1.1, fun e he => ?_, fun e he => ?_, fun q hq => ?_⟩, hr⟩
  · have hl : e.1 < zx h := Nat.lt_of_lt_of_le (by revert e; decide) o.2.1.1
    have hz := (zEx.ne (h := h) (t := t) (n := n) (w := w)).2.2.2 e.1 hl
    exact ⟨hz.1.trans (o.2.1.2.1 e he).1, hz.2.trans (o.2.1.2.1 e he).2⟩
  · have hl : e.1 < zx h := Nat.lt_of_lt_of_le (by revert e; decide) o.2.1.1
    show zu1 (zr h) (zx h) (fun _ => none) e.1 e.2.1 = _
    unfold zu1
    rw [if_neg (Nat.ne_of_lt hl)]
    exact o.2.1.2.2.1 e he
  · have hq : q < zx h + 1 := hq
    by_cases hc : q = zx h
    · have hz : zt (zne h t n w) q = t := by show zu1 (zt h) (zx h) t q = t; simp [zu1, hc]
      rw [hz]
      exact ⟨fun z => absurd z ht.1, fun z => absurd z ht.2.1, fun z => absurd z ht.2.2⟩
    · have hl : q < zx h := by omega
      rw [((zEx.ne (h := h) (t := t) (n := n) (w := w)).2.2.2 q hl).1]
      exact o.2.1.2.2.2 q hl
theorem zOk.lt {h : Hp} (o : zOk h) {q : Nat} (hq : q < 42 := by decide) : q < zx h := Nat.lt_of_lt_of_le hq o.2.1.1
theorem zOk.tg {h : Hp} (o : zOk h) {q t n : Nat} (he : (q, t, n) ∈ zShT := by decide) : zt h q = t := (o.2.1.2.1 _ he).1
theorem zOk.ln {h : Hp} (o : zOk h) {q t n : Nat} (he : (q, t, n) ∈ zShT := by decide) : zn h q = n := (o.2.1.2.1 _ he).2
theorem zOk.cn {h : Hp} (o : zOk h) {q k a : Nat} (he : (q, k, a) ∈ zShC := by decide) : zr h q k = some a := o.2.1.2.2.1 _ he
