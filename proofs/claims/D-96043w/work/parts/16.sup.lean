/-! what the printed functions and walks stand on -/
def zfix {σ : Type} (d : σ) (f : σ → σ) : Nat → σ
  | 0 => d
  | n + 1 => f (zfix d f n)
def zFU : Nat := 4096
theorem ret_o {α : Type} {a c : α} {b d : Hp} (h : some (a, b) = some (c, d)) : a = c ∧ b = d := by
  injection h with h
  injection h with h1 h2
  exact ⟨h1, h2⟩
theorem zcat {ad : Nat → Nat} {o : Option Nat} : (va_re ad o).category = 1 := by cases o <;> rfl
def zTo (h : Hp) (o : Option Nat) (τ : Nat) : Prop := ∀ a, o = some a → zTy h a τ
theorem zTo.ex {h h' : Hp} {o : Option Nat} {τ : Nat} (t : zTo h o τ) (e : zEx h h') : zTo h' o τ := fun a ha => (t a ha).ex e
theorem zTo.of {h : Hp} {a τ : Nat} (t : zTy h a τ) : zTo h (some a) τ := fun b hb => by cases hb; exact t
theorem zTo.nil {h : Hp} {τ : Nat} : zTo h none τ := fun b hb => by cases hb
theorem zTo.rd {h : Hp} {o : Option Nat} {q k t τ : Nat} (hO : zOk h) (hq : q < zx h) (ht : zt h q = t) (hr : zrt t k = τ) (e : o = zr h q k) : zTo h o τ := fun a ha => by
  have := hO.1 q hq k a (e ▸ ha)
  rw [ht, hr] at this
  exact this
theorem zTy.fam {h : Hp} {a τ : Nat} (t : zTy h a τ) (hf : τ ≠ 99) : zt h a ∈ zfam τ := by
  have h1 := t.2
  unfold zsub at h1
  rw [if_neg hf] at h1
  exact of_decide_eq_true h1
theorem zTy.tg {h : Hp} {a τ : Nat} (t : zTy h a τ) (hf : τ ≠ 99 ∧ zfam τ = [τ]) : zt h a = τ := by
  have h1 := t.fam hf.1
  rw [hf.2] at h1
  exact List.mem_singleton.mp h1
theorem zTy.up {h : Hp} {a τ τ' : Nat} (t : zTy h a τ) (hf : τ ≠ 99 ∧ ∀ x ∈ zfam τ, zsub τ' x = true) : zTy h a τ' := ⟨t.1, hf.2 _ (t.fam hf.1)⟩
theorem zTo.up {h : Hp} {o : Option Nat} {τ τ' : Nat} (t : zTo h o τ) (hf : τ ≠ 99 ∧ ∀ x ∈ zfam τ, zsub τ' x = true) : zTo h o τ' := fun a ha => (t a ha).up hf
theorem zTo.rdf {h : Hp} {o : Option Nat} {q k τ : Nat} {fm : List Nat} (hO : zOk h) (hq : q < zx h) (hm : zt h q ∈ fm) (hr : ∀ x ∈ fm, zrt x k = τ) (e : o = zr h q k) : zTo h o τ := fun a ha => by
  have := hO.1 q hq k a (e ▸ ha)
  rw [hr _ hm] at this
  exact this
theorem zTy.c0 {h : Hp} {a : Nat} (hO : zOk h) (t : zTy h a 0) : a = 0 := (hO.2.1.2.2.2 a t.1).1 (t.tg (by decide))
theorem zTy.c1 {h : Hp} {a : Nat} (hO : zOk h) (t : zTy h a 1) : a = 6 := (hO.2.1.2.2.2 a t.1).2.1 (t.tg (by decide))
theorem oc_n {α : Type} {o : Option Nat} {a : Option α} {k : Nat → Option α} {x : α} (ho : o = none) (h : oc o a k = some x) : a = some x := by subst ho; exact h
theorem oc_s {α : Type} {o : Option Nat} {a : Option α} {k : Nat → Option α} {x : α} {b : Nat} (ho : o = some b) (h : oc o a k = some x) : k b = some x := by subst ho; exact h
theorem z_fitz {x : Int32} (h : narrow .boolean (.int x) = .int x) : fits .boolean (.int x) = true := by
  have e : narrow FieldType.boolean (.int x) = .int (x &&& 1) := rfl
  rw [e] at h
  injection h with h
  rw [← h]
  show fits FieldType.boolean (.int (x &&& 1)) = true
  obtain ⟨j, hj, ej⟩ := pk_andE x (m := 1) 1 (by decide)
  rw [ej]
  have : j = 0 ∨ j = 1 := by omega
  rcases this with rfl | rfl <;> decide
/-- a switch's default: none of the values -/
def zswP (x : Int32) (vs : List Int) : Prop := ∀ v ∈ vs, x.toInt ≠ v
theorem zsw_nil {x : Int32} : zswP x [] := fun _ h => by cases h
theorem zsw_cons {x v : Int32} {vs : List Int} (h : ¬ x = v) (t : zswP x vs) : zswP x (v.toInt :: vs) := fun w hw => by
  rcases List.mem_cons.mp hw with e | e
  · rw [e]; exact fun z => h (Int32.toInt_inj.mp z)
  · exact t w e
theorem zsw_out {x : Int32} {vs : List Int} {lo hi : Int} (t : zswP x vs) (hc : (List.range (hi - lo + 1).toNat).all (fun k => decide (lo + (k : Int) ∈ vs)) = true) : x.toInt < lo ∨ hi < x.toInt := by
  apply Classical.byContradiction
  intro hn
  have h1 : lo ≤ x.toInt ∧ x.toInt ≤ hi := by omega
  have hk : (x.toInt - lo).toNat < (hi - lo + 1).toNat := by omega
  have := List.all_eq_true.mp hc _ (List.mem_range.mpr hk)
  have hm := of_decide_eq_true this
  rw [show lo + ((x.toInt - lo).toNat : Int) = x.toInt by omega] at hm
  exact t _ hm rfl
theorem z_lim {h h0 : Hp} (hE : zEx h0 h) (hO : zOk h) {F L : Nat} : zc h - zc h0 ≤ (zRm F L h0).cells ∧ zs h - zs h0 ≤ (zRm F L h0).slots := by
  have hc := hO.2.2.1
  have hs := hO.2.2.2
  show _ ≤ zLC - zc h0 ∧ _ ≤ zLS - zs h0
  constructor <;> omega
theorem zsw_lk {x : Int32} {vs : List Int} {ps : Array (Int × Int)} {d : Int} (t : zswP x vs) (hc : ps.toList.all (fun q => decide (q.1 ∈ vs)) = true) : Op.lookupswitch.offset ps.toList d x.toInt = d := by
  revert hc
  induction ps.toList with
  | nil => intro _; rfl
  | cons a l ih =>
    intro hc
    rw [List.all_cons, Bool.and_eq_true] at hc
    have hne : x.toInt ≠ a.1 := t _ (of_decide_eq_true hc.1)
    have := ih hc.2
    simp only [Op.lookupswitch.offset] at this ⊢
    simp_all [List.find?]
    intro z
    exact absurd z.symm hne
section ZHoles
variable {p : Program} {l : Launch} {e : Env} {R : Room} {s : State} {m : MethodId} {args : Array Value} {below : List Frame} {meth : Method} {c : Code} {Q : State → Prop}
variable {D : va_G} {tA : Nat → ClassId} {B nL c0 s0 : Nat} {ad : Nat → Nat} {kn : State → Prop} {own : String} {cc : ByteArray} {ret : Option FieldType}
variable {pc : Nat} {h : Hp} {lv : List (Nat × Value)} {st : List Value}
/-- a table whose other places go to the default as well -/
theorem w_tswH {x : Int32} {vs : List Int} {dflt lo hi : Int} {offs : Array Int} {len : Nat} {tgt : Nat} (F : ZF p s m args meth c D tA B nL kn own cc ret) (hd : decode cc pc = .ok (.tableswitch dflt lo hi offs, len)) (t : zswP x vs)
    (hc : (List.range (hi - lo + 1).toNat).all (fun k => decide (lo + (k : Int) ∈ vs ∨ offs[k]? = some dflt)) = true) (ht : (pc : Int) + dflt = (tgt : Int)) (kk : ZW p l e R s m args below meth c Q D tA B nL c0 s0 ad tgt h lv st) : ZW p l e R s m args below meth c Q D tA B nL c0 s0 ad pc h lv (.int x :: st) := by
  by_cases h1 : x.toInt < lo ∨ hi < x.toInt
  · exact w_tswD F hd h1 ht kk
  · have hk : (x.toInt - lo).toNat < (hi - lo + 1).toNat := by omega
    have := of_decide_eq_true (List.all_eq_true.mp hc _ (List.mem_range.mpr hk))
    rw [show lo + ((x.toInt - lo).toNat : Int) = x.toInt by omega] at this
    rcases this with hm | ho
    · exact absurd rfl (t _ hm)
    · exact w_tswI F hd (fun z => h1 (Or.inl z)) (fun z => h1 (Or.inr z)) ho ht kk
end ZHoles
