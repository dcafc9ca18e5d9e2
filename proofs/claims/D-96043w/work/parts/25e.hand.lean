/-! METHODS WITH HANDLERS: contract, start; casts; small rows -/
def wsW (y : MethodName) (cc : ByteArray) (maxL : Nat) (ret : Option FieldType) (hh : List (Nat × Nat × Nat × Nat)) : List Cond := Cond.codeWith y cc maxL ret hh :: lw_all
abbrev zMW (l : Launch) (D : va_G) (tA : Nat → ClassId) (B : Nat) (kn : State → Prop) (y : MethodName) (ws : List Cond) (F L : Nat) (h : Hp) (ad : Nat → Nat) (as : List Value) (h' : Hp) (Qc : Array Value → State → Outcome → State → Prop) : Prop := zM l D tA B kn y ws F L h ad as h' Qc
theorem zMW_of {l : Launch} {D : va_G} {tA : Nat → ClassId} {B : Nat} {kn : State → Prop} {y : MethodName} {cc : ByteArray} {maxL : Nat} {ret : Option FieldType} {hh : List (Nat × Nat × Nat × Nat)} {F L : Nat} {h h' : Hp} {ad : Nat → Nat} {as : List Value} {Qc : Array Value → State → Outcome → State → Prop}
    (hkp : zKp D tA B kn) (hy : plainName y.cls = true) (hsz : (lg_sl as).length ≤ maxL)
    (body : ∀ (p : Program) (e : Env) (s : State) (m : MethodId) (args : Array Value) (below : List Frame) (meth : Method) (c : Code), ZF p s m args meth c D tA B maxL kn y.cls cc ret → meth.name = y.name → zTab c hh →
      ZW p l e (zRm F L h) s m args below meth c (MQ below Qc args s (zc h' - zc h) (zs h' - zs h) (fun q => B ≤ q)) D tA B maxL (zc h) (zs h) ad 0 h (lv_args 0 as) []) : zMW l D tA B kn y (wsW y cc maxL ret hh) F L h ad as h' Qc := by
  refine va_MetW (cc := cc) (maxL := maxL) (ret := ret) (hh := hh) hy rfl ?_
  intro p e s m args below meth c s₁ Bd hml hv
  obtain ⟨rfl, hk, hB, hP, hD⟩ := hv
  have hts := atoms_spec (ws := wsW y cc maxL ret hh) Bd.pre
  obtain ⟨m9, meth9, c9, hn9, hm9, hc9, -, -, htab, -⟩ := Cond.codeWith_spec (hts _ List.mem_cons_self)
  have hts : ∀ w ∈ lw_all, w.before _ s = true := fun w h => hts w (List.mem_cons_of_mem _ h)
  have Fx : ZF p s m as.toArray meth c D tA B maxL kn y.cls cc ret := ⟨Bd.exec, Bd.bytes, hml, findClass_of_methodNamed Bd.named, hts, hkp, hk, Bd.returns, Bd.notSynchronized, hB⟩
  cases Bd.named.symm.trans hn9
  cases Bd.method.symm.trans hm9
  have hcd : meth.code = some c := (Stand.of_body Bd).code
  cases hcd.symm.trans hc9
  rw [lg_entry_eq]
  have hl := lv_entry as (n := maxL) hsz
  have := body p e s m as.toArray below meth c Fx (name_of_methodNamed Bd.named Bd.method).1 htab s.heap [] _ ⟨hP, hD, va_S.rf⟩ hl
  rw [Nat.sub_self, Nat.sub_self] at this
  exact this
theorem oc_o {α : Type} {o : Option Nat} {n : Option α} {k : Nat → Option α} {x : α} (h : oc o n k = some x) : (o = none ∧ n = some x) ∨ ∃ a, o = some a ∧ k a = some x := by
  cases o with
  | none => exact Or.inl ⟨rfl, h⟩
  | some a => exact Or.inr ⟨a, rfl, h⟩
theorem zrm_c {F L : Nat} {h0 h : Hp} {k w : Nat} (hE : zEx h0 h) (c : zc h + k ≤ zLC ∧ zs h + w ≤ zLS) : (zc h - zc h0) + k ≤ (zRm F L h0).cells ∧ (zs h - zs h0) + w ≤ (zRm F L h0).slots := by
  have h1 := hE.2.1
  have h2 := hE.2.2.1
  show _ ≤ zLC - zc h0 ∧ _ ≤ zLS - zs h0
  constructor <;> omega
section ZHand
variable {p : Program} {l : Launch} {e : Env} {R : Room} {s : State} {m : MethodId} {args : Array Value} {below : List Frame} {meth : Method} {c : Code} {Q : State → Prop}
variable {D : va_G} {tA : Nat → ClassId} {B nL c0 s0 : Nat} {ad : Nat → Nat} {kn : State → Prop} {own : String} {cc : ByteArray} {ret : Option FieldType}
variable {pc : Nat} {h : Hp} {lv : List (Nat × Value)} {st : List Value}
theorem z_cast0 {index : Nat} (F : ZF p s m args meth c D tA B nL kn own cc ret) (hd : decode cc pc = .ok (.checkcast index, 3)) (kk : ZW p l e R s m args below meth c Q D tA B nL c0 s0 ad (pc + 3) h lv (.null :: st)) : ZW p l e R s m args below meth c Q D tA B nL c0 s0 ad pc h lv (.null :: st) := by
  intro H locs ls hw hl T hT XS
  obtain ⟨t, a1, b1⟩ := kk H locs ls hw hl T hT XS
  exact ⟨t, XS.checkcastNull F.x (g := F0 m pc ls (.null :: st)) rfl rfl (by rw [F.b]; exact hd) t a1, b1⟩
theorem z_castY {q ci index N : Nat} {C nm : String} {TT : u_T} (F : ZF p s m args meth c D tA B nL kn own cc ret) (hc : zcl[ci]? = some (C, TT, N)) (hci : ci < 100) (hq : q < zx h) (ht : zt h q = ci) (hlk : Cond.classLink own index nm ∈ lw_all) (hca : C = nm ∨ Cond.castable C nm ∈ zNW) (hd : decode cc pc = .ok (.checkcast index, 3)) (kk : ZW p l e R s m args below meth c Q D tA B nL c0 s0 ad (pc + 3) h lv (.ref (ad q) :: st)) : ZW p l e R s m args below meth c Q D tA B nL c0 s0 ad pc h lv (.ref (ad q) :: st) := by
  intro H locs ls hw hl
  have hr := z_recv F hc hci hq ht hw
  rcases hca with hca | hca
  · subst hca
    obtain ⟨-, g1, k1, hk1, ho1⟩ := F.K.1 ci _ hc
    exact va_castS F.x F.b F.ow (F.ts _ hlk) ⟨g1, k1, hk1, ho1⟩ hr hd (kk H locs ls hw hl)
  · exact va_castY F.x F.b F.ow (F.ts _ hlk) (F.N _ hca) hr hd (kk H locs ls hw hl)
end ZHand
theorem zcs_t {h : Hp} {o : Option Nat} {τ τ' : Nat} (t : zTo h o τ') (c : zcs τ h o = true) : zTo h o τ := by
  intro a ha
  subst ha
  exact ⟨(t a rfl).1, c⟩
theorem zcs_n {h : Hp} {a τ τ' : Nat} (t : zTy h a τ') (c : zcs τ h (some a) = true) : zTy h a τ := ⟨t.1, c⟩
