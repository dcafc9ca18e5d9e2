/-! METHODS THAT THROW: contract, calls; methods with handlers: start, calls -/
/-- y throws an object of class X from every heap that holds h; the pure heap is h1 then -/
def zTm (l : Launch) (D : va_G) (tA : Nat → ClassId) (B : Nat) (kn : State → Prop) (y : MethodName) (bytes : ByteArray) (maxL : Nat) (yret : Option FieldType) (FF LL : Nat) (h : Hp) (ad : Nat → Nat) (As : List Value) (Pu : (Nat → Nat) → Prop) (X : String) (h1 : Hp) : Prop :=
  ∀ (p : Program) (e : Env) (s : State) (m : MethodId) (args : Array Value) (below : List Frame) (meth : Method) (c : Code), ZF p s m args meth c D tA B maxL kn y.cls bytes yret → meth.name = y.name → c.exceptionTable.isEmpty = true → ZW p l e (zRm FF LL h) s m args below meth c (zQT D tA B h Pu X h1 below s) D tA B maxL (zc h) (zs h) ad 0 h (lv_args 0 As) []
def tc {α : Type} (o : Option (Unit × Hp)) (k : Hp → Option α) (n : Option α) : Option α := match o with | none => n | some x => k x.2
theorem tc_o {α : Type} {o : Option (Unit × Hp)} {k : Hp → Option α} {n : Option α} {x : α} (h : tc o k n = some x) : (∃ h1, o = some ((), h1) ∧ k h1 = some x) ∨ (o = none ∧ n = some x) := by
  cases o with
  | none => exact Or.inr ⟨rfl, h⟩
  | some a => exact Or.inl ⟨a.2, rfl, h⟩
/-- a cast of a reference that may be null comes through -/
def zcs (τ : Nat) (h : Hp) (o : Option Nat) : Bool := match o with | none => true | some a => zsub τ (zt h a)
theorem zps_nil {own : String} {pc : Nat} {X : String} : ∀ y ∈ ([] : List (Nat × Nat × Nat × Nat)), zPs own pc X y := fun _ h => by cases h
theorem zps_out {own : String} {pc : Nat} {X : String} {a b c d : Nat} {r : List (Nat × Nat × Nat × Nat)} (h : ¬ (a ≤ pc ∧ pc < b)) (hr : ∀ y ∈ r, zPs own pc X y) : ∀ y ∈ (a, b, c, d) :: r, zPs own pc X y := by
  intro y hy
  rcases List.mem_cons.mp hy with rfl | hy
  · exact Or.inl h
  · exact hr y hy
theorem zps_no {own : String} {pc : Nat} {X C : String} {a b c d : Nat} {r : List (Nat × Nat × Nat × Nat)} (h0 : d ≠ 0) (hl : Cond.classLink own d C ∈ lw_all) (hn : (X, C) ∈ zNoC) (hr : ∀ y ∈ r, zPs own pc X y) : ∀ y ∈ (a, b, c, d) :: r, zPs own pc X y := by
  intro y hy
  rcases List.mem_cons.mp hy with rfl | hy
  · exact Or.inr ⟨h0, C, hl, hn⟩
  · exact hr y hy
section ZTcall
variable {p : Program} {l : Launch} {e : Env} {R : Room} {s : State} {m : MethodId} {args : Array Value} {below : List Frame} {meth : Method} {c : Code} {Q : State → Prop}
variable {D : va_G} {tA : Nat → ClassId} {B nL c0 s0 : Nat} {ad : Nat → Nat} {kn : State → Prop} {own : String} {cc : ByteArray} {ret : Option FieldType}
variable {pc : Nat} {h h1 : Hp} {lv : List (Nat × Value)} {st : List Value} {X : String}
variable {y : MethodName} {bytes : ByteArray} {maxL n index FF LL : Nat} {yret : Option FieldType} {As rest : List Value} {Pu : (Nat → Nat) → Prop}
theorem z_intoT {T : State} {locs : List Loc} {ls : Array Slot} {mk : MethodId} {ins : Instr} (F : ZF p s m args meth c D tA B nL kn own cc ret) (hM : zTm l D tA B kn y bytes maxL yret FF LL h ad As Pu X h1) (cw : zCw R s args y bytes maxL FF LL n yret) (hpn : plainName y.cls = true) (hsz : (lg_sl As).length ≤ maxL) (hr : (rest.map fun v => v.category).sum ≤ 16) (hd : decode cc pc = .ok (ins, 3)) (hm : c0 ≤ zc h ∧ s0 ≤ zs h)
    (hw : zWd D tA B s ad h T.heap locs) (hls : lv_has ls nL lv) (hf : (zc h - c0) + (zLC - zc h) ≤ R.cells ∧ (zs h - s0) + (zLS - zs h) ≤ R.slots) (X₁ : Stand p l e R s m args below meth c T locs (zc h - c0) (zs h - s0)) (hn : s.methodNamed? y = some mk)
    (kk : ∀ u, Pu u → zOk h1 → zEx h h1 → ZT p l e R s m args below meth c Q D tA B nL c0 s0 u X pc h1 lv) : ∃ t, Steps p.tables e below (doInvoke e (T.setTop (F0 m pc ls rest)) [] mk As.toArray).1 t ∧ Q t := by
  have hnT := X₁.named hn
  obtain ⟨methY, cY, hmY, hcY, hby, hlY, hrY, hlkY, htab, hsigY⟩ := Cond.code_spec hnT (cw.2.2.1 _ List.mem_cons_self args T X₁.warmed)
  have hpk : T.plainMethod mk := State.plainMethod.of_named (plainFor_of_name hpn) hnT hmY
  have hlo := cw.2.1
  obtain ⟨Y, hent⟩ := X₁.into (g := F0 m pc ls rest) rfl (hls.1.trans F.2.2.1.symm) (by rw [F.b]; exact hd) As.toArray (R' := zRm FF LL h) hmY hcY hlkY hpk cw.1 (by rw [hlY]; show 2 * 0 + (rest.map fun v => v.category).sum + (maxL + 11) + LL ≤ R.locals; omega) hf.1 hf.2
  have hWc : s.WarmedH (T.calling (F0 m pc ls rest) mk As.toArray).vm := X₁.warmed
  have hkn : kn (T.calling (F0 m pc ls rest) mk As.toArray) := F.2.2.2.2.2.1.1 s _ F.2.2.2.2.2.2.1 hWc (fun q hq => hw.2.2.2.1 q (Nat.lt_of_lt_of_le hq F.bs) (Nat.not_le.mpr hq))
  have Fy : ZF p (T.calling (F0 m pc ls rest) mk As.toArray) mk As.toArray methY cY D tA B maxL kn y.cls bytes yret := ⟨F.x, hby, hlY, findClass_of_methodNamed hnT, fun w hw => cw.2.2.1 w (List.mem_cons_of_mem _ hw) _ _ hWc, F.2.2.2.2.2.1, hkn, hrY, hlkY, Nat.le_trans F.bs hw.2.2.1⟩
  rw [hent []]
  have hbody := hM p e (T.calling (F0 m pc ls rest) mk As.toArray) mk As.toArray (.java (F0 m pc ls rest) :: below) methY cY Fy (name_of_methodNamed hnT hmY).1 htab T.heap [] _ ⟨hw.1, hw.2.1, va_S.rf⟩ (lv_entry As (n := maxL) hsz)
  rw [Nat.sub_self, Nat.sub_self] at hbody
  obtain ⟨t, st1, x, L, ce, u, q1, q2, q3, q4, q5, q6, q7, q8, q9, hO1, hE⟩ := hbody ((T.setTop (F0 m pc ls rest)).pushFrame (.java (entryFrame mk As.toArray cY.maxLocals))) rfl Y
  obtain ⟨T', X', hW', hsame', ht⟩ := X₁.outOfThrown (g := F0 m pc ls rest) rfl q2 q3 q4
  have hheap : t.heap = T'.heap := by rw [ht]; rfl
  have hwT : zWd D tA B s u h1 T'.heap (locs ++ L) := by
    rw [hheap] at q9
    refine ⟨q9.1, q9.2.1, Nat.le_trans hw.2.2.1 q9.2.2.1, fun q hq1 hq2 => ?_, fun z hz => ?_⟩
    · rw [← hw.2.2.2.1 q hq1 hq2]
      exact q9.2.2.2.1 q (Nat.lt_of_lt_of_le hq1 hw.2.2.1) hq2
    · rcases List.mem_append.mp hz with hz | hz
      · exact hw.2.2.2.2 z hz
      · exact q9.2.2.2.2 z hz
  have X'' : Stand p l e R s m args below meth c T' (locs ++ L) (zc h1 - c0) (zs h1 - s0) := by
    rw [show zc h1 - c0 = zc h - c0 + (zc h1 - zc h) from by have := hE.2.1; omega, show zs h1 - s0 = zs h - s0 + (zs h1 - zs h) from by have := hE.2.2.1; omega]
    exact X'
  have hX : s.vm.findClass X = some ce.cls := by
    rw [← X₁.warmed.alike.findClass]
    exact q7
  obtain ⟨t2, a2, b2⟩ := kk u q8 hO1 hE T' (locs ++ L) ls rest x ce hwT hls X'' (by rw [← hheap]; exact q5) q6 hX
  have st2 : Steps p.tables e below _ t := Steps.weaken (mid := [.java (F0 m pc ls rest)]) st1
  rw [← ht] at a2
  refine ⟨t2, Steps.trans ?_ a2, b2⟩
  rw [show entryFrame mk As.toArray cY.maxLocals = F0 mk 0 _ [] from by rw [hlY]; exact lg_entry_eq mk As maxL] at st2 ⊢
  exact st2
theorem z_thrS (F : ZF p s m args meth c D tA B nL kn own cc ret) (hM : zTm l D tA B kn y bytes maxL yret FF LL h ad As Pu X h1) (cw : zCw R s args y bytes maxL FF LL n yret) (hpn : plainName y.cls = true) (hsz : (lg_sl As).length ≤ maxL) (hl : Cond.methodLink own index y ∈ lw_all) (hst : Cond.static y ∈ lw_all) (hn : As.length = n) (hr : (rest.map fun v => v.category).sum ≤ 16) (hd : decode cc pc = .ok (.invokestatic index, 3)) (hm : c0 ≤ zc h ∧ s0 ≤ zs h) (hf : (zc h - c0) + (zLC - zc h) ≤ R.cells ∧ (zs h - s0) + (zLS - zs h) ≤ R.slots)
    (kk : ∀ u, Pu u → zOk h1 → zEx h h1 → ZT p l e R s m args below meth c Q D tA B nL c0 s0 u X pc h1 lv) : ZW p l e R s m args below meth c Q D tA B nL c0 s0 ad pc h lv (As.reverse ++ rest) := by
  intro H locs ls hw hls T hT XS
  subst hT
  obtain ⟨mk, hnamed⟩ := Cond.code_named cw.2.2.2.1
  obtain ⟨methM, cM, hmethM, -, -, -, -, -, -, hsigM⟩ := Cond.code_spec hnamed cw.2.2.2.1
  have hstatic : methM.isStatic = true := Cond.static_spec hnamed hmethM (F.ts _ hst)
  obtain ⟨kP, hkP, -⟩ := className_of_methodNamed hnamed
  have hinitP : kP.init = .initialized := Cond.initialized_spec (findClass_of_methodNamed hnamed) hkP cw.2.2.2.2.1
  obtain ⟨vm₁, X₁, hstep₁⟩ := XS.invokestatic F.x F.ow (F.ts _ hl) hnamed hmethM hstatic hkP hinitP cw.2.2.2.2.2.1 (g := F0 m pc ls (As.reverse ++ rest)) rfl (argsL := As) (rest := rest) (hn.trans (cw.2.2.2.2.2.2 _ hsigM)) rfl (by rw [F.b]; exact hd)
  obtain ⟨t, a1, b1⟩ := z_intoT (T := T.setVm vm₁) F hM cw hpn hsz hr hd hm hw hls hf X₁ hnamed kk
  exact ⟨t, hstep₁ _ (fun acts => by rw [doInvoke_state]; exact a1), b1⟩
theorem z_thrV {q ci N : Nat} {C : String} {TT : u_T} (F : ZF p s m args meth c D tA B nL kn own cc ret) (hM : zTm l D tA B kn y bytes maxL yret FF LL h ad (.ref (ad q) :: As) Pu X h1) (cw : zCw R s args y bytes maxL FF LL n yret) (hpn : plainName y.cls = true) (hsz : (lg_sl (.ref (ad q) :: As)).length ≤ maxL) (hl : Cond.methodLink own index y ∈ lw_all) (hin : Cond.instanceMethod y ∈ lw_all) (hse : Cond.selects C y y ∈ lw_all) (hc : zcl[ci]? = some (C, TT, N)) (hci : ci < 100) (hq : q < zx h) (ht : zt h q = ci) (hn : As.length = n) (hr : (rest.map fun v => v.category).sum ≤ 16) (hd : decode cc pc = .ok (.invokevirtual index, 3)) (hm : c0 ≤ zc h ∧ s0 ≤ zs h) (hf : (zc h - c0) + (zLC - zc h) ≤ R.cells ∧ (zs h - s0) + (zLS - zs h) ≤ R.slots)
    (kk : ∀ u, Pu u → zOk h1 → zEx h h1 → ZT p l e R s m args below meth c Q D tA B nL c0 s0 u X pc h1 lv) : ZW p l e R s m args below meth c Q D tA B nL c0 s0 ad pc h lv (As.reverse ++ .ref (ad q) :: rest) := by
  intro H locs ls hw hls T hT XS
  subst hT
  obtain ⟨cellB, hcB, hoB, hclB⟩ := z_recv F hc hci hq ht hw
  obtain ⟨mk, methM, hnamed, hmethM, hstM, habM⟩ := Cond.instanceMethod_spec (F.ts _ hin)
  obtain ⟨methM', cM, hmethM', -, -, -, -, -, -, hsigM⟩ := Cond.code_spec hnamed cw.2.2.2.1
  cases hmethM.symm.trans hmethM'
  obtain ⟨c2, r2, m2, q1, q2, q3, q4, kP, hkP, hkPi⟩ := Cond.selects_spec (F.ts _ hse)
  cases hclB.symm.trans q1
  cases (State.methodFound?_of_named hnamed cw.2.2.2.2.2.1).symm.trans q2
  cases hnamed.symm.trans q3
  have hselP : selectMethod e.platform s.vm cellB.cls mk = .method mk := by rw [Launch.admits_selectMethod XS.admits]; exact q4
  obtain ⟨vm₁, X₁, hstep₁⟩ := XS.invokevirtual F.x F.ow (F.ts _ hl) hnamed hmethM hstM hkP hkPi cw.2.2.2.2.2.1 (a := ad q) (cell := cellB) hcB
    (fun z h => by rw [h] at hoB; cases hoB) hselP hmethM habM hkP hkPi (g := F0 m pc ls (As.reverse ++ .ref (ad q) :: rest)) rfl (argsL := As) (rest := rest) (hn.trans (cw.2.2.2.2.2.2 _ hsigM)) rfl (by rw [F.b]; exact hd)
  obtain ⟨t, a1, b1⟩ := z_intoT (T := T.setVm vm₁) F hM cw hpn hsz hr hd hm hw hls hf X₁ hnamed kk
  exact ⟨t, hstep₁ _ (fun acts => by rw [doInvoke_state]; exact a1), b1⟩
theorem z_thrU {q ci N : Nat} {C owner : String} {x : MethodName} {TT : u_T} (F : ZF p s m args meth c D tA B nL kn own cc ret) (hM : zTm l D tA B kn y bytes maxL yret FF LL h ad (.ref (ad q) :: As) Pu X h1) (cw : zCw R s args y bytes maxL FF LL n yret) (hpn : plainName y.cls = true) (hsz : (lg_sl (.ref (ad q) :: As)).length ≤ maxL) (hl : Cond.methodLink own index x ∈ lw_all) (hsm : Cond.sameMethod x.cls owner x.name x.desc ∈ lw_all) (hdc : va_Decl s ⟨owner, x.name, x.desc⟩) (how : owner ≠ "java/lang/invoke/MethodHandle" ∧ owner ≠ "java/lang/invoke/VarHandle") (hin : Cond.instanceMethod y ∈ lw_all) (hse : Cond.selects C x y ∈ lw_all) (hxy : x.desc = y.desc) (hc : zcl[ci]? = some (C, TT, N)) (hci : ci < 100) (hq : q < zx h) (ht : zt h q = ci) (hn : As.length = n) (hr : (rest.map fun v => v.category).sum ≤ 16) (hd : decode cc pc = .ok (.invokevirtual index, 3)) (hm : c0 ≤ zc h ∧ s0 ≤ zs h) (hf : (zc h - c0) + (zLC - zc h) ≤ R.cells ∧ (zs h - s0) + (zLS - zs h) ≤ R.slots)
    (kk : ∀ u, Pu u → zOk h1 → zEx h h1 → ZT p l e R s m args below meth c Q D tA B nL c0 s0 u X pc h1 lv) : ZW p l e R s m args below meth c Q D tA B nL c0 s0 ad pc h lv (As.reverse ++ .ref (ad q) :: rest) := by
  intro H locs ls hw hls T hT XS
  subst hT
  obtain ⟨cellB, hcB, hoB, hclB⟩ := z_recv F hc hci hq ht hw
  obtain ⟨r0, r, hn0, hrm, hstR, hsigR⟩ := hdc
  obtain ⟨cn, ck, r1, hcn, hck, hni, hff, hn1⟩ := Cond.sameMethod_found (F.ts _ hsm)
  cases hn0.symm.trans hn1
  obtain ⟨mk, methM, hnamed, hmethM, -, habM⟩ := Cond.instanceMethod_spec (F.ts _ hin)
  obtain ⟨c2, r2, m2, q1, q2, q3, q4, kP, hkP, hkPi⟩ := Cond.selects_spec (F.ts _ hse)
  cases hclB.symm.trans q1
  cases hff.symm.trans q2
  cases hnamed.symm.trans q3
  have hselP : selectMethod e.platform s.vm cellB.cls r0 = .method mk := by rw [Launch.admits_selectMethod XS.admits]; exact q4
  obtain ⟨vm₁, X₁, hstep₁⟩ := XS.invokevirtualUp F.x F.ow (F.ts _ hl) (F.ts _ hsm) how hn0 hrm hstR (a := ad q) (cell := cellB) hcB
    (fun z h => by rw [h] at hoB; cases hoB) hselP hmethM habM hkP hkPi (g := F0 m pc ls (As.reverse ++ .ref (ad q) :: rest)) rfl (argsL := As) (rest := rest) (hn.trans (cw.2.2.2.2.2.2 _ (hxy ▸ hsigR))) rfl (by rw [F.b]; exact hd)
  obtain ⟨t, a1, b1⟩ := z_intoT (T := T.setVm vm₁) F hM cw hpn hsz hr hd hm hw hls hf X₁ hnamed kk
  exact ⟨t, hstep₁ _ (fun acts => by rw [doInvoke_state]; exact a1), b1⟩
theorem z_thrI {b : Nat} (F : ZF p s m args meth c D tA B nL kn own cc ret) (hM : zTm l D tA B kn y bytes maxL none FF LL h ad (.ref b :: As) Pu X h1) (cw : zCw R s args y bytes maxL FF LL n none) (hpn : plainName y.cls = true) (hsz : (lg_sl (.ref b :: As)).length ≤ maxL) (hl : Cond.methodLink own index y ∈ lw_all) (hy1 : y.name = "<init>") (hin : Cond.instanceMethod y ∈ lw_all) (hn : As.length = n) (hr : (rest.map fun v => v.category).sum ≤ 16) (hd : decode cc pc = .ok (.invokespecial index, 3)) (hm : c0 ≤ zc h ∧ s0 ≤ zs h) (hf : (zc h - c0) + (zLC - zc h) ≤ R.cells ∧ (zs h - s0) + (zLS - zs h) ≤ R.slots)
    (kk : ∀ u, Pu u → zOk h1 → zEx h h1 → ZT p l e R s m args below meth c Q D tA B nL c0 s0 u X pc h1 lv) : ZW p l e R s m args below meth c Q D tA B nL c0 s0 ad pc h lv (As.reverse ++ .ref b :: rest) := by
  intro H locs ls hw hls T hT XS
  subst hT
  have hpl : e.platform.magicAccessors = ({} : Platform).magicAccessors := by rw [XS.admits.platform]
  obtain ⟨mk, methM, cM, kP, vm₁, hnamed, hmethM, hcodeM, -, hlocalsM, -, hkP, -, hW₁, hstep₁⟩ := Steps.initColdArgs (e := e) XS.here F.x XS.warmed hpl F.ow hy1 cw.2.2.2.2.2.1 (F.ts _ hl) (F.ts _ hin) cw.2.2.2.1 (f := F0 m pc ls (As.reverse ++ .ref b :: rest)) rfl (argsL := As) (rest := rest) (fun sig hs => hn.trans (cw.2.2.2.2.2.2 sig hs)) rfl (by rw [F.b]; exact hd)
  obtain ⟨t, a1, b1⟩ := z_intoT (T := T.setVm vm₁) F hM cw hpn hsz hr hd hm hw hls hf (XS.noted hW₁) hnamed kk
  exact ⟨t, hstep₁ _ (fun acts => by rw [doInvoke_state]; exact a1), b1⟩
end ZTcall
