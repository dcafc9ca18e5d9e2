/-! CALLS THROUGH A NAMED METHOD THAT A SUBCLASS'S ANSWERS; super.m(..) -/
section ZDisp
variable {p : Program} {l : Launch} {e : Env} {R : Room} {s : State} {m : MethodId} {args : Array Value} {below : List Frame} {meth : Method} {c : Code} {Q : State → Prop}
variable {D : va_G} {tA : Nat → ClassId} {B nL c0 s0 : Nat} {ad : Nat → Nat} {kn : State → Prop} {own : String} {cc : ByteArray} {ret : Option FieldType}
variable {pc : Nat} {h h1 : Hp} {lv : List (Nat × Value)} {st : List Value}
variable {y : MethodName} {bytes : ByteArray} {maxL n index FF LL : Nat} {yret : Option FieldType} {Qc : Array Value → State → Outcome → State → Prop} {As rest : List Value}
theorem z_runU {q ci : Nat} {C owner : String} {x : MethodName} {TT : u_T} {N : Nat} (F : ZF p s m args meth c D tA B nL kn own cc ret) (hM : zM l D tA B kn y (ws_ y bytes maxL yret) FF LL h ad (.ref (ad q) :: As) h1 Qc) (cw : zCw R s args y bytes maxL FF LL n yret) (hl : Cond.methodLink own index x ∈ lw_all) (hsm : Cond.sameMethod x.cls owner x.name x.desc ∈ lw_all) (hdc : va_Decl s ⟨owner, x.name, x.desc⟩) (how : owner ≠ "java/lang/invoke/MethodHandle" ∧ owner ≠ "java/lang/invoke/VarHandle") (hin : Cond.instanceMethod y ∈ lw_all) (hse : Cond.selects C x y ∈ lw_all) (hxy : x.desc = y.desc) (hc : zcl[ci]? = some (C, TT, N)) (hci : ci < 100) (hq : q < zx h) (ht : zt h q = ci) (hn : As.length = n) (hr : (rest.map fun v => v.category).sum ≤ 16) (hd : decode cc pc = .ok (.invokevirtual index, 3)) {H : Heap} {locs : List Loc} {ls : Array Slot} (hw : zWd D tA B s ad h H locs) (hls : lv_has ls nL lv) (hf : (zc h - c0) + (zLC - zc h) ≤ R.cells ∧ (zs h - s0) + (zLS - zs h) ≤ R.slots) :
    va_Run p l e R s m args below meth c H locs (zc h - c0) (zs h - s0) (zc h1 - zc h) (zs h1 - zs h) (F0 m pc ls (As.reverse ++ .ref (ad q) :: rest)) rest (Qc (Value.ref (ad q) :: As).toArray) (fun q => B ≤ q) := by
  intro T hT X
  have hB := cw.back (p := p) (e := e) (below := below) F.2.2.2.2.2.1 hM
  obtain ⟨cellB, hcB, hoB, hclB⟩ := z_recv F hc hci hq ht hw
  obtain ⟨v, vm₁, ⟨U', l2, c2, s2⟩, hW₁, X', ⟨g', mk, t, L, e1, e2, hq, h1, hL, h2, h3⟩, st⟩ := va_callVU X F.x (C := C) (bytes := bytes) (maxL := maxL) (ret := yret) F.ow (F.ts _ hl) (F.ts _ hsm) hdc how (F.ts _ hse) (F.ts _ hin) cw.2.2.2.1 hB (by rw [hT]; exact hcB) hoB hclB (g := F0 m pc ls (As.reverse ++ .ref (ad q) :: rest)) rfl (hls.1.trans F.2.2.1.symm) (argsL := As) (rest := rest) (fun sig h => hn.trans (cw.2.2.2.2.2.2 sig (hxy ▸ h))) rfl (z_rm hr) (by rw [F.b]; exact hd) (fun vm₁ hW₁ => ⟨hf.1, hf.2, z_pre F hw hT hW₁⟩)
  dsimp only [Pt.U, Pt.locs, Pt.cells, Pt.slots] at X' e1 e2 h1 h2 h3 st
  subst h1; subst h2; subst h3
  exact ⟨v, (T.setVm vm₁).calling g' mk (Value.ref (ad _) :: As).toArray, t, U', L, hT, X', hL, e1, e2, hq, st⟩
/-- one ordinary class under another, by the word 'castable' -/
theorem z_subcl {C1 C2 : String} {i1 i2 : Nat} {T1 T2 : u_T} {N1 N2 : Nat} {c1 c2 : ClassId} (F : ZF p s m args meth c D tA B nL kn own cc ret) (h1 : zcl[i1]? = some (C1, T1, N1)) (h2 : zcl[i2]? = some (C2, T2, N2)) (hw : Cond.castable C1 C2 ∈ zNW) {sup : String} (hs2 : Cond.superclass C2 sup ∈ lw_all) (f1 : s.vm.findClass C1 = some c1) (f2 : s.vm.findClass C2 = some c2) : s.vm.isSubclass c1 c2 = true := by
  obtain ⟨-, g1, k1, hk1, ho1⟩ := F.K.1 i1 _ h1
  obtain ⟨-, g2, k2, hk2, ho2⟩ := F.K.1 i2 _ h2
  cases f1.symm.trans g1
  cases f2.symm.trans g2
  have hz := F.N _ hw
  have ha : s.vm.assignable (D.1 i1) (D.1 i2) = true := by
    have hz : (Cond.castable C1 C2).before #[] s = true := hz
    simpa [Cond.before, Cond.holds, Cond.value, f1, f2] using hz
  obtain ⟨ps, dk, kp, -, hdk, -, -, -, -, hni⟩ := Cond.superclass_spec f2 (F.ts _ hs2)
  cases hk2.symm.trans hdk
  exact isSubclass_of_assignable hk1 hk2 ho1 ho2 hni ha
theorem z_runSU {q ci : Nat} {C : String} {x : MethodName} {TT : u_T} {N : Nat} (F : ZF p s m args meth c D tA B nL kn own cc ret) (hM : zM l D tA B kn y (ws_ y bytes maxL yret) FF LL h ad (.ref (ad q) :: As) h1 Qc) (cw : zCw R s args y bytes maxL FF LL n yret) (hl : Cond.methodLink own index x ∈ lw_all) (hsm : Cond.sameMethod x.cls y.cls x.name x.desc ∈ lw_all) (hsup : Cond.superclass own x.cls ∈ lw_all) (hsub : ∀ c1 c2, s.vm.findClass x.cls = some c1 → s.vm.findClass y.cls = some c2 → s.vm.isSubclass c1 c2 = true) (hno : x.name ≠ "<init>") (hin : Cond.instanceMethod y ∈ lw_all) (hxy : x.name = y.name ∧ x.desc = y.desc) (hc : zcl[ci]? = some (C, TT, N)) (hci : ci < 100) (hq : q < zx h) (ht : zt h q = ci) (hn : As.length = n) (hr : (rest.map fun v => v.category).sum ≤ 16) (hd : decode cc pc = .ok (.invokespecial index, 3)) {H : Heap} {locs : List Loc} {ls : Array Slot} (hw : zWd D tA B s ad h H locs) (hls : lv_has ls nL lv) (hf : (zc h - c0) + (zLC - zc h) ≤ R.cells ∧ (zs h - s0) + (zLS - zs h) ≤ R.slots) :
    va_Run p l e R s m args below meth c H locs (zc h - c0) (zs h - s0) (zc h1 - zc h) (zs h1 - zs h) (F0 m pc ls (As.reverse ++ .ref (ad q) :: rest)) rest (Qc (Value.ref (ad q) :: As).toArray) (fun q => B ≤ q) := by
  intro T hT X
  have hB := cw.back (p := p) (e := e) (below := below) F.2.2.2.2.2.1 hM
  obtain ⟨cellB, hcB, hoB, hclB⟩ := z_recv F hc hci hq ht hw
  obtain ⟨-, gC, kB, hkB, -⟩ := F.K.1 ci _ hc
  have hkB : s.vm.classes[cellB.cls]? = some kB := by rw [Option.some.inj (hclB.symm.trans gC)]; exact hkB
  obtain ⟨mk, methM, hnamed, hmethM, hstM, habM⟩ := Cond.instanceMethod_spec (F.ts _ hin)
  obtain ⟨methM', cM, hmethM', -, -, -, -, -, -, hsigM⟩ := Cond.code_spec hnamed cw.2.2.2.1
  cases hmethM.symm.trans hmethM'
  obtain ⟨ps, dk, kp, hps, hdk, hkp, hsuper, -, -, hnid⟩ := Cond.superclass_spec F.ow (F.ts _ hsup)
  have hn0 : s.methodNamed? ⟨y.cls, x.name, x.desc⟩ = some mk := by rw [hxy.1, hxy.2]; exact hnamed
  obtain ⟨vm₁, X₁, hstep₁⟩ := X.invokespecialUp F.x F.ow (F.ts _ hl) (F.ts _ hsm) hn0 hmethM hstM habM hno hdk hnid hps hsuper (hsub _ _ hps (findClass_of_methodNamed hnamed)) (a := ad q) (cell := cellB) (by rw [hT]; exact hcB)
    (fun z h => by rw [h] at hoB; cases hoB) hkB (g := F0 m pc ls (As.reverse ++ .ref (ad q) :: rest)) rfl (argsL := As) (rest := rest) (hn.trans (cw.2.2.2.2.2.2 _ hsigM)) rfl (by rw [F.b]; exact hd)
  obtain ⟨v, ⟨U', l2, c2, s2⟩, X', ⟨g', mk', t, L, e1, e2, hq, h1, hL, h2, h3⟩, hsteps⟩ := hB m meth c ⟨T.setVm vm₁, locs, zc h - c0, zs h - s0⟩ { (F0 m pc ls (As.reverse ++ .ref (ad q) :: rest)) with stack := rest } (.invokespecial index) mk (Value.ref (ad q) :: As).toArray X₁ rfl (hls.1.trans F.2.2.1.symm) (by rw [F.b]; exact hd) (z_rm hr) (X₁.named hnamed) ⟨hf.1, hf.2, z_pre F hw hT X₁.warmed⟩
  dsimp only [Pt.U, Pt.locs, Pt.cells, Pt.slots] at X' e1 e2 h1 h2 h3
  subst h1; subst h2; subst h3
  exact ⟨v, (T.setVm vm₁).calling g' mk' (Value.ref (ad _) :: As).toArray, t, U', L, hT, X', hL, e1, e2, hq, fun target h => hstep₁ _ (by rw [doInvoke_state]; exact hsteps.trans h)⟩
end ZDisp
