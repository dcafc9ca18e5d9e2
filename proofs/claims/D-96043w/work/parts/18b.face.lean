/-! CALLS THROUGH AN INTERFACE -/
section ZFace
variable {p : Program} {l : Launch} {e : Env} {R : Room} {s : State} {m : MethodId} {args : Array Value} {below : List Frame} {meth : Method} {c : Code} {Q : State → Prop}
variable {D : va_G} {tA : Nat → ClassId} {B nL c0 s0 : Nat} {ad : Nat → Nat} {kn : State → Prop} {own : String} {cc : ByteArray} {ret : Option FieldType}
variable {pc : Nat} {h h1 : Hp} {lv : List (Nat × Value)} {st : List Value}
variable {y : MethodName} {bytes : ByteArray} {maxL n index FF LL : Nat} {yret : Option FieldType} {Qc : Array Value → State → Outcome → State → Prop} {As rest : List Value}
theorem zCw.back5 (cw : zCw R s args y bytes maxL FF LL n yret) (hkp : zKp D tA B kn) (hM : zM l D tA B kn y (ws_ y bytes maxL yret) FF LL h ad As h1 Qc) : Back l R p e below s args y 5 16 (fun A a => A.cells + (zLC - zc h) ≤ R.cells ∧ A.slots + (zLS - zs h) ≤ R.slots ∧ zPc kn D tA B h ad As a A.U) (PostOf Qc (zc h1 - zc h) (zs h1 - zs h) (fun q => B ≤ q)) :=
  z_back (bytes := bytes) (maxL := maxL) (ret := yret) hM (z_blind hkp) cw.1 cw.2.1 cw.2.2.1 List.mem_cons_self (fun a' U hW => word_at hW (Or.inl (by first | rfl | simp [Cond.onTables, Cond.keeps, Cond.steady])) cw.2.2.2.2.1)
theorem z_runF {q ci count : Nat} {C : String} {x : MethodName} {TT : u_T} {N : Nat} (F : ZF p s m args meth c D tA B nL kn own cc ret) (hM : zM l D tA B kn y (ws_ y bytes maxL yret) FF LL h ad (.ref (ad q) :: As) h1 Qc) (cw : zCw R s args y bytes maxL FF LL n yret) (hl : Cond.methodLink own index x ∈ lw_all) (hdc : Cond.declares x ∈ zNW) (hfa : Cond.interfaceMethod x.cls x.cls x.name x.desc ∈ zNW) (hpu : Cond.publicMethod y ∈ zNW) (hun : Cond.unhidden C x.name x.desc ∈ zNW) (hca : Cond.castable C x.cls ∈ zNW) (how : x.cls ≠ "java/lang/invoke/MethodHandle" ∧ x.cls ≠ "java/lang/invoke/VarHandle") (hin : Cond.instanceMethod y ∈ lw_all) (hse : Cond.selects C x y ∈ lw_all) (hxy : x.desc = y.desc) (hc : zcl[ci]? = some (C, TT, N)) (hci : ci < 100) (hq : q < zx h) (ht : zt h q = ci) (hn : As.length = n) (hr : (rest.map fun v => v.category).sum ≤ 16) (hd : decode cc pc = .ok (.invokeinterface index count, 5)) {H : Heap} {locs : List Loc} {ls : Array Slot} (hw : zWd D tA B s ad h H locs) (hls : lv_has ls nL lv) (hf : (zc h - c0) + (zLC - zc h) ≤ R.cells ∧ (zs h - s0) + (zLS - zs h) ≤ R.slots) :
    va_Run5 p l e R s m args below meth c H locs (zc h - c0) (zs h - s0) (zc h1 - zc h) (zs h1 - zs h) (F0 m pc ls (As.reverse ++ .ref (ad q) :: rest)) rest (Qc (Value.ref (ad q) :: As).toArray) (fun q => B ≤ q) := by
  intro T hT X
  have hB := cw.back5 (p := p) (e := e) (below := below) F.2.2.2.2.2.1 hM
  obtain ⟨cellB, hcB, hoB, hclB⟩ := z_recv F hc hci hq ht hw
  obtain ⟨-, gC, kB, hkB, -⟩ := F.K.1 ci _ hc
  have hkB : s.vm.classes[cellB.cls]? = some kB := by rw [Option.some.inj (hclB.symm.trans gC)]; exact hkB
  obtain ⟨v, vm₁, ⟨U', l2, c2, s2⟩, hW₁, X', ⟨g', mk, t, L, e1, e2, hq, h1, hL, h2, h3⟩, st⟩ := va_callIF X F.x (C := C) (bytes := bytes) (maxL := maxL) (ret := yret) F.ow (F.ts _ hl) (va_Nw.use rfl (F.N _ hdc)) (va_Nw.use rfl (F.N _ hfa)) (F.ts _ hse) (F.ts _ hin) (va_Nw.use rfl (F.N _ hpu)) (va_Nw.use rfl (F.N _ hun)) (va_Nw.use rfl (F.N _ hca)) cw.2.2.2.1 how hB (by rw [hT]; exact hcB) hoB hclB hkB (g := F0 m pc ls (As.reverse ++ .ref (ad q) :: rest)) rfl (hls.1.trans F.2.2.1.symm) (argsL := As) (rest := rest) (fun sig h => hn.trans (cw.2.2.2.2.2.2 sig (hxy ▸ h))) rfl (z_rm hr) (by rw [F.b]; exact hd) (fun vm₁ hW₁ => ⟨hf.1, hf.2, z_pre F hw hT hW₁⟩)
  dsimp only [Pt.U, Pt.locs, Pt.cells, Pt.slots] at X' e1 e2 h1 h2 h3 st
  subst h1; subst h2; subst h3
  exact ⟨v, (T.setVm vm₁).calling g' mk (Value.ref (ad _) :: As).toArray, t, U', L, hT, X', hL, e1, e2, hq, st⟩
theorem z_cFi {r : Int32} {a : Array Value} {st0 : List Value} (hm : c0 ≤ zc h ∧ s0 ≤ zs h) (hrun : ∀ (H : Heap) (locs : List Loc) (ls : Array Slot), zWd D tA B s ad h H locs → lv_has ls nL lv → va_Run5 p l e R s m args below meth c H locs (zc h - c0) (zs h - s0) (zc h1 - zc h) (zs h1 - zs h) (F0 m pc ls st0) rest (zQi D tA B h ad r h1 a) (fun q => B ≤ q))
    (kk : zOk h1 → zEx h h1 → ZW p l e R s m args below meth c Q D tA B nL c0 s0 ad (pc + 5) h1 lv (.int r :: rest)) : ZW p l e R s m args below meth c Q D tA B nL c0 s0 ad pc h lv st0 := by
  intro H locs ls hw hl
  refine va_callFi (hrun H locs ls hw hl) hw.2.2 (fun _ _ z => z) (fun _ z => z) (fun r1 u t H1 locs1 ht hvm hp hb hz hk hS => ?_)
  obtain ⟨rfl, hO, hE⟩ := hp
  have := kk hO hE H1 locs1 ls ⟨by rw [← ht]; exact hb.1, hb.2, hS⟩ hl
  rw [show zc h - c0 + (zc h1 - zc h) = zc h1 - c0 from by have := hE.2.1; omega, show zs h - s0 + (zs h1 - zs h) = zs h1 - s0 from by have := hE.2.2.1; omega]
  exact this
end ZFace
