/-! CONTRACTS AND CALLS: methods that make no cell that anybody keeps (the map ad stays) -/
def zRm (F L : Nat) (h : Hp) : Room := { frames := F, cells := zLC - zc h, slots := zLS - zs h, locals := L }
def zPc (kn : State → Prop) (D : va_G) (tA : Nat → ClassId) (B : Nat) (h : Hp) (ad : Nat → Nat) (as : List Value) : Array Value → State → Prop := va_Pc as (fun U => kn U ∧ B ≤ U.heap.size ∧ va_P D zcl (zwl tA h ad) U.heap ∧ va_D (fun q => B ≤ q) (zwl tA h ad))
def zB (D : va_G) (tA : Nat → ClassId) (B : Nat) (h' : Hp) (ad : Nat → Nat) (t : State) : Prop := va_P D zcl (zwl tA h' ad) t.heap ∧ va_D (fun q => B ≤ q) (zwl tA h' ad)
def zQi (D : va_G) (tA : Nat → ClassId) (B : Nat) (h : Hp) (ad : Nat → Nat) (r : Int32) (h' : Hp) := va_Qi (S := Unit) (fun r1 _ => r1 = r ∧ zOk h' ∧ zEx h h') (fun _ t => zB D tA B h' ad t) (fun q => B ≤ q)
def zQz (D : va_G) (tA : Nat → ClassId) (B : Nat) (h : Hp) (ad : Nat → Nat) (r : Int32) (h' : Hp) := va_Qi (S := Unit) (fun r1 _ => r1 = r ∧ zOk h' ∧ zEx h h' ∧ narrow .boolean (.int r) = .int r) (fun _ t => zB D tA B h' ad t) (fun q => B ≤ q)
def zQl (D : va_G) (tA : Nat → ClassId) (B : Nat) (h : Hp) (ad : Nat → Nat) (r : Int64) (h' : Hp) := va_Ql (S := Unit) (fun r1 _ => r1 = r ∧ zOk h' ∧ zEx h h') (fun _ t => zB D tA B h' ad t) (fun q => B ≤ q)
def zQv (D : va_G) (tA : Nat → ClassId) (B : Nat) (h : Hp) (ad : Nat → Nat) (h' : Hp) := va_Qv (S := Unit) (fun _ => zOk h' ∧ zEx h h') (fun _ t => zB D tA B h' ad t) (fun q => B ≤ q)
abbrev zM (l : Launch) (D : va_G) (tA : Nat → ClassId) (B : Nat) (kn : State → Prop) (y : MethodName) (ws : List Cond) (F L : Nat) (h : Hp) (ad : Nat → Nat) (as : List Value) (h' : Hp) (Qc : Array Value → State → Outcome → State → Prop) : Prop :=
  Met l y ws (zRm F L h) (zPc kn D tA B h ad as) Qc (zc h' - zc h) (zs h' - zs h) (fun q => B ≤ q)
/-- a method's walk begins -/
theorem zM_of {l : Launch} {D : va_G} {tA : Nat → ClassId} {B : Nat} {kn : State → Prop} {y : MethodName} {cc : ByteArray} {maxL : Nat} {ret : Option FieldType} {F L : Nat} {h h' : Hp} {ad : Nat → Nat} {as : List Value} {Qc : Array Value → State → Outcome → State → Prop}
    (hkp : zKp D tA B kn) (hy : plainName y.cls = true) (hsz : (lg_sl as).length ≤ maxL)
    (body : ∀ (p : Program) (e : Env) (s : State) (m : MethodId) (args : Array Value) (below : List Frame) (meth : Method) (c : Code), ZF p s m args meth c D tA B maxL kn y.cls cc ret → meth.name = y.name →
      ZW p l e (zRm F L h) s m args below meth c (MQ below Qc args s (zc h' - zc h) (zs h' - zs h) (fun q => B ≤ q)) D tA B maxL (zc h) (zs h) ad 0 h (lv_args 0 as) []) : zM l D tA B kn y (ws_ y cc maxL ret) F L h ad as h' Qc := by
  refine Met.ofW (cc := cc) (maxL := maxL) (ret := ret) hy rfl ?_
  intro p e s m args below meth c s₁ Bd hml hv
  obtain ⟨rfl, hk, hB, hP, hD⟩ := hv
  have hts := atoms_spec (ws := ws_ y cc maxL ret) Bd.pre
  have hts : ∀ w ∈ lw_all, w.before _ s = true := fun w h => hts w (List.mem_cons_of_mem _ h)
  have Fx : ZF p s m as.toArray meth c D tA B maxL kn y.cls cc ret := ⟨Bd.exec, Bd.bytes, hml, findClass_of_methodNamed Bd.named, hts, hkp, hk, Bd.returns, Bd.notSynchronized, hB⟩
  rw [lg_entry_eq]
  have hl := lv_entry as (n := maxL) hsz
  have := body p e s m as.toArray below meth c Fx (name_of_methodNamed Bd.named Bd.method).1 s.heap [] _ ⟨hP, hD, va_S.rf⟩ hl
  rw [Nat.sub_self, Nat.sub_self] at this
  exact this
theorem zWd.zb {D : va_G} {tA : Nat → ClassId} {B : Nat} {s t : State} {ad : Nat → Nat} {h : Hp} {H : Heap} {locs : List Loc} (hw : zWd D tA B s ad h H locs) (ht : t.heap = H) : zB D tA B h ad t := by
  unfold zB
  rw [ht]
  exact ⟨hw.1, hw.2.1⟩
section ZRet
variable {p : Program} {l : Launch} {e : Env} {R : Room} {s : State} {m : MethodId} {args : Array Value} {below : List Frame} {meth : Method} {c : Code}
variable {D : va_G} {tA : Nat → ClassId} {B nL c0 s0 : Nat} {ad : Nat → Nat} {kn : State → Prop} {own : String} {cc : ByteArray}
variable {pc : Nat} {h h0 : Hp} {lv : List (Nat × Value)}
theorem z_iret {v : Int32} (F : ZF p s m args meth c D tA B nL kn own cc (some .int)) (hd : decode cc pc = .ok (.ireturn, 1)) (hO : zOk h) (hE : zEx h0 h) : ZW p l e R s m args below meth c (MQ below (zQi D tA B h0 ad v h) args s (zc h - c0) (zs h - s0) (fun q => B ≤ q)) D tA B nL c0 s0 ad pc h lv [.int v] :=
  fun H locs ls hw hl => W.iret F.x F.b F.r (fun t ht hW => ⟨⟨v, (), rfl, ⟨rfl, hO, hE⟩, hw.zb ht⟩, hw.2.2.F ht⟩) hw.2.2.2.2 hd F.lk
theorem z_zret {v : Int32} (F : ZF p s m args meth c D tA B nL kn own cc (some .boolean)) (hd : decode cc pc = .ok (.ireturn, 1)) (hn : narrow .boolean (.int v) = .int v) (hO : zOk h) (hE : zEx h0 h) : ZW p l e R s m args below meth c (MQ below (zQz D tA B h0 ad v h) args s (zc h - c0) (zs h - s0) (fun q => B ≤ q)) D tA B nL c0 s0 ad pc h lv [.int v] :=
  fun H locs ls hw hl => W.zret F.x F.b F.r hn (fun t ht hW => ⟨⟨v, (), rfl, ⟨rfl, hO, hE, hn⟩, hw.zb ht⟩, hw.2.2.F ht⟩) hw.2.2.2.2 hd F.lk
theorem z_lret {v : Int64} (F : ZF p s m args meth c D tA B nL kn own cc (some .long)) (hd : decode cc pc = .ok (.lreturn, 1)) (hO : zOk h) (hE : zEx h0 h) : ZW p l e R s m args below meth c (MQ below (zQl D tA B h0 ad v h) args s (zc h - c0) (zs h - s0) (fun q => B ≤ q)) D tA B nL c0 s0 ad pc h lv [.long v] :=
  fun H locs ls hw hl => W.lret F.x F.b F.r (fun t ht hW => ⟨⟨v, (), rfl, ⟨rfl, hO, hE⟩, hw.zb ht⟩, hw.2.2.F ht⟩) hw.2.2.2.2 hd F.lk
theorem z_vret (F : ZF p s m args meth c D tA B nL kn own cc none) (hd : decode cc pc = .ok (.return_, 1)) (hO : zOk h) (hE : zEx h0 h) : ZW p l e R s m args below meth c (MQ below (zQv D tA B h0 ad h) args s (zc h - c0) (zs h - s0) (fun q => B ≤ q)) D tA B nL c0 s0 ad pc h lv [] :=
  fun H locs ls hw hl => W.vret F.x F.b F.r (fun t ht hW => ⟨⟨(), rfl, ⟨hO, hE⟩, hw.zb ht⟩, hw.2.2.F ht⟩) hw.2.2.2.2 hd F.lk
end ZRet
/-! calls: the callee's room is its own, what it takes is told apart -/
theorem z_blind {D : va_G} {tA : Nat → ClassId} {B : Nat} {kn : State → Prop} {h : Hp} {ad : Nat → Nat} {as : List Value} (hkp : zKp D tA B kn) : FrameBlind (zPc kn D tA B h ad as) := by
  intro a U g mk q
  obtain ⟨q0, q1, q2, q3, q4⟩ := q
  exact ⟨q0, hkp.1 U _ q1 (State.WarmedH.refl U) (fun _ _ => rfl), q2, q3, q4⟩
section ZCall
variable {p : Program} {l : Launch} {e : Env} {R : Room} {s : State} {m : MethodId} {args : Array Value} {below : List Frame} {meth : Method} {c : Code} {Q : State → Prop}
theorem z_back {sargs : Array Value} {y : MethodName} {len W : Nat} {ws : List Cond} {rm : Room} {Pc : Array Value → State → Prop} {Qc : Array Value → State → Outcome → State → Prop} {mc ms : Nat} {free : Addr → Prop} {bytes : ByteArray} {maxL : Nat} {ret : Option FieldType}
    (hM : Met l y ws rm Pc Qc mc ms free) (hblind : FrameBlind Pc) (hframes : rm.frames + 1 ≤ R.frames) (hlocals : W + (maxL + 11) + rm.locals ≤ R.locals)
    (hws : ∀ w ∈ ws, ∀ a' U, s.WarmedH U.vm → w.before a' U = true) (hcode : Cond.code y bytes maxL ret ∈ ws) (hinit : ∀ a' U, s.WarmedH U.vm → (Cond.initialized y.cls).before a' U = true) :
    Back l R p e below s sargs y len W (fun A a => A.cells + rm.cells ≤ R.cells ∧ A.slots + rm.slots ≤ R.slots ∧ Pc a A.U) (PostOf Qc mc ms free) := by
  refine Back.of_free (S := headSpec ws rm) (P := Pc) (K := fun _ _ _ _ _ => True) (Q := fun a st o t => Qc a st o t ∧ ∃ L, FrameEnd st o t L mc ms ∧ ∀ q ∈ L, free q.base) (bytes := bytes) (maxL := maxL) (ret := ret)
    (E := fun a st o t L k n => k = mc ∧ n = ms ∧ ∀ q ∈ L, free q.base) hM hframes hlocals ?_ ?_ (fun _ _ _ _ _ _ _ _ _ => trivial) ?_ ?_
  · intro m meth c A a X hp
    exact ⟨atoms_intro fun w hw => hws w hw _ _ X.warmed, hws _ hcode _ _ X.warmed, hinit _ _ X.warmed, hp.1, hp.2.1⟩
  · intro m meth c A a g mk X hp
    exact hblind _ _ _ _ hp.2.2
  · intro a st o t ⟨hq, L, hF, hL⟩
    exact ⟨L, mc, ms, hF, rfl, rfl, hL⟩
  · intro m meth c A a g mk v t L k n X hp hq hF ⟨e1, e2, hL⟩
    subst e1; subst e2
    exact ⟨g, mk, t, L, rfl, rfl, hq.1, rfl, hL, rfl, rfl⟩
variable {D : va_G} {tA : Nat → ClassId} {B nL c0 s0 : Nat} {ad : Nat → Nat} {kn : State → Prop} {own : String} {cc : ByteArray} {ret : Option FieldType}
variable {pc : Nat} {h h1 : Hp} {lv : List (Nat × Value)} {st : List Value}
variable {y : MethodName} {bytes : ByteArray} {maxL n index FF LL : Nat} {yret : Option FieldType} {Qc : Array Value → State → Outcome → State → Prop} {As rest : List Value}
/-- what every call asks of its callee: words, room -/
def zCw (R : Room) (s : State) (args : Array Value) (y : MethodName) (bytes : ByteArray) (maxL FF LL n : Nat) (yret : Option FieldType) : Prop :=
  FF + 1 ≤ R.frames ∧ 16 + (maxL + 11) + LL ≤ R.locals ∧ (∀ w ∈ ws_ y bytes maxL yret, ∀ (a' : Array Value) (U : State), s.WarmedH U.vm → w.before a' U = true) ∧
  (Cond.code y bytes maxL yret).before args s = true ∧ (Cond.initialized y.cls).before args s = true ∧ (y.cls ≠ "java/lang/invoke/MethodHandle" ∧ y.cls ≠ "java/lang/invoke/VarHandle") ∧ (∀ sig, parseMethodDescriptor y.desc = some sig → n = sig.parameters.length)
theorem zCw.of (n : Nat) (hts : ∀ w ∈ lw_all, w.before args s = true) (hc : Cond.code y bytes maxL yret ∈ lw_all) (hi : Cond.initialized y.cls ∈ lw_all)
    (hd : y.cls ≠ "java/lang/invoke/MethodHandle" ∧ y.cls ≠ "java/lang/invoke/VarHandle" ∧ (parseMethodDescriptor y.desc).map (fun d => d.parameters.length) = some n) (hR : FF + 1 ≤ R.frames ∧ 16 + (maxL + 11) + LL ≤ R.locals) : zCw R s args y bytes maxL FF LL n yret := by
  refine ⟨hR.1, hR.2, pay_in hts (lw_meth hc), hts _ hc, hts _ hi, ⟨hd.1, hd.2.1⟩, fun sig h => ?_⟩
  have h2 := hd.2.2
  rw [h] at h2
  exact (Option.some.inj h2).symm
theorem zCw.back (cw : zCw R s args y bytes maxL FF LL n yret) (hkp : zKp D tA B kn) (hM : zM l D tA B kn y (ws_ y bytes maxL yret) FF LL h ad As h1 Qc) : Back l R p e below s args y 3 16 (fun A a => A.cells + (zLC - zc h) ≤ R.cells ∧ A.slots + (zLS - zs h) ≤ R.slots ∧ zPc kn D tA B h ad As a A.U) (PostOf Qc (zc h1 - zc h) (zs h1 - zs h) (fun q => B ≤ q)) :=
  z_back (bytes := bytes) (maxL := maxL) (ret := yret) hM (z_blind hkp) cw.1 cw.2.1 cw.2.2.1 List.mem_cons_self (fun a' U hW => word_at hW (Or.inl (by first | rfl | simp [Cond.onTables, Cond.keeps, Cond.steady])) cw.2.2.2.2.1)
/-- the callee's start, from the caller's world -/
theorem z_pre {H : Heap} {locs : List Loc} (F : ZF p s m args meth c D tA B nL kn own cc ret) (hw : zWd D tA B s ad h H locs) {U : State} (hU : U.heap = H) (hW : s.WarmedH U.vm) : zPc kn D tA B h ad As As.toArray U := by
  refine ⟨rfl, F.2.2.2.2.2.1.1 s U F.2.2.2.2.2.2.1 hW (fun q hq => ?_), ?_, ?_, hw.2.1⟩
  · rw [hU]
    exact hw.2.2.2.1 q (Nat.lt_of_lt_of_le hq F.bs) (Nat.not_le.mpr hq)
  · rw [hU]; exact Nat.le_trans F.bs hw.2.2.1
  · rw [hU]; exact hw.1
theorem z_rm {ls : Array Slot} {rest st : List Value} (h : (st.map fun v => v.category).sum ≤ 16) : 2 * (F0 m pc ls rest).monitorRoom + (st.map fun v => v.category).sum ≤ 16 := by
  show 2 * 0 + _ ≤ 16
  omega
theorem z_runS (F : ZF p s m args meth c D tA B nL kn own cc ret) (hM : zM l D tA B kn y (ws_ y bytes maxL yret) FF LL h ad As h1 Qc) (cw : zCw R s args y bytes maxL FF LL n yret) (hl : Cond.methodLink own index y ∈ lw_all ∨ ∃ host, Cond.methodLinkNest own index y host ∈ zNW) (hst : Cond.static y ∈ lw_all) (hn : As.length = n) (hr : (rest.map fun v => v.category).sum ≤ 16) (hd : decode cc pc = .ok (.invokestatic index, 3)) {H : Heap} {locs : List Loc} {ls : Array Slot} (hw : zWd D tA B s ad h H locs) (hls : lv_has ls nL lv) (hf : (zc h - c0) + (zLC - zc h) ≤ R.cells ∧ (zs h - s0) + (zLS - zs h) ≤ R.slots) :
    va_Run p l e R s m args below meth c H locs (zc h - c0) (zs h - s0) (zc h1 - zc h) (zs h1 - zs h) (F0 m pc ls (As.reverse ++ rest)) rest (Qc As.toArray) (fun q => B ≤ q) := by
  intro T hT X
  have hB := cw.back (p := p) (e := e) (below := below) F.2.2.2.2.2.1 hM
  rcases hl with hl | ⟨host, hl⟩
  · obtain ⟨v, vm₁, ⟨U', l2, c2, s2⟩, hW₁, X', ⟨g', mk, t, L, e1, e2, hq, h1, hL, h2, h3⟩, st⟩ := callS X F.x (bytes := bytes) (maxL := maxL) (ret := yret) F.ow (F.ts _ hl) (F.ts _ hst) cw.2.2.2.2.1 cw.2.2.2.1 cw.2.2.2.2.2.1 hB (g := F0 m pc ls (As.reverse ++ rest)) rfl (hls.1.trans F.2.2.1.symm) (argsL := As) (rest := rest) (fun sig h => hn.trans (cw.2.2.2.2.2.2 sig h)) rfl (z_rm hr) (by rw [F.b]; exact hd) (fun vm₁ hW₁ => ⟨hf.1, hf.2, z_pre F hw hT hW₁⟩)
    dsimp only [Pt.U, Pt.locs, Pt.cells, Pt.slots] at X' e1 e2 h1 h2 h3 st
    subst h1; subst h2; subst h3
    exact ⟨v, (T.setVm vm₁).calling g' mk As.toArray, t, U', L, hT, X', hL, e1, e2, hq, st⟩
  · obtain ⟨v, vm₁, ⟨U', l2, c2, s2⟩, hW₁, X', ⟨g', mk, t, L, e1, e2, hq, h1, hL, h2, h3⟩, st⟩ := va_callSN X F.x (bytes := bytes) (maxL := maxL) (ret := yret) F.ow (va_Nw.use rfl (F.N _ hl)) (F.ts _ hst) cw.2.2.2.2.1 cw.2.2.2.1 cw.2.2.2.2.2.1 hB (g := F0 m pc ls (As.reverse ++ rest)) rfl (hls.1.trans F.2.2.1.symm) (argsL := As) (rest := rest) (fun sig h => hn.trans (cw.2.2.2.2.2.2 sig h)) rfl (z_rm hr) (by rw [F.b]; exact hd) (fun vm₁ hW₁ => ⟨hf.1, hf.2, z_pre F hw hT hW₁⟩)
    dsimp only [Pt.U, Pt.locs, Pt.cells, Pt.slots] at X' e1 e2 h1 h2 h3 st
    subst h1; subst h2; subst h3
    exact ⟨v, (T.setVm vm₁).calling g' mk As.toArray, t, U', L, hT, X', hL, e1, e2, hq, st⟩
theorem z_recv {q ci : Nat} {C : String} {T : u_T} {N : Nat} {H : Heap} {locs : List Loc} (F : ZF p s m args meth c D tA B nL kn own cc ret) (hc : zcl[ci]? = some (C, T, N)) (hci : ci < 100) (hq : q < zx h) (ht : zt h q = ci) (hw : zWd D tA B s ad h H locs) : ∃ cell : Cell, H[ad q]? = some cell ∧ cell.vm.isStatics = false ∧ s.vm.findClass C = some cell.cls :=
  va_recv F.K hw.1 hc (q0 := q) (by rw [zwl_at hq, zen_o ht hci])
theorem z_runV {q ci : Nat} {C : String} {TT : u_T} {N : Nat} (F : ZF p s m args meth c D tA B nL kn own cc ret) (hM : zM l D tA B kn y (ws_ y bytes maxL yret) FF LL h ad (.ref (ad q) :: As) h1 Qc) (cw : zCw R s args y bytes maxL FF LL n yret) (hl : Cond.methodLink own index y ∈ lw_all ∨ ∃ host, Cond.methodLinkNest own index y host ∈ zNW) (hin : Cond.instanceMethod y ∈ lw_all) (hse : Cond.selects C y y ∈ lw_all) (hc : zcl[ci]? = some (C, TT, N)) (hci : ci < 100) (hq : q < zx h) (ht : zt h q = ci) (hn : As.length = n) (hr : (rest.map fun v => v.category).sum ≤ 16) (hd : decode cc pc = .ok (.invokevirtual index, 3)) {H : Heap} {locs : List Loc} {ls : Array Slot} (hw : zWd D tA B s ad h H locs) (hls : lv_has ls nL lv) (hf : (zc h - c0) + (zLC - zc h) ≤ R.cells ∧ (zs h - s0) + (zLS - zs h) ≤ R.slots) :
    va_Run p l e R s m args below meth c H locs (zc h - c0) (zs h - s0) (zc h1 - zc h) (zs h1 - zs h) (F0 m pc ls (As.reverse ++ .ref (ad q) :: rest)) rest (Qc (Value.ref (ad q) :: As).toArray) (fun q => B ≤ q) := by
  intro T hT X
  have hB := cw.back (p := p) (e := e) (below := below) F.2.2.2.2.2.1 hM
  obtain ⟨cellB, hcB, hoB, hclB⟩ := z_recv F hc hci hq ht hw
  rcases hl with hl | ⟨host, hl⟩
  · obtain ⟨v, vm₁, ⟨U', l2, c2, s2⟩, hW₁, X', ⟨g', mk, t, L, e1, e2, hq, h1, hL, h2, h3⟩, st⟩ := callV X F.x (C := C) (bytes := bytes) (maxL := maxL) (ret := yret) F.ow (F.ts _ hl) (F.ts _ hin) (F.ts _ hse) cw.2.2.2.1 cw.2.2.2.2.2.1 hB (by rw [hT]; exact hcB) hoB hclB (g := F0 m pc ls (As.reverse ++ .ref (ad q) :: rest)) rfl (hls.1.trans F.2.2.1.symm) (argsL := As) (rest := rest) (fun sig h => hn.trans (cw.2.2.2.2.2.2 sig h)) rfl (z_rm hr) (by rw [F.b]; exact hd) (fun vm₁ hW₁ => ⟨hf.1, hf.2, z_pre F hw hT hW₁⟩)
    dsimp only [Pt.U, Pt.locs, Pt.cells, Pt.slots] at X' e1 e2 h1 h2 h3 st
    subst h1; subst h2; subst h3
    exact ⟨v, (T.setVm vm₁).calling g' mk (Value.ref (ad _) :: As).toArray, t, U', L, hT, X', hL, e1, e2, hq, st⟩
  · obtain ⟨v, vm₁, ⟨U', l2, c2, s2⟩, hW₁, X', ⟨g', mk, t, L, e1, e2, hq, h1, hL, h2, h3⟩, st⟩ := va_callVN X F.x (C := C) (bytes := bytes) (maxL := maxL) (ret := yret) F.ow (va_Nw.use rfl (F.N _ hl)) (F.ts _ hin) (F.ts _ hse) cw.2.2.2.1 cw.2.2.2.2.2.1 hB (by rw [hT]; exact hcB) hoB hclB (g := F0 m pc ls (As.reverse ++ .ref (ad q) :: rest)) rfl (hls.1.trans F.2.2.1.symm) (argsL := As) (rest := rest) (fun sig h => hn.trans (cw.2.2.2.2.2.2 sig h)) rfl (z_rm hr) (by rw [F.b]; exact hd) (fun vm₁ hW₁ => ⟨hf.1, hf.2, z_pre F hw hT hW₁⟩)
    dsimp only [Pt.U, Pt.locs, Pt.cells, Pt.slots] at X' e1 e2 h1 h2 h3 st
    subst h1; subst h2; subst h3
    exact ⟨v, (T.setVm vm₁).calling g' mk (Value.ref (ad _) :: As).toArray, t, U', L, hT, X', hL, e1, e2, hq, st⟩
/-- behind a call: an int, a boolean, a long, nothing -/
theorem z_ci {r : Int32} {a : Array Value} {st0 : List Value} (hm : c0 ≤ zc h ∧ s0 ≤ zs h) (hrun : ∀ (H : Heap) (locs : List Loc) (ls : Array Slot), zWd D tA B s ad h H locs → lv_has ls nL lv → va_Run p l e R s m args below meth c H locs (zc h - c0) (zs h - s0) (zc h1 - zc h) (zs h1 - zs h) (F0 m pc ls st0) rest (zQi D tA B h ad r h1 a) (fun q => B ≤ q))
    (kk : zOk h1 → zEx h h1 → ZW p l e R s m args below meth c Q D tA B nL c0 s0 ad (pc + 3) h1 lv (.int r :: rest)) : ZW p l e R s m args below meth c Q D tA B nL c0 s0 ad pc h lv st0 := by
  intro H locs ls hw hl
  refine va_calli (hrun H locs ls hw hl) hw.2.2 (fun _ _ z => z) (fun _ z => z) (fun r1 u t H1 locs1 ht hvm hp hb hz hk hS => ?_)
  obtain ⟨rfl, hO, hE⟩ := hp
  have := kk hO hE H1 locs1 ls ⟨by rw [← ht]; exact hb.1, hb.2, hS⟩ hl
  rw [show zc h - c0 + (zc h1 - zc h) = zc h1 - c0 from by have := hE.2.1; omega, show zs h - s0 + (zs h1 - zs h) = zs h1 - s0 from by have := hE.2.2.1; omega]
  exact this
theorem z_cz {r : Int32} {a : Array Value} {st0 : List Value} (hm : c0 ≤ zc h ∧ s0 ≤ zs h) (hrun : ∀ (H : Heap) (locs : List Loc) (ls : Array Slot), zWd D tA B s ad h H locs → lv_has ls nL lv → va_Run p l e R s m args below meth c H locs (zc h - c0) (zs h - s0) (zc h1 - zc h) (zs h1 - zs h) (F0 m pc ls st0) rest (zQz D tA B h ad r h1 a) (fun q => B ≤ q))
    (kk : zOk h1 → zEx h h1 → narrow .boolean (.int r) = .int r → ZW p l e R s m args below meth c Q D tA B nL c0 s0 ad (pc + 3) h1 lv (.int r :: rest)) : ZW p l e R s m args below meth c Q D tA B nL c0 s0 ad pc h lv st0 := by
  intro H locs ls hw hl
  refine va_calli (hrun H locs ls hw hl) hw.2.2 (fun _ _ z => z) (fun _ z => z) (fun r1 u t H1 locs1 ht hvm hp hb hz hk hS => ?_)
  obtain ⟨rfl, hO, hE, hn⟩ := hp
  have := kk hO hE hn H1 locs1 ls ⟨by rw [← ht]; exact hb.1, hb.2, hS⟩ hl
  rw [show zc h - c0 + (zc h1 - zc h) = zc h1 - c0 from by have := hE.2.1; omega, show zs h - s0 + (zs h1 - zs h) = zs h1 - s0 from by have := hE.2.2.1; omega]
  exact this
theorem z_cl {r : Int64} {a : Array Value} {st0 : List Value} (hm : c0 ≤ zc h ∧ s0 ≤ zs h) (hrun : ∀ (H : Heap) (locs : List Loc) (ls : Array Slot), zWd D tA B s ad h H locs → lv_has ls nL lv → va_Run p l e R s m args below meth c H locs (zc h - c0) (zs h - s0) (zc h1 - zc h) (zs h1 - zs h) (F0 m pc ls st0) rest (zQl D tA B h ad r h1 a) (fun q => B ≤ q))
    (kk : zOk h1 → zEx h h1 → ZW p l e R s m args below meth c Q D tA B nL c0 s0 ad (pc + 3) h1 lv (.long r :: rest)) : ZW p l e R s m args below meth c Q D tA B nL c0 s0 ad pc h lv st0 := by
  intro H locs ls hw hl
  refine va_calll (hrun H locs ls hw hl) hw.2.2 (fun _ _ z => z) (fun _ z => z) (fun r1 u t H1 locs1 ht hvm hp hb hz hk hS => ?_)
  obtain ⟨rfl, hO, hE⟩ := hp
  have := kk hO hE H1 locs1 ls ⟨by rw [← ht]; exact hb.1, hb.2, hS⟩ hl
  rw [show zc h - c0 + (zc h1 - zc h) = zc h1 - c0 from by have := hE.2.1; omega, show zs h - s0 + (zs h1 - zs h) = zs h1 - s0 from by have := hE.2.2.1; omega]
  exact this
theorem z_cv {a : Array Value} {st0 : List Value} (hm : c0 ≤ zc h ∧ s0 ≤ zs h) (hrun : ∀ (H : Heap) (locs : List Loc) (ls : Array Slot), zWd D tA B s ad h H locs → lv_has ls nL lv → va_Run p l e R s m args below meth c H locs (zc h - c0) (zs h - s0) (zc h1 - zc h) (zs h1 - zs h) (F0 m pc ls st0) rest (zQv D tA B h ad h1 a) (fun q => B ≤ q))
    (kk : zOk h1 → zEx h h1 → ZW p l e R s m args below meth c Q D tA B nL c0 s0 ad (pc + 3) h1 lv rest) : ZW p l e R s m args below meth c Q D tA B nL c0 s0 ad pc h lv st0 := by
  intro H locs ls hw hl
  refine va_callv (hrun H locs ls hw hl) hw.2.2 (fun _ _ z => z) (fun _ z => z) (fun u t H1 locs1 ht hvm hp hb hz hk hS => ?_)
  obtain ⟨hO, hE⟩ := hp
  have := kk hO hE H1 locs1 ls ⟨by rw [← ht]; exact hb.1, hb.2, hS⟩ hl
  rw [show zc h - c0 + (zc h1 - zc h) = zc h1 - c0 from by have := hE.2.1; omega, show zs h - s0 + (zs h1 - zs h) = zs h1 - s0 from by have := hE.2.2.1; omega]
  exact this
/-- there is room for a callee: the method's own room is all that is left -/
theorem z_fit {h0 : Hp} (hE : zEx h0 h) (hO : zOk h) {F L : Nat} : (zc h - zc h0) + (zLC - zc h) ≤ (zRm F L h0).cells ∧ (zs h - zs h0) + (zLS - zs h) ≤ (zRm F L h0).slots := by
  have h1 := hE.2.1
  have h2 := hE.2.2.1
  have hc := hO.2.2.1
  have hs := hO.2.2.2
  show _ ≤ zLC - zc h0 ∧ _ ≤ zLS - zs h0
  constructor <;> omega
end ZCall
