/-! THE CONSTRUCTOR OF A THROWN OBJECT, over any frames 'base' (a bytecode frame, or a native's over one) -/
section ZBase
variable {e : Env} {below base : List Frame} {s₀ W : State}
theorem zb_facts (hgo : W.goesOn) (hcur : W.cur < W.threads.size) (hb : ∃ mid, base = mid ++ below) (a : Addr) (x : JFrame) {m : MethodId} {meth : Method} {code : Code} (hm : W.vm.method? m = some meth) (hc : meth.code = some code) (hplain : W.plainMethod m) :
    (W.setFrames (.thenThrow a :: base)).frames = .thenThrow a :: base ∧ At ((W.setFrames (.thenThrow a :: base)).pushFrame (.java x)) m code below ∧ ((W.setFrames (.thenThrow a :: base)).pushFrame (.java x)).frames = .java x :: .thenThrow a :: base := by
  have hfN : (W.setFrames (.thenThrow a :: base)).frames = .thenThrow a :: base := State.frames_setFrames _ hcur
  have hcurN : (W.setFrames (.thenThrow a :: base)).cur < (W.setFrames (.thenThrow a :: base)).threads.size := State.cur_lt_of_frames hfN
  have hgoN : (W.setFrames (.thenThrow a :: base)).goesOn := ⟨hgo.1, by simpa using hgo.2.1, by simpa using hgo.2.2⟩
  obtain ⟨mid, hmid⟩ := hb
  refine ⟨hfN, At.pushOn _ hgoN hcurN ⟨.thenThrow a :: mid, by rw [hfN, hmid]; rfl⟩ hm hc hplain, ?_⟩
  rw [show ((W.setFrames (.thenThrow a :: base)).pushFrame (.java x)).frames = .java x :: (W.setFrames (.thenThrow a :: base)).frames from State.frames_setFrames _ hcurN, hfN]
/-- the constructor returns: the object is thrown -/
theorem zb_ret {p : Program} {target : State} (hgo : W.goesOn) (hcur : W.cur < W.threads.size) (hb : ∃ mid, base = mid ++ below) (hexec : p.tables.exec = Jvm.exec) {H : State → State} (hH : HeapOnly H) (a str : Addr) {m : MethodId} {meth : Method} {code : Code}
    (hm : W.vm.method? m = some meth) (hc : meth.code = some code) (hplain : W.plainMethod m) (hl : meth.locks = false) (h5 : decode code.code 5 = .ok (.return_, 1)) (hrest : Steps p.tables e below ((H W).setFrames (.throwing a :: base)) target) :
    Steps p.tables e below ((H ((W.setFrames (.thenThrow a :: base)).pushFrame (.java (passJ m a (.ref str) 0 [])))).setTop (passJ m a (.ref str) 5 [])) target := by
  obtain ⟨hfN, hI, hfI⟩ := zb_facts hgo hcur hb a (passJ m a (.ref str) 0 []) hm hc hplain
  have hB : At (H ((W.setFrames (.thenThrow a :: base)).pushFrame (.java (passJ m a (.ref str) 0 [])))) m code below := hH.at_ hI
  have hHI : ∀ F, (H ((W.setFrames (.thenThrow a :: base)).pushFrame (.java (passJ m a (.ref str) 0 [])))).setFrames F = (H W).setFrames F := by
    intro F
    rw [State.pushFrame, hH.setFrames, hH.setFrames, State.setFrames_setFrames, State.setFrames_setFrames]
  jvm_step hB [hexec, h5, return_.wp_sem]
  intro acts2
  have hfH : (H ((W.setFrames (.thenThrow a :: base)).pushFrame (.java (passJ m a (.ref str) 0 [])))).frames = .java (passJ m a (.ref str) 0 []) :: .thenThrow a :: base := by rw [hH.frames]; exact hfI
  rw [ret_to (t := H ((W.setFrames (.thenThrow a :: base)).pushFrame (.java (passJ m a (.ref str) 0 [])))) (f := passJ m a (.ref str) 5 []) (f₀ := passJ m a (.ref str) 0 []) (below := .thenThrow a :: base)
      (fs := .thenThrow a :: base) (meth := meth) hfH (by rw [hH.vm]; exact hm) hl rfl rfl rfl acts2]
  have hcurB : (H ((W.setFrames (.thenThrow a :: base)).pushFrame (.java (passJ m a (.ref str) 0 [])))).cur < (H ((W.setFrames (.thenThrow a :: base)).pushFrame (.java (passJ m a (.ref str) 0 [])))).threads.size := State.cur_lt_of_frames hfH
  have hf1 := State.frames_setFrames (.thenThrow a :: base) hcurB
  obtain ⟨mid, hmid⟩ := hb
  refine Steps.head ⟨hB.running, by simpa using hB.runnable, by simpa using hB.alone⟩ ⟨.thenThrow a :: mid, by rw [hf1, hmid]; rfl, by simp, by simp⟩ ?_
  rw [stepThread_thenThrow hf1]
  show Steps p.tables e below (((H ((W.setFrames (.thenThrow a :: base)).pushFrame (.java (passJ m a (.ref str) 0 [])))).setFrames (.thenThrow a :: base)).setFrames (.throwing a :: base)) target
  rw [State.setFrames_setFrames, hHI]
  exact hrest
/-- the constructor's own frame, from its invocation to its end -/
theorem zb_ctor {p : Program} (hgo : W.goesOn) (hcur : W.cur < W.threads.size) (hb : ∃ mid, base = mid ++ below) (hexec : p.tables.exec = Jvm.exec) {H : State → State} (hH : HeapOnly H) (P1 : PassC) (L1 : P1.LinksS e.platform s₀) (hW : s₀.WarmedH W.vm) (a str : Addr)
    (hroom : e.platform.stackFull (((W.setFrames (.thenThrow a :: base)).threads[(W.setFrames (.thenThrow a :: base)).cur]?).getD { frames := [] }) (W.setFrames (.thenThrow a :: base)).frames 2 = false)
    (hsup : ∀ vm1, s₀.WarmedH vm1 → At (((W.setVm vm1).setFrames (.thenThrow a :: base)).pushFrame (.java (passJ P1.m a (.ref str) 0 []))) P1.m P1.code below → ∃ vm2, s₀.WarmedH vm2 ∧ ∀ t' : State,
      Steps p.tables e below ((H (((W.setVm vm2).setFrames (.thenThrow a :: base)).pushFrame (.java (passJ P1.m a (.ref str) 0 [])))).setTop (passJ P1.m a (.ref str) 5 [])) t' →
      Steps p.tables e below (doInvoke e ((((W.setVm vm1).setFrames (.thenThrow a :: base)).pushFrame (.java (passJ P1.m a (.ref str) 0 []))).setTop (passJ P1.m a (.ref str) 2 [])) [] P1.sup #[.ref a, .ref str]).1 t') :
    ∃ vm', s₀.WarmedH vm' ∧ ∀ target, Steps p.tables e below ((H (W.setVm vm')).setFrames (.throwing a :: base)) target → Steps p.tables e below (doInvoke e (W.setFrames (.thenThrow a :: base)) [] P1.m #[.ref a, .ref str]).1 target := by
  have hmW := hW.methodAt L1.method
  obtain ⟨hfN, hI, hfI⟩ := zb_facts hgo hcur hb a (passJ P1.m a (.ref str) 0 []) hmW L1.code (hW.plainAt L1.plain)
  obtain ⟨vm1, hW1, st1⟩ := Steps.invokeInitCold (tb := p.tables) (s₀ := s₀) (U := ((W.setFrames (.thenThrow a :: base)).pushFrame (.java (passJ P1.m a (.ref str) 0 [])))) (f := passJ P1.m a (.ref str) 2 [.ref str, .ref a]) (args := [.ref str]) (rest := []) (a := a) hI hexec L1.at2 hW L1.links L1.right L1.notHandle L1.cls L1.file L1.pool
    L1.supClass L1.supMethod L1.supName L1.supStatic L1.supAbstract L1.supFound L1.supParams.symm rfl
  obtain ⟨vm2, hW2, st2⟩ := hsup vm1 hW1 (hI.setVm (hW.alike.symm.trans hW1.alike))
  refine ⟨vm2, hW2, fun target hrest => ?_⟩
  rw [(doInvoke_java (s := (W.setFrames (.thenThrow a :: base))) (e := e) (acts := []) (args := #[.ref a, .ref str]) (meth := P1.meth) (code := P1.code) hmW L1.code L1.locks (by rw [L1.locals]; exact hroom)).1, L1.locals]
  show Steps p.tables e below ((W.setFrames (.thenThrow a :: base)).pushFrame (.java (passJ P1.m a (.ref str) 0 []))) target
  rw [← State.setTop_self (s := ((W.setFrames (.thenThrow a :: base)).pushFrame (.java (passJ P1.m a (.ref str) 0 [])))) (State.topJava?_of_frames hfI)]
  jvm_step hI [hexec, L1.at0, Value.isRef]
  jvm_step hI [hexec, L1.at1, Value.isRef]
  refine st1 target (st2 target ?_)
  exact zb_ret (W := W.setVm vm2) hgo hcur hb hexec hH a str (hW2.methodAt L1.method) L1.code (hW2.plainAt (U := W.setVm vm2) L1.plain) L1.locks L1.at5 hrest
end ZBase
/-! THE MACHINE THROWS, the frame is kept: from the note '.throwNew' to '.throwing' over the same frame (launch without stack traces) -/
section ZVm
variable {p : Program} {l : Launch} {e : Env} {R : Room} {s : State} {m : MethodId} {args : Array Value} {below : List Frame} {meth : Method} {c : Code} {T : State} {locs : List Loc} {cells slots : Nat}
theorem z_note {a : Addr} (X : Stand p l e R s m args below meth c T locs cells slots) (g : JFrame) : (T.setTop g).pushFrame (.throwing a) = T.setFrames (.throwing a :: .java g :: below) := by
  obtain ⟨g₁, hfr⟩ := X.frames_eq
  rw [State.pushFrame, State.frames_setTop _ hfr, State.setTop_of_frames _ hfr, State.setFrames_setFrames]
theorem z_vmB (X : Stand p l e R s m args below meth c T locs cells slots) (hexec : p.tables.exec = Jvm.exec) (htr : l.stackTraces = false) {B : Nat} (hE : zEw B s) (hold : ∀ q, q < B → T.heap[q]? = s.heap[q]?) {cls : String} {names : List String} (hsub : ∀ a ∈ Jvm.Bundle.messageArmAtoms cls names, a ∈ zE0)
    (hcls : Jvm.Bundle.fit cls = true) (hnames : ∀ n ∈ names, Jvm.Bundle.fit n = true) (hsoe : (cls == "java/lang/StackOverflowError") = false) (hoom : (cls == "java/lang/OutOfMemoryError") = false) {text : String} (htext : (text == notModelled) = false) {K : Nat} (hK : (stringBytes (stringToUtf16 text)).size ≤ K) (hK2 : K ≤ 4000)
    {base : List Frame} (hb : ∃ mid, base = mid ++ below) (hRf : base.length + names.length + 4 < (e.platform.stackLimits T.me).1) (hRl : (stackUse base).2 + 10240 ≤ (e.platform.stackLimits T.me).2) (hsh : names.length ≤ 100) (hRc : cells + 3 ≤ R.cells) (hRs : slots + (K + 10) ≤ R.slots) :
    ∃ (U : State) (L : List Loc) (n : Nat) (ce : Cell), n ≤ slots + (K + 10) ∧ Stand p l e R s m args below meth c U (locs ++ L) (cells + 3) n ∧ (∀ y ∈ L, y.base = T.heap.size + 2) ∧ T.heap.size ≤ U.heap.size ∧ (∀ q, q < T.heap.size → U.heap[q]? = T.heap[q]?) ∧ U.heap[T.heap.size + 2]? = some ce ∧ ce.vm = .none ∧ s.vm.findClass cls = some ce.cls ∧
      Steps p.tables e below (T.setFrames (.throwNew cls (some text) none :: base)) (U.setFrames (.throwing (T.heap.size + 2) :: base)) := by
  have howns : e.platform.frameOwnsMonitors = true := by rw [X.admits.platform]
  have hfin : e.platform.finalization = false := by rw [X.admits.platform]
  have hpl : e.platform.magicAccessors = ({} : Platform).magicAccessors := by rw [X.admits.platform]
  have htr' : e.platform.stackTraces = false := by rw [X.admits.platform]; exact htr
  have hal : e.platform.arrayLengthLimit = ({} : Platform).arrayLengthLimit := by rw [X.admits.platform]
  have hmb : e.platform.maxHeapBytes = ({} : Platform).maxHeapBytes := by rw [X.admits.platform]
  have h : ∀ a ∈ Jvm.Bundle.messageArmAtoms cls names, a.before args s = true := fun a ha => hE.1 a (hsub a ha) args
  have a : ∀ x, x ∈ Jvm.Bundle.messageArmAtoms cls names → x.holds args s none s [] = true := fun x hx => h x hx
  obtain ⟨Th, Z0, L, -, Y⟩ := Jvm.ThrowableC.of_atoms (args := args) howns hfin hpl (fun x hx => h x (by simp [Jvm.Bundle.messageArmAtoms, hx]))
  obtain ⟨Z, M, LZ, LM, hnZ⟩ := Jvm.Init0T.ofS_atoms (args := args) hpl L Y (fun x hx => h x (by simp [Jvm.Bundle.messageArmAtoms, hx]))
  obtain ⟨P1, Ps, hlen, L1, hL, hP1m, hlink1, hlink⟩ := Jvm.Bundle.chainS (args := args) hpl hnZ names cls hcls hnames (fun x hx => h x (by simp [Jvm.Bundle.messageArmAtoms, hx]))
  obtain ⟨Zs, LZs, hn4, hfitv, hfitc⟩ := Jvm.StringT.of_atoms (args := args) (fun x hx => h x (by simp [Jvm.Bundle.messageArmAtoms, hx]))
  have hfound : s.vm.findClass cls = some P1.m.cls := findClass_of_methodNamed hP1m
  obtain ⟨c1, kX, hc1, hk, hord, -, -, hn6⟩ := Cond.instantiable_spec (a (.instantiable cls 6) (by simp [Jvm.Bundle.messageArmAtoms]))
  cases Option.some.inj (hc1.symm.trans hfound)
  have hinit := Cond.initialized_spec hfound hk (a (.initialized cls) (by simp [Jvm.Bundle.messageArmAtoms]))
  have hctor : kX.findMethod "<init>" "(Ljava/lang/String;)V" = some P1.m.idx := findMethod_of_methodNamed hP1m hk
  have hsel0 : selectMethod e.platform s.vm P1.m.cls Th.fill0 = .method Th.fill0 := by
    obtain ⟨c2, r2, m2, q1, q2, q3, q4, -⟩ := Cond.selects_spec (a (.selects cls Jvm.Bundle.tFill0 Jvm.Bundle.tFill0) (by simp [Jvm.Bundle.messageArmAtoms]))
    cases Option.some.inj (q1.symm.trans hfound)
    cases Option.some.inj (q2.symm.trans (State.methodFound?_of_named Y.fill0 (by decide)))
    cases Option.some.inj (q3.symm.trans Y.fill0)
    rw [Launch.admits_selectMethod X.admits]; exact q4
  have hselF : selectMethod e.platform s.vm P1.m.cls Th.fill = .method Th.fill := by
    obtain ⟨c2, r2, m2, q1, q2, q3, q4, -⟩ := Cond.selects_spec (a (.selects cls Jvm.Bundle.tFill Jvm.Bundle.tFill) (by simp [Jvm.Bundle.messageArmAtoms]))
    cases Option.some.inj (q1.symm.trans hfound)
    cases Option.some.inj (q2.symm.trans (State.methodFound?_of_named Y.fill (by decide)))
    cases Option.some.inj (q3.symm.trans Y.fill)
    rw [Launch.admits_selectMethod X.admits]; exact q4
  obtain ⟨cellS, hcS0, hiss⟩ := Y.statics
  obtain ⟨u0, hu0⟩ := Cond.staticRefV Y.unassigned L.unassignedStatic L.statics hcS0 hiss (a (.isRef (.static Jvm.Bundle.tN "UNASSIGNED_STACK" Jvm.Bundle.steD)) (by simp [Jvm.Bundle.messageArmAtoms]))
  obtain ⟨sen, hsen⟩ := Cond.staticRefV Y.sentinel L.sentinelStatic L.statics hcS0 hiss (a (.isRef (.static Jvm.Bundle.tN "SUPPRESSED_SENTINEL" Jvm.Bundle.listD)) (by simp [Jvm.Bundle.messageArmAtoms]))
  obtain ⟨ci198, i198, fB, hk198, hg198, ha198, hsB, -, hnB, htB, hffB⟩ := Cond.ownField (t := .object "java/lang/Object") Y.found L.cls (by decide +kernel) (a (.fieldLink Jvm.Bundle.tN 198 Jvm.Bundle.tN "backtrace" "Ljava/lang/Object;") (by simp [Jvm.Bundle.messageArmAtoms])) (a (.lays Jvm.Bundle.tN Jvm.Bundle.tN "backtrace" "Ljava/lang/Object;") (by simp [Jvm.Bundle.messageArmAtoms])) e.platform hpl
  have hcellS : T.heap[Th.aS]? = some cellS := by rw [hold Th.aS (hE.2.2.2 _ _ _ Y.found L.cls L.statics)]; exact hcS0
  have hknownS : cellS.vm ≠ .unknown := by
    intro hu
    rw [show cellS.vm = .unknown from hu] at hiss
    cases hiss
  obtain ⟨iM, hffM⟩ := Y.msg
  obtain ⟨tyC, dC, hdC, hdnC⟩ := Cond.laysAt hfound hk Y.cause (a (.lays cls Jvm.Bundle.tN "cause" "Ljava/lang/Throwable;") (by simp [Jvm.Bundle.messageArmAtoms]))
  obtain ⟨tyS, dS, hdS, hdnS⟩ := Cond.laysAt hfound hk Y.stack (a (.lays cls Jvm.Bundle.tN "stackTrace" Jvm.Bundle.steD) (by simp [Jvm.Bundle.messageArmAtoms]))
  obtain ⟨tyP, dP, hdP, hdnP⟩ := Cond.laysAt hfound hk Y.supp (a (.lays cls Jvm.Bundle.tN "suppressedExceptions" Jvm.Bundle.listD) (by simp [Jvm.Bundle.messageArmAtoms]))
  obtain ⟨tyM, dM, hdM, hdnM⟩ := Cond.laysAt hfound hk hffM (a (.lays cls Jvm.Bundle.tN "detailMessage" "Ljava/lang/String;") (by simp [Jvm.Bundle.messageArmAtoms]))
  obtain ⟨tyB, dB, hdB, hdnB⟩ := Cond.laysAt hfound hk hffB (a (.lays cls Jvm.Bundle.tN "backtrace" "Ljava/lang/Object;") (by simp [Jvm.Bundle.messageArmAtoms]))
  have bC := Cond.laysApart hdB hdC hdnB hdnC (by rw [hnB, Y.causeName]; decide)
  have bS := Cond.laysApart hdB hdS hdnB hdnS (by rw [hnB, Y.stackName]; decide)
  have bP := Cond.laysApart hdB hdP hdnB hdnP (by rw [hnB, Y.suppName]; decide)
  have hskip : SkipFacts Th e.platform s (fun u => u) u0 ((preparedCellV Th.toThrowableT (freshCell P1.m.cls kX) (T.heap.size + 2) u0 sen).withEntry T.cur) :=
    ⟨{ ci198 := ci198, i198 := i198, fBack := fB }, ⟨hk198, hg198, ha198, hsB⟩, by
      have := fresh_default (c := P1.m.cls) tyB
      rw [htB] at this
      simpa [preparedCellV, Cell.setSlot, Cell.withEntry, Array.getElem?_setIfInBounds, bC, bS, bP, bC.symm, bS.symm, bP.symm, defaultValue] using this, fun _ _ => rfl⟩
  have hsl : T.slotsUsed + (stringBytes (stringToUtf16 text)).size + Zs.kS.instanceTypes.size + kX.instanceTypes.size ≤ e.platform.maxSlots := by
    have := X.slotsAbove hRs
    rw [hn4, hn6]; omega
  have hl1 : ¬ (stringBytes (stringToUtf16 text)).size > e.platform.arrayLengthLimit := by
    rw [hal]
    have : (4000 : Nat) ≤ ({} : Platform).arrayLengthLimit := by decide
    omega
  have hl2 : ¬ (stringBytes (stringToUtf16 text)).size * componentBytes .byte > e.platform.maxHeapBytes := by
    rw [hmb, show componentBytes .byte = 1 from rfl]
    have : (4000 : Nat) ≤ ({} : Platform).maxHeapBytes := by decide
    omega
  obtain ⟨gT, hgT⟩ := X.frames_eq
  have hcurT : T.cur < T.threads.size := State.cur_lt_of_frames hgT
  have hgoT : T.goesOn := ⟨X.here.running, X.here.runnable, X.here.alone⟩
  obtain ⟨w1, w2, w3, w4, w5, -, w7⟩ := withThrown_facts e.platform T Zs text P1.m.cls kX
  have hltS : Th.aS < T.heap.size := (Array.getElem?_eq_some_iff.mp hcellS).1
  have hgoW : (withThrown T Zs text P1.m.cls kX).goesOn := hgoT
  have hcurW : (withThrown T Zs text P1.m.cls kX).cur < (withThrown T Zs text P1.m.cls kX).threads.size := hcurT
  have hWW : s.WarmedH (withThrown T Zs text P1.m.cls kX).vm := by rw [w1]; exact X.warmed
  have hmem : ∀ (u : State), u.setFrames (.thenThrow (T.heap.size + 2) :: base) = u.setFrames (.thenThrow (T.heap.size + 2) :: base) := fun _ => rfl
  have hfN : ((withThrown T Zs text P1.m.cls kX).setFrames (.thenThrow (T.heap.size + 2) :: base)).frames = .thenThrow (T.heap.size + 2) :: base := State.frames_setFrames _ hcurW
  have hlimN : e.platform.stackLimits ((withThrown T Zs text P1.m.cls kX).setFrames (.thenThrow (T.heap.size + 2) :: base)).me = e.platform.stackLimits T.me := by rw [State.stackLimits_setFrames]; exact w7
  have hroom := roomAbove (pl := e.platform) (u := (withThrown T Zs text P1.m.cls kX).setFrames (.thenThrow (T.heap.size + 2) :: base)) (vars := 2) (pushed := [.thenThrow (T.heap.size + 2)]) (base := base) (free := 10240) (lim := e.platform.stackLimits T.me) hfN hlimN
    (by simp only [List.length_cons, List.length_nil]; omega) hRl (by rw [stackUse_light _ _ (fun f hf => by cases hf) rfl, stackUse_nil]; show 0 + 2 + 11 ≤ _; omega)
  obtain ⟨vm', hW', st⟩ := zb_ctor (p := p) (e := e) (W := withThrown T Zs text P1.m.cls kX) hgoW hcurW hb hexec (H := fun u => u.setCell (T.heap.size + 2) (((((preparedCellV Th.toThrowableT (freshCell P1.m.cls kX) (T.heap.size + 2) u0 sen).withEntry T.cur).setSlot Th.fStack.slot u0.v).left).setSlot Th.fMsg.slot (.ref (T.heap.size + 1)))) (heapOnly_id.thenSetCell _ _) P1 L1 hWW (T.heap.size + 2) (T.heap.size + 1) hroom (fun vm1 hW1 hI1 => by
    rw [hlink1]
    obtain ⟨-, -, hfI⟩ := zb_facts (W := (withThrown T Zs text P1.m.cls kX).setVm vm1) (base := base) (below := below) hgoW hcurW hb (T.heap.size + 2) (passJ P1.m (T.heap.size + 2) (.ref (T.heap.size + 1)) 0 []) (hW1.methodAt L1.method) L1.code (hW1.plainAt (U := (withThrown T Zs text P1.m.cls kX).setVm vm1) L1.plain)
    have hXvm : ∀ w, ((((withThrown T Zs text P1.m.cls kX).setVm vm1).setFrames (.thenThrow (T.heap.size + 2) :: base)).pushFrame (.java (passJ P1.m (T.heap.size + 2) (.ref (T.heap.size + 1)) 0 []))).setVm w = ((((withThrown T Zs text P1.m.cls kX).setVm w).setFrames (.thenThrow (T.heap.size + 2) :: base)).pushFrame (.java (passJ P1.m (T.heap.size + 2) (.ref (T.heap.size + 1)) 0 []))) := fun w => by rw [State.pushFrame_setVm, State.setFrames_setVm, State.setVm_twice]
    have hXlim : e.platform.stackLimits ((((withThrown T Zs text P1.m.cls kX).setVm vm1).setFrames (.thenThrow (T.heap.size + 2) :: base)).pushFrame (.java (passJ P1.m (T.heap.size + 2) (.ref (T.heap.size + 1)) 0 []))).me = e.platform.stackLimits T.me := by rw [State.stackLimits_pushFrame, State.stackLimits_setFrames]; exact w7
    obtain ⟨vm2, hW2, st2⟩ := Steps.initThrowableSColdByV p (V := (((withThrown T Zs text P1.m.cls kX).setVm vm1).setFrames (.thenThrow (T.heap.size + 2) :: base)).pushFrame (.java (passJ P1.m (T.heap.size + 2) (.ref (T.heap.size + 1)) 0 []))) (g := passJ P1.m (T.heap.size + 2) (.ref (T.heap.size + 1)) 2 []) (c := P1.code) (self := T.heap.size + 2) hI1 hexec Th L Z LZ M LM hW1 (t := T.cur) rfl
      (Nn := fun u => u) heapOnly_id (fun _ _ => rfl) (fun _ => rfl) (fun u x y => setCell_twice _ _ _ _) (fun _ => Nat.le_refl _) (msg := .ref (T.heap.size + 1)) rfl (cell := freshCell P1.m.cls kX) (cellS := cellS) (cN := ((preparedCellV Th.toThrowableT (freshCell P1.m.cls kX) (T.heap.size + 2) u0 sen).withEntry T.cur)) w4
      (by intro k hk'; cases hk') (by intro hk'; cases hk') rfl hsel0 ((w5 _ hltS).trans hcellS) (Nat.ne_of_lt (Nat.lt_of_lt_of_le hltS (Nat.le_add_right _ 2))) hknownS hu0 (Takes.of_laid hk hord tyS (by rw [Y.stackType]; exact fits_refV_array _ u0)) (fun _ hu => hu) (fun _ hu => hu) rfl rfl rfl (by simp [preparedCellV, Cell.setSlot, Cell.withEntry]) hskip
      (fun _ _ hA hW _ hroom _ hrest => L.nativeOff p htr' hA hW hroom hrest) hselF hsen (Takes.of_laid hk hord tyC (by rw [Y.causeType]; rfl)) (Takes.of_laid hk hord tyP (by rw [Y.suppType]; exact fits_refV_object _ sen)) (Takes.of_laid hk hord tyM (by rw [Y.msgType]; rfl)) Y.objLocals Ps hL hlink (ig := .invokespecial P1.index) (len := 3) [] hXlim
      (by rw [hfI]; simp only [List.length_cons]; rw [hlen]; omega)
      (by rw [hfI, List.tail_cons, stackUse_java, stackUse_light _ _ (fun f hf => by cases hf) rfl]
          show (stackUse base).2 + (2 + 11 + 2 * 0 + operandWords []) + 13 * Ps.length + 42 ≤ _
          simp only [operandWords, List.foldl_nil]
          rw [hlen]
          omega)
      L1.at2
    exact ⟨vm2, hW2, fun t' h' => st2 t' (by rw [hXvm]; exact h')⟩)
  have stA : ∀ target, Steps p.tables e below ((((withThrown T Zs text P1.m.cls kX).setVm vm').setCell (T.heap.size + 2) (((((preparedCellV Th.toThrowableT (freshCell P1.m.cls kX) (T.heap.size + 2) u0 sen).withEntry T.cur).setSlot Th.fStack.slot u0.v).left).setSlot Th.fMsg.slot (.ref (T.heap.size + 1)))).setFrames (.throwing (T.heap.size + 2) :: base)) target → Steps p.tables e below (T.setFrames (.throwNew cls (some text) none :: base)) target := by
    intro target hrest
    obtain ⟨kX', hk', he'⟩ := X.warmed.alike.2.2 _ _ hk
    have hty : kX'.instanceTypes = kX.instanceTypes := by rw [he']
    have hfresh : freshCell P1.m.cls kX' = (freshCell P1.m.cls kX) := by
      show ({ cls := P1.m.cls, slots := kX'.instanceTypes.map defaultValue, vm := .none } : Cell) = _
      rw [hty]
    obtain ⟨kS', kB', LZ', htyS⟩ := LZs.warmer X.warmed.alike
    have hsame : withThrown T { Zs with kS := kS', kB := kB' } text P1.m.cls kX' = (withThrown T Zs text P1.m.cls kX) := by
      rw [← withThrown_warmer T Zs (kB' := kB') htyS text P1.m.cls kX]
      show (withString T _ _ _ _ _ _).pushCell (freshCell P1.m.cls kX') = (withString T _ _ _ _ _ _).pushCell (freshCell P1.m.cls kX)
      rw [hfresh]
    have hfs : T.fitsSlot = s.fitsSlot := (show T.fitsSlot = (s.setVm T.vm).fitsSlot from rfl).trans (State.fitsSlot_setVm X.warmed.alike)
    have hf0 : (T.setFrames (.throwNew cls (some text) none :: base)).frames = .throwNew cls (some text) none :: base := State.frames_setFrames _ hcurT
    have hbytes : ((((T.setFrames (.throwNew cls (some text) none :: base)).threads[(T.setFrames (.throwNew cls (some text) none :: base)).cur]?).map (·.stackBytes)).getD 0) = T.me.stackBytes := by
      rw [← State.stackBytes_setFrames T (.throwNew cls (some text) none :: base)]
      exact State.stackBytes_me _
    have hlimit : (e.platform.stackLimits T.me).2 = (e.platform.limitsFor T.me.stackBytes).2 := rfl
    have huse : (stackUse (.throwNew cls (some text) none :: base)).2 = (stackUse base).2 := by rw [stackUse_light _ _ (fun f hf => by cases hf) rfl]
    obtain ⟨mid, hmid⟩ := hb
    refine Steps.head ⟨hgoT.1, by simpa using hgoT.2.1, by simpa using hgoT.2.2⟩ ⟨.throwNew cls (some text) none :: mid, by rw [hf0, hmid]; rfl, by simp, by simp⟩ ?_
    rw [stepThread_throwNew hf0, stepThrowNew_message (s := T.setFrames (.throwNew cls (some text) none :: base)) (c := P1.m.cls) (k := kX') (i := P1.m.idx) { Zs with kS := kS', kB := kB' } LZ' hsoe hoom (by show T.vm.findClass cls = _; rw [X.warmed.alike.findClass]; exact hfound) hk' (by rw [he']; exact hinit) (by rw [he']; exact hord)
      (Launch.admits_hotImplicitExceptions X.admits) (by rw [hbytes, hf0]; unfold Platform.stackBeyond; rw [huse]; exact decide_eq_false (by omega)) (by rw [hbytes, hf0, Launch.admits_vmThrowRoom X.admits]; unfold Platform.stackFree; rw [huse]; omega) htext (by rw [he']; exact hctor) hl1 hl2 (X.cellsAbove hRc) (by show T.slotsUsed + _ + kS'.instanceTypes.size + kX'.instanceTypes.size ≤ _; rw [htyS, hty]; exact hsl) (by have h9 := hfitv T.heap.size; rw [← hfs] at h9; exact h9) (by have h9 := hfitc (stringToUtf16 text); rw [← hfs] at h9; exact h9)]
    have hN : (withThrown (T.setFrames (.throwNew cls (some text) none :: base)) { Zs with kS := kS', kB := kB' } text P1.m.cls kX').setFrames (.thenThrow ((T.setFrames (.throwNew cls (some text) none :: base)).heap.size + 2) :: base) = (withThrown T Zs text P1.m.cls kX).setFrames (.thenThrow (T.heap.size + 2) :: base) := by
      rw [withThrown_setFrames, State.setFrames_setFrames, hsame]
      rfl
    rw [hN]
    exact st target hrest
  rw [plainBareV_eq Th.toThrowableT (T.heap.size + 2) u0 sen (.ref (T.heap.size + 1)) T.cur rfl rfl] at stA
  have X3 := ((X.pushed (bytesOf Zs.cB (stringToUtf16 text))).pushed (stringAt Zs.cS Zs.kS Zs.fv Zs.fc (stringToUtf16 text) T.heap.size)).pushed (freshCell P1.m.cls kX)
  rw [← withString_eq] at X3
  have X4 := X3.noted hW'
  have b1 : (bytesOf Zs.cB (stringToUtf16 text)).slots.size = (stringBytes (stringToUtf16 text)).size := by
    rw [(Cell.writeAll_facts _ _).2.2]; simp [bytes0]
  have b2 : (stringAt Zs.cS Zs.kS Zs.fv Zs.fc (stringToUtf16 text) T.heap.size).slots.size = 4 := by simp [string0, Cell.setSlot, hn4]
  have b3 : (freshCell P1.m.cls kX).slots.size = 6 := by simp [hn6]
  rw [b1, b2, b3] at X4
  have ha : (T.heap.size + 2) < ((withThrown T Zs text P1.m.cls kX).setVm vm').heap.size := by show _ < (withThrown T Zs text P1.m.cls kX).heap.size; rw [w3]; omega
  have hcell : ((withThrown T Zs text P1.m.cls kX).setVm vm').heap[(T.heap.size + 2)]? = some (freshCell P1.m.cls kX) := w4
  have X5 := ((((X4.stored hcell Th.fCause.slot (.ref (T.heap.size + 2))).storedAgain ha Th.fStack.slot u0.v).storedAgain ha Th.fSupp.slot sen.v).storedAgain ha Th.fStack.slot u0.v).storedAgain ha Th.fMsg.slot (.ref (T.heap.size + 1))
  simp only [List.append_assoc, List.cons_append, List.nil_append] at X5
  have hkept : ∀ q, q < T.heap.size → ((withThrown T Zs text P1.m.cls kX).setVm vm').heap[q]? = T.heap[q]? := w5
  have hw3 : ((withThrown T Zs text P1.m.cls kX).setVm vm').heap.size = T.heap.size + 3 := w3
  have st2 := stA _ (Steps.refl _)
  clear w1 w2 w3 w4 w5 w7 X3 X4 st stA hgoW hcurW hWW hfN hlimN hroom hmem
  generalize ((withThrown T Zs text P1.m.cls kX).setVm vm') = WT at X5 st2 ha hkept hw3
  refine ⟨_, _, _, _, by omega, X5, fun y hy => ?_, ?_, fun q hq => ?_, heapAt_setCell_self _ ha, rfl, hfound, ?_⟩
  · simp only [List.mem_cons, List.not_mem_nil, or_false] at hy
    rcases hy with rfl | rfl | rfl | rfl | rfl <;> rfl
  · show T.heap.size ≤ (WT.heap.setIfInBounds _ _).size
    rw [Array.size_setIfInBounds, hw3]; omega
  · rw [State.heap_setCell_other (show T.heap.size + 2 ≠ q by omega)]
    exact hkept q hq
  · exact st2
theorem z_vmM (X : Stand p l e R s m args below meth c T locs cells slots) (hexec : p.tables.exec = Jvm.exec) (htr : l.stackTraces = false) {B : Nat} (hE : zEw B s) (hold : ∀ q, q < B → T.heap[q]? = s.heap[q]?) {cls : String} {names : List String} (hsub : ∀ a ∈ Jvm.Bundle.messageArmAtoms cls names, a ∈ zE0)
    (hcls : Jvm.Bundle.fit cls = true) (hnames : ∀ n ∈ names, Jvm.Bundle.fit n = true) (hsoe : (cls == "java/lang/StackOverflowError") = false) (hoom : (cls == "java/lang/OutOfMemoryError") = false) {text : String} (htext : (text == notModelled) = false) {K : Nat} (hK : (stringBytes (stringToUtf16 text)).size ≤ K) (hK2 : K ≤ 4000)
    {g : JFrame} (hg : g.method = m) (hsize : g.locals.size = c.maxLocals) (hRf : names.length + 4 < R.frames) (hRl : 2 * g.monitorRoom + (g.stack.map fun v => v.category).sum + 10240 ≤ R.locals) (hsh : names.length ≤ 100) (hRc : cells + 3 ≤ R.cells) (hRs : slots + (K + 10) ≤ R.slots) :
    ∃ (U : State) (L : List Loc) (n : Nat) (ce : Cell), n ≤ slots + (K + 10) ∧ Stand p l e R s m args below meth c U (locs ++ L) (cells + 3) n ∧ (∀ y ∈ L, y.base = T.heap.size + 2) ∧ T.heap.size ≤ U.heap.size ∧ (∀ q, q < T.heap.size → U.heap[q]? = T.heap[q]?) ∧ U.heap[T.heap.size + 2]? = some ce ∧ ce.vm = .none ∧ s.vm.findClass cls = some ce.cls ∧
      Steps p.tables e below ((T.setTop g).pushFrame (.throwNew cls (some text) none)) ((U.setTop g).pushFrame (.throwing (T.heap.size + 2))) := by
  obtain ⟨g₁, hfr⟩ := X.frames_eq
  have h1 : (T.setTop g).pushFrame (.throwNew cls (some text) none) = T.setFrames (.throwNew cls (some text) none :: .java g :: below) := by
    rw [State.pushFrame, State.frames_setTop _ hfr, State.setTop_of_frames _ hfr, State.setFrames_setFrames]
  have hlen : T.frames.length = (Frame.java g :: below).length := by rw [hfr]; rfl
  have hfA := X.framesAbove hRf
  have hsA := X.stackAbove hsize hRl
  rw [X.tail] at hsA
  obtain ⟨U, L, n, ce, a1, a2, a3, a4, a5, a6, a7, a8, a9⟩ := z_vmB X hexec htr hE hold hsub hcls hnames hsoe hoom htext hK hK2 (base := .java g :: below) ⟨[.java g], rfl⟩ (by rw [← hlen]; omega) hsA hsh hRc hRs
  refine ⟨U, L, n, ce, a1, a2, a3, a4, a5, a6, a7, a8, ?_⟩
  rw [h1, z_note a2]
  exact a9
/-- the machine's NullPointerException -/
theorem z_vmN (X : Stand p l e R s m args below meth c T locs cells slots) (hexec : p.tables.exec = Jvm.exec) (htr : l.stackTraces = false) {B : Nat} (hE : zEw B s) (hold : ∀ q, q < B → T.heap[q]? = s.heap[q]?)
    {g : JFrame} (hg : g.method = m) (hsize : g.locals.size = c.maxLocals) (hRf : 7 < R.frames) (hRl : 2 * g.monitorRoom + (g.stack.map fun v => v.category).sum + 10240 ≤ R.locals) (hRc : cells + 1 ≤ R.cells) (hRs : slots + 8 ≤ R.slots) :
    ∃ (U : State) (L : List Loc) (ce : Cell), Stand p l e R s m args below meth c U (locs ++ L) (cells + 1) (slots + 8) ∧ (∀ y ∈ L, y.base = T.heap.size) ∧ T.heap.size ≤ U.heap.size ∧ (∀ q, q < T.heap.size → U.heap[q]? = T.heap[q]?) ∧ U.heap[T.heap.size]? = some ce ∧ ce.vm = .none ∧ s.vm.findClass "java/lang/NullPointerException" = some ce.cls ∧
      Steps p.tables e below ((T.setTop g).pushFrame (.throwNew "java/lang/NullPointerException" none none)) ((U.setTop g).pushFrame (.throwing T.heap.size)) := by
  have howns : e.platform.frameOwnsMonitors = true := by rw [X.admits.platform]
  have hfin : e.platform.finalization = false := by rw [X.admits.platform]
  have hpl : e.platform.magicAccessors = ({} : Platform).magicAccessors := by rw [X.admits.platform]
  have hpl2 : e.platform.arrayCloneIsPublic = true := by rw [X.admits.platform]
  have htr' : e.platform.stackTraces = false := by rw [X.admits.platform]; exact htr
  have h : ∀ a ∈ Jvm.Bundle.npeArmAtoms 8, a.before args s = true := fun a ha => hE.1 a (by unfold zE0; simp only [List.mem_append]; exact Or.inl (Or.inl (Or.inl ha))) args
  have a : ∀ x, x ∈ Jvm.Bundle.npeArmAtoms 8 → x.holds args s none s [] = true := fun x hx => h x hx
  obtain ⟨Th, Z, L, LZ, Y⟩ := Jvm.ThrowableC.of_atoms (args := args) howns hfin hpl (fun x hx => h x (by simp [Jvm.Bundle.npeArmAtoms, hx]))
  obtain ⟨N, LN, hcN, hnNF, hordN, hffS⟩ := Jvm.NpeC.of_atoms (args := args) hpl hpl2 L Y (fun x hx => h x (by simp [Jvm.Bundle.npeArmAtoms, hx]))
  obtain ⟨P1, L1, hP1m, hP1s⟩ := Jvm.PassC.of_atoms (args := args) (s := s) hpl (X := Jvm.Bundle.nN) (Y := Jvm.Bundle.rN) (by decide) (by decide) LibCode.NullPointerException.Init0.at_0 LibCode.NullPointerException.Init0.at_1 LibCode.NullPointerException.Init0.at_4 (fun x hx => h x (by simp [Jvm.Bundle.npeArmAtoms, hx]))
  obtain ⟨PR, LR, hPRm, hPRs⟩ := Jvm.PassC.of_atoms (args := args) (s := s) hpl (X := Jvm.Bundle.rN) (Y := Jvm.Bundle.eN) (by decide) (by decide) LibCode.RuntimeException.Init0.at_0 LibCode.RuntimeException.Init0.at_1 LibCode.RuntimeException.Init0.at_4 (fun x hx => h x (by simp [Jvm.Bundle.npeArmAtoms, hx]))
  obtain ⟨PE, LEx, hPEm, hPEs⟩ := Jvm.PassC.of_atoms (args := args) (s := s) hpl (X := Jvm.Bundle.eN) (Y := Jvm.Bundle.tN) (by decide) (by decide) LibCode.Exception.Init0.at_0 LibCode.Exception.Init0.at_1 LibCode.Exception.Init0.at_4 (fun x hx => h x (by simp [Jvm.Bundle.npeArmAtoms, hx]))
  have hfound : s.vm.findClass Jvm.Bundle.nN = some P1.m.cls := findClass_of_methodNamed hP1m
  have ecls : N.cN = P1.m.cls := Option.some.inj (hcN.symm.trans hfound)
  have hk : s.vm.classes[P1.m.cls]? = some N.kN := by rw [← ecls]; exact LN.cls
  have hinit := Cond.initialized_spec hfound hk (a (.initialized Jvm.Bundle.nN) (by simp [Jvm.Bundle.npeArmAtoms]))
  have hctor : N.kN.findMethod "<init>" "()V" = some P1.m.idx := findMethod_of_methodNamed hP1m hk
  obtain ⟨c1, k1, hc1, hk1, -, -, -, hn⟩ := Cond.instantiable_spec (a (.instantiable Jvm.Bundle.nN 8) (by simp [Jvm.Bundle.npeArmAtoms]))
  cases Option.some.inj (hc1.symm.trans hfound)
  cases Option.some.inj (hk1.symm.trans hk)
  have hlink1 : P1.sup = PR.m := Option.some.inj (hP1s.symm.trans hPRm)
  have hlinkR : PR.sup = PE.m := Option.some.inj (hPRs.symm.trans hPEm)
  have hlinkE : PE.sup = Z.m Th.toThrowableT := Option.some.inj (hPEs.symm.trans Y.init0)
  have hsel0 : selectMethod e.platform s.vm P1.m.cls Th.fill0 = .method Th.fill0 := by
    obtain ⟨c2, r2, m2, q1, q2, q3, q4, -⟩ := Cond.selects_spec (a (.selects Jvm.Bundle.nN Jvm.Bundle.tFill0 Jvm.Bundle.tFill0) (by simp [Jvm.Bundle.npeArmAtoms]))
    cases Option.some.inj (q1.symm.trans hfound)
    cases Option.some.inj (q2.symm.trans (State.methodFound?_of_named Y.fill0 (by decide)))
    cases Option.some.inj (q3.symm.trans Y.fill0)
    rw [Launch.admits_selectMethod X.admits]; exact q4
  have hselF : selectMethod e.platform s.vm P1.m.cls Th.fill = .method N.fill := by
    obtain ⟨c2, r2, m2, q1, q2, q3, q4, -⟩ := Cond.selects_spec (a (.selects Jvm.Bundle.nN Jvm.Bundle.tFill Jvm.Bundle.nFill) (by simp [Jvm.Bundle.npeArmAtoms]))
    cases Option.some.inj (q1.symm.trans hfound)
    cases Option.some.inj (q2.symm.trans (State.methodFound?_of_named Y.fill (by decide)))
    cases Option.some.inj (q3.symm.trans hnNF)
    rw [Launch.admits_selectMethod X.admits]; exact q4
  obtain ⟨cellS, hcS0, hiss⟩ := Y.statics
  obtain ⟨u0, hu0⟩ := Cond.staticRefV Y.unassigned L.unassignedStatic L.statics hcS0 hiss (a (.isRef (.static Jvm.Bundle.tN "UNASSIGNED_STACK" Jvm.Bundle.steD)) (by simp [Jvm.Bundle.npeArmAtoms]))
  obtain ⟨sen, hsen⟩ := Cond.staticRefV Y.sentinel L.sentinelStatic L.statics hcS0 hiss (a (.isRef (.static Jvm.Bundle.tN "SUPPRESSED_SENTINEL" Jvm.Bundle.listD)) (by simp [Jvm.Bundle.npeArmAtoms]))
  obtain ⟨ci198, i198, fB, hk198, hg198, ha198, hsB, -, hnB, htB, hffB⟩ := Cond.ownField (t := .object "java/lang/Object") Y.found L.cls (by decide +kernel) (a (.fieldLink Jvm.Bundle.tN 198 Jvm.Bundle.tN "backtrace" Jvm.Bundle.objD) (by simp [Jvm.Bundle.npeArmAtoms])) (a (.lays Jvm.Bundle.tN Jvm.Bundle.tN "backtrace" Jvm.Bundle.objD) (by simp [Jvm.Bundle.npeArmAtoms])) e.platform hpl
  have hcellS : T.heap[Th.aS]? = some cellS := by rw [hold Th.aS (hE.2.2.2 _ _ _ Y.found L.cls L.statics)]; exact hcS0
  have hknownS : cellS.vm ≠ .unknown := by
    intro hu
    rw [show cellS.vm = .unknown from hu] at hiss
    cases hiss
  obtain ⟨tyC, dC, hdC, hdnC⟩ := Cond.laysAt hfound hk Y.cause (a (.lays Jvm.Bundle.nN Jvm.Bundle.tN "cause" "Ljava/lang/Throwable;") (by simp [Jvm.Bundle.npeArmAtoms]))
  obtain ⟨tyS, dS, hdS, hdnS⟩ := Cond.laysAt hfound hk Y.stack (a (.lays Jvm.Bundle.nN Jvm.Bundle.tN "stackTrace" Jvm.Bundle.steD) (by simp [Jvm.Bundle.npeArmAtoms]))
  obtain ⟨tyP, dP, hdP, hdnP⟩ := Cond.laysAt hfound hk Y.supp (a (.lays Jvm.Bundle.nN Jvm.Bundle.tN "suppressedExceptions" Jvm.Bundle.listD) (by simp [Jvm.Bundle.npeArmAtoms]))
  obtain ⟨tyX, dX, hdX, hdnX⟩ := Cond.laysAt hfound hk hffS (a (.lays Jvm.Bundle.nN Jvm.Bundle.nN "extendedMessageState" "I") (by simp [Jvm.Bundle.npeArmAtoms, Jvm.Bundle.npeAtoms]))
  have hnX : N.fState.name = "extendedMessageState" := (State.fieldFound?_type hffS (t := .int) (by decide +kernel)).1
  obtain ⟨tyB, dB, hdB, hdnB⟩ := Cond.laysAt hfound hk hffB (a (.lays Jvm.Bundle.nN Jvm.Bundle.tN "backtrace" Jvm.Bundle.objD) (by simp [Jvm.Bundle.npeArmAtoms]))
  have bC := Cond.laysApart hdB hdC hdnB hdnC (by rw [hnB, Y.causeName]; decide)
  have bS := Cond.laysApart hdB hdS hdnB hdnS (by rw [hnB, Y.stackName]; decide)
  have bP := Cond.laysApart hdB hdP hdnB hdnP (by rw [hnB, Y.suppName]; decide)
  have bX := Cond.laysApart hdB hdX hdnB hdnX (by rw [hnB, hnX]; decide)
  have hskip : SkipFacts Th e.platform s (fun u => u) u0 ((npeCell N.toNpeT (preparedCellV Th.toThrowableT (freshCell P1.m.cls N.kN) T.heap.size u0 sen) T.cur).withEntry T.cur) :=
    ⟨{ ci198 := ci198, i198 := i198, fBack := fB }, ⟨hk198, hg198, ha198, hsB⟩, by
      have := fresh_default (c := P1.m.cls) tyB
      rw [htB] at this
      simpa [npeCell, preparedCellV, Cell.setSlot, Cell.withEntry, Array.getElem?_setIfInBounds, bC, bS, bP, bX, bC.symm, bS.symm, bP.symm, bX.symm, defaultValue] using this, fun _ _ => rfl⟩
  have hat : At T g.method c below := by rw [hg]; exact X.here
  obtain ⟨hbeyond, hfreeW⟩ := X.vmMayThrow hsize (.throwNew "java/lang/NullPointerException" none none) (fun f hf => by cases hf) rfl hRl
  have hfr' : T.frames.length + [PR, PE].length + 5 < (e.platform.stackLimits T.me).1 := by have := X.framesAbove hRf; simp only [List.length_cons, List.length_nil]; omega
  have hwd' : (stackUse (.java g :: T.frames.tail)).2 + 13 * [PR, PE].length + 68 ≤ (e.platform.stackLimits T.me).2 := by have := X.stackAbove hsize (K := 94) (by omega); simp only [List.length_cons, List.length_nil]; omega
  have hsl : T.slotsUsed + N.kN.instanceTypes.size ≤ e.platform.maxSlots := by rw [hn]; exact X.slotsAbove hRs
  obtain ⟨vm', hW', st⟩ := Steps.vmThrowsNpeColdByV p (s₀ := s) (S := T) (g := g) hat hexec Th L Z LZ N LN X.warmed (t := T.cur) rfl P1 L1 [PR, PE] (fun P hP => by
      simp only [List.mem_cons, List.not_mem_nil, or_false] at hP
      rcases hP with rfl | rfl
      · exact LR
      · exact LEx) hlink1 ⟨hlinkR, hlinkE, trivial⟩ hfound hk hinit hordN hctor
    (Launch.admits_hotImplicitExceptions X.admits) hbeyond hfreeW (X.cellsAbove hRc) hsl
    (Nn := fun u => u) heapOnly_id (fun _ _ => rfl) (fun _ => rfl) (fun u x y => setCell_twice _ _ _ _) (fun _ => Nat.le_refl _) (cN := ((npeCell N.toNpeT (preparedCellV Th.toThrowableT (freshCell P1.m.cls N.kN) T.heap.size u0 sen) T.cur).withEntry T.cur))
    hsel0 hcellS hknownS hu0 (by rw [fresh_default tyX, LN.stateInt]; rfl)
    (Cond.laysApart hdC hdX hdnC hdnX (by rw [Y.causeName, hnX]; decide)) (Cond.laysApart hdS hdX hdnS hdnX (by rw [Y.stackName, hnX]; decide)) (Cond.laysApart hdP hdX hdnP hdnX (by rw [Y.suppName, hnX]; decide))
    (Takes.of_laid hk hordN tyS (by rw [Y.stackType]; exact fits_refV_array _ u0)) (Takes.of_laid hk hordN tyX (by rw [LN.stateInt]; rfl)) (fun _ hu => hu) (fun _ hu => hu) rfl rfl rfl (by simp [npeCell, preparedCellV, Cell.setSlot, Cell.withEntry]) hskip
    (fun _ _ hA hW _ hroom _ hrest => L.nativeOff p htr' hA hW hroom hrest) hselF hsen (Takes.of_laid hk hordN tyC (by rw [Y.causeType]; rfl)) (Takes.of_laid hk hordN tyP (by rw [Y.suppType]; exact fits_refV_object _ sen)) Y.objLocals rfl hfr' hwd'
  rw [npeBareV_eq Th.toThrowableT N.toNpeT T.heap.size u0 sen T.cur rfl rfl] at st
  have X2 := (X.pushed (freshCell P1.m.cls N.kN)).noted hW'
  rw [show (freshCell P1.m.cls N.kN).slots.size = 8 by simp [hn]] at X2
  have hsz : ((T.pushCell (freshCell P1.m.cls N.kN)).setVm vm').heap.size = T.heap.size + 1 := State.heap_size_pushCell _ _
  have ha : T.heap.size < ((T.pushCell (freshCell P1.m.cls N.kN)).setVm vm').heap.size := by rw [hsz]; omega
  have hcell : ((T.pushCell (freshCell P1.m.cls N.kN)).setVm vm').heap[T.heap.size]? = some (freshCell P1.m.cls N.kN) := State.heap_pushCell_size T (freshCell P1.m.cls N.kN)
  have X3 := ((((X2.stored hcell Th.fCause.slot (.ref T.heap.size)).storedAgain ha Th.fStack.slot u0.v).storedAgain ha Th.fSupp.slot sen.v).storedAgain ha N.fState.slot (.int 1)).storedAgain ha Th.fStack.slot u0.v
  simp only [List.append_assoc, List.cons_append, List.nil_append] at X3
  have hkept : ∀ q, q < T.heap.size → ((T.pushCell (freshCell P1.m.cls N.kN)).setVm vm').heap[q]? = T.heap[q]? := fun q hq => by
    show (T.heap.push _)[q]? = _
    rw [Array.getElem?_push, if_neg (by omega)]
  have st2 := st _ (Steps.refl _)
  rw [X.tail] at st2
  clear X2 st
  generalize ((T.pushCell (freshCell P1.m.cls N.kN)).setVm vm') = WT at X3 st2 ha hkept hsz
  refine ⟨_, _, _, X3, fun y hy => ?_, ?_, fun q hq => ?_, heapAt_setCell_self _ ha, rfl, hfound, ?_⟩
  · simp only [List.mem_cons, List.not_mem_nil, or_false] at hy
    rcases hy with rfl | rfl | rfl | rfl | rfl <;> rfl
  · show T.heap.size ≤ (WT.heap.setIfInBounds _ _).size
    rw [Array.size_setIfInBounds, hsz]; omega
  · rw [State.heap_setCell_other (show T.heap.size ≠ q by omega)]
    exact hkept q hq
  · rw [z_note X3]
    exact st2
end ZVm
