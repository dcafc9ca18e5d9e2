/-! METHODS THAT MAKE CELLS: the map of addresses grows -/
def zA (h : Hp) (ad u : Nat → Nat) : Prop := ∀ q, q < zx h → u q = ad q
theorem zA.rf {h : Hp} {ad : Nat → Nat} : zA h ad ad := fun _ _ => rfl
theorem zA.tr {h h1 : Hp} {ad u v : Nat → Nat} (a : zA h ad u) (e : zEx h h1) (b : zA h1 u v) : zA h ad v := fun q hq => (b q (Nat.lt_of_lt_of_le hq e.1)).trans (a q hq)
def zRi (D : va_G) (tA : Nat → ClassId) (B : Nat) (h : Hp) (ad : Nat → Nat) (r : Int32) (h' : Hp) := va_Qi (S := Nat → Nat) (fun r1 u => r1 = r ∧ zOk h' ∧ zEx h h' ∧ zA h ad u) (fun u t => zB D tA B h' u t) (fun q => B ≤ q)
def zRv (D : va_G) (tA : Nat → ClassId) (B : Nat) (h : Hp) (ad : Nat → Nat) (h' : Hp) := va_Qv (S := Nat → Nat) (fun u => zOk h' ∧ zEx h h' ∧ zA h ad u) (fun u t => zB D tA B h' u t) (fun q => B ≤ q)
def zRq (D : va_G) (tA : Nat → ClassId) (B : Nat) (h : Hp) (ad : Nat → Nat) (τ : Nat) (r : Option Nat) (h' : Hp) := va_Qq (S := Nat → Nat) (fun r1 u => r1 = r.map u ∧ zOk h' ∧ zEx h h' ∧ zA h ad u ∧ ∀ a, r = some a → zTy h' a τ) (fun u t => zB D tA B h' u t) (fun q => B ≤ q)
def zdef (t : Nat) : Value := if t = 0 then .int 0 else if t = 1 then .long 0 else .null
theorem zen_kept {tA : Nat → ClassId} {h : Hp} {ad : Nat → Nat} {t n w q q' : Nat} (hW : zWT h) (hq : q' < zx h) : zen tA (zne h t n w) (zu1 ad (zx h) q) q' = zen tA h ad q' := by
  have hne : q' ≠ zx h := Nat.ne_of_lt hq
  have e1 : zi (zne h t n w) q' = zi h q' := by show zu1 h.1 (zx h) _ q' = _; simp [zu1, hne]; rfl
  have e2 : zj (zne h t n w) q' = zj h q' := by show zu1 h.2.1 (zx h) _ q' = _; simp [zu1, hne]; rfl
  have e3 : zr (zne h t n w) q' = zr h q' := by show zu1 h.2.2.1 (zx h) _ q' = _; simp [zu1, hne]; rfl
  have e4 : zt (zne h t n w) q' = zt h q' := ((zEx.ne (h := h) (t := t) (n := n) (w := w)).2.2.2 q' hq).1
  have e5 : zn (zne h t n w) q' = zn h q' := ((zEx.ne (h := h) (t := t) (n := n) (w := w)).2.2.2 q' hq).2
  have e6 : ∀ k, (zr h q' k).map (zu1 ad (zx h) q) = (zr h q' k).map ad := fun k => by
    cases hr : zr h q' k with
    | none => rfl
    | some a =>
      have hl := (hW q' hq k a hr).1
      show some (zu1 ad (zx h) q a) = some (ad a)
      rw [show zu1 ad (zx h) q a = ad a by simp [zu1, Nat.ne_of_lt hl]]
  have e7 : ∀ k tt, zfv (zne h t n w) (zu1 ad (zx h) q) q' k tt = zfv h ad q' k tt := fun k tt => by
    unfold zfv va_re
    rw [e1, e2, e3, e6 k]
  unfold zen
  rw [e4, e5]
  have e8 : zfs (zne h t n w) (zu1 ad (zx h) q) q' (zft (zt h q')) = zfs h ad q' (zft (zt h q')) := by
    unfold zfs
    congr 1
    funext k tt
    exact e7 k tt
  have e9 : zar (zne h t n w) (zu1 ad (zx h) q) q' (zt h q') = zar h ad q' (zt h q') := by
    unfold zar
    rw [e1, e2, e3]
    congr 6
    funext k
    exact e6 k
  rw [e8, e9]
theorem zwl_ne {tA : Nat → ClassId} {h : Hp} {ad : Nat → Nat} {t n w q : Nat} (hW : zWT h) : zwl tA h ad ++ [(q, zen tA (zne h t n w) (zu1 ad (zx h) q) (zx h))] = zwl tA (zne h t n w) (zu1 ad (zx h) q) := by
  show _ = (List.range (zx h + 1)).map _
  rw [List.range_succ, List.map_append]
  congr 1
  · unfold zwl
    apply List.map_congr_left
    intro q' hq'
    have hl : q' < zx h := List.mem_range.mp hq'
    rw [zen_kept hW hl]
    simp [zu1, Nat.ne_of_lt hl]
  · show [_] = [_]
    simp [zu1]
theorem zen_new {tA : Nat → ClassId} {h : Hp} {u : Nat → Nat} {t n w : Nat} (ht : t < 100) : zen tA (zne h t n w) u (zx h) = .inr (t, (zft t).map zdef) := by
  have e0 : zt (zne h t n w) (zx h) = t := by show zu1 _ (zx h) t (zx h) = t; simp [zu1]
  rw [zen_o e0 ht]
  congr 2
  unfold zfs
  apply List.ext_getElem?
  intro i
  rw [List.getElem?_mapIdx, List.getElem?_map]
  cases (zft t)[i]? with
  | none => rfl
  | some tt =>
    show some (zfv _ _ _ _ _) = some (zdef tt)
    unfold zfv zdef
    rw [show zi (zne h t n w) (zx h) i = 0 by show zu1 h.1 (zx h) (fun _ => 0) (zx h) i = 0; simp [zu1], show zj (zne h t n w) (zx h) i = 0 by show zu1 h.2.1 (zx h) (fun _ => 0) (zx h) i = 0; simp [zu1], show zr (zne h t n w) (zx h) i = none by show zu1 h.2.2.1 (zx h) (fun _ => none) (zx h) i = none; simp [zu1]]
    rfl
theorem zA.new {h : Hp} {ad : Nat → Nat} {q : Nat} : zA h ad (zu1 ad (zx h) q) := fun q' hq' => by simp [zu1, Nat.ne_of_lt hq']
section ZDyn
variable {p : Program} {l : Launch} {e : Env} {R : Room} {s : State} {m : MethodId} {args : Array Value} {below : List Frame} {meth : Method} {c : Code} {Q : State → Prop}
variable {D : va_G} {tA : Nat → ClassId} {B nL c0 s0 : Nat} {ad : Nat → Nat} {kn : State → Prop} {own : String} {cc : ByteArray} {ret : Option FieldType}
variable {pc : Nat} {h h1 h0 : Hp} {lv : List (Nat × Value)} {st : List Value}
theorem z_new {ci N index : Nat} {C : String} {T : u_T} {ty : Nat → FieldType} (F : ZF p s m args meth c D tA B nL kn own cc ret) (hW : zWT h) (hm : c0 ≤ zc h ∧ s0 ≤ zs h) (hc : zcl[ci]? = some (C, T, N)) (hci : ci < 100) (hin : ∀ w ∈ u_ws C T N, w ∈ lw_all) (hty : ∀ k, k < N → parseFieldDescriptor (T k).2.2.1 = some (ty k)) (hfs : ∀ j, j < N → defaultValue (ty j) = vp_V ((zft ci).map zdef) j) (hcl : Cond.classLink own index C ∈ lw_all) (hinst : Cond.instantiable C N ∈ lw_all) (hini : Cond.initialized C ∈ lw_all)
    (hr : (zc h - c0) + 1 ≤ R.cells ∧ (zs h - s0) + N ≤ R.slots) (hd : decode cc pc = .ok (.new index, 3)) (kk : ∀ u, zA h ad u → ZW p l e R s m args below meth c Q D tA B nL c0 s0 u (pc + 3) (zne h ci 0 N) lv (.ref (u (zx h)) :: st)) : ZW p l e R s m args below meth c Q D tA B nL c0 s0 ad pc h lv st := by
  intro H locs ls hw hl
  refine va_new (ci := ci) F.x F.b F.ts hin ty hty F.ow (F.ts _ hcl) (F.ts _ hinst) (F.ts _ hini) F.K hw.1 hw.2.1 hw.2.2 (fun q hq => Nat.le_trans F.bs hq) hc hfs hr.1 hr.2 hd (fun q H1 a1 a2 a3 => ?_)
  have e1 := zen_new (tA := tA) (h := h) (u := zu1 ad (zx h) q) (n := 0) (w := N) hci
  rw [← e1, zwl_ne hW] at a1 a2
  have := kk _ (zA.new (q := q)) H1 locs ls ⟨a1, a2, a3⟩ hl
  rw [show zc (zne h ci 0 N) - c0 = zc h - c0 + 1 by show zc h + 1 - c0 = _; omega, show zs (zne h ci 0 N) - s0 = zs h - s0 + N by show zs h + N - s0 = _; omega, show zu1 ad (zx h) q (zx h) = q by simp [zu1]] at this
  exact this
/-- Object's constructor -/
theorem z_obj {idx a : Nat} (F : ZF p s m args meth c D tA B nL kn own cc ret) (hl : Cond.methodLink own idx Lib.objectInit ∈ lw_all) (hin : Cond.instanceMethod Lib.objectInit ∈ lw_all) (hco : Cond.code Lib.objectInit ⟨#[0xb1]⟩ 1 none ∈ lw_all) (hd : decode cc pc = .ok (.invokespecial idx, 3)) (hr : (st.map fun v => v.category).sum ≤ 16) (hR : 1 ≤ R.frames ∧ 28 ≤ R.locals) (kk : ZW p l e R s m args below meth c Q D tA B nL c0 s0 ad (pc + 3) h lv st) : ZW p l e R s m args below meth c Q D tA B nL c0 s0 ad pc h lv (.ref a :: st) :=
  fun H locs ls hw hls => W.objInit F.x F.b F.ow (F.ts _ hl) (F.ts _ hin) (F.ts _ hco) (g := F0 m pc ls (.ref a :: st)) rfl (hls.1.trans F.2.2.1.symm) rfl hd hR.1 (by show 2 * 0 + _ + 12 ≤ _; omega) (kk H locs ls hw hls)
/-! returns -/
theorem z_ireD {v : Int32} {ad0 : Nat → Nat} (F : ZF p s m args meth c D tA B nL kn own cc (some .int)) (hd : decode cc pc = .ok (.ireturn, 1)) (hO : zOk h) (hE : zEx h0 h) (hA : zA h0 ad0 ad) : ZW p l e R s m args below meth c (MQ below (zRi D tA B h0 ad0 v h) args s (zc h - c0) (zs h - s0) (fun q => B ≤ q)) D tA B nL c0 s0 ad pc h lv [.int v] :=
  fun H locs ls hw hl => W.iret F.x F.b F.r (fun t ht hW => ⟨⟨v, ad, rfl, ⟨rfl, hO, hE, hA⟩, hw.zb ht⟩, hw.2.2.F ht⟩) hw.2.2.2.2 hd F.lk
theorem z_vreD {ad0 : Nat → Nat} (F : ZF p s m args meth c D tA B nL kn own cc none) (hd : decode cc pc = .ok (.return_, 1)) (hO : zOk h) (hE : zEx h0 h) (hA : zA h0 ad0 ad) : ZW p l e R s m args below meth c (MQ below (zRv D tA B h0 ad0 h) args s (zc h - c0) (zs h - s0) (fun q => B ≤ q)) D tA B nL c0 s0 ad pc h lv [] :=
  fun H locs ls hw hl => W.vret F.x F.b F.r (fun t ht hW => ⟨⟨ad, rfl, ⟨hO, hE, hA⟩, hw.zb ht⟩, hw.2.2.F ht⟩) hw.2.2.2.2 hd F.lk
theorem z_areD {o : Option Nat} {τ : Nat} {ad0 : Nat → Nat} {n : String} (F : ZF p s m args meth c D tA B nL kn own cc (some (.object n))) (hd : decode cc pc = .ok (.areturn, 1)) (hO : zOk h) (hE : zEx h0 h) (hA : zA h0 ad0 ad) (ht : ∀ a, o = some a → zTy h a τ) : ZW p l e R s m args below meth c (MQ below (zRq D tA B h0 ad0 τ o h) args s (zc h - c0) (zs h - s0) (fun q => B ≤ q)) D tA B nL c0 s0 ad pc h lv [va_re ad o] :=
  fun H locs ls hw hl => W.aret F.x F.b F.r (Or.inl ⟨_, rfl⟩) (by cases o; exact Or.inl rfl; exact Or.inr ⟨_, rfl⟩) (fun t hh hW => ⟨⟨o.map ad, ad, rfl, ⟨rfl, hO, hE, hA, ht⟩, hw.zb hh⟩, hw.2.2.F hh⟩) hw.2.2.2.2 hd F.lk
/-! behind a call -/
variable {rest : List Value}
theorem z_di {r : Int32} {a : Array Value} {st0 : List Value} (hm : c0 ≤ zc h ∧ s0 ≤ zs h) (hrun : ∀ (H : Heap) (locs : List Loc) (ls : Array Slot), zWd D tA B s ad h H locs → lv_has ls nL lv → va_Run p l e R s m args below meth c H locs (zc h - c0) (zs h - s0) (zc h1 - zc h) (zs h1 - zs h) (F0 m pc ls st0) rest (zRi D tA B h ad r h1 a) (fun q => B ≤ q))
    (kk : zOk h1 → zEx h h1 → ∀ u, zA h ad u → ZW p l e R s m args below meth c Q D tA B nL c0 s0 u (pc + 3) h1 lv (.int r :: rest)) : ZW p l e R s m args below meth c Q D tA B nL c0 s0 ad pc h lv st0 := by
  intro H locs ls hw hl
  refine va_calli (hrun H locs ls hw hl) hw.2.2 (fun _ _ z => z) (fun _ z => z) (fun r1 u t H1 locs1 ht hvm hp hb hz hk hS => ?_)
  obtain ⟨rfl, hO, hE, hA⟩ := hp
  have := kk hO hE u hA H1 locs1 ls ⟨by rw [← ht]; exact hb.1, hb.2, hS⟩ hl
  rw [show zc h - c0 + (zc h1 - zc h) = zc h1 - c0 from by have := hE.2.1; omega, show zs h - s0 + (zs h1 - zs h) = zs h1 - s0 from by have := hE.2.2.1; omega]
  exact this
theorem z_dv {a : Array Value} {st0 : List Value} (hm : c0 ≤ zc h ∧ s0 ≤ zs h) (hrun : ∀ (H : Heap) (locs : List Loc) (ls : Array Slot), zWd D tA B s ad h H locs → lv_has ls nL lv → va_Run p l e R s m args below meth c H locs (zc h - c0) (zs h - s0) (zc h1 - zc h) (zs h1 - zs h) (F0 m pc ls st0) rest (zRv D tA B h ad h1 a) (fun q => B ≤ q))
    (kk : zOk h1 → zEx h h1 → ∀ u, zA h ad u → ZW p l e R s m args below meth c Q D tA B nL c0 s0 u (pc + 3) h1 lv rest) : ZW p l e R s m args below meth c Q D tA B nL c0 s0 ad pc h lv st0 := by
  intro H locs ls hw hl
  refine va_callv (hrun H locs ls hw hl) hw.2.2 (fun _ _ z => z) (fun _ z => z) (fun u t H1 locs1 ht hvm hp hb hz hk hS => ?_)
  obtain ⟨hO, hE, hA⟩ := hp
  have := kk hO hE u hA H1 locs1 ls ⟨by rw [← ht]; exact hb.1, hb.2, hS⟩ hl
  rw [show zc h - c0 + (zc h1 - zc h) = zc h1 - c0 from by have := hE.2.1; omega, show zs h - s0 + (zs h1 - zs h) = zs h1 - s0 from by have := hE.2.2.1; omega]
  exact this
theorem z_dq {r : Option Nat} {τ : Nat} {a : Array Value} {st0 : List Value} (hm : c0 ≤ zc h ∧ s0 ≤ zs h) (hrun : ∀ (H : Heap) (locs : List Loc) (ls : Array Slot), zWd D tA B s ad h H locs → lv_has ls nL lv → va_Run p l e R s m args below meth c H locs (zc h - c0) (zs h - s0) (zc h1 - zc h) (zs h1 - zs h) (F0 m pc ls st0) rest (zRq D tA B h ad τ r h1 a) (fun q => B ≤ q))
    (kk : zOk h1 → zEx h h1 → zTo h1 r τ → ∀ u, zA h ad u → ZW p l e R s m args below meth c Q D tA B nL c0 s0 u (pc + 3) h1 lv (va_re u r :: rest)) : ZW p l e R s m args below meth c Q D tA B nL c0 s0 ad pc h lv st0 := by
  intro H locs ls hw hl
  refine va_callq (hrun H locs ls hw hl) hw.2.2 (fun _ _ z => z) (fun _ z => z) (fun r1 u t H1 locs1 ht hvm hp hb hz hk hS => ?_)
  obtain ⟨rfl, hO, hE, hA, hT⟩ := hp
  have := kk hO hE hT u hA H1 locs1 ls ⟨by rw [← ht]; exact hb.1, hb.2, hS⟩ hl
  rw [show zc h - c0 + (zc h1 - zc h) = zc h1 - c0 from by have := hE.2.1; omega, show zs h - s0 + (zs h1 - zs h) = zs h1 - s0 from by have := hE.2.2.1; omega]
  exact this
/-! constructors -/
variable {y : MethodName} {bytes : ByteArray} {maxL n index FF LL : Nat} {Qc : Array Value → State → Outcome → State → Prop} {As : List Value}
theorem z_runI {b : Nat} (F : ZF p s m args meth c D tA B nL kn own cc ret) (hM : zM l D tA B kn y (ws_ y bytes maxL none) FF LL h ad (.ref b :: As) h1 Qc) (cw : zCw R s args y bytes maxL FF LL n none) (hl : Cond.methodLink own index y ∈ lw_all ∨ ∃ host, Cond.methodLinkNest own index y host ∈ zNW) (hy1 : y.name = "<init>") (hin : Cond.instanceMethod y ∈ lw_all) (hn : As.length = n) (hr : (rest.map fun v => v.category).sum ≤ 16) (hd : decode cc pc = .ok (.invokespecial index, 3)) {H : Heap} {locs : List Loc} {ls : Array Slot} (hw : zWd D tA B s ad h H locs) (hls : lv_has ls nL lv) (hf : (zc h - c0) + (zLC - zc h) ≤ R.cells ∧ (zs h - s0) + (zLS - zs h) ≤ R.slots) :
    va_Run p l e R s m args below meth c H locs (zc h - c0) (zs h - s0) (zc h1 - zc h) (zs h1 - zs h) (F0 m pc ls (As.reverse ++ .ref b :: rest)) rest (Qc (Value.ref b :: As).toArray) (fun q => B ≤ q) := by
  intro T hT X
  have hB := cw.back (p := p) (e := e) (below := below) F.2.2.2.2.2.1 hM
  rcases hl with hl | ⟨host, hl⟩
  · obtain ⟨v, vm₁, ⟨U', l2, c2, s2⟩, hW₁, X', ⟨g', mk, t, L, e1, e2, hq, h1, hL, h2, h3⟩, st⟩ := callI X F.x (bytes := bytes) (maxL := maxL) F.ow hy1 (F.ts _ hl) (F.ts _ hin) cw.2.2.2.1 cw.2.2.2.2.2.1 hB (g := F0 m pc ls (As.reverse ++ .ref b :: rest)) rfl (hls.1.trans F.2.2.1.symm) (a := b) (argsL := As) (rest := rest) (fun sig h => hn.trans (cw.2.2.2.2.2.2 sig h)) rfl (z_rm hr) (by rw [F.b]; exact hd) (fun vm₁ hW₁ => ⟨hf.1, hf.2, z_pre F hw hT hW₁⟩)
    dsimp only [Pt.U, Pt.locs, Pt.cells, Pt.slots] at X' e1 e2 h1 h2 h3 st
    subst h1; subst h2; subst h3
    exact ⟨v, (T.setVm vm₁).calling g' mk (Value.ref b :: As).toArray, t, U', L, hT, X', hL, e1, e2, hq, st⟩
  · obtain ⟨v, vm₁, ⟨U', l2, c2, s2⟩, hW₁, X', ⟨g', mk, t, L, e1, e2, hq, h1, hL, h2, h3⟩, st⟩ := va_callIN X F.x (bytes := bytes) (maxL := maxL) F.ow hy1 (va_Nw.use rfl (F.N _ hl)) (F.ts _ hin) cw.2.2.2.1 cw.2.2.2.2.2.1 hB (g := F0 m pc ls (As.reverse ++ .ref b :: rest)) rfl (hls.1.trans F.2.2.1.symm) (a := b) (argsL := As) (rest := rest) (fun sig h => hn.trans (cw.2.2.2.2.2.2 sig h)) rfl (z_rm hr) (by rw [F.b]; exact hd) (fun vm₁ hW₁ => ⟨hf.1, hf.2, z_pre F hw hT hW₁⟩)
    dsimp only [Pt.U, Pt.locs, Pt.cells, Pt.slots] at X' e1 e2 h1 h2 h3 st
    subst h1; subst h2; subst h3
    exact ⟨v, (T.setVm vm₁).calling g' mk (Value.ref b :: As).toArray, t, U', L, hT, X', hL, e1, e2, hq, st⟩
end ZDyn
