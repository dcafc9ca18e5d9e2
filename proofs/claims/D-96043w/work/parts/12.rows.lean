/-! THE JUDGEMENT ZW: the machine at pc with the pure heap h, locals lv, stack st comes to Q -/
/-- words that do not ride in lw_all -/
def zNk (w : Cond) : Bool := match w with
  | .fieldLinkNest .. => true
  | .methodLinkNest .. => true
  | .castable .. => true
  | .declares .. => true
  | .interfaceMethod .. => true
  | .publicMethod .. => true
  | .unhidden .. => true
  | .arrayOver .. => true
  | _ => false
def zNW : List Cond := lw_tbl.filter zNk
theorem zNW_of {w : Cond} (h : w ∈ lw_tbl) (g : zNk w = true) : w ∈ zNW := List.mem_filter.mpr ⟨h, g⟩
theorem zNw_warmP {x : MethodName} {s U : State} (hW : s.WarmedH U.vm) (h : va_Nw (.publicMethod x) s) : va_Nw (.publicMethod x) U := va_tabs rfl (rfl : (s.setVm U.vm).vm = U.vm) (by rw [Cond.publicMethod_setVm hW.alike]; exact h)
theorem zNw_warmU {C n d : String} {s U : State} (hW : s.WarmedH U.vm) (h : va_Nw (.unhidden C n d) s) : va_Nw (.unhidden C n d) U := va_tabs rfl (rfl : (s.setVm U.vm).vm = U.vm) (by rw [Cond.unhidden_setVm hW.alike]; exact h)
theorem zNw_warmI {x : MethodName} (hx : x.cls ≠ "java/lang/invoke/MethodHandle" ∧ x.cls ≠ "java/lang/invoke/VarHandle") {s U : State} (hW : s.WarmedH U.vm) (hd : va_Nw (.declares x) s) (h : va_Nw (.interfaceMethod x.cls x.cls x.name x.desc) s) : va_Nw (.interfaceMethod x.cls x.cls x.name x.desc) U := by
  obtain ⟨r, meth, hn, -⟩ := Cond.declares_spec hd
  exact va_tabs rfl (rfl : (s.setVm U.vm).vm = U.vm) (by rw [Cond.interfaceMethod_setVm hW.alike (r := r) hn hx]; exact h)
theorem zNw_warm {w : Cond} (g : zNk w = true) (hi : ∀ a b n d, w ≠ .interfaceMethod a b n d) (ho : ∀ t, w ≠ .arrayOver t) {s U : State} (hW : s.WarmedH U.vm) (h : va_Nw w s) : va_Nw w U := by
  cases w <;> first | (cases g; done) | exact va_Nw.warmF hW h | exact va_Nw.warmM hW h | exact va_Nw.warmC hW h | exact va_Nw.warmD hW h | exact zNw_warmP hW h | exact zNw_warmU hW h | exact absurd rfl (hi _ _ _ _) | exact absurd rfl (ho _)
/-- EXCEPTIONS: the words of the four kinds that the machine itself throws here; pairs of classes that are not castable; modules; Throwable's statics are old -/
def zE0 : List Cond := Jvm.Bundle.npeArmAtoms 8 ++ Jvm.Bundle.messageArmAtoms "java/lang/ArrayIndexOutOfBoundsException" ["java/lang/IndexOutOfBoundsException", "java/lang/RuntimeException", "java/lang/Exception"] ++ Jvm.Bundle.messageArmAtoms "java/lang/ClassCastException" ["java/lang/RuntimeException", "java/lang/Exception"] ++ Jvm.Bundle.messageArmAtoms "java/lang/NegativeArraySizeException" ["java/lang/RuntimeException", "java/lang/Exception"]
def zNoC : List (String × String) := [("ThreeSnowballs$Thrower", "ThreeSnowballs$Row"),
  ("ThreeSnowballs$Strong", "ThreeSnowballs$Row"),
  ("ThreeSnowballs$InAir", "ThreeSnowballs$Row"),
  ("ThreeSnowballs$Weak", "ThreeSnowballs$Row"),
  ("ThreeSnowballs$Best", "ThreeSnowballs$Row"),
  ("ThreeSnowballs$League", "ThreeSnowballs$Row"),
  ("ThreeSnowballs$Told", "ThreeSnowballs$Row"),
  ("ThreeSnowballs$Last", "ThreeSnowballs$Row"),
  ("ThreeSnowballs$Thrower", "ThreeSnowballs$ByteRow"),
  ("ThreeSnowballs$Strong", "ThreeSnowballs$ByteRow"),
  ("ThreeSnowballs$InAir", "ThreeSnowballs$ByteRow"),
  ("ThreeSnowballs$Weak", "ThreeSnowballs$ByteRow"),
  ("ThreeSnowballs$Best", "ThreeSnowballs$ByteRow"),
  ("ThreeSnowballs$League", "ThreeSnowballs$ByteRow"),
  ("ThreeSnowballs$Told", "ThreeSnowballs$ByteRow"),
  ("ThreeSnowballs$Last", "ThreeSnowballs$ByteRow"),
  ("ThreeSnowballs$ByteRow", "ThreeSnowballs$Thrower"),
  ("ThreeSnowballs$ShortRow", "ThreeSnowballs$Thrower"),
  ("ThreeSnowballs$IntRow", "ThreeSnowballs$Thrower"),
  ("ThreeSnowballs$LongRow", "ThreeSnowballs$Thrower"),
  ("ThreeSnowballs$BooleanRow", "ThreeSnowballs$Thrower"),
  ("ThreeSnowballs$ShortRow", "ThreeSnowballs$ByteRow"),
  ("ThreeSnowballs$IntRow", "ThreeSnowballs$ByteRow"),
  ("ThreeSnowballs$LongRow", "ThreeSnowballs$ByteRow"),
  ("ThreeSnowballs$BooleanRow", "ThreeSnowballs$ByteRow"),
  ("ThreeSnowballs$ByteRow", "ThreeSnowballs$ShortRow"),
  ("ThreeSnowballs$IntRow", "ThreeSnowballs$ShortRow"),
  ("ThreeSnowballs$LongRow", "ThreeSnowballs$ShortRow"),
  ("ThreeSnowballs$BooleanRow", "ThreeSnowballs$ShortRow"),
  ("ThreeSnowballs$ByteRow", "ThreeSnowballs$IntRow"),
  ("ThreeSnowballs$ShortRow", "ThreeSnowballs$IntRow"),
  ("ThreeSnowballs$LongRow", "ThreeSnowballs$IntRow"),
  ("ThreeSnowballs$BooleanRow", "ThreeSnowballs$IntRow"),
  ("ThreeSnowballs$ByteRow", "ThreeSnowballs$LongRow"),
  ("ThreeSnowballs$ShortRow", "ThreeSnowballs$LongRow"),
  ("ThreeSnowballs$IntRow", "ThreeSnowballs$LongRow"),
  ("ThreeSnowballs$BooleanRow", "ThreeSnowballs$LongRow"),
  ("ThreeSnowballs$ByteRow", "ThreeSnowballs$BooleanRow"),
  ("ThreeSnowballs$ShortRow", "ThreeSnowballs$BooleanRow"),
  ("ThreeSnowballs$IntRow", "ThreeSnowballs$BooleanRow"),
  ("ThreeSnowballs$LongRow", "ThreeSnowballs$BooleanRow"),
  ("java/lang/ClassCastException", "java/lang/NullPointerException"),
  ("java/lang/NullPointerException", "java/lang/ClassCastException"),
  ("java/lang/ArrayIndexOutOfBoundsException", "java/lang/NullPointerException"),
  ("java/lang/ArrayIndexOutOfBoundsException", "java/lang/ClassCastException")]
def zEw (B : Nat) (U : State) : Prop := (∀ w ∈ zE0, ∀ a, w.before a U = true) ∧ (∀ x ∈ zNoC, ∀ a, (Cond.not (.castable x.1 x.2)).before a U = true) ∧ modulesRight_1 U = true ∧ ∀ (c : ClassId) (k : Class) (a : Addr), U.vm.findClass "java/lang/Throwable" = some c → U.vm.classes[c]? = some k → k.statics = some a → a < B
/-- what is known of the tables and of the old cells all through a run -/
def zKp (D : va_G) (tA : Nat → ClassId) (B : Nat) (kn : State → Prop) : Prop :=
  (∀ U U' : State, kn U → U.WarmedH U'.vm → (∀ q : Nat, q < B → U'.heap[q]? = U.heap[q]?) → kn U') ∧ (∀ U, kn U → va_K D zcl (ztys tA) U ∧ ∀ w ∈ zNW, va_Nw w U) ∧ (∀ (i ix : Nat) (tx : String) (txt : List Int32), ztxs[i]? = some (ix, tx, txt) → ∃ w, (∀ U, kn U → vk_R RX5 ix tx w U) ∧ zTk B kn txt w) ∧ ∀ U, kn U → zEw B U
def zWd (D : va_G) (tA : Nat → ClassId) (B : Nat) (s : State) (ad : Nat → Nat) (h : Hp) (H : Heap) (locs : List Loc) : Prop :=
  va_P D zcl (zwl tA h ad) H ∧ va_D (fun q => B ≤ q) (zwl tA h ad) ∧ va_S (fun q => B ≤ q) s.heap H locs
def ZW (p : Program) (l : Launch) (e : Env) (R : Room) (s : State) (m : MethodId) (args : Array Value) (below : List Frame) (meth : Method) (c : Code) (Q : State → Prop) (D : va_G) (tA : Nat → ClassId) (B nL c0 s0 : Nat) (ad : Nat → Nat) (pc : Nat) (h : Hp) (lv : List (Nat × Value)) (st : List Value) : Prop :=
  ∀ (H : Heap) (locs : List Loc) (ls : Array Slot), zWd D tA B s ad h H locs → lv_has ls nL lv → W p l e R s m args below meth c H locs (zc h - c0) (zs h - s0) Q (F0 m pc ls st)
/-- what stands all through a method's walk -/
def ZF (p : Program) (s : State) (m : MethodId) (args : Array Value) (meth : Method) (c : Code) (D : va_G) (tA : Nat → ClassId) (B nL : Nat) (kn : State → Prop) (own : String) (cc : ByteArray) (ret : Option FieldType) : Prop :=
  p.tables.exec = Jvm.exec ∧ c.code = cc ∧ c.maxLocals = nL ∧ s.vm.findClass own = some m.cls ∧ (∀ w ∈ lw_all, w.before args s = true) ∧ zKp D tA B kn ∧ kn s ∧ meth.sig.returnType = ret ∧ meth.locks = false ∧ B ≤ s.heap.size
section ZRows
variable {p : Program} {l : Launch} {e : Env} {R : Room} {s : State} {m : MethodId} {args : Array Value} {below : List Frame} {meth : Method} {c : Code} {Q : State → Prop}
variable {D : va_G} {tA : Nat → ClassId} {B nL c0 s0 : Nat} {ad : Nat → Nat} {kn : State → Prop} {own : String} {cc : ByteArray} {ret : Option FieldType}
variable {pc : Nat} {h : Hp} {lv : List (Nat × Value)} {st : List Value}
theorem ZF.x (F : ZF p s m args meth c D tA B nL kn own cc ret) : p.tables.exec = Jvm.exec := F.1
theorem ZF.b (F : ZF p s m args meth c D tA B nL kn own cc ret) : c.code = cc := F.2.1
theorem ZF.ow (F : ZF p s m args meth c D tA B nL kn own cc ret) : s.vm.findClass own = some m.cls := F.2.2.2.1
theorem ZF.ts (F : ZF p s m args meth c D tA B nL kn own cc ret) : ∀ w ∈ lw_all, w.before args s = true := F.2.2.2.2.1
theorem ZF.K (F : ZF p s m args meth c D tA B nL kn own cc ret) : va_K D zcl (ztys tA) s := (F.2.2.2.2.2.1.2.1 s F.2.2.2.2.2.2.1).1
theorem ZF.N (F : ZF p s m args meth c D tA B nL kn own cc ret) : ∀ w ∈ zNW, va_Nw w s := (F.2.2.2.2.2.1.2.1 s F.2.2.2.2.2.2.1).2
theorem ZF.text (F : ZF p s m args meth c D tA B nL kn own cc ret) {i ix : Nat} {tx : String} {txt : List Int32} (hi : ztxs[i]? = some (ix, tx, txt)) : ∃ w, vk_R RX5 ix tx w s ∧ zTk B kn txt w := by
  obtain ⟨w, h1, h2⟩ := F.2.2.2.2.2.1.2.2.1 i ix tx txt hi
  exact ⟨w, h1 s F.2.2.2.2.2.2.1, h2⟩
theorem ZF.E (F : ZF p s m args meth c D tA B nL kn own cc ret) : zEw B s := F.2.2.2.2.2.1.2.2.2 s F.2.2.2.2.2.2.1
theorem ZF.r (F : ZF p s m args meth c D tA B nL kn own cc ret) : meth.sig.returnType = ret := F.2.2.2.2.2.2.2.1
theorem ZF.lk (F : ZF p s m args meth c D tA B nL kn own cc ret) : meth.locks = false := F.2.2.2.2.2.2.2.2.1
theorem ZF.bs (F : ZF p s m args meth c D tA B nL kn own cc ret) : B ≤ s.heap.size := F.2.2.2.2.2.2.2.2.2
/-- a row of the kit that moves stack and pc alone -/
theorem z_s {pc' : Nat} {st' : List Value} (r : ∀ (H : Heap) (locs : List Loc) (ls : Array Slot) (cells slots : Nat), W p l e R s m args below meth c H locs cells slots Q (F0 m pc' ls st') → W p l e R s m args below meth c H locs cells slots Q (F0 m pc ls st)) (k : ZW p l e R s m args below meth c Q D tA B nL c0 s0 ad pc' h lv st') : ZW p l e R s m args below meth c Q D tA B nL c0 s0 ad pc h lv st :=
  fun H locs ls hw hl => r H locs ls _ _ (k H locs ls hw hl)
/-- a branch -/
theorem z_br {c1 c2 : Prop} {p1 p2 : Nat} {st1 st2 : List Value} (r : ∀ (H : Heap) (locs : List Loc) (ls : Array Slot) (cells slots : Nat), (c1 → W p l e R s m args below meth c H locs cells slots Q (F0 m p1 ls st1)) → (c2 → W p l e R s m args below meth c H locs cells slots Q (F0 m p2 ls st2)) → W p l e R s m args below meth c H locs cells slots Q (F0 m pc ls st)) (k1 : c1 → ZW p l e R s m args below meth c Q D tA B nL c0 s0 ad p1 h lv st1) (k2 : c2 → ZW p l e R s m args below meth c Q D tA B nL c0 s0 ad p2 h lv st2) : ZW p l e R s m args below meth c Q D tA B nL c0 s0 ad pc h lv st :=
  fun H locs ls hw hl => r H locs ls _ _ (fun x => k1 x H locs ls hw hl) (fun x => k2 x H locs ls hw hl)
/-- a local is read -/
theorem z_ld {pc' i : Nat} {v : Value} {st' : List Value} (j : Nat) (hj : lv[j]? = some (i, v)) (r : ∀ (H : Heap) (locs : List Loc) (ls : Array Slot) (cells slots : Nat), ls[i]? = some (.val v) → W p l e R s m args below meth c H locs cells slots Q (F0 m pc' ls st') → W p l e R s m args below meth c H locs cells slots Q (F0 m pc ls st)) (k : ZW p l e R s m args below meth c Q D tA B nL c0 s0 ad pc' h lv st') : ZW p l e R s m args below meth c Q D tA B nL c0 s0 ad pc h lv st :=
  fun H locs ls hw hl => r H locs ls _ _ (lv_at hl j hj) (k H locs ls hw hl)
/-- a local is written -/
theorem z_sv {pc' : Nat} {lv' : List (Nat × Value)} {st' : List Value} (r : ∀ (H : Heap) (locs : List Loc) (ls : Array Slot) (cells slots : Nat), lv_has ls nL lv → (∀ ls' : Array Slot, lv_has ls' nL lv' → W p l e R s m args below meth c H locs cells slots Q (F0 m pc' ls' st')) → W p l e R s m args below meth c H locs cells slots Q (F0 m pc ls st)) (k : ZW p l e R s m args below meth c Q D tA B nL c0 s0 ad pc' h lv' st') : ZW p l e R s m args below meth c Q D tA B nL c0 s0 ad pc h lv st :=
  fun H locs ls hw hl => r H locs ls _ _ hl (fun ls' hl' => k H locs ls' hw hl')
/-- fewer locals, in another order -/
theorem z_sub {lv' : List (Nat × Value)} (ks : List Nat) (hk : lv_pick lv ks = lv') (k : ZW p l e R s m args below meth c Q D tA B nL c0 s0 ad pc h lv' st) : ZW p l e R s m args below meth c Q D tA B nL c0 s0 ad pc h lv st :=
  fun H locs ls hw hl => k H locs ls hw (lv_sub hl ks hk)
/-! cells of the world -/
theorem zwl_at {q : Nat} (hq : q < zx h) : (zwl tA h ad)[q]? = some (ad q, zen tA h ad q) := by
  unfold zwl
  rw [List.getElem?_map, List.getElem?_range hq]
  rfl
theorem zwl_set {h h' : Hp} {q : Nat} {E : va_E} (hx : zx h' = zx h) (ho : ∀ q', q' < zx h → q' ≠ q → zen tA h' ad q' = zen tA h ad q') (he : zen tA h' ad q = E) : (zwl tA h ad).set q (ad q, E) = zwl tA h' ad := by
  apply List.ext_getElem?
  intro i
  by_cases hi : i < zx h
  · rw [zwl_at (h := h') (by rw [hx]; exact hi)]
    by_cases hiq : i = q
    · subst hiq
      rw [List.getElem?_set_self (by unfold zwl; simpa using hi), he]
    · rw [List.getElem?_set_ne (Ne.symm hiq), zwl_at hi, ho i hi hiq]
  · rw [List.getElem?_eq_none (by unfold zwl; simpa using hi), List.getElem?_eq_none (by unfold zwl; rw [List.length_map, List.length_range, hx]; omega)]
theorem zen_o {q t : Nat} (ht : zt h q = t) (hl : t < 100) : zen tA h ad q = .inr (t, zfs h ad q (zft t)) := by
  unfold zen
  rw [ht, if_pos hl]
theorem zen_a {q t : Nat} (ht : zt h q = t) (hl : 100 ≤ t) : zen tA h ad q = .inl (tA (t - 100), zn h q, zar h ad q t) := by
  unfold zen
  rw [ht, if_neg (by omega)]
theorem zfs_at {q k t : Nat} {ks : List Nat} (hk : ks[k]? = some t) : (zfs h ad q ks)[k]? = some (zfv h ad q k t) := by
  unfold zfs
  rw [List.getElem?_mapIdx, hk]
  rfl
theorem zfs_congr {h h' : Hp} {q : Nat} {ks : List Nat} (hh : ∀ k t, zfv h' ad q k t = zfv h ad q k t) : zfs h' ad q ks = zfs h ad q ks := by
  unfold zfs
  congr 1
  funext k t
  exact hh k t
theorem zfs_set {h h' : Hp} {q k t : Nat} {ks : List Nat} {v : Value} (hk : ks[k]? = some t) (ho : ∀ k' t', k' ≠ k → zfv h' ad q k' t' = zfv h ad q k' t') (he : zfv h' ad q k t = v) : (zfs h ad q ks).set k v = zfs h' ad q ks := by
  apply List.ext_getElem?
  intro i
  unfold zfs
  rw [List.getElem?_set, List.getElem?_mapIdx, List.getElem?_mapIdx]
  by_cases hik : k = i
  · subst hik
    have hlt : k < ks.length := (List.getElem?_eq_some_iff.mp hk).1
    rw [if_pos rfl, hk]
    simp [hlt, he]
  · rw [if_neg hik]
    cases hi : ks[i]? with
    | none => rfl
    | some t' =>
      show some (zfv h ad q i t') = some (zfv h' ad q i t')
      rw [ho i t' (Ne.symm hik)]
theorem zen_si {q k : Nat} {v : Int32} {q' : Nat} (hq : q' ≠ q) : zen tA (zsi h q k v) ad q' = zen tA h ad q' := by
  have e : ∀ b, zi (zsi h q k v) q' b = zi h q' b := fun b => by show zu2 h.1 q k v q' b = h.1 q' b; simp [zu2, hq]
  have e2 : zi (zsi h q k v) q' = zi h q' := funext e
  have e3 : ∀ k2 t, zfv (zsi h q k v) ad q' k2 t = zfv h ad q' k2 t := fun k2 t => by unfold zfv; rw [e2]; rfl
  unfold zen
  rw [zfs_congr e3]
  unfold zar
  rw [e2]
  rfl
theorem zen_sj {q k : Nat} {v : Int64} {q' : Nat} (hq : q' ≠ q) : zen tA (zsj h q k v) ad q' = zen tA h ad q' := by
  have e : ∀ b, zj (zsj h q k v) q' b = zj h q' b := fun b => by show zu2 h.2.1 q k v q' b = h.2.1 q' b; simp [zu2, hq]
  have e2 : zj (zsj h q k v) q' = zj h q' := funext e
  have e3 : ∀ k2 t, zfv (zsj h q k v) ad q' k2 t = zfv h ad q' k2 t := fun k2 t => by unfold zfv; rw [e2]; rfl
  unfold zen
  rw [zfs_congr e3]
  unfold zar
  rw [e2]
  rfl
theorem zen_sr {q k : Nat} {v : Option Nat} {q' : Nat} (hq : q' ≠ q) : zen tA (zsr h q k v) ad q' = zen tA h ad q' := by
  have e : ∀ b, zr (zsr h q k v) q' b = zr h q' b := fun b => by show zu2 h.2.2.1 q k v q' b = h.2.2.1 q' b; simp [zu2, hq]
  have e2 : zr (zsr h q k v) q' = zr h q' := funext e
  have e3 : ∀ k2 t, zfv (zsr h q k v) ad q' k2 t = zfv h ad q' k2 t := fun k2 t => by unfold zfv; rw [e2]; rfl
  unfold zen
  rw [zfs_congr e3]
  unfold zar
  rw [e2]
  rfl
end ZRows
