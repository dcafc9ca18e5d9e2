/-! ROWS THAT READ AND WRITE THE PURE HEAP -/
section ZHeap
variable {p : Program} {l : Launch} {e : Env} {R : Room} {s : State} {m : MethodId} {args : Array Value} {below : List Frame} {meth : Method} {c : Code} {Q : State → Prop}
variable {D : va_G} {tA : Nat → ClassId} {B nL c0 s0 : Nat} {ad : Nat → Nat} {kn : State → Prop} {own : String} {cc : ByteArray} {ret : Option FieldType}
variable {pc : Nat} {h : Hp} {lv : List (Nat × Value)} {st : List Value}
/-- getfield: the cell's class is number ci, its field k; hg: the kit's row, over one list of cells -/
theorem z_get {q ci k t : Nat} {C : String} {T : u_T} {N : Nat} {ref : String} {index : Nat} (F : ZF p s m args meth c D tA B nL kn own cc ret) (hc : zcl[ci]? = some (C, T, N)) (hin : ∀ w ∈ u_ws C T N, w ∈ lw_all) (hk : k < N) (hft : (zft ci)[k]? = some t) (hci : ci < 100)
    (hlink : (Cond.fieldLink own index ref (T k).2.1 (T k).2.2.1).before args s = true ∨ ∃ host, (Cond.fieldLinkNest own index ref (T k).2.1 (T k).2.2.1 host).before args s = true) (hr : (T k).1 = ref) (hd : decode cc pc = .ok (.getfield index, 3)) (hq : q < zx h) (ht : zt h q = ci)
    (kk : ZW p l e R s m args below meth c Q D tA B nL c0 s0 ad (pc + 3) h lv (zfv h ad q k t :: st)) : ZW p l e R s m args below meth c Q D tA B nL c0 s0 ad pc h lv (.ref (ad q) :: st) := by
  intro H locs ls hw hl
  have he : (zwl tA h ad)[q]? = some (ad q, .inr (ci, zfs h ad q (zft ci))) := by rw [zwl_at hq, zen_o ht hci]
  subst hr
  rcases hlink with hlink | ⟨host, hlink⟩
  · exact va_get F.x F.b F.ts hin F.ow F.K hw.1 q he hc k hk hlink (fun _ h => h) (zfs_at hft) hd (kk H locs ls hw hl)
  · exact va_getN F.x F.b F.ts hin F.ow F.K hw.1 q he hc k hk hlink (fun _ h => h) (zfs_at hft) hd (kk H locs ls hw hl)
/-- the world behind a store into one cell -/
theorem zWd_set {h h' : Hp} {q : Nat} {E : va_E} {H1 : Heap} {locs1 : List Loc} (hx : zx h' = zx h) (ho : ∀ q', q' < zx h → q' ≠ q → zen tA h' ad q' = zen tA h ad q') (he : zen tA h' ad q = E) (a1 : va_P D zcl ((zwl tA h ad).set q (ad q, E)) H1) (a2 : va_D (fun q => B ≤ q) ((zwl tA h ad).set q (ad q, E))) (a3 : va_S (fun q => B ≤ q) s.heap H1 locs1) : zWd D tA B s ad h' H1 locs1 := by
  rw [zwl_set hx ho he] at a1 a2
  exact ⟨a1, a2, a3⟩
/-- putfield, not final -/
theorem z_put {q ci k t : Nat} {C : String} {T : u_T} {N : Nat} {ref : String} {index : Nat} {ty0 : Nat → FieldType} {ty : FieldType} {v : Value} {h' : Hp} (F : ZF p s m args meth c D tA B nL kn own cc ret) (hc : zcl[ci]? = some (C, T, N)) (hin : ∀ w ∈ u_ws C T N, w ∈ lw_all) (hty : ∀ k, k < N → parseFieldDescriptor (T k).2.2.1 = some (ty0 k)) (hnm : ∀ a, a < N → ∀ b, b < N → a ≠ b → (T a).2.1 ≠ (T b).2.1) (hk : k < N) (hft : (zft ci)[k]? = some t) (hci : ci < 100)
    (hlink : (Cond.fieldLink own index ref (T k).2.1 (T k).2.2.1).before args s = true ∨ ∃ host, (Cond.fieldLinkNest own index ref (T k).2.1 (T k).2.2.1 host).before args s = true) (hr : (T k).1 = ref) (hfin : (T k).2.2.2 = false) (hpd : parseFieldDescriptor (T k).2.2.1 = some ty) (hn : narrow ty v = v) (hfit : fits ty v = true) (hd : decode cc pc = .ok (.putfield index, 3))
    (hx : zx h' = zx h) (hcc : zc h' = zc h) (hss : zs h' = zs h) (htt : zt h' q = zt h q) (ho : ∀ q', q' < zx h → q' ≠ q → zen tA h' ad q' = zen tA h ad q') (ho2 : ∀ k' t', k' ≠ k → zfv h' ad q k' t' = zfv h ad q k' t') (hev : zfv h' ad q k t = v) (hq : q < zx h) (ht : zt h q = ci)
    (kk : ZW p l e R s m args below meth c Q D tA B nL c0 s0 ad (pc + 3) h' lv st) : ZW p l e R s m args below meth c Q D tA B nL c0 s0 ad pc h lv (v :: .ref (ad q) :: st) := by
  intro H locs ls hw hl
  have he : (zwl tA h ad)[q]? = some (ad q, .inr (ci, zfs h ad q (zft ci))) := by rw [zwl_at hq, zen_o ht hci]
  have hlen : k < (zfs h ad q (zft ci)).length := (List.getElem?_eq_some_iff.mp (zfs_at hft)).1
  have hE : zen tA h' ad q = .inr (ci, (zfs h ad q (zft ci)).set k v) := by rw [zen_o (htt.trans ht) hci, zfs_set hft ho2 hev]
  have go : ∀ (H1 : Heap) (locs1 : List Loc), va_P D zcl ((zwl tA h ad).set q (ad q, .inr (ci, (zfs h ad q (zft ci)).set k v))) H1 → va_D (fun q => B ≤ q) ((zwl tA h ad).set q (ad q, .inr (ci, (zfs h ad q (zft ci)).set k v))) → va_S (fun q => B ≤ q) s.heap H1 locs1 → W p l e R s m args below meth c H1 locs1 (zc h - c0) (zs h - s0) Q (F0 m (pc + 3) ls st) := by
    intro H1 locs1 a1 a2 a3
    have := kk H1 locs1 ls (zWd_set hx ho hE a1 a2 a3) hl
    rw [hcc, hss] at this
    exact this
  subst hr
  rcases hlink with hlink | ⟨host, hlink⟩
  · exact va_put F.x F.b F.ts hin ty0 hty hnm F.ow F.K hw.1 hw.2.1 hw.2.2 q he hc k hk hlink (fun _ h => h) hfin hpd hn hfit hlen hd go
  · exact va_putN F.x F.b F.ts hin ty0 hty hnm F.ow F.K hw.1 hw.2.1 hw.2.2 q he hc k hk hlink (fun _ h => h) hfin hpd hn hfit hlen hd go
/-- putfield of a final field, in the constructor -/
theorem z_putF {q ci k t : Nat} {C : String} {T : u_T} {N : Nat} {index : Nat} {ty0 : Nat → FieldType} {ty : FieldType} {v : Value} {h' : Hp} (F : ZF p s m args meth c D tA B nL kn own cc ret) (hin2 : meth.name = "<init>") (hc : zcl[ci]? = some (C, T, N)) (hin : ∀ w ∈ u_ws C T N, w ∈ lw_all) (hty : ∀ k, k < N → parseFieldDescriptor (T k).2.2.1 = some (ty0 k)) (hnm : ∀ a, a < N → ∀ b, b < N → a ≠ b → (T a).2.1 ≠ (T b).2.1) (hk : k < N) (hft : (zft ci)[k]? = some t) (hci : ci < 100)
    (hlink : (Cond.fieldLink own index own (T k).2.1 (T k).2.2.1).before args s = true) (hr : (T k).1 = own) (hfin : (T k).2.2.2 = true) (hpd : parseFieldDescriptor (T k).2.2.1 = some ty) (hn : narrow ty v = v) (hfit : fits ty v = true) (hd : decode cc pc = .ok (.putfield index, 3))
    (hx : zx h' = zx h) (hcc : zc h' = zc h) (hss : zs h' = zs h) (htt : zt h' q = zt h q) (ho : ∀ q', q' < zx h → q' ≠ q → zen tA h' ad q' = zen tA h ad q') (ho2 : ∀ k' t', k' ≠ k → zfv h' ad q k' t' = zfv h ad q k' t') (hev : zfv h' ad q k t = v) (hq : q < zx h) (ht : zt h q = ci)
    (kk : ZW p l e R s m args below meth c Q D tA B nL c0 s0 ad (pc + 3) h' lv st) : ZW p l e R s m args below meth c Q D tA B nL c0 s0 ad pc h lv (v :: .ref (ad q) :: st) := by
  intro H locs ls hw hl
  have he : (zwl tA h ad)[q]? = some (ad q, .inr (ci, zfs h ad q (zft ci))) := by rw [zwl_at hq, zen_o ht hci]
  have hlen : k < (zfs h ad q (zft ci)).length := (List.getElem?_eq_some_iff.mp (zfs_at hft)).1
  have hE : zen tA h' ad q = .inr (ci, (zfs h ad q (zft ci)).set k v) := by rw [zen_o (htt.trans ht) hci, zfs_set hft ho2 hev]
  have go : ∀ (H1 : Heap) (locs1 : List Loc), va_P D zcl ((zwl tA h ad).set q (ad q, .inr (ci, (zfs h ad q (zft ci)).set k v))) H1 → va_D (fun q => B ≤ q) ((zwl tA h ad).set q (ad q, .inr (ci, (zfs h ad q (zft ci)).set k v))) → va_S (fun q => B ≤ q) s.heap H1 locs1 → W p l e R s m args below meth c H1 locs1 (zc h - c0) (zs h - s0) Q (F0 m (pc + 3) ls st) := by
    intro H1 locs1 a1 a2 a3
    have := kk H1 locs1 ls (zWd_set hx ho hE a1 a2 a3) hl
    rw [hcc, hss] at this
    exact this
  exact va_putF F.x F.b F.ts hin ty0 hty hnm F.ow F.K hw.1 hw.2.1 hw.2.2 q he hc k hk hlink (fun _ h => by rw [hr] at h; exact h) hfin hin2 hr hpd hn hfit hlen hd go
theorem zfv_si {q k : Nat} {v : Int32} : (∀ k' t', k' ≠ k → zfv (zsi h q k v) ad q k' t' = zfv h ad q k' t') ∧ zfv (zsi h q k v) ad q k 0 = .int v := by
  refine ⟨fun k' t' hk => ?_, ?_⟩
  · unfold zfv
    rw [show zi (zsi h q k v) q k' = zi h q k' by show zu2 h.1 q k v q k' = h.1 q k'; simp [zu2, hk]]
    rfl
  · unfold zfv
    rw [if_pos rfl, show zi (zsi h q k v) q k = v by show zu2 h.1 q k v q k = v; simp [zu2]]
theorem zfv_sj {q k : Nat} {v : Int64} : (∀ k' t', k' ≠ k → zfv (zsj h q k v) ad q k' t' = zfv h ad q k' t') ∧ zfv (zsj h q k v) ad q k 1 = .long v := by
  refine ⟨fun k' t' hk => ?_, ?_⟩
  · unfold zfv
    rw [show zj (zsj h q k v) q k' = zj h q k' by show zu2 h.2.1 q k v q k' = h.2.1 q k'; simp [zu2, hk]]
    rfl
  · unfold zfv
    rw [if_neg (by decide), if_pos rfl, show zj (zsj h q k v) q k = v by show zu2 h.2.1 q k v q k = v; simp [zu2]]
theorem zfv_sr {q k : Nat} {v : Option Nat} : (∀ k' t', k' ≠ k → zfv (zsr h q k v) ad q k' t' = zfv h ad q k' t') ∧ zfv (zsr h q k v) ad q k 2 = va_re ad v := by
  refine ⟨fun k' t' hk => ?_, ?_⟩
  · unfold zfv
    rw [show zr (zsr h q k v) q k' = zr h q k' by show zu2 h.2.2.1 q k v q k' = h.2.2.1 q k'; simp [zu2, hk]]
    rfl
  · unfold zfv
    rw [if_neg (by decide), if_neg (by decide), show zr (zsr h q k v) q k = v by show zu2 h.2.2.1 q k v q k = v; simp [zu2]]
/-! arrays: tag 100 + j -/
theorem z_at {q t : Nat} (hq : q < zx h) (ht : zt h q = t) (hl : 100 ≤ t) : (zwl tA h ad)[q]? = some (ad q, .inl (tA (t - 100), zn h q, zar h ad q t)) := by rw [zwl_at hq, zen_a ht hl]
theorem z_iald {q : Nat} {i : Int32} (F : ZF p s m args meth c D tA B nL kn own cc ret) (hd : decode cc pc = .ok (.iaload, 1)) (hq : q < zx h) (ht : zt h q = 100) (hi : vp_in i (zn h q)) (kk : ZW p l e R s m args below meth c Q D tA B nL c0 s0 ad (pc + 1) h lv (.int (zi h q i.toNatClampNeg) :: st)) : ZW p l e R s m args below meth c Q D tA B nL c0 s0 ad pc h lv (.int i :: .ref (ad q) :: st) :=
  fun H locs ls hw hl => va_iald F.x F.b F.K hw.1 q 0 (z_at hq ht (by decide)) rfl hi hd (kk H locs ls hw hl)
theorem z_bald {q : Nat} {i : Int32} (F : ZF p s m args meth c D tA B nL kn own cc ret) (hd : decode cc pc = .ok (.baload, 1)) (hq : q < zx h) (ht : zt h q = 101) (hi : vp_in i (zn h q)) (kk : ZW p l e R s m args below meth c Q D tA B nL c0 s0 ad (pc + 1) h lv (.int (zi h q i.toNatClampNeg) :: st)) : ZW p l e R s m args below meth c Q D tA B nL c0 s0 ad pc h lv (.int i :: .ref (ad q) :: st) :=
  fun H locs ls hw hl => va_bald F.x F.b F.K hw.1 q 1 (z_at hq ht (by decide)) rfl hi hd (kk H locs ls hw hl)
theorem z_lald {q : Nat} {i : Int32} (F : ZF p s m args meth c D tA B nL kn own cc ret) (hd : decode cc pc = .ok (.laload, 1)) (hq : q < zx h) (ht : zt h q = 104) (hi : vp_in i (zn h q)) (kk : ZW p l e R s m args below meth c Q D tA B nL c0 s0 ad (pc + 1) h lv (.long (zj h q i.toNatClampNeg) :: st)) : ZW p l e R s m args below meth c Q D tA B nL c0 s0 ad pc h lv (.int i :: .ref (ad q) :: st) :=
  fun H locs ls hw hl => va_lald F.x F.b F.K hw.1 q 4 (z_at hq ht (by decide)) rfl hi hd (kk H locs ls hw hl)
theorem z_aald {q t j : Nat} {C : String} {i : Int32} (F : ZF p s m args meth c D tA B nL kn own cc ret) (hj : (ztys tA)[j]? = some (tA j, .object C)) (htj : t = 100 + j) (hd : decode cc pc = .ok (.aaload, 1)) (hq : q < zx h) (ht : zt h q = t) (hi : vp_in i (zn h q)) (h5 : 105 ≤ t) (kk : ZW p l e R s m args below meth c Q D tA B nL c0 s0 ad (pc + 1) h lv (va_re ad (zr h q i.toNatClampNeg) :: st)) : ZW p l e R s m args below meth c Q D tA B nL c0 s0 ad pc h lv (.int i :: .ref (ad q) :: st) := by
  intro H locs ls hw hl
  have ha : (zwl tA h ad)[q]? = some (ad q, .inl (tA j, zn h q, .inr (.inr (.inr (.inr (fun k => (zr h q k).map ad)))))) := by
    rw [z_at hq ht (by omega), htj, Nat.add_sub_cancel_left]
    unfold zar
    rw [if_neg (by omega), if_neg (by omega)]
  exact va_aldq F.x F.b F.K hw.1 q j ha hj hi hd (kk H locs ls hw hl)
theorem z_alen {q t j : Nat} {ty : FieldType} (F : ZF p s m args meth c D tA B nL kn own cc ret) (hj : (ztys tA)[j]? = some (tA j, ty)) (htj : t = 100 + j) (hd : decode cc pc = .ok (.arraylength, 1)) (hq : q < zx h) (ht : zt h q = t) (kk : ZW p l e R s m args below meth c Q D tA B nL c0 s0 ad (pc + 1) h lv (.int (nI (zn h q)) :: st)) : ZW p l e R s m args below meth c Q D tA B nL c0 s0 ad pc h lv (.ref (ad q) :: st) := by
  intro H locs ls hw hl
  have ha : (zwl tA h ad)[q]? = some (ad q, .inl (tA j, zn h q, zar h ad q t)) := by rw [z_at hq ht (by omega), htj, Nat.add_sub_cancel_left]
  exact va_alen F.x F.b F.K hw.1 q j ha hj rfl hd (kk H locs ls hw hl)
theorem zen_arr {h' : Hp} {q t n : Nat} {X : (Nat → Int32) ⊕ (Nat → Int64) ⊕ (Nat → UInt32) ⊕ (Nat → UInt64) ⊕ (Nat → Option Nat)} (ht : zt h' q = t) (hl : 100 ≤ t) (hn : zn h' q = n) (hx : zar h' ad q t = X) : zen tA h' ad q = .inl (tA (t - 100), n, X) := by rw [zen_a ht hl, hn, hx]
theorem z_iast {q : Nat} {i x : Int32} (F : ZF p s m args meth c D tA B nL kn own cc ret) (hd : decode cc pc = .ok (.iastore, 1)) (hq : q < zx h) (ht : zt h q = 100) (hi : vp_in i (zn h q)) (kk : ZW p l e R s m args below meth c Q D tA B nL c0 s0 ad (pc + 1) (zsi h q i.toNatClampNeg x) lv st) : ZW p l e R s m args below meth c Q D tA B nL c0 s0 ad pc h lv (.int x :: .int i :: .ref (ad q) :: st) := by
  intro H locs ls hw hl
  refine va_iast F.x F.b F.K hw.1 hw.2.1 hw.2.2 q 0 (z_at hq ht (by decide)) rfl hi hd (fun H1 locs1 a1 a2 a3 => kk H1 locs1 ls (zWd_set (h := h) (h' := zsi h q i.toNatClampNeg x) rfl (fun q' _ hq' => zen_si hq') (zen_arr (t := 100) ht (by decide) rfl ?_) a1 a2 a3) hl)
  unfold zar
  rw [if_pos (by decide)]
  congr 1
  funext k
  show zu2 h.1 q i.toNatClampNeg x q k = upd _ _ _ k
  unfold zu2 upd
  simp [zi]
theorem z_last {q : Nat} {i : Int32} {x : Int64} (F : ZF p s m args meth c D tA B nL kn own cc ret) (hd : decode cc pc = .ok (.lastore, 1)) (hq : q < zx h) (ht : zt h q = 104) (hi : vp_in i (zn h q)) (kk : ZW p l e R s m args below meth c Q D tA B nL c0 s0 ad (pc + 1) (zsj h q i.toNatClampNeg x) lv st) : ZW p l e R s m args below meth c Q D tA B nL c0 s0 ad pc h lv (.long x :: .int i :: .ref (ad q) :: st) := by
  intro H locs ls hw hl
  refine va_last F.x F.b F.K hw.1 hw.2.1 hw.2.2 q 4 (z_at hq ht (by decide)) rfl hi hd (fun H1 locs1 a1 a2 a3 => kk H1 locs1 ls (zWd_set (h := h) (h' := zsj h q i.toNatClampNeg x) rfl (fun q' _ hq' => zen_sj hq') (zen_arr (t := 104) ht (by decide) rfl ?_) a1 a2 a3) hl)
  unfold zar
  rw [if_neg (by decide), if_pos (by decide)]
  congr 2
  funext k
  show zu2 h.2.1 q i.toNatClampNeg x q k = vp_updL _ _ _ k
  unfold zu2 vp_updL
  simp [zj]
theorem z_bast {q : Nat} {i x : Int32} (F : ZF p s m args meth c D tA B nL kn own cc ret) (hd : decode cc pc = .ok (.bastore, 1)) (hq : q < zx h) (ht : zt h q = 101) (hi : vp_in i (zn h q)) (kk : ZW p l e R s m args below meth c Q D tA B nL c0 s0 ad (pc + 1) (zsi h q i.toNatClampNeg (vp_nar .byte x)) lv st) : ZW p l e R s m args below meth c Q D tA B nL c0 s0 ad pc h lv (.int x :: .int i :: .ref (ad q) :: st) := by
  intro H locs ls hw hl
  refine va_bast F.x F.b F.K hw.1 hw.2.1 hw.2.2 q 1 (z_at hq ht (by decide)) rfl hi hd (fun H1 locs1 a1 a2 a3 => kk H1 locs1 ls (zWd_set (h := h) (h' := zsi h q i.toNatClampNeg (vp_nar .byte x)) rfl (fun q' _ hq' => zen_si hq') (zen_arr (t := 101) ht (by decide) rfl ?_) a1 a2 a3) hl)
  unfold zar
  rw [if_pos (by decide)]
  congr 1
  funext k
  show zu2 h.1 q i.toNatClampNeg (vp_nar .byte x) q k = upd _ _ _ k
  unfold zu2 upd
  simp [zi]
end ZHeap
