def VA_aiming (h : Hp) (a0 : Nat) (x1 : Int32) : Option (Int32 × Hp) :=
  if zt h a0 = 14 then X14_aiming h a0 x1 else if zt h a0 = 15 then X15_aiming h a0 x1 else if zt h a0 = 16 then X14_aiming h a0 x1 else if zt h a0 = 17 then X14_aiming h a0 x1 else if zt h a0 = 18 then X15_aiming h a0 x1 else if zt h a0 = 19 then X14_aiming h a0 x1 else if zt h a0 = 20 then X20_aiming h a0 x1 else if zt h a0 = 21 then X15_aiming h a0 x1 else none
theorem VA_aiming_14 {h : Hp} {a0 : Nat} {x1 : Int32} (ht : zt h a0 = 14) : VA_aiming h a0 x1 = X14_aiming h a0 x1 := by
  unfold VA_aiming
  rw [ht]
  rfl
theorem VA_aiming_15 {h : Hp} {a0 : Nat} {x1 : Int32} (ht : zt h a0 = 15) : VA_aiming h a0 x1 = X15_aiming h a0 x1 := by
  unfold VA_aiming
  rw [ht]
  rfl
theorem VA_aiming_16 {h : Hp} {a0 : Nat} {x1 : Int32} (ht : zt h a0 = 16) : VA_aiming h a0 x1 = X14_aiming h a0 x1 := by
  unfold VA_aiming
  rw [ht]
  rfl
theorem VA_aiming_17 {h : Hp} {a0 : Nat} {x1 : Int32} (ht : zt h a0 = 17) : VA_aiming h a0 x1 = X14_aiming h a0 x1 := by
  unfold VA_aiming
  rw [ht]
  rfl
theorem VA_aiming_18 {h : Hp} {a0 : Nat} {x1 : Int32} (ht : zt h a0 = 18) : VA_aiming h a0 x1 = X15_aiming h a0 x1 := by
  unfold VA_aiming
  rw [ht]
  rfl
theorem VA_aiming_19 {h : Hp} {a0 : Nat} {x1 : Int32} (ht : zt h a0 = 19) : VA_aiming h a0 x1 = X14_aiming h a0 x1 := by
  unfold VA_aiming
  rw [ht]
  rfl
theorem VA_aiming_20 {h : Hp} {a0 : Nat} {x1 : Int32} (ht : zt h a0 = 20) : VA_aiming h a0 x1 = X20_aiming h a0 x1 := by
  unfold VA_aiming
  rw [ht]
  rfl
theorem VA_aiming_21 {h : Hp} {a0 : Nat} {x1 : Int32} (ht : zt h a0 = 21) : VA_aiming h a0 x1 = X15_aiming h a0 x1 := by
  unfold VA_aiming
  rw [ht]
  rfl

def VT_tells (h : Hp) (a0 : Nat) (x1 : Int32) : Option (Int32 × Hp) :=
  if zt h a0 = 14 then X14_tells h a0 x1 else if zt h a0 = 15 then X14_tells h a0 x1 else if zt h a0 = 16 then X14_tells h a0 x1 else if zt h a0 = 17 then X14_tells h a0 x1 else if zt h a0 = 18 then X14_tells h a0 x1 else if zt h a0 = 19 then X19_tells h a0 x1 else if zt h a0 = 20 then X14_tells h a0 x1 else if zt h a0 = 21 then X21_tells h a0 x1 else none
theorem VT_tells_14 {h : Hp} {a0 : Nat} {x1 : Int32} (ht : zt h a0 = 14) : VT_tells h a0 x1 = X14_tells h a0 x1 := by
  unfold VT_tells
  rw [ht]
  rfl
theorem VT_tells_15 {h : Hp} {a0 : Nat} {x1 : Int32} (ht : zt h a0 = 15) : VT_tells h a0 x1 = X14_tells h a0 x1 := by
  unfold VT_tells
  rw [ht]
  rfl
theorem VT_tells_16 {h : Hp} {a0 : Nat} {x1 : Int32} (ht : zt h a0 = 16) : VT_tells h a0 x1 = X14_tells h a0 x1 := by
  unfold VT_tells
  rw [ht]
  rfl
theorem VT_tells_17 {h : Hp} {a0 : Nat} {x1 : Int32} (ht : zt h a0 = 17) : VT_tells h a0 x1 = X14_tells h a0 x1 := by
  unfold VT_tells
  rw [ht]
  rfl
theorem VT_tells_18 {h : Hp} {a0 : Nat} {x1 : Int32} (ht : zt h a0 = 18) : VT_tells h a0 x1 = X14_tells h a0 x1 := by
  unfold VT_tells
  rw [ht]
  rfl
theorem VT_tells_19 {h : Hp} {a0 : Nat} {x1 : Int32} (ht : zt h a0 = 19) : VT_tells h a0 x1 = X19_tells h a0 x1 := by
  unfold VT_tells
  rw [ht]
  rfl
theorem VT_tells_20 {h : Hp} {a0 : Nat} {x1 : Int32} (ht : zt h a0 = 20) : VT_tells h a0 x1 = X14_tells h a0 x1 := by
  unfold VT_tells
  rw [ht]
  rfl
theorem VT_tells_21 {h : Hp} {a0 : Nat} {x1 : Int32} (ht : zt h a0 = 21) : VT_tells h a0 x1 = X21_tells h a0 x1 := by
  unfold VT_tells
  rw [ht]
  rfl

theorem cl_X0_436 {p : Program} {l : Launch} {e : Env} {s : State} {m : MethodId} {args : Array Value} {below : List Frame} {meth : Method} {c : Code} {Q : State → Prop} {D : va_G} {tA : Nat → ClassId} {B nL : Nat} {ad : Nat → Nat} {kn : State → Prop} {cc : ByteArray} {ret : Option FieldType} {pc : Nat} {h : Hp} {lv : List (Nat × Value)} {Fr Lo : Nat} {h0 h1 : Hp} {rest : List Value} {a0 : Nat} {x1 : Int32} {r : Int32} (F : ZF p s m args meth c D tA B nL kn RX0 cc ret) (hd : decode cc pc = .ok (.invokeinterface 436 2, 5)) (hO : zOk h) (hE : zEx h0 h) (t_a0 : zTy h a0 52) (hR : 2 + 1 ≤ (zRm Fr Lo h0).frames ∧ 16 + (0 + 11) + 60 ≤ (zRm Fr Lo h0).locals) (hf : VA_aiming h a0 x1 = some (r, h1)) (hr : (rest.map fun v => v.category).sum ≤ 16) (kk : zOk h1 → zEx h h1 → ZW p l e (zRm Fr Lo h0) s m args below meth c Q D tA B nL (zc h0) (zs h0) ad (pc + 5) h1 lv (.int r :: rest)) : ZW p l e (zRm Fr Lo h0) s m args below meth c Q D tA B nL (zc h0) (zs h0) ad pc h lv (.int x1 :: .ref (ad a0) :: rest) := by
  have hm : zt h a0 ∈ [14, 15, 16, 17, 18, 19, 20, 21] := t_a0.fam (by decide)
  simp only [List.mem_cons, List.not_mem_nil, or_false] at hm
  rcases hm with ht | ht | ht | ht | ht | ht | ht | ht
  · exact z_cFi ⟨hE.2.1, hE.2.2.1⟩ (fun H locs ls hw hl => z_runF (q := a0) (ci := 14) F (mX14_aiming F.2.2.2.2.2.1 hO (⟨t_a0.1, by rw [ht]; decide⟩)  (VA_aiming_14 ht ▸ hf)) (zCw.of (FF := 1) (LL := 29) 1 F.ts q1165 q120 (by decide +kernel) (by have h1 := hR.1; have h2 := hR.2; constructor <;> (simp only [zRm] at h1 h2 ⊢; omega))) q1150 (zNW_of q1152 rfl) (zNW_of q1151 rfl) (zNW_of q1170 rfl) (zNW_of q1182 rfl) (zNW_of q1180 rfl) (by decide +kernel) q1164 q1181 rfl rfl (by decide) t_a0.1 ht rfl hr hd hw hl (z_fit hE hO)) kk
  · exact z_cFi ⟨hE.2.1, hE.2.2.1⟩ (fun H locs ls hw hl => z_runF (q := a0) (ci := 15) F (mX15_aiming F.2.2.2.2.2.1 hO (⟨t_a0.1, by rw [ht]; decide⟩)  (VA_aiming_15 ht ▸ hf)) (zCw.of (FF := 2) (LL := 58) 1 F.ts q1158 q121 (by decide +kernel) (by have h1 := hR.1; have h2 := hR.2; constructor <;> (simp only [zRm] at h1 h2 ⊢; omega))) q1150 (zNW_of q1152 rfl) (zNW_of q1151 rfl) (zNW_of q1157 rfl) (zNW_of q1179 rfl) (zNW_of q1177 rfl) (by decide +kernel) q1156 q1178 rfl rfl (by decide) t_a0.1 ht rfl hr hd hw hl (z_fit hE hO)) kk
  · exact z_cFi ⟨hE.2.1, hE.2.2.1⟩ (fun H locs ls hw hl => z_runF (q := a0) (ci := 16) F (mX14_aiming F.2.2.2.2.2.1 hO (⟨t_a0.1, by rw [ht]; decide⟩)  (VA_aiming_16 ht ▸ hf)) (zCw.of (FF := 1) (LL := 29) 1 F.ts q1165 q120 (by decide +kernel) (by have h1 := hR.1; have h2 := hR.2; constructor <;> (simp only [zRm] at h1 h2 ⊢; omega))) q1150 (zNW_of q1152 rfl) (zNW_of q1151 rfl) (zNW_of q1170 rfl) (zNW_of q1169 rfl) (zNW_of q1167 rfl) (by decide +kernel) q1164 q1168 rfl rfl (by decide) t_a0.1 ht rfl hr hd hw hl (z_fit hE hO)) kk
  · exact z_cFi ⟨hE.2.1, hE.2.2.1⟩ (fun H locs ls hw hl => z_runF (q := a0) (ci := 17) F (mX14_aiming F.2.2.2.2.2.1 hO (⟨t_a0.1, by rw [ht]; decide⟩)  (VA_aiming_17 ht ▸ hf)) (zCw.of (FF := 1) (LL := 29) 1 F.ts q1165 q120 (by decide +kernel) (by have h1 := hR.1; have h2 := hR.2; constructor <;> (simp only [zRm] at h1 h2 ⊢; omega))) q1150 (zNW_of q1152 rfl) (zNW_of q1151 rfl) (zNW_of q1170 rfl) (zNW_of q1193 rfl) (zNW_of q1191 rfl) (by decide +kernel) q1164 q1192 rfl rfl (by decide) t_a0.1 ht rfl hr hd hw hl (z_fit hE hO)) kk
  · exact z_cFi ⟨hE.2.1, hE.2.2.1⟩ (fun H locs ls hw hl => z_runF (q := a0) (ci := 18) F (mX15_aiming F.2.2.2.2.2.1 hO (⟨t_a0.1, by rw [ht]; decide⟩)  (VA_aiming_18 ht ▸ hf)) (zCw.of (FF := 2) (LL := 58) 1 F.ts q1158 q121 (by decide +kernel) (by have h1 := hR.1; have h2 := hR.2; constructor <;> (simp only [zRm] at h1 h2 ⊢; omega))) q1150 (zNW_of q1152 rfl) (zNW_of q1151 rfl) (zNW_of q1157 rfl) (zNW_of q1155 rfl) (zNW_of q1153 rfl) (by decide +kernel) q1156 q1154 rfl rfl (by decide) t_a0.1 ht rfl hr hd hw hl (z_fit hE hO)) kk
  · exact z_cFi ⟨hE.2.1, hE.2.2.1⟩ (fun H locs ls hw hl => z_runF (q := a0) (ci := 19) F (mX14_aiming F.2.2.2.2.2.1 hO (⟨t_a0.1, by rw [ht]; decide⟩)  (VA_aiming_19 ht ▸ hf)) (zCw.of (FF := 1) (LL := 29) 1 F.ts q1165 q120 (by decide +kernel) (by have h1 := hR.1; have h2 := hR.2; constructor <;> (simp only [zRm] at h1 h2 ⊢; omega))) q1150 (zNW_of q1152 rfl) (zNW_of q1151 rfl) (zNW_of q1170 rfl) (zNW_of q1176 rfl) (zNW_of q1174 rfl) (by decide +kernel) q1164 q1175 rfl rfl (by decide) t_a0.1 ht rfl hr hd hw hl (z_fit hE hO)) kk
  · exact z_cFi ⟨hE.2.1, hE.2.2.1⟩ (fun H locs ls hw hl => z_runF (q := a0) (ci := 20) F (mX20_aiming F.2.2.2.2.2.1 hO (⟨t_a0.1, by rw [ht]; decide⟩)  (VA_aiming_20 ht ▸ hf)) (zCw.of (FF := 2) (LL := 58) 1 F.ts q1188 q126 (by decide +kernel) (by have h1 := hR.1; have h2 := hR.2; constructor <;> (simp only [zRm] at h1 h2 ⊢; omega))) q1150 (zNW_of q1152 rfl) (zNW_of q1151 rfl) (zNW_of q1187 rfl) (zNW_of q1185 rfl) (zNW_of q1183 rfl) (by decide +kernel) q1186 q1184 rfl rfl (by decide) t_a0.1 ht rfl hr hd hw hl (z_fit hE hO)) kk
  · exact z_cFi ⟨hE.2.1, hE.2.2.1⟩ (fun H locs ls hw hl => z_runF (q := a0) (ci := 21) F (mX15_aiming F.2.2.2.2.2.1 hO (⟨t_a0.1, by rw [ht]; decide⟩)  (VA_aiming_21 ht ▸ hf)) (zCw.of (FF := 2) (LL := 58) 1 F.ts q1158 q121 (by decide +kernel) (by have h1 := hR.1; have h2 := hR.2; constructor <;> (simp only [zRm] at h1 h2 ⊢; omega))) q1150 (zNW_of q1152 rfl) (zNW_of q1151 rfl) (zNW_of q1157 rfl) (zNW_of q1173 rfl) (zNW_of q1171 rfl) (by decide +kernel) q1156 q1172 rfl rfl (by decide) t_a0.1 ht rfl hr hd hw hl (z_fit hE hO)) kk
theorem cl_X0_441 {p : Program} {l : Launch} {e : Env} {s : State} {m : MethodId} {args : Array Value} {below : List Frame} {meth : Method} {c : Code} {Q : State → Prop} {D : va_G} {tA : Nat → ClassId} {B nL : Nat} {ad : Nat → Nat} {kn : State → Prop} {cc : ByteArray} {ret : Option FieldType} {pc : Nat} {h : Hp} {lv : List (Nat × Value)} {Fr Lo : Nat} {h0 h1 : Hp} {rest : List Value} {a0 : Nat} {x1 : Int32} {r : Int32} (F : ZF p s m args meth c D tA B nL kn RX0 cc ret) (hd : decode cc pc = .ok (.invokeinterface 441 2, 5)) (hO : zOk h) (hE : zEx h0 h) (t_a0 : zTy h a0 52) (hR : 7 + 1 ≤ (zRm Fr Lo h0).frames ∧ 16 + (0 + 11) + 206 ≤ (zRm Fr Lo h0).locals) (hf : VT_tells h a0 x1 = some (r, h1)) (hr : (rest.map fun v => v.category).sum ≤ 16) (kk : zOk h1 → zEx h h1 → ZW p l e (zRm Fr Lo h0) s m args below meth c Q D tA B nL (zc h0) (zs h0) ad (pc + 5) h1 lv (.int r :: rest)) : ZW p l e (zRm Fr Lo h0) s m args below meth c Q D tA B nL (zc h0) (zs h0) ad pc h lv (.int x1 :: .ref (ad a0) :: rest) := by
  have hm : zt h a0 ∈ [14, 15, 16, 17, 18, 19, 20, 21] := t_a0.fam (by decide)
  simp only [List.mem_cons, List.not_mem_nil, or_false] at hm
  rcases hm with ht | ht | ht | ht | ht | ht | ht | ht
  · exact z_cFi ⟨hE.2.1, hE.2.2.1⟩ (fun H locs ls hw hl => z_runF (q := a0) (ci := 14) F (mX14_tells F.2.2.2.2.2.1 hO (⟨t_a0.1, by rw [ht]; decide⟩)  (VT_tells_14 ht ▸ hf)) (zCw.of (FF := 6) (LL := 174) 1 F.ts q1203 q120 (by decide +kernel) (by have h1 := hR.1; have h2 := hR.2; constructor <;> (simp only [zRm] at h1 h2 ⊢; omega))) q1195 (zNW_of q1197 rfl) (zNW_of q1196 rfl) (zNW_of q1202 rfl) (zNW_of q1279 rfl) (zNW_of q1277 rfl) (by decide +kernel) q1201 q1278 rfl rfl (by decide) t_a0.1 ht rfl hr hd hw hl (z_fit hE hO)) kk
  · exact z_cFi ⟨hE.2.1, hE.2.2.1⟩ (fun H locs ls hw hl => z_runF (q := a0) (ci := 15) F (mX14_tells F.2.2.2.2.2.1 hO (⟨t_a0.1, by rw [ht]; decide⟩)  (VT_tells_15 ht ▸ hf)) (zCw.of (FF := 6) (LL := 174) 1 F.ts q1203 q120 (by decide +kernel) (by have h1 := hR.1; have h2 := hR.2; constructor <;> (simp only [zRm] at h1 h2 ⊢; omega))) q1195 (zNW_of q1197 rfl) (zNW_of q1196 rfl) (zNW_of q1202 rfl) (zNW_of q1276 rfl) (zNW_of q1274 rfl) (by decide +kernel) q1201 q1275 rfl rfl (by decide) t_a0.1 ht rfl hr hd hw hl (z_fit hE hO)) kk
  · exact z_cFi ⟨hE.2.1, hE.2.2.1⟩ (fun H locs ls hw hl => z_runF (q := a0) (ci := 16) F (mX14_tells F.2.2.2.2.2.1 hO (⟨t_a0.1, by rw [ht]; decide⟩)  (VT_tells_16 ht ▸ hf)) (zCw.of (FF := 6) (LL := 174) 1 F.ts q1203 q120 (by decide +kernel) (by have h1 := hR.1; have h2 := hR.2; constructor <;> (simp only [zRm] at h1 h2 ⊢; omega))) q1195 (zNW_of q1197 rfl) (zNW_of q1196 rfl) (zNW_of q1202 rfl) (zNW_of q1255 rfl) (zNW_of q1253 rfl) (by decide +kernel) q1201 q1254 rfl rfl (by decide) t_a0.1 ht rfl hr hd hw hl (z_fit hE hO)) kk
  · exact z_cFi ⟨hE.2.1, hE.2.2.1⟩ (fun H locs ls hw hl => z_runF (q := a0) (ci := 17) F (mX14_tells F.2.2.2.2.2.1 hO (⟨t_a0.1, by rw [ht]; decide⟩)  (VT_tells_17 ht ▸ hf)) (zCw.of (FF := 6) (LL := 174) 1 F.ts q1203 q120 (by decide +kernel) (by have h1 := hR.1; have h2 := hR.2; constructor <;> (simp only [zRm] at h1 h2 ⊢; omega))) q1195 (zNW_of q1197 rfl) (zNW_of q1196 rfl) (zNW_of q1202 rfl) (zNW_of q1285 rfl) (zNW_of q1283 rfl) (by decide +kernel) q1201 q1284 rfl rfl (by decide) t_a0.1 ht rfl hr hd hw hl (z_fit hE hO)) kk
  · exact z_cFi ⟨hE.2.1, hE.2.2.1⟩ (fun H locs ls hw hl => z_runF (q := a0) (ci := 18) F (mX14_tells F.2.2.2.2.2.1 hO (⟨t_a0.1, by rw [ht]; decide⟩)  (VT_tells_18 ht ▸ hf)) (zCw.of (FF := 6) (LL := 174) 1 F.ts q1203 q120 (by decide +kernel) (by have h1 := hR.1; have h2 := hR.2; constructor <;> (simp only [zRm] at h1 h2 ⊢; omega))) q1195 (zNW_of q1197 rfl) (zNW_of q1196 rfl) (zNW_of q1202 rfl) (zNW_of q1200 rfl) (zNW_of q1198 rfl) (by decide +kernel) q1201 q1199 rfl rfl (by decide) t_a0.1 ht rfl hr hd hw hl (z_fit hE hO)) kk
  · exact z_cFi ⟨hE.2.1, hE.2.2.1⟩ (fun H locs ls hw hl => z_runF (q := a0) (ci := 19) F (mX19_tells F.2.2.2.2.2.1 hO (⟨t_a0.1, by rw [ht]; decide⟩)  (VT_tells_19 ht ▸ hf)) (zCw.of (FF := 7) (LL := 204) 1 F.ts q1270 q125 (by decide +kernel) (by have h1 := hR.1; have h2 := hR.2; constructor <;> (simp only [zRm] at h1 h2 ⊢; omega))) q1195 (zNW_of q1197 rfl) (zNW_of q1196 rfl) (zNW_of q1269 rfl) (zNW_of q1267 rfl) (zNW_of q1265 rfl) (by decide +kernel) q1268 q1266 rfl rfl (by decide) t_a0.1 ht rfl hr hd hw hl (z_fit hE hO)) kk
  · exact z_cFi ⟨hE.2.1, hE.2.2.1⟩ (fun H locs ls hw hl => z_runF (q := a0) (ci := 20) F (mX14_tells F.2.2.2.2.2.1 hO (⟨t_a0.1, by rw [ht]; decide⟩)  (VT_tells_20 ht ▸ hf)) (zCw.of (FF := 6) (LL := 174) 1 F.ts q1203 q120 (by decide +kernel) (by have h1 := hR.1; have h2 := hR.2; constructor <;> (simp only [zRm] at h1 h2 ⊢; omega))) q1195 (zNW_of q1197 rfl) (zNW_of q1196 rfl) (zNW_of q1202 rfl) (zNW_of q1282 rfl) (zNW_of q1280 rfl) (by decide +kernel) q1201 q1281 rfl rfl (by decide) t_a0.1 ht rfl hr hd hw hl (z_fit hE hO)) kk
  · exact z_cFi ⟨hE.2.1, hE.2.2.1⟩ (fun H locs ls hw hl => z_runF (q := a0) (ci := 21) F (mX21_tells F.2.2.2.2.2.1 hO (⟨t_a0.1, by rw [ht]; decide⟩)  (VT_tells_21 ht ▸ hf)) (zCw.of (FF := 7) (LL := 204) 1 F.ts q1261 q127 (by decide +kernel) (by have h1 := hR.1; have h2 := hR.2; constructor <;> (simp only [zRm] at h1 h2 ⊢; omega))) q1195 (zNW_of q1197 rfl) (zNW_of q1196 rfl) (zNW_of q1260 rfl) (zNW_of q1258 rfl) (zNW_of q1256 rfl) (by decide +kernel) q1259 q1257 rfl rfl (by decide) t_a0.1 ht rfl hr hd hw hl (z_fit hE hO)) kk
theorem cl_X0_446 {p : Program} {l : Launch} {e : Env} {s : State} {m : MethodId} {args : Array Value} {below : List Frame} {meth : Method} {c : Code} {Q : State → Prop} {D : va_G} {tA : Nat → ClassId} {B nL : Nat} {ad : Nat → Nat} {kn : State → Prop} {cc : ByteArray} {ret : Option FieldType} {pc : Nat} {h : Hp} {lv : List (Nat × Value)} {Fr Lo : Nat} {h0 h1 : Hp} {rest : List Value} {a0 : Nat} {x1 : Int32} {r : Int32} (F : ZF p s m args meth c D tA B nL kn RX0 cc ret) (hd : decode cc pc = .ok (.invokevirtual 446, 3)) (hO : zOk h) (hE : zEx h0 h) (t_a0 : zTy h a0 52) (hR : 5 + 1 ≤ (zRm Fr Lo h0).frames ∧ 16 + (0 + 11) + 147 ≤ (zRm Fr Lo h0).locals) (hf : V14_throwsBy h a0 x1 = some (r, h1)) (hr : (rest.map fun v => v.category).sum ≤ 16) (kk : zOk h1 → zEx h h1 → ZW p l e (zRm Fr Lo h0) s m args below meth c Q D tA B nL (zc h0) (zs h0) ad (pc + 3) h1 lv (.int r :: rest)) : ZW p l e (zRm Fr Lo h0) s m args below meth c Q D tA B nL (zc h0) (zs h0) ad pc h lv (.int x1 :: .ref (ad a0) :: rest) := by
  have hm : zt h a0 ∈ [14, 15, 16, 17, 18, 19, 20, 21] := t_a0.fam (by decide)
  simp only [List.mem_cons, List.not_mem_nil, or_false] at hm
  rcases hm with ht | ht | ht | ht | ht | ht | ht | ht
  · exact z_ci ⟨hE.2.1, hE.2.2.1⟩ (fun H locs ls hw hl => z_runU (q := a0) (ci := 14) F (mX14_throwsBy F.2.2.2.2.2.1 hO (⟨t_a0.1, by rw [ht]; decide⟩)  (V14_throwsBy_14 ht ▸ hf)) (zCw.of (FF := 3) (LL := 87) 1 F.ts q1246 q120 (by decide +kernel) (by have h1 := hR.1; have h2 := hR.2; constructor <;> (simp only [zRm] at h1 h2 ⊢; omega))) q1286 q1207 (va_Decl.abs (F.N _ (zNW_of q1220 rfl))) (by decide +kernel) q1205 q1206 rfl rfl (by decide) t_a0.1 ht rfl hr hd hw hl (z_fit hE hO)) kk
  · exact z_ci ⟨hE.2.1, hE.2.2.1⟩ (fun H locs ls hw hl => z_runU (q := a0) (ci := 15) F (mX14_throwsBy F.2.2.2.2.2.1 hO (⟨t_a0.1, by rw [ht]; decide⟩)  (V14_throwsBy_15 ht ▸ hf)) (zCw.of (FF := 3) (LL := 87) 1 F.ts q1246 q120 (by decide +kernel) (by have h1 := hR.1; have h2 := hR.2; constructor <;> (simp only [zRm] at h1 h2 ⊢; omega))) q1286 q1207 (va_Decl.abs (F.N _ (zNW_of q1220 rfl))) (by decide +kernel) q1205 q1243 rfl rfl (by decide) t_a0.1 ht rfl hr hd hw hl (z_fit hE hO)) kk
  · exact z_ci ⟨hE.2.1, hE.2.2.1⟩ (fun H locs ls hw hl => z_runU (q := a0) (ci := 16) F (mX16_throwsBy F.2.2.2.2.2.1 hO (⟨t_a0.1, by rw [ht]; decide⟩)  (V14_throwsBy_16 ht ▸ hf)) (zCw.of (FF := 4) (LL := 116) 1 F.ts q1211 q122 (by decide +kernel) (by have h1 := hR.1; have h2 := hR.2; constructor <;> (simp only [zRm] at h1 h2 ⊢; omega))) q1286 q1207 (va_Decl.abs (F.N _ (zNW_of q1220 rfl))) (by decide +kernel) q1210 q1209 rfl rfl (by decide) t_a0.1 ht rfl hr hd hw hl (z_fit hE hO)) kk
  · exact z_ci ⟨hE.2.1, hE.2.2.1⟩ (fun H locs ls hw hl => z_runU (q := a0) (ci := 17) F (mX17_throwsBy F.2.2.2.2.2.1 hO (⟨t_a0.1, by rw [ht]; decide⟩)  (V14_throwsBy_17 ht ▸ hf)) (zCw.of (FF := 5) (LL := 145) 1 F.ts q1240 q123 (by decide +kernel) (by have h1 := hR.1; have h2 := hR.2; constructor <;> (simp only [zRm] at h1 h2 ⊢; omega))) q1286 q1207 (va_Decl.abs (F.N _ (zNW_of q1220 rfl))) (by decide +kernel) q1239 q1245 rfl rfl (by decide) t_a0.1 ht rfl hr hd hw hl (z_fit hE hO)) kk
  · exact z_ci ⟨hE.2.1, hE.2.2.1⟩ (fun H locs ls hw hl => z_runU (q := a0) (ci := 18) F (mX14_throwsBy F.2.2.2.2.2.1 hO (⟨t_a0.1, by rw [ht]; decide⟩)  (V14_throwsBy_18 ht ▸ hf)) (zCw.of (FF := 3) (LL := 87) 1 F.ts q1246 q120 (by decide +kernel) (by have h1 := hR.1; have h2 := hR.2; constructor <;> (simp only [zRm] at h1 h2 ⊢; omega))) q1286 q1207 (va_Decl.abs (F.N _ (zNW_of q1220 rfl))) (by decide +kernel) q1205 q1208 rfl rfl (by decide) t_a0.1 ht rfl hr hd hw hl (z_fit hE hO)) kk
  · exact z_ci ⟨hE.2.1, hE.2.2.1⟩ (fun H locs ls hw hl => z_runU (q := a0) (ci := 19) F (mX17_throwsBy F.2.2.2.2.2.1 hO (⟨t_a0.1, by rw [ht]; decide⟩)  (V14_throwsBy_19 ht ▸ hf)) (zCw.of (FF := 5) (LL := 145) 1 F.ts q1240 q123 (by decide +kernel) (by have h1 := hR.1; have h2 := hR.2; constructor <;> (simp only [zRm] at h1 h2 ⊢; omega))) q1286 q1207 (va_Decl.abs (F.N _ (zNW_of q1220 rfl))) (by decide +kernel) q1239 q1238 rfl rfl (by decide) t_a0.1 ht rfl hr hd hw hl (z_fit hE hO)) kk
  · exact z_ci ⟨hE.2.1, hE.2.2.1⟩ (fun H locs ls hw hl => z_runU (q := a0) (ci := 20) F (mX14_throwsBy F.2.2.2.2.2.1 hO (⟨t_a0.1, by rw [ht]; decide⟩)  (V14_throwsBy_20 ht ▸ hf)) (zCw.of (FF := 3) (LL := 87) 1 F.ts q1246 q120 (by decide +kernel) (by have h1 := hR.1; have h2 := hR.2; constructor <;> (simp only [zRm] at h1 h2 ⊢; omega))) q1286 q1207 (va_Decl.abs (F.N _ (zNW_of q1220 rfl))) (by decide +kernel) q1205 q1244 rfl rfl (by decide) t_a0.1 ht rfl hr hd hw hl (z_fit hE hO)) kk
  · exact z_ci ⟨hE.2.1, hE.2.2.1⟩ (fun H locs ls hw hl => z_runU (q := a0) (ci := 21) F (mX21_throwsBy F.2.2.2.2.2.1 hO (⟨t_a0.1, by rw [ht]; decide⟩)  (V14_throwsBy_21 ht ▸ hf)) (zCw.of (FF := 4) (LL := 117) 1 F.ts q1216 q127 (by decide +kernel) (by have h1 := hR.1; have h2 := hR.2; constructor <;> (simp only [zRm] at h1 h2 ⊢; omega))) q1286 q1207 (va_Decl.abs (F.N _ (zNW_of q1220 rfl))) (by decide +kernel) q1215 q1214 rfl rfl (by decide) t_a0.1 ht rfl hr hd hw hl (z_fit hE hO)) kk
theorem cl_X0_449 {p : Program} {l : Launch} {e : Env} {s : State} {m : MethodId} {args : Array Value} {below : List Frame} {meth : Method} {c : Code} {Q : State → Prop} {D : va_G} {tA : Nat → ClassId} {B nL : Nat} {ad : Nat → Nat} {kn : State → Prop} {cc : ByteArray} {ret : Option FieldType} {pc : Nat} {h : Hp} {lv : List (Nat × Value)} {Fr Lo : Nat} {h0 h1 : Hp} {rest : List Value} {a0 : Nat} {x1 : Int32} {r : Int32} (F : ZF p s m args meth c D tA B nL kn RX0 cc ret) (hd : decode cc pc = .ok (.invokevirtual 449, 3)) (hO : zOk h) (hE : zEx h0 h) (t_a0 : zTy h a0 52) (hR : 3 + 1 ≤ (zRm Fr Lo h0).frames ∧ 16 + (0 + 11) + 90 ≤ (zRm Fr Lo h0).locals) (hf : V14_hitting h a0 x1 = some (r, h1)) (hr : (rest.map fun v => v.category).sum ≤ 16) (kk : zOk h1 → zEx h h1 → ZW p l e (zRm Fr Lo h0) s m args below meth c Q D tA B nL (zc h0) (zs h0) ad (pc + 3) h1 lv (.int r :: rest)) : ZW p l e (zRm Fr Lo h0) s m args below meth c Q D tA B nL (zc h0) (zs h0) ad pc h lv (.int x1 :: .ref (ad a0) :: rest) := by
  have hm : zt h a0 ∈ [14, 15, 16, 17, 18, 19, 20, 21] := t_a0.fam (by decide)
  simp only [List.mem_cons, List.not_mem_nil, or_false] at hm
  rcases hm with ht | ht | ht | ht | ht | ht | ht | ht
  · exact z_ci ⟨hE.2.1, hE.2.2.1⟩ (fun H locs ls hw hl => z_runU (q := a0) (ci := 14) F (mX14_hitting F.2.2.2.2.2.1 hO (⟨t_a0.1, by rw [ht]; decide⟩)  (V14_hitting_14 ht ▸ hf)) (zCw.of (FF := 1) (LL := 29) 1 F.ts q1232 q120 (by decide +kernel) (by have h1 := hR.1; have h2 := hR.2; constructor <;> (simp only [zRm] at h1 h2 ⊢; omega))) q1287 q2052 (va_Decl.abs (F.N _ (zNW_of q1230 rfl))) (by decide +kernel) q1231 q2058 rfl rfl (by decide) t_a0.1 ht rfl hr hd hw hl (z_fit hE hO)) kk
  · exact z_ci ⟨hE.2.1, hE.2.2.1⟩ (fun H locs ls hw hl => z_runU (q := a0) (ci := 15) F (mX14_hitting F.2.2.2.2.2.1 hO (⟨t_a0.1, by rw [ht]; decide⟩)  (V14_hitting_15 ht ▸ hf)) (zCw.of (FF := 1) (LL := 29) 1 F.ts q1232 q120 (by decide +kernel) (by have h1 := hR.1; have h2 := hR.2; constructor <;> (simp only [zRm] at h1 h2 ⊢; omega))) q1287 q2052 (va_Decl.abs (F.N _ (zNW_of q1230 rfl))) (by decide +kernel) q1231 q2057 rfl rfl (by decide) t_a0.1 ht rfl hr hd hw hl (z_fit hE hO)) kk
  · exact z_ci ⟨hE.2.1, hE.2.2.1⟩ (fun H locs ls hw hl => z_runU (q := a0) (ci := 16) F (mX14_hitting F.2.2.2.2.2.1 hO (⟨t_a0.1, by rw [ht]; decide⟩)  (V14_hitting_16 ht ▸ hf)) (zCw.of (FF := 1) (LL := 29) 1 F.ts q1232 q120 (by decide +kernel) (by have h1 := hR.1; have h2 := hR.2; constructor <;> (simp only [zRm] at h1 h2 ⊢; omega))) q1287 q2052 (va_Decl.abs (F.N _ (zNW_of q1230 rfl))) (by decide +kernel) q1231 q2054 rfl rfl (by decide) t_a0.1 ht rfl hr hd hw hl (z_fit hE hO)) kk
  · exact z_ci ⟨hE.2.1, hE.2.2.1⟩ (fun H locs ls hw hl => z_runU (q := a0) (ci := 17) F (mX17_hitting F.2.2.2.2.2.1 hO (⟨t_a0.1, by rw [ht]; decide⟩)  (V14_hitting_17 ht ▸ hf)) (zCw.of (FF := 2) (LL := 58) 1 F.ts q1250 q123 (by decide +kernel) (by have h1 := hR.1; have h2 := hR.2; constructor <;> (simp only [zRm] at h1 h2 ⊢; omega))) q1287 q2052 (va_Decl.abs (F.N _ (zNW_of q1230 rfl))) (by decide +kernel) q1249 q2060 rfl rfl (by decide) t_a0.1 ht rfl hr hd hw hl (z_fit hE hO)) kk
  · exact z_ci ⟨hE.2.1, hE.2.2.1⟩ (fun H locs ls hw hl => z_runU (q := a0) (ci := 18) F (mX18_hitting F.2.2.2.2.2.1 hO (⟨t_a0.1, by rw [ht]; decide⟩)  (V14_hitting_18 ht ▸ hf)) (zCw.of (FF := 3) (LL := 87) 1 F.ts q1226 q124 (by decide +kernel) (by have h1 := hR.1; have h2 := hR.2; constructor <;> (simp only [zRm] at h1 h2 ⊢; omega))) q1287 q2052 (va_Decl.abs (F.N _ (zNW_of q1230 rfl))) (by decide +kernel) q1225 q2053 rfl rfl (by decide) t_a0.1 ht rfl hr hd hw hl (z_fit hE hO)) kk
  · exact z_ci ⟨hE.2.1, hE.2.2.1⟩ (fun H locs ls hw hl => z_runU (q := a0) (ci := 19) F (mX17_hitting F.2.2.2.2.2.1 hO (⟨t_a0.1, by rw [ht]; decide⟩)  (V14_hitting_19 ht ▸ hf)) (zCw.of (FF := 2) (LL := 58) 1 F.ts q1250 q123 (by decide +kernel) (by have h1 := hR.1; have h2 := hR.2; constructor <;> (simp only [zRm] at h1 h2 ⊢; omega))) q1287 q2052 (va_Decl.abs (F.N _ (zNW_of q1230 rfl))) (by decide +kernel) q1249 q2056 rfl rfl (by decide) t_a0.1 ht rfl hr hd hw hl (z_fit hE hO)) kk
  · exact z_ci ⟨hE.2.1, hE.2.2.1⟩ (fun H locs ls hw hl => z_runU (q := a0) (ci := 20) F (mX14_hitting F.2.2.2.2.2.1 hO (⟨t_a0.1, by rw [ht]; decide⟩)  (V14_hitting_20 ht ▸ hf)) (zCw.of (FF := 1) (LL := 29) 1 F.ts q1232 q120 (by decide +kernel) (by have h1 := hR.1; have h2 := hR.2; constructor <;> (simp only [zRm] at h1 h2 ⊢; omega))) q1287 q2052 (va_Decl.abs (F.N _ (zNW_of q1230 rfl))) (by decide +kernel) q1231 q2059 rfl rfl (by decide) t_a0.1 ht rfl hr hd hw hl (z_fit hE hO)) kk
  · exact z_ci ⟨hE.2.1, hE.2.2.1⟩ (fun H locs ls hw hl => z_runU (q := a0) (ci := 21) F (mX18_hitting F.2.2.2.2.2.1 hO (⟨t_a0.1, by rw [ht]; decide⟩)  (V14_hitting_21 ht ▸ hf)) (zCw.of (FF := 3) (LL := 87) 1 F.ts q1226 q124 (by decide +kernel) (by have h1 := hR.1; have h2 := hR.2; constructor <;> (simp only [zRm] at h1 h2 ⊢; omega))) q1287 q2052 (va_Decl.abs (F.N _ (zNW_of q1230 rfl))) (by decide +kernel) q1225 q2055 rfl rfl (by decide) t_a0.1 ht rfl hr hd hw hl (z_fit hE hO)) kk
def X0_act (h : Hp) (x1 : Int32) (x2 : Int32) (x3 : Int32) : Option (Int32 × Hp) :=
  nm (zsi h 0 33 (0 : Int32)) fun h1 => bd (X0_isBody h1 x1) fun r3 h2 => if r3 = 0 then (some ((0 : Int32), h2)) else (bd (X0_in h2 x2 (0 : Int32) (3 : Int32)) fun r6 h5 => if r6 = 0 then (some ((0 : Int32), h5)) else (ck (0 ≤ x1.toInt ∧ x1.toInt < 50) <| nm (zr h5 15 x1.toNatClampNeg) fun o9 => if x2 = 0 then (dr o9 fun a22 => bd (VA_aiming h5 a22 x3) fun r24 h23 => some (r24, h23)) else (if x2 = (3 : Int32) then (dr o9 fun a19 => bd (VT_tells h5 a19 x3) fun r21 h20 => some (r21, h20)) else (if x2 = (1 : Int32) then (dr o9 fun a16 => bd (V14_throwsBy h5 a16 x3) fun r18 h17 => some (r18, h17)) else (dr o9 fun a13 => bd (V14_hitting h5 a13 x3) fun r15 h14 => some (r15, h14))))))
set_option maxHeartbeats 4000000 in
theorem mX0_act {l : Launch} {D : va_G} {tA : Nat → ClassId} {B : Nat} {kn : State → Prop} {h hE : Hp} {ad : Nat → Nat} {x1 : Int32} {x2 : Int32} {x3 : Int32} {r : Int32} (hkp : zKp D tA B kn) (hO_h : zOk h)  (hf : X0_act h x1 x2 x3 = some (r, hE)) : zM l D tA B kn yX0_act (ws_ yX0_act cX0_act 6 (Option.some Jvm.ClassFile.FieldType.int)) 8 233 h ad [.ref (ad 0), .int x1, .int x2, .int x3] hE (zQi D tA B h ad r hE) := by
  refine zM_of hkp (by decide +kernel) (Nat.le_of_ble_eq_true rfl) ?_
  intro p e s m args below meth c F hnm
  show ZW p l e (zRm 8 233 h) s m args below meth c (MQ below (zQi D tA B h ad r hE) args s (zc hE - zc h) (zs hE - zs h) (fun q => B ≤ q)) D tA B 6 (zc h) (zs h) ad 0 h [(0, .ref (ad 0)), (1, .int x1), (2, .int x2), (3, .int x3)] []
  replace hf := (X0_act.eq_1 h x1 x2 x3).symm.trans hf
  refine w_aload_n F dX0_act_0 0 rfl ?_
  refine w_iconst (v := 0) F dX0_act_1 rfl ?_
  refine pf_X0_399 F dX0_act_2 hO_h ?_
  replace hf := nm_o hf
  obtain ⟨h1, eh1, hf⟩ := hf
  refine w_nh eh1 ?_
  have Eh1 : zEx h h1 := by rw [eh1]; exact zEx.si
  have hO_h1 : zOk h1 := by rw [eh1]; exact hO_h.si
  refine w_aload_n F dX0_act_5 0 rfl ?_
  refine w_iload_n F dX0_act_6 1 rfl ?_
  replace hf := bd_o hf
  obtain ⟨r3, h2, qh2, hf⟩ := hf
  refine cl_X0_433 F dX0_act_7 hO_h1 Eh1 ⟨Nat.le_of_ble_eq_true rfl, Nat.le_of_ble_eq_true rfl⟩ qh2 (Nat.le_of_ble_eq_true rfl) (fun hO_h2 Eh2 hz_r3 => ?_)
  refine w_if_eq (tgt := 22) F dX0_act_10 (by decide) (fun c4 => ?_) (fun c4 => ?_)
  · replace hf := if_t c4 hf
    refine w_iconst (v := 0) F dX0_act_22 rfl ?_
    obtain ⟨rfl, rfl⟩ := ret_o hf
    exact z_iret F dX0_act_23 hO_h2 ((Eh1).tr Eh2)
  · replace hf := if_f c4 hf
    refine w_iload_n F dX0_act_13 2 rfl ?_
    refine w_iconst (v := 0) F dX0_act_14 rfl ?_
    refine w_iconst (v := 3) F dX0_act_15 rfl ?_
    replace hf := bd_o hf
    obtain ⟨r6, h5, qh5, hf⟩ := hf
    refine cl_X0_98 F dX0_act_16 hO_h2 ((Eh1).tr Eh2) ⟨Nat.le_of_ble_eq_true rfl, Nat.le_of_ble_eq_true rfl⟩ qh5 (Nat.le_of_ble_eq_true rfl) (fun hO_h5 Eh5 hz_r6 => ?_)
    refine w_if_ne (tgt := 24) F dX0_act_19 (by decide) (fun c7 => ?_) (fun c7 => ?_)
    · replace hf := if_f c7 hf
      refine w_aload_n F dX0_act_24 0 rfl ?_
      refine gf_X0_85 F dX0_act_25 hO_h5 ?_
      refine w_iload_n F dX0_act_28 1 rfl ?_
      replace hf := ck_o hf
      obtain ⟨c8, hf⟩ := hf
      refine z_aald (j := 7) F rfl (t := 107) rfl dX0_act_29 (zl_15 hO_h5) (zt_15 hO_h5) (by rw [zn_15 hO_h5]; exact vp_in_iff.mpr c8) (by decide) ?_
      replace hf := nm_o hf
      obtain ⟨o9, eo9, hf⟩ := hf
      refine w_no eo9 ?_
      have t_o9 : zTo h5 o9 52 := zTo.rd hO_h5 (zl_15 hO_h5) (zt_15 hO_h5) (t := 107) rfl eo9
      refine w_astoreo (i := 4) (lv' := [(4, va_re ad o9), (0, .ref (ad 0)), (1, .int x1), (2, .int x2), (3, .int x3)]) F dX0_act_30 (by decide) rfl ?_
      refine w_iload_n F dX0_act_32 3 rfl ?_
      refine w_if_ne (tgt := 49) F dX0_act_33 (by decide) (fun c10 => ?_) (fun c10 => ?_)
      · replace hf := if_f c10 hf
        refine w_iload_n F dX0_act_49 3 rfl ?_
        refine w_iconst (v := 3) F dX0_act_50 rfl ?_
        refine w_icmp_ne (tgt := 67) F dX0_act_51 (by decide) (fun c11 => ?_) (fun c11 => ?_)
        · replace hf := if_f c11 hf
          refine w_iload_n F dX0_act_67 3 rfl ?_
          refine w_iconst (v := 1) F dX0_act_68 rfl ?_
          refine w_icmp_ne (tgt := 81) F dX0_act_69 (by decide) (fun c12 => ?_) (fun c12 => ?_)
          · replace hf := if_f c12 hf
            refine w_aloado F dX0_act_81 0 rfl ?_
            refine w_iload_n F dX0_act_83 4 rfl ?_
            replace hf := dr_o hf
            obtain ⟨a13, ea13, hf⟩ := hf
            subst ea13
            have t_a13 : zTy h5 a13 52 := t_o9 a13 rfl
            replace hf := bd_o hf
            obtain ⟨r15, h14, qh14, hf⟩ := hf
            refine cl_X0_449 F dX0_act_84 hO_h5 (((Eh1).tr Eh2).tr Eh5) (t_a13) ⟨Nat.le_of_ble_eq_true rfl, Nat.le_of_ble_eq_true rfl⟩ qh14 (Nat.le_of_ble_eq_true rfl) (fun hO_h14 Eh14 => ?_)
            have t_a13 := t_a13.ex Eh14
            obtain ⟨rfl, rfl⟩ := ret_o hf
            exact z_iret F dX0_act_87 hO_h14 ((((Eh1).tr Eh2).tr Eh5).tr Eh14)
          · replace hf := if_t c12 hf
            refine w_aloado F dX0_act_72 0 rfl ?_
            refine w_iload_n F dX0_act_74 4 rfl ?_
            replace hf := dr_o hf
            obtain ⟨a16, ea16, hf⟩ := hf
            subst ea16
            have t_a16 : zTy h5 a16 52 := t_o9 a16 rfl
            replace hf := bd_o hf
            obtain ⟨r18, h17, qh17, hf⟩ := hf
            refine cl_X0_446 F dX0_act_75 hO_h5 (((Eh1).tr Eh2).tr Eh5) (t_a16) ⟨Nat.le_of_ble_eq_true rfl, Nat.le_of_ble_eq_true rfl⟩ qh17 (Nat.le_of_ble_eq_true rfl) (fun hO_h17 Eh17 => ?_)
            have t_a16 := t_a16.ex Eh17
            refine w_goto (tgt := 87) F dX0_act_78 (by decide) ?_
            obtain ⟨rfl, rfl⟩ := ret_o hf
            exact z_iret F dX0_act_87 hO_h17 ((((Eh1).tr Eh2).tr Eh5).tr Eh17)
        · replace hf := if_t c11 hf
          refine w_aloado F dX0_act_54 0 rfl ?_
          refine w_astoreo (i := 5) (lv' := [(5, va_re ad o9), (4, va_re ad o9), (0, .ref (ad 0)), (1, .int x1), (2, .int x2), (3, .int x3)]) F dX0_act_56 (by decide) (by cases o9 <;> rfl) ?_
          refine w_aloado F dX0_act_58 0 rfl ?_
          refine w_iload_n F dX0_act_60 5 rfl ?_
          replace hf := dr_o hf
          obtain ⟨a19, ea19, hf⟩ := hf
          subst ea19
          have t_a19 : zTy h5 a19 52 := t_o9 a19 rfl
          replace hf := bd_o hf
          obtain ⟨r21, h20, qh20, hf⟩ := hf
          refine cl_X0_441 F dX0_act_61 hO_h5 (((Eh1).tr Eh2).tr Eh5) (t_a19) ⟨Nat.le_of_ble_eq_true rfl, Nat.le_of_ble_eq_true rfl⟩ qh20 (Nat.le_of_ble_eq_true rfl) (fun hO_h20 Eh20 => ?_)
          have t_a19 := t_a19.ex Eh20
          obtain ⟨rfl, rfl⟩ := ret_o hf
          exact z_iret F dX0_act_66 hO_h20 ((((Eh1).tr Eh2).tr Eh5).tr Eh20)
      · replace hf := if_t c10 hf
        refine w_aloado F dX0_act_36 0 rfl ?_
        refine w_astoreo (i := 5) (lv' := [(5, va_re ad o9), (4, va_re ad o9), (0, .ref (ad 0)), (1, .int x1), (2, .int x2), (3, .int x3)]) F dX0_act_38 (by decide) (by cases o9 <;> rfl) ?_
        refine w_aloado F dX0_act_40 0 rfl ?_
        refine w_iload_n F dX0_act_42 5 rfl ?_
        replace hf := dr_o hf
        obtain ⟨a22, ea22, hf⟩ := hf
        subst ea22
        have t_a22 : zTy h5 a22 52 := t_o9 a22 rfl
        replace hf := bd_o hf
        obtain ⟨r24, h23, qh23, hf⟩ := hf
        refine cl_X0_436 F dX0_act_43 hO_h5 (((Eh1).tr Eh2).tr Eh5) (t_a22) ⟨Nat.le_of_ble_eq_true rfl, Nat.le_of_ble_eq_true rfl⟩ qh23 (Nat.le_of_ble_eq_true rfl) (fun hO_h23 Eh23 => ?_)
        have t_a22 := t_a22.ex Eh23
        obtain ⟨rfl, rfl⟩ := ret_o hf
        exact z_iret F dX0_act_48 hO_h23 ((((Eh1).tr Eh2).tr Eh5).tr Eh23)
    · replace hf := if_t c7 hf
      refine w_iconst (v := 0) F dX0_act_22 rfl ?_
      obtain ⟨rfl, rfl⟩ := ret_o hf
      exact z_iret F dX0_act_23 hO_h5 (((Eh1).tr Eh2).tr Eh5)
