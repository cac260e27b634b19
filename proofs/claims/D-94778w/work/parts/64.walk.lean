/-! printed by tools/genparts.py: the walks (m..): the machine runs as the predicates say -/
set_option maxRecDepth 100000
/-! FifthCardModel.laysWords(II)I -/
theorem ydX19_laysWords : yX19_laysWords.cls = "FifthCardModel" ∧ yX19_laysWords.cls ≠ "java/lang/invoke/MethodHandle" ∧ yX19_laysWords.cls ≠ "java/lang/invoke/VarHandle" ∧ (parseMethodDescriptor yX19_laysWords.desc).map (fun d => d.parameters.length) = some 2 := by decide +kernel
def rmX19_laysWords (mc ms : Nat) : Room := { frames := 3, cells := mc, slots := ms, locals := 74 }
set_option maxHeartbeats 4000000 in
theorem wX19_laysWords_187 {G : GT} {p : Program} {l : Launch} {e : Env} {s : State} {m : MethodId} {args : Array Value} {below : List Frame} {meth : Method} {c : Code} {H : Heap} {locs : List Loc} {ls : Array Slot} {a0 : Nat} {x2 : Int32} {x7 : Int32} {x9 : Int32} {x10 : Int32} {x11 : Int32} {z0 : Int32} {u : Hp} {K : Int32 → Hp → Prop} {J148 : Int32 → Int32 → Hp → Prop} (X : Mc G p s m args meth c RX19 cX19_laysWords 13) (hr : meth.sig.returnType = (some .int)) (hJ148 : ∀ (x10 : Int32) (x11 : Int32) (u : Hp) (H : Heap) (locs : List Loc) (ls : Array Slot) , J148 x10 x11 u → GW G u s H locs → lv_has ls 13 [(0, .ref a0), (2, .int x2), (7, .int x7), (9, .int x9), (10, .int x10), (11, .int x11)] → W p l e (rmX19_laysWords 0 0) s m args below meth c H locs 0 0 (QI G below K args s 0 0) (F0 m 148 ls [])) (h : bX19_laysWords_187 K J148 a0 x2 x7 x9 x10 x11 z0 u) (hw : GW G u s H locs) (hl : lv_has ls 13 [(0, .ref a0), (2, .int x2), (7, .int x7), (9, .int x9), (10, .int x10), (11, .int x11)]) : W p l e (rmX19_laysWords 0 0) s m args below meth c H locs 0 0 (QI G below K args s 0 0) (F0 m 187 ls [.int z0]) := by
  obtain ⟨hx, hb, hml, hown, hts, -⟩ := id X
  unfold bX19_laysWords_187 at h
  refine lv_istore (lv' := [(12, .int z0), (0, .ref a0), (2, .int x2), (7, .int x7), (9, .int x9), (10, .int x10), (11, .int x11)]) hx hb dX19_laysWords_187 hl (by decide) rfl (fun ls hl => ?_)
  refine lv_iload hx hb dX19_laysWords_189 (lv_at hl 3 rfl) ?_
  refine lv_iload hx hb dX19_laysWords_191 (lv_at hl 0 rfl) ?_
  refine lv_ishr hx hb dX19_laysWords_193 ?_
  refine lv_iconst (v := 1) hx hb dX19_laysWords_194 (by decide) ?_
  refine lv_iand hx hb dX19_laysWords_195 ?_
  refine lv_iconst (v := 1) hx hb dX19_laysWords_196 (by decide) ?_
  refine lv_icmp_ne (tgt := 203) hx hb dX19_laysWords_197 rfl (fun c_5 => ?_) (fun c_5 => ?_)
  · have h := h.2 c_5
    refine lv_aload_n hx hb dX19_laysWords_203 rfl (lv_at hl 1 rfl) ?_
    have hk_1 : kd u a0 = 16 := h.1
    have h := h.2
    obtain ⟨b_2, e_3, h⟩ := h
    refine g_getR X hw in_X19 hk_1 rfl 19 rfl (by decide) q1470 (fun _ z => z) e_3 dX19_laysWords_204 ?_
    refine lv_iload hx hb dX19_laysWords_207 (lv_at hl 5 rfl) ?_
    refine lv_iload hx hb dX19_laysWords_209 (lv_at hl 0 rfl) ?_
    have hk_4 : kd u b_2 = 101 := h.1
    have h := h.2
    refine g_iast X hw hk_4 h.1 dX19_laysWords_211 (fun H locs hw => ?_)
    have h := h.2
    refine lv_iinc (v := x10 + 1) (lv' := [(10, .int (x10 + 1)), (12, .int z0), (0, .ref a0), (2, .int x2), (7, .int x7), (9, .int x9), (11, .int x11)]) hx hb dX19_laysWords_212 hl (k := 5) rfl rfl (by decide) rfl (fun ls hl => ?_)
    refine lv_iinc (v := x11 + 1) (lv' := [(11, .int (x11 + 1)), (10, .int (x10 + 1)), (12, .int z0), (0, .ref a0), (2, .int x2), (7, .int x7), (9, .int x9)]) hx hb dX19_laysWords_215 hl (k := 6) rfl rfl (by decide) rfl (fun ls hl => ?_)
    refine lv_goto (tgt := 148) hx hb dX19_laysWords_218 rfl ?_
    exact hJ148 _ _ _ _ _ _ h hw (lv_sub hl [3, 4, 5, 6, 1, 0] rfl)
  · have h := h.1 c_5
    refine lv_goto (tgt := 215) hx hb dX19_laysWords_200 rfl ?_
    refine lv_iinc (v := x11 + 1) (lv' := [(11, .int (x11 + 1)), (12, .int z0), (0, .ref a0), (2, .int x2), (7, .int x7), (9, .int x9), (10, .int x10)]) hx hb dX19_laysWords_215 hl (k := 6) rfl rfl (by decide) rfl (fun ls hl => ?_)
    refine lv_goto (tgt := 148) hx hb dX19_laysWords_218 rfl ?_
    exact hJ148 _ _ _ _ _ _ h hw (lv_sub hl [2, 3, 4, 5, 6, 0] rfl)
set_option maxHeartbeats 4000000 in
theorem wX19_laysWords_148 {G : GT} {p : Program} {l : Launch} {e : Env} {s : State} {m : MethodId} {args : Array Value} {below : List Frame} {meth : Method} {c : Code} {H : Heap} {locs : List Loc} {ls : Array Slot} {a0 : Nat} {x2 : Int32} {x7 : Int32} {x9 : Int32} {x10 : Int32} {x11 : Int32} {u : Hp} {K : Int32 → Hp → Prop} (X : Mc G p s m args meth c RX19 cX19_laysWords 13) (hr : meth.sig.returnType = (some .int)) (h : jl3 (bX19_laysWords_148 K a0 x2 x7 x9) x10 x11 u) (hw : GW G u s H locs) (hl : lv_has ls 13 [(0, .ref a0), (2, .int x2), (7, .int x7), (9, .int x9), (10, .int x10), (11, .int x11)]) : W p l e (rmX19_laysWords 0 0) s m args below meth c H locs 0 0 (QI G below K args s 0 0) (F0 m 148 ls []) := by
  obtain ⟨hx, hb, hml, hown, hts, -⟩ := id X
  obtain ⟨I, μ, h0, hs⟩ := h
  have key : ∀ (n : Nat) (x10 : Int32) (x11 : Int32) (u : Hp) (H : Heap) (locs : List Loc) (ls : Array Slot) , μ x10 x11 u < n → I x10 x11 u → GW G u s H locs → lv_has ls 13 [(0, .ref a0), (2, .int x2), (7, .int x7), (9, .int x9), (10, .int x10), (11, .int x11)] → W p l e (rmX19_laysWords 0 0) s m args below meth c H locs 0 0 (QI G below K args s 0 0) (F0 m 148 ls []) := by
    intro n
    induction n with
    | zero =>
      intro x10 x11 u H locs ls hn
      exact absurd hn (Nat.not_lt_zero _)
    | succ n ih =>
      intro x10 x11 u H locs ls hn hI hw hl
      have h := hs x10 x11 u hI
      unfold bX19_laysWords_148 at h
      have hJ148 : ∀ (x10' : Int32) (x11' : Int32) (u' : Hp) (H : Heap) (locs : List Loc) (ls : Array Slot) , (I x10' x11' u' ∧ μ x10' x11' u' < μ x10 x11 u) → GW G u' s H locs → lv_has ls 13 [(0, .ref a0), (2, .int x2), (7, .int x7), (9, .int x9), (10, .int x10'), (11, .int x11')] → W p l e (rmX19_laysWords 0 0) s m args below meth c H locs 0 0 (QI G below K args s 0 0) (F0 m 148 ls []) := fun x10' x11' u' H locs ls h hw hl => ih x10' x11' u' H locs ls (Nat.lt_of_lt_of_le h.2 (Nat.le_of_lt_succ hn)) h.1 hw hl
      refine lv_iload hx hb dX19_laysWords_148 (lv_at hl 5 rfl) ?_
      refine lv_aload_n hx hb dX19_laysWords_150 rfl (lv_at hl 0 rfl) ?_
      have hk_6 : kd u a0 = 16 := h.1
      have h := h.2
      obtain ⟨b_7, e_8, h⟩ := h
      refine g_getR X hw in_X19 hk_6 rfl 3 rfl (by decide) q1454 (fun _ z => z) e_8 dX19_laysWords_151 ?_
      have hk_9 : kd u b_7 = 20 := h.1
      have h := h.2
      refine g_getNI X hw (host := "FifthCardModel") in_X23 hk_9 rfl 2 rfl (by decide) (List.mem_of_getElem? (i := 2) rfl) (fun _ z => z) dX19_laysWords_154 ?_
      refine lv_icmp_ge (tgt := 221) hx hb dX19_laysWords_157 rfl (fun c_33 => ?_) (fun c_33 => ?_)
      · have h := h.1 c_33
        refine lv_aload_n hx hb dX19_laysWords_221 rfl (lv_at hl 0 rfl) ?_
        refine g_callio hw (g_V X hw (mX19_isOneOrder l G _ _ _ h) 0 (lw_V q1843 q1845 qs72 q143 q1846) rfl rfl ydX19_isOneOrder ⟨Nat.le_of_ble_eq_true rfl, Nat.le_of_ble_eq_true rfl⟩ (g_recv X hw (ci := 15) (q := (RX19, TX19, 46)) hk_6 rfl) (As := []) (rest := []) rfl hl.1 rfl (Nat.le_of_ble_eq_true rfl) dX19_laysWords_222 ⟨Nat.le_refl _, Nat.le_refl _⟩) (fun r_10 H locs h hw => ?_)
        refine lv_if_eq (tgt := 257) hx hb dX19_laysWords_225 rfl (fun c_27 => ?_) (fun c_27 => ?_)
        · have h := h.1 c_27
          refine lv_aload_n hx hb dX19_laysWords_257 rfl (lv_at hl 0 rfl) ?_
          refine g_getR X hw in_X19 hk_6 rfl 3 rfl (by decide) q1454 (fun _ z => z) e_8 dX19_laysWords_258 ?_
          refine g_getNI X hw (host := "FifthCardModel") in_X23 hk_9 rfl 4 rfl (by decide) (List.mem_of_getElem? (i := 7) rfl) (fun _ z => z) dX19_laysWords_261 ?_
          refine lv_aload_n hx hb dX19_laysWords_264 rfl (lv_at hl 0 rfl) ?_
          refine g_getR X hw in_X19 hk_6 rfl 3 rfl (by decide) q1454 (fun _ z => z) e_8 dX19_laysWords_265 ?_
          refine g_getNI X hw (host := "FifthCardModel") in_X23 hk_9 rfl 4 rfl (by decide) (List.mem_of_getElem? (i := 7) rfl) (fun _ z => z) dX19_laysWords_268 ?_
          refine g_calllo hw (g_S X hw (mX19_rowsOf l G _ _ _ _ h) 2 (lw_S q1767 q1762 q143 q1763) rfl rfl ydX19_rowsOf ⟨Nat.le_of_ble_eq_true rfl, Nat.le_of_ble_eq_true rfl⟩ (As := [.int (FI u 2304 b_7), .int (FI u 2304 b_7)]) (rest := []) rfl hl.1 rfl (Nat.le_of_ble_eq_true rfl) dX19_laysWords_271 ⟨Nat.le_refl _, Nat.le_refl _⟩) (fun r_11 H locs h hw => ?_)
          refine lv_l2i hx hb dX19_laysWords_274 rfl ?_
          refine lv_istore (lv' := [(11, .int (r_11.toInt32)), (0, .ref a0), (2, .int x2), (7, .int x7), (9, .int x9), (10, .int x10)]) hx hb dX19_laysWords_275 hl (by decide) rfl (fun ls hl => ?_)
          refine lv_aload_n hx hb dX19_laysWords_277 rfl (lv_at hl 1 rfl) ?_
          refine lv_iload hx hb dX19_laysWords_278 (lv_at hl 4 rfl) ?_
          refine lv_iload hx hb dX19_laysWords_280 (lv_at hl 0 rfl) ?_
          refine lv_irem hx hb dX19_laysWords_282 h.1 ?_
          have h := h.2
          refine lv_iconst (v := 0) hx hb dX19_laysWords_283 (by decide) ?_
          refine g_callv hw (g_V X hw (mX19_orders l G _ _ _ _ _ h) 2 (lw_V q1952 q1954 qs87 q143 q1955) rfl rfl ydX19_orders ⟨Nat.le_of_ble_eq_true rfl, Nat.le_of_ble_eq_true rfl⟩ (g_recv X hw (ci := 15) (q := (RX19, TX19, 46)) hk_6 rfl) (As := [.int (jrem x9 (r_11.toInt32)), .int 0]) (rest := []) rfl hl.1 rfl (Nat.le_of_ble_eq_true rfl) dX19_laysWords_284 ⟨Nat.le_refl _, Nat.le_refl _⟩) (fun u_12 H locs h hw => ?_)
          refine lv_aload_n hx hb dX19_laysWords_287 rfl (lv_at hl 1 rfl) ?_
          refine lv_aload_n hx hb dX19_laysWords_288 rfl (lv_at hl 1 rfl) ?_
          have hk_13 : kd u_12 a0 = 16 := h.1
          have h := h.2
          obtain ⟨b_14, e_15, h⟩ := h
          refine g_getR X hw in_X19 hk_13 rfl 19 rfl (by decide) q1470 (fun _ z => z) e_15 dX19_laysWords_289 ?_
          refine lv_iconst (v := 0) hx hb dX19_laysWords_292 (by decide) ?_
          refine g_callio hw (g_V X hw (mX19_rowNumber l G _ _ _ _ _ h) 2 (lw_V q1859 q1861 qs76 q143 q1862) rfl rfl ydX19_rowNumber ⟨Nat.le_of_ble_eq_true rfl, Nat.le_of_ble_eq_true rfl⟩ (g_recv X hw (ci := 15) (q := (RX19, TX19, 46)) hk_13 rfl) (As := [.ref b_14, .int 0]) (rest := []) rfl hl.1 rfl (Nat.le_of_ble_eq_true rfl) dX19_laysWords_293 ⟨Nat.le_refl _, Nat.le_refl _⟩) (fun r_16 H locs h hw => ?_)
          refine lv_aload_n hx hb dX19_laysWords_296 rfl (lv_at hl 1 rfl) ?_
          obtain ⟨b_17, e_18, h⟩ := h
          refine g_getR X hw in_X19 hk_13 rfl 3 rfl (by decide) q1454 (fun _ z => z) e_18 dX19_laysWords_297 ?_
          have hk_19 : kd u_12 b_17 = 20 := h.1
          have h := h.2
          refine g_callio hw (g_V X hw (mX23_tilts l G _ _ _ h) 0 (lw_V q1863 q1864 q1865 q153 q1866) rfl rfl ydX23_tilts ⟨Nat.le_of_ble_eq_true rfl, Nat.le_of_ble_eq_true rfl⟩ (g_recv X hw (ci := 19) (q := (RX23, TX23, 15)) hk_19 rfl) (As := []) (rest := [.int r_16]) rfl hl.1 rfl (Nat.le_of_ble_eq_true rfl) dX19_laysWords_300 ⟨Nat.le_refl _, Nat.le_refl _⟩) (fun r_20 H locs h hw => ?_)
          refine lv_imul hx hb dX19_laysWords_303 ?_
          refine lv_iload hx hb dX19_laysWords_304 (lv_at hl 4 rfl) ?_
          refine lv_iload hx hb dX19_laysWords_306 (lv_at hl 0 rfl) ?_
          refine lv_idiv hx hb dX19_laysWords_308 h.1 ?_
          have h := h.2
          refine lv_aload_n hx hb dX19_laysWords_309 rfl (lv_at hl 1 rfl) ?_
          refine g_getR X hw in_X19 hk_13 rfl 3 rfl (by decide) q1454 (fun _ z => z) e_18 dX19_laysWords_310 ?_
          refine g_callio hw (g_V X hw (mX23_tilts l G _ _ _ h) 0 (lw_V q1863 q1864 q1865 q153 q1866) rfl rfl ydX23_tilts ⟨Nat.le_of_ble_eq_true rfl, Nat.le_of_ble_eq_true rfl⟩ (g_recv X hw (ci := 19) (q := (RX23, TX23, 15)) hk_19 rfl) (As := []) (rest := [.int (x9 / (r_11.toInt32)), .int (r_16 * r_20)]) rfl hl.1 rfl (Nat.le_of_ble_eq_true rfl) dX19_laysWords_313 ⟨Nat.le_refl _, Nat.le_refl _⟩) (fun r_21 H locs h hw => ?_)
          refine lv_irem hx hb dX19_laysWords_316 h.1 ?_
          have h := h.2
          refine lv_iadd hx hb dX19_laysWords_317 ?_
          exact g_iret X hw hr h (Nat.le_refl _) (Nat.le_refl _) dX19_laysWords_318
        · have h := h.2 c_27
          refine lv_aload_n hx hb dX19_laysWords_228 rfl (lv_at hl 0 rfl) ?_
          refine lv_aload_n hx hb dX19_laysWords_229 rfl (lv_at hl 0 rfl) ?_
          obtain ⟨b_22, e_23, h⟩ := h
          refine g_getR X hw in_X19 hk_6 rfl 19 rfl (by decide) q1470 (fun _ z => z) e_23 dX19_laysWords_230 ?_
          refine lv_iconst (v := 0) hx hb dX19_laysWords_233 (by decide) ?_
          refine g_callio hw (g_V X hw (mX19_rowNumber l G _ _ _ _ _ h) 2 (lw_V q1859 q1861 qs76 q143 q1862) rfl rfl ydX19_rowNumber ⟨Nat.le_of_ble_eq_true rfl, Nat.le_of_ble_eq_true rfl⟩ (g_recv X hw (ci := 15) (q := (RX19, TX19, 46)) hk_6 rfl) (As := [.ref b_22, .int 0]) (rest := []) rfl hl.1 rfl (Nat.le_of_ble_eq_true rfl) dX19_laysWords_234 ⟨Nat.le_refl _, Nat.le_refl _⟩) (fun r_24 H locs h hw => ?_)
          refine lv_aload_n hx hb dX19_laysWords_237 rfl (lv_at hl 0 rfl) ?_
          refine g_getR X hw in_X19 hk_6 rfl 3 rfl (by decide) q1454 (fun _ z => z) e_8 dX19_laysWords_238 ?_
          refine g_callio hw (g_V X hw (mX23_tilts l G _ _ _ h) 0 (lw_V q1863 q1864 q1865 q153 q1866) rfl rfl ydX23_tilts ⟨Nat.le_of_ble_eq_true rfl, Nat.le_of_ble_eq_true rfl⟩ (g_recv X hw (ci := 19) (q := (RX23, TX23, 15)) hk_9 rfl) (As := []) (rest := [.int r_24]) rfl hl.1 rfl (Nat.le_of_ble_eq_true rfl) dX19_laysWords_241 ⟨Nat.le_refl _, Nat.le_refl _⟩) (fun r_25 H locs h hw => ?_)
          refine lv_imul hx hb dX19_laysWords_244 ?_
          refine lv_iload hx hb dX19_laysWords_245 (lv_at hl 3 rfl) ?_
          refine lv_aload_n hx hb dX19_laysWords_247 rfl (lv_at hl 0 rfl) ?_
          refine g_getR X hw in_X19 hk_6 rfl 3 rfl (by decide) q1454 (fun _ z => z) e_8 dX19_laysWords_248 ?_
          refine g_callio hw (g_V X hw (mX23_tilts l G _ _ _ h) 0 (lw_V q1863 q1864 q1865 q153 q1866) rfl rfl ydX23_tilts ⟨Nat.le_of_ble_eq_true rfl, Nat.le_of_ble_eq_true rfl⟩ (g_recv X hw (ci := 19) (q := (RX23, TX23, 15)) hk_9 rfl) (As := []) (rest := [.int x9, .int (r_24 * r_25)]) rfl hl.1 rfl (Nat.le_of_ble_eq_true rfl) dX19_laysWords_251 ⟨Nat.le_refl _, Nat.le_refl _⟩) (fun r_26 H locs h hw => ?_)
          refine lv_irem hx hb dX19_laysWords_254 h.1 ?_
          have h := h.2
          refine lv_iadd hx hb dX19_laysWords_255 ?_
          exact g_iret X hw hr h (Nat.le_refl _) (Nat.le_refl _) dX19_laysWords_256
      · have h := h.2 c_33
        refine lv_aload_n hx hb dX19_laysWords_160 rfl (lv_at hl 0 rfl) ?_
        refine g_getR X hw in_X19 hk_6 rfl 3 rfl (by decide) q1454 (fun _ z => z) e_8 dX19_laysWords_161 ?_
        refine g_getNI X hw (host := "FifthCardModel") in_X23 hk_9 rfl 7 rfl (by decide) (List.mem_of_getElem? (i := 1) rfl) (fun _ z => z) dX19_laysWords_164 ?_
        refine lv_if_eq (tgt := 180) hx hb dX19_laysWords_167 rfl (fun c_32 => ?_) (fun c_32 => ?_)
        · have h := h.1 c_32
          refine lv_aload_n hx hb dX19_laysWords_180 rfl (lv_at hl 0 rfl) ?_
          obtain ⟨b_28, e_29, h⟩ := h
          refine g_getR X hw in_X19 hk_6 rfl 20 rfl (by decide) q1471 (fun _ z => z) e_29 dX19_laysWords_181 ?_
          refine lv_iload hx hb dX19_laysWords_184 (lv_at hl 5 rfl) ?_
          have hk_30 : kd u b_28 = 101 := h.1
          have h := h.2
          refine g_iald X hw hk_30 h.1 dX19_laysWords_186 ?_
          have h := h.2
          exact wX19_laysWords_187 X hr hJ148  h hw (lv_sub hl [0, 1, 2, 3, 4, 5] rfl)
        · have h := h.2 c_32
          refine lv_aload_n hx hb dX19_laysWords_170 rfl (lv_at hl 0 rfl) ?_
          refine lv_iload_n hx hb dX19_laysWords_171 rfl (lv_at hl 1 rfl) ?_
          refine lv_iload hx hb dX19_laysWords_172 (lv_at hl 5 rfl) ?_
          refine g_callio hw (g_V X hw (mX19_cardOf l G _ _ _ _ _ h) 2 (lw_V q1851 q1853 qs74 q143 q1854) rfl rfl ydX19_cardOf ⟨Nat.le_of_ble_eq_true rfl, Nat.le_of_ble_eq_true rfl⟩ (g_recv X hw (ci := 15) (q := (RX19, TX19, 46)) hk_6 rfl) (As := [.int x2, .int x11]) (rest := []) rfl hl.1 rfl (Nat.le_of_ble_eq_true rfl) dX19_laysWords_174 ⟨Nat.le_refl _, Nat.le_refl _⟩) (fun r_31 H locs h hw => ?_)
          refine lv_goto (tgt := 187) hx hb dX19_laysWords_177 rfl ?_
          exact wX19_laysWords_187 X hr hJ148  h hw (lv_sub hl [0, 1, 2, 3, 4, 5] rfl)
  exact key _ _ _ _ _ _ _ (Nat.lt_succ_self _) h0 hw hl
set_option maxHeartbeats 4000000 in
theorem wX19_laysWords_84 {G : GT} {p : Program} {l : Launch} {e : Env} {s : State} {m : MethodId} {args : Array Value} {below : List Frame} {meth : Method} {c : Code} {H : Heap} {locs : List Loc} {ls : Array Slot} {a0 : Nat} {x1 : Int32} {x2 : Int32} {x5 : Int32} {x6 : Int32} {x7 : Int32} {z0 : Int32} {u : Hp} {K : Int32 → Hp → Prop} (X : Mc G p s m args meth c RX19 cX19_laysWords 13) (hr : meth.sig.returnType = (some .int)) (h : bX19_laysWords_84 K a0 x1 x2 x5 x6 x7 z0 u) (hw : GW G u s H locs) (hl : lv_has ls 13 [(0, .ref a0), (1, .int x1), (2, .int x2), (5, .int x5), (6, .int x6), (7, .int x7)]) : W p l e (rmX19_laysWords 0 0) s m args below meth c H locs 0 0 (QI G below K args s 0 0) (F0 m 84 ls [.int z0]) := by
  obtain ⟨hx, hb, hml, hown, hts, -⟩ := id X
  unfold bX19_laysWords_84 at h
  refine lv_istore (lv' := [(8, .int z0), (0, .ref a0), (1, .int x1), (2, .int x2), (5, .int x5), (6, .int x6), (7, .int x7)]) hx hb dX19_laysWords_84 hl (by decide) rfl (fun ls hl => ?_)
  refine lv_aload_n hx hb dX19_laysWords_86 rfl (lv_at hl 1 rfl) ?_
  refine lv_iload_n hx hb dX19_laysWords_87 rfl (lv_at hl 2 rfl) ?_
  refine lv_iconst (v := 5) hx hb dX19_laysWords_88 (by decide) ?_
  refine lv_irem hx hb dX19_laysWords_89 (by decide) ?_
  refine lv_iload hx hb dX19_laysWords_90 (lv_at hl 0 rfl) ?_
  refine lv_iload_n hx hb dX19_laysWords_92 rfl (lv_at hl 3 rfl) ?_
  refine lv_iload hx hb dX19_laysWords_93 (lv_at hl 6 rfl) ?_
  have hk_34 : kd u a0 = 16 := h.1
  have h := h.2
  refine g_callio hw (g_V X hw (mX19_tells l G _ _ _ _ _ _ _ h) 4 (lw_V q1968 q1970 qs91 q143 q1971) rfl rfl ydX19_tells ⟨Nat.le_of_ble_eq_true rfl, Nat.le_of_ble_eq_true rfl⟩ (g_recv X hw (ci := 15) (q := (RX19, TX19, 46)) hk_34 rfl) (As := [.int (jrem x1 5), .int z0, .int x2, .int x7]) (rest := []) rfl hl.1 rfl (Nat.le_of_ble_eq_true rfl) dX19_laysWords_95 ⟨Nat.le_refl _, Nat.le_refl _⟩) (fun r_35 H locs h hw => ?_)
  refine lv_istore (lv' := [(9, .int r_35), (8, .int z0), (0, .ref a0), (1, .int x1), (2, .int x2), (5, .int x5), (6, .int x6), (7, .int x7)]) hx hb dX19_laysWords_98 hl (by decide) rfl (fun ls hl => ?_)
  refine lv_aload_n hx hb dX19_laysWords_100 rfl (lv_at hl 2 rfl) ?_
  obtain ⟨b_36, e_37, h⟩ := h
  refine g_getR X hw in_X19 hk_34 rfl 3 rfl (by decide) q1454 (fun _ z => z) e_37 dX19_laysWords_101 ?_
  have hk_38 : kd u b_36 = 20 := h.1
  have h := h.2
  refine g_getNI X hw (host := "FifthCardModel") in_X23 hk_38 rfl 3 rfl (by decide) (List.mem_of_getElem? (i := 6) rfl) (fun _ z => z) dX19_laysWords_104 ?_
  refine lv_iconst (v := 2) hx hb dX19_laysWords_107 (by decide) ?_
  refine lv_icmp_ne (tgt := 142) hx hb dX19_laysWords_108 rfl (fun c_42 => ?_) (fun c_42 => ?_)
  · have h := h.2 c_42
    refine lv_iconst (v := 0) hx hb dX19_laysWords_142 (by decide) ?_
    refine lv_istore (lv' := [(10, .int 0), (9, .int r_35), (8, .int z0), (0, .ref a0), (1, .int x1), (2, .int x2), (5, .int x5), (6, .int x6), (7, .int x7)]) hx hb dX19_laysWords_143 hl (by decide) rfl (fun ls hl => ?_)
    refine lv_iconst (v := 0) hx hb dX19_laysWords_145 (by decide) ?_
    refine lv_istore (lv' := [(11, .int 0), (10, .int 0), (9, .int r_35), (8, .int z0), (0, .ref a0), (1, .int x1), (2, .int x2), (5, .int x5), (6, .int x6), (7, .int x7)]) hx hb dX19_laysWords_146 hl (by decide) rfl (fun ls hl => ?_)
    exact wX19_laysWords_148 X hr  h hw (lv_sub hl [4, 6, 9, 2, 1, 0] rfl)
  · have h := h.1 c_42
    refine lv_iload hx hb dX19_laysWords_111 (lv_at hl 0 rfl) ?_
    refine lv_aload_n hx hb dX19_laysWords_113 rfl (lv_at hl 2 rfl) ?_
    refine g_getR X hw in_X19 hk_34 rfl 3 rfl (by decide) q1454 (fun _ z => z) e_37 dX19_laysWords_114 ?_
    refine g_getNI X hw (host := "FifthCardModel") in_X23 hk_38 rfl 0 rfl (by decide) (List.mem_of_getElem? (i := 0) rfl) (fun _ z => z) dX19_laysWords_117 ?_
    refine lv_imul hx hb dX19_laysWords_120 ?_
    refine lv_aload_n hx hb dX19_laysWords_121 rfl (lv_at hl 2 rfl) ?_
    refine lv_iload_n hx hb dX19_laysWords_122 rfl (lv_at hl 3 rfl) ?_
    refine lv_iconst (v := 5) hx hb dX19_laysWords_123 (by decide) ?_
    refine lv_irem hx hb dX19_laysWords_124 (by decide) ?_
    refine lv_iload hx hb dX19_laysWords_125 (lv_at hl 5 rfl) ?_
    refine lv_iload hx hb dX19_laysWords_127 (lv_at hl 6 rfl) ?_
    refine lv_iadd hx hb dX19_laysWords_129 ?_
    refine lv_iload hx hb dX19_laysWords_130 (lv_at hl 1 rfl) ?_
    refine lv_isub hx hb dX19_laysWords_132 ?_
    refine lv_iload_n hx hb dX19_laysWords_133 rfl (lv_at hl 4 rfl) ?_
    refine lv_iload hx hb dX19_laysWords_134 (lv_at hl 7 rfl) ?_
    refine g_callio hw (g_V X hw (mX19_tells l G _ _ _ _ _ _ _ h) 4 (lw_V q1968 q1970 qs91 q143 q1971) rfl rfl ydX19_tells ⟨Nat.le_of_ble_eq_true rfl, Nat.le_of_ble_eq_true rfl⟩ (g_recv X hw (ci := 15) (q := (RX19, TX19, 46)) hk_34 rfl) (As := [.int (jrem x1 5), .int ((x5 + x6) - z0), .int x2, .int x7]) (rest := [.int (r_35 * (FI u 2300 b_36))]) rfl hl.1 rfl (Nat.le_of_ble_eq_true rfl) dX19_laysWords_136 ⟨Nat.le_refl _, Nat.le_refl _⟩) (fun r_39 H locs h hw => ?_)
    refine lv_iadd hx hb dX19_laysWords_139 ?_
    refine lv_topi (fun x9_40 e_41 => ?_)
    have h := h x9_40 e_41
    refine lv_istore (lv' := [(9, .int x9_40), (8, .int z0), (0, .ref a0), (1, .int x1), (2, .int x2), (5, .int x5), (6, .int x6), (7, .int x7)]) hx hb dX19_laysWords_140 hl (by decide) rfl (fun ls hl => ?_)
    refine lv_iconst (v := 0) hx hb dX19_laysWords_142 (by decide) ?_
    refine lv_istore (lv' := [(10, .int 0), (9, .int x9_40), (8, .int z0), (0, .ref a0), (1, .int x1), (2, .int x2), (5, .int x5), (6, .int x6), (7, .int x7)]) hx hb dX19_laysWords_143 hl (by decide) rfl (fun ls hl => ?_)
    refine lv_iconst (v := 0) hx hb dX19_laysWords_145 (by decide) ?_
    refine lv_istore (lv' := [(11, .int 0), (10, .int 0), (9, .int x9_40), (8, .int z0), (0, .ref a0), (1, .int x1), (2, .int x2), (5, .int x5), (6, .int x6), (7, .int x7)]) hx hb dX19_laysWords_146 hl (by decide) rfl (fun ls hl => ?_)
    exact wX19_laysWords_148 X hr  h hw (lv_sub hl [4, 6, 9, 2, 1, 0] rfl)
set_option maxHeartbeats 4000000 in
theorem wX19_laysWords_57 {G : GT} {p : Program} {l : Launch} {e : Env} {s : State} {m : MethodId} {args : Array Value} {below : List Frame} {meth : Method} {c : Code} {H : Heap} {locs : List Loc} {ls : Array Slot} {a0 : Nat} {x1 : Int32} {x2 : Int32} {x5 : Int32} {z0 : Int32} {u : Hp} {K : Int32 → Hp → Prop} (X : Mc G p s m args meth c RX19 cX19_laysWords 13) (hr : meth.sig.returnType = (some .int)) (h : bX19_laysWords_57 K a0 x1 x2 x5 z0 u) (hw : GW G u s H locs) (hl : lv_has ls 13 [(0, .ref a0), (1, .int x1), (2, .int x2), (5, .int x5)]) : W p l e (rmX19_laysWords 0 0) s m args below meth c H locs 0 0 (QI G below K args s 0 0) (F0 m 57 ls [.int z0]) := by
  obtain ⟨hx, hb, hml, hown, hts, -⟩ := id X
  unfold bX19_laysWords_57 at h
  refine lv_istore (lv' := [(6, .int z0), (0, .ref a0), (1, .int x1), (2, .int x2), (5, .int x5)]) hx hb dX19_laysWords_57 hl (by decide) rfl (fun ls hl => ?_)
  refine lv_iconst (v := 1) hx hb dX19_laysWords_59 (by decide) ?_
  refine lv_iload hx hb dX19_laysWords_60 (lv_at hl 4 rfl) ?_
  refine lv_ishl hx hb dX19_laysWords_62 ?_
  refine lv_iconst (v := 1) hx hb dX19_laysWords_63 (by decide) ?_
  refine lv_iload hx hb dX19_laysWords_64 (lv_at hl 0 rfl) ?_
  refine lv_ishl hx hb dX19_laysWords_66 ?_
  refine lv_ior hx hb dX19_laysWords_67 ?_
  refine lv_istore (lv' := [(7, .int ((jshl 1 x5) ||| (jshl 1 z0))), (6, .int z0), (0, .ref a0), (1, .int x1), (2, .int x2), (5, .int x5)]) hx hb dX19_laysWords_68 hl (by decide) rfl (fun ls hl => ?_)
  refine lv_iload hx hb dX19_laysWords_70 (lv_at hl 5 rfl) ?_
  refine lv_iload hx hb dX19_laysWords_72 (lv_at hl 1 rfl) ?_
  refine lv_icmp_ge (tgt := 82) hx hb dX19_laysWords_74 rfl (fun c_43 => ?_) (fun c_43 => ?_)
  · have h := h.1 c_43
    refine lv_iload hx hb dX19_laysWords_82 (lv_at hl 1 rfl) ?_
    exact wX19_laysWords_84 X hr  h hw (lv_sub hl [2, 3, 4, 5, 1, 0] rfl)
  · have h := h.2 c_43
    refine lv_iload hx hb dX19_laysWords_77 (lv_at hl 5 rfl) ?_
    refine lv_goto (tgt := 84) hx hb dX19_laysWords_79 rfl ?_
    exact wX19_laysWords_84 X hr  h hw (lv_sub hl [2, 3, 4, 5, 1, 0] rfl)
set_option maxHeartbeats 4000000 in
theorem mX19_laysWords (l : Launch) (G : GT) (u : Hp) (a0 : Nat) (x1 : Int32) (x2 : Int32) (K : Int32 → Hp → Prop) (h : pX19_laysWords u a0 x1 x2 K) : Met l yX19_laysWords (ws_ yX19_laysWords cX19_laysWords 13 (some .int)) (rmX19_laysWords 0 0) (va_Pc [.ref a0, .int x1, .int x2] (GB G u)) (va_Qi K (fun u t => GH G u t.heap) (GA G)) 0 0 (GA G) := by
  refine Met.ofW (cc := cX19_laysWords) (maxL := 13) (ret := (some .int)) (by decide) rfl ?_
  intro p e s m args below meth c s₁ B hml hv
  obtain ⟨rfl, hv⟩ := hv
  have X := Mc_of (own := RX19) B hml rfl hv
  have hw : GW G u s s.heap [] := ⟨hv.2.1, va_S.rf⟩
  have hr := B.returns
  obtain ⟨hx, hb, hml, hown, hts, -⟩ := id X
  have hl := lv_entry ([.ref a0, .int x1, .int x2]) (n := 13) (Nat.le_of_ble_eq_true rfl)
  rw [lg_entry_eq]
  generalize (lg_sl ([.ref a0, .int x1, .int x2]) ++ List.replicate (13 - (lg_sl ([.ref a0, .int x1, .int x2])).length) Slot.unset).toArray = ls at hl ⊢
  have hl : lv_has ls 13 [(0, .ref a0), (1, .int x1), (2, .int x2)] := hl
  change W p l e (rmX19_laysWords 0 0) s m _ below meth c s.heap [] 0 0 (QI G below K _ s 0 0) (F0 m 0 ls [])
  unfold pX19_laysWords at h
  refine lv_aload_n hx hb dX19_laysWords_0 rfl (lv_at hl 0 rfl) ?_
  refine lv_iload_n hx hb dX19_laysWords_1 rfl (lv_at hl 2 rfl) ?_
  have hk_44 : kd u a0 = 16 := h.1
  have h := h.2
  refine g_callv hw (g_V X hw (mX19_sorts l G _ _ _ _ h) 1 (lw_V q1960 q1962 qs89 q143 q1963) rfl rfl ydX19_sorts ⟨Nat.le_of_ble_eq_true rfl, Nat.le_of_ble_eq_true rfl⟩ (g_recv X hw (ci := 15) (q := (RX19, TX19, 46)) hk_44 rfl) (As := [.int x2]) (rest := []) rfl hl.1 rfl (Nat.le_of_ble_eq_true rfl) dX19_laysWords_2 ⟨Nat.le_refl _, Nat.le_refl _⟩) (fun u_45 H locs h hw => ?_)
  refine lv_aload_n hx hb dX19_laysWords_5 rfl (lv_at hl 0 rfl) ?_
  refine lv_iload_n hx hb dX19_laysWords_6 rfl (lv_at hl 1 rfl) ?_
  refine lv_iconst (v := 5) hx hb dX19_laysWords_7 (by decide) ?_
  refine lv_idiv hx hb dX19_laysWords_8 (by decide) ?_
  have hk_46 : kd u_45 a0 = 16 := h.1
  have h := h.2
  refine g_callio hw (g_V X hw (mX19_keepsAt l G _ _ _ _ h) 1 (lw_V q1964 q1966 qs90 q143 q1967) rfl rfl ydX19_keepsAt ⟨Nat.le_of_ble_eq_true rfl, Nat.le_of_ble_eq_true rfl⟩ (g_recv X hw (ci := 15) (q := (RX19, TX19, 46)) hk_46 rfl) (As := [.int (x1 / 5)]) (rest := []) rfl hl.1 rfl (Nat.le_of_ble_eq_true rfl) dX19_laysWords_9 ⟨Nat.le_refl _, Nat.le_refl _⟩) (fun r_47 H locs h hw => ?_)
  refine lv_istore_n (lv' := [(3, .int r_47), (0, .ref a0), (1, .int x1), (2, .int x2)]) hx hb dX19_laysWords_12 rfl hl (by decide) rfl (fun ls hl => ?_)
  refine lv_iload_n hx hb dX19_laysWords_13 rfl (lv_at hl 0 rfl) ?_
  refine lv_iconst (v := 1) hx hb dX19_laysWords_14 (by decide) ?_
  refine lv_iadd hx hb dX19_laysWords_15 ?_
  refine lv_aload_n hx hb dX19_laysWords_16 rfl (lv_at hl 1 rfl) ?_
  obtain ⟨b_48, e_49, h⟩ := h
  refine g_getR X hw in_X19 hk_46 rfl 3 rfl (by decide) q1454 (fun _ z => z) e_49 dX19_laysWords_17 ?_
  have hk_50 : kd u_45 b_48 = 20 := h.1
  have h := h.2
  refine g_getNI X hw (host := "FifthCardModel") in_X23 hk_50 rfl 2 rfl (by decide) (List.mem_of_getElem? (i := 2) rfl) (fun _ z => z) dX19_laysWords_20 ?_
  refine lv_irem hx hb dX19_laysWords_23 h.1 ?_
  have h := h.2
  refine lv_topi (fun x4_51 e_52 => ?_)
  have h := h x4_51 e_52
  refine lv_istore (lv' := [(4, .int x4_51), (3, .int r_47), (0, .ref a0), (1, .int x1), (2, .int x2)]) hx hb dX19_laysWords_24 hl (by decide) rfl (fun ls hl => ?_)
  refine lv_aload_n hx hb dX19_laysWords_26 rfl (lv_at hl 2 rfl) ?_
  obtain ⟨b_53, e_54, h⟩ := h
  refine g_getR X hw in_X19 hk_46 rfl 20 rfl (by decide) q1471 (fun _ z => z) e_54 dX19_laysWords_27 ?_
  refine lv_iload_n hx hb dX19_laysWords_30 rfl (lv_at hl 1 rfl) ?_
  have hk_55 : kd u_45 b_53 = 101 := h.1
  have h := h.2
  refine g_iald X hw hk_55 h.1 dX19_laysWords_31 ?_
  have h := h.2
  refine lv_istore (lv' := [(5, .int (AI u_45 b_53 (tn r_47))), (4, .int x4_51), (3, .int r_47), (0, .ref a0), (1, .int x1), (2, .int x2)]) hx hb dX19_laysWords_32 hl (by decide) rfl (fun ls hl => ?_)
  refine lv_aload_n hx hb dX19_laysWords_34 rfl (lv_at hl 3 rfl) ?_
  refine g_getR X hw in_X19 hk_46 rfl 3 rfl (by decide) q1454 (fun _ z => z) e_49 dX19_laysWords_35 ?_
  refine g_getNI X hw (host := "FifthCardModel") in_X23 hk_50 rfl 3 rfl (by decide) (List.mem_of_getElem? (i := 6) rfl) (fun _ z => z) dX19_laysWords_38 ?_
  refine lv_iconst (v := 2) hx hb dX19_laysWords_41 (by decide) ?_
  refine lv_icmp_ne (tgt := 55) hx hb dX19_laysWords_42 rfl (fun c_56 => ?_) (fun c_56 => ?_)
  · have h := h.2 c_56
    refine lv_iload hx hb dX19_laysWords_55 (lv_at hl 0 rfl) ?_
    exact wX19_laysWords_57 X hr  h hw (lv_sub hl [3, 4, 5, 0] rfl)
  · have h := h.1 c_56
    refine lv_aload_n hx hb dX19_laysWords_45 rfl (lv_at hl 3 rfl) ?_
    refine g_getR X hw in_X19 hk_46 rfl 20 rfl (by decide) q1471 (fun _ z => z) e_54 dX19_laysWords_46 ?_
    refine lv_iload hx hb dX19_laysWords_49 (lv_at hl 1 rfl) ?_
    refine g_iald X hw hk_55 h.1 dX19_laysWords_51 ?_
    have h := h.2
    refine lv_goto (tgt := 57) hx hb dX19_laysWords_52 rfl ?_
    exact wX19_laysWords_57 X hr  h hw (lv_sub hl [3, 4, 5, 0] rfl)

/-! FifthCardModel.clearOwners()V -/
theorem ydX19_clearOwners : yX19_clearOwners.cls = "FifthCardModel" ∧ yX19_clearOwners.cls ≠ "java/lang/invoke/MethodHandle" ∧ yX19_clearOwners.cls ≠ "java/lang/invoke/VarHandle" ∧ (parseMethodDescriptor yX19_clearOwners.desc).map (fun d => d.parameters.length) = some 0 := by decide +kernel
def rmX19_clearOwners (mc ms : Nat) : Room := { frames := 0, cells := mc, slots := ms, locals := 0 }
set_option maxHeartbeats 4000000 in
theorem wX19_clearOwners_2 {G : GT} {p : Program} {l : Launch} {e : Env} {s : State} {m : MethodId} {args : Array Value} {below : List Frame} {meth : Method} {c : Code} {H : Heap} {locs : List Loc} {ls : Array Slot} {a0 : Nat} {x1 : Int32} {u : Hp} {K : Hp → Prop} (X : Mc G p s m args meth c RX19 cX19_clearOwners 2) (hr : meth.sig.returnType = none) (h : jl2 (bX19_clearOwners_2 K a0) x1 u) (hw : GW G u s H locs) (hl : lv_has ls 2 [(0, .ref a0), (1, .int x1)]) : W p l e (rmX19_clearOwners 0 0) s m args below meth c H locs 0 0 (QV G below K args s 0 0) (F0 m 2 ls []) := by
  obtain ⟨hx, hb, hml, hown, hts, -⟩ := id X
  obtain ⟨I, μ, h0, hs⟩ := h
  have key : ∀ (n : Nat) (x1 : Int32) (u : Hp) (H : Heap) (locs : List Loc) (ls : Array Slot) , μ x1 u < n → I x1 u → GW G u s H locs → lv_has ls 2 [(0, .ref a0), (1, .int x1)] → W p l e (rmX19_clearOwners 0 0) s m args below meth c H locs 0 0 (QV G below K args s 0 0) (F0 m 2 ls []) := by
    intro n
    induction n with
    | zero =>
      intro x1 u H locs ls hn
      exact absurd hn (Nat.not_lt_zero _)
    | succ n ih =>
      intro x1 u H locs ls hn hI hw hl
      have h := hs x1 u hI
      unfold bX19_clearOwners_2 at h
      have hJ2 : ∀ (x1' : Int32) (u' : Hp) (H : Heap) (locs : List Loc) (ls : Array Slot) , (I x1' u' ∧ μ x1' u' < μ x1 u) → GW G u' s H locs → lv_has ls 2 [(0, .ref a0), (1, .int x1')] → W p l e (rmX19_clearOwners 0 0) s m args below meth c H locs 0 0 (QV G below K args s 0 0) (F0 m 2 ls []) := fun x1' u' H locs ls h hw hl => ih x1' u' H locs ls (Nat.lt_of_lt_of_le h.2 (Nat.le_of_lt_succ hn)) h.1 hw hl
      refine lv_iload_n hx hb dX19_clearOwners_2 rfl (lv_at hl 1 rfl) ?_
      refine lv_ldc hx hb hown (hts _ q1450) dX19_clearOwners_3 ?_
      refine lv_icmp_ge (tgt := 21) hx hb dX19_clearOwners_5 rfl (fun c_5 => ?_) (fun c_5 => ?_)
      · have h := h.1 c_5
        exact g_vret X hw hr h (Nat.le_refl _) (Nat.le_refl _) dX19_clearOwners_21
      · have h := h.2 c_5
        refine lv_aload_n hx hb dX19_clearOwners_8 rfl (lv_at hl 0 rfl) ?_
        have hk_1 : kd u a0 = 16 := h.1
        have h := h.2
        obtain ⟨b_2, e_3, h⟩ := h
        refine g_getR X hw in_X19 hk_1 rfl 27 rfl (by decide) q1478 (fun _ z => z) e_3 dX19_clearOwners_9 ?_
        refine lv_iload_n hx hb dX19_clearOwners_12 rfl (lv_at hl 1 rfl) ?_
        refine lv_iconst (v := (-1)) hx hb dX19_clearOwners_13 (by decide) ?_
        have hk_4 : kd u b_2 = 101 := h.1
        have h := h.2
        refine g_iast X hw hk_4 h.1 dX19_clearOwners_14 (fun H locs hw => ?_)
        have h := h.2
        refine lv_iinc (v := x1 + 1) (lv' := [(1, .int (x1 + 1)), (0, .ref a0)]) hx hb dX19_clearOwners_15 hl (k := 1) rfl rfl (by decide) rfl (fun ls hl => ?_)
        refine lv_goto (tgt := 2) hx hb dX19_clearOwners_18 rfl ?_
        exact hJ2 _ _ _ _ _ h hw (lv_sub hl [1, 0] rfl)
  exact key _ _ _ _ _ _ (Nat.lt_succ_self _) h0 hw hl
set_option maxHeartbeats 4000000 in
theorem mX19_clearOwners (l : Launch) (G : GT) (u : Hp) (a0 : Nat) (K : Hp → Prop) (h : pX19_clearOwners u a0 K) : Met l yX19_clearOwners (ws_ yX19_clearOwners cX19_clearOwners 2 none) (rmX19_clearOwners 0 0) (va_Pc [.ref a0] (GB G u)) (va_Qv K (fun u t => GH G u t.heap) (GA G)) 0 0 (GA G) := by
  refine Met.ofW (cc := cX19_clearOwners) (maxL := 2) (ret := none) (by decide) rfl ?_
  intro p e s m args below meth c s₁ B hml hv
  obtain ⟨rfl, hv⟩ := hv
  have X := Mc_of (own := RX19) B hml rfl hv
  have hw : GW G u s s.heap [] := ⟨hv.2.1, va_S.rf⟩
  have hr := B.returns
  obtain ⟨hx, hb, hml, hown, hts, -⟩ := id X
  have hl := lv_entry ([.ref a0]) (n := 2) (Nat.le_of_ble_eq_true rfl)
  rw [lg_entry_eq]
  generalize (lg_sl ([.ref a0]) ++ List.replicate (2 - (lg_sl ([.ref a0])).length) Slot.unset).toArray = ls at hl ⊢
  have hl : lv_has ls 2 [(0, .ref a0)] := hl
  change W p l e (rmX19_clearOwners 0 0) s m _ below meth c s.heap [] 0 0 (QV G below K _ s 0 0) (F0 m 0 ls [])
  unfold pX19_clearOwners at h
  refine lv_iconst (v := 0) hx hb dX19_clearOwners_0 (by decide) ?_
  refine lv_istore_n (lv' := [(1, .int 0), (0, .ref a0)]) hx hb dX19_clearOwners_1 rfl hl (by decide) rfl (fun ls hl => ?_)
  exact wX19_clearOwners_2 X hr  h hw (lv_sub hl [1, 0] rfl)

/-! FifthCardModel.puts(I)V -/
theorem ydX19_puts : yX19_puts.cls = "FifthCardModel" ∧ yX19_puts.cls ≠ "java/lang/invoke/MethodHandle" ∧ yX19_puts.cls ≠ "java/lang/invoke/VarHandle" ∧ (parseMethodDescriptor yX19_puts.desc).map (fun d => d.parameters.length) = some 1 := by decide +kernel
def rmX19_puts (mc ms : Nat) : Room := { frames := 1, cells := mc, slots := ms, locals := 20 }
set_option maxHeartbeats 4000000 in
theorem wX19_puts_74 {G : GT} {p : Program} {l : Launch} {e : Env} {s : State} {m : MethodId} {args : Array Value} {below : List Frame} {meth : Method} {c : Code} {H : Heap} {locs : List Loc} {ls : Array Slot} {a0 : Nat} {x1 : Int32} {x2 : Int32} {x3 : Int32} {x4 : Int32} {u : Hp} {K : Hp → Prop} (X : Mc G p s m args meth c RX19 cX19_puts 5) (hr : meth.sig.returnType = none) (h : jl2 (bX19_puts_74 K a0 x1 x2 x3) x4 u) (hw : GW G u s H locs) (hl : lv_has ls 5 [(0, .ref a0), (1, .int x1), (2, .int x2), (3, .int x3), (4, .int x4)]) : W p l e (rmX19_puts 0 0) s m args below meth c H locs 0 0 (QV G below K args s 0 0) (F0 m 74 ls []) := by
  obtain ⟨hx, hb, hml, hown, hts, -⟩ := id X
  obtain ⟨I, μ, h0, hs⟩ := h
  have key : ∀ (n : Nat) (x4 : Int32) (u : Hp) (H : Heap) (locs : List Loc) (ls : Array Slot) , μ x4 u < n → I x4 u → GW G u s H locs → lv_has ls 5 [(0, .ref a0), (1, .int x1), (2, .int x2), (3, .int x3), (4, .int x4)] → W p l e (rmX19_puts 0 0) s m args below meth c H locs 0 0 (QV G below K args s 0 0) (F0 m 74 ls []) := by
    intro n
    induction n with
    | zero =>
      intro x4 u H locs ls hn
      exact absurd hn (Nat.not_lt_zero _)
    | succ n ih =>
      intro x4 u H locs ls hn hI hw hl
      have h := hs x4 u hI
      unfold bX19_puts_74 at h
      have hJ74 : ∀ (x4' : Int32) (u' : Hp) (H : Heap) (locs : List Loc) (ls : Array Slot) , (I x4' u' ∧ μ x4' u' < μ x4 u) → GW G u' s H locs → lv_has ls 5 [(0, .ref a0), (1, .int x1), (2, .int x2), (3, .int x3), (4, .int x4')] → W p l e (rmX19_puts 0 0) s m args below meth c H locs 0 0 (QV G below K args s 0 0) (F0 m 74 ls []) := fun x4' u' H locs ls h hw hl => ih x4' u' H locs ls (Nat.lt_of_lt_of_le h.2 (Nat.le_of_lt_succ hn)) h.1 hw hl
      refine lv_iload hx hb dX19_puts_74 (lv_at hl 4 rfl) ?_
      refine lv_iload_n hx hb dX19_puts_76 rfl (lv_at hl 2 rfl) ?_
      refine lv_icmp_ge (tgt := 99) hx hb dX19_puts_77 rfl (fun c_6 => ?_) (fun c_6 => ?_)
      · have h := h.1 c_6
        refine lv_aload_n hx hb dX19_puts_99 rfl (lv_at hl 0 rfl) ?_
        refine lv_dup hx hb dX19_puts_100 rfl ?_
        have hk_1 : kd u a0 = 16 := h.1
        have h := h.2
        refine g_getI X hw in_X19 hk_1 rfl 22 rfl (by decide) q1473 (fun _ z => z) dX19_puts_101 ?_
        refine lv_iload_n hx hb dX19_puts_104 rfl (lv_at hl 2 rfl) ?_
        refine lv_iadd hx hb dX19_puts_105 ?_
        refine g_putI (v := (FI u 1922 a0) + x2) X hw in_X19 tyX19_ok nmX19 hk_1 rfl 22 rfl (by decide) q1473 (fun _ z => z) rfl rfl rfl dX19_puts_106 (fun H locs hw => ?_)
        exact g_vret X hw hr h (Nat.le_refl _) (Nat.le_refl _) dX19_puts_109
      · have h := h.2 c_6
        refine lv_aload_n hx hb dX19_puts_80 rfl (lv_at hl 0 rfl) ?_
        have hk_2 : kd u a0 = 16 := h.1
        have h := h.2
        obtain ⟨b_3, e_4, h⟩ := h
        refine g_getR X hw in_X19 hk_2 rfl 21 rfl (by decide) q1472 (fun _ z => z) e_4 dX19_puts_81 ?_
        refine lv_iload_n hx hb dX19_puts_84 rfl (lv_at hl 3 rfl) ?_
        refine lv_iload hx hb dX19_puts_85 (lv_at hl 4 rfl) ?_
        refine lv_iadd hx hb dX19_puts_87 ?_
        refine lv_iload_n hx hb dX19_puts_88 rfl (lv_at hl 1 rfl) ?_
        refine lv_iload hx hb dX19_puts_89 (lv_at hl 4 rfl) ?_
        refine lv_iadd hx hb dX19_puts_91 ?_
        have hk_5 : kd u b_3 = 101 := h.1
        have h := h.2
        refine g_iast X hw hk_5 h.1 dX19_puts_92 (fun H locs hw => ?_)
        have h := h.2
        refine lv_iinc (v := x4 + 1) (lv' := [(4, .int (x4 + 1)), (0, .ref a0), (1, .int x1), (2, .int x2), (3, .int x3)]) hx hb dX19_puts_93 hl (k := 4) rfl rfl (by decide) rfl (fun ls hl => ?_)
        refine lv_goto (tgt := 74) hx hb dX19_puts_96 rfl ?_
        exact hJ74 _ _ _ _ _ h hw (lv_sub hl [1, 2, 3, 4, 0] rfl)
  exact key _ _ _ _ _ _ (Nat.lt_succ_self _) h0 hw hl
set_option maxHeartbeats 4000000 in
theorem wX19_puts_32 {G : GT} {p : Program} {l : Launch} {e : Env} {s : State} {m : MethodId} {args : Array Value} {below : List Frame} {meth : Method} {c : Code} {H : Heap} {locs : List Loc} {ls : Array Slot} {a0 : Nat} {x1 : Int32} {x2 : Int32} {x3 : Int32} {x4 : Int32} {u : Hp} {K : Hp → Prop} {J13 : Int32 → Hp → Prop} (X : Mc G p s m args meth c RX19 cX19_puts 5) (hr : meth.sig.returnType = none) (hJ13 : ∀ (x3 : Int32) (u : Hp) (H : Heap) (locs : List Loc) (ls : Array Slot) , J13 x3 u → GW G u s H locs → lv_has ls 5 [(0, .ref a0), (1, .int x1), (2, .int x2), (3, .int x3)] → W p l e (rmX19_puts 0 0) s m args below meth c H locs 0 0 (QV G below K args s 0 0) (F0 m 13 ls [])) (h : jl2 (bX19_puts_32 K J13 a0 x1 x2 x3) x4 u) (hw : GW G u s H locs) (hl : lv_has ls 5 [(0, .ref a0), (1, .int x1), (2, .int x2), (3, .int x3), (4, .int x4)]) : W p l e (rmX19_puts 0 0) s m args below meth c H locs 0 0 (QV G below K args s 0 0) (F0 m 32 ls []) := by
  obtain ⟨hx, hb, hml, hown, hts, -⟩ := id X
  obtain ⟨I, μ, h0, hs⟩ := h
  have key : ∀ (n : Nat) (x4 : Int32) (u : Hp) (H : Heap) (locs : List Loc) (ls : Array Slot) , μ x4 u < n → I x4 u → GW G u s H locs → lv_has ls 5 [(0, .ref a0), (1, .int x1), (2, .int x2), (3, .int x3), (4, .int x4)] → W p l e (rmX19_puts 0 0) s m args below meth c H locs 0 0 (QV G below K args s 0 0) (F0 m 32 ls []) := by
    intro n
    induction n with
    | zero =>
      intro x4 u H locs ls hn
      exact absurd hn (Nat.not_lt_zero _)
    | succ n ih =>
      intro x4 u H locs ls hn hI hw hl
      have h := hs x4 u hI
      unfold bX19_puts_32 at h
      have hJ32 : ∀ (x4' : Int32) (u' : Hp) (H : Heap) (locs : List Loc) (ls : Array Slot) , (I x4' u' ∧ μ x4' u' < μ x4 u) → GW G u' s H locs → lv_has ls 5 [(0, .ref a0), (1, .int x1), (2, .int x2), (3, .int x3), (4, .int x4')] → W p l e (rmX19_puts 0 0) s m args below meth c H locs 0 0 (QV G below K args s 0 0) (F0 m 32 ls []) := fun x4' u' H locs ls h hw hl => ih x4' u' H locs ls (Nat.lt_of_lt_of_le h.2 (Nat.le_of_lt_succ hn)) h.1 hw hl
      refine lv_iload hx hb dX19_puts_32 (lv_at hl 4 rfl) ?_
      refine lv_iload_n hx hb dX19_puts_34 rfl (lv_at hl 2 rfl) ?_
      refine lv_icmp_gt (tgt := 64) hx hb dX19_puts_35 rfl (fun c_11 => ?_) (fun c_11 => ?_)
      · have h := h.1 c_11
        refine lv_iload_n hx hb dX19_puts_64 rfl (lv_at hl 3 rfl) ?_
        refine lv_iload_n hx hb dX19_puts_65 rfl (lv_at hl 2 rfl) ?_
        refine lv_isub hx hb dX19_puts_66 ?_
        refine lv_istore_n (lv' := [(3, .int (x3 - x2)), (0, .ref a0), (1, .int x1), (2, .int x2), (4, .int x4)]) hx hb dX19_puts_67 rfl hl (by decide) rfl (fun ls hl => ?_)
        refine lv_goto (tgt := 13) hx hb dX19_puts_68 rfl ?_
        exact hJ13 _ _ _ _ _ h hw (lv_sub hl [1, 2, 3, 0] rfl)
      · have h := h.2 c_11
        refine lv_aload_n hx hb dX19_puts_38 rfl (lv_at hl 0 rfl) ?_
        have hk_7 : kd u a0 = 16 := h.1
        have h := h.2
        obtain ⟨b_8, e_9, h⟩ := h
        refine g_getR X hw in_X19 hk_7 rfl 21 rfl (by decide) q1472 (fun _ z => z) e_9 dX19_puts_39 ?_
        refine lv_iload_n hx hb dX19_puts_42 rfl (lv_at hl 3 rfl) ?_
        refine lv_iload hx hb dX19_puts_43 (lv_at hl 4 rfl) ?_
        refine lv_isub hx hb dX19_puts_45 ?_
        refine lv_iload_n hx hb dX19_puts_46 rfl (lv_at hl 2 rfl) ?_
        refine lv_iadd hx hb dX19_puts_47 ?_
        refine lv_aload_n hx hb dX19_puts_48 rfl (lv_at hl 0 rfl) ?_
        refine g_getR X hw in_X19 hk_7 rfl 21 rfl (by decide) q1472 (fun _ z => z) e_9 dX19_puts_49 ?_
        refine lv_iload_n hx hb dX19_puts_52 rfl (lv_at hl 3 rfl) ?_
        refine lv_iload hx hb dX19_puts_53 (lv_at hl 4 rfl) ?_
        refine lv_isub hx hb dX19_puts_55 ?_
        have hk_10 : kd u b_8 = 101 := h.1
        have h := h.2
        refine g_iald X hw hk_10 h.1 dX19_puts_56 ?_
        have h := h.2
        refine g_iast X hw hk_10 h.1 dX19_puts_57 (fun H locs hw => ?_)
        have h := h.2
        refine lv_iinc (v := x4 + 1) (lv' := [(4, .int (x4 + 1)), (0, .ref a0), (1, .int x1), (2, .int x2), (3, .int x3)]) hx hb dX19_puts_58 hl (k := 4) rfl rfl (by decide) rfl (fun ls hl => ?_)
        refine lv_goto (tgt := 32) hx hb dX19_puts_61 rfl ?_
        exact hJ32 _ _ _ _ _ h hw (lv_sub hl [1, 2, 3, 4, 0] rfl)
  exact key _ _ _ _ _ _ (Nat.lt_succ_self _) h0 hw hl
set_option maxHeartbeats 4000000 in
theorem wX19_puts_13 {G : GT} {p : Program} {l : Launch} {e : Env} {s : State} {m : MethodId} {args : Array Value} {below : List Frame} {meth : Method} {c : Code} {H : Heap} {locs : List Loc} {ls : Array Slot} {a0 : Nat} {x1 : Int32} {x2 : Int32} {x3 : Int32} {u : Hp} {K : Hp → Prop} (X : Mc G p s m args meth c RX19 cX19_puts 5) (hr : meth.sig.returnType = none) (h : jl2 (bX19_puts_13 K a0 x1 x2) x3 u) (hw : GW G u s H locs) (hl : lv_has ls 5 [(0, .ref a0), (1, .int x1), (2, .int x2), (3, .int x3)]) : W p l e (rmX19_puts 0 0) s m args below meth c H locs 0 0 (QV G below K args s 0 0) (F0 m 13 ls []) := by
  obtain ⟨hx, hb, hml, hown, hts, -⟩ := id X
  obtain ⟨I, μ, h0, hs⟩ := h
  have key : ∀ (n : Nat) (x3 : Int32) (u : Hp) (H : Heap) (locs : List Loc) (ls : Array Slot) , μ x3 u < n → I x3 u → GW G u s H locs → lv_has ls 5 [(0, .ref a0), (1, .int x1), (2, .int x2), (3, .int x3)] → W p l e (rmX19_puts 0 0) s m args below meth c H locs 0 0 (QV G below K args s 0 0) (F0 m 13 ls []) := by
    intro n
    induction n with
    | zero =>
      intro x3 u H locs ls hn
      exact absurd hn (Nat.not_lt_zero _)
    | succ n ih =>
      intro x3 u H locs ls hn hI hw hl
      have h := hs x3 u hI
      unfold bX19_puts_13 at h
      have hJ13 : ∀ (x3' : Int32) (u' : Hp) (H : Heap) (locs : List Loc) (ls : Array Slot) , (I x3' u' ∧ μ x3' u' < μ x3 u) → GW G u' s H locs → lv_has ls 5 [(0, .ref a0), (1, .int x1), (2, .int x2), (3, .int x3')] → W p l e (rmX19_puts 0 0) s m args below meth c H locs 0 0 (QV G below K args s 0 0) (F0 m 13 ls []) := fun x3' u' H locs ls h hw hl => ih x3' u' H locs ls (Nat.lt_of_lt_of_le h.2 (Nat.le_of_lt_succ hn)) h.1 hw hl
      refine lv_iload_n hx hb dX19_puts_13 rfl (lv_at hl 3 rfl) ?_
      refine lv_if_le (tgt := 71) hx hb dX19_puts_14 rfl (fun c_17 => ?_) (fun c_17 => ?_)
      · have h := h.1 c_17
        refine lv_iconst (v := 0) hx hb dX19_puts_71 (by decide) ?_
        refine lv_istore (lv' := [(4, .int 0), (0, .ref a0), (1, .int x1), (2, .int x2), (3, .int x3)]) hx hb dX19_puts_72 hl (by decide) rfl (fun ls hl => ?_)
        exact wX19_puts_74 X hr  h hw (lv_sub hl [1, 2, 3, 4, 0] rfl)
      · have h := h.2 c_17
        refine lv_aload_n hx hb dX19_puts_17 rfl (lv_at hl 0 rfl) ?_
        have hk_12 : kd u a0 = 16 := h.1
        have h := h.2
        obtain ⟨b_13, e_14, h⟩ := h
        refine g_getR X hw in_X19 hk_12 rfl 21 rfl (by decide) q1472 (fun _ z => z) e_14 dX19_puts_18 ?_
        refine lv_iload_n hx hb dX19_puts_21 rfl (lv_at hl 3 rfl) ?_
        refine lv_iconst (v := 1) hx hb dX19_puts_22 (by decide) ?_
        refine lv_isub hx hb dX19_puts_23 ?_
        have hk_15 : kd u b_13 = 101 := h.1
        have h := h.2
        refine g_iald X hw hk_15 h.1 dX19_puts_24 ?_
        have h := h.2
        refine lv_iload_n hx hb dX19_puts_25 rfl (lv_at hl 1 rfl) ?_
        refine lv_icmp_le (tgt := 71) hx hb dX19_puts_26 rfl (fun c_16 => ?_) (fun c_16 => ?_)
        · have h := h.1 c_16
          refine lv_iconst (v := 0) hx hb dX19_puts_71 (by decide) ?_
          refine lv_istore (lv' := [(4, .int 0), (0, .ref a0), (1, .int x1), (2, .int x2), (3, .int x3)]) hx hb dX19_puts_72 hl (by decide) rfl (fun ls hl => ?_)
          exact wX19_puts_74 X hr  h hw (lv_sub hl [1, 2, 3, 4, 0] rfl)
        · have h := h.2 c_16
          refine lv_iconst (v := 1) hx hb dX19_puts_29 (by decide) ?_
          refine lv_istore (lv' := [(4, .int 1), (0, .ref a0), (1, .int x1), (2, .int x2), (3, .int x3)]) hx hb dX19_puts_30 hl (by decide) rfl (fun ls hl => ?_)
          exact wX19_puts_32 X hr hJ13  h hw (lv_sub hl [1, 2, 3, 4, 0] rfl)
  exact key _ _ _ _ _ _ (Nat.lt_succ_self _) h0 hw hl
set_option maxHeartbeats 4000000 in
theorem mX19_puts (l : Launch) (G : GT) (u : Hp) (a0 : Nat) (x1 : Int32) (K : Hp → Prop) (h : pX19_puts u a0 x1 K) : Met l yX19_puts (ws_ yX19_puts cX19_puts 5 none) (rmX19_puts 0 0) (va_Pc [.ref a0, .int x1] (GB G u)) (va_Qv K (fun u t => GH G u t.heap) (GA G)) 0 0 (GA G) := by
  refine Met.ofW (cc := cX19_puts) (maxL := 5) (ret := none) (by decide) rfl ?_
  intro p e s m args below meth c s₁ B hml hv
  obtain ⟨rfl, hv⟩ := hv
  have X := Mc_of (own := RX19) B hml rfl hv
  have hw : GW G u s s.heap [] := ⟨hv.2.1, va_S.rf⟩
  have hr := B.returns
  obtain ⟨hx, hb, hml, hown, hts, -⟩ := id X
  have hl := lv_entry ([.ref a0, .int x1]) (n := 5) (Nat.le_of_ble_eq_true rfl)
  rw [lg_entry_eq]
  generalize (lg_sl ([.ref a0, .int x1]) ++ List.replicate (5 - (lg_sl ([.ref a0, .int x1])).length) Slot.unset).toArray = ls at hl ⊢
  have hl : lv_has ls 5 [(0, .ref a0), (1, .int x1)] := hl
  change W p l e (rmX19_puts 0 0) s m _ below meth c s.heap [] 0 0 (QV G below K _ s 0 0) (F0 m 0 ls [])
  unfold pX19_puts at h
  refine lv_aload_n hx hb dX19_puts_0 rfl (lv_at hl 0 rfl) ?_
  have hk_18 : kd u a0 = 16 := h.1
  have h := h.2
  obtain ⟨b_19, e_20, h⟩ := h
  refine g_getR X hw in_X19 hk_18 rfl 3 rfl (by decide) q1454 (fun _ z => z) e_20 dX19_puts_1 ?_
  have hk_21 : kd u b_19 = 20 := h.1
  have h := h.2
  refine g_callio hw (g_V X hw (mX23_tilts l G _ _ _ h) 0 (lw_V q1863 q1864 q1865 q153 q1866) rfl rfl ydX23_tilts ⟨Nat.le_of_ble_eq_true rfl, Nat.le_of_ble_eq_true rfl⟩ (g_recv X hw (ci := 19) (q := (RX23, TX23, 15)) hk_21 rfl) (As := []) (rest := []) rfl hl.1 rfl (Nat.le_of_ble_eq_true rfl) dX19_puts_4 ⟨Nat.le_refl _, Nat.le_refl _⟩) (fun r_22 H locs h hw => ?_)
  refine lv_istore_n (lv' := [(2, .int r_22), (0, .ref a0), (1, .int x1)]) hx hb dX19_puts_7 rfl hl (by decide) rfl (fun ls hl => ?_)
  refine lv_aload_n hx hb dX19_puts_8 rfl (lv_at hl 1 rfl) ?_
  refine g_getI X hw in_X19 hk_18 rfl 22 rfl (by decide) q1473 (fun _ z => z) dX19_puts_9 ?_
  refine lv_istore_n (lv' := [(3, .int (FI u 1922 a0)), (2, .int r_22), (0, .ref a0), (1, .int x1)]) hx hb dX19_puts_12 rfl hl (by decide) rfl (fun ls hl => ?_)
  exact wX19_puts_13 X hr  h hw (lv_sub hl [2, 3, 1, 0] rfl)

/-! FifthCardModel.fitsOf(I)V -/
theorem ydX19_fitsOf : yX19_fitsOf.cls = "FifthCardModel" ∧ yX19_fitsOf.cls ≠ "java/lang/invoke/MethodHandle" ∧ yX19_fitsOf.cls ≠ "java/lang/invoke/VarHandle" ∧ (parseMethodDescriptor yX19_fitsOf.desc).map (fun d => d.parameters.length) = some 1 := by decide +kernel
def rmX19_fitsOf (mc ms : Nat) : Room := { frames := 2, cells := mc, slots := ms, locals := 44 }
set_option maxHeartbeats 4000000 in
theorem wX19_fitsOf_17 {G : GT} {p : Program} {l : Launch} {e : Env} {s : State} {m : MethodId} {args : Array Value} {below : List Frame} {meth : Method} {c : Code} {H : Heap} {locs : List Loc} {ls : Array Slot} {a0 : Nat} {x1 : Int32} {x2 : Int32} {x3 : Int32} {u : Hp} {K : Hp → Prop} {J7 : Int32 → Hp → Prop} (X : Mc G p s m args meth c RX19 cX19_fitsOf 4) (hr : meth.sig.returnType = none) (hJ7 : ∀ (x2 : Int32) (u : Hp) (H : Heap) (locs : List Loc) (ls : Array Slot) , J7 x2 u → GW G u s H locs → lv_has ls 4 [(0, .ref a0), (1, .int x1), (2, .int x2)] → W p l e (rmX19_fitsOf 0 0) s m args below meth c H locs 0 0 (QV G below K args s 0 0) (F0 m 7 ls [])) (h : jl2 (bX19_fitsOf_17 K J7 a0 x1 x2) x3 u) (hw : GW G u s H locs) (hl : lv_has ls 4 [(0, .ref a0), (1, .int x1), (2, .int x2), (3, .int x3)]) : W p l e (rmX19_fitsOf 0 0) s m args below meth c H locs 0 0 (QV G below K args s 0 0) (F0 m 17 ls []) := by
  obtain ⟨hx, hb, hml, hown, hts, -⟩ := id X
  obtain ⟨I, μ, h0, hs⟩ := h
  have key : ∀ (n : Nat) (x3 : Int32) (u : Hp) (H : Heap) (locs : List Loc) (ls : Array Slot) , μ x3 u < n → I x3 u → GW G u s H locs → lv_has ls 4 [(0, .ref a0), (1, .int x1), (2, .int x2), (3, .int x3)] → W p l e (rmX19_fitsOf 0 0) s m args below meth c H locs 0 0 (QV G below K args s 0 0) (F0 m 17 ls []) := by
    intro n
    induction n with
    | zero =>
      intro x3 u H locs ls hn
      exact absurd hn (Nat.not_lt_zero _)
    | succ n ih =>
      intro x3 u H locs ls hn hI hw hl
      have h := hs x3 u hI
      unfold bX19_fitsOf_17 at h
      have hJ17 : ∀ (x3' : Int32) (u' : Hp) (H : Heap) (locs : List Loc) (ls : Array Slot) , (I x3' u' ∧ μ x3' u' < μ x3 u) → GW G u' s H locs → lv_has ls 4 [(0, .ref a0), (1, .int x1), (2, .int x2), (3, .int x3')] → W p l e (rmX19_fitsOf 0 0) s m args below meth c H locs 0 0 (QV G below K args s 0 0) (F0 m 17 ls []) := fun x3' u' H locs ls h hw hl => ih x3' u' H locs ls (Nat.lt_of_lt_of_le h.2 (Nat.le_of_lt_succ hn)) h.1 hw hl
      refine lv_iload_n hx hb dX19_fitsOf_17 rfl (lv_at hl 3 rfl) ?_
      refine lv_aload_n hx hb dX19_fitsOf_18 rfl (lv_at hl 0 rfl) ?_
      have hk_1 : kd u a0 = 16 := h.1
      have h := h.2
      obtain ⟨b_2, e_3, h⟩ := h
      refine g_getR X hw in_X19 hk_1 rfl 3 rfl (by decide) q1454 (fun _ z => z) e_3 dX19_fitsOf_19 ?_
      have hk_4 : kd u b_2 = 20 := h.1
      have h := h.2
      refine g_getNI X hw (host := "FifthCardModel") in_X23 hk_4 rfl 4 rfl (by decide) (List.mem_of_getElem? (i := 7) rfl) (fun _ z => z) dX19_fitsOf_22 ?_
      refine lv_icmp_ge (tgt := 68) hx hb dX19_fitsOf_25 rfl (fun c_17 => ?_) (fun c_17 => ?_)
      · have h := h.1 c_17
        refine lv_aload_n hx hb dX19_fitsOf_68 rfl (lv_at hl 0 rfl) ?_
        refine lv_aload_n hx hb dX19_fitsOf_69 rfl (lv_at hl 0 rfl) ?_
        refine lv_aload_n hx hb dX19_fitsOf_70 rfl (lv_at hl 0 rfl) ?_
        obtain ⟨b_5, e_6, h⟩ := h
        refine g_getR X hw in_X19 hk_1 rfl 19 rfl (by decide) q1470 (fun _ z => z) e_6 dX19_fitsOf_71 ?_
        refine lv_iconst (v := 0) hx hb dX19_fitsOf_74 (by decide) ?_
        refine g_callio hw (g_V X hw (mX19_rowNumber l G _ _ _ _ _ h) 2 (lw_V q1859 q1861 qs76 q143 q1862) rfl rfl ydX19_rowNumber ⟨Nat.le_of_ble_eq_true rfl, Nat.le_of_ble_eq_true rfl⟩ (g_recv X hw (ci := 15) (q := (RX19, TX19, 46)) hk_1 rfl) (As := [.ref b_5, .int 0]) (rest := [.ref a0]) rfl hl.1 rfl (Nat.le_of_ble_eq_true rfl) dX19_fitsOf_75 ⟨Nat.le_refl _, Nat.le_refl _⟩) (fun r_7 H locs h hw => ?_)
        refine lv_aload_n hx hb dX19_fitsOf_78 rfl (lv_at hl 0 rfl) ?_
        refine g_getR X hw in_X19 hk_1 rfl 3 rfl (by decide) q1454 (fun _ z => z) e_3 dX19_fitsOf_79 ?_
        refine g_callio hw (g_V X hw (mX23_tilts l G _ _ _ h) 0 (lw_V q1863 q1864 q1865 q153 q1866) rfl rfl ydX23_tilts ⟨Nat.le_of_ble_eq_true rfl, Nat.le_of_ble_eq_true rfl⟩ (g_recv X hw (ci := 19) (q := (RX23, TX23, 15)) hk_4 rfl) (As := []) (rest := [.int r_7, .ref a0]) rfl hl.1 rfl (Nat.le_of_ble_eq_true rfl) dX19_fitsOf_82 ⟨Nat.le_refl _, Nat.le_refl _⟩) (fun r_8 H locs h hw => ?_)
        refine lv_imul hx hb dX19_fitsOf_85 ?_
        refine g_callv hw (g_V X hw (mX19_puts l G _ _ _ _ h) 1 (lw_V q1992 q1994 qs97 q143 q1995) rfl rfl ydX19_puts ⟨Nat.le_of_ble_eq_true rfl, Nat.le_of_ble_eq_true rfl⟩ (g_recv X hw (ci := 15) (q := (RX19, TX19, 46)) hk_1 rfl) (As := [.int (r_7 * r_8)]) (rest := []) rfl hl.1 rfl (Nat.le_of_ble_eq_true rfl) dX19_fitsOf_86 ⟨Nat.le_refl _, Nat.le_refl _⟩) (fun u_9 H locs h hw => ?_)
        refine lv_iinc (v := x2 + 1) (lv' := [(2, .int (x2 + 1)), (0, .ref a0), (1, .int x1), (3, .int x3)]) hx hb dX19_fitsOf_89 hl (k := 2) rfl rfl (by decide) rfl (fun ls hl => ?_)
        refine lv_goto (tgt := 7) hx hb dX19_fitsOf_92 rfl ?_
        exact hJ7 _ _ _ _ _ h hw (lv_sub hl [1, 2, 0] rfl)
      · have h := h.2 c_17
        refine lv_aload_n hx hb dX19_fitsOf_28 rfl (lv_at hl 0 rfl) ?_
        obtain ⟨b_10, e_11, h⟩ := h
        refine g_getR X hw in_X19 hk_1 rfl 19 rfl (by decide) q1470 (fun _ z => z) e_11 dX19_fitsOf_29 ?_
        refine lv_iload_n hx hb dX19_fitsOf_32 rfl (lv_at hl 3 rfl) ?_
        refine lv_aload_n hx hb dX19_fitsOf_33 rfl (lv_at hl 0 rfl) ?_
        refine lv_iload_n hx hb dX19_fitsOf_34 rfl (lv_at hl 1 rfl) ?_
        refine lv_aload_n hx hb dX19_fitsOf_35 rfl (lv_at hl 0 rfl) ?_
        obtain ⟨b_12, e_13, h⟩ := h
        refine g_getR X hw in_X19 hk_1 rfl 23 rfl (by decide) q1474 (fun _ z => z) e_13 dX19_fitsOf_36 ?_
        refine lv_iload_n hx hb dX19_fitsOf_39 rfl (lv_at hl 2 rfl) ?_
        have hk_14 : kd u b_12 = 101 := h.1
        have h := h.2
        refine g_iald X hw hk_14 h.1 dX19_fitsOf_40 ?_
        have h := h.2
        refine lv_iconst (v := 3) hx hb dX19_fitsOf_41 (by decide) ?_
        refine lv_aload_n hx hb dX19_fitsOf_42 rfl (lv_at hl 0 rfl) ?_
        refine g_getR X hw in_X19 hk_1 rfl 3 rfl (by decide) q1454 (fun _ z => z) e_3 dX19_fitsOf_43 ?_
        refine g_getNI X hw (host := "FifthCardModel") in_X23 hk_4 rfl 4 rfl (by decide) (List.mem_of_getElem? (i := 7) rfl) (fun _ z => z) dX19_fitsOf_46 ?_
        refine lv_iconst (v := 1) hx hb dX19_fitsOf_49 (by decide) ?_
        refine lv_isub hx hb dX19_fitsOf_50 ?_
        refine lv_iload_n hx hb dX19_fitsOf_51 rfl (lv_at hl 3 rfl) ?_
        refine lv_isub hx hb dX19_fitsOf_52 ?_
        refine lv_imul hx hb dX19_fitsOf_53 ?_
        refine lv_ishr hx hb dX19_fitsOf_54 ?_
        refine lv_bipush (v := 7) hx hb dX19_fitsOf_55 (by decide) ?_
        refine lv_iand hx hb dX19_fitsOf_57 ?_
        refine g_callio hw (g_V X hw (mX19_cardOf l G _ _ _ _ _ h) 2 (lw_V q1851 q1853 qs74 q143 q1854) rfl rfl ydX19_cardOf ⟨Nat.le_of_ble_eq_true rfl, Nat.le_of_ble_eq_true rfl⟩ (g_recv X hw (ci := 15) (q := (RX19, TX19, 46)) hk_1 rfl) (As := [.int x1, .int ((jshr (AI u b_12 (tn x2)) (3 * (((FI u 2304 b_2) - 1) - x3))) &&& 7)]) (rest := [.int x3, .ref b_10]) rfl hl.1 rfl (Nat.le_of_ble_eq_true rfl) dX19_fitsOf_58 ⟨Nat.le_refl _, Nat.le_refl _⟩) (fun r_15 H locs h hw => ?_)
        have hk_16 : kd u b_10 = 101 := h.1
        have h := h.2
        refine g_iast X hw hk_16 h.1 dX19_fitsOf_61 (fun H locs hw => ?_)
        have h := h.2
        refine lv_iinc (v := x3 + 1) (lv' := [(3, .int (x3 + 1)), (0, .ref a0), (1, .int x1), (2, .int x2)]) hx hb dX19_fitsOf_62 hl (k := 3) rfl rfl (by decide) rfl (fun ls hl => ?_)
        refine lv_goto (tgt := 17) hx hb dX19_fitsOf_65 rfl ?_
        exact hJ17 _ _ _ _ _ h hw (lv_sub hl [1, 2, 3, 0] rfl)
  exact key _ _ _ _ _ _ (Nat.lt_succ_self _) h0 hw hl
set_option maxHeartbeats 4000000 in
theorem wX19_fitsOf_7 {G : GT} {p : Program} {l : Launch} {e : Env} {s : State} {m : MethodId} {args : Array Value} {below : List Frame} {meth : Method} {c : Code} {H : Heap} {locs : List Loc} {ls : Array Slot} {a0 : Nat} {x1 : Int32} {x2 : Int32} {u : Hp} {K : Hp → Prop} (X : Mc G p s m args meth c RX19 cX19_fitsOf 4) (hr : meth.sig.returnType = none) (h : jl2 (bX19_fitsOf_7 K a0 x1) x2 u) (hw : GW G u s H locs) (hl : lv_has ls 4 [(0, .ref a0), (1, .int x1), (2, .int x2)]) : W p l e (rmX19_fitsOf 0 0) s m args below meth c H locs 0 0 (QV G below K args s 0 0) (F0 m 7 ls []) := by
  obtain ⟨hx, hb, hml, hown, hts, -⟩ := id X
  obtain ⟨I, μ, h0, hs⟩ := h
  have key : ∀ (n : Nat) (x2 : Int32) (u : Hp) (H : Heap) (locs : List Loc) (ls : Array Slot) , μ x2 u < n → I x2 u → GW G u s H locs → lv_has ls 4 [(0, .ref a0), (1, .int x1), (2, .int x2)] → W p l e (rmX19_fitsOf 0 0) s m args below meth c H locs 0 0 (QV G below K args s 0 0) (F0 m 7 ls []) := by
    intro n
    induction n with
    | zero =>
      intro x2 u H locs ls hn
      exact absurd hn (Nat.not_lt_zero _)
    | succ n ih =>
      intro x2 u H locs ls hn hI hw hl
      have h := hs x2 u hI
      unfold bX19_fitsOf_7 at h
      have hJ7 : ∀ (x2' : Int32) (u' : Hp) (H : Heap) (locs : List Loc) (ls : Array Slot) , (I x2' u' ∧ μ x2' u' < μ x2 u) → GW G u' s H locs → lv_has ls 4 [(0, .ref a0), (1, .int x1), (2, .int x2')] → W p l e (rmX19_fitsOf 0 0) s m args below meth c H locs 0 0 (QV G below K args s 0 0) (F0 m 7 ls []) := fun x2' u' H locs ls h hw hl => ih x2' u' H locs ls (Nat.lt_of_lt_of_le h.2 (Nat.le_of_lt_succ hn)) h.1 hw hl
      refine lv_iload_n hx hb dX19_fitsOf_7 rfl (lv_at hl 2 rfl) ?_
      refine lv_aload_n hx hb dX19_fitsOf_8 rfl (lv_at hl 0 rfl) ?_
      have hk_18 : kd u a0 = 16 := h.1
      have h := h.2
      refine g_getI X hw in_X19 hk_18 rfl 24 rfl (by decide) q1475 (fun _ z => z) dX19_fitsOf_9 ?_
      refine lv_icmp_ge (tgt := 95) hx hb dX19_fitsOf_12 rfl (fun c_19 => ?_) (fun c_19 => ?_)
      · have h := h.1 c_19
        exact g_vret X hw hr h (Nat.le_refl _) (Nat.le_refl _) dX19_fitsOf_95
      · have h := h.2 c_19
        refine lv_iconst (v := 0) hx hb dX19_fitsOf_15 (by decide) ?_
        refine lv_istore_n (lv' := [(3, .int 0), (0, .ref a0), (1, .int x1), (2, .int x2)]) hx hb dX19_fitsOf_16 rfl hl (by decide) rfl (fun ls hl => ?_)
        exact wX19_fitsOf_17 X hr hJ7  h hw (lv_sub hl [1, 2, 3, 0] rfl)
  exact key _ _ _ _ _ _ (Nat.lt_succ_self _) h0 hw hl
set_option maxHeartbeats 4000000 in
theorem mX19_fitsOf (l : Launch) (G : GT) (u : Hp) (a0 : Nat) (x1 : Int32) (K : Hp → Prop) (h : pX19_fitsOf u a0 x1 K) : Met l yX19_fitsOf (ws_ yX19_fitsOf cX19_fitsOf 4 none) (rmX19_fitsOf 0 0) (va_Pc [.ref a0, .int x1] (GB G u)) (va_Qv K (fun u t => GH G u t.heap) (GA G)) 0 0 (GA G) := by
  refine Met.ofW (cc := cX19_fitsOf) (maxL := 4) (ret := none) (by decide) rfl ?_
  intro p e s m args below meth c s₁ B hml hv
  obtain ⟨rfl, hv⟩ := hv
  have X := Mc_of (own := RX19) B hml rfl hv
  have hw : GW G u s s.heap [] := ⟨hv.2.1, va_S.rf⟩
  have hr := B.returns
  obtain ⟨hx, hb, hml, hown, hts, -⟩ := id X
  have hl := lv_entry ([.ref a0, .int x1]) (n := 4) (Nat.le_of_ble_eq_true rfl)
  rw [lg_entry_eq]
  generalize (lg_sl ([.ref a0, .int x1]) ++ List.replicate (4 - (lg_sl ([.ref a0, .int x1])).length) Slot.unset).toArray = ls at hl ⊢
  have hl : lv_has ls 4 [(0, .ref a0), (1, .int x1)] := hl
  change W p l e (rmX19_fitsOf 0 0) s m _ below meth c s.heap [] 0 0 (QV G below K _ s 0 0) (F0 m 0 ls [])
  unfold pX19_fitsOf at h
  refine lv_aload_n hx hb dX19_fitsOf_0 rfl (lv_at hl 0 rfl) ?_
  refine lv_iconst (v := 0) hx hb dX19_fitsOf_1 (by decide) ?_
  have hk_20 : kd u a0 = 16 := h.1
  have h := h.2
  refine g_putI (v := 0) X hw in_X19 tyX19_ok nmX19 hk_20 rfl 22 rfl (by decide) q1473 (fun _ z => z) rfl rfl rfl dX19_fitsOf_2 (fun H locs hw => ?_)
  refine lv_iconst (v := 0) hx hb dX19_fitsOf_5 (by decide) ?_
  refine lv_istore_n (lv' := [(2, .int 0), (0, .ref a0), (1, .int x1)]) hx hb dX19_fitsOf_6 rfl hl (by decide) rfl (fun ls hl => ?_)
  exact wX19_fitsOf_7 X hr  h hw (lv_sub hl [1, 2, 0] rfl)

/-! FifthCardModel.slot(I)I -/
theorem ydX19_slot : yX19_slot.cls = "FifthCardModel" ∧ yX19_slot.cls ≠ "java/lang/invoke/MethodHandle" ∧ yX19_slot.cls ≠ "java/lang/invoke/VarHandle" ∧ (parseMethodDescriptor yX19_slot.desc).map (fun d => d.parameters.length) = some 1 := by decide +kernel
def rmX19_slot (mc ms : Nat) : Room := { frames := 0, cells := mc, slots := ms, locals := 0 }
set_option maxHeartbeats 4000000 in
theorem wX19_slot_9 {G : GT} {p : Program} {l : Launch} {e : Env} {s : State} {m : MethodId} {args : Array Value} {below : List Frame} {meth : Method} {c : Code} {H : Heap} {locs : List Loc} {ls : Array Slot} {a0 : Nat} {x1 : Int32} {u : Hp} {x2 : Int32} {K : Int32 → Prop} (X : Mc G p s m args meth c RX19 cX19_slot 3) (hr : meth.sig.returnType = (some .int)) (h : jl1 (bX19_slot_9 K a0 x1 u) x2) (hw : GW G u s H locs) (hl : lv_has ls 3 [(0, .ref a0), (1, .int x1), (2, .int x2)]) : W p l e (rmX19_slot 0 0) s m args below meth c H locs 0 0 (QI G below (fun r v => v = u ∧ K r) args s 0 0) (F0 m 9 ls []) := by
  obtain ⟨hx, hb, hml, hown, hts, -⟩ := id X
  obtain ⟨I, μ, h0, hs⟩ := h
  have key : ∀ (n : Nat) (x2 : Int32) (H : Heap) (locs : List Loc) (ls : Array Slot) , μ x2 < n → I x2 → GW G u s H locs → lv_has ls 3 [(0, .ref a0), (1, .int x1), (2, .int x2)] → W p l e (rmX19_slot 0 0) s m args below meth c H locs 0 0 (QI G below (fun r v => v = u ∧ K r) args s 0 0) (F0 m 9 ls []) := by
    intro n
    induction n with
    | zero =>
      intro x2 H locs ls hn
      exact absurd hn (Nat.not_lt_zero _)
    | succ n ih =>
      intro x2 H locs ls hn hI hw hl
      have h := hs x2 hI
      unfold bX19_slot_9 at h
      have hJ9 : ∀ (x2' : Int32) (H : Heap) (locs : List Loc) (ls : Array Slot) , (I x2' ∧ μ x2' < μ x2) → GW G u s H locs → lv_has ls 3 [(0, .ref a0), (1, .int x1), (2, .int x2')] → W p l e (rmX19_slot 0 0) s m args below meth c H locs 0 0 (QI G below (fun r v => v = u ∧ K r) args s 0 0) (F0 m 9 ls []) := fun x2' H locs ls h hw hl => ih x2' H locs ls (Nat.lt_of_lt_of_le h.2 (Nat.le_of_lt_succ hn)) h.1 hw hl
      refine lv_aload_n hx hb dX19_slot_9 rfl (lv_at hl 0 rfl) ?_
      have hk_1 : kd u a0 = 16 := h.1
      have h := h.2
      obtain ⟨b_2, e_3, h⟩ := h
      refine g_getR X hw in_X19 hk_1 rfl 27 rfl (by decide) q1478 (fun _ z => z) e_3 dX19_slot_10 ?_
      refine lv_iload_n hx hb dX19_slot_13 rfl (lv_at hl 2 rfl) ?_
      have hk_4 : kd u b_2 = 101 := h.1
      have h := h.2
      refine g_iald X hw hk_4 h.1 dX19_slot_14 ?_
      have h := h.2
      refine lv_iconst (v := (-1)) hx hb dX19_slot_15 (by decide) ?_
      refine lv_icmp_eq (tgt := 40) hx hb dX19_slot_16 rfl (fun c_6 => ?_) (fun c_6 => ?_)
      · have h := h.1 c_6
        refine lv_iload_n hx hb dX19_slot_40 rfl (lv_at hl 2 rfl) ?_
        exact g_iret X hw hr ⟨rfl, h⟩ (Nat.le_refl _) (Nat.le_refl _) dX19_slot_41
      · have h := h.2 c_6
        refine lv_aload_n hx hb dX19_slot_19 rfl (lv_at hl 0 rfl) ?_
        refine g_getR X hw in_X19 hk_1 rfl 27 rfl (by decide) q1478 (fun _ z => z) e_3 dX19_slot_20 ?_
        refine lv_iload_n hx hb dX19_slot_23 rfl (lv_at hl 2 rfl) ?_
        refine g_iald X hw hk_4 h.1 dX19_slot_24 ?_
        have h := h.2
        refine lv_iload_n hx hb dX19_slot_25 rfl (lv_at hl 1 rfl) ?_
        refine lv_icmp_eq (tgt := 40) hx hb dX19_slot_26 rfl (fun c_5 => ?_) (fun c_5 => ?_)
        · have h := h.1 c_5
          refine lv_iload_n hx hb dX19_slot_40 rfl (lv_at hl 2 rfl) ?_
          exact g_iret X hw hr ⟨rfl, h⟩ (Nat.le_refl _) (Nat.le_refl _) dX19_slot_41
        · have h := h.2 c_5
          refine lv_iload_n hx hb dX19_slot_29 rfl (lv_at hl 2 rfl) ?_
          refine lv_iconst (v := 1) hx hb dX19_slot_30 (by decide) ?_
          refine lv_iadd hx hb dX19_slot_31 ?_
          refine lv_sipush (v := 32767) hx hb dX19_slot_32 (by decide) ?_
          refine lv_iand hx hb dX19_slot_35 ?_
          refine lv_istore_n (lv' := [(2, .int ((x2 + 1) &&& 32767)), (0, .ref a0), (1, .int x1)]) hx hb dX19_slot_36 rfl hl (by decide) rfl (fun ls hl => ?_)
          refine lv_goto (tgt := 9) hx hb dX19_slot_37 rfl ?_
          exact hJ9 _ _ _ _ h hw (lv_sub hl [1, 2, 0] rfl)
  exact key _ _ _ _ _ (Nat.lt_succ_self _) h0 hw hl
set_option maxHeartbeats 4000000 in
theorem mX19_slot (l : Launch) (G : GT) (u : Hp) (a0 : Nat) (x1 : Int32) (K : Int32 → Prop) (h : pX19_slot u a0 x1 K) : Met l yX19_slot (ws_ yX19_slot cX19_slot 3 (some .int)) (rmX19_slot 0 0) (va_Pc [.ref a0, .int x1] (GB G u)) (va_Qi (fun r v => v = u ∧ K r) (fun u t => GH G u t.heap) (GA G)) 0 0 (GA G) := by
  refine Met.ofW (cc := cX19_slot) (maxL := 3) (ret := (some .int)) (by decide) rfl ?_
  intro p e s m args below meth c s₁ B hml hv
  obtain ⟨rfl, hv⟩ := hv
  have X := Mc_of (own := RX19) B hml rfl hv
  have hw : GW G u s s.heap [] := ⟨hv.2.1, va_S.rf⟩
  have hr := B.returns
  obtain ⟨hx, hb, hml, hown, hts, -⟩ := id X
  have hl := lv_entry ([.ref a0, .int x1]) (n := 3) (Nat.le_of_ble_eq_true rfl)
  rw [lg_entry_eq]
  generalize (lg_sl ([.ref a0, .int x1]) ++ List.replicate (3 - (lg_sl ([.ref a0, .int x1])).length) Slot.unset).toArray = ls at hl ⊢
  have hl : lv_has ls 3 [(0, .ref a0), (1, .int x1)] := hl
  change W p l e (rmX19_slot 0 0) s m _ below meth c s.heap [] 0 0 (QI G below (fun r v => v = u ∧ K r) _ s 0 0) (F0 m 0 ls [])
  unfold pX19_slot at h
  refine lv_iload_n hx hb dX19_slot_0 rfl (lv_at hl 1 rfl) ?_
  refine lv_ldcw hx hb hown (hts _ q2004) dX19_slot_1 ?_
  refine lv_imul hx hb dX19_slot_4 ?_
  refine lv_bipush (v := 17) hx hb dX19_slot_5 (by decide) ?_
  refine lv_iushr (v := jushr (x1 * (-1640531535)) 17) hx hb dX19_slot_7 rfl ?_
  refine lv_istore_n (lv' := [(2, .int (jushr (x1 * (-1640531535)) 17)), (0, .ref a0), (1, .int x1)]) hx hb dX19_slot_8 rfl hl (by decide) rfl (fun ls hl => ?_)
  exact wX19_slot_9 X hr  h hw (lv_sub hl [1, 2, 0] rfl)

/-! FifthCardModel.ownerOf(I)I -/
theorem ydX19_ownerOf : yX19_ownerOf.cls = "FifthCardModel" ∧ yX19_ownerOf.cls ≠ "java/lang/invoke/MethodHandle" ∧ yX19_ownerOf.cls ≠ "java/lang/invoke/VarHandle" ∧ (parseMethodDescriptor yX19_ownerOf.desc).map (fun d => d.parameters.length) = some 1 := by decide +kernel
def rmX19_ownerOf (mc ms : Nat) : Room := { frames := 1, cells := mc, slots := ms, locals := 22 }
set_option maxHeartbeats 4000000 in
theorem mX19_ownerOf (l : Launch) (G : GT) (u : Hp) (a0 : Nat) (x1 : Int32) (K : Int32 → Prop) (h : pX19_ownerOf u a0 x1 K) : Met l yX19_ownerOf (ws_ yX19_ownerOf cX19_ownerOf 3 (some .int)) (rmX19_ownerOf 0 0) (va_Pc [.ref a0, .int x1] (GB G u)) (va_Qi (fun r v => v = u ∧ K r) (fun u t => GH G u t.heap) (GA G)) 0 0 (GA G) := by
  refine Met.ofW (cc := cX19_ownerOf) (maxL := 3) (ret := (some .int)) (by decide) rfl ?_
  intro p e s m args below meth c s₁ B hml hv
  obtain ⟨rfl, hv⟩ := hv
  have X := Mc_of (own := RX19) B hml rfl hv
  have hw : GW G u s s.heap [] := ⟨hv.2.1, va_S.rf⟩
  have hr := B.returns
  obtain ⟨hx, hb, hml, hown, hts, -⟩ := id X
  have hl := lv_entry ([.ref a0, .int x1]) (n := 3) (Nat.le_of_ble_eq_true rfl)
  rw [lg_entry_eq]
  generalize (lg_sl ([.ref a0, .int x1]) ++ List.replicate (3 - (lg_sl ([.ref a0, .int x1])).length) Slot.unset).toArray = ls at hl ⊢
  have hl : lv_has ls 3 [(0, .ref a0), (1, .int x1)] := hl
  change W p l e (rmX19_ownerOf 0 0) s m _ below meth c s.heap [] 0 0 (QI G below (fun r v => v = u ∧ K r) _ s 0 0) (F0 m 0 ls [])
  unfold pX19_ownerOf at h
  refine lv_aload_n hx hb dX19_ownerOf_0 rfl (lv_at hl 0 rfl) ?_
  refine lv_iload_n hx hb dX19_ownerOf_1 rfl (lv_at hl 1 rfl) ?_
  have hk_1 : kd u a0 = 16 := h.1
  have h := h.2
  refine g_callio hw (g_V X hw (mX19_slot l G _ _ _ _ h) 1 (lw_V q2000 q2002 qs99 q143 q2003) rfl rfl ydX19_slot ⟨Nat.le_of_ble_eq_true rfl, Nat.le_of_ble_eq_true rfl⟩ (g_recv X hw (ci := 15) (q := (RX19, TX19, 46)) hk_1 rfl) (As := [.int x1]) (rest := []) rfl hl.1 rfl (Nat.le_of_ble_eq_true rfl) dX19_ownerOf_2 ⟨Nat.le_refl _, Nat.le_refl _⟩) (fun r_2 H locs h hw => ?_)
  refine lv_istore_n (lv' := [(2, .int r_2), (0, .ref a0), (1, .int x1)]) hx hb dX19_ownerOf_5 rfl hl (by decide) rfl (fun ls hl => ?_)
  refine lv_aload_n hx hb dX19_ownerOf_6 rfl (lv_at hl 1 rfl) ?_
  obtain ⟨b_3, e_4, h⟩ := h
  refine g_getR X hw in_X19 hk_1 rfl 27 rfl (by decide) q1478 (fun _ z => z) e_4 dX19_ownerOf_7 ?_
  refine lv_iload_n hx hb dX19_ownerOf_10 rfl (lv_at hl 0 rfl) ?_
  have hk_5 : kd u b_3 = 101 := h.1
  have h := h.2
  refine g_iald X hw hk_5 h.1 dX19_ownerOf_11 ?_
  have h := h.2
  refine lv_iconst (v := (-1)) hx hb dX19_ownerOf_12 (by decide) ?_
  refine lv_icmp_ne (tgt := 20) hx hb dX19_ownerOf_13 rfl (fun c_9 => ?_) (fun c_9 => ?_)
  · have h := h.2 c_9
    refine lv_aload_n hx hb dX19_ownerOf_20 rfl (lv_at hl 1 rfl) ?_
    obtain ⟨b_6, e_7, h⟩ := h
    refine g_getR X hw in_X19 hk_1 rfl 28 rfl (by decide) q1479 (fun _ z => z) e_7 dX19_ownerOf_21 ?_
    refine lv_iload_n hx hb dX19_ownerOf_24 rfl (lv_at hl 0 rfl) ?_
    have hk_8 : kd u b_6 = 101 := h.1
    have h := h.2
    refine g_iald X hw hk_8 h.1 dX19_ownerOf_25 ?_
    have h := h.2
    exact g_iret X hw hr ⟨rfl, h⟩ (Nat.le_refl _) (Nat.le_refl _) dX19_ownerOf_26
  · have h := h.1 c_9
    refine lv_iconst (v := (-1)) hx hb dX19_ownerOf_16 (by decide) ?_
    refine lv_goto (tgt := 26) hx hb dX19_ownerOf_17 rfl ?_
    exact g_iret X hw hr ⟨rfl, h⟩ (Nat.le_refl _) (Nat.le_refl _) dX19_ownerOf_26

/-! FifthCardModel.owns(II)V -/
theorem ydX19_owns : yX19_owns.cls = "FifthCardModel" ∧ yX19_owns.cls ≠ "java/lang/invoke/MethodHandle" ∧ yX19_owns.cls ≠ "java/lang/invoke/VarHandle" ∧ (parseMethodDescriptor yX19_owns.desc).map (fun d => d.parameters.length) = some 2 := by decide +kernel
def rmX19_owns (mc ms : Nat) : Room := { frames := 1, cells := mc, slots := ms, locals := 22 }
set_option maxHeartbeats 4000000 in
theorem mX19_owns (l : Launch) (G : GT) (u : Hp) (a0 : Nat) (x1 : Int32) (x2 : Int32) (K : Hp → Prop) (h : pX19_owns u a0 x1 x2 K) : Met l yX19_owns (ws_ yX19_owns cX19_owns 4 none) (rmX19_owns 0 0) (va_Pc [.ref a0, .int x1, .int x2] (GB G u)) (va_Qv K (fun u t => GH G u t.heap) (GA G)) 0 0 (GA G) := by
  refine Met.ofW (cc := cX19_owns) (maxL := 4) (ret := none) (by decide) rfl ?_
  intro p e s m args below meth c s₁ B hml hv
  obtain ⟨rfl, hv⟩ := hv
  have X := Mc_of (own := RX19) B hml rfl hv
  have hw : GW G u s s.heap [] := ⟨hv.2.1, va_S.rf⟩
  have hr := B.returns
  obtain ⟨hx, hb, hml, hown, hts, -⟩ := id X
  have hl := lv_entry ([.ref a0, .int x1, .int x2]) (n := 4) (Nat.le_of_ble_eq_true rfl)
  rw [lg_entry_eq]
  generalize (lg_sl ([.ref a0, .int x1, .int x2]) ++ List.replicate (4 - (lg_sl ([.ref a0, .int x1, .int x2])).length) Slot.unset).toArray = ls at hl ⊢
  have hl : lv_has ls 4 [(0, .ref a0), (1, .int x1), (2, .int x2)] := hl
  change W p l e (rmX19_owns 0 0) s m _ below meth c s.heap [] 0 0 (QV G below K _ s 0 0) (F0 m 0 ls [])
  unfold pX19_owns at h
  refine lv_aload_n hx hb dX19_owns_0 rfl (lv_at hl 0 rfl) ?_
  refine lv_iload_n hx hb dX19_owns_1 rfl (lv_at hl 1 rfl) ?_
  have hk_1 : kd u a0 = 16 := h.1
  have h := h.2
  refine g_callio hw (g_V X hw (mX19_slot l G _ _ _ _ h) 1 (lw_V q2000 q2002 qs99 q143 q2003) rfl rfl ydX19_slot ⟨Nat.le_of_ble_eq_true rfl, Nat.le_of_ble_eq_true rfl⟩ (g_recv X hw (ci := 15) (q := (RX19, TX19, 46)) hk_1 rfl) (As := [.int x1]) (rest := []) rfl hl.1 rfl (Nat.le_of_ble_eq_true rfl) dX19_owns_2 ⟨Nat.le_refl _, Nat.le_refl _⟩) (fun r_2 H locs h hw => ?_)
  refine lv_istore_n (lv' := [(3, .int r_2), (0, .ref a0), (1, .int x1), (2, .int x2)]) hx hb dX19_owns_5 rfl hl (by decide) rfl (fun ls hl => ?_)
  refine lv_aload_n hx hb dX19_owns_6 rfl (lv_at hl 1 rfl) ?_
  obtain ⟨b_3, e_4, h⟩ := h
  refine g_getR X hw in_X19 hk_1 rfl 27 rfl (by decide) q1478 (fun _ z => z) e_4 dX19_owns_7 ?_
  refine lv_iload_n hx hb dX19_owns_10 rfl (lv_at hl 0 rfl) ?_
  refine lv_iload_n hx hb dX19_owns_11 rfl (lv_at hl 2 rfl) ?_
  have hk_5 : kd u b_3 = 101 := h.1
  have h := h.2
  refine g_iast X hw hk_5 h.1 dX19_owns_12 (fun H locs hw => ?_)
  have h := h.2
  refine lv_aload_n hx hb dX19_owns_13 rfl (lv_at hl 1 rfl) ?_
  obtain ⟨b_6, e_7, h⟩ := h
  refine g_getR X hw in_X19 hk_1 rfl 28 rfl (by decide) q1479 (fun _ z => z) e_7 dX19_owns_14 ?_
  refine lv_iload_n hx hb dX19_owns_17 rfl (lv_at hl 0 rfl) ?_
  refine lv_iload_n hx hb dX19_owns_18 rfl (lv_at hl 3 rfl) ?_
  have hk_8 : kd u b_6 = 101 := h.1
  have h := h.2
  refine g_iast X hw hk_8 h.1 dX19_owns_19 (fun H locs hw => ?_)
  have h := h.2
  exact g_vret X hw hr h (Nat.le_refl _) (Nat.le_refl _) dX19_owns_20

/-! FifthCardModel.takes(II)V -/
theorem ydX19_takes : yX19_takes.cls = "FifthCardModel" ∧ yX19_takes.cls ≠ "java/lang/invoke/MethodHandle" ∧ yX19_takes.cls ≠ "java/lang/invoke/VarHandle" ∧ (parseMethodDescriptor yX19_takes.desc).map (fun d => d.parameters.length) = some 2 := by decide +kernel
def rmX19_takes (mc ms : Nat) : Room := { frames := 2, cells := mc, slots := ms, locals := 45 }
set_option maxHeartbeats 4000000 in
theorem wX19_takes_5 {G : GT} {p : Program} {l : Launch} {e : Env} {s : State} {m : MethodId} {args : Array Value} {below : List Frame} {meth : Method} {c : Code} {H : Heap} {locs : List Loc} {ls : Array Slot} {a0 : Nat} {x3 : Int32} {x4 : Int32} {u : Hp} {K : Hp → Prop} (X : Mc G p s m args meth c RX19 cX19_takes 6) (hr : meth.sig.returnType = none) (h : jl3 (bX19_takes_5 K a0) x3 x4 u) (hw : GW G u s H locs) (hl : lv_has ls 6 [(0, .ref a0), (3, .int x3), (4, .int x4)]) : W p l e (rmX19_takes 0 0) s m args below meth c H locs 0 0 (QV G below K args s 0 0) (F0 m 5 ls []) := by
  obtain ⟨hx, hb, hml, hown, hts, -⟩ := id X
  obtain ⟨I, μ, h0, hs⟩ := h
  have key : ∀ (n : Nat) (x3 : Int32) (x4 : Int32) (u : Hp) (H : Heap) (locs : List Loc) (ls : Array Slot) , μ x3 x4 u < n → I x3 x4 u → GW G u s H locs → lv_has ls 6 [(0, .ref a0), (3, .int x3), (4, .int x4)] → W p l e (rmX19_takes 0 0) s m args below meth c H locs 0 0 (QV G below K args s 0 0) (F0 m 5 ls []) := by
    intro n
    induction n with
    | zero =>
      intro x3 x4 u H locs ls hn
      exact absurd hn (Nat.not_lt_zero _)
    | succ n ih =>
      intro x3 x4 u H locs ls hn hI hw hl
      have h := hs x3 x4 u hI
      unfold bX19_takes_5 at h
      have hJ5 : ∀ (x3' : Int32) (x4' : Int32) (u' : Hp) (H : Heap) (locs : List Loc) (ls : Array Slot) , (I x3' x4' u' ∧ μ x3' x4' u' < μ x3 x4 u) → GW G u' s H locs → lv_has ls 6 [(0, .ref a0), (3, .int x3'), (4, .int x4')] → W p l e (rmX19_takes 0 0) s m args below meth c H locs 0 0 (QV G below K args s 0 0) (F0 m 5 ls []) := fun x3' x4' u' H locs ls h hw hl => ih x3' x4' u' H locs ls (Nat.lt_of_lt_of_le h.2 (Nat.le_of_lt_succ hn)) h.1 hw hl
      refine lv_iload_n hx hb dX19_takes_5 rfl (lv_at hl 1 rfl) ?_
      refine lv_iconst (v := (-1)) hx hb dX19_takes_6 (by decide) ?_
      refine lv_icmp_eq (tgt := 47) hx hb dX19_takes_7 rfl (fun c_10 => ?_) (fun c_10 => ?_)
      · have h := h.1 c_10
        exact g_vret X hw hr h (Nat.le_refl _) (Nat.le_refl _) dX19_takes_47
      · have h := h.2 c_10
        refine lv_aload_n hx hb dX19_takes_10 rfl (lv_at hl 0 rfl) ?_
        have hk_1 : kd u a0 = 16 := h.1
        have h := h.2
        obtain ⟨b_2, e_3, h⟩ := h
        refine g_getR X hw in_X19 hk_1 rfl 29 rfl (by decide) q1480 (fun _ z => z) e_3 dX19_takes_11 ?_
        refine lv_iload_n hx hb dX19_takes_14 rfl (lv_at hl 1 rfl) ?_
        have hk_4 : kd u b_2 = 101 := h.1
        have h := h.2
        refine g_iald X hw hk_4 h.1 dX19_takes_15 ?_
        have h := h.2
        refine lv_istore (lv' := [(5, .int (AI u b_2 (tn x3))), (0, .ref a0), (3, .int x3), (4, .int x4)]) hx hb dX19_takes_16 hl (by decide) rfl (fun ls hl => ?_)
        refine lv_aload_n hx hb dX19_takes_18 rfl (lv_at hl 1 rfl) ?_
        refine g_getR X hw in_X19 hk_1 rfl 29 rfl (by decide) q1480 (fun _ z => z) e_3 dX19_takes_19 ?_
        refine lv_iload_n hx hb dX19_takes_22 rfl (lv_at hl 2 rfl) ?_
        refine lv_iload hx hb dX19_takes_23 (lv_at hl 3 rfl) ?_
        refine g_iast X hw hk_4 h.1 dX19_takes_25 (fun H locs hw => ?_)
        have h := h.2
        refine lv_aload_n hx hb dX19_takes_26 rfl (lv_at hl 1 rfl) ?_
        refine lv_iload hx hb dX19_takes_27 (lv_at hl 3 rfl) ?_
        refine lv_iload_n hx hb dX19_takes_29 rfl (lv_at hl 2 rfl) ?_
        refine g_callv hw (g_V X hw (mX19_owns l G _ _ _ _ _ h) 2 (lw_V q2009 q2011 qs101 q143 q2012) rfl rfl ydX19_owns ⟨Nat.le_of_ble_eq_true rfl, Nat.le_of_ble_eq_true rfl⟩ (g_recv X hw (ci := 15) (q := (RX19, TX19, 46)) hk_1 rfl) (As := [.int x4, .int x3]) (rest := []) rfl hl.1 rfl (Nat.le_of_ble_eq_true rfl) dX19_takes_30 ⟨Nat.le_refl _, Nat.le_refl _⟩) (fun u_5 H locs h hw => ?_)
        refine lv_iload hx hb dX19_takes_33 (lv_at hl 0 rfl) ?_
        refine lv_istore (lv' := [(4, .int (AI u b_2 (tn x3))), (5, .int (AI u b_2 (tn x3))), (0, .ref a0), (3, .int x3)]) hx hb dX19_takes_35 hl (by decide) rfl (fun ls hl => ?_)
        refine lv_aload_n hx hb dX19_takes_37 rfl (lv_at hl 2 rfl) ?_
        have hk_6 : kd u_5 a0 = 16 := h.1
        have h := h.2
        obtain ⟨b_7, e_8, h⟩ := h
        refine g_getR X hw in_X19 hk_6 rfl 31 rfl (by decide) q1482 (fun _ z => z) e_8 dX19_takes_38 ?_
        refine lv_iload_n hx hb dX19_takes_41 rfl (lv_at hl 3 rfl) ?_
        have hk_9 : kd u_5 b_7 = 101 := h.1
        have h := h.2
        refine g_iald X hw hk_9 h.1 dX19_takes_42 ?_
        have h := h.2
        refine lv_istore_n (lv' := [(3, .int (AI u_5 b_7 (tn x3))), (4, .int (AI u b_2 (tn x3))), (5, .int (AI u b_2 (tn x3))), (0, .ref a0)]) hx hb dX19_takes_43 rfl hl (by decide) rfl (fun ls hl => ?_)
        refine lv_goto (tgt := 5) hx hb dX19_takes_44 rfl ?_
        exact hJ5 _ _ _ _ _ _ h hw (lv_sub hl [3, 0, 1] rfl)
  exact key _ _ _ _ _ _ _ (Nat.lt_succ_self _) h0 hw hl
set_option maxHeartbeats 4000000 in
theorem mX19_takes (l : Launch) (G : GT) (u : Hp) (a0 : Nat) (x1 : Int32) (x2 : Int32) (K : Hp → Prop) (h : pX19_takes u a0 x1 x2 K) : Met l yX19_takes (ws_ yX19_takes cX19_takes 6 none) (rmX19_takes 0 0) (va_Pc [.ref a0, .int x1, .int x2] (GB G u)) (va_Qv K (fun u t => GH G u t.heap) (GA G)) 0 0 (GA G) := by
  refine Met.ofW (cc := cX19_takes) (maxL := 6) (ret := none) (by decide) rfl ?_
  intro p e s m args below meth c s₁ B hml hv
  obtain ⟨rfl, hv⟩ := hv
  have X := Mc_of (own := RX19) B hml rfl hv
  have hw : GW G u s s.heap [] := ⟨hv.2.1, va_S.rf⟩
  have hr := B.returns
  obtain ⟨hx, hb, hml, hown, hts, -⟩ := id X
  have hl := lv_entry ([.ref a0, .int x1, .int x2]) (n := 6) (Nat.le_of_ble_eq_true rfl)
  rw [lg_entry_eq]
  generalize (lg_sl ([.ref a0, .int x1, .int x2]) ++ List.replicate (6 - (lg_sl ([.ref a0, .int x1, .int x2])).length) Slot.unset).toArray = ls at hl ⊢
  have hl : lv_has ls 6 [(0, .ref a0), (1, .int x1), (2, .int x2)] := hl
  change W p l e (rmX19_takes 0 0) s m _ below meth c s.heap [] 0 0 (QV G below K _ s 0 0) (F0 m 0 ls [])
  unfold pX19_takes at h
  refine lv_iload_n hx hb dX19_takes_0 rfl (lv_at hl 1 rfl) ?_
  refine lv_istore_n (lv' := [(3, .int x1), (0, .ref a0), (1, .int x1), (2, .int x2)]) hx hb dX19_takes_1 rfl hl (by decide) rfl (fun ls hl => ?_)
  refine lv_iload_n hx hb dX19_takes_2 rfl (lv_at hl 3 rfl) ?_
  refine lv_istore (lv' := [(4, .int x2), (3, .int x1), (0, .ref a0), (1, .int x1), (2, .int x2)]) hx hb dX19_takes_3 hl (by decide) rfl (fun ls hl => ?_)
  exact wX19_takes_5 X hr  h hw (lv_sub hl [2, 1, 0] rfl)

/-! FifthCardModel.goesOnFrom(III)Z -/
theorem ydX19_goesOnFrom : yX19_goesOnFrom.cls = "FifthCardModel" ∧ yX19_goesOnFrom.cls ≠ "java/lang/invoke/MethodHandle" ∧ yX19_goesOnFrom.cls ≠ "java/lang/invoke/VarHandle" ∧ (parseMethodDescriptor yX19_goesOnFrom.desc).map (fun d => d.parameters.length) = some 3 := by decide +kernel
def rmX19_goesOnFrom (mc ms : Nat) : Room := { frames := 3, cells := mc, slots := ms, locals := 70 }
set_option maxHeartbeats 4000000 in
theorem wX19_goesOnFrom_194 {G : GT} {p : Program} {l : Launch} {e : Env} {s : State} {m : MethodId} {args : Array Value} {below : List Frame} {meth : Method} {c : Code} {H : Heap} {locs : List Loc} {ls : Array Slot} {a0 : Nat} {x2 : Int32} {x4 : Int32} {x5 : Int32} {u : Hp} {K : Int32 → Hp → Prop} (X : Mc G p s m args meth c RX19 cX19_goesOnFrom 10) (hr : meth.sig.returnType = (some .boolean)) (h : jl2 (bX19_goesOnFrom_194 K a0 x2 x4) x5 u) (hw : GW G u s H locs) (hl : lv_has ls 10 [(0, .ref a0), (2, .int x2), (4, .int x4), (5, .int x5)]) : W p l e (rmX19_goesOnFrom 0 0) s m args below meth c H locs 0 0 (QI G below K args s 0 0) (F0 m 194 ls []) := by
  obtain ⟨hx, hb, hml, hown, hts, -⟩ := id X
  obtain ⟨I, μ, h0, hs⟩ := h
  have key : ∀ (n : Nat) (x5 : Int32) (u : Hp) (H : Heap) (locs : List Loc) (ls : Array Slot) , μ x5 u < n → I x5 u → GW G u s H locs → lv_has ls 10 [(0, .ref a0), (2, .int x2), (4, .int x4), (5, .int x5)] → W p l e (rmX19_goesOnFrom 0 0) s m args below meth c H locs 0 0 (QI G below K args s 0 0) (F0 m 194 ls []) := by
    intro n
    induction n with
    | zero =>
      intro x5 u H locs ls hn
      exact absurd hn (Nat.not_lt_zero _)
    | succ n ih =>
      intro x5 u H locs ls hn hI hw hl
      have h := hs x5 u hI
      unfold bX19_goesOnFrom_194 at h
      have hJ194 : ∀ (x5' : Int32) (u' : Hp) (H : Heap) (locs : List Loc) (ls : Array Slot) , (I x5' u' ∧ μ x5' u' < μ x5 u) → GW G u' s H locs → lv_has ls 10 [(0, .ref a0), (2, .int x2), (4, .int x4), (5, .int x5')] → W p l e (rmX19_goesOnFrom 0 0) s m args below meth c H locs 0 0 (QI G below K args s 0 0) (F0 m 194 ls []) := fun x5' u' H locs ls h hw hl => ih x5' u' H locs ls (Nat.lt_of_lt_of_le h.2 (Nat.le_of_lt_succ hn)) h.1 hw hl
      refine lv_iload hx hb dX19_goesOnFrom_194 (lv_at hl 3 rfl) ?_
      refine lv_iload hx hb dX19_goesOnFrom_196 (lv_at hl 2 rfl) ?_
      refine lv_icmp_ge (tgt := 224) hx hb dX19_goesOnFrom_198 rfl (fun c_9 => ?_) (fun c_9 => ?_)
      · have h := h.1 c_9
        refine lv_iconst (v := 0) hx hb dX19_goesOnFrom_224 (by decide) ?_
        exact g_zret X hw hr rfl h (Nat.le_refl _) (Nat.le_refl _) dX19_goesOnFrom_225
      · have h := h.2 c_9
        refine lv_iload_n hx hb dX19_goesOnFrom_201 rfl (lv_at hl 1 rfl) ?_
        refine lv_if_ne (tgt := 224) hx hb dX19_goesOnFrom_202 rfl (fun c_8 => ?_) (fun c_8 => ?_)
        · have h := h.2 c_8
          refine lv_iconst (v := 0) hx hb dX19_goesOnFrom_224 (by decide) ?_
          exact g_zret X hw hr rfl h (Nat.le_refl _) (Nat.le_refl _) dX19_goesOnFrom_225
        · have h := h.1 c_8
          refine lv_aload_n hx hb dX19_goesOnFrom_205 rfl (lv_at hl 0 rfl) ?_
          have hk_1 : kd u a0 = 16 := h.1
          have h := h.2
          obtain ⟨b_2, e_3, h⟩ := h
          refine g_getR X hw in_X19 hk_1 rfl 32 rfl (by decide) q1483 (fun _ z => z) e_3 dX19_goesOnFrom_206 ?_
          refine lv_aload_n hx hb dX19_goesOnFrom_209 rfl (lv_at hl 0 rfl) ?_
          obtain ⟨b_4, e_5, h⟩ := h
          refine g_getR X hw in_X19 hk_1 rfl 30 rfl (by decide) q1481 (fun _ z => z) e_5 dX19_goesOnFrom_210 ?_
          refine lv_iload hx hb dX19_goesOnFrom_213 (lv_at hl 3 rfl) ?_
          have hk_6 : kd u b_4 = 101 := h.1
          have h := h.2
          refine g_iald X hw hk_6 h.1 dX19_goesOnFrom_215 ?_
          have h := h.2
          refine lv_iconst (v := 1) hx hb dX19_goesOnFrom_216 (by decide) ?_
          have hk_7 : kd u b_2 = 104 := h.1
          have h := h.2
          refine g_zast X hw hk_7 h.1 dX19_goesOnFrom_217 (fun H locs hw => ?_)
          have h := h.2
          refine lv_iinc (v := x5 + 1) (lv' := [(5, .int (x5 + 1)), (0, .ref a0), (2, .int x2), (4, .int x4)]) hx hb dX19_goesOnFrom_218 hl (k := 3) rfl rfl (by decide) rfl (fun ls hl => ?_)
          refine lv_goto (tgt := 194) hx hb dX19_goesOnFrom_221 rfl ?_
          exact hJ194 _ _ _ _ _ h hw (lv_sub hl [1, 2, 3, 0] rfl)
  exact key _ _ _ _ _ _ (Nat.lt_succ_self _) h0 hw hl
set_option maxHeartbeats 4000000 in
theorem wX19_goesOnFrom_86 {G : GT} {p : Program} {l : Launch} {e : Env} {s : State} {m : MethodId} {args : Array Value} {below : List Frame} {meth : Method} {c : Code} {H : Heap} {locs : List Loc} {ls : Array Slot} {a0 : Nat} {x2 : Int32} {x3 : Int32} {x5 : Int32} {x6 : Int32} {x4 : Int32} {x7 : Int32} {u : Hp} {K : Int32 → Hp → Prop} {J61 : Int32 → Int32 → Hp → Prop} (X : Mc G p s m args meth c RX19 cX19_goesOnFrom 10) (hr : meth.sig.returnType = (some .boolean)) (hJ61 : ∀ (x4 : Int32) (x5 : Int32) (u : Hp) (H : Heap) (locs : List Loc) (ls : Array Slot) , J61 x4 x5 u → GW G u s H locs → lv_has ls 10 [(0, .ref a0), (2, .int x2), (3, .int x3), (4, .int x4), (5, .int x5)] → W p l e (rmX19_goesOnFrom 0 0) s m args below meth c H locs 0 0 (QI G below K args s 0 0) (F0 m 61 ls [])) (h : jl3 (bX19_goesOnFrom_86 K J61 a0 x2 x3 x5 x6) x4 x7 u) (hw : GW G u s H locs) (hl : lv_has ls 10 [(0, .ref a0), (2, .int x2), (3, .int x3), (4, .int x4), (5, .int x5), (6, .int x6), (7, .int x7)]) : W p l e (rmX19_goesOnFrom 0 0) s m args below meth c H locs 0 0 (QI G below K args s 0 0) (F0 m 86 ls []) := by
  obtain ⟨hx, hb, hml, hown, hts, -⟩ := id X
  obtain ⟨I, μ, h0, hs⟩ := h
  have key : ∀ (n : Nat) (x4 : Int32) (x7 : Int32) (u : Hp) (H : Heap) (locs : List Loc) (ls : Array Slot) , μ x4 x7 u < n → I x4 x7 u → GW G u s H locs → lv_has ls 10 [(0, .ref a0), (2, .int x2), (3, .int x3), (4, .int x4), (5, .int x5), (6, .int x6), (7, .int x7)] → W p l e (rmX19_goesOnFrom 0 0) s m args below meth c H locs 0 0 (QI G below K args s 0 0) (F0 m 86 ls []) := by
    intro n
    induction n with
    | zero =>
      intro x4 x7 u H locs ls hn
      exact absurd hn (Nat.not_lt_zero _)
    | succ n ih =>
      intro x4 x7 u H locs ls hn hI hw hl
      have h := hs x4 x7 u hI
      unfold bX19_goesOnFrom_86 at h
      have hJ86 : ∀ (x4' : Int32) (x7' : Int32) (u' : Hp) (H : Heap) (locs : List Loc) (ls : Array Slot) , (I x4' x7' u' ∧ μ x4' x7' u' < μ x4 x7 u) → GW G u' s H locs → lv_has ls 10 [(0, .ref a0), (2, .int x2), (3, .int x3), (4, .int x4'), (5, .int x5), (6, .int x6), (7, .int x7')] → W p l e (rmX19_goesOnFrom 0 0) s m args below meth c H locs 0 0 (QI G below K args s 0 0) (F0 m 86 ls []) := fun x4' x7' u' H locs ls h hw hl => ih x4' x7' u' H locs ls (Nat.lt_of_lt_of_le h.2 (Nat.le_of_lt_succ hn)) h.1 hw hl
      refine lv_iload hx hb dX19_goesOnFrom_86 (lv_at hl 6 rfl) ?_
      refine lv_aload_n hx hb dX19_goesOnFrom_88 rfl (lv_at hl 0 rfl) ?_
      have hk_10 : kd u a0 = 16 := h.1
      have h := h.2
      refine g_getI X hw in_X19 hk_10 rfl 22 rfl (by decide) q1473 (fun _ z => z) dX19_goesOnFrom_89 ?_
      refine lv_icmp_ge (tgt := 185) hx hb dX19_goesOnFrom_92 rfl (fun c_26 => ?_) (fun c_26 => ?_)
      · have h := h.1 c_26
        refine lv_iinc (v := x5 + 1) (lv' := [(5, .int (x5 + 1)), (0, .ref a0), (2, .int x2), (3, .int x3), (4, .int x4), (6, .int x6), (7, .int x7)]) hx hb dX19_goesOnFrom_185 hl (k := 4) rfl rfl (by decide) rfl (fun ls hl => ?_)
        refine lv_goto (tgt := 61) hx hb dX19_goesOnFrom_188 rfl ?_
        exact hJ61 _ _ _ _ _ _ h hw (lv_sub hl [1, 2, 3, 4, 0] rfl)
      · have h := h.2 c_26
        refine lv_aload_n hx hb dX19_goesOnFrom_95 rfl (lv_at hl 0 rfl) ?_
        obtain ⟨b_11, e_12, h⟩ := h
        refine g_getR X hw in_X19 hk_10 rfl 21 rfl (by decide) q1472 (fun _ z => z) e_12 dX19_goesOnFrom_96 ?_
        refine lv_iload hx hb dX19_goesOnFrom_99 (lv_at hl 6 rfl) ?_
        have hk_13 : kd u b_11 = 101 := h.1
        have h := h.2
        refine g_iald X hw hk_13 h.1 dX19_goesOnFrom_101 ?_
        have h := h.2
        refine lv_istore (lv' := [(8, .int (AI u b_11 (tn x7))), (0, .ref a0), (2, .int x2), (3, .int x3), (4, .int x4), (5, .int x5), (6, .int x6), (7, .int x7)]) hx hb dX19_goesOnFrom_102 hl (by decide) rfl (fun ls hl => ?_)
        refine lv_iload hx hb dX19_goesOnFrom_104 (lv_at hl 0 rfl) ?_
        refine lv_iload_n hx hb dX19_goesOnFrom_106 rfl (lv_at hl 3 rfl) ?_
        refine lv_icmp_ne (tgt := 113) hx hb dX19_goesOnFrom_107 rfl (fun c_25 => ?_) (fun c_25 => ?_)
        · have h := h.2 c_25
          refine lv_aload_n hx hb dX19_goesOnFrom_113 rfl (lv_at hl 1 rfl) ?_
          refine lv_iload hx hb dX19_goesOnFrom_114 (lv_at hl 0 rfl) ?_
          refine g_callio hw (g_V X hw (mX19_ownerOf l G _ _ _ _ h) 1 (lw_V q1996 q1998 qs98 q143 q1999) rfl rfl ydX19_ownerOf ⟨Nat.le_of_ble_eq_true rfl, Nat.le_of_ble_eq_true rfl⟩ (g_recv X hw (ci := 15) (q := (RX19, TX19, 46)) hk_10 rfl) (As := [.int (AI u b_11 (tn x7))]) (rest := []) rfl hl.1 rfl (Nat.le_of_ble_eq_true rfl) dX19_goesOnFrom_116 ⟨Nat.le_refl _, Nat.le_refl _⟩) (fun r_14 H locs h hw => ?_)
          refine lv_istore (lv' := [(9, .int r_14), (8, .int (AI u b_11 (tn x7))), (0, .ref a0), (2, .int x2), (3, .int x3), (4, .int x4), (5, .int x5), (6, .int x6), (7, .int x7)]) hx hb dX19_goesOnFrom_119 hl (by decide) rfl (fun ls hl => ?_)
          refine lv_iload hx hb dX19_goesOnFrom_121 (lv_at hl 0 rfl) ?_
          refine lv_iconst (v := (-1)) hx hb dX19_goesOnFrom_123 (by decide) ?_
          refine lv_icmp_ne (tgt := 137) hx hb dX19_goesOnFrom_124 rfl (fun c_24 => ?_) (fun c_24 => ?_)
          · have h := h.2 c_24
            refine lv_iload hx hb dX19_goesOnFrom_137 (lv_at hl 0 rfl) ?_
            refine lv_iload_n hx hb dX19_goesOnFrom_139 rfl (lv_at hl 3 rfl) ?_
            refine lv_icmp_lt (tgt := 179) hx hb dX19_goesOnFrom_140 rfl (fun c_22 => ?_) (fun c_22 => ?_)
            · have h := h.1 c_22
              refine lv_iinc (v := x7 + 1) (lv' := [(7, .int (x7 + 1)), (9, .int r_14), (8, .int (AI u b_11 (tn x7))), (0, .ref a0), (2, .int x2), (3, .int x3), (4, .int x4), (5, .int x5), (6, .int x6)]) hx hb dX19_goesOnFrom_179 hl (k := 8) rfl rfl (by decide) rfl (fun ls hl => ?_)
              refine lv_goto (tgt := 86) hx hb dX19_goesOnFrom_182 rfl ?_
              exact hJ86 _ _ _ _ _ _ h hw (lv_sub hl [3, 4, 5, 6, 7, 8, 0] rfl)
            · have h := h.2 c_22
              refine lv_aload_n hx hb dX19_goesOnFrom_143 rfl (lv_at hl 2 rfl) ?_
              obtain ⟨b_15, e_16, h⟩ := h
              refine g_getR X hw in_X19 hk_10 rfl 31 rfl (by decide) q1482 (fun _ z => z) e_16 dX19_goesOnFrom_144 ?_
              refine lv_iload hx hb dX19_goesOnFrom_147 (lv_at hl 0 rfl) ?_
              have hk_17 : kd u b_15 = 101 := h.1
              have h := h.2
              refine g_iald X hw hk_17 h.1 dX19_goesOnFrom_149 ?_
              have h := h.2
              refine lv_bipush (v := (-2)) hx hb dX19_goesOnFrom_150 (by decide) ?_
              refine lv_icmp_eq (tgt := 158) hx hb dX19_goesOnFrom_152 rfl (fun c_21 => ?_) (fun c_21 => ?_)
              · have h := h.1 c_21
                refine lv_aload_n hx hb dX19_goesOnFrom_158 rfl (lv_at hl 2 rfl) ?_
                refine g_getR X hw in_X19 hk_10 rfl 31 rfl (by decide) q1482 (fun _ z => z) e_16 dX19_goesOnFrom_159 ?_
                refine lv_iload hx hb dX19_goesOnFrom_162 (lv_at hl 0 rfl) ?_
                refine lv_iload hx hb dX19_goesOnFrom_164 (lv_at hl 7 rfl) ?_
                refine g_iast X hw hk_17 h.1 dX19_goesOnFrom_166 (fun H locs hw => ?_)
                have h := h.2
                refine lv_aload_n hx hb dX19_goesOnFrom_167 rfl (lv_at hl 2 rfl) ?_
                obtain ⟨b_18, e_19, h⟩ := h
                refine g_getR X hw in_X19 hk_10 rfl 30 rfl (by decide) q1481 (fun _ z => z) e_19 dX19_goesOnFrom_168 ?_
                refine lv_iload hx hb dX19_goesOnFrom_171 (lv_at hl 5 rfl) ?_
                refine lv_iload hx hb dX19_goesOnFrom_173 (lv_at hl 0 rfl) ?_
                have hk_20 : kd u b_18 = 101 := h.1
                have h := h.2
                refine g_iast X hw hk_20 h.1 dX19_goesOnFrom_175 (fun H locs hw => ?_)
                have h := h.2
                refine lv_iinc (v := x4 + 1) (lv' := [(4, .int (x4 + 1)), (9, .int r_14), (8, .int (AI u b_11 (tn x7))), (0, .ref a0), (2, .int x2), (3, .int x3), (5, .int x5), (6, .int x6), (7, .int x7)]) hx hb dX19_goesOnFrom_176 hl (k := 5) rfl rfl (by decide) rfl (fun ls hl => ?_)
                refine lv_iinc (v := x7 + 1) (lv' := [(7, .int (x7 + 1)), (4, .int (x4 + 1)), (9, .int r_14), (8, .int (AI u b_11 (tn x7))), (0, .ref a0), (2, .int x2), (3, .int x3), (5, .int x5), (6, .int x6)]) hx hb dX19_goesOnFrom_179 hl (k := 8) rfl rfl (by decide) rfl (fun ls hl => ?_)
                refine lv_goto (tgt := 86) hx hb dX19_goesOnFrom_182 rfl ?_
                exact hJ86 _ _ _ _ _ _ h hw (lv_sub hl [4, 5, 6, 1, 7, 8, 0] rfl)
              · have h := h.2 c_21
                refine lv_goto (tgt := 179) hx hb dX19_goesOnFrom_155 rfl ?_
                refine lv_iinc (v := x7 + 1) (lv' := [(7, .int (x7 + 1)), (9, .int r_14), (8, .int (AI u b_11 (tn x7))), (0, .ref a0), (2, .int x2), (3, .int x3), (4, .int x4), (5, .int x5), (6, .int x6)]) hx hb dX19_goesOnFrom_179 hl (k := 8) rfl rfl (by decide) rfl (fun ls hl => ?_)
                refine lv_goto (tgt := 86) hx hb dX19_goesOnFrom_182 rfl ?_
                exact hJ86 _ _ _ _ _ _ h hw (lv_sub hl [3, 4, 5, 6, 7, 8, 0] rfl)
          · have h := h.1 c_24
            refine lv_aload_n hx hb dX19_goesOnFrom_127 rfl (lv_at hl 2 rfl) ?_
            refine lv_iload hx hb dX19_goesOnFrom_128 (lv_at hl 7 rfl) ?_
            refine lv_iload hx hb dX19_goesOnFrom_130 (lv_at hl 1 rfl) ?_
            refine g_callv hw (g_V X hw (mX19_takes l G _ _ _ _ _ h) 2 (lw_V q2005 q2007 qs100 q143 q2008) rfl rfl ydX19_takes ⟨Nat.le_of_ble_eq_true rfl, Nat.le_of_ble_eq_true rfl⟩ (g_recv X hw (ci := 15) (q := (RX19, TX19, 46)) hk_10 rfl) (As := [.int x6, .int (AI u b_11 (tn x7))]) (rest := []) rfl hl.1 rfl (Nat.le_of_ble_eq_true rfl) dX19_goesOnFrom_132 ⟨Nat.le_refl _, Nat.le_refl _⟩) (fun u_23 H locs h hw => ?_)
            refine lv_iconst (v := 1) hx hb dX19_goesOnFrom_135 (by decide) ?_
            exact g_zret X hw hr rfl h (Nat.le_refl _) (Nat.le_refl _) dX19_goesOnFrom_136
        · have h := h.1 c_25
          refine lv_goto (tgt := 179) hx hb dX19_goesOnFrom_110 rfl ?_
          refine lv_iinc (v := x7 + 1) (lv' := [(7, .int (x7 + 1)), (8, .int (AI u b_11 (tn x7))), (0, .ref a0), (2, .int x2), (3, .int x3), (4, .int x4), (5, .int x5), (6, .int x6)]) hx hb dX19_goesOnFrom_179 hl (k := 7) rfl rfl (by decide) rfl (fun ls hl => ?_)
          refine lv_goto (tgt := 86) hx hb dX19_goesOnFrom_182 rfl ?_
          exact hJ86 _ _ _ _ _ _ h hw (lv_sub hl [2, 3, 4, 5, 6, 7, 0] rfl)
  exact key _ _ _ _ _ _ _ (Nat.lt_succ_self _) h0 hw hl
set_option maxHeartbeats 4000000 in
theorem wX19_goesOnFrom_61 {G : GT} {p : Program} {l : Launch} {e : Env} {s : State} {m : MethodId} {args : Array Value} {below : List Frame} {meth : Method} {c : Code} {H : Heap} {locs : List Loc} {ls : Array Slot} {a0 : Nat} {x2 : Int32} {x3 : Int32} {x4 : Int32} {x5 : Int32} {u : Hp} {K : Int32 → Hp → Prop} (X : Mc G p s m args meth c RX19 cX19_goesOnFrom 10) (hr : meth.sig.returnType = (some .boolean)) (h : jl3 (bX19_goesOnFrom_61 K a0 x2 x3) x4 x5 u) (hw : GW G u s H locs) (hl : lv_has ls 10 [(0, .ref a0), (2, .int x2), (3, .int x3), (4, .int x4), (5, .int x5)]) : W p l e (rmX19_goesOnFrom 0 0) s m args below meth c H locs 0 0 (QI G below K args s 0 0) (F0 m 61 ls []) := by
  obtain ⟨hx, hb, hml, hown, hts, -⟩ := id X
  obtain ⟨I, μ, h0, hs⟩ := h
  have key : ∀ (n : Nat) (x4 : Int32) (x5 : Int32) (u : Hp) (H : Heap) (locs : List Loc) (ls : Array Slot) , μ x4 x5 u < n → I x4 x5 u → GW G u s H locs → lv_has ls 10 [(0, .ref a0), (2, .int x2), (3, .int x3), (4, .int x4), (5, .int x5)] → W p l e (rmX19_goesOnFrom 0 0) s m args below meth c H locs 0 0 (QI G below K args s 0 0) (F0 m 61 ls []) := by
    intro n
    induction n with
    | zero =>
      intro x4 x5 u H locs ls hn
      exact absurd hn (Nat.not_lt_zero _)
    | succ n ih =>
      intro x4 x5 u H locs ls hn hI hw hl
      have h := hs x4 x5 u hI
      unfold bX19_goesOnFrom_61 at h
      have hJ61 : ∀ (x4' : Int32) (x5' : Int32) (u' : Hp) (H : Heap) (locs : List Loc) (ls : Array Slot) , (I x4' x5' u' ∧ μ x4' x5' u' < μ x4 x5 u) → GW G u' s H locs → lv_has ls 10 [(0, .ref a0), (2, .int x2), (3, .int x3), (4, .int x4'), (5, .int x5')] → W p l e (rmX19_goesOnFrom 0 0) s m args below meth c H locs 0 0 (QI G below K args s 0 0) (F0 m 61 ls []) := fun x4' x5' u' H locs ls h hw hl => ih x4' x5' u' H locs ls (Nat.lt_of_lt_of_le h.2 (Nat.le_of_lt_succ hn)) h.1 hw hl
      refine lv_iload hx hb dX19_goesOnFrom_61 (lv_at hl 4 rfl) ?_
      refine lv_iload hx hb dX19_goesOnFrom_63 (lv_at hl 3 rfl) ?_
      refine lv_icmp_ge (tgt := 191) hx hb dX19_goesOnFrom_65 rfl (fun c_32 => ?_) (fun c_32 => ?_)
      · have h := h.1 c_32
        refine lv_iconst (v := 0) hx hb dX19_goesOnFrom_191 (by decide) ?_
        refine lv_istore (lv' := [(5, .int 0), (0, .ref a0), (2, .int x2), (3, .int x3), (4, .int x4)]) hx hb dX19_goesOnFrom_192 hl (by decide) rfl (fun ls hl => ?_)
        exact wX19_goesOnFrom_194 X hr  h hw (lv_sub hl [1, 2, 4, 0] rfl)
      · have h := h.2 c_32
        refine lv_aload_n hx hb dX19_goesOnFrom_68 rfl (lv_at hl 0 rfl) ?_
        have hk_27 : kd u a0 = 16 := h.1
        have h := h.2
        obtain ⟨b_28, e_29, h⟩ := h
        refine g_getR X hw in_X19 hk_27 rfl 30 rfl (by decide) q1481 (fun _ z => z) e_29 dX19_goesOnFrom_69 ?_
        refine lv_iload hx hb dX19_goesOnFrom_72 (lv_at hl 4 rfl) ?_
        have hk_30 : kd u b_28 = 101 := h.1
        have h := h.2
        refine g_iald X hw hk_30 h.1 dX19_goesOnFrom_74 ?_
        have h := h.2
        refine lv_istore (lv' := [(6, .int (AI u b_28 (tn x5))), (0, .ref a0), (2, .int x2), (3, .int x3), (4, .int x4), (5, .int x5)]) hx hb dX19_goesOnFrom_75 hl (by decide) rfl (fun ls hl => ?_)
        refine lv_aload_n hx hb dX19_goesOnFrom_77 rfl (lv_at hl 1 rfl) ?_
        refine lv_iload hx hb dX19_goesOnFrom_78 (lv_at hl 0 rfl) ?_
        refine g_callv hw (g_V X hw (mX19_fitsOf l G _ _ _ _ h) 1 (lw_V q1988 q1990 qs96 q143 q1991) rfl rfl ydX19_fitsOf ⟨Nat.le_of_ble_eq_true rfl, Nat.le_of_ble_eq_true rfl⟩ (g_recv X hw (ci := 15) (q := (RX19, TX19, 46)) hk_27 rfl) (As := [.int (AI u b_28 (tn x5))]) (rest := []) rfl hl.1 rfl (Nat.le_of_ble_eq_true rfl) dX19_goesOnFrom_80 ⟨Nat.le_refl _, Nat.le_refl _⟩) (fun u_31 H locs h hw => ?_)
        refine lv_iconst (v := 0) hx hb dX19_goesOnFrom_83 (by decide) ?_
        refine lv_istore (lv' := [(7, .int 0), (6, .int (AI u b_28 (tn x5))), (0, .ref a0), (2, .int x2), (3, .int x3), (4, .int x4), (5, .int x5)]) hx hb dX19_goesOnFrom_84 hl (by decide) rfl (fun ls hl => ?_)
        exact wX19_goesOnFrom_86 X hr hJ61  h hw (lv_sub hl [2, 3, 4, 5, 6, 1, 0] rfl)
  exact key _ _ _ _ _ _ _ (Nat.lt_succ_self _) h0 hw hl
set_option maxHeartbeats 4000000 in
theorem wX19_goesOnFrom_3 {G : GT} {p : Program} {l : Launch} {e : Env} {s : State} {m : MethodId} {args : Array Value} {below : List Frame} {meth : Method} {c : Code} {H : Heap} {locs : List Loc} {ls : Array Slot} {a0 : Nat} {x1 : Int32} {x2 : Int32} {x3 : Int32} {x4 : Int32} {u : Hp} {K : Int32 → Hp → Prop} (X : Mc G p s m args meth c RX19 cX19_goesOnFrom 10) (hr : meth.sig.returnType = (some .boolean)) (h : jl2 (bX19_goesOnFrom_3 K a0 x1 x2 x3) x4 u) (hw : GW G u s H locs) (hl : lv_has ls 10 [(0, .ref a0), (1, .int x1), (2, .int x2), (3, .int x3), (4, .int x4)]) : W p l e (rmX19_goesOnFrom 0 0) s m args below meth c H locs 0 0 (QI G below K args s 0 0) (F0 m 3 ls []) := by
  obtain ⟨hx, hb, hml, hown, hts, -⟩ := id X
  obtain ⟨I, μ, h0, hs⟩ := h
  have key : ∀ (n : Nat) (x4 : Int32) (u : Hp) (H : Heap) (locs : List Loc) (ls : Array Slot) , μ x4 u < n → I x4 u → GW G u s H locs → lv_has ls 10 [(0, .ref a0), (1, .int x1), (2, .int x2), (3, .int x3), (4, .int x4)] → W p l e (rmX19_goesOnFrom 0 0) s m args below meth c H locs 0 0 (QI G below K args s 0 0) (F0 m 3 ls []) := by
    intro n
    induction n with
    | zero =>
      intro x4 u H locs ls hn
      exact absurd hn (Nat.not_lt_zero _)
    | succ n ih =>
      intro x4 u H locs ls hn hI hw hl
      have h := hs x4 u hI
      unfold bX19_goesOnFrom_3 at h
      have hJ3 : ∀ (x4' : Int32) (u' : Hp) (H : Heap) (locs : List Loc) (ls : Array Slot) , (I x4' u' ∧ μ x4' u' < μ x4 u) → GW G u' s H locs → lv_has ls 10 [(0, .ref a0), (1, .int x1), (2, .int x2), (3, .int x3), (4, .int x4')] → W p l e (rmX19_goesOnFrom 0 0) s m args below meth c H locs 0 0 (QI G below K args s 0 0) (F0 m 3 ls []) := fun x4' u' H locs ls h hw hl => ih x4' u' H locs ls (Nat.lt_of_lt_of_le h.2 (Nat.le_of_lt_succ hn)) h.1 hw hl
      refine lv_iload hx hb dX19_goesOnFrom_3 (lv_at hl 4 rfl) ?_
      refine lv_aload_n hx hb dX19_goesOnFrom_5 rfl (lv_at hl 0 rfl) ?_
      have hk_33 : kd u a0 = 16 := h.1
      have h := h.2
      refine g_getI X hw in_X19 hk_33 rfl 17 rfl (by decide) q1468 (fun _ z => z) dX19_goesOnFrom_6 ?_
      refine lv_icmp_ge (tgt := 41) hx hb dX19_goesOnFrom_9 rfl (fun c_48 => ?_) (fun c_48 => ?_)
      · have h := h.1 c_48
        refine lv_iconst (v := 1) hx hb dX19_goesOnFrom_41 (by decide) ?_
        refine lv_istore (lv' := [(4, .int 1), (0, .ref a0), (1, .int x1), (2, .int x2), (3, .int x3)]) hx hb dX19_goesOnFrom_42 hl (by decide) rfl (fun ls hl => ?_)
        refine lv_aload_n hx hb dX19_goesOnFrom_44 rfl (lv_at hl 1 rfl) ?_
        obtain ⟨b_34, e_35, h⟩ := h
        refine g_getR X hw in_X19 hk_33 rfl 30 rfl (by decide) q1481 (fun _ z => z) e_35 dX19_goesOnFrom_45 ?_
        refine lv_iconst (v := 0) hx hb dX19_goesOnFrom_48 (by decide) ?_
        refine lv_iload_n hx hb dX19_goesOnFrom_49 rfl (lv_at hl 2 rfl) ?_
        have hk_36 : kd u b_34 = 101 := h.1
        have h := h.2
        refine g_iast X hw hk_36 h.1 dX19_goesOnFrom_50 (fun H locs hw => ?_)
        have h := h.2
        refine lv_aload_n hx hb dX19_goesOnFrom_51 rfl (lv_at hl 1 rfl) ?_
        obtain ⟨b_37, e_38, h⟩ := h
        refine g_getR X hw in_X19 hk_33 rfl 31 rfl (by decide) q1482 (fun _ z => z) e_38 dX19_goesOnFrom_52 ?_
        refine lv_iload_n hx hb dX19_goesOnFrom_55 rfl (lv_at hl 2 rfl) ?_
        refine lv_iconst (v := (-1)) hx hb dX19_goesOnFrom_56 (by decide) ?_
        have hk_39 : kd u b_37 = 101 := h.1
        have h := h.2
        refine g_iast X hw hk_39 h.1 dX19_goesOnFrom_57 (fun H locs hw => ?_)
        have h := h.2
        refine lv_iconst (v := 0) hx hb dX19_goesOnFrom_58 (by decide) ?_
        refine lv_istore (lv' := [(5, .int 0), (4, .int 1), (0, .ref a0), (1, .int x1), (2, .int x2), (3, .int x3)]) hx hb dX19_goesOnFrom_59 hl (by decide) rfl (fun ls hl => ?_)
        exact wX19_goesOnFrom_61 X hr  h hw (lv_sub hl [2, 4, 5, 1, 0] rfl)
      · have h := h.2 c_48
        refine lv_aload_n hx hb dX19_goesOnFrom_12 rfl (lv_at hl 0 rfl) ?_
        obtain ⟨b_40, e_41, h⟩ := h
        refine g_getR X hw in_X19 hk_33 rfl 31 rfl (by decide) q1482 (fun _ z => z) e_41 dX19_goesOnFrom_13 ?_
        refine lv_iload hx hb dX19_goesOnFrom_16 (lv_at hl 4 rfl) ?_
        refine lv_aload_n hx hb dX19_goesOnFrom_18 rfl (lv_at hl 0 rfl) ?_
        obtain ⟨b_42, e_43, h⟩ := h
        refine g_getR X hw in_X19 hk_33 rfl 32 rfl (by decide) q1483 (fun _ z => z) e_43 dX19_goesOnFrom_19 ?_
        refine lv_iload hx hb dX19_goesOnFrom_22 (lv_at hl 4 rfl) ?_
        have hk_44 : kd u b_42 = 104 := h.1
        have h := h.2
        refine g_zald X hw hk_44 h.1 dX19_goesOnFrom_24 ?_
        have h := h.2
        refine lv_if_eq (tgt := 32) hx hb dX19_goesOnFrom_25 rfl (fun c_47 => ?_) (fun c_47 => ?_)
        · have h := h.1 c_47
          refine lv_bipush (v := (-2)) hx hb dX19_goesOnFrom_32 (by decide) ?_
          have hk_45 : kd u b_40 = 101 := h.1
          have h := h.2
          refine g_iast X hw hk_45 h.1 dX19_goesOnFrom_34 (fun H locs hw => ?_)
          have h := h.2
          refine lv_iinc (v := x4 + 1) (lv' := [(4, .int (x4 + 1)), (0, .ref a0), (1, .int x1), (2, .int x2), (3, .int x3)]) hx hb dX19_goesOnFrom_35 hl (k := 4) rfl rfl (by decide) rfl (fun ls hl => ?_)
          refine lv_goto (tgt := 3) hx hb dX19_goesOnFrom_38 rfl ?_
          exact hJ3 _ _ _ _ _ h hw (lv_sub hl [1, 2, 3, 4, 0] rfl)
        · have h := h.2 c_47
          refine lv_iconst (v := (-1)) hx hb dX19_goesOnFrom_28 (by decide) ?_
          refine lv_goto (tgt := 34) hx hb dX19_goesOnFrom_29 rfl ?_
          have hk_46 : kd u b_40 = 101 := h.1
          have h := h.2
          refine g_iast X hw hk_46 h.1 dX19_goesOnFrom_34 (fun H locs hw => ?_)
          have h := h.2
          refine lv_iinc (v := x4 + 1) (lv' := [(4, .int (x4 + 1)), (0, .ref a0), (1, .int x1), (2, .int x2), (3, .int x3)]) hx hb dX19_goesOnFrom_35 hl (k := 4) rfl rfl (by decide) rfl (fun ls hl => ?_)
          refine lv_goto (tgt := 3) hx hb dX19_goesOnFrom_38 rfl ?_
          exact hJ3 _ _ _ _ _ h hw (lv_sub hl [1, 2, 3, 4, 0] rfl)
  exact key _ _ _ _ _ _ (Nat.lt_succ_self _) h0 hw hl
set_option maxHeartbeats 4000000 in
theorem mX19_goesOnFrom (l : Launch) (G : GT) (u : Hp) (a0 : Nat) (x1 : Int32) (x2 : Int32) (x3 : Int32) (K : Int32 → Hp → Prop) (h : pX19_goesOnFrom u a0 x1 x2 x3 K) : Met l yX19_goesOnFrom (ws_ yX19_goesOnFrom cX19_goesOnFrom 10 (some .boolean)) (rmX19_goesOnFrom 0 0) (va_Pc [.ref a0, .int x1, .int x2, .int x3] (GB G u)) (va_Qi K (fun u t => GH G u t.heap) (GA G)) 0 0 (GA G) := by
  refine Met.ofW (cc := cX19_goesOnFrom) (maxL := 10) (ret := (some .boolean)) (by decide) rfl ?_
  intro p e s m args below meth c s₁ B hml hv
  obtain ⟨rfl, hv⟩ := hv
  have X := Mc_of (own := RX19) B hml rfl hv
  have hw : GW G u s s.heap [] := ⟨hv.2.1, va_S.rf⟩
  have hr := B.returns
  obtain ⟨hx, hb, hml, hown, hts, -⟩ := id X
  have hl := lv_entry ([.ref a0, .int x1, .int x2, .int x3]) (n := 10) (Nat.le_of_ble_eq_true rfl)
  rw [lg_entry_eq]
  generalize (lg_sl ([.ref a0, .int x1, .int x2, .int x3]) ++ List.replicate (10 - (lg_sl ([.ref a0, .int x1, .int x2, .int x3])).length) Slot.unset).toArray = ls at hl ⊢
  have hl : lv_has ls 10 [(0, .ref a0), (1, .int x1), (2, .int x2), (3, .int x3)] := hl
  change W p l e (rmX19_goesOnFrom 0 0) s m _ below meth c s.heap [] 0 0 (QI G below K _ s 0 0) (F0 m 0 ls [])
  unfold pX19_goesOnFrom at h
  refine lv_iconst (v := 0) hx hb dX19_goesOnFrom_0 (by decide) ?_
  refine lv_istore (lv' := [(4, .int 0), (0, .ref a0), (1, .int x1), (2, .int x2), (3, .int x3)]) hx hb dX19_goesOnFrom_1 hl (by decide) rfl (fun ls hl => ?_)
  exact wX19_goesOnFrom_3 X hr  h hw (lv_sub hl [1, 2, 3, 4, 0] rfl)

/-! FifthCardModel.pairsNow()I -/
theorem ydX19_pairsNow : yX19_pairsNow.cls = "FifthCardModel" ∧ yX19_pairsNow.cls ≠ "java/lang/invoke/MethodHandle" ∧ yX19_pairsNow.cls ≠ "java/lang/invoke/VarHandle" ∧ (parseMethodDescriptor yX19_pairsNow.desc).map (fun d => d.parameters.length) = some 0 := by decide +kernel
def rmX19_pairsNow (mc ms : Nat) : Room := { frames := 4, cells := mc, slots := ms, locals := 99 }
set_option maxHeartbeats 4000000 in
theorem wX19_pairsNow_38 {G : GT} {p : Program} {l : Launch} {e : Env} {s : State} {m : MethodId} {args : Array Value} {below : List Frame} {meth : Method} {c : Code} {H : Heap} {locs : List Loc} {ls : Array Slot} {a0 : Nat} {x1 : Int32} {x2 : Int32} {u : Hp} {K : Int32 → Hp → Prop} (X : Mc G p s m args meth c RX19 cX19_pairsNow 3) (hr : meth.sig.returnType = (some .int)) (h : jl3 (bX19_pairsNow_38 K a0) x1 x2 u) (hw : GW G u s H locs) (hl : lv_has ls 3 [(0, .ref a0), (1, .int x1), (2, .int x2)]) : W p l e (rmX19_pairsNow 0 0) s m args below meth c H locs 0 0 (QI G below K args s 0 0) (F0 m 38 ls []) := by
  obtain ⟨hx, hb, hml, hown, hts, -⟩ := id X
  obtain ⟨I, μ, h0, hs⟩ := h
  have key : ∀ (n : Nat) (x1 : Int32) (x2 : Int32) (u : Hp) (H : Heap) (locs : List Loc) (ls : Array Slot) , μ x1 x2 u < n → I x1 x2 u → GW G u s H locs → lv_has ls 3 [(0, .ref a0), (1, .int x1), (2, .int x2)] → W p l e (rmX19_pairsNow 0 0) s m args below meth c H locs 0 0 (QI G below K args s 0 0) (F0 m 38 ls []) := by
    intro n
    induction n with
    | zero =>
      intro x1 x2 u H locs ls hn
      exact absurd hn (Nat.not_lt_zero _)
    | succ n ih =>
      intro x1 x2 u H locs ls hn hI hw hl
      have h := hs x1 x2 u hI
      unfold bX19_pairsNow_38 at h
      have hJ38 : ∀ (x1' : Int32) (x2' : Int32) (u' : Hp) (H : Heap) (locs : List Loc) (ls : Array Slot) , (I x1' x2' u' ∧ μ x1' x2' u' < μ x1 x2 u) → GW G u' s H locs → lv_has ls 3 [(0, .ref a0), (1, .int x1'), (2, .int x2')] → W p l e (rmX19_pairsNow 0 0) s m args below meth c H locs 0 0 (QI G below K args s 0 0) (F0 m 38 ls []) := fun x1' x2' u' H locs ls h hw hl => ih x1' x2' u' H locs ls (Nat.lt_of_lt_of_le h.2 (Nat.le_of_lt_succ hn)) h.1 hw hl
      refine lv_iload_n hx hb dX19_pairsNow_38 rfl (lv_at hl 2 rfl) ?_
      refine lv_aload_n hx hb dX19_pairsNow_39 rfl (lv_at hl 0 rfl) ?_
      have hk_1 : kd u a0 = 16 := h.1
      have h := h.2
      refine g_getI X hw in_X19 hk_1 rfl 17 rfl (by decide) q1468 (fun _ z => z) dX19_pairsNow_40 ?_
      refine lv_icmp_ge (tgt := 70) hx hb dX19_pairsNow_43 rfl (fun c_5 => ?_) (fun c_5 => ?_)
      · have h := h.1 c_5
        refine lv_iload_n hx hb dX19_pairsNow_70 rfl (lv_at hl 1 rfl) ?_
        exact g_iret X hw hr h (Nat.le_refl _) (Nat.le_refl _) dX19_pairsNow_71
      · have h := h.2 c_5
        refine lv_iload_n hx hb dX19_pairsNow_46 rfl (lv_at hl 1 rfl) ?_
        refine lv_aload_n hx hb dX19_pairsNow_47 rfl (lv_at hl 0 rfl) ?_
        refine lv_iload_n hx hb dX19_pairsNow_48 rfl (lv_at hl 2 rfl) ?_
        refine lv_iconst (v := 0) hx hb dX19_pairsNow_49 (by decide) ?_
        refine lv_iconst (v := (-1)) hx hb dX19_pairsNow_50 (by decide) ?_
        refine g_calli hw (g_V X hw (mX19_goesOnFrom l G _ _ _ _ _ _ h) 3 (lw_V q1984 q1986 qs95 q143 q1987) rfl rfl ydX19_goesOnFrom ⟨Nat.le_of_ble_eq_true rfl, Nat.le_of_ble_eq_true rfl⟩ (g_recv X hw (ci := 15) (q := (RX19, TX19, 46)) hk_1 rfl) (As := [.int x2, .int 0, .int (-1)]) (rest := [.int x1]) rfl hl.1 rfl (Nat.le_of_ble_eq_true rfl) dX19_pairsNow_51 ⟨Nat.le_refl _, Nat.le_refl _⟩) (fun r_2 u_3 H locs h hw => ?_)
        refine lv_if_eq (tgt := 61) hx hb dX19_pairsNow_54 rfl (fun c_4 => ?_) (fun c_4 => ?_)
        · have h := h.1 c_4
          refine lv_iconst (v := 0) hx hb dX19_pairsNow_61 (by decide) ?_
          refine lv_iadd hx hb dX19_pairsNow_62 ?_
          refine lv_istore_n (lv' := [(1, .int (x1 + 0)), (0, .ref a0), (2, .int x2)]) hx hb dX19_pairsNow_63 rfl hl (by decide) rfl (fun ls hl => ?_)
          refine lv_iinc (v := x2 + 1) (lv' := [(2, .int (x2 + 1)), (1, .int (x1 + 0)), (0, .ref a0)]) hx hb dX19_pairsNow_64 hl (k := 2) rfl rfl (by decide) rfl (fun ls hl => ?_)
          refine lv_goto (tgt := 38) hx hb dX19_pairsNow_67 rfl ?_
          exact hJ38 _ _ _ _ _ _ h hw (lv_sub hl [2, 1, 0] rfl)
        · have h := h.2 c_4
          refine lv_iconst (v := 1) hx hb dX19_pairsNow_57 (by decide) ?_
          refine lv_goto (tgt := 62) hx hb dX19_pairsNow_58 rfl ?_
          refine lv_iadd hx hb dX19_pairsNow_62 ?_
          refine lv_istore_n (lv' := [(1, .int (x1 + 1)), (0, .ref a0), (2, .int x2)]) hx hb dX19_pairsNow_63 rfl hl (by decide) rfl (fun ls hl => ?_)
          refine lv_iinc (v := x2 + 1) (lv' := [(2, .int (x2 + 1)), (1, .int (x1 + 1)), (0, .ref a0)]) hx hb dX19_pairsNow_64 hl (k := 2) rfl rfl (by decide) rfl (fun ls hl => ?_)
          refine lv_goto (tgt := 38) hx hb dX19_pairsNow_67 rfl ?_
          exact hJ38 _ _ _ _ _ _ h hw (lv_sub hl [2, 1, 0] rfl)
  exact key _ _ _ _ _ _ _ (Nat.lt_succ_self _) h0 hw hl
set_option maxHeartbeats 4000000 in
theorem wX19_pairsNow_8 {G : GT} {p : Program} {l : Launch} {e : Env} {s : State} {m : MethodId} {args : Array Value} {below : List Frame} {meth : Method} {c : Code} {H : Heap} {locs : List Loc} {ls : Array Slot} {a0 : Nat} {x1 : Int32} {x2 : Int32} {u : Hp} {K : Int32 → Hp → Prop} (X : Mc G p s m args meth c RX19 cX19_pairsNow 3) (hr : meth.sig.returnType = (some .int)) (h : jl2 (bX19_pairsNow_8 K a0 x1) x2 u) (hw : GW G u s H locs) (hl : lv_has ls 3 [(0, .ref a0), (1, .int x1), (2, .int x2)]) : W p l e (rmX19_pairsNow 0 0) s m args below meth c H locs 0 0 (QI G below K args s 0 0) (F0 m 8 ls []) := by
  obtain ⟨hx, hb, hml, hown, hts, -⟩ := id X
  obtain ⟨I, μ, h0, hs⟩ := h
  have key : ∀ (n : Nat) (x2 : Int32) (u : Hp) (H : Heap) (locs : List Loc) (ls : Array Slot) , μ x2 u < n → I x2 u → GW G u s H locs → lv_has ls 3 [(0, .ref a0), (1, .int x1), (2, .int x2)] → W p l e (rmX19_pairsNow 0 0) s m args below meth c H locs 0 0 (QI G below K args s 0 0) (F0 m 8 ls []) := by
    intro n
    induction n with
    | zero =>
      intro x2 u H locs ls hn
      exact absurd hn (Nat.not_lt_zero _)
    | succ n ih =>
      intro x2 u H locs ls hn hI hw hl
      have h := hs x2 u hI
      unfold bX19_pairsNow_8 at h
      have hJ8 : ∀ (x2' : Int32) (u' : Hp) (H : Heap) (locs : List Loc) (ls : Array Slot) , (I x2' u' ∧ μ x2' u' < μ x2 u) → GW G u' s H locs → lv_has ls 3 [(0, .ref a0), (1, .int x1), (2, .int x2')] → W p l e (rmX19_pairsNow 0 0) s m args below meth c H locs 0 0 (QI G below K args s 0 0) (F0 m 8 ls []) := fun x2' u' H locs ls h hw hl => ih x2' u' H locs ls (Nat.lt_of_lt_of_le h.2 (Nat.le_of_lt_succ hn)) h.1 hw hl
      refine lv_iload_n hx hb dX19_pairsNow_8 rfl (lv_at hl 2 rfl) ?_
      refine lv_aload_n hx hb dX19_pairsNow_9 rfl (lv_at hl 0 rfl) ?_
      have hk_6 : kd u a0 = 16 := h.1
      have h := h.2
      refine g_getI X hw in_X19 hk_6 rfl 17 rfl (by decide) q1468 (fun _ z => z) dX19_pairsNow_10 ?_
      refine lv_icmp_ge (tgt := 36) hx hb dX19_pairsNow_13 rfl (fun c_13 => ?_) (fun c_13 => ?_)
      · have h := h.1 c_13
        refine lv_iconst (v := 0) hx hb dX19_pairsNow_36 (by decide) ?_
        refine lv_istore_n (lv' := [(2, .int 0), (0, .ref a0), (1, .int x1)]) hx hb dX19_pairsNow_37 rfl hl (by decide) rfl (fun ls hl => ?_)
        exact wX19_pairsNow_38 X hr  h hw (lv_sub hl [1, 2, 0] rfl)
      · have h := h.2 c_13
        refine lv_aload_n hx hb dX19_pairsNow_16 rfl (lv_at hl 0 rfl) ?_
        obtain ⟨b_7, e_8, h⟩ := h
        refine g_getR X hw in_X19 hk_6 rfl 29 rfl (by decide) q1480 (fun _ z => z) e_8 dX19_pairsNow_17 ?_
        refine lv_iload_n hx hb dX19_pairsNow_20 rfl (lv_at hl 2 rfl) ?_
        refine lv_iconst (v := (-1)) hx hb dX19_pairsNow_21 (by decide) ?_
        have hk_9 : kd u b_7 = 101 := h.1
        have h := h.2
        refine g_iast X hw hk_9 h.1 dX19_pairsNow_22 (fun H locs hw => ?_)
        have h := h.2
        refine lv_aload_n hx hb dX19_pairsNow_23 rfl (lv_at hl 0 rfl) ?_
        obtain ⟨b_10, e_11, h⟩ := h
        refine g_getR X hw in_X19 hk_6 rfl 32 rfl (by decide) q1483 (fun _ z => z) e_11 dX19_pairsNow_24 ?_
        refine lv_iload_n hx hb dX19_pairsNow_27 rfl (lv_at hl 2 rfl) ?_
        refine lv_iconst (v := 0) hx hb dX19_pairsNow_28 (by decide) ?_
        have hk_12 : kd u b_10 = 104 := h.1
        have h := h.2
        refine g_zast X hw hk_12 h.1 dX19_pairsNow_29 (fun H locs hw => ?_)
        have h := h.2
        refine lv_iinc (v := x2 + 1) (lv' := [(2, .int (x2 + 1)), (0, .ref a0), (1, .int x1)]) hx hb dX19_pairsNow_30 hl (k := 2) rfl rfl (by decide) rfl (fun ls hl => ?_)
        refine lv_goto (tgt := 8) hx hb dX19_pairsNow_33 rfl ?_
        exact hJ8 _ _ _ _ _ h hw (lv_sub hl [1, 2, 0] rfl)
  exact key _ _ _ _ _ _ (Nat.lt_succ_self _) h0 hw hl
set_option maxHeartbeats 4000000 in
theorem mX19_pairsNow (l : Launch) (G : GT) (u : Hp) (a0 : Nat) (K : Int32 → Hp → Prop) (h : pX19_pairsNow u a0 K) : Met l yX19_pairsNow (ws_ yX19_pairsNow cX19_pairsNow 3 (some .int)) (rmX19_pairsNow 0 0) (va_Pc [.ref a0] (GB G u)) (va_Qi K (fun u t => GH G u t.heap) (GA G)) 0 0 (GA G) := by
  refine Met.ofW (cc := cX19_pairsNow) (maxL := 3) (ret := (some .int)) (by decide) rfl ?_
  intro p e s m args below meth c s₁ B hml hv
  obtain ⟨rfl, hv⟩ := hv
  have X := Mc_of (own := RX19) B hml rfl hv
  have hw : GW G u s s.heap [] := ⟨hv.2.1, va_S.rf⟩
  have hr := B.returns
  obtain ⟨hx, hb, hml, hown, hts, -⟩ := id X
  have hl := lv_entry ([.ref a0]) (n := 3) (Nat.le_of_ble_eq_true rfl)
  rw [lg_entry_eq]
  generalize (lg_sl ([.ref a0]) ++ List.replicate (3 - (lg_sl ([.ref a0])).length) Slot.unset).toArray = ls at hl ⊢
  have hl : lv_has ls 3 [(0, .ref a0)] := hl
  change W p l e (rmX19_pairsNow 0 0) s m _ below meth c s.heap [] 0 0 (QI G below K _ s 0 0) (F0 m 0 ls [])
  unfold pX19_pairsNow at h
  refine lv_aload_n hx hb dX19_pairsNow_0 rfl (lv_at hl 0 rfl) ?_
  have hk_14 : kd u a0 = 16 := h.1
  have h := h.2
  refine g_callv hw (g_V X hw (mX19_clearOwners l G _ _ _ h) 0 (lw_V q1980 q1982 qs94 q143 q1983) rfl rfl ydX19_clearOwners ⟨Nat.le_of_ble_eq_true rfl, Nat.le_of_ble_eq_true rfl⟩ (g_recv X hw (ci := 15) (q := (RX19, TX19, 46)) hk_14 rfl) (As := []) (rest := []) rfl hl.1 rfl (Nat.le_of_ble_eq_true rfl) dX19_pairsNow_1 ⟨Nat.le_refl _, Nat.le_refl _⟩) (fun u_15 H locs h hw => ?_)
  refine lv_iconst (v := 0) hx hb dX19_pairsNow_4 (by decide) ?_
  refine lv_istore_n (lv' := [(1, .int 0), (0, .ref a0)]) hx hb dX19_pairsNow_5 rfl hl (by decide) rfl (fun ls hl => ?_)
  refine lv_iconst (v := 0) hx hb dX19_pairsNow_6 (by decide) ?_
  refine lv_istore_n (lv' := [(2, .int 0), (1, .int 0), (0, .ref a0)]) hx hb dX19_pairsNow_7 rfl hl (by decide) rfl (fun ls hl => ?_)
  exact wX19_pairsNow_8 X hr  h hw (lv_sub hl [2, 1, 0] rfl)

/-! FifthCardModel.settles(II)Z -/
theorem ydX19_settles : yX19_settles.cls = "FifthCardModel" ∧ yX19_settles.cls ≠ "java/lang/invoke/MethodHandle" ∧ yX19_settles.cls ≠ "java/lang/invoke/VarHandle" ∧ (parseMethodDescriptor yX19_settles.desc).map (fun d => d.parameters.length) = some 2 := by decide +kernel
def rmX19_settles (mc ms : Nat) : Room := { frames := 4, cells := mc, slots := ms, locals := 99 }
set_option maxHeartbeats 4000000 in
theorem wX19_settles_68 {G : GT} {p : Program} {l : Launch} {e : Env} {s : State} {m : MethodId} {args : Array Value} {below : List Frame} {meth : Method} {c : Code} {H : Heap} {locs : List Loc} {ls : Array Slot} {a0 : Nat} {x1 : Int32} {x2 : Int32} {u : Hp} {K : Int32 → Hp → Prop} (X : Mc G p s m args meth c RX19 cX19_settles 5) (hr : meth.sig.returnType = (some .boolean)) (h : bX19_settles_68 K a0 x1 x2 u) (hw : GW G u s H locs) (hl : lv_has ls 5 [(0, .ref a0), (1, .int x1), (2, .int x2)]) : W p l e (rmX19_settles 0 0) s m args below meth c H locs 0 0 (QI G below K args s 0 0) (F0 m 68 ls []) := by
  obtain ⟨hx, hb, hml, hown, hts, -⟩ := id X
  unfold bX19_settles_68 at h
  refine lv_aload_n hx hb dX19_settles_68 rfl (lv_at hl 0 rfl) ?_
  have hk_1 : kd u a0 = 16 := h.1
  have h := h.2
  obtain ⟨b_2, e_3, h⟩ := h
  refine g_getR X hw in_X19 hk_1 rfl 29 rfl (by decide) q1480 (fun _ z => z) e_3 dX19_settles_69 ?_
  refine lv_iload_n hx hb dX19_settles_72 rfl (lv_at hl 1 rfl) ?_
  refine lv_iload_n hx hb dX19_settles_73 rfl (lv_at hl 2 rfl) ?_
  have hk_4 : kd u b_2 = 101 := h.1
  have h := h.2
  refine g_iast X hw hk_4 h.1 dX19_settles_74 (fun H locs hw => ?_)
  have h := h.2
  refine lv_aload_n hx hb dX19_settles_75 rfl (lv_at hl 0 rfl) ?_
  refine lv_iload_n hx hb dX19_settles_76 rfl (lv_at hl 2 rfl) ?_
  refine lv_iload_n hx hb dX19_settles_77 rfl (lv_at hl 1 rfl) ?_
  refine g_callv hw (g_V X hw (mX19_owns l G _ _ _ _ _ h) 2 (lw_V q2009 q2011 qs101 q143 q2012) rfl rfl ydX19_owns ⟨Nat.le_of_ble_eq_true rfl, Nat.le_of_ble_eq_true rfl⟩ (g_recv X hw (ci := 15) (q := (RX19, TX19, 46)) hk_1 rfl) (As := [.int x2, .int x1]) (rest := []) rfl hl.1 rfl (Nat.le_of_ble_eq_true rfl) dX19_settles_78 ⟨Nat.le_refl _, Nat.le_refl _⟩) (fun u_5 H locs h hw => ?_)
  refine lv_iconst (v := 1) hx hb dX19_settles_81 (by decide) ?_
  exact g_zret X hw hr rfl h (Nat.le_refl _) (Nat.le_refl _) dX19_settles_82
set_option maxHeartbeats 4000000 in
theorem wX19_settles_35 {G : GT} {p : Program} {l : Launch} {e : Env} {s : State} {m : MethodId} {args : Array Value} {below : List Frame} {meth : Method} {c : Code} {H : Heap} {locs : List Loc} {ls : Array Slot} {a0 : Nat} {x1 : Int32} {x2 : Int32} {x3 : Int32} {x4 : Int32} {u : Hp} {K : Int32 → Hp → Prop} (X : Mc G p s m args meth c RX19 cX19_settles 5) (hr : meth.sig.returnType = (some .boolean)) (h : bX19_settles_35 K a0 x1 x2 x3 x4 u) (hw : GW G u s H locs) (hl : lv_has ls 5 [(0, .ref a0), (1, .int x1), (2, .int x2), (3, .int x3), (4, .int x4)]) : W p l e (rmX19_settles 0 0) s m args below meth c H locs 0 0 (QI G below K args s 0 0) (F0 m 35 ls []) := by
  obtain ⟨hx, hb, hml, hown, hts, -⟩ := id X
  unfold bX19_settles_35 at h
  refine lv_aload_n hx hb dX19_settles_35 rfl (lv_at hl 0 rfl) ?_
  refine lv_iload_n hx hb dX19_settles_36 rfl (lv_at hl 3 rfl) ?_
  refine lv_iconst (v := (-1)) hx hb dX19_settles_37 (by decide) ?_
  have hk_6 : kd u a0 = 16 := h.1
  have h := h.2
  refine g_callv hw (g_V X hw (mX19_owns l G _ _ _ _ _ h) 2 (lw_V q2009 q2011 qs101 q143 q2012) rfl rfl ydX19_owns ⟨Nat.le_of_ble_eq_true rfl, Nat.le_of_ble_eq_true rfl⟩ (g_recv X hw (ci := 15) (q := (RX19, TX19, 46)) hk_6 rfl) (As := [.int x3, .int (-1)]) (rest := []) rfl hl.1 rfl (Nat.le_of_ble_eq_true rfl) dX19_settles_38 ⟨Nat.le_refl _, Nat.le_refl _⟩) (fun u_7 H locs h hw => ?_)
  refine lv_iload hx hb dX19_settles_41 (lv_at hl 4 rfl) ?_
  refine lv_iconst (v := (-1)) hx hb dX19_settles_43 (by decide) ?_
  refine lv_icmp_eq (tgt := 68) hx hb dX19_settles_44 rfl (fun c_14 => ?_) (fun c_14 => ?_)
  · have h := h.1 c_14
    exact wX19_settles_68 X hr  h hw (lv_sub hl [0, 1, 2] rfl)
  · have h := h.2 c_14
    refine lv_aload_n hx hb dX19_settles_47 rfl (lv_at hl 0 rfl) ?_
    refine lv_iload hx hb dX19_settles_48 (lv_at hl 4 rfl) ?_
    refine lv_iload_n hx hb dX19_settles_50 rfl (lv_at hl 1 rfl) ?_
    refine lv_iconst (v := 1) hx hb dX19_settles_51 (by decide) ?_
    refine lv_iadd hx hb dX19_settles_52 ?_
    refine lv_iload_n hx hb dX19_settles_53 rfl (lv_at hl 2 rfl) ?_
    have hk_8 : kd u_7 a0 = 16 := h.1
    have h := h.2
    refine g_calli hw (g_V X hw (mX19_goesOnFrom l G _ _ _ _ _ _ h) 3 (lw_V q1984 q1986 qs95 q143 q1987) rfl rfl ydX19_goesOnFrom ⟨Nat.le_of_ble_eq_true rfl, Nat.le_of_ble_eq_true rfl⟩ (g_recv X hw (ci := 15) (q := (RX19, TX19, 46)) hk_8 rfl) (As := [.int x4, .int (x1 + 1), .int x2]) (rest := []) rfl hl.1 rfl (Nat.le_of_ble_eq_true rfl) dX19_settles_54 ⟨Nat.le_refl _, Nat.le_refl _⟩) (fun r_9 u_10 H locs h hw => ?_)
    refine lv_if_ne (tgt := 68) hx hb dX19_settles_57 rfl (fun c_13 => ?_) (fun c_13 => ?_)
    · have h := h.2 c_13
      exact wX19_settles_68 X hr  h hw (lv_sub hl [0, 1, 2] rfl)
    · have h := h.1 c_13
      refine lv_aload_n hx hb dX19_settles_60 rfl (lv_at hl 0 rfl) ?_
      refine lv_iload_n hx hb dX19_settles_61 rfl (lv_at hl 3 rfl) ?_
      refine lv_iload_n hx hb dX19_settles_62 rfl (lv_at hl 1 rfl) ?_
      have hk_11 : kd u_10 a0 = 16 := h.1
      have h := h.2
      refine g_callv hw (g_V X hw (mX19_owns l G _ _ _ _ _ h) 2 (lw_V q2009 q2011 qs101 q143 q2012) rfl rfl ydX19_owns ⟨Nat.le_of_ble_eq_true rfl, Nat.le_of_ble_eq_true rfl⟩ (g_recv X hw (ci := 15) (q := (RX19, TX19, 46)) hk_11 rfl) (As := [.int x3, .int x1]) (rest := []) rfl hl.1 rfl (Nat.le_of_ble_eq_true rfl) dX19_settles_63 ⟨Nat.le_refl _, Nat.le_refl _⟩) (fun u_12 H locs h hw => ?_)
      refine lv_iconst (v := 0) hx hb dX19_settles_66 (by decide) ?_
      exact g_zret X hw hr rfl h (Nat.le_refl _) (Nat.le_refl _) dX19_settles_67
set_option maxHeartbeats 4000000 in
theorem mX19_settles (l : Launch) (G : GT) (u : Hp) (a0 : Nat) (x1 : Int32) (x2 : Int32) (K : Int32 → Hp → Prop) (h : pX19_settles u a0 x1 x2 K) : Met l yX19_settles (ws_ yX19_settles cX19_settles 5 (some .boolean)) (rmX19_settles 0 0) (va_Pc [.ref a0, .int x1, .int x2] (GB G u)) (va_Qi K (fun u t => GH G u t.heap) (GA G)) 0 0 (GA G) := by
  refine Met.ofW (cc := cX19_settles) (maxL := 5) (ret := (some .boolean)) (by decide) rfl ?_
  intro p e s m args below meth c s₁ B hml hv
  obtain ⟨rfl, hv⟩ := hv
  have X := Mc_of (own := RX19) B hml rfl hv
  have hw : GW G u s s.heap [] := ⟨hv.2.1, va_S.rf⟩
  have hr := B.returns
  obtain ⟨hx, hb, hml, hown, hts, -⟩ := id X
  have hl := lv_entry ([.ref a0, .int x1, .int x2]) (n := 5) (Nat.le_of_ble_eq_true rfl)
  rw [lg_entry_eq]
  generalize (lg_sl ([.ref a0, .int x1, .int x2]) ++ List.replicate (5 - (lg_sl ([.ref a0, .int x1, .int x2])).length) Slot.unset).toArray = ls at hl ⊢
  have hl : lv_has ls 5 [(0, .ref a0), (1, .int x1), (2, .int x2)] := hl
  change W p l e (rmX19_settles 0 0) s m _ below meth c s.heap [] 0 0 (QI G below K _ s 0 0) (F0 m 0 ls [])
  unfold pX19_settles at h
  refine lv_aload_n hx hb dX19_settles_0 rfl (lv_at hl 0 rfl) ?_
  have hk_15 : kd u a0 = 16 := h.1
  have h := h.2
  obtain ⟨b_16, e_17, h⟩ := h
  refine g_getR X hw in_X19 hk_15 rfl 29 rfl (by decide) q1480 (fun _ z => z) e_17 dX19_settles_1 ?_
  refine lv_iload_n hx hb dX19_settles_4 rfl (lv_at hl 1 rfl) ?_
  have hk_18 : kd u b_16 = 101 := h.1
  have h := h.2
  refine g_iald X hw hk_18 h.1 dX19_settles_5 ?_
  have h := h.2
  refine lv_istore_n (lv' := [(3, .int (AI u b_16 (tn x1))), (0, .ref a0), (1, .int x1), (2, .int x2)]) hx hb dX19_settles_6 rfl hl (by decide) rfl (fun ls hl => ?_)
  refine lv_iload_n hx hb dX19_settles_7 rfl (lv_at hl 3 rfl) ?_
  refine lv_iload_n hx hb dX19_settles_8 rfl (lv_at hl 0 rfl) ?_
  refine lv_icmp_ne (tgt := 14) hx hb dX19_settles_9 rfl (fun c_22 => ?_) (fun c_22 => ?_)
  · have h := h.2 c_22
    refine lv_aload_n hx hb dX19_settles_14 rfl (lv_at hl 1 rfl) ?_
    refine lv_iload_n hx hb dX19_settles_15 rfl (lv_at hl 3 rfl) ?_
    refine g_callio hw (g_V X hw (mX19_ownerOf l G _ _ _ _ h) 1 (lw_V q1996 q1998 qs98 q143 q1999) rfl rfl ydX19_ownerOf ⟨Nat.le_of_ble_eq_true rfl, Nat.le_of_ble_eq_true rfl⟩ (g_recv X hw (ci := 15) (q := (RX19, TX19, 46)) hk_15 rfl) (As := [.int x2]) (rest := []) rfl hl.1 rfl (Nat.le_of_ble_eq_true rfl) dX19_settles_16 ⟨Nat.le_refl _, Nat.le_refl _⟩) (fun r_19 H locs h hw => ?_)
    refine lv_istore (lv' := [(4, .int r_19), (3, .int (AI u b_16 (tn x1))), (0, .ref a0), (1, .int x1), (2, .int x2)]) hx hb dX19_settles_19 hl (by decide) rfl (fun ls hl => ?_)
    refine lv_iload hx hb dX19_settles_21 (lv_at hl 0 rfl) ?_
    refine lv_iconst (v := (-1)) hx hb dX19_settles_23 (by decide) ?_
    refine lv_icmp_eq (tgt := 35) hx hb dX19_settles_24 rfl (fun c_21 => ?_) (fun c_21 => ?_)
    · have h := h.1 c_21
      exact wX19_settles_35 X hr  h hw (lv_sub hl [2, 3, 4, 1, 0] rfl)
    · have h := h.2 c_21
      refine lv_iload hx hb dX19_settles_27 (lv_at hl 0 rfl) ?_
      refine lv_iload_n hx hb dX19_settles_29 rfl (lv_at hl 3 rfl) ?_
      refine lv_icmp_ge (tgt := 35) hx hb dX19_settles_30 rfl (fun c_20 => ?_) (fun c_20 => ?_)
      · have h := h.1 c_20
        exact wX19_settles_35 X hr  h hw (lv_sub hl [2, 3, 4, 1, 0] rfl)
      · have h := h.2 c_20
        refine lv_iconst (v := 0) hx hb dX19_settles_33 (by decide) ?_
        exact g_zret X hw hr rfl h (Nat.le_refl _) (Nat.le_refl _) dX19_settles_34
  · have h := h.1 c_22
    refine lv_iconst (v := 1) hx hb dX19_settles_12 (by decide) ?_
    exact g_zret X hw hr rfl h (Nat.le_refl _) (Nat.le_refl _) dX19_settles_13

/-! FifthCardModel.knowsTable()V -/
theorem ydX19_knowsTable : yX19_knowsTable.cls = "FifthCardModel" ∧ yX19_knowsTable.cls ≠ "java/lang/invoke/MethodHandle" ∧ yX19_knowsTable.cls ≠ "java/lang/invoke/VarHandle" ∧ (parseMethodDescriptor yX19_knowsTable.desc).map (fun d => d.parameters.length) = some 0 := by decide +kernel
def rmX19_knowsTable (mc ms : Nat) : Room := { frames := 5, cells := mc, slots := ms, locals := 123 }
set_option maxHeartbeats 4000000 in
theorem wX19_knowsTable_87 {G : GT} {p : Program} {l : Launch} {e : Env} {s : State} {m : MethodId} {args : Array Value} {below : List Frame} {meth : Method} {c : Code} {H : Heap} {locs : List Loc} {ls : Array Slot} {a0 : Nat} {x1 : Int32} {x3 : Int32} {u : Hp} {K : Hp → Prop} {J35 : Int32 → Hp → Prop} (X : Mc G p s m args meth c RX19 cX19_knowsTable 4) (hr : meth.sig.returnType = none) (hJ35 : ∀ (x1 : Int32) (u : Hp) (H : Heap) (locs : List Loc) (ls : Array Slot) , J35 x1 u → GW G u s H locs → lv_has ls 4 [(0, .ref a0), (1, .int x1)] → W p l e (rmX19_knowsTable 0 0) s m args below meth c H locs 0 0 (QV G below K args s 0 0) (F0 m 35 ls [])) (h : jl2 (bX19_knowsTable_87 K J35 a0 x1) x3 u) (hw : GW G u s H locs) (hl : lv_has ls 4 [(0, .ref a0), (1, .int x1), (3, .int x3)]) : W p l e (rmX19_knowsTable 0 0) s m args below meth c H locs 0 0 (QV G below K args s 0 0) (F0 m 87 ls []) := by
  obtain ⟨hx, hb, hml, hown, hts, -⟩ := id X
  obtain ⟨I, μ, h0, hs⟩ := h
  have key : ∀ (n : Nat) (x3 : Int32) (u : Hp) (H : Heap) (locs : List Loc) (ls : Array Slot) , μ x3 u < n → I x3 u → GW G u s H locs → lv_has ls 4 [(0, .ref a0), (1, .int x1), (3, .int x3)] → W p l e (rmX19_knowsTable 0 0) s m args below meth c H locs 0 0 (QV G below K args s 0 0) (F0 m 87 ls []) := by
    intro n
    induction n with
    | zero =>
      intro x3 u H locs ls hn
      exact absurd hn (Nat.not_lt_zero _)
    | succ n ih =>
      intro x3 u H locs ls hn hI hw hl
      have h := hs x3 u hI
      unfold bX19_knowsTable_87 at h
      have hJ87 : ∀ (x3' : Int32) (u' : Hp) (H : Heap) (locs : List Loc) (ls : Array Slot) , (I x3' u' ∧ μ x3' u' < μ x3 u) → GW G u' s H locs → lv_has ls 4 [(0, .ref a0), (1, .int x1), (3, .int x3')] → W p l e (rmX19_knowsTable 0 0) s m args below meth c H locs 0 0 (QV G below K args s 0 0) (F0 m 87 ls []) := fun x3' u' H locs ls h hw hl => ih x3' u' H locs ls (Nat.lt_of_lt_of_le h.2 (Nat.le_of_lt_succ hn)) h.1 hw hl
      refine lv_aload_n hx hb dX19_knowsTable_87 rfl (lv_at hl 0 rfl) ?_
      refine lv_iload_n hx hb dX19_knowsTable_88 rfl (lv_at hl 1 rfl) ?_
      refine lv_aload_n hx hb dX19_knowsTable_89 rfl (lv_at hl 0 rfl) ?_
      have hk_1 : kd u a0 = 16 := h.1
      have h := h.2
      obtain ⟨b_2, e_3, h⟩ := h
      refine g_getR X hw in_X19 hk_1 rfl 34 rfl (by decide) q1485 (fun _ z => z) e_3 dX19_knowsTable_90 ?_
      refine lv_iload_n hx hb dX19_knowsTable_93 rfl (lv_at hl 2 rfl) ?_
      have hk_4 : kd u b_2 = 101 := h.1
      have h := h.2
      refine g_iald X hw hk_4 h.1 dX19_knowsTable_94 ?_
      have h := h.2
      refine g_calli hw (g_V X hw (mX19_settles l G _ _ _ _ _ h) 2 (lw_V q2013 q2015 qs102 q143 q2016) rfl rfl ydX19_settles ⟨Nat.le_of_ble_eq_true rfl, Nat.le_of_ble_eq_true rfl⟩ (g_recv X hw (ci := 15) (q := (RX19, TX19, 46)) hk_1 rfl) (As := [.int x1, .int (AI u b_2 (tn x3))]) (rest := []) rfl hl.1 rfl (Nat.le_of_ble_eq_true rfl) dX19_knowsTable_95 ⟨Nat.le_refl _, Nat.le_refl _⟩) (fun r_5 u_6 H locs h hw => ?_)
      refine lv_if_ne (tgt := 107) hx hb dX19_knowsTable_98 rfl (fun c_14 => ?_) (fun c_14 => ?_)
      · have h := h.2 c_14
        refine lv_aload_n hx hb dX19_knowsTable_107 rfl (lv_at hl 0 rfl) ?_
        have hk_7 : kd u_6 a0 = 16 := h.1
        have h := h.2
        obtain ⟨b_8, e_9, h⟩ := h
        refine g_getR X hw in_X19 hk_7 rfl 33 rfl (by decide) q1484 (fun _ z => z) e_9 dX19_knowsTable_108 ?_
        refine lv_iload_n hx hb dX19_knowsTable_111 rfl (lv_at hl 1 rfl) ?_
        refine lv_aload_n hx hb dX19_knowsTable_112 rfl (lv_at hl 0 rfl) ?_
        obtain ⟨b_10, e_11, h⟩ := h
        refine g_getR X hw in_X19 hk_7 rfl 29 rfl (by decide) q1480 (fun _ z => z) e_11 dX19_knowsTable_113 ?_
        refine lv_iload_n hx hb dX19_knowsTable_116 rfl (lv_at hl 1 rfl) ?_
        have hk_12 : kd u_6 b_10 = 101 := h.1
        have h := h.2
        refine g_iald X hw hk_12 h.1 dX19_knowsTable_117 ?_
        have h := h.2
        have hk_13 : kd u_6 b_8 = 101 := h.1
        have h := h.2
        refine g_iast X hw hk_13 h.1 dX19_knowsTable_118 (fun H locs hw => ?_)
        have h := h.2
        refine lv_iinc (v := x1 + 1) (lv' := [(1, .int (x1 + 1)), (0, .ref a0), (3, .int x3)]) hx hb dX19_knowsTable_119 hl (k := 1) rfl rfl (by decide) rfl (fun ls hl => ?_)
        refine lv_goto (tgt := 35) hx hb dX19_knowsTable_122 rfl ?_
        exact hJ35 _ _ _ _ _ h hw (lv_sub hl [1, 0] rfl)
      · have h := h.1 c_14
        refine lv_iinc (v := x3 + 1) (lv' := [(3, .int (x3 + 1)), (0, .ref a0), (1, .int x1)]) hx hb dX19_knowsTable_101 hl (k := 2) rfl rfl (by decide) rfl (fun ls hl => ?_)
        refine lv_goto (tgt := 87) hx hb dX19_knowsTable_104 rfl ?_
        exact hJ87 _ _ _ _ _ h hw (lv_sub hl [1, 2, 0] rfl)
  exact key _ _ _ _ _ _ (Nat.lt_succ_self _) h0 hw hl
set_option maxHeartbeats 4000000 in
theorem wX19_knowsTable_62 {G : GT} {p : Program} {l : Launch} {e : Env} {s : State} {m : MethodId} {args : Array Value} {below : List Frame} {meth : Method} {c : Code} {H : Heap} {locs : List Loc} {ls : Array Slot} {a0 : Nat} {x1 : Int32} {x2 : Int32} {x3 : Int32} {u : Hp} {K : Hp → Prop} {J35 : Int32 → Hp → Prop} (X : Mc G p s m args meth c RX19 cX19_knowsTable 4) (hr : meth.sig.returnType = none) (hJ35 : ∀ (x1 : Int32) (u : Hp) (H : Heap) (locs : List Loc) (ls : Array Slot) , J35 x1 u → GW G u s H locs → lv_has ls 4 [(0, .ref a0), (1, .int x1)] → W p l e (rmX19_knowsTable 0 0) s m args below meth c H locs 0 0 (QV G below K args s 0 0) (F0 m 35 ls [])) (h : jl2 (bX19_knowsTable_62 K J35 a0 x1 x2) x3 u) (hw : GW G u s H locs) (hl : lv_has ls 4 [(0, .ref a0), (1, .int x1), (2, .int x2), (3, .int x3)]) : W p l e (rmX19_knowsTable 0 0) s m args below meth c H locs 0 0 (QV G below K args s 0 0) (F0 m 62 ls []) := by
  obtain ⟨hx, hb, hml, hown, hts, -⟩ := id X
  obtain ⟨I, μ, h0, hs⟩ := h
  have key : ∀ (n : Nat) (x3 : Int32) (u : Hp) (H : Heap) (locs : List Loc) (ls : Array Slot) , μ x3 u < n → I x3 u → GW G u s H locs → lv_has ls 4 [(0, .ref a0), (1, .int x1), (2, .int x2), (3, .int x3)] → W p l e (rmX19_knowsTable 0 0) s m args below meth c H locs 0 0 (QV G below K args s 0 0) (F0 m 62 ls []) := by
    intro n
    induction n with
    | zero =>
      intro x3 u H locs ls hn
      exact absurd hn (Nat.not_lt_zero _)
    | succ n ih =>
      intro x3 u H locs ls hn hI hw hl
      have h := hs x3 u hI
      unfold bX19_knowsTable_62 at h
      have hJ62 : ∀ (x3' : Int32) (u' : Hp) (H : Heap) (locs : List Loc) (ls : Array Slot) , (I x3' u' ∧ μ x3' u' < μ x3 u) → GW G u' s H locs → lv_has ls 4 [(0, .ref a0), (1, .int x1), (2, .int x2), (3, .int x3')] → W p l e (rmX19_knowsTable 0 0) s m args below meth c H locs 0 0 (QV G below K args s 0 0) (F0 m 62 ls []) := fun x3' u' H locs ls h hw hl => ih x3' u' H locs ls (Nat.lt_of_lt_of_le h.2 (Nat.le_of_lt_succ hn)) h.1 hw hl
      refine lv_iload_n hx hb dX19_knowsTable_62 rfl (lv_at hl 3 rfl) ?_
      refine lv_iload_n hx hb dX19_knowsTable_63 rfl (lv_at hl 2 rfl) ?_
      refine lv_icmp_ge (tgt := 85) hx hb dX19_knowsTable_64 rfl (fun c_22 => ?_) (fun c_22 => ?_)
      · have h := h.1 c_22
        refine lv_iconst (v := 0) hx hb dX19_knowsTable_85 (by decide) ?_
        refine lv_istore_n (lv' := [(3, .int 0), (0, .ref a0), (1, .int x1), (2, .int x2)]) hx hb dX19_knowsTable_86 rfl hl (by decide) rfl (fun ls hl => ?_)
        exact wX19_knowsTable_87 X hr hJ35  h hw (lv_sub hl [1, 2, 0] rfl)
      · have h := h.2 c_22
        refine lv_aload_n hx hb dX19_knowsTable_67 rfl (lv_at hl 0 rfl) ?_
        have hk_15 : kd u a0 = 16 := h.1
        have h := h.2
        obtain ⟨b_16, e_17, h⟩ := h
        refine g_getR X hw in_X19 hk_15 rfl 34 rfl (by decide) q1485 (fun _ z => z) e_17 dX19_knowsTable_68 ?_
        refine lv_iload_n hx hb dX19_knowsTable_71 rfl (lv_at hl 3 rfl) ?_
        refine lv_aload_n hx hb dX19_knowsTable_72 rfl (lv_at hl 0 rfl) ?_
        obtain ⟨b_18, e_19, h⟩ := h
        refine g_getR X hw in_X19 hk_15 rfl 21 rfl (by decide) q1472 (fun _ z => z) e_19 dX19_knowsTable_73 ?_
        refine lv_iload_n hx hb dX19_knowsTable_76 rfl (lv_at hl 3 rfl) ?_
        have hk_20 : kd u b_18 = 101 := h.1
        have h := h.2
        refine g_iald X hw hk_20 h.1 dX19_knowsTable_77 ?_
        have h := h.2
        have hk_21 : kd u b_16 = 101 := h.1
        have h := h.2
        refine g_iast X hw hk_21 h.1 dX19_knowsTable_78 (fun H locs hw => ?_)
        have h := h.2
        refine lv_iinc (v := x3 + 1) (lv' := [(3, .int (x3 + 1)), (0, .ref a0), (1, .int x1), (2, .int x2)]) hx hb dX19_knowsTable_79 hl (k := 3) rfl rfl (by decide) rfl (fun ls hl => ?_)
        refine lv_goto (tgt := 62) hx hb dX19_knowsTable_82 rfl ?_
        exact hJ62 _ _ _ _ _ h hw (lv_sub hl [1, 2, 3, 0] rfl)
  exact key _ _ _ _ _ _ (Nat.lt_succ_self _) h0 hw hl
set_option maxHeartbeats 4000000 in
theorem wX19_knowsTable_35 {G : GT} {p : Program} {l : Launch} {e : Env} {s : State} {m : MethodId} {args : Array Value} {below : List Frame} {meth : Method} {c : Code} {H : Heap} {locs : List Loc} {ls : Array Slot} {a0 : Nat} {x1 : Int32} {u : Hp} {K : Hp → Prop} (X : Mc G p s m args meth c RX19 cX19_knowsTable 4) (hr : meth.sig.returnType = none) (h : jl2 (bX19_knowsTable_35 K a0) x1 u) (hw : GW G u s H locs) (hl : lv_has ls 4 [(0, .ref a0), (1, .int x1)]) : W p l e (rmX19_knowsTable 0 0) s m args below meth c H locs 0 0 (QV G below K args s 0 0) (F0 m 35 ls []) := by
  obtain ⟨hx, hb, hml, hown, hts, -⟩ := id X
  obtain ⟨I, μ, h0, hs⟩ := h
  have key : ∀ (n : Nat) (x1 : Int32) (u : Hp) (H : Heap) (locs : List Loc) (ls : Array Slot) , μ x1 u < n → I x1 u → GW G u s H locs → lv_has ls 4 [(0, .ref a0), (1, .int x1)] → W p l e (rmX19_knowsTable 0 0) s m args below meth c H locs 0 0 (QV G below K args s 0 0) (F0 m 35 ls []) := by
    intro n
    induction n with
    | zero =>
      intro x1 u H locs ls hn
      exact absurd hn (Nat.not_lt_zero _)
    | succ n ih =>
      intro x1 u H locs ls hn hI hw hl
      have h := hs x1 u hI
      unfold bX19_knowsTable_35 at h
      have hJ35 : ∀ (x1' : Int32) (u' : Hp) (H : Heap) (locs : List Loc) (ls : Array Slot) , (I x1' u' ∧ μ x1' u' < μ x1 u) → GW G u' s H locs → lv_has ls 4 [(0, .ref a0), (1, .int x1')] → W p l e (rmX19_knowsTable 0 0) s m args below meth c H locs 0 0 (QV G below K args s 0 0) (F0 m 35 ls []) := fun x1' u' H locs ls h hw hl => ih x1' u' H locs ls (Nat.lt_of_lt_of_le h.2 (Nat.le_of_lt_succ hn)) h.1 hw hl
      refine lv_iload_n hx hb dX19_knowsTable_35 rfl (lv_at hl 1 rfl) ?_
      refine lv_aload_n hx hb dX19_knowsTable_36 rfl (lv_at hl 0 rfl) ?_
      have hk_23 : kd u a0 = 16 := h.1
      have h := h.2
      refine g_getI X hw in_X19 hk_23 rfl 17 rfl (by decide) q1468 (fun _ z => z) dX19_knowsTable_37 ?_
      refine lv_icmp_ge (tgt := 125) hx hb dX19_knowsTable_40 rfl (fun c_27 => ?_) (fun c_27 => ?_)
      · have h := h.1 c_27
        exact g_vret X hw hr h (Nat.le_refl _) (Nat.le_refl _) dX19_knowsTable_125
      · have h := h.2 c_27
        refine lv_aload_n hx hb dX19_knowsTable_43 rfl (lv_at hl 0 rfl) ?_
        refine g_getI X hw in_X19 hk_23 rfl 36 rfl (by decide) q1487 (fun _ z => z) dX19_knowsTable_44 ?_
        refine lv_if_eq (tgt := 125) hx hb dX19_knowsTable_47 rfl (fun c_26 => ?_) (fun c_26 => ?_)
        · have h := h.1 c_26
          exact g_vret X hw hr h (Nat.le_refl _) (Nat.le_refl _) dX19_knowsTable_125
        · have h := h.2 c_26
          refine lv_aload_n hx hb dX19_knowsTable_50 rfl (lv_at hl 0 rfl) ?_
          refine lv_iload_n hx hb dX19_knowsTable_51 rfl (lv_at hl 1 rfl) ?_
          refine g_callv hw (g_V X hw (mX19_fitsOf l G _ _ _ _ h) 1 (lw_V q1988 q1990 qs96 q143 q1991) rfl rfl ydX19_fitsOf ⟨Nat.le_of_ble_eq_true rfl, Nat.le_of_ble_eq_true rfl⟩ (g_recv X hw (ci := 15) (q := (RX19, TX19, 46)) hk_23 rfl) (As := [.int x1]) (rest := []) rfl hl.1 rfl (Nat.le_of_ble_eq_true rfl) dX19_knowsTable_52 ⟨Nat.le_refl _, Nat.le_refl _⟩) (fun u_24 H locs h hw => ?_)
          refine lv_aload_n hx hb dX19_knowsTable_55 rfl (lv_at hl 0 rfl) ?_
          have hk_25 : kd u_24 a0 = 16 := h.1
          have h := h.2
          refine g_getI X hw in_X19 hk_25 rfl 22 rfl (by decide) q1473 (fun _ z => z) dX19_knowsTable_56 ?_
          refine lv_istore_n (lv' := [(2, .int (FI u_24 1922 a0)), (0, .ref a0), (1, .int x1)]) hx hb dX19_knowsTable_59 rfl hl (by decide) rfl (fun ls hl => ?_)
          refine lv_iconst (v := 0) hx hb dX19_knowsTable_60 (by decide) ?_
          refine lv_istore_n (lv' := [(3, .int 0), (2, .int (FI u_24 1922 a0)), (0, .ref a0), (1, .int x1)]) hx hb dX19_knowsTable_61 rfl hl (by decide) rfl (fun ls hl => ?_)
          exact wX19_knowsTable_62 X hr hJ35  h hw (lv_sub hl [2, 3, 1, 0] rfl)
  exact key _ _ _ _ _ _ (Nat.lt_succ_self _) h0 hw hl
set_option maxHeartbeats 4000000 in
theorem mX19_knowsTable (l : Launch) (G : GT) (u : Hp) (a0 : Nat) (K : Hp → Prop) (h : pX19_knowsTable u a0 K) : Met l yX19_knowsTable (ws_ yX19_knowsTable cX19_knowsTable 4 none) (rmX19_knowsTable 0 0) (va_Pc [.ref a0] (GB G u)) (va_Qv K (fun u t => GH G u t.heap) (GA G)) 0 0 (GA G) := by
  refine Met.ofW (cc := cX19_knowsTable) (maxL := 4) (ret := none) (by decide) rfl ?_
  intro p e s m args below meth c s₁ B hml hv
  obtain ⟨rfl, hv⟩ := hv
  have X := Mc_of (own := RX19) B hml rfl hv
  have hw : GW G u s s.heap [] := ⟨hv.2.1, va_S.rf⟩
  have hr := B.returns
  obtain ⟨hx, hb, hml, hown, hts, -⟩ := id X
  have hl := lv_entry ([.ref a0]) (n := 4) (Nat.le_of_ble_eq_true rfl)
  rw [lg_entry_eq]
  generalize (lg_sl ([.ref a0]) ++ List.replicate (4 - (lg_sl ([.ref a0])).length) Slot.unset).toArray = ls at hl ⊢
  have hl : lv_has ls 4 [(0, .ref a0)] := hl
  change W p l e (rmX19_knowsTable 0 0) s m _ below meth c s.heap [] 0 0 (QV G below K _ s 0 0) (F0 m 0 ls [])
  unfold pX19_knowsTable at h
  refine lv_aload_n hx hb dX19_knowsTable_0 rfl (lv_at hl 0 rfl) ?_
  have hk_28 : kd u a0 = 16 := h.1
  have h := h.2
  refine g_getI X hw in_X19 hk_28 rfl 35 rfl (by decide) q1486 (fun _ z => z) dX19_knowsTable_1 ?_
  refine lv_if_eq (tgt := 8) hx hb dX19_knowsTable_4 rfl (fun c_33 => ?_) (fun c_33 => ?_)
  · have h := h.1 c_33
    refine lv_aload_n hx hb dX19_knowsTable_8 rfl (lv_at hl 0 rfl) ?_
    refine lv_iconst (v := 1) hx hb dX19_knowsTable_9 (by decide) ?_
    refine g_putI (v := 1) X hw in_X19 tyX19_ok nmX19 hk_28 rfl 35 rfl (by decide) q1486 (fun _ z => z) rfl rfl rfl dX19_knowsTable_10 (fun H locs hw => ?_)
    refine lv_aload_n hx hb dX19_knowsTable_13 rfl (lv_at hl 0 rfl) ?_
    refine lv_aload_n hx hb dX19_knowsTable_14 rfl (lv_at hl 0 rfl) ?_
    refine g_calli hw (g_V X hw (mX19_pairsNow l G _ _ _ h) 0 (lw_V q1976 q1978 qs93 q143 q1979) rfl rfl ydX19_pairsNow ⟨Nat.le_of_ble_eq_true rfl, Nat.le_of_ble_eq_true rfl⟩ (g_recv X hw (ci := 15) (q := (RX19, TX19, 46)) hk_28 rfl) (As := []) (rest := [.ref a0]) rfl hl.1 rfl (Nat.le_of_ble_eq_true rfl) dX19_knowsTable_15 ⟨Nat.le_refl _, Nat.le_refl _⟩) (fun r_29 u_30 H locs h hw => ?_)
    refine lv_aload_n hx hb dX19_knowsTable_18 rfl (lv_at hl 0 rfl) ?_
    have hk_31 : kd u_30 a0 = 16 := h.1
    have h := h.2
    refine g_getI X hw in_X19 hk_31 rfl 17 rfl (by decide) q1468 (fun _ z => z) dX19_knowsTable_19 ?_
    refine lv_icmp_ne (tgt := 29) hx hb dX19_knowsTable_22 rfl (fun c_32 => ?_) (fun c_32 => ?_)
    · have h := h.2 c_32
      refine lv_iconst (v := 0) hx hb dX19_knowsTable_29 (by decide) ?_
      refine g_putI (v := 0) X hw in_X19 tyX19_ok nmX19 hk_31 rfl 36 rfl (by decide) q1487 (fun _ z => z) rfl rfl rfl dX19_knowsTable_30 (fun H locs hw => ?_)
      refine lv_iconst (v := 0) hx hb dX19_knowsTable_33 (by decide) ?_
      refine lv_istore_n (lv' := [(1, .int 0), (0, .ref a0)]) hx hb dX19_knowsTable_34 rfl hl (by decide) rfl (fun ls hl => ?_)
      exact wX19_knowsTable_35 X hr  h hw (lv_sub hl [1, 0] rfl)
    · have h := h.1 c_32
      refine lv_iconst (v := 1) hx hb dX19_knowsTable_25 (by decide) ?_
      refine lv_goto (tgt := 30) hx hb dX19_knowsTable_26 rfl ?_
      refine g_putI (v := 1) X hw in_X19 tyX19_ok nmX19 hk_31 rfl 36 rfl (by decide) q1487 (fun _ z => z) rfl rfl rfl dX19_knowsTable_30 (fun H locs hw => ?_)
      refine lv_iconst (v := 0) hx hb dX19_knowsTable_33 (by decide) ?_
      refine lv_istore_n (lv' := [(1, .int 0), (0, .ref a0)]) hx hb dX19_knowsTable_34 rfl hl (by decide) rfl (fun ls hl => ?_)
      exact wX19_knowsTable_35 X hr  h hw (lv_sub hl [1, 0] rfl)
  · have h := h.2 c_33
    exact g_vret X hw hr h (Nat.le_refl _) (Nat.le_refl _) dX19_knowsTable_7

/-! FifthCardModel.laysNow(II)I -/
theorem ydX19_laysNow : yX19_laysNow.cls = "FifthCardModel" ∧ yX19_laysNow.cls ≠ "java/lang/invoke/MethodHandle" ∧ yX19_laysNow.cls ≠ "java/lang/invoke/VarHandle" ∧ (parseMethodDescriptor yX19_laysNow.desc).map (fun d => d.parameters.length) = some 2 := by decide +kernel
def rmX19_laysNow (mc ms : Nat) : Room := { frames := 6, cells := mc, slots := ms, locals := 146 }
set_option maxHeartbeats 4000000 in
theorem mX19_laysNow (l : Launch) (G : GT) (u : Hp) (a0 : Nat) (x1 : Int32) (x2 : Int32) (K : Int32 → Hp → Prop) (h : pX19_laysNow u a0 x1 x2 K) : Met l yX19_laysNow (ws_ yX19_laysNow cX19_laysNow 4 (some .int)) (rmX19_laysNow 0 0) (va_Pc [.ref a0, .int x1, .int x2] (GB G u)) (va_Qi K (fun u t => GH G u t.heap) (GA G)) 0 0 (GA G) := by
  refine Met.ofW (cc := cX19_laysNow) (maxL := 4) (ret := (some .int)) (by decide) rfl ?_
  intro p e s m args below meth c s₁ B hml hv
  obtain ⟨rfl, hv⟩ := hv
  have X := Mc_of (own := RX19) B hml rfl hv
  have hw : GW G u s s.heap [] := ⟨hv.2.1, va_S.rf⟩
  have hr := B.returns
  obtain ⟨hx, hb, hml, hown, hts, -⟩ := id X
  have hl := lv_entry ([.ref a0, .int x1, .int x2]) (n := 4) (Nat.le_of_ble_eq_true rfl)
  rw [lg_entry_eq]
  generalize (lg_sl ([.ref a0, .int x1, .int x2]) ++ List.replicate (4 - (lg_sl ([.ref a0, .int x1, .int x2])).length) Slot.unset).toArray = ls at hl ⊢
  have hl : lv_has ls 4 [(0, .ref a0), (1, .int x1), (2, .int x2)] := hl
  change W p l e (rmX19_laysNow 0 0) s m _ below meth c s.heap [] 0 0 (QI G below K _ s 0 0) (F0 m 0 ls [])
  unfold pX19_laysNow at h
  refine lv_aload_n hx hb dX19_laysNow_0 rfl (lv_at hl 0 rfl) ?_
  have hk_1 : kd u a0 = 16 := h.1
  have h := h.2
  obtain ⟨b_2, e_3, h⟩ := h
  refine g_getR X hw in_X19 hk_1 rfl 3 rfl (by decide) q1454 (fun _ z => z) e_3 dX19_laysNow_1 ?_
  have hk_4 : kd u b_2 = 20 := h.1
  have h := h.2
  obtain ⟨b_5, e_6, h⟩ := h
  refine g_getNR X hw (host := "FifthCardModel") in_X23 hk_4 rfl 10 rfl (by decide) (List.mem_of_getElem? (i := 10) rfl) (fun _ z => z) e_6 dX19_laysNow_4 ?_
  refine lv_iload_n hx hb dX19_laysNow_7 rfl (lv_at hl 1 rfl) ?_
  have hk_7 : kd u b_5 = 101 := h.1
  have h := h.2
  refine g_iald X hw hk_7 h.1 dX19_laysNow_8 ?_
  have h := h.2
  refine lv_istore_n (lv' := [(3, .int (AI u b_5 (tn x1))), (0, .ref a0), (1, .int x1), (2, .int x2)]) hx hb dX19_laysNow_9 rfl hl (by decide) rfl (fun ls hl => ?_)
  refine lv_iload_n hx hb dX19_laysNow_10 rfl (lv_at hl 0 rfl) ?_
  refine lv_bipush (v := 20) hx hb dX19_laysNow_11 (by decide) ?_
  refine lv_icmp_ne (tgt := 22) hx hb dX19_laysNow_13 rfl (fun c_20 => ?_) (fun c_20 => ?_)
  · have h := h.2 c_20
    refine lv_iload_n hx hb dX19_laysNow_22 rfl (lv_at hl 0 rfl) ?_
    refine lv_bipush (v := 21) hx hb dX19_laysNow_23 (by decide) ?_
    refine lv_icmp_eq (tgt := 35) hx hb dX19_laysNow_25 rfl (fun c_17 => ?_) (fun c_17 => ?_)
    · have h := h.1 c_17
      refine lv_aload_n hx hb dX19_laysNow_35 rfl (lv_at hl 1 rfl) ?_
      refine g_getI X hw in_X19 hk_1 rfl 17 rfl (by decide) q1468 (fun _ z => z) dX19_laysNow_36 ?_
      refine lv_sipush (v := 300) hx hb dX19_laysNow_39 (by decide) ?_
      refine lv_icmp_le (tgt := 48) hx hb dX19_laysNow_42 rfl (fun c_14 => ?_) (fun c_14 => ?_)
      · have h := h.1 c_14
        refine lv_aload_n hx hb dX19_laysNow_48 rfl (lv_at hl 1 rfl) ?_
        refine g_callv hw (g_V X hw (mX19_knowsTable l G _ _ _ h) 0 (lw_V q1972 q1974 qs92 q143 q1975) rfl rfl ydX19_knowsTable ⟨Nat.le_of_ble_eq_true rfl, Nat.le_of_ble_eq_true rfl⟩ (g_recv X hw (ci := 15) (q := (RX19, TX19, 46)) hk_1 rfl) (As := []) (rest := []) rfl hl.1 rfl (Nat.le_of_ble_eq_true rfl) dX19_laysNow_49 ⟨Nat.le_refl _, Nat.le_refl _⟩) (fun u_8 H locs h hw => ?_)
        refine lv_aload_n hx hb dX19_laysNow_52 rfl (lv_at hl 1 rfl) ?_
        have hk_9 : kd u_8 a0 = 16 := h.1
        have h := h.2
        refine g_getI X hw in_X19 hk_9 rfl 36 rfl (by decide) q1487 (fun _ z => z) dX19_laysNow_53 ?_
        refine lv_if_eq (tgt := 68) hx hb dX19_laysNow_56 rfl (fun c_13 => ?_) (fun c_13 => ?_)
        · have h := h.1 c_13
          refine lv_bipush (v := (-2)) hx hb dX19_laysNow_68 (by decide) ?_
          exact g_iret X hw hr h (Nat.le_refl _) (Nat.le_refl _) dX19_laysNow_70
        · have h := h.2 c_13
          refine lv_aload_n hx hb dX19_laysNow_59 rfl (lv_at hl 1 rfl) ?_
          obtain ⟨b_10, e_11, h⟩ := h
          refine g_getR X hw in_X19 hk_9 rfl 33 rfl (by decide) q1484 (fun _ z => z) e_11 dX19_laysNow_60 ?_
          refine lv_iload_n hx hb dX19_laysNow_63 rfl (lv_at hl 3 rfl) ?_
          have hk_12 : kd u_8 b_10 = 101 := h.1
          have h := h.2
          refine g_iald X hw hk_12 h.1 dX19_laysNow_64 ?_
          have h := h.2
          refine lv_goto (tgt := 70) hx hb dX19_laysNow_65 rfl ?_
          exact g_iret X hw hr h (Nat.le_refl _) (Nat.le_refl _) dX19_laysNow_70
      · have h := h.2 c_14
        refine lv_bipush (v := (-2)) hx hb dX19_laysNow_45 (by decide) ?_
        exact g_iret X hw hr h (Nat.le_refl _) (Nat.le_refl _) dX19_laysNow_47
    · have h := h.2 c_17
      refine lv_aload_n hx hb dX19_laysNow_28 rfl (lv_at hl 1 rfl) ?_
      refine lv_iload_n hx hb dX19_laysNow_29 rfl (lv_at hl 0 rfl) ?_
      refine lv_iload_n hx hb dX19_laysNow_30 rfl (lv_at hl 3 rfl) ?_
      refine g_calli hw (g_V X hw (mX19_laysWords l G _ _ _ _ _ h) 2 (lw_V q1956 q1958 qs88 q143 q1959) rfl rfl ydX19_laysWords ⟨Nat.le_of_ble_eq_true rfl, Nat.le_of_ble_eq_true rfl⟩ (g_recv X hw (ci := 15) (q := (RX19, TX19, 46)) hk_1 rfl) (As := [.int (AI u b_5 (tn x1)), .int x2]) (rest := []) rfl hl.1 rfl (Nat.le_of_ble_eq_true rfl) dX19_laysNow_31 ⟨Nat.le_refl _, Nat.le_refl _⟩) (fun r_15 u_16 H locs h hw => ?_)
      exact g_iret X hw hr h (Nat.le_refl _) (Nat.le_refl _) dX19_laysNow_34
  · have h := h.1 c_20
    refine lv_aload_n hx hb dX19_laysNow_16 rfl (lv_at hl 1 rfl) ?_
    refine lv_iload_n hx hb dX19_laysNow_17 rfl (lv_at hl 3 rfl) ?_
    refine g_calli hw (g_V X hw (mX19_laysSuit l G _ _ _ _ h) 1 (lw_V q1948 q1950 qs86 q143 q1951) rfl rfl ydX19_laysSuit ⟨Nat.le_of_ble_eq_true rfl, Nat.le_of_ble_eq_true rfl⟩ (g_recv X hw (ci := 15) (q := (RX19, TX19, 46)) hk_1 rfl) (As := [.int x2]) (rest := []) rfl hl.1 rfl (Nat.le_of_ble_eq_true rfl) dX19_laysNow_18 ⟨Nat.le_refl _, Nat.le_refl _⟩) (fun r_18 u_19 H locs h hw => ?_)
    exact g_iret X hw hr h (Nat.le_refl _) (Nat.le_refl _) dX19_laysNow_21

/-! FifthCardModel.lays(II)I -/
theorem ydX19_lays : yX19_lays.cls = "FifthCardModel" ∧ yX19_lays.cls ≠ "java/lang/invoke/MethodHandle" ∧ yX19_lays.cls ≠ "java/lang/invoke/VarHandle" ∧ (parseMethodDescriptor yX19_lays.desc).map (fun d => d.parameters.length) = some 2 := by decide +kernel
def rmX19_lays (mc ms : Nat) : Room := { frames := 7, cells := mc, slots := ms, locals := 169 }
set_option maxHeartbeats 4000000 in
theorem mX19_lays (l : Launch) (G : GT) (u : Hp) (a0 : Nat) (x1 : Int32) (x2 : Int32) (K : Int32 → Hp → Prop) (h : pX19_lays u a0 x1 x2 K) : Met l yX19_lays (ws_ yX19_lays cX19_lays 3 (some .int)) (rmX19_lays 0 0) (va_Pc [.ref a0, .int x1, .int x2] (GB G u)) (va_Qi K (fun u t => GH G u t.heap) (GA G)) 0 0 (GA G) := by
  refine Met.ofW (cc := cX19_lays) (maxL := 3) (ret := (some .int)) (by decide) rfl ?_
  intro p e s m args below meth c s₁ B hml hv
  obtain ⟨rfl, hv⟩ := hv
  have X := Mc_of (own := RX19) B hml rfl hv
  have hw : GW G u s s.heap [] := ⟨hv.2.1, va_S.rf⟩
  have hr := B.returns
  obtain ⟨hx, hb, hml, hown, hts, -⟩ := id X
  have hl := lv_entry ([.ref a0, .int x1, .int x2]) (n := 3) (Nat.le_of_ble_eq_true rfl)
  rw [lg_entry_eq]
  generalize (lg_sl ([.ref a0, .int x1, .int x2]) ++ List.replicate (3 - (lg_sl ([.ref a0, .int x1, .int x2])).length) Slot.unset).toArray = ls at hl ⊢
  have hl : lv_has ls 3 [(0, .ref a0), (1, .int x1), (2, .int x2)] := hl
  change W p l e (rmX19_lays 0 0) s m _ below meth c s.heap [] 0 0 (QI G below K _ s 0 0) (F0 m 0 ls [])
  unfold pX19_lays at h
  refine lv_aload_n hx hb dX19_lays_0 rfl (lv_at hl 0 rfl) ?_
  refine lv_iconst (v := 0) hx hb dX19_lays_1 (by decide) ?_
  have hk_1 : kd u a0 = 16 := h.1
  have h := h.2
  refine g_putI (v := 0) X hw in_X19 tyX19_ok nmX19 hk_1 rfl 0 rfl (by decide) q1451 (fun _ z => z) rfl rfl rfl dX19_lays_2 (fun H locs hw => ?_)
  refine lv_aload_n hx hb dX19_lays_5 rfl (lv_at hl 0 rfl) ?_
  refine lv_iload_n hx hb dX19_lays_6 rfl (lv_at hl 1 rfl) ?_
  refine g_callio hw (g_V X hw (mX19_isRule l G _ _ _ _ h) 1 (lw_V q1940 q1942 qs84 q143 q1943) rfl rfl ydX19_isRule ⟨Nat.le_of_ble_eq_true rfl, Nat.le_of_ble_eq_true rfl⟩ (g_recv X hw (ci := 15) (q := (RX19, TX19, 46)) hk_1 rfl) (As := [.int x1]) (rest := []) rfl hl.1 rfl (Nat.le_of_ble_eq_true rfl) dX19_lays_7 ⟨Nat.le_refl _, Nat.le_refl _⟩) (fun r_2 H locs h hw => ?_)
  refine lv_if_eq (tgt := 34) hx hb dX19_lays_10 rfl (fun c_14 => ?_) (fun c_14 => ?_)
  · have h := h.1 c_14
    refine lv_aload_n hx hb dX19_lays_34 rfl (lv_at hl 0 rfl) ?_
    refine lv_iconst (v := 1) hx hb dX19_lays_35 (by decide) ?_
    refine g_calli hw (g_V X hw (mX19_refused l G _ _ _ _ h) 1 (lw_V q1603 q1605 qs47 q143 q1606) rfl rfl ydX19_refused ⟨Nat.le_of_ble_eq_true rfl, Nat.le_of_ble_eq_true rfl⟩ (g_recv X hw (ci := 15) (q := (RX19, TX19, 46)) hk_1 rfl) (As := [.int 1]) (rest := []) rfl hl.1 rfl (Nat.le_of_ble_eq_true rfl) dX19_lays_36 ⟨Nat.le_refl _, Nat.le_refl _⟩) (fun r_3 u_4 H locs h hw => ?_)
    exact g_iret X hw hr h (Nat.le_refl _) (Nat.le_refl _) dX19_lays_39
  · have h := h.2 c_14
    refine lv_aload_n hx hb dX19_lays_13 rfl (lv_at hl 0 rfl) ?_
    refine lv_iload_n hx hb dX19_lays_14 rfl (lv_at hl 2 rfl) ?_
    refine g_callio hw (g_V X hw (mX19_isHand l G _ _ _ _ h) 1 (lw_V q1895 q1897 qs79 q143 q1898) rfl rfl ydX19_isHand ⟨Nat.le_of_ble_eq_true rfl, Nat.le_of_ble_eq_true rfl⟩ (g_recv X hw (ci := 15) (q := (RX19, TX19, 46)) hk_1 rfl) (As := [.int x2]) (rest := []) rfl hl.1 rfl (Nat.le_of_ble_eq_true rfl) dX19_lays_15 ⟨Nat.le_refl _, Nat.le_refl _⟩) (fun r_5 H locs h hw => ?_)
    refine lv_if_eq (tgt := 34) hx hb dX19_lays_18 rfl (fun c_13 => ?_) (fun c_13 => ?_)
    · have h := h.1 c_13
      refine lv_aload_n hx hb dX19_lays_34 rfl (lv_at hl 0 rfl) ?_
      refine lv_iconst (v := 1) hx hb dX19_lays_35 (by decide) ?_
      refine g_calli hw (g_V X hw (mX19_refused l G _ _ _ _ h) 1 (lw_V q1603 q1605 qs47 q143 q1606) rfl rfl ydX19_refused ⟨Nat.le_of_ble_eq_true rfl, Nat.le_of_ble_eq_true rfl⟩ (g_recv X hw (ci := 15) (q := (RX19, TX19, 46)) hk_1 rfl) (As := [.int 1]) (rest := []) rfl hl.1 rfl (Nat.le_of_ble_eq_true rfl) dX19_lays_36 ⟨Nat.le_refl _, Nat.le_refl _⟩) (fun r_6 u_7 H locs h hw => ?_)
      exact g_iret X hw hr h (Nat.le_refl _) (Nat.le_refl _) dX19_lays_39
    · have h := h.2 c_13
      refine lv_aload_n hx hb dX19_lays_21 rfl (lv_at hl 0 rfl) ?_
      refine lv_aload_n hx hb dX19_lays_22 rfl (lv_at hl 0 rfl) ?_
      refine lv_iload_n hx hb dX19_lays_23 rfl (lv_at hl 1 rfl) ?_
      refine lv_iload_n hx hb dX19_lays_24 rfl (lv_at hl 2 rfl) ?_
      refine g_calli hw (g_V X hw (mX19_laysNow l G _ _ _ _ _ h) 2 (lw_V q1944 q1946 qs85 q143 q1947) rfl rfl ydX19_laysNow ⟨Nat.le_of_ble_eq_true rfl, Nat.le_of_ble_eq_true rfl⟩ (g_recv X hw (ci := 15) (q := (RX19, TX19, 46)) hk_1 rfl) (As := [.int x1, .int x2]) (rest := [.ref a0]) rfl hl.1 rfl (Nat.le_of_ble_eq_true rfl) dX19_lays_25 ⟨Nat.le_refl _, Nat.le_refl _⟩) (fun r_8 u_9 H locs h hw => ?_)
      have hk_10 : kd u_9 a0 = 16 := h.1
      have h := h.2
      refine g_calli hw (g_V X hw (mX19_good l G _ _ _ _ h) 1 (lw_V q1867 q1869 qs77 q143 q1870) rfl rfl ydX19_good ⟨Nat.le_of_ble_eq_true rfl, Nat.le_of_ble_eq_true rfl⟩ (g_recv X hw (ci := 15) (q := (RX19, TX19, 46)) hk_10 rfl) (As := [.int r_8]) (rest := []) rfl hl.1 rfl (Nat.le_of_ble_eq_true rfl) dX19_lays_28 ⟨Nat.le_refl _, Nat.le_refl _⟩) (fun r_11 u_12 H locs h hw => ?_)
      refine lv_goto (tgt := 39) hx hb dX19_lays_31 rfl ?_
      exact g_iret X hw hr h (Nat.le_refl _) (Nat.le_refl _) dX19_lays_39

/-! FifthCard.kept(III)I -/
theorem ydX1_kept : yX1_kept.cls = "FifthCard" ∧ yX1_kept.cls ≠ "java/lang/invoke/MethodHandle" ∧ yX1_kept.cls ≠ "java/lang/invoke/VarHandle" ∧ (parseMethodDescriptor yX1_kept.desc).map (fun d => d.parameters.length) = some 3 := by decide +kernel
def rmX1_kept (mc ms : Nat) : Room := { frames := 7, cells := mc, slots := ms, locals := 173 }
set_option maxHeartbeats 4000000 in
theorem mX1_kept (l : Launch) (G : GT) (u : Hp) (a0 : Nat) (x1 : Int32) (x2 : Int32) (x3 : Int32) (K : Int32 → Hp → Prop) (h : pX1_kept u a0 x1 x2 x3 K) : Met l yX1_kept (ws_ yX1_kept cX1_kept 7 (some .int)) (rmX1_kept 0 0) (va_Pc [.ref a0, .int x1, .int x2, .int x3] (GB G u)) (va_Qi K (fun u t => GH G u t.heap) (GA G)) 0 0 (GA G) := by
  refine Met.ofW (cc := cX1_kept) (maxL := 7) (ret := (some .int)) (by decide) rfl ?_
  intro p e s m args below meth c s₁ B hml hv
  obtain ⟨rfl, hv⟩ := hv
  have X := Mc_of (own := RX1) B hml rfl hv
  have hw : GW G u s s.heap [] := ⟨hv.2.1, va_S.rf⟩
  have hr := B.returns
  obtain ⟨hx, hb, hml, hown, hts, -⟩ := id X
  have hl := lv_entry ([.ref a0, .int x1, .int x2, .int x3]) (n := 7) (Nat.le_of_ble_eq_true rfl)
  rw [lg_entry_eq]
  generalize (lg_sl ([.ref a0, .int x1, .int x2, .int x3]) ++ List.replicate (7 - (lg_sl ([.ref a0, .int x1, .int x2, .int x3])).length) Slot.unset).toArray = ls at hl ⊢
  have hl : lv_has ls 7 [(0, .ref a0), (1, .int x1), (2, .int x2), (3, .int x3)] := hl
  change W p l e (rmX1_kept 0 0) s m _ below meth c s.heap [] 0 0 (QI G below K _ s 0 0) (F0 m 0 ls [])
  unfold pX1_kept at h
  refine lv_aload_n hx hb dX1_kept_0 rfl (lv_at hl 0 rfl) ?_
  have hk_1 : kd u a0 = 1 := h.1
  have h := h.2
  refine g_callv hw (g_V X hw (mX1_anew l G _ _ _ h) 0 (lw_V q535 q537 qs2 q122 q538) rfl rfl ydX1_anew ⟨Nat.le_of_ble_eq_true rfl, Nat.le_of_ble_eq_true rfl⟩ (g_recv X hw (ci := 0) (q := (RX1, TX1, 16)) hk_1 rfl) (As := []) (rest := []) rfl hl.1 rfl (Nat.le_of_ble_eq_true rfl) dX1_kept_1 ⟨Nat.le_refl _, Nat.le_refl _⟩) (fun u_2 H locs h hw => ?_)
  refine lv_aload_n hx hb dX1_kept_4 rfl (lv_at hl 0 rfl) ?_
  refine lv_iload_n hx hb dX1_kept_5 rfl (lv_at hl 1 rfl) ?_
  have hk_3 : kd u_2 a0 = 1 := h.1
  have h := h.2
  refine g_callio hw (g_V X hw (mX1_isRule l G _ _ _ _ h) 1 (lw_V q1074 q1076 qs28 q122 q1077) rfl rfl ydX1_isRule ⟨Nat.le_of_ble_eq_true rfl, Nat.le_of_ble_eq_true rfl⟩ (g_recv X hw (ci := 0) (q := (RX1, TX1, 16)) hk_3 rfl) (As := [.int x1]) (rest := []) rfl hl.1 rfl (Nat.le_of_ble_eq_true rfl) dX1_kept_6 ⟨Nat.le_refl _, Nat.le_refl _⟩) (fun r_4 H locs h hw => ?_)
  refine lv_if_eq (tgt := 37) hx hb dX1_kept_9 rfl (fun c_58 => ?_) (fun c_58 => ?_)
  · have h := h.1 c_58
    refine lv_aload_n hx hb dX1_kept_37 rfl (lv_at hl 0 rfl) ?_
    refine lv_iconst (v := 1) hx hb dX1_kept_38 (by decide) ?_
    refine g_calli hw (g_V X hw (mX1_no l G _ _ _ _ h) 1 (lw_V q542 q544 qs3 q122 q545) rfl rfl ydX1_no ⟨Nat.le_of_ble_eq_true rfl, Nat.le_of_ble_eq_true rfl⟩ (g_recv X hw (ci := 0) (q := (RX1, TX1, 16)) hk_3 rfl) (As := [.int 1]) (rest := []) rfl hl.1 rfl (Nat.le_of_ble_eq_true rfl) dX1_kept_39 ⟨Nat.le_refl _, Nat.le_refl _⟩) (fun r_5 u_6 H locs h hw => ?_)
    exact g_iret X hw hr h (Nat.le_refl _) (Nat.le_refl _) dX1_kept_42
  · have h := h.2 c_58
    refine lv_aload_n hx hb dX1_kept_12 rfl (lv_at hl 0 rfl) ?_
    refine lv_iload_n hx hb dX1_kept_13 rfl (lv_at hl 2 rfl) ?_
    refine g_callio hw (g_V X hw (mX1_isHand l G _ _ _ _ h) 1 (lw_V q1019 q1021 qs25 q122 q1022) rfl rfl ydX1_isHand ⟨Nat.le_of_ble_eq_true rfl, Nat.le_of_ble_eq_true rfl⟩ (g_recv X hw (ci := 0) (q := (RX1, TX1, 16)) hk_3 rfl) (As := [.int x2]) (rest := []) rfl hl.1 rfl (Nat.le_of_ble_eq_true rfl) dX1_kept_14 ⟨Nat.le_refl _, Nat.le_refl _⟩) (fun r_7 H locs h hw => ?_)
    refine lv_if_eq (tgt := 37) hx hb dX1_kept_17 rfl (fun c_57 => ?_) (fun c_57 => ?_)
    · have h := h.1 c_57
      refine lv_aload_n hx hb dX1_kept_37 rfl (lv_at hl 0 rfl) ?_
      refine lv_iconst (v := 1) hx hb dX1_kept_38 (by decide) ?_
      refine g_calli hw (g_V X hw (mX1_no l G _ _ _ _ h) 1 (lw_V q542 q544 qs3 q122 q545) rfl rfl ydX1_no ⟨Nat.le_of_ble_eq_true rfl, Nat.le_of_ble_eq_true rfl⟩ (g_recv X hw (ci := 0) (q := (RX1, TX1, 16)) hk_3 rfl) (As := [.int 1]) (rest := []) rfl hl.1 rfl (Nat.le_of_ble_eq_true rfl) dX1_kept_39 ⟨Nat.le_refl _, Nat.le_refl _⟩) (fun r_8 u_9 H locs h hw => ?_)
      exact g_iret X hw hr h (Nat.le_refl _) (Nat.le_refl _) dX1_kept_42
    · have h := h.2 c_57
      refine lv_iload_n hx hb dX1_kept_20 rfl (lv_at hl 3 rfl) ?_
      refine lv_iconst (v := 0) hx hb dX1_kept_21 (by decide) ?_
      refine lv_aload_n hx hb dX1_kept_22 rfl (lv_at hl 0 rfl) ?_
      obtain ⟨b_10, e_11, h⟩ := h
      refine g_getR X hw in_X1 hk_3 rfl 3 rfl (by decide) q476 (fun _ z => z) e_11 dX1_kept_23 ?_
      have hk_12 : kd u_2 b_10 = 17 := h.1
      have h := h.2
      refine g_getI X hw in_X20 hk_12 rfl 6 rfl (by decide) q591 (fun _ z => z) dX1_kept_26 ?_
      refine lv_iconst (v := 1) hx hb dX1_kept_29 (by decide) ?_
      refine lv_isub hx hb dX1_kept_30 ?_
      refine g_callio hw (g_S X hw (mX1_in l G _ _ _ _ _ h) 3 (lw_S q539 q540 q122 q541) rfl rfl ydX1_in ⟨Nat.le_of_ble_eq_true rfl, Nat.le_of_ble_eq_true rfl⟩ (As := [.int x3, .int 0, .int ((FI u_2 2006 b_10) - 1)]) (rest := []) rfl hl.1 rfl (Nat.le_of_ble_eq_true rfl) dX1_kept_31 ⟨Nat.le_refl _, Nat.le_refl _⟩) (fun r_13 H locs h hw => ?_)
      refine lv_if_ne (tgt := 43) hx hb dX1_kept_34 rfl (fun c_56 => ?_) (fun c_56 => ?_)
      · have h := h.2 c_56
        refine lv_aload_n hx hb dX1_kept_43 rfl (lv_at hl 0 rfl) ?_
        refine lv_iload_n hx hb dX1_kept_44 rfl (lv_at hl 1 rfl) ?_
        refine lv_iload_n hx hb dX1_kept_45 rfl (lv_at hl 2 rfl) ?_
        refine g_calli hw (g_V X hw (mX1_rowOf l G _ _ _ _ _ h) 2 (lw_V q1078 q1080 qs29 q122 q1081) rfl rfl ydX1_rowOf ⟨Nat.le_of_ble_eq_true rfl, Nat.le_of_ble_eq_true rfl⟩ (g_recv X hw (ci := 0) (q := (RX1, TX1, 16)) hk_3 rfl) (As := [.int x1, .int x2]) (rest := []) rfl hl.1 rfl (Nat.le_of_ble_eq_true rfl) dX1_kept_46 ⟨Nat.le_refl _, Nat.le_refl _⟩) (fun r_14 u_15 H locs h hw => ?_)
        refine lv_istore (lv' := [(4, .int r_14), (0, .ref a0), (1, .int x1), (2, .int x2), (3, .int x3)]) hx hb dX1_kept_49 hl (by decide) rfl (fun ls hl => ?_)
        refine lv_iload hx hb dX1_kept_51 (lv_at hl 0 rfl) ?_
        refine lv_bipush (v := (-2)) hx hb dX1_kept_53 (by decide) ?_
        refine lv_icmp_ne (tgt := 65) hx hb dX1_kept_55 rfl (fun c_53 => ?_) (fun c_53 => ?_)
        · have h := h.2 c_53
          refine lv_aload_n hx hb dX1_kept_65 rfl (lv_at hl 1 rfl) ?_
          have hk_16 : kd u_15 a0 = 1 := h.1
          have h := h.2
          obtain ⟨b_17, e_18, h⟩ := h
          refine g_getR X hw in_X1 hk_16 rfl 3 rfl (by decide) q476 (fun _ z => z) e_18 dX1_kept_66 ?_
          refine lv_iload_n hx hb dX1_kept_69 rfl (lv_at hl 3 rfl) ?_
          refine lv_aload_n hx hb dX1_kept_70 rfl (lv_at hl 1 rfl) ?_
          obtain ⟨b_19, e_20, h⟩ := h
          refine g_getR X hw in_X1 hk_16 rfl 13 rfl (by decide) q486 (fun _ z => z) e_20 dX1_kept_71 ?_
          have hk_21 : kd u_15 b_17 = 17 := h.1
          have h := h.2
          refine g_callv hw (g_V X hw (mX20_layHand l G _ _ _ _ _ h) 2 (lw_V q1023 q969 q970 q144 q971) rfl rfl ydX20_layHand ⟨Nat.le_of_ble_eq_true rfl, Nat.le_of_ble_eq_true rfl⟩ (g_recv X hw (ci := 16) (q := (RX20, TX20, 13)) hk_21 rfl) (As := [.int x2, .ref b_19]) (rest := []) rfl hl.1 rfl (Nat.le_of_ble_eq_true rfl) dX1_kept_74 ⟨Nat.le_refl _, Nat.le_refl _⟩) (fun u_22 H locs h hw => ?_)
          refine lv_aload_n hx hb dX1_kept_77 rfl (lv_at hl 1 rfl) ?_
          have hk_23 : kd u_22 a0 = 1 := h.1
          have h := h.2
          obtain ⟨b_24, e_25, h⟩ := h
          refine g_getR X hw in_X1 hk_23 rfl 3 rfl (by decide) q476 (fun _ z => z) e_25 dX1_kept_78 ?_
          refine lv_iload hx hb dX1_kept_81 (lv_at hl 0 rfl) ?_
          refine lv_aload_n hx hb dX1_kept_83 rfl (lv_at hl 1 rfl) ?_
          refine g_getR X hw in_X1 hk_23 rfl 3 rfl (by decide) q476 (fun _ z => z) e_25 dX1_kept_84 ?_
          have hk_26 : kd u_22 b_24 = 17 := h.1
          have h := h.2
          refine g_callio hw (g_V X hw (mX20_tiltings l G _ _ _ h) 0 (lw_V q1014 q954 q955 q144 q956) rfl rfl ydX20_tiltings ⟨Nat.le_of_ble_eq_true rfl, Nat.le_of_ble_eq_true rfl⟩ (g_recv X hw (ci := 16) (q := (RX20, TX20, 13)) hk_26 rfl) (As := []) (rest := [.int r_14, .ref b_24]) rfl hl.1 rfl (Nat.le_of_ble_eq_true rfl) dX1_kept_87 ⟨Nat.le_refl _, Nat.le_refl _⟩) (fun r_27 H locs h hw => ?_)
          refine lv_idiv hx hb dX1_kept_90 h.1 ?_
          have h := h.2
          refine lv_aload_n hx hb dX1_kept_91 rfl (lv_at hl 1 rfl) ?_
          refine g_getR X hw in_X1 hk_23 rfl 3 rfl (by decide) q476 (fun _ z => z) e_25 dX1_kept_92 ?_
          refine g_callio hw (g_V X hw (mX20_rows l G _ _ _ h) 0 (lw_V q1013 q950 q951 q144 q952) rfl rfl ydX20_rows ⟨Nat.le_of_ble_eq_true rfl, Nat.le_of_ble_eq_true rfl⟩ (g_recv X hw (ci := 16) (q := (RX20, TX20, 13)) hk_26 rfl) (As := []) (rest := [.int (r_14 / r_27), .ref b_24]) rfl hl.1 rfl (Nat.le_of_ble_eq_true rfl) dX1_kept_95 ⟨Nat.le_refl _, Nat.le_refl _⟩) (fun r_28 H locs h hw => ?_)
          refine lv_aload_n hx hb dX1_kept_98 rfl (lv_at hl 1 rfl) ?_
          obtain ⟨b_29, e_30, h⟩ := h
          refine g_getR X hw in_X1 hk_23 rfl 14 rfl (by decide) q487 (fun _ z => z) e_30 dX1_kept_99 ?_
          refine g_callv hw (g_V X hw (mX20_unrank l G _ _ _ _ _ _ h) 3 (lw_V q1049 q973 q974 q144 q975) rfl rfl ydX20_unrank ⟨Nat.le_of_ble_eq_true rfl, Nat.le_of_ble_eq_true rfl⟩ (g_recv X hw (ci := 16) (q := (RX20, TX20, 13)) hk_26 rfl) (As := [.int (r_14 / r_27), .int r_28, .ref b_29]) (rest := []) rfl hl.1 rfl (Nat.le_of_ble_eq_true rfl) dX1_kept_102 ⟨Nat.le_refl _, Nat.le_refl _⟩) (fun u_31 H locs h hw => ?_)
          refine lv_aload_n hx hb dX1_kept_105 rfl (lv_at hl 1 rfl) ?_
          have hk_32 : kd u_31 a0 = 1 := h.1
          have h := h.2
          obtain ⟨b_33, e_34, h⟩ := h
          refine g_getR X hw in_X1 hk_32 rfl 13 rfl (by decide) q486 (fun _ z => z) e_34 dX1_kept_106 ?_
          refine lv_aload_n hx hb dX1_kept_109 rfl (lv_at hl 1 rfl) ?_
          obtain ⟨b_35, e_36, h⟩ := h
          refine g_getR X hw in_X1 hk_32 rfl 3 rfl (by decide) q476 (fun _ z => z) e_36 dX1_kept_110 ?_
          have hk_37 : kd u_31 b_35 = 17 := h.1
          have h := h.2
          refine g_getI X hw in_X20 hk_37 rfl 5 rfl (by decide) q585 (fun _ z => z) dX1_kept_113 ?_
          refine g_callio hw (g_SN X hw (mX20_setOf l G _ _ _ _ h) 2 q1039 q144 (List.mem_of_getElem? (i := 11) rfl) q1038 rfl rfl ydX20_setOf ⟨Nat.le_of_ble_eq_true rfl, Nat.le_of_ble_eq_true rfl⟩ (As := [.ref b_33, .int (FI u_31 2005 b_35)]) (rest := []) rfl hl.1 rfl (Nat.le_of_ble_eq_true rfl) dX1_kept_116 ⟨Nat.le_refl _, Nat.le_refl _⟩) (fun r_38 H locs h hw => ?_)
          refine lv_aload_n hx hb dX1_kept_119 rfl (lv_at hl 1 rfl) ?_
          obtain ⟨b_39, e_40, h⟩ := h
          refine g_getR X hw in_X1 hk_32 rfl 14 rfl (by decide) q487 (fun _ z => z) e_40 dX1_kept_120 ?_
          refine lv_aload_n hx hb dX1_kept_123 rfl (lv_at hl 1 rfl) ?_
          refine g_getR X hw in_X1 hk_32 rfl 3 rfl (by decide) q476 (fun _ z => z) e_36 dX1_kept_124 ?_
          refine g_callio hw (g_V X hw (mX20_rows l G _ _ _ h) 0 (lw_V q1013 q950 q951 q144 q952) rfl rfl ydX20_rows ⟨Nat.le_of_ble_eq_true rfl, Nat.le_of_ble_eq_true rfl⟩ (g_recv X hw (ci := 16) (q := (RX20, TX20, 13)) hk_37 rfl) (As := []) (rest := [.ref b_39, .int r_38]) rfl hl.1 rfl (Nat.le_of_ble_eq_true rfl) dX1_kept_127 ⟨Nat.le_refl _, Nat.le_refl _⟩) (fun r_41 H locs h hw => ?_)
          refine g_callio hw (g_SN X hw (mX20_setOf l G _ _ _ _ h) 2 q1039 q144 (List.mem_of_getElem? (i := 11) rfl) q1038 rfl rfl ydX20_setOf ⟨Nat.le_of_ble_eq_true rfl, Nat.le_of_ble_eq_true rfl⟩ (As := [.ref b_39, .int r_41]) (rest := [.int r_38]) rfl hl.1 rfl (Nat.le_of_ble_eq_true rfl) dX1_kept_130 ⟨Nat.le_refl _, Nat.le_refl _⟩) (fun r_42 H locs h hw => ?_)
          refine lv_iconst (v := (-1)) hx hb dX1_kept_133 (by decide) ?_
          refine lv_ixor hx hb dX1_kept_134 ?_
          refine lv_iand hx hb dX1_kept_135 ?_
          refine lv_istore (lv' := [(5, .int (r_38 &&& (r_42 ^^^ (-1)))), (4, .int r_14), (0, .ref a0), (1, .int x1), (2, .int x2), (3, .int x3)]) hx hb dX1_kept_136 hl (by decide) rfl (fun ls hl => ?_)
          refine lv_iload hx hb dX1_kept_138 (lv_at hl 0 rfl) ?_
          refine lv_aload_n hx hb dX1_kept_140 rfl (lv_at hl 2 rfl) ?_
          refine g_getR X hw in_X1 hk_32 rfl 13 rfl (by decide) q486 (fun _ z => z) e_34 dX1_kept_141 ?_
          refine g_calli hw (g_S X hw (mX1_spread l G _ _ _ _ h) 2 (lw_S q1194 q1123 q122 q1124) rfl rfl ydX1_spread ⟨Nat.le_of_ble_eq_true rfl, Nat.le_of_ble_eq_true rfl⟩ (As := [.int (r_38 &&& (r_42 ^^^ (-1))), .ref b_33]) (rest := []) rfl hl.1 rfl (Nat.le_of_ble_eq_true rfl) dX1_kept_144 ⟨Nat.le_refl _, Nat.le_refl _⟩) (fun r_43 u_44 H locs h hw => ?_)
          refine lv_istore (lv' := [(6, .int r_43), (5, .int (r_38 &&& (r_42 ^^^ (-1)))), (4, .int r_14), (0, .ref a0), (1, .int x1), (2, .int x2), (3, .int x3)]) hx hb dX1_kept_147 hl (by decide) rfl (fun ls hl => ?_)
          refine lv_iload_n hx hb dX1_kept_149 rfl (lv_at hl 6 rfl) ?_
          refine lv_iload hx hb dX1_kept_150 (lv_at hl 0 rfl) ?_
          refine lv_icmp_ge (tgt := 164) hx hb dX1_kept_152 rfl (fun c_49 => ?_) (fun c_49 => ?_)
          · have h := h.1 c_49
            refine lv_iconst (v := (-1)) hx hb dX1_kept_164 (by decide) ?_
            exact g_iret X hw hr h (Nat.le_refl _) (Nat.le_refl _) dX1_kept_165
          · have h := h.2 c_49
            refine lv_aload_n hx hb dX1_kept_155 rfl (lv_at hl 3 rfl) ?_
            have hk_45 : kd u_44 a0 = 1 := h.1
            have h := h.2
            obtain ⟨b_46, e_47, h⟩ := h
            refine g_getR X hw in_X1 hk_45 rfl 13 rfl (by decide) q486 (fun _ z => z) e_47 dX1_kept_156 ?_
            refine lv_iload_n hx hb dX1_kept_159 rfl (lv_at hl 6 rfl) ?_
            have hk_48 : kd u_44 b_46 = 101 := h.1
            have h := h.2
            refine g_iald X hw hk_48 h.1 dX1_kept_160 ?_
            have h := h.2
            refine lv_goto (tgt := 165) hx hb dX1_kept_161 rfl ?_
            exact g_iret X hw hr h (Nat.le_refl _) (Nat.le_refl _) dX1_kept_165
        · have h := h.1 c_53
          refine lv_aload_n hx hb dX1_kept_58 rfl (lv_at hl 1 rfl) ?_
          refine lv_bipush (v := 6) hx hb dX1_kept_59 (by decide) ?_
          have hk_50 : kd u_15 a0 = 1 := h.1
          have h := h.2
          refine g_calli hw (g_V X hw (mX1_no l G _ _ _ _ h) 1 (lw_V q542 q544 qs3 q122 q545) rfl rfl ydX1_no ⟨Nat.le_of_ble_eq_true rfl, Nat.le_of_ble_eq_true rfl⟩ (g_recv X hw (ci := 0) (q := (RX1, TX1, 16)) hk_50 rfl) (As := [.int 6]) (rest := []) rfl hl.1 rfl (Nat.le_of_ble_eq_true rfl) dX1_kept_61 ⟨Nat.le_refl _, Nat.le_refl _⟩) (fun r_51 u_52 H locs h hw => ?_)
          exact g_iret X hw hr h (Nat.le_refl _) (Nat.le_refl _) dX1_kept_64
      · have h := h.1 c_56
        refine lv_aload_n hx hb dX1_kept_37 rfl (lv_at hl 0 rfl) ?_
        refine lv_iconst (v := 1) hx hb dX1_kept_38 (by decide) ?_
        refine g_calli hw (g_V X hw (mX1_no l G _ _ _ _ h) 1 (lw_V q542 q544 qs3 q122 q545) rfl rfl ydX1_no ⟨Nat.le_of_ble_eq_true rfl, Nat.le_of_ble_eq_true rfl⟩ (g_recv X hw (ci := 0) (q := (RX1, TX1, 16)) hk_3 rfl) (As := [.int 1]) (rest := []) rfl hl.1 rfl (Nat.le_of_ble_eq_true rfl) dX1_kept_39 ⟨Nat.le_refl _, Nat.le_refl _⟩) (fun r_54 u_55 H locs h hw => ?_)
        exact g_iret X hw hr h (Nat.le_refl _) (Nat.le_refl _) dX1_kept_42

/-! FifthCardModel.kept(III)I -/
theorem ydX19_kept : yX19_kept.cls = "FifthCardModel" ∧ yX19_kept.cls ≠ "java/lang/invoke/MethodHandle" ∧ yX19_kept.cls ≠ "java/lang/invoke/VarHandle" ∧ (parseMethodDescriptor yX19_kept.desc).map (fun d => d.parameters.length) = some 3 := by decide +kernel
def rmX19_kept (mc ms : Nat) : Room := { frames := 7, cells := mc, slots := ms, locals := 169 }
set_option maxHeartbeats 4000000 in
theorem wX19_kept_106 {G : GT} {p : Program} {l : Launch} {e : Env} {s : State} {m : MethodId} {args : Array Value} {below : List Frame} {meth : Method} {c : Code} {H : Heap} {locs : List Loc} {ls : Array Slot} {a0 : Nat} {x2 : Int32} {x3 : Int32} {x5 : Int32} {x6 : Int32} {u : Hp} {x7 : Int32} {x8 : Int32} {K : Int32 → Hp → Prop} {J82 : Int32 → Int32 → Prop} (X : Mc G p s m args meth c RX19 cX19_kept 9) (hr : meth.sig.returnType = (some .int)) (hJ82 : ∀ (x5 : Int32) (x6 : Int32) (H : Heap) (locs : List Loc) (ls : Array Slot) , J82 x5 x6 → GW G u s H locs → lv_has ls 9 [(0, .ref a0), (2, .int x2), (3, .int x3), (5, .int x5), (6, .int x6)] → W p l e (rmX19_kept 0 0) s m args below meth c H locs 0 0 (QI G below K args s 0 0) (F0 m 82 ls [])) (h : jl2 (bX19_kept_106 K J82 a0 x2 x3 x5 x6 u) x7 x8) (hw : GW G u s H locs) (hl : lv_has ls 9 [(0, .ref a0), (2, .int x2), (3, .int x3), (5, .int x5), (6, .int x6), (7, .int x7), (8, .int x8)]) : W p l e (rmX19_kept 0 0) s m args below meth c H locs 0 0 (QI G below K args s 0 0) (F0 m 106 ls []) := by
  obtain ⟨hx, hb, hml, hown, hts, -⟩ := id X
  obtain ⟨I, μ, h0, hs⟩ := h
  have key : ∀ (n : Nat) (x7 : Int32) (x8 : Int32) (H : Heap) (locs : List Loc) (ls : Array Slot) , μ x7 x8 < n → I x7 x8 → GW G u s H locs → lv_has ls 9 [(0, .ref a0), (2, .int x2), (3, .int x3), (5, .int x5), (6, .int x6), (7, .int x7), (8, .int x8)] → W p l e (rmX19_kept 0 0) s m args below meth c H locs 0 0 (QI G below K args s 0 0) (F0 m 106 ls []) := by
    intro n
    induction n with
    | zero =>
      intro x7 x8 H locs ls hn
      exact absurd hn (Nat.not_lt_zero _)
    | succ n ih =>
      intro x7 x8 H locs ls hn hI hw hl
      have h := hs x7 x8 hI
      unfold bX19_kept_106 at h
      have hJ106 : ∀ (x7' : Int32) (x8' : Int32) (H : Heap) (locs : List Loc) (ls : Array Slot) , (I x7' x8' ∧ μ x7' x8' < μ x7 x8) → GW G u s H locs → lv_has ls 9 [(0, .ref a0), (2, .int x2), (3, .int x3), (5, .int x5), (6, .int x6), (7, .int x7'), (8, .int x8')] → W p l e (rmX19_kept 0 0) s m args below meth c H locs 0 0 (QI G below K args s 0 0) (F0 m 106 ls []) := fun x7' x8' H locs ls h hw hl => ih x7' x8' H locs ls (Nat.lt_of_lt_of_le h.2 (Nat.le_of_lt_succ hn)) h.1 hw hl
      refine lv_iload hx hb dX19_kept_106 (lv_at hl 6 rfl) ?_
      refine lv_aload_n hx hb dX19_kept_108 rfl (lv_at hl 0 rfl) ?_
      have hk_1 : kd u a0 = 16 := h.1
      have h := h.2
      obtain ⟨b_2, e_3, h⟩ := h
      refine g_getR X hw in_X19 hk_1 rfl 3 rfl (by decide) q1454 (fun _ z => z) e_3 dX19_kept_109 ?_
      have hk_4 : kd u b_2 = 20 := h.1
      have h := h.2
      refine g_getNI X hw (host := "FifthCardModel") in_X23 hk_4 rfl 4 rfl (by decide) (List.mem_of_getElem? (i := 7) rfl) (fun _ z => z) dX19_kept_112 ?_
      refine lv_icmp_ge (tgt := 148) hx hb dX19_kept_115 rfl (fun c_14 => ?_) (fun c_14 => ?_)
      · have h := h.1 c_14
        refine lv_iload hx hb dX19_kept_148 (lv_at hl 5 rfl) ?_
        refine lv_if_ne (tgt := 156) hx hb dX19_kept_150 rfl (fun c_8 => ?_) (fun c_8 => ?_)
        · have h := h.2 c_8
          refine lv_iload hx hb dX19_kept_156 (lv_at hl 3 rfl) ?_
          refine lv_iload_n hx hb dX19_kept_158 rfl (lv_at hl 2 rfl) ?_
          refine lv_icmp_ne (tgt := 169) hx hb dX19_kept_159 rfl (fun c_7 => ?_) (fun c_7 => ?_)
          · have h := h.2 c_7
            refine lv_iinc (v := x5 + 1) (lv' := [(5, .int (x5 + 1)), (0, .ref a0), (2, .int x2), (3, .int x3), (6, .int x6), (7, .int x7), (8, .int x8)]) hx hb dX19_kept_169 hl (k := 3) rfl rfl (by decide) rfl (fun ls hl => ?_)
            refine lv_iinc (v := x6 + 1) (lv' := [(6, .int (x6 + 1)), (5, .int (x5 + 1)), (0, .ref a0), (2, .int x2), (3, .int x3), (7, .int x7), (8, .int x8)]) hx hb dX19_kept_172 hl (k := 4) rfl rfl (by decide) rfl (fun ls hl => ?_)
            refine lv_goto (tgt := 82) hx hb dX19_kept_175 rfl ?_
            exact hJ82 _ _ _ _ _ h hw (lv_sub hl [2, 3, 4, 1, 0] rfl)
          · have h := h.1 c_7
            refine lv_aload_n hx hb dX19_kept_162 rfl (lv_at hl 0 rfl) ?_
            refine lv_iload hx hb dX19_kept_163 (lv_at hl 4 rfl) ?_
            refine g_calli hw (g_V X hw (mX19_good l G _ _ _ _ h) 1 (lw_V q1867 q1869 qs77 q143 q1870) rfl rfl ydX19_good ⟨Nat.le_of_ble_eq_true rfl, Nat.le_of_ble_eq_true rfl⟩ (g_recv X hw (ci := 15) (q := (RX19, TX19, 46)) hk_1 rfl) (As := [.int x6]) (rest := []) rfl hl.1 rfl (Nat.le_of_ble_eq_true rfl) dX19_kept_165 ⟨Nat.le_refl _, Nat.le_refl _⟩) (fun r_5 u_6 H locs h hw => ?_)
            exact g_iret X hw hr h (Nat.le_refl _) (Nat.le_refl _) dX19_kept_168
        · have h := h.1 c_8
          refine lv_goto (tgt := 172) hx hb dX19_kept_153 rfl ?_
          refine lv_iinc (v := x6 + 1) (lv' := [(6, .int (x6 + 1)), (0, .ref a0), (2, .int x2), (3, .int x3), (5, .int x5), (7, .int x7), (8, .int x8)]) hx hb dX19_kept_172 hl (k := 4) rfl rfl (by decide) rfl (fun ls hl => ?_)
          refine lv_goto (tgt := 82) hx hb dX19_kept_175 rfl ?_
          exact hJ82 _ _ _ _ _ h hw (lv_sub hl [1, 2, 3, 4, 0] rfl)
      · have h := h.2 c_14
        refine lv_iload hx hb dX19_kept_118 (lv_at hl 5 rfl) ?_
        refine lv_if_eq (tgt := 139) hx hb dX19_kept_120 rfl (fun c_13 => ?_) (fun c_13 => ?_)
        · have h := h.1 c_13
          refine lv_iconst (v := 0) hx hb dX19_kept_139 (by decide) ?_
          refine lv_istore (lv' := [(7, .int 0), (0, .ref a0), (2, .int x2), (3, .int x3), (5, .int x5), (6, .int x6), (8, .int x8)]) hx hb dX19_kept_140 hl (by decide) rfl (fun ls hl => ?_)
          refine lv_iinc (v := x8 + 1) (lv' := [(8, .int (x8 + 1)), (7, .int 0), (0, .ref a0), (2, .int x2), (3, .int x3), (5, .int x5), (6, .int x6)]) hx hb dX19_kept_142 hl (k := 6) rfl rfl (by decide) rfl (fun ls hl => ?_)
          refine lv_goto (tgt := 106) hx hb dX19_kept_145 rfl ?_
          exact hJ106 _ _ _ _ _ h hw (lv_sub hl [2, 3, 4, 5, 6, 1, 0] rfl)
        · have h := h.2 c_13
          refine lv_aload_n hx hb dX19_kept_123 rfl (lv_at hl 0 rfl) ?_
          obtain ⟨b_9, e_10, h⟩ := h
          refine g_getR X hw in_X19 hk_1 rfl 19 rfl (by decide) q1470 (fun _ z => z) e_10 dX19_kept_124 ?_
          refine lv_iload hx hb dX19_kept_127 (lv_at hl 6 rfl) ?_
          have hk_11 : kd u b_9 = 101 := h.1
          have h := h.2
          refine g_iald X hw hk_11 h.1 dX19_kept_129 ?_
          have h := h.2
          refine lv_iload hx hb dX19_kept_130 (lv_at hl 4 rfl) ?_
          refine lv_icmp_eq (tgt := 139) hx hb dX19_kept_132 rfl (fun c_12 => ?_) (fun c_12 => ?_)
          · have h := h.1 c_12
            refine lv_iconst (v := 0) hx hb dX19_kept_139 (by decide) ?_
            refine lv_istore (lv' := [(7, .int 0), (0, .ref a0), (2, .int x2), (3, .int x3), (5, .int x5), (6, .int x6), (8, .int x8)]) hx hb dX19_kept_140 hl (by decide) rfl (fun ls hl => ?_)
            refine lv_iinc (v := x8 + 1) (lv' := [(8, .int (x8 + 1)), (7, .int 0), (0, .ref a0), (2, .int x2), (3, .int x3), (5, .int x5), (6, .int x6)]) hx hb dX19_kept_142 hl (k := 6) rfl rfl (by decide) rfl (fun ls hl => ?_)
            refine lv_goto (tgt := 106) hx hb dX19_kept_145 rfl ?_
            exact hJ106 _ _ _ _ _ h hw (lv_sub hl [2, 3, 4, 5, 6, 1, 0] rfl)
          · have h := h.2 c_12
            refine lv_iconst (v := 1) hx hb dX19_kept_135 (by decide) ?_
            refine lv_goto (tgt := 140) hx hb dX19_kept_136 rfl ?_
            refine lv_istore (lv' := [(7, .int 1), (0, .ref a0), (2, .int x2), (3, .int x3), (5, .int x5), (6, .int x6), (8, .int x8)]) hx hb dX19_kept_140 hl (by decide) rfl (fun ls hl => ?_)
            refine lv_iinc (v := x8 + 1) (lv' := [(8, .int (x8 + 1)), (7, .int 1), (0, .ref a0), (2, .int x2), (3, .int x3), (5, .int x5), (6, .int x6)]) hx hb dX19_kept_142 hl (k := 6) rfl rfl (by decide) rfl (fun ls hl => ?_)
            refine lv_goto (tgt := 106) hx hb dX19_kept_145 rfl ?_
            exact hJ106 _ _ _ _ _ h hw (lv_sub hl [2, 3, 4, 5, 6, 1, 0] rfl)
  exact key _ _ _ _ _ _ (Nat.lt_succ_self _) h0 hw hl
set_option maxHeartbeats 4000000 in
theorem wX19_kept_82 {G : GT} {p : Program} {l : Launch} {e : Env} {s : State} {m : MethodId} {args : Array Value} {below : List Frame} {meth : Method} {c : Code} {H : Heap} {locs : List Loc} {ls : Array Slot} {a0 : Nat} {x2 : Int32} {x3 : Int32} {u : Hp} {x5 : Int32} {x6 : Int32} {K : Int32 → Hp → Prop} (X : Mc G p s m args meth c RX19 cX19_kept 9) (hr : meth.sig.returnType = (some .int)) (h : jl2 (bX19_kept_82 K a0 x2 x3 u) x5 x6) (hw : GW G u s H locs) (hl : lv_has ls 9 [(0, .ref a0), (2, .int x2), (3, .int x3), (5, .int x5), (6, .int x6)]) : W p l e (rmX19_kept 0 0) s m args below meth c H locs 0 0 (QI G below K args s 0 0) (F0 m 82 ls []) := by
  obtain ⟨hx, hb, hml, hown, hts, -⟩ := id X
  obtain ⟨I, μ, h0, hs⟩ := h
  have key : ∀ (n : Nat) (x5 : Int32) (x6 : Int32) (H : Heap) (locs : List Loc) (ls : Array Slot) , μ x5 x6 < n → I x5 x6 → GW G u s H locs → lv_has ls 9 [(0, .ref a0), (2, .int x2), (3, .int x3), (5, .int x5), (6, .int x6)] → W p l e (rmX19_kept 0 0) s m args below meth c H locs 0 0 (QI G below K args s 0 0) (F0 m 82 ls []) := by
    intro n
    induction n with
    | zero =>
      intro x5 x6 H locs ls hn
      exact absurd hn (Nat.not_lt_zero _)
    | succ n ih =>
      intro x5 x6 H locs ls hn hI hw hl
      have h := hs x5 x6 hI
      unfold bX19_kept_82 at h
      have hJ82 : ∀ (x5' : Int32) (x6' : Int32) (H : Heap) (locs : List Loc) (ls : Array Slot) , (I x5' x6' ∧ μ x5' x6' < μ x5 x6) → GW G u s H locs → lv_has ls 9 [(0, .ref a0), (2, .int x2), (3, .int x3), (5, .int x5'), (6, .int x6')] → W p l e (rmX19_kept 0 0) s m args below meth c H locs 0 0 (QI G below K args s 0 0) (F0 m 82 ls []) := fun x5' x6' H locs ls h hw hl => ih x5' x6' H locs ls (Nat.lt_of_lt_of_le h.2 (Nat.le_of_lt_succ hn)) h.1 hw hl
      refine lv_iload hx hb dX19_kept_82 (lv_at hl 4 rfl) ?_
      refine lv_aload_n hx hb dX19_kept_84 rfl (lv_at hl 0 rfl) ?_
      have hk_15 : kd u a0 = 16 := h.1
      have h := h.2
      obtain ⟨b_16, e_17, h⟩ := h
      refine g_getR X hw in_X19 hk_15 rfl 3 rfl (by decide) q1454 (fun _ z => z) e_17 dX19_kept_85 ?_
      have hk_18 : kd u b_16 = 20 := h.1
      have h := h.2
      refine g_getNI X hw (host := "FifthCardModel") in_X23 hk_18 rfl 0 rfl (by decide) (List.mem_of_getElem? (i := 0) rfl) (fun _ z => z) dX19_kept_88 ?_
      refine lv_icmp_ge (tgt := 178) hx hb dX19_kept_91 rfl (fun c_22 => ?_) (fun c_22 => ?_)
      · have h := h.1 c_22
        refine lv_aload_n hx hb dX19_kept_178 rfl (lv_at hl 0 rfl) ?_
        refine lv_iconst (v := 1) hx hb dX19_kept_179 (by decide) ?_
        refine g_calli hw (g_V X hw (mX19_refused l G _ _ _ _ h) 1 (lw_V q1603 q1605 qs47 q143 q1606) rfl rfl ydX19_refused ⟨Nat.le_of_ble_eq_true rfl, Nat.le_of_ble_eq_true rfl⟩ (g_recv X hw (ci := 15) (q := (RX19, TX19, 46)) hk_15 rfl) (As := [.int 1]) (rest := []) rfl hl.1 rfl (Nat.le_of_ble_eq_true rfl) dX19_kept_180 ⟨Nat.le_refl _, Nat.le_refl _⟩) (fun r_19 u_20 H locs h hw => ?_)
        exact g_iret X hw hr h (Nat.le_refl _) (Nat.le_refl _) dX19_kept_183
      · have h := h.2 c_22
        refine lv_aload_n hx hb dX19_kept_94 rfl (lv_at hl 0 rfl) ?_
        refine lv_iload_n hx hb dX19_kept_95 rfl (lv_at hl 1 rfl) ?_
        refine lv_iload hx hb dX19_kept_96 (lv_at hl 4 rfl) ?_
        refine g_callio hw (g_V X hw (mX19_has l G _ _ _ _ _ h) 2 (lw_V q1855 q1857 qs75 q143 q1858) rfl rfl ydX19_has ⟨Nat.le_of_ble_eq_true rfl, Nat.le_of_ble_eq_true rfl⟩ (g_recv X hw (ci := 15) (q := (RX19, TX19, 46)) hk_15 rfl) (As := [.int x2, .int x6]) (rest := []) rfl hl.1 rfl (Nat.le_of_ble_eq_true rfl) dX19_kept_98 ⟨Nat.le_refl _, Nat.le_refl _⟩) (fun r_21 H locs h hw => ?_)
        refine lv_istore (lv' := [(7, .int r_21), (0, .ref a0), (2, .int x2), (3, .int x3), (5, .int x5), (6, .int x6)]) hx hb dX19_kept_101 hl (by decide) rfl (fun ls hl => ?_)
        refine lv_iconst (v := 0) hx hb dX19_kept_103 (by decide) ?_
        refine lv_istore (lv' := [(8, .int 0), (7, .int r_21), (0, .ref a0), (2, .int x2), (3, .int x3), (5, .int x5), (6, .int x6)]) hx hb dX19_kept_104 hl (by decide) rfl (fun ls hl => ?_)
        exact wX19_kept_106 X hr hJ82  h hw (lv_sub hl [2, 3, 4, 5, 6, 1, 0] rfl)
  exact key _ _ _ _ _ _ (Nat.lt_succ_self _) h0 hw hl
set_option maxHeartbeats 4000000 in
theorem mX19_kept (l : Launch) (G : GT) (u : Hp) (a0 : Nat) (x1 : Int32) (x2 : Int32) (x3 : Int32) (K : Int32 → Hp → Prop) (h : pX19_kept u a0 x1 x2 x3 K) : Met l yX19_kept (ws_ yX19_kept cX19_kept 9 (some .int)) (rmX19_kept 0 0) (va_Pc [.ref a0, .int x1, .int x2, .int x3] (GB G u)) (va_Qi K (fun u t => GH G u t.heap) (GA G)) 0 0 (GA G) := by
  refine Met.ofW (cc := cX19_kept) (maxL := 9) (ret := (some .int)) (by decide) rfl ?_
  intro p e s m args below meth c s₁ B hml hv
  obtain ⟨rfl, hv⟩ := hv
  have X := Mc_of (own := RX19) B hml rfl hv
  have hw : GW G u s s.heap [] := ⟨hv.2.1, va_S.rf⟩
  have hr := B.returns
  obtain ⟨hx, hb, hml, hown, hts, -⟩ := id X
  have hl := lv_entry ([.ref a0, .int x1, .int x2, .int x3]) (n := 9) (Nat.le_of_ble_eq_true rfl)
  rw [lg_entry_eq]
  generalize (lg_sl ([.ref a0, .int x1, .int x2, .int x3]) ++ List.replicate (9 - (lg_sl ([.ref a0, .int x1, .int x2, .int x3])).length) Slot.unset).toArray = ls at hl ⊢
  have hl : lv_has ls 9 [(0, .ref a0), (1, .int x1), (2, .int x2), (3, .int x3)] := hl
  change W p l e (rmX19_kept 0 0) s m _ below meth c s.heap [] 0 0 (QI G below K _ s 0 0) (F0 m 0 ls [])
  unfold pX19_kept at h
  refine lv_aload_n hx hb dX19_kept_0 rfl (lv_at hl 0 rfl) ?_
  refine lv_iconst (v := 0) hx hb dX19_kept_1 (by decide) ?_
  have hk_23 : kd u a0 = 16 := h.1
  have h := h.2
  refine g_putI (v := 0) X hw in_X19 tyX19_ok nmX19 hk_23 rfl 0 rfl (by decide) q1451 (fun _ z => z) rfl rfl rfl dX19_kept_2 (fun H locs hw => ?_)
  refine lv_aload_n hx hb dX19_kept_5 rfl (lv_at hl 0 rfl) ?_
  refine lv_iload_n hx hb dX19_kept_6 rfl (lv_at hl 1 rfl) ?_
  refine g_callio hw (g_V X hw (mX19_isRule l G _ _ _ _ h) 1 (lw_V q1940 q1942 qs84 q143 q1943) rfl rfl ydX19_isRule ⟨Nat.le_of_ble_eq_true rfl, Nat.le_of_ble_eq_true rfl⟩ (g_recv X hw (ci := 15) (q := (RX19, TX19, 46)) hk_23 rfl) (As := [.int x1]) (rest := []) rfl hl.1 rfl (Nat.le_of_ble_eq_true rfl) dX19_kept_7 ⟨Nat.le_refl _, Nat.le_refl _⟩) (fun r_24 H locs h hw => ?_)
  refine lv_if_eq (tgt := 38) hx hb dX19_kept_10 rfl (fun c_48 => ?_) (fun c_48 => ?_)
  · have h := h.1 c_48
    refine lv_aload_n hx hb dX19_kept_38 rfl (lv_at hl 0 rfl) ?_
    refine lv_iconst (v := 1) hx hb dX19_kept_39 (by decide) ?_
    refine g_calli hw (g_V X hw (mX19_refused l G _ _ _ _ h) 1 (lw_V q1603 q1605 qs47 q143 q1606) rfl rfl ydX19_refused ⟨Nat.le_of_ble_eq_true rfl, Nat.le_of_ble_eq_true rfl⟩ (g_recv X hw (ci := 15) (q := (RX19, TX19, 46)) hk_23 rfl) (As := [.int 1]) (rest := []) rfl hl.1 rfl (Nat.le_of_ble_eq_true rfl) dX19_kept_40 ⟨Nat.le_refl _, Nat.le_refl _⟩) (fun r_25 u_26 H locs h hw => ?_)
    exact g_iret X hw hr h (Nat.le_refl _) (Nat.le_refl _) dX19_kept_43
  · have h := h.2 c_48
    refine lv_aload_n hx hb dX19_kept_13 rfl (lv_at hl 0 rfl) ?_
    refine lv_iload_n hx hb dX19_kept_14 rfl (lv_at hl 2 rfl) ?_
    refine g_callio hw (g_V X hw (mX19_isHand l G _ _ _ _ h) 1 (lw_V q1895 q1897 qs79 q143 q1898) rfl rfl ydX19_isHand ⟨Nat.le_of_ble_eq_true rfl, Nat.le_of_ble_eq_true rfl⟩ (g_recv X hw (ci := 15) (q := (RX19, TX19, 46)) hk_23 rfl) (As := [.int x2]) (rest := []) rfl hl.1 rfl (Nat.le_of_ble_eq_true rfl) dX19_kept_15 ⟨Nat.le_refl _, Nat.le_refl _⟩) (fun r_27 H locs h hw => ?_)
    refine lv_if_eq (tgt := 38) hx hb dX19_kept_18 rfl (fun c_47 => ?_) (fun c_47 => ?_)
    · have h := h.1 c_47
      refine lv_aload_n hx hb dX19_kept_38 rfl (lv_at hl 0 rfl) ?_
      refine lv_iconst (v := 1) hx hb dX19_kept_39 (by decide) ?_
      refine g_calli hw (g_V X hw (mX19_refused l G _ _ _ _ h) 1 (lw_V q1603 q1605 qs47 q143 q1606) rfl rfl ydX19_refused ⟨Nat.le_of_ble_eq_true rfl, Nat.le_of_ble_eq_true rfl⟩ (g_recv X hw (ci := 15) (q := (RX19, TX19, 46)) hk_23 rfl) (As := [.int 1]) (rest := []) rfl hl.1 rfl (Nat.le_of_ble_eq_true rfl) dX19_kept_40 ⟨Nat.le_refl _, Nat.le_refl _⟩) (fun r_28 u_29 H locs h hw => ?_)
      exact g_iret X hw hr h (Nat.le_refl _) (Nat.le_refl _) dX19_kept_43
    · have h := h.2 c_47
      refine lv_iload_n hx hb dX19_kept_21 rfl (lv_at hl 3 rfl) ?_
      refine lv_iconst (v := 0) hx hb dX19_kept_22 (by decide) ?_
      refine lv_aload_n hx hb dX19_kept_23 rfl (lv_at hl 0 rfl) ?_
      obtain ⟨b_30, e_31, h⟩ := h
      refine g_getR X hw in_X19 hk_23 rfl 3 rfl (by decide) q1454 (fun _ z => z) e_31 dX19_kept_24 ?_
      have hk_32 : kd u b_30 = 20 := h.1
      have h := h.2
      refine g_getNI X hw (host := "FifthCardModel") in_X23 hk_32 rfl 3 rfl (by decide) (List.mem_of_getElem? (i := 6) rfl) (fun _ z => z) dX19_kept_27 ?_
      refine lv_iconst (v := 1) hx hb dX19_kept_30 (by decide) ?_
      refine lv_isub hx hb dX19_kept_31 ?_
      refine g_callio hw (g_S X hw (mX19_in l G _ _ _ _ _ h) 3 (lw_S q1749 q1750 q143 q1751) rfl rfl ydX19_in ⟨Nat.le_of_ble_eq_true rfl, Nat.le_of_ble_eq_true rfl⟩ (As := [.int x3, .int 0, .int ((FI (sFI u 1900 a0 0) 2303 b_30) - 1)]) (rest := []) rfl hl.1 rfl (Nat.le_of_ble_eq_true rfl) dX19_kept_32 ⟨Nat.le_refl _, Nat.le_refl _⟩) (fun r_33 H locs h hw => ?_)
      refine lv_if_ne (tgt := 44) hx hb dX19_kept_35 rfl (fun c_46 => ?_) (fun c_46 => ?_)
      · have h := h.2 c_46
        refine lv_aload_n hx hb dX19_kept_44 rfl (lv_at hl 0 rfl) ?_
        refine lv_iload_n hx hb dX19_kept_45 rfl (lv_at hl 1 rfl) ?_
        refine lv_iload_n hx hb dX19_kept_46 rfl (lv_at hl 2 rfl) ?_
        refine g_calli hw (g_V X hw (mX19_laysNow l G _ _ _ _ _ h) 2 (lw_V q1944 q1946 qs85 q143 q1947) rfl rfl ydX19_laysNow ⟨Nat.le_of_ble_eq_true rfl, Nat.le_of_ble_eq_true rfl⟩ (g_recv X hw (ci := 15) (q := (RX19, TX19, 46)) hk_23 rfl) (As := [.int x1, .int x2]) (rest := []) rfl hl.1 rfl (Nat.le_of_ble_eq_true rfl) dX19_kept_47 ⟨Nat.le_refl _, Nat.le_refl _⟩) (fun r_34 u_35 H locs h hw => ?_)
        refine lv_istore (lv' := [(4, .int r_34), (0, .ref a0), (1, .int x1), (2, .int x2), (3, .int x3)]) hx hb dX19_kept_50 hl (by decide) rfl (fun ls hl => ?_)
        refine lv_iload hx hb dX19_kept_52 (lv_at hl 0 rfl) ?_
        refine lv_bipush (v := (-2)) hx hb dX19_kept_54 (by decide) ?_
        refine lv_icmp_ne (tgt := 66) hx hb dX19_kept_56 rfl (fun c_43 => ?_) (fun c_43 => ?_)
        · have h := h.2 c_43
          refine lv_aload_n hx hb dX19_kept_66 rfl (lv_at hl 1 rfl) ?_
          refine lv_iload hx hb dX19_kept_67 (lv_at hl 0 rfl) ?_
          refine lv_aload_n hx hb dX19_kept_69 rfl (lv_at hl 1 rfl) ?_
          have hk_36 : kd u_35 a0 = 16 := h.1
          have h := h.2
          obtain ⟨b_37, e_38, h⟩ := h
          refine g_getR X hw in_X19 hk_36 rfl 19 rfl (by decide) q1470 (fun _ z => z) e_38 dX19_kept_70 ?_
          refine g_callv hw (g_V X hw (mX19_rowCards l G _ _ _ _ _ h) 2 (lw_V q1911 q1913 qs81 q143 q1914) rfl rfl ydX19_rowCards ⟨Nat.le_of_ble_eq_true rfl, Nat.le_of_ble_eq_true rfl⟩ (g_recv X hw (ci := 15) (q := (RX19, TX19, 46)) hk_36 rfl) (As := [.int r_34, .ref b_37]) (rest := []) rfl hl.1 rfl (Nat.le_of_ble_eq_true rfl) dX19_kept_73 ⟨Nat.le_refl _, Nat.le_refl _⟩) (fun u_39 H locs h hw => ?_)
          refine lv_iconst (v := 0) hx hb dX19_kept_76 (by decide) ?_
          refine lv_istore (lv' := [(5, .int 0), (4, .int r_34), (0, .ref a0), (1, .int x1), (2, .int x2), (3, .int x3)]) hx hb dX19_kept_77 hl (by decide) rfl (fun ls hl => ?_)
          refine lv_iconst (v := 0) hx hb dX19_kept_79 (by decide) ?_
          refine lv_istore (lv' := [(6, .int 0), (5, .int 0), (4, .int r_34), (0, .ref a0), (1, .int x1), (2, .int x2), (3, .int x3)]) hx hb dX19_kept_80 hl (by decide) rfl (fun ls hl => ?_)
          exact wX19_kept_82 X hr  h hw (lv_sub hl [3, 5, 6, 1, 0] rfl)
        · have h := h.1 c_43
          refine lv_aload_n hx hb dX19_kept_59 rfl (lv_at hl 1 rfl) ?_
          refine lv_bipush (v := 6) hx hb dX19_kept_60 (by decide) ?_
          have hk_40 : kd u_35 a0 = 16 := h.1
          have h := h.2
          refine g_calli hw (g_V X hw (mX19_refused l G _ _ _ _ h) 1 (lw_V q1603 q1605 qs47 q143 q1606) rfl rfl ydX19_refused ⟨Nat.le_of_ble_eq_true rfl, Nat.le_of_ble_eq_true rfl⟩ (g_recv X hw (ci := 15) (q := (RX19, TX19, 46)) hk_40 rfl) (As := [.int 6]) (rest := []) rfl hl.1 rfl (Nat.le_of_ble_eq_true rfl) dX19_kept_62 ⟨Nat.le_refl _, Nat.le_refl _⟩) (fun r_41 u_42 H locs h hw => ?_)
          exact g_iret X hw hr h (Nat.le_refl _) (Nat.le_refl _) dX19_kept_65
      · have h := h.1 c_46
        refine lv_aload_n hx hb dX19_kept_38 rfl (lv_at hl 0 rfl) ?_
        refine lv_iconst (v := 1) hx hb dX19_kept_39 (by decide) ?_
        refine g_calli hw (g_V X hw (mX19_refused l G _ _ _ _ h) 1 (lw_V q1603 q1605 qs47 q143 q1606) rfl rfl ydX19_refused ⟨Nat.le_of_ble_eq_true rfl, Nat.le_of_ble_eq_true rfl⟩ (g_recv X hw (ci := 15) (q := (RX19, TX19, 46)) hk_23 rfl) (As := [.int 1]) (rest := []) rfl hl.1 rfl (Nat.le_of_ble_eq_true rfl) dX19_kept_40 ⟨Nat.le_refl _, Nat.le_refl _⟩) (fun r_44 u_45 H locs h hw => ?_)
        exact g_iret X hw hr h (Nat.le_refl _) (Nat.le_refl _) dX19_kept_43

/-! FifthCard.says(II)I -/
theorem ydX1_says : yX1_says.cls = "FifthCard" ∧ yX1_says.cls ≠ "java/lang/invoke/MethodHandle" ∧ yX1_says.cls ≠ "java/lang/invoke/VarHandle" ∧ (parseMethodDescriptor yX1_says.desc).map (fun d => d.parameters.length) = some 2 := by decide +kernel
def rmX1_says (mc ms : Nat) : Room := { frames := 7, cells := mc, slots := ms, locals := 173 }
set_option maxHeartbeats 4000000 in
theorem wX1_says_28 {G : GT} {p : Program} {l : Launch} {e : Env} {s : State} {m : MethodId} {args : Array Value} {below : List Frame} {meth : Method} {c : Code} {H : Heap} {locs : List Loc} {ls : Array Slot} {a0 : Nat} {x1 : Int32} {x2 : Int32} {x3 : Int32} {u : Hp} {K : Int32 → Hp → Prop} (X : Mc G p s m args meth c RX1 cX1_says 4) (hr : meth.sig.returnType = (some .int)) (h : jl2 (bX1_says_28 K a0 x1 x2) x3 u) (hw : GW G u s H locs) (hl : lv_has ls 4 [(0, .ref a0), (1, .int x1), (2, .int x2), (3, .int x3)]) : W p l e (rmX1_says 0 0) s m args below meth c H locs 0 0 (QI G below K args s 0 0) (F0 m 28 ls []) := by
  obtain ⟨hx, hb, hml, hown, hts, -⟩ := id X
  obtain ⟨I, μ, h0, hs⟩ := h
  have key : ∀ (n : Nat) (x3 : Int32) (u : Hp) (H : Heap) (locs : List Loc) (ls : Array Slot) , μ x3 u < n → I x3 u → GW G u s H locs → lv_has ls 4 [(0, .ref a0), (1, .int x1), (2, .int x2), (3, .int x3)] → W p l e (rmX1_says 0 0) s m args below meth c H locs 0 0 (QI G below K args s 0 0) (F0 m 28 ls []) := by
    intro n
    induction n with
    | zero =>
      intro x3 u H locs ls hn
      exact absurd hn (Nat.not_lt_zero _)
    | succ n ih =>
      intro x3 u H locs ls hn hI hw hl
      have h := hs x3 u hI
      unfold bX1_says_28 at h
      have hJ28 : ∀ (x3' : Int32) (u' : Hp) (H : Heap) (locs : List Loc) (ls : Array Slot) , (I x3' u' ∧ μ x3' u' < μ x3 u) → GW G u' s H locs → lv_has ls 4 [(0, .ref a0), (1, .int x1), (2, .int x2), (3, .int x3')] → W p l e (rmX1_says 0 0) s m args below meth c H locs 0 0 (QI G below K args s 0 0) (F0 m 28 ls []) := fun x3' u' H locs ls h hw hl => ih x3' u' H locs ls (Nat.lt_of_lt_of_le h.2 (Nat.le_of_lt_succ hn)) h.1 hw hl
      refine lv_iload_n hx hb dX1_says_28 rfl (lv_at hl 3 rfl) ?_
      refine lv_aload_n hx hb dX1_says_29 rfl (lv_at hl 0 rfl) ?_
      have hk_1 : kd u a0 = 1 := h.1
      have h := h.2
      refine g_getI X hw in_X1 hk_1 rfl 8 rfl (by decide) q481 (fun _ z => z) dX1_says_30 ?_
      refine lv_icmp_ge (tgt := 54) hx hb dX1_says_33 rfl (fun c_5 => ?_) (fun c_5 => ?_)
      · have h := h.1 c_5
        refine lv_bipush (v := (-2)) hx hb dX1_says_54 (by decide) ?_
        exact g_iret X hw hr h (Nat.le_refl _) (Nat.le_refl _) dX1_says_56
      · have h := h.2 c_5
        refine lv_aload_n hx hb dX1_says_36 rfl (lv_at hl 0 rfl) ?_
        refine lv_iload_n hx hb dX1_says_37 rfl (lv_at hl 1 rfl) ?_
        refine lv_iload_n hx hb dX1_says_38 rfl (lv_at hl 3 rfl) ?_
        refine g_calli hw (g_V X hw (mX1_rowOf l G _ _ _ _ _ h) 2 (lw_V q1078 q1080 qs29 q122 q1081) rfl rfl ydX1_rowOf ⟨Nat.le_of_ble_eq_true rfl, Nat.le_of_ble_eq_true rfl⟩ (g_recv X hw (ci := 0) (q := (RX1, TX1, 16)) hk_1 rfl) (As := [.int x1, .int x3]) (rest := []) rfl hl.1 rfl (Nat.le_of_ble_eq_true rfl) dX1_says_39 ⟨Nat.le_refl _, Nat.le_refl _⟩) (fun r_2 u_3 H locs h hw => ?_)
        refine lv_iload_n hx hb dX1_says_42 rfl (lv_at hl 2 rfl) ?_
        refine lv_icmp_ne (tgt := 48) hx hb dX1_says_43 rfl (fun c_4 => ?_) (fun c_4 => ?_)
        · have h := h.2 c_4
          refine lv_iinc (v := x3 + 1) (lv' := [(3, .int (x3 + 1)), (0, .ref a0), (1, .int x1), (2, .int x2)]) hx hb dX1_says_48 hl (k := 3) rfl rfl (by decide) rfl (fun ls hl => ?_)
          refine lv_goto (tgt := 28) hx hb dX1_says_51 rfl ?_
          exact hJ28 _ _ _ _ _ h hw (lv_sub hl [1, 2, 3, 0] rfl)
        · have h := h.1 c_4
          refine lv_iload_n hx hb dX1_says_46 rfl (lv_at hl 3 rfl) ?_
          exact g_iret X hw hr h (Nat.le_refl _) (Nat.le_refl _) dX1_says_47
  exact key _ _ _ _ _ _ (Nat.lt_succ_self _) h0 hw hl
set_option maxHeartbeats 4000000 in
theorem mX1_says (l : Launch) (G : GT) (u : Hp) (a0 : Nat) (x1 : Int32) (x2 : Int32) (K : Int32 → Hp → Prop) (h : pX1_says u a0 x1 x2 K) : Met l yX1_says (ws_ yX1_says cX1_says 4 (some .int)) (rmX1_says 0 0) (va_Pc [.ref a0, .int x1, .int x2] (GB G u)) (va_Qi K (fun u t => GH G u t.heap) (GA G)) 0 0 (GA G) := by
  refine Met.ofW (cc := cX1_says) (maxL := 4) (ret := (some .int)) (by decide) rfl ?_
  intro p e s m args below meth c s₁ B hml hv
  obtain ⟨rfl, hv⟩ := hv
  have X := Mc_of (own := RX1) B hml rfl hv
  have hw : GW G u s s.heap [] := ⟨hv.2.1, va_S.rf⟩
  have hr := B.returns
  obtain ⟨hx, hb, hml, hown, hts, -⟩ := id X
  have hl := lv_entry ([.ref a0, .int x1, .int x2]) (n := 4) (Nat.le_of_ble_eq_true rfl)
  rw [lg_entry_eq]
  generalize (lg_sl ([.ref a0, .int x1, .int x2]) ++ List.replicate (4 - (lg_sl ([.ref a0, .int x1, .int x2])).length) Slot.unset).toArray = ls at hl ⊢
  have hl : lv_has ls 4 [(0, .ref a0), (1, .int x1), (2, .int x2)] := hl
  change W p l e (rmX1_says 0 0) s m _ below meth c s.heap [] 0 0 (QI G below K _ s 0 0) (F0 m 0 ls [])
  unfold pX1_says at h
  refine lv_aload_n hx hb dX1_says_0 rfl (lv_at hl 0 rfl) ?_
  have hk_6 : kd u a0 = 1 := h.1
  have h := h.2
  refine g_callv hw (g_V X hw (mX1_anew l G _ _ _ h) 0 (lw_V q535 q537 qs2 q122 q538) rfl rfl ydX1_anew ⟨Nat.le_of_ble_eq_true rfl, Nat.le_of_ble_eq_true rfl⟩ (g_recv X hw (ci := 0) (q := (RX1, TX1, 16)) hk_6 rfl) (As := []) (rest := []) rfl hl.1 rfl (Nat.le_of_ble_eq_true rfl) dX1_says_1 ⟨Nat.le_refl _, Nat.le_refl _⟩) (fun u_7 H locs h hw => ?_)
  refine lv_aload_n hx hb dX1_says_4 rfl (lv_at hl 0 rfl) ?_
  refine lv_iload_n hx hb dX1_says_5 rfl (lv_at hl 1 rfl) ?_
  have hk_8 : kd u_7 a0 = 1 := h.1
  have h := h.2
  refine g_callio hw (g_V X hw (mX1_isRule l G _ _ _ _ h) 1 (lw_V q1074 q1076 qs28 q122 q1077) rfl rfl ydX1_isRule ⟨Nat.le_of_ble_eq_true rfl, Nat.le_of_ble_eq_true rfl⟩ (g_recv X hw (ci := 0) (q := (RX1, TX1, 16)) hk_8 rfl) (As := [.int x1]) (rest := []) rfl hl.1 rfl (Nat.le_of_ble_eq_true rfl) dX1_says_6 ⟨Nat.le_refl _, Nat.le_refl _⟩) (fun r_9 H locs h hw => ?_)
  refine lv_if_eq (tgt := 20) hx hb dX1_says_9 rfl (fun c_16 => ?_) (fun c_16 => ?_)
  · have h := h.1 c_16
    refine lv_aload_n hx hb dX1_says_20 rfl (lv_at hl 0 rfl) ?_
    refine lv_iconst (v := 1) hx hb dX1_says_21 (by decide) ?_
    refine g_calli hw (g_V X hw (mX1_no l G _ _ _ _ h) 1 (lw_V q542 q544 qs3 q122 q545) rfl rfl ydX1_no ⟨Nat.le_of_ble_eq_true rfl, Nat.le_of_ble_eq_true rfl⟩ (g_recv X hw (ci := 0) (q := (RX1, TX1, 16)) hk_8 rfl) (As := [.int 1]) (rest := []) rfl hl.1 rfl (Nat.le_of_ble_eq_true rfl) dX1_says_22 ⟨Nat.le_refl _, Nat.le_refl _⟩) (fun r_10 u_11 H locs h hw => ?_)
    exact g_iret X hw hr h (Nat.le_refl _) (Nat.le_refl _) dX1_says_25
  · have h := h.2 c_16
    refine lv_aload_n hx hb dX1_says_12 rfl (lv_at hl 0 rfl) ?_
    refine lv_iload_n hx hb dX1_says_13 rfl (lv_at hl 2 rfl) ?_
    refine g_callio hw (g_V X hw (mX1_isRow l G _ _ _ _ h) 1 (lw_V q1045 q1047 qs27 q122 q1048) rfl rfl ydX1_isRow ⟨Nat.le_of_ble_eq_true rfl, Nat.le_of_ble_eq_true rfl⟩ (g_recv X hw (ci := 0) (q := (RX1, TX1, 16)) hk_8 rfl) (As := [.int x2]) (rest := []) rfl hl.1 rfl (Nat.le_of_ble_eq_true rfl) dX1_says_14 ⟨Nat.le_refl _, Nat.le_refl _⟩) (fun r_12 H locs h hw => ?_)
    refine lv_if_ne (tgt := 26) hx hb dX1_says_17 rfl (fun c_15 => ?_) (fun c_15 => ?_)
    · have h := h.2 c_15
      refine lv_iconst (v := 0) hx hb dX1_says_26 (by decide) ?_
      refine lv_istore_n (lv' := [(3, .int 0), (0, .ref a0), (1, .int x1), (2, .int x2)]) hx hb dX1_says_27 rfl hl (by decide) rfl (fun ls hl => ?_)
      exact wX1_says_28 X hr  h hw (lv_sub hl [1, 2, 3, 0] rfl)
    · have h := h.1 c_15
      refine lv_aload_n hx hb dX1_says_20 rfl (lv_at hl 0 rfl) ?_
      refine lv_iconst (v := 1) hx hb dX1_says_21 (by decide) ?_
      refine g_calli hw (g_V X hw (mX1_no l G _ _ _ _ h) 1 (lw_V q542 q544 qs3 q122 q545) rfl rfl ydX1_no ⟨Nat.le_of_ble_eq_true rfl, Nat.le_of_ble_eq_true rfl⟩ (g_recv X hw (ci := 0) (q := (RX1, TX1, 16)) hk_8 rfl) (As := [.int 1]) (rest := []) rfl hl.1 rfl (Nat.le_of_ble_eq_true rfl) dX1_says_22 ⟨Nat.le_refl _, Nat.le_refl _⟩) (fun r_13 u_14 H locs h hw => ?_)
      exact g_iret X hw hr h (Nat.le_refl _) (Nat.le_refl _) dX1_says_25

/-! FifthCardModel.laysAll(I)V -/
theorem ydX19_laysAll : yX19_laysAll.cls = "FifthCardModel" ∧ yX19_laysAll.cls ≠ "java/lang/invoke/MethodHandle" ∧ yX19_laysAll.cls ≠ "java/lang/invoke/VarHandle" ∧ (parseMethodDescriptor yX19_laysAll.desc).map (fun d => d.parameters.length) = some 1 := by decide +kernel
def rmX19_laysAll (mc ms : Nat) : Room := { frames := 7, cells := mc, slots := ms, locals := 169 }
set_option maxHeartbeats 4000000 in
theorem wX19_laysAll_2 {G : GT} {p : Program} {l : Launch} {e : Env} {s : State} {m : MethodId} {args : Array Value} {below : List Frame} {meth : Method} {c : Code} {H : Heap} {locs : List Loc} {ls : Array Slot} {a0 : Nat} {x1 : Int32} {x2 : Int32} {u : Hp} {K : Hp → Prop} (X : Mc G p s m args meth c RX19 cX19_laysAll 3) (hr : meth.sig.returnType = none) (h : jl2 (bX19_laysAll_2 K a0 x1) x2 u) (hw : GW G u s H locs) (hl : lv_has ls 3 [(0, .ref a0), (1, .int x1), (2, .int x2)]) : W p l e (rmX19_laysAll 0 0) s m args below meth c H locs 0 0 (QV G below K args s 0 0) (F0 m 2 ls []) := by
  obtain ⟨hx, hb, hml, hown, hts, -⟩ := id X
  obtain ⟨I, μ, h0, hs⟩ := h
  have key : ∀ (n : Nat) (x2 : Int32) (u : Hp) (H : Heap) (locs : List Loc) (ls : Array Slot) , μ x2 u < n → I x2 u → GW G u s H locs → lv_has ls 3 [(0, .ref a0), (1, .int x1), (2, .int x2)] → W p l e (rmX19_laysAll 0 0) s m args below meth c H locs 0 0 (QV G below K args s 0 0) (F0 m 2 ls []) := by
    intro n
    induction n with
    | zero =>
      intro x2 u H locs ls hn
      exact absurd hn (Nat.not_lt_zero _)
    | succ n ih =>
      intro x2 u H locs ls hn hI hw hl
      have h := hs x2 u hI
      unfold bX19_laysAll_2 at h
      have hJ2 : ∀ (x2' : Int32) (u' : Hp) (H : Heap) (locs : List Loc) (ls : Array Slot) , (I x2' u' ∧ μ x2' u' < μ x2 u) → GW G u' s H locs → lv_has ls 3 [(0, .ref a0), (1, .int x1), (2, .int x2')] → W p l e (rmX19_laysAll 0 0) s m args below meth c H locs 0 0 (QV G below K args s 0 0) (F0 m 2 ls []) := fun x2' u' H locs ls h hw hl => ih x2' u' H locs ls (Nat.lt_of_lt_of_le h.2 (Nat.le_of_lt_succ hn)) h.1 hw hl
      refine lv_iload_n hx hb dX19_laysAll_2 rfl (lv_at hl 2 rfl) ?_
      refine lv_aload_n hx hb dX19_laysAll_3 rfl (lv_at hl 0 rfl) ?_
      have hk_1 : kd u a0 = 16 := h.1
      have h := h.2
      refine g_getI X hw in_X19 hk_1 rfl 17 rfl (by decide) q1468 (fun _ z => z) dX19_laysAll_4 ?_
      refine lv_icmp_ge (tgt := 28) hx hb dX19_laysAll_7 rfl (fun c_7 => ?_) (fun c_7 => ?_)
      · have h := h.1 c_7
        exact g_vret X hw hr h (Nat.le_refl _) (Nat.le_refl _) dX19_laysAll_28
      · have h := h.2 c_7
        refine lv_aload_n hx hb dX19_laysAll_10 rfl (lv_at hl 0 rfl) ?_
        obtain ⟨b_2, e_3, h⟩ := h
        refine g_getR X hw in_X19 hk_1 rfl 25 rfl (by decide) q1476 (fun _ z => z) e_3 dX19_laysAll_11 ?_
        refine lv_iload_n hx hb dX19_laysAll_14 rfl (lv_at hl 2 rfl) ?_
        refine lv_aload_n hx hb dX19_laysAll_15 rfl (lv_at hl 0 rfl) ?_
        refine lv_iload_n hx hb dX19_laysAll_16 rfl (lv_at hl 1 rfl) ?_
        refine lv_iload_n hx hb dX19_laysAll_17 rfl (lv_at hl 2 rfl) ?_
        refine g_calli hw (g_V X hw (mX19_laysNow l G _ _ _ _ _ h) 2 (lw_V q1944 q1946 qs85 q143 q1947) rfl rfl ydX19_laysNow ⟨Nat.le_of_ble_eq_true rfl, Nat.le_of_ble_eq_true rfl⟩ (g_recv X hw (ci := 15) (q := (RX19, TX19, 46)) hk_1 rfl) (As := [.int x1, .int x2]) (rest := [.int x2, .ref b_2]) rfl hl.1 rfl (Nat.le_of_ble_eq_true rfl) dX19_laysAll_18 ⟨Nat.le_refl _, Nat.le_refl _⟩) (fun r_4 u_5 H locs h hw => ?_)
        have hk_6 : kd u_5 b_2 = 101 := h.1
        have h := h.2
        refine g_iast X hw hk_6 h.1 dX19_laysAll_21 (fun H locs hw => ?_)
        have h := h.2
        refine lv_iinc (v := x2 + 1) (lv' := [(2, .int (x2 + 1)), (0, .ref a0), (1, .int x1)]) hx hb dX19_laysAll_22 hl (k := 2) rfl rfl (by decide) rfl (fun ls hl => ?_)
        refine lv_goto (tgt := 2) hx hb dX19_laysAll_25 rfl ?_
        exact hJ2 _ _ _ _ _ h hw (lv_sub hl [1, 2, 0] rfl)
  exact key _ _ _ _ _ _ (Nat.lt_succ_self _) h0 hw hl
set_option maxHeartbeats 4000000 in
theorem mX19_laysAll (l : Launch) (G : GT) (u : Hp) (a0 : Nat) (x1 : Int32) (K : Hp → Prop) (h : pX19_laysAll u a0 x1 K) : Met l yX19_laysAll (ws_ yX19_laysAll cX19_laysAll 3 none) (rmX19_laysAll 0 0) (va_Pc [.ref a0, .int x1] (GB G u)) (va_Qv K (fun u t => GH G u t.heap) (GA G)) 0 0 (GA G) := by
  refine Met.ofW (cc := cX19_laysAll) (maxL := 3) (ret := none) (by decide) rfl ?_
  intro p e s m args below meth c s₁ B hml hv
  obtain ⟨rfl, hv⟩ := hv
  have X := Mc_of (own := RX19) B hml rfl hv
  have hw : GW G u s s.heap [] := ⟨hv.2.1, va_S.rf⟩
  have hr := B.returns
  obtain ⟨hx, hb, hml, hown, hts, -⟩ := id X
  have hl := lv_entry ([.ref a0, .int x1]) (n := 3) (Nat.le_of_ble_eq_true rfl)
  rw [lg_entry_eq]
  generalize (lg_sl ([.ref a0, .int x1]) ++ List.replicate (3 - (lg_sl ([.ref a0, .int x1])).length) Slot.unset).toArray = ls at hl ⊢
  have hl : lv_has ls 3 [(0, .ref a0), (1, .int x1)] := hl
  change W p l e (rmX19_laysAll 0 0) s m _ below meth c s.heap [] 0 0 (QV G below K _ s 0 0) (F0 m 0 ls [])
  unfold pX19_laysAll at h
  refine lv_iconst (v := 0) hx hb dX19_laysAll_0 (by decide) ?_
  refine lv_istore_n (lv' := [(2, .int 0), (0, .ref a0), (1, .int x1)]) hx hb dX19_laysAll_1 rfl hl (by decide) rfl (fun ls hl => ?_)
  exact wX19_laysAll_2 X hr  h hw (lv_sub hl [1, 2, 0] rfl)

/-! FifthCardModel.firstWith(I)I -/
theorem ydX19_firstWith : yX19_firstWith.cls = "FifthCardModel" ∧ yX19_firstWith.cls ≠ "java/lang/invoke/MethodHandle" ∧ yX19_firstWith.cls ≠ "java/lang/invoke/VarHandle" ∧ (parseMethodDescriptor yX19_firstWith.desc).map (fun d => d.parameters.length) = some 1 := by decide +kernel
def rmX19_firstWith (mc ms : Nat) : Room := { frames := 0, cells := mc, slots := ms, locals := 0 }
set_option maxHeartbeats 4000000 in
theorem wX19_firstWith_2 {G : GT} {p : Program} {l : Launch} {e : Env} {s : State} {m : MethodId} {args : Array Value} {below : List Frame} {meth : Method} {c : Code} {H : Heap} {locs : List Loc} {ls : Array Slot} {a0 : Nat} {x1 : Int32} {u : Hp} {x2 : Int32} {K : Int32 → Prop} (X : Mc G p s m args meth c RX19 cX19_firstWith 3) (hr : meth.sig.returnType = (some .int)) (h : jl1 (bX19_firstWith_2 K a0 x1 u) x2) (hw : GW G u s H locs) (hl : lv_has ls 3 [(0, .ref a0), (1, .int x1), (2, .int x2)]) : W p l e (rmX19_firstWith 0 0) s m args below meth c H locs 0 0 (QI G below (fun r v => v = u ∧ K r) args s 0 0) (F0 m 2 ls []) := by
  obtain ⟨hx, hb, hml, hown, hts, -⟩ := id X
  obtain ⟨I, μ, h0, hs⟩ := h
  have key : ∀ (n : Nat) (x2 : Int32) (H : Heap) (locs : List Loc) (ls : Array Slot) , μ x2 < n → I x2 → GW G u s H locs → lv_has ls 3 [(0, .ref a0), (1, .int x1), (2, .int x2)] → W p l e (rmX19_firstWith 0 0) s m args below meth c H locs 0 0 (QI G below (fun r v => v = u ∧ K r) args s 0 0) (F0 m 2 ls []) := by
    intro n
    induction n with
    | zero =>
      intro x2 H locs ls hn
      exact absurd hn (Nat.not_lt_zero _)
    | succ n ih =>
      intro x2 H locs ls hn hI hw hl
      have h := hs x2 hI
      unfold bX19_firstWith_2 at h
      have hJ2 : ∀ (x2' : Int32) (H : Heap) (locs : List Loc) (ls : Array Slot) , (I x2' ∧ μ x2' < μ x2) → GW G u s H locs → lv_has ls 3 [(0, .ref a0), (1, .int x1), (2, .int x2')] → W p l e (rmX19_firstWith 0 0) s m args below meth c H locs 0 0 (QI G below (fun r v => v = u ∧ K r) args s 0 0) (F0 m 2 ls []) := fun x2' H locs ls h hw hl => ih x2' H locs ls (Nat.lt_of_lt_of_le h.2 (Nat.le_of_lt_succ hn)) h.1 hw hl
      refine lv_iload_n hx hb dX19_firstWith_2 rfl (lv_at hl 2 rfl) ?_
      refine lv_aload_n hx hb dX19_firstWith_3 rfl (lv_at hl 0 rfl) ?_
      have hk_1 : kd u a0 = 16 := h.1
      have h := h.2
      refine g_getI X hw in_X19 hk_1 rfl 17 rfl (by decide) q1468 (fun _ z => z) dX19_firstWith_4 ?_
      refine lv_icmp_ge (tgt := 28) hx hb dX19_firstWith_7 rfl (fun c_6 => ?_) (fun c_6 => ?_)
      · have h := h.1 c_6
        refine lv_bipush (v := (-2)) hx hb dX19_firstWith_28 (by decide) ?_
        exact g_iret X hw hr ⟨rfl, h⟩ (Nat.le_refl _) (Nat.le_refl _) dX19_firstWith_30
      · have h := h.2 c_6
        refine lv_aload_n hx hb dX19_firstWith_10 rfl (lv_at hl 0 rfl) ?_
        obtain ⟨b_2, e_3, h⟩ := h
        refine g_getR X hw in_X19 hk_1 rfl 25 rfl (by decide) q1476 (fun _ z => z) e_3 dX19_firstWith_11 ?_
        refine lv_iload_n hx hb dX19_firstWith_14 rfl (lv_at hl 2 rfl) ?_
        have hk_4 : kd u b_2 = 101 := h.1
        have h := h.2
        refine g_iald X hw hk_4 h.1 dX19_firstWith_15 ?_
        have h := h.2
        refine lv_iload_n hx hb dX19_firstWith_16 rfl (lv_at hl 1 rfl) ?_
        refine lv_icmp_ne (tgt := 22) hx hb dX19_firstWith_17 rfl (fun c_5 => ?_) (fun c_5 => ?_)
        · have h := h.2 c_5
          refine lv_iinc (v := x2 + 1) (lv' := [(2, .int (x2 + 1)), (0, .ref a0), (1, .int x1)]) hx hb dX19_firstWith_22 hl (k := 2) rfl rfl (by decide) rfl (fun ls hl => ?_)
          refine lv_goto (tgt := 2) hx hb dX19_firstWith_25 rfl ?_
          exact hJ2 _ _ _ _ h hw (lv_sub hl [1, 2, 0] rfl)
        · have h := h.1 c_5
          refine lv_iload_n hx hb dX19_firstWith_20 rfl (lv_at hl 2 rfl) ?_
          exact g_iret X hw hr ⟨rfl, h⟩ (Nat.le_refl _) (Nat.le_refl _) dX19_firstWith_21
  exact key _ _ _ _ _ (Nat.lt_succ_self _) h0 hw hl
set_option maxHeartbeats 4000000 in
theorem mX19_firstWith (l : Launch) (G : GT) (u : Hp) (a0 : Nat) (x1 : Int32) (K : Int32 → Prop) (h : pX19_firstWith u a0 x1 K) : Met l yX19_firstWith (ws_ yX19_firstWith cX19_firstWith 3 (some .int)) (rmX19_firstWith 0 0) (va_Pc [.ref a0, .int x1] (GB G u)) (va_Qi (fun r v => v = u ∧ K r) (fun u t => GH G u t.heap) (GA G)) 0 0 (GA G) := by
  refine Met.ofW (cc := cX19_firstWith) (maxL := 3) (ret := (some .int)) (by decide) rfl ?_
  intro p e s m args below meth c s₁ B hml hv
  obtain ⟨rfl, hv⟩ := hv
  have X := Mc_of (own := RX19) B hml rfl hv
  have hw : GW G u s s.heap [] := ⟨hv.2.1, va_S.rf⟩
  have hr := B.returns
  obtain ⟨hx, hb, hml, hown, hts, -⟩ := id X
  have hl := lv_entry ([.ref a0, .int x1]) (n := 3) (Nat.le_of_ble_eq_true rfl)
  rw [lg_entry_eq]
  generalize (lg_sl ([.ref a0, .int x1]) ++ List.replicate (3 - (lg_sl ([.ref a0, .int x1])).length) Slot.unset).toArray = ls at hl ⊢
  have hl : lv_has ls 3 [(0, .ref a0), (1, .int x1)] := hl
  change W p l e (rmX19_firstWith 0 0) s m _ below meth c s.heap [] 0 0 (QI G below (fun r v => v = u ∧ K r) _ s 0 0) (F0 m 0 ls [])
  unfold pX19_firstWith at h
  refine lv_iconst (v := 0) hx hb dX19_firstWith_0 (by decide) ?_
  refine lv_istore_n (lv' := [(2, .int 0), (0, .ref a0), (1, .int x1)]) hx hb dX19_firstWith_1 rfl hl (by decide) rfl (fun ls hl => ?_)
  exact wX19_firstWith_2 X hr  h hw (lv_sub hl [1, 2, 0] rfl)

/-! FifthCardModel.says(II)I -/
theorem ydX19_says : yX19_says.cls = "FifthCardModel" ∧ yX19_says.cls ≠ "java/lang/invoke/MethodHandle" ∧ yX19_says.cls ≠ "java/lang/invoke/VarHandle" ∧ (parseMethodDescriptor yX19_says.desc).map (fun d => d.parameters.length) = some 2 := by decide +kernel
def rmX19_says (mc ms : Nat) : Room := { frames := 8, cells := mc, slots := ms, locals := 191 }
set_option maxHeartbeats 4000000 in
theorem mX19_says (l : Launch) (G : GT) (u : Hp) (a0 : Nat) (x1 : Int32) (x2 : Int32) (K : Int32 → Hp → Prop) (h : pX19_says u a0 x1 x2 K) : Met l yX19_says (ws_ yX19_says cX19_says 3 (some .int)) (rmX19_says 0 0) (va_Pc [.ref a0, .int x1, .int x2] (GB G u)) (va_Qi K (fun u t => GH G u t.heap) (GA G)) 0 0 (GA G) := by
  refine Met.ofW (cc := cX19_says) (maxL := 3) (ret := (some .int)) (by decide) rfl ?_
  intro p e s m args below meth c s₁ B hml hv
  obtain ⟨rfl, hv⟩ := hv
  have X := Mc_of (own := RX19) B hml rfl hv
  have hw : GW G u s s.heap [] := ⟨hv.2.1, va_S.rf⟩
  have hr := B.returns
  obtain ⟨hx, hb, hml, hown, hts, -⟩ := id X
  have hl := lv_entry ([.ref a0, .int x1, .int x2]) (n := 3) (Nat.le_of_ble_eq_true rfl)
  rw [lg_entry_eq]
  generalize (lg_sl ([.ref a0, .int x1, .int x2]) ++ List.replicate (3 - (lg_sl ([.ref a0, .int x1, .int x2])).length) Slot.unset).toArray = ls at hl ⊢
  have hl : lv_has ls 3 [(0, .ref a0), (1, .int x1), (2, .int x2)] := hl
  change W p l e (rmX19_says 0 0) s m _ below meth c s.heap [] 0 0 (QI G below K _ s 0 0) (F0 m 0 ls [])
  unfold pX19_says at h
  refine lv_aload_n hx hb dX19_says_0 rfl (lv_at hl 0 rfl) ?_
  refine lv_iconst (v := 0) hx hb dX19_says_1 (by decide) ?_
  have hk_1 : kd u a0 = 16 := h.1
  have h := h.2
  refine g_putI (v := 0) X hw in_X19 tyX19_ok nmX19 hk_1 rfl 0 rfl (by decide) q1451 (fun _ z => z) rfl rfl rfl dX19_says_2 (fun H locs hw => ?_)
  refine lv_aload_n hx hb dX19_says_5 rfl (lv_at hl 0 rfl) ?_
  refine lv_iload_n hx hb dX19_says_6 rfl (lv_at hl 1 rfl) ?_
  refine g_callio hw (g_V X hw (mX19_isRule l G _ _ _ _ h) 1 (lw_V q1940 q1942 qs84 q143 q1943) rfl rfl ydX19_isRule ⟨Nat.le_of_ble_eq_true rfl, Nat.le_of_ble_eq_true rfl⟩ (g_recv X hw (ci := 15) (q := (RX19, TX19, 46)) hk_1 rfl) (As := [.int x1]) (rest := []) rfl hl.1 rfl (Nat.le_of_ble_eq_true rfl) dX19_says_7 ⟨Nat.le_refl _, Nat.le_refl _⟩) (fun r_2 H locs h hw => ?_)
  refine lv_if_eq (tgt := 21) hx hb dX19_says_10 rfl (fun c_14 => ?_) (fun c_14 => ?_)
  · have h := h.1 c_14
    refine lv_aload_n hx hb dX19_says_21 rfl (lv_at hl 0 rfl) ?_
    refine lv_iconst (v := 1) hx hb dX19_says_22 (by decide) ?_
    refine g_calli hw (g_V X hw (mX19_refused l G _ _ _ _ h) 1 (lw_V q1603 q1605 qs47 q143 q1606) rfl rfl ydX19_refused ⟨Nat.le_of_ble_eq_true rfl, Nat.le_of_ble_eq_true rfl⟩ (g_recv X hw (ci := 15) (q := (RX19, TX19, 46)) hk_1 rfl) (As := [.int 1]) (rest := []) rfl hl.1 rfl (Nat.le_of_ble_eq_true rfl) dX19_says_23 ⟨Nat.le_refl _, Nat.le_refl _⟩) (fun r_3 u_4 H locs h hw => ?_)
    exact g_iret X hw hr h (Nat.le_refl _) (Nat.le_refl _) dX19_says_26
  · have h := h.2 c_14
    refine lv_aload_n hx hb dX19_says_13 rfl (lv_at hl 0 rfl) ?_
    refine lv_iload_n hx hb dX19_says_14 rfl (lv_at hl 2 rfl) ?_
    refine g_callio hw (g_V X hw (mX19_isRow l G _ _ _ _ h) 1 (lw_V q1907 q1909 qs80 q143 q1910) rfl rfl ydX19_isRow ⟨Nat.le_of_ble_eq_true rfl, Nat.le_of_ble_eq_true rfl⟩ (g_recv X hw (ci := 15) (q := (RX19, TX19, 46)) hk_1 rfl) (As := [.int x2]) (rest := []) rfl hl.1 rfl (Nat.le_of_ble_eq_true rfl) dX19_says_15 ⟨Nat.le_refl _, Nat.le_refl _⟩) (fun r_5 H locs h hw => ?_)
    refine lv_if_ne (tgt := 27) hx hb dX19_says_18 rfl (fun c_13 => ?_) (fun c_13 => ?_)
    · have h := h.2 c_13
      refine lv_aload_n hx hb dX19_says_27 rfl (lv_at hl 0 rfl) ?_
      refine lv_iload_n hx hb dX19_says_28 rfl (lv_at hl 1 rfl) ?_
      refine g_callv hw (g_V X hw (mX19_laysAll l G _ _ _ _ h) 1 (lw_V q2025 q2027 qs103 q143 q2028) rfl rfl ydX19_laysAll ⟨Nat.le_of_ble_eq_true rfl, Nat.le_of_ble_eq_true rfl⟩ (g_recv X hw (ci := 15) (q := (RX19, TX19, 46)) hk_1 rfl) (As := [.int x1]) (rest := []) rfl hl.1 rfl (Nat.le_of_ble_eq_true rfl) dX19_says_29 ⟨Nat.le_refl _, Nat.le_refl _⟩) (fun u_6 H locs h hw => ?_)
      refine lv_aload_n hx hb dX19_says_32 rfl (lv_at hl 0 rfl) ?_
      refine lv_aload_n hx hb dX19_says_33 rfl (lv_at hl 0 rfl) ?_
      refine lv_iload_n hx hb dX19_says_34 rfl (lv_at hl 2 rfl) ?_
      have hk_7 : kd u_6 a0 = 16 := h.1
      have h := h.2
      refine g_callio hw (g_V X hw (mX19_firstWith l G _ _ _ _ h) 1 (lw_V q2029 q2031 qs104 q143 q2032) rfl rfl ydX19_firstWith ⟨Nat.le_of_ble_eq_true rfl, Nat.le_of_ble_eq_true rfl⟩ (g_recv X hw (ci := 15) (q := (RX19, TX19, 46)) hk_7 rfl) (As := [.int x2]) (rest := [.ref a0]) rfl hl.1 rfl (Nat.le_of_ble_eq_true rfl) dX19_says_35 ⟨Nat.le_refl _, Nat.le_refl _⟩) (fun r_8 H locs h hw => ?_)
      refine g_calli hw (g_V X hw (mX19_good l G _ _ _ _ h) 1 (lw_V q1867 q1869 qs77 q143 q1870) rfl rfl ydX19_good ⟨Nat.le_of_ble_eq_true rfl, Nat.le_of_ble_eq_true rfl⟩ (g_recv X hw (ci := 15) (q := (RX19, TX19, 46)) hk_7 rfl) (As := [.int r_8]) (rest := []) rfl hl.1 rfl (Nat.le_of_ble_eq_true rfl) dX19_says_38 ⟨Nat.le_refl _, Nat.le_refl _⟩) (fun r_9 u_10 H locs h hw => ?_)
      exact g_iret X hw hr h (Nat.le_refl _) (Nat.le_refl _) dX19_says_41
    · have h := h.1 c_13
      refine lv_aload_n hx hb dX19_says_21 rfl (lv_at hl 0 rfl) ?_
      refine lv_iconst (v := 1) hx hb dX19_says_22 (by decide) ?_
      refine g_calli hw (g_V X hw (mX19_refused l G _ _ _ _ h) 1 (lw_V q1603 q1605 qs47 q143 q1606) rfl rfl ydX19_refused ⟨Nat.le_of_ble_eq_true rfl, Nat.le_of_ble_eq_true rfl⟩ (g_recv X hw (ci := 15) (q := (RX19, TX19, 46)) hk_1 rfl) (As := [.int 1]) (rest := []) rfl hl.1 rfl (Nat.le_of_ble_eq_true rfl) dX19_says_23 ⟨Nat.le_refl _, Nat.le_refl _⟩) (fun r_11 u_12 H locs h hw => ?_)
      exact g_iret X hw hr h (Nat.le_refl _) (Nat.le_refl _) dX19_says_26

/-! FifthCard.failsOf(LFifthCard$Rule;)I -/
theorem ydX1_failsOf : yX1_failsOf.cls = "FifthCard" ∧ yX1_failsOf.cls ≠ "java/lang/invoke/MethodHandle" ∧ yX1_failsOf.cls ≠ "java/lang/invoke/VarHandle" ∧ (parseMethodDescriptor yX1_failsOf.desc).map (fun d => d.parameters.length) = some 1 := by decide +kernel
def rmX1_failsOf (mc ms : Nat) : Room := { frames := 6, cells := mc, slots := ms, locals := 151 }
set_option maxHeartbeats 4000000 in
theorem wX1_failsOf_9 {G : GT} {p : Program} {l : Launch} {e : Env} {s : State} {m : MethodId} {args : Array Value} {below : List Frame} {meth : Method} {c : Code} {H : Heap} {locs : List Loc} {ls : Array Slot} {a0 : Nat} {a1 : Nat} {u : Hp} {x2 : Int32} {x3 : Int32} {K : Int32 → Hp → Prop} (X : Mc G p s m args meth c RX1 cX1_failsOf 4) (hr : meth.sig.returnType = (some .int)) (h : jl2 (bX1_failsOf_9 K a0 a1 u) x2 x3) (hw : GW G u s H locs) (hl : lv_has ls 4 [(0, .ref a0), (1, .ref a1), (2, .int x2), (3, .int x3)]) : W p l e (rmX1_failsOf 0 0) s m args below meth c H locs 0 0 (QI G below K args s 0 0) (F0 m 9 ls []) := by
  obtain ⟨hx, hb, hml, hown, hts, -⟩ := id X
  obtain ⟨I, μ, h0, hs⟩ := h
  have key : ∀ (n : Nat) (x2 : Int32) (x3 : Int32) (H : Heap) (locs : List Loc) (ls : Array Slot) , μ x2 x3 < n → I x2 x3 → GW G u s H locs → lv_has ls 4 [(0, .ref a0), (1, .ref a1), (2, .int x2), (3, .int x3)] → W p l e (rmX1_failsOf 0 0) s m args below meth c H locs 0 0 (QI G below K args s 0 0) (F0 m 9 ls []) := by
    intro n
    induction n with
    | zero =>
      intro x2 x3 H locs ls hn
      exact absurd hn (Nat.not_lt_zero _)
    | succ n ih =>
      intro x2 x3 H locs ls hn hI hw hl
      have h := hs x2 x3 hI
      unfold bX1_failsOf_9 at h
      have hJ9 : ∀ (x2' : Int32) (x3' : Int32) (H : Heap) (locs : List Loc) (ls : Array Slot) , (I x2' x3' ∧ μ x2' x3' < μ x2 x3) → GW G u s H locs → lv_has ls 4 [(0, .ref a0), (1, .ref a1), (2, .int x2'), (3, .int x3')] → W p l e (rmX1_failsOf 0 0) s m args below meth c H locs 0 0 (QI G below K args s 0 0) (F0 m 9 ls []) := fun x2' x3' H locs ls h hw hl => ih x2' x3' H locs ls (Nat.lt_of_lt_of_le h.2 (Nat.le_of_lt_succ hn)) h.1 hw hl
      refine lv_iload_n hx hb dX1_failsOf_9 rfl (lv_at hl 3 rfl) ?_
      refine lv_aload_n hx hb dX1_failsOf_10 rfl (lv_at hl 0 rfl) ?_
      have hk_1 : kd u a0 = 1 := h.1
      have h := h.2
      refine g_getI X hw in_X1 hk_1 rfl 8 rfl (by decide) q481 (fun _ z => z) dX1_failsOf_11 ?_
      refine lv_icmp_ge (tgt := 42) hx hb dX1_failsOf_14 rfl (fun c_7 => ?_) (fun c_7 => ?_)
      · have h := h.1 c_7
        refine lv_iload_n hx hb dX1_failsOf_42 rfl (lv_at hl 2 rfl) ?_
        exact g_iret X hw hr h (Nat.le_refl _) (Nat.le_refl _) dX1_failsOf_43
      · have h := h.2 c_7
        refine lv_iload_n hx hb dX1_failsOf_17 rfl (lv_at hl 2 rfl) ?_
        refine lv_aload_n hx hb dX1_failsOf_18 rfl (lv_at hl 1 rfl) ?_
        have hk_2 : isRu (kd u a1) := h.1
        have h := h.2
        obtain ⟨b_3, e_4, h⟩ := h
        refine g_getRu2R X hw hk_2 q450 e_4 dX1_failsOf_19 ?_
        refine lv_iload_n hx hb dX1_failsOf_22 rfl (lv_at hl 3 rfl) ?_
        have hk_5 : kd u b_3 = 101 := h.1
        have h := h.2
        refine g_iald X hw hk_5 h.1 dX1_failsOf_23 ?_
        have h := h.2
        refine lv_bipush (v := (-2)) hx hb dX1_failsOf_24 (by decide) ?_
        refine lv_icmp_ne (tgt := 33) hx hb dX1_failsOf_26 rfl (fun c_6 => ?_) (fun c_6 => ?_)
        · have h := h.2 c_6
          refine lv_iconst (v := 0) hx hb dX1_failsOf_33 (by decide) ?_
          refine lv_iadd hx hb dX1_failsOf_34 ?_
          refine lv_istore_n (lv' := [(2, .int (x2 + 0)), (0, .ref a0), (1, .ref a1), (3, .int x3)]) hx hb dX1_failsOf_35 rfl hl (by decide) rfl (fun ls hl => ?_)
          refine lv_iinc (v := x3 + 1) (lv' := [(3, .int (x3 + 1)), (2, .int (x2 + 0)), (0, .ref a0), (1, .ref a1)]) hx hb dX1_failsOf_36 hl (k := 3) rfl rfl (by decide) rfl (fun ls hl => ?_)
          refine lv_goto (tgt := 9) hx hb dX1_failsOf_39 rfl ?_
          exact hJ9 _ _ _ _ _ h hw (lv_sub hl [2, 3, 1, 0] rfl)
        · have h := h.1 c_6
          refine lv_iconst (v := 1) hx hb dX1_failsOf_29 (by decide) ?_
          refine lv_goto (tgt := 34) hx hb dX1_failsOf_30 rfl ?_
          refine lv_iadd hx hb dX1_failsOf_34 ?_
          refine lv_istore_n (lv' := [(2, .int (x2 + 1)), (0, .ref a0), (1, .ref a1), (3, .int x3)]) hx hb dX1_failsOf_35 rfl hl (by decide) rfl (fun ls hl => ?_)
          refine lv_iinc (v := x3 + 1) (lv' := [(3, .int (x3 + 1)), (2, .int (x2 + 1)), (0, .ref a0), (1, .ref a1)]) hx hb dX1_failsOf_36 hl (k := 3) rfl rfl (by decide) rfl (fun ls hl => ?_)
          refine lv_goto (tgt := 9) hx hb dX1_failsOf_39 rfl ?_
          exact hJ9 _ _ _ _ _ h hw (lv_sub hl [2, 3, 1, 0] rfl)
  exact key _ _ _ _ _ _ (Nat.lt_succ_self _) h0 hw hl
set_option maxHeartbeats 4000000 in
theorem mX1_failsOf (l : Launch) (G : GT) (u : Hp) (a0 : Nat) (a1 : Nat) (K : Int32 → Hp → Prop) (h : pX1_failsOf u a0 a1 K) : Met l yX1_failsOf (ws_ yX1_failsOf cX1_failsOf 4 (some .int)) (rmX1_failsOf 0 0) (va_Pc [.ref a0, .ref a1] (GB G u)) (va_Qi K (fun u t => GH G u t.heap) (GA G)) 0 0 (GA G) := by
  refine Met.ofW (cc := cX1_failsOf) (maxL := 4) (ret := (some .int)) (by decide) rfl ?_
  intro p e s m args below meth c s₁ B hml hv
  obtain ⟨rfl, hv⟩ := hv
  have X := Mc_of (own := RX1) B hml rfl hv
  have hw : GW G u s s.heap [] := ⟨hv.2.1, va_S.rf⟩
  have hr := B.returns
  obtain ⟨hx, hb, hml, hown, hts, -⟩ := id X
  have hl := lv_entry ([.ref a0, .ref a1]) (n := 4) (Nat.le_of_ble_eq_true rfl)
  rw [lg_entry_eq]
  generalize (lg_sl ([.ref a0, .ref a1]) ++ List.replicate (4 - (lg_sl ([.ref a0, .ref a1])).length) Slot.unset).toArray = ls at hl ⊢
  have hl : lv_has ls 4 [(0, .ref a0), (1, .ref a1)] := hl
  change W p l e (rmX1_failsOf 0 0) s m _ below meth c s.heap [] 0 0 (QI G below K _ s 0 0) (F0 m 0 ls [])
  unfold pX1_failsOf at h
  refine lv_aload_n hx hb dX1_failsOf_0 rfl (lv_at hl 0 rfl) ?_
  refine lv_aload_n hx hb dX1_failsOf_1 rfl (lv_at hl 1 rfl) ?_
  have hk_8 : kd u a0 = 1 := h.1
  have h := h.2
  refine g_callv hw (g_V X hw (mX1_lay l G _ _ _ _ h) 1 (lw_V q1082 q1084 qs30 q122 q1085) rfl rfl ydX1_lay ⟨Nat.le_of_ble_eq_true rfl, Nat.le_of_ble_eq_true rfl⟩ (g_recv X hw (ci := 0) (q := (RX1, TX1, 16)) hk_8 rfl) (As := [.ref a1]) (rest := []) rfl hl.1 rfl (Nat.le_of_ble_eq_true rfl) dX1_failsOf_2 ⟨Nat.le_refl _, Nat.le_refl _⟩) (fun u_9 H locs h hw => ?_)
  refine lv_iconst (v := 0) hx hb dX1_failsOf_5 (by decide) ?_
  refine lv_istore_n (lv' := [(2, .int 0), (0, .ref a0), (1, .ref a1)]) hx hb dX1_failsOf_6 rfl hl (by decide) rfl (fun ls hl => ?_)
  refine lv_iconst (v := 0) hx hb dX1_failsOf_7 (by decide) ?_
  refine lv_istore_n (lv' := [(3, .int 0), (2, .int 0), (0, .ref a0), (1, .ref a1)]) hx hb dX1_failsOf_8 rfl hl (by decide) rfl (fun ls hl => ?_)
  exact wX1_failsOf_9 X hr  h hw (lv_sub hl [2, 3, 1, 0] rfl)

/-! FifthCard$Pairing.begin()V -/
theorem ydX4_begin : yX4_begin.cls = "FifthCard$Pairing" ∧ yX4_begin.cls ≠ "java/lang/invoke/MethodHandle" ∧ yX4_begin.cls ≠ "java/lang/invoke/VarHandle" ∧ (parseMethodDescriptor yX4_begin.desc).map (fun d => d.parameters.length) = some 0 := by decide +kernel
def rmX4_begin (mc ms : Nat) : Room := { frames := 0, cells := mc, slots := ms, locals := 0 }
set_option maxHeartbeats 4000000 in
theorem mX4_begin (l : Launch) (G : GT) (u : Hp) (a0 : Nat) (K : Hp → Prop) (h : pX4_begin u a0 K) : Met l yX4_begin (ws_ yX4_begin cX4_begin 1 none) (rmX4_begin 0 0) (va_Pc [.ref a0] (GB G u)) (va_Qv K (fun u t => GH G u t.heap) (GA G)) 0 0 (GA G) := by
  refine Met.ofW (cc := cX4_begin) (maxL := 1) (ret := none) (by decide) rfl ?_
  intro p e s m args below meth c s₁ B hml hv
  obtain ⟨rfl, hv⟩ := hv
  have X := Mc_of (own := RX4) B hml rfl hv
  have hw : GW G u s s.heap [] := ⟨hv.2.1, va_S.rf⟩
  have hr := B.returns
  obtain ⟨hx, hb, hml, hown, hts, -⟩ := id X
  have hl := lv_entry ([.ref a0]) (n := 1) (Nat.le_of_ble_eq_true rfl)
  rw [lg_entry_eq]
  generalize (lg_sl ([.ref a0]) ++ List.replicate (1 - (lg_sl ([.ref a0])).length) Slot.unset).toArray = ls at hl ⊢
  have hl : lv_has ls 1 [(0, .ref a0)] := hl
  change W p l e (rmX4_begin 0 0) s m _ below meth c s.heap [] 0 0 (QV G below K _ s 0 0) (F0 m 0 ls [])
  unfold pX4_begin at h
  refine lv_aload_n hx hb dX4_begin_0 rfl (lv_at hl 0 rfl) ?_
  refine lv_dup hx hb dX4_begin_1 rfl ?_
  have hk_1 : kd u a0 = 4 := h.1
  have h := h.2
  refine g_getI X hw in_X4 hk_1 rfl 11 rfl (by decide) q299 (fun _ z => z) dX4_begin_2 ?_
  refine lv_iconst (v := 1) hx hb dX4_begin_5 (by decide) ?_
  refine lv_iadd hx hb dX4_begin_6 ?_
  refine g_putI (v := (FI u 411 a0) + 1) X hw in_X4 tyX4_ok nmX4 hk_1 rfl 11 rfl (by decide) q299 (fun _ z => z) rfl rfl rfl dX4_begin_7 (fun H locs hw => ?_)
  exact g_vret X hw hr h (Nat.le_refl _) (Nat.le_refl _) dX4_begin_10

/-! FifthCard$Pairing.isThere(I)Z -/
theorem ydX4_isThere : yX4_isThere.cls = "FifthCard$Pairing" ∧ yX4_isThere.cls ≠ "java/lang/invoke/MethodHandle" ∧ yX4_isThere.cls ≠ "java/lang/invoke/VarHandle" ∧ (parseMethodDescriptor yX4_isThere.desc).map (fun d => d.parameters.length) = some 1 := by decide +kernel
def rmX4_isThere (mc ms : Nat) : Room := { frames := 0, cells := mc, slots := ms, locals := 0 }
set_option maxHeartbeats 4000000 in
theorem mX4_isThere (l : Launch) (G : GT) (u : Hp) (a0 : Nat) (x1 : Int32) (K : Int32 → Prop) (h : pX4_isThere u a0 x1 K) : Met l yX4_isThere (ws_ yX4_isThere cX4_isThere 2 (some .boolean)) (rmX4_isThere 0 0) (va_Pc [.ref a0, .int x1] (GB G u)) (va_Qi (fun r v => v = u ∧ K r) (fun u t => GH G u t.heap) (GA G)) 0 0 (GA G) := by
  refine Met.ofW (cc := cX4_isThere) (maxL := 2) (ret := (some .boolean)) (by decide) rfl ?_
  intro p e s m args below meth c s₁ B hml hv
  obtain ⟨rfl, hv⟩ := hv
  have X := Mc_of (own := RX4) B hml rfl hv
  have hw : GW G u s s.heap [] := ⟨hv.2.1, va_S.rf⟩
  have hr := B.returns
  obtain ⟨hx, hb, hml, hown, hts, -⟩ := id X
  have hl := lv_entry ([.ref a0, .int x1]) (n := 2) (Nat.le_of_ble_eq_true rfl)
  rw [lg_entry_eq]
  generalize (lg_sl ([.ref a0, .int x1]) ++ List.replicate (2 - (lg_sl ([.ref a0, .int x1])).length) Slot.unset).toArray = ls at hl ⊢
  have hl : lv_has ls 2 [(0, .ref a0), (1, .int x1)] := hl
  change W p l e (rmX4_isThere 0 0) s m _ below meth c s.heap [] 0 0 (QI G below (fun r v => v = u ∧ K r) _ s 0 0) (F0 m 0 ls [])
  unfold pX4_isThere at h
  refine lv_aload_n hx hb dX4_isThere_0 rfl (lv_at hl 0 rfl) ?_
  have hk_1 : kd u a0 = 4 := h.1
  have h := h.2
  obtain ⟨b_2, e_3, h⟩ := h
  refine g_getR X hw in_X4 hk_1 rfl 4 rfl (by decide) q292 (fun _ z => z) e_3 dX4_isThere_1 ?_
  refine lv_iload_n hx hb dX4_isThere_4 rfl (lv_at hl 1 rfl) ?_
  have hk_4 : kd u b_2 = 101 := h.1
  have h := h.2
  refine g_iald X hw hk_4 h.1 dX4_isThere_5 ?_
  have h := h.2
  refine lv_aload_n hx hb dX4_isThere_6 rfl (lv_at hl 0 rfl) ?_
  refine g_getI X hw in_X4 hk_1 rfl 11 rfl (by decide) q299 (fun _ z => z) dX4_isThere_7 ?_
  refine lv_icmp_ne (tgt := 17) hx hb dX4_isThere_10 rfl (fun c_5 => ?_) (fun c_5 => ?_)
  · have h := h.2 c_5
    refine lv_iconst (v := 0) hx hb dX4_isThere_17 (by decide) ?_
    exact g_zret X hw hr rfl ⟨rfl, h⟩ (Nat.le_refl _) (Nat.le_refl _) dX4_isThere_18
  · have h := h.1 c_5
    refine lv_iconst (v := 1) hx hb dX4_isThere_13 (by decide) ?_
    refine lv_goto (tgt := 18) hx hb dX4_isThere_14 rfl ?_
    exact g_zret X hw hr rfl ⟨rfl, h⟩ (Nat.le_refl _) (Nat.le_refl _) dX4_isThere_18

/-! FifthCard$Pairing.mark(II)V -/
theorem ydX4_mark : yX4_mark.cls = "FifthCard$Pairing" ∧ yX4_mark.cls ≠ "java/lang/invoke/MethodHandle" ∧ yX4_mark.cls ≠ "java/lang/invoke/VarHandle" ∧ (parseMethodDescriptor yX4_mark.desc).map (fun d => d.parameters.length) = some 2 := by decide +kernel
def rmX4_mark (mc ms : Nat) : Room := { frames := 0, cells := mc, slots := ms, locals := 0 }
set_option maxHeartbeats 4000000 in
theorem mX4_mark (l : Launch) (G : GT) (u : Hp) (a0 : Nat) (x1 : Int32) (x2 : Int32) (K : Hp → Prop) (h : pX4_mark u a0 x1 x2 K) : Met l yX4_mark (ws_ yX4_mark cX4_mark 3 none) (rmX4_mark 0 0) (va_Pc [.ref a0, .int x1, .int x2] (GB G u)) (va_Qv K (fun u t => GH G u t.heap) (GA G)) 0 0 (GA G) := by
  refine Met.ofW (cc := cX4_mark) (maxL := 3) (ret := none) (by decide) rfl ?_
  intro p e s m args below meth c s₁ B hml hv
  obtain ⟨rfl, hv⟩ := hv
  have X := Mc_of (own := RX4) B hml rfl hv
  have hw : GW G u s s.heap [] := ⟨hv.2.1, va_S.rf⟩
  have hr := B.returns
  obtain ⟨hx, hb, hml, hown, hts, -⟩ := id X
  have hl := lv_entry ([.ref a0, .int x1, .int x2]) (n := 3) (Nat.le_of_ble_eq_true rfl)
  rw [lg_entry_eq]
  generalize (lg_sl ([.ref a0, .int x1, .int x2]) ++ List.replicate (3 - (lg_sl ([.ref a0, .int x1, .int x2])).length) Slot.unset).toArray = ls at hl ⊢
  have hl : lv_has ls 3 [(0, .ref a0), (1, .int x1), (2, .int x2)] := hl
  change W p l e (rmX4_mark 0 0) s m _ below meth c s.heap [] 0 0 (QV G below K _ s 0 0) (F0 m 0 ls [])
  unfold pX4_mark at h
  refine lv_aload_n hx hb dX4_mark_0 rfl (lv_at hl 0 rfl) ?_
  have hk_1 : kd u a0 = 4 := h.1
  have h := h.2
  obtain ⟨b_2, e_3, h⟩ := h
  refine g_getR X hw in_X4 hk_1 rfl 4 rfl (by decide) q292 (fun _ z => z) e_3 dX4_mark_1 ?_
  refine lv_iload_n hx hb dX4_mark_4 rfl (lv_at hl 1 rfl) ?_
  refine lv_aload_n hx hb dX4_mark_5 rfl (lv_at hl 0 rfl) ?_
  refine g_getI X hw in_X4 hk_1 rfl 11 rfl (by decide) q299 (fun _ z => z) dX4_mark_6 ?_
  have hk_4 : kd u b_2 = 101 := h.1
  have h := h.2
  refine g_iast X hw hk_4 h.1 dX4_mark_9 (fun H locs hw => ?_)
  have h := h.2
  refine lv_aload_n hx hb dX4_mark_10 rfl (lv_at hl 0 rfl) ?_
  obtain ⟨b_5, e_6, h⟩ := h
  refine g_getR X hw in_X4 hk_1 rfl 3 rfl (by decide) q291 (fun _ z => z) e_6 dX4_mark_11 ?_
  refine lv_iload_n hx hb dX4_mark_14 rfl (lv_at hl 1 rfl) ?_
  refine lv_iload_n hx hb dX4_mark_15 rfl (lv_at hl 2 rfl) ?_
  have hk_7 : kd u b_5 = 101 := h.1
  have h := h.2
  refine g_iast X hw hk_7 h.1 dX4_mark_16 (fun H locs hw => ?_)
  have h := h.2
  exact g_vret X hw hr h (Nat.le_refl _) (Nat.le_refl _) dX4_mark_17

/-! FifthCard.clashOf(LFifthCard$Rule;)I -/
theorem ydX1_clashOf : yX1_clashOf.cls = "FifthCard" ∧ yX1_clashOf.cls ≠ "java/lang/invoke/MethodHandle" ∧ yX1_clashOf.cls ≠ "java/lang/invoke/VarHandle" ∧ (parseMethodDescriptor yX1_clashOf.desc).map (fun d => d.parameters.length) = some 1 := by decide +kernel
def rmX1_clashOf (mc ms : Nat) : Room := { frames := 6, cells := mc, slots := ms, locals := 151 }
set_option maxHeartbeats 4000000 in
theorem wX1_clashOf_14 {G : GT} {p : Program} {l : Launch} {e : Env} {s : State} {m : MethodId} {args : Array Value} {below : List Frame} {meth : Method} {c : Code} {H : Heap} {locs : List Loc} {ls : Array Slot} {a0 : Nat} {a1 : Nat} {x2 : Int32} {u : Hp} {K : Int32 → Hp → Prop} (X : Mc G p s m args meth c RX1 cX1_clashOf 3) (hr : meth.sig.returnType = (some .int)) (h : jl2 (bX1_clashOf_14 K a0 a1) x2 u) (hw : GW G u s H locs) (hl : lv_has ls 3 [(0, .ref a0), (1, .ref a1), (2, .int x2)]) : W p l e (rmX1_clashOf 0 0) s m args below meth c H locs 0 0 (QI G below K args s 0 0) (F0 m 14 ls []) := by
  obtain ⟨hx, hb, hml, hown, hts, -⟩ := id X
  obtain ⟨I, μ, h0, hs⟩ := h
  have key : ∀ (n : Nat) (x2 : Int32) (u : Hp) (H : Heap) (locs : List Loc) (ls : Array Slot) , μ x2 u < n → I x2 u → GW G u s H locs → lv_has ls 3 [(0, .ref a0), (1, .ref a1), (2, .int x2)] → W p l e (rmX1_clashOf 0 0) s m args below meth c H locs 0 0 (QI G below K args s 0 0) (F0 m 14 ls []) := by
    intro n
    induction n with
    | zero =>
      intro x2 u H locs ls hn
      exact absurd hn (Nat.not_lt_zero _)
    | succ n ih =>
      intro x2 u H locs ls hn hI hw hl
      have h := hs x2 u hI
      unfold bX1_clashOf_14 at h
      have hJ14 : ∀ (x2' : Int32) (u' : Hp) (H : Heap) (locs : List Loc) (ls : Array Slot) , (I x2' u' ∧ μ x2' u' < μ x2 u) → GW G u' s H locs → lv_has ls 3 [(0, .ref a0), (1, .ref a1), (2, .int x2')] → W p l e (rmX1_clashOf 0 0) s m args below meth c H locs 0 0 (QI G below K args s 0 0) (F0 m 14 ls []) := fun x2' u' H locs ls h hw hl => ih x2' u' H locs ls (Nat.lt_of_lt_of_le h.2 (Nat.le_of_lt_succ hn)) h.1 hw hl
      refine lv_iload_n hx hb dX1_clashOf_14 rfl (lv_at hl 2 rfl) ?_
      refine lv_aload_n hx hb dX1_clashOf_15 rfl (lv_at hl 0 rfl) ?_
      have hk_1 : kd u a0 = 1 := h.1
      have h := h.2
      refine g_getI X hw in_X1 hk_1 rfl 8 rfl (by decide) q481 (fun _ z => z) dX1_clashOf_16 ?_
      refine lv_icmp_ge (tgt := 74) hx hb dX1_clashOf_19 rfl (fun c_13 => ?_) (fun c_13 => ?_)
      · have h := h.1 c_13
        refine lv_bipush (v := (-2)) hx hb dX1_clashOf_74 (by decide) ?_
        exact g_iret X hw hr h (Nat.le_refl _) (Nat.le_refl _) dX1_clashOf_76
      · have h := h.2 c_13
        refine lv_aload_n hx hb dX1_clashOf_22 rfl (lv_at hl 1 rfl) ?_
        have hk_2 : isRu (kd u a1) := h.1
        have h := h.2
        obtain ⟨b_3, e_4, h⟩ := h
        refine g_getRu2R X hw hk_2 q450 e_4 dX1_clashOf_23 ?_
        refine lv_iload_n hx hb dX1_clashOf_26 rfl (lv_at hl 2 rfl) ?_
        have hk_5 : kd u b_3 = 101 := h.1
        have h := h.2
        refine g_iald X hw hk_5 h.1 dX1_clashOf_27 ?_
        have h := h.2
        refine lv_bipush (v := (-2)) hx hb dX1_clashOf_28 (by decide) ?_
        refine lv_icmp_ne (tgt := 36) hx hb dX1_clashOf_30 rfl (fun c_12 => ?_) (fun c_12 => ?_)
        · have h := h.2 c_12
          refine lv_aload_n hx hb dX1_clashOf_36 rfl (lv_at hl 0 rfl) ?_
          obtain ⟨b_6, e_7, h⟩ := h
          refine g_getR X hw in_X1 hk_1 rfl 9 rfl (by decide) q482 (fun _ z => z) e_7 dX1_clashOf_37 ?_
          refine lv_aload_n hx hb dX1_clashOf_40 rfl (lv_at hl 1 rfl) ?_
          refine g_getRu2R X hw hk_2 q450 e_4 dX1_clashOf_41 ?_
          refine lv_iload_n hx hb dX1_clashOf_44 rfl (lv_at hl 2 rfl) ?_
          refine g_iald X hw hk_5 h.1 dX1_clashOf_45 ?_
          have h := h.2
          have hk_8 : kd u b_6 = 4 := h.1
          have h := h.2
          refine g_callio hw (g_V X hw (mX4_isThere l G _ _ _ _ h) 1 (lw_V q1219 q1220 q1221 q128 q1222) rfl rfl ydX4_isThere ⟨Nat.le_of_ble_eq_true rfl, Nat.le_of_ble_eq_true rfl⟩ (g_recv X hw (ci := 3) (q := (RX4, TX4, 14)) hk_8 rfl) (As := [.int (AI u b_3 (tn x2))]) (rest := []) rfl hl.1 rfl (Nat.le_of_ble_eq_true rfl) dX1_clashOf_46 ⟨Nat.le_refl _, Nat.le_refl _⟩) (fun r_9 H locs h hw => ?_)
          refine lv_if_eq (tgt := 54) hx hb dX1_clashOf_49 rfl (fun c_11 => ?_) (fun c_11 => ?_)
          · have h := h.1 c_11
            refine lv_aload_n hx hb dX1_clashOf_54 rfl (lv_at hl 0 rfl) ?_
            refine g_getR X hw in_X1 hk_1 rfl 9 rfl (by decide) q482 (fun _ z => z) e_7 dX1_clashOf_55 ?_
            refine lv_aload_n hx hb dX1_clashOf_58 rfl (lv_at hl 1 rfl) ?_
            refine g_getRu2R X hw hk_2 q450 e_4 dX1_clashOf_59 ?_
            refine lv_iload_n hx hb dX1_clashOf_62 rfl (lv_at hl 2 rfl) ?_
            refine g_iald X hw hk_5 h.1 dX1_clashOf_63 ?_
            have h := h.2
            refine lv_iload_n hx hb dX1_clashOf_64 rfl (lv_at hl 2 rfl) ?_
            refine g_callv hw (g_V X hw (mX4_mark l G _ _ _ _ _ h) 2 (lw_V q1223 q1224 q1225 q128 q1226) rfl rfl ydX4_mark ⟨Nat.le_of_ble_eq_true rfl, Nat.le_of_ble_eq_true rfl⟩ (g_recv X hw (ci := 3) (q := (RX4, TX4, 14)) hk_8 rfl) (As := [.int (AI u b_3 (tn x2)), .int x2]) (rest := []) rfl hl.1 rfl (Nat.le_of_ble_eq_true rfl) dX1_clashOf_65 ⟨Nat.le_refl _, Nat.le_refl _⟩) (fun u_10 H locs h hw => ?_)
            refine lv_iinc (v := x2 + 1) (lv' := [(2, .int (x2 + 1)), (0, .ref a0), (1, .ref a1)]) hx hb dX1_clashOf_68 hl (k := 2) rfl rfl (by decide) rfl (fun ls hl => ?_)
            refine lv_goto (tgt := 14) hx hb dX1_clashOf_71 rfl ?_
            exact hJ14 _ _ _ _ _ h hw (lv_sub hl [1, 2, 0] rfl)
          · have h := h.2 c_11
            refine lv_iload_n hx hb dX1_clashOf_52 rfl (lv_at hl 2 rfl) ?_
            exact g_iret X hw hr h (Nat.le_refl _) (Nat.le_refl _) dX1_clashOf_53
        · have h := h.1 c_12
          refine lv_goto (tgt := 68) hx hb dX1_clashOf_33 rfl ?_
          refine lv_iinc (v := x2 + 1) (lv' := [(2, .int (x2 + 1)), (0, .ref a0), (1, .ref a1)]) hx hb dX1_clashOf_68 hl (k := 2) rfl rfl (by decide) rfl (fun ls hl => ?_)
          refine lv_goto (tgt := 14) hx hb dX1_clashOf_71 rfl ?_
          exact hJ14 _ _ _ _ _ h hw (lv_sub hl [1, 2, 0] rfl)
  exact key _ _ _ _ _ _ (Nat.lt_succ_self _) h0 hw hl
set_option maxHeartbeats 4000000 in
theorem mX1_clashOf (l : Launch) (G : GT) (u : Hp) (a0 : Nat) (a1 : Nat) (K : Int32 → Hp → Prop) (h : pX1_clashOf u a0 a1 K) : Met l yX1_clashOf (ws_ yX1_clashOf cX1_clashOf 3 (some .int)) (rmX1_clashOf 0 0) (va_Pc [.ref a0, .ref a1] (GB G u)) (va_Qi K (fun u t => GH G u t.heap) (GA G)) 0 0 (GA G) := by
  refine Met.ofW (cc := cX1_clashOf) (maxL := 3) (ret := (some .int)) (by decide) rfl ?_
  intro p e s m args below meth c s₁ B hml hv
  obtain ⟨rfl, hv⟩ := hv
  have X := Mc_of (own := RX1) B hml rfl hv
  have hw : GW G u s s.heap [] := ⟨hv.2.1, va_S.rf⟩
  have hr := B.returns
  obtain ⟨hx, hb, hml, hown, hts, -⟩ := id X
  have hl := lv_entry ([.ref a0, .ref a1]) (n := 3) (Nat.le_of_ble_eq_true rfl)
  rw [lg_entry_eq]
  generalize (lg_sl ([.ref a0, .ref a1]) ++ List.replicate (3 - (lg_sl ([.ref a0, .ref a1])).length) Slot.unset).toArray = ls at hl ⊢
  have hl : lv_has ls 3 [(0, .ref a0), (1, .ref a1)] := hl
  change W p l e (rmX1_clashOf 0 0) s m _ below meth c s.heap [] 0 0 (QI G below K _ s 0 0) (F0 m 0 ls [])
  unfold pX1_clashOf at h
  refine lv_aload_n hx hb dX1_clashOf_0 rfl (lv_at hl 0 rfl) ?_
  refine lv_aload_n hx hb dX1_clashOf_1 rfl (lv_at hl 1 rfl) ?_
  have hk_14 : kd u a0 = 1 := h.1
  have h := h.2
  refine g_callv hw (g_V X hw (mX1_lay l G _ _ _ _ h) 1 (lw_V q1082 q1084 qs30 q122 q1085) rfl rfl ydX1_lay ⟨Nat.le_of_ble_eq_true rfl, Nat.le_of_ble_eq_true rfl⟩ (g_recv X hw (ci := 0) (q := (RX1, TX1, 16)) hk_14 rfl) (As := [.ref a1]) (rest := []) rfl hl.1 rfl (Nat.le_of_ble_eq_true rfl) dX1_clashOf_2 ⟨Nat.le_refl _, Nat.le_refl _⟩) (fun u_15 H locs h hw => ?_)
  refine lv_aload_n hx hb dX1_clashOf_5 rfl (lv_at hl 0 rfl) ?_
  have hk_16 : kd u_15 a0 = 1 := h.1
  have h := h.2
  obtain ⟨b_17, e_18, h⟩ := h
  refine g_getR X hw in_X1 hk_16 rfl 9 rfl (by decide) q482 (fun _ z => z) e_18 dX1_clashOf_6 ?_
  have hk_19 : kd u_15 b_17 = 4 := h.1
  have h := h.2
  refine g_callv hw (g_V X hw (mX4_begin l G _ _ _ h) 0 (lw_V q1215 q1216 q1217 q128 q1218) rfl rfl ydX4_begin ⟨Nat.le_of_ble_eq_true rfl, Nat.le_of_ble_eq_true rfl⟩ (g_recv X hw (ci := 3) (q := (RX4, TX4, 14)) hk_19 rfl) (As := []) (rest := []) rfl hl.1 rfl (Nat.le_of_ble_eq_true rfl) dX1_clashOf_9 ⟨Nat.le_refl _, Nat.le_refl _⟩) (fun u_20 H locs h hw => ?_)
  refine lv_iconst (v := 0) hx hb dX1_clashOf_12 (by decide) ?_
  refine lv_istore_n (lv' := [(2, .int 0), (0, .ref a0), (1, .ref a1)]) hx hb dX1_clashOf_13 rfl hl (by decide) rfl (fun ls hl => ?_)
  exact wX1_clashOf_14 X hr  h hw (lv_sub hl [1, 2, 0] rfl)

/-! FifthCard.doesWork(LFifthCard$Rule;)Z -/
theorem ydX1_doesWork : yX1_doesWork.cls = "FifthCard" ∧ yX1_doesWork.cls ≠ "java/lang/invoke/MethodHandle" ∧ yX1_doesWork.cls ≠ "java/lang/invoke/VarHandle" ∧ (parseMethodDescriptor yX1_doesWork.desc).map (fun d => d.parameters.length) = some 1 := by decide +kernel
def rmX1_doesWork (mc ms : Nat) : Room := { frames := 7, cells := mc, slots := ms, locals := 174 }
set_option maxHeartbeats 4000000 in
theorem mX1_doesWork (l : Launch) (G : GT) (u : Hp) (a0 : Nat) (a1 : Nat) (K : Int32 → Hp → Prop) (h : pX1_doesWork u a0 a1 K) : Met l yX1_doesWork (ws_ yX1_doesWork cX1_doesWork 2 (some .boolean)) (rmX1_doesWork 0 0) (va_Pc [.ref a0, .ref a1] (GB G u)) (va_Qi K (fun u t => GH G u t.heap) (GA G)) 0 0 (GA G) := by
  refine Met.ofW (cc := cX1_doesWork) (maxL := 2) (ret := (some .boolean)) (by decide) rfl ?_
  intro p e s m args below meth c s₁ B hml hv
  obtain ⟨rfl, hv⟩ := hv
  have X := Mc_of (own := RX1) B hml rfl hv
  have hw : GW G u s s.heap [] := ⟨hv.2.1, va_S.rf⟩
  have hr := B.returns
  obtain ⟨hx, hb, hml, hown, hts, -⟩ := id X
  have hl := lv_entry ([.ref a0, .ref a1]) (n := 2) (Nat.le_of_ble_eq_true rfl)
  rw [lg_entry_eq]
  generalize (lg_sl ([.ref a0, .ref a1]) ++ List.replicate (2 - (lg_sl ([.ref a0, .ref a1])).length) Slot.unset).toArray = ls at hl ⊢
  have hl : lv_has ls 2 [(0, .ref a0), (1, .ref a1)] := hl
  change W p l e (rmX1_doesWork 0 0) s m _ below meth c s.heap [] 0 0 (QI G below K _ s 0 0) (F0 m 0 ls [])
  unfold pX1_doesWork at h
  refine lv_aload_n hx hb dX1_doesWork_0 rfl (lv_at hl 0 rfl) ?_
  refine lv_aload_n hx hb dX1_doesWork_1 rfl (lv_at hl 1 rfl) ?_
  have hk_1 : kd u a0 = 1 := h.1
  have h := h.2
  refine g_calli hw (g_V X hw (mX1_failsOf l G _ _ _ _ h) 1 (lw_V q1207 q1209 qs36 q122 q1210) rfl rfl ydX1_failsOf ⟨Nat.le_of_ble_eq_true rfl, Nat.le_of_ble_eq_true rfl⟩ (g_recv X hw (ci := 0) (q := (RX1, TX1, 16)) hk_1 rfl) (As := [.ref a1]) (rest := []) rfl hl.1 rfl (Nat.le_of_ble_eq_true rfl) dX1_doesWork_2 ⟨Nat.le_refl _, Nat.le_refl _⟩) (fun r_2 u_3 H locs h hw => ?_)
  refine lv_if_ne (tgt := 22) hx hb dX1_doesWork_5 rfl (fun c_8 => ?_) (fun c_8 => ?_)
  · have h := h.2 c_8
    refine lv_iconst (v := 0) hx hb dX1_doesWork_22 (by decide) ?_
    exact g_zret X hw hr rfl h (Nat.le_refl _) (Nat.le_refl _) dX1_doesWork_23
  · have h := h.1 c_8
    refine lv_aload_n hx hb dX1_doesWork_8 rfl (lv_at hl 0 rfl) ?_
    refine lv_aload_n hx hb dX1_doesWork_9 rfl (lv_at hl 1 rfl) ?_
    have hk_4 : kd u_3 a0 = 1 := h.1
    have h := h.2
    refine g_calli hw (g_V X hw (mX1_clashOf l G _ _ _ _ h) 1 (lw_V q1211 q1213 qs37 q122 q1214) rfl rfl ydX1_clashOf ⟨Nat.le_of_ble_eq_true rfl, Nat.le_of_ble_eq_true rfl⟩ (g_recv X hw (ci := 0) (q := (RX1, TX1, 16)) hk_4 rfl) (As := [.ref a1]) (rest := []) rfl hl.1 rfl (Nat.le_of_ble_eq_true rfl) dX1_doesWork_10 ⟨Nat.le_refl _, Nat.le_refl _⟩) (fun r_5 u_6 H locs h hw => ?_)
    refine lv_bipush (v := (-2)) hx hb dX1_doesWork_13 (by decide) ?_
    refine lv_icmp_ne (tgt := 22) hx hb dX1_doesWork_15 rfl (fun c_7 => ?_) (fun c_7 => ?_)
    · have h := h.2 c_7
      refine lv_iconst (v := 0) hx hb dX1_doesWork_22 (by decide) ?_
      exact g_zret X hw hr rfl h (Nat.le_refl _) (Nat.le_refl _) dX1_doesWork_23
    · have h := h.1 c_7
      refine lv_iconst (v := 1) hx hb dX1_doesWork_18 (by decide) ?_
      refine lv_goto (tgt := 23) hx hb dX1_doesWork_19 rfl ?_
      exact g_zret X hw hr rfl h (Nat.le_refl _) (Nat.le_refl _) dX1_doesWork_23

/-! FifthCard.works(I)I -/
theorem ydX1_works : yX1_works.cls = "FifthCard" ∧ yX1_works.cls ≠ "java/lang/invoke/MethodHandle" ∧ yX1_works.cls ≠ "java/lang/invoke/VarHandle" ∧ (parseMethodDescriptor yX1_works.desc).map (fun d => d.parameters.length) = some 1 := by decide +kernel
def rmX1_works (mc ms : Nat) : Room := { frames := 8, cells := mc, slots := ms, locals := 195 }
set_option maxHeartbeats 4000000 in
theorem mX1_works (l : Launch) (G : GT) (u : Hp) (a0 : Nat) (x1 : Int32) (K : Int32 → Hp → Prop) (h : pX1_works u a0 x1 K) : Met l yX1_works (ws_ yX1_works cX1_works 2 (some .int)) (rmX1_works 0 0) (va_Pc [.ref a0, .int x1] (GB G u)) (va_Qi K (fun u t => GH G u t.heap) (GA G)) 0 0 (GA G) := by
  refine Met.ofW (cc := cX1_works) (maxL := 2) (ret := (some .int)) (by decide) rfl ?_
  intro p e s m args below meth c s₁ B hml hv
  obtain ⟨rfl, hv⟩ := hv
  have X := Mc_of (own := RX1) B hml rfl hv
  have hw : GW G u s s.heap [] := ⟨hv.2.1, va_S.rf⟩
  have hr := B.returns
  obtain ⟨hx, hb, hml, hown, hts, -⟩ := id X
  have hl := lv_entry ([.ref a0, .int x1]) (n := 2) (Nat.le_of_ble_eq_true rfl)
  rw [lg_entry_eq]
  generalize (lg_sl ([.ref a0, .int x1]) ++ List.replicate (2 - (lg_sl ([.ref a0, .int x1])).length) Slot.unset).toArray = ls at hl ⊢
  have hl : lv_has ls 2 [(0, .ref a0), (1, .int x1)] := hl
  change W p l e (rmX1_works 0 0) s m _ below meth c s.heap [] 0 0 (QI G below K _ s 0 0) (F0 m 0 ls [])
  unfold pX1_works at h
  refine lv_aload_n hx hb dX1_works_0 rfl (lv_at hl 0 rfl) ?_
  have hk_1 : kd u a0 = 1 := h.1
  have h := h.2
  refine g_callv hw (g_V X hw (mX1_anew l G _ _ _ h) 0 (lw_V q535 q537 qs2 q122 q538) rfl rfl ydX1_anew ⟨Nat.le_of_ble_eq_true rfl, Nat.le_of_ble_eq_true rfl⟩ (g_recv X hw (ci := 0) (q := (RX1, TX1, 16)) hk_1 rfl) (As := []) (rest := []) rfl hl.1 rfl (Nat.le_of_ble_eq_true rfl) dX1_works_1 ⟨Nat.le_refl _, Nat.le_refl _⟩) (fun u_2 H locs h hw => ?_)
  refine lv_aload_n hx hb dX1_works_4 rfl (lv_at hl 0 rfl) ?_
  refine lv_iload_n hx hb dX1_works_5 rfl (lv_at hl 1 rfl) ?_
  have hk_3 : kd u_2 a0 = 1 := h.1
  have h := h.2
  refine g_callio hw (g_V X hw (mX1_isRule l G _ _ _ _ h) 1 (lw_V q1074 q1076 qs28 q122 q1077) rfl rfl ydX1_isRule ⟨Nat.le_of_ble_eq_true rfl, Nat.le_of_ble_eq_true rfl⟩ (g_recv X hw (ci := 0) (q := (RX1, TX1, 16)) hk_3 rfl) (As := [.int x1]) (rest := []) rfl hl.1 rfl (Nat.le_of_ble_eq_true rfl) dX1_works_6 ⟨Nat.le_refl _, Nat.le_refl _⟩) (fun r_4 H locs h hw => ?_)
  refine lv_if_eq (tgt := 36) hx hb dX1_works_9 rfl (fun c_19 => ?_) (fun c_19 => ?_)
  · have h := h.1 c_19
    refine lv_aload_n hx hb dX1_works_36 rfl (lv_at hl 0 rfl) ?_
    refine lv_iconst (v := 1) hx hb dX1_works_37 (by decide) ?_
    refine g_calli hw (g_V X hw (mX1_no l G _ _ _ _ h) 1 (lw_V q542 q544 qs3 q122 q545) rfl rfl ydX1_no ⟨Nat.le_of_ble_eq_true rfl, Nat.le_of_ble_eq_true rfl⟩ (g_recv X hw (ci := 0) (q := (RX1, TX1, 16)) hk_3 rfl) (As := [.int 1]) (rest := []) rfl hl.1 rfl (Nat.le_of_ble_eq_true rfl) dX1_works_38 ⟨Nat.le_refl _, Nat.le_refl _⟩) (fun r_5 u_6 H locs h hw => ?_)
    exact g_iret X hw hr h (Nat.le_refl _) (Nat.le_refl _) dX1_works_41
  · have h := h.2 c_19
    refine lv_aload_n hx hb dX1_works_12 rfl (lv_at hl 0 rfl) ?_
    refine lv_aload_n hx hb dX1_works_13 rfl (lv_at hl 0 rfl) ?_
    obtain ⟨b_7, e_8, h⟩ := h
    refine g_getR X hw in_X1 hk_3 rfl 3 rfl (by decide) q476 (fun _ z => z) e_8 dX1_works_14 ?_
    have hk_9 : kd u_2 b_7 = 17 := h.1
    have h := h.2
    obtain ⟨b_10, e_11, h⟩ := h
    refine g_getR X hw in_X20 hk_9 rfl 0 rfl (by decide) q559 (fun _ z => z) e_11 dX1_works_17 ?_
    refine lv_iload_n hx hb dX1_works_20 rfl (lv_at hl 1 rfl) ?_
    have hk_12 : kd u_2 b_10 = 106 ∨ kd u_2 b_10 = 107 := h.1
    have h := h.2
    obtain ⟨hi_15, b_13, e_14, h⟩ := h
    refine g_aald X hw hk_12 hi_15 e_14 dX1_works_21 ?_
    refine g_calli hw (g_V X hw (mX1_doesWork l G _ _ _ _ h) 1 (lw_V q1203 q1205 qs35 q122 q1206) rfl rfl ydX1_doesWork ⟨Nat.le_of_ble_eq_true rfl, Nat.le_of_ble_eq_true rfl⟩ (g_recv X hw (ci := 0) (q := (RX1, TX1, 16)) hk_3 rfl) (As := [.ref b_13]) (rest := []) rfl hl.1 rfl (Nat.le_of_ble_eq_true rfl) dX1_works_22 ⟨Nat.le_refl _, Nat.le_refl _⟩) (fun r_16 u_17 H locs h hw => ?_)
    refine lv_if_eq (tgt := 32) hx hb dX1_works_25 rfl (fun c_18 => ?_) (fun c_18 => ?_)
    · have h := h.1 c_18
      refine lv_iconst (v := 0) hx hb dX1_works_32 (by decide) ?_
      refine lv_goto (tgt := 41) hx hb dX1_works_33 rfl ?_
      exact g_iret X hw hr h (Nat.le_refl _) (Nat.le_refl _) dX1_works_41
    · have h := h.2 c_18
      refine lv_iconst (v := 1) hx hb dX1_works_28 (by decide) ?_
      refine lv_goto (tgt := 41) hx hb dX1_works_29 rfl ?_
      exact g_iret X hw hr h (Nat.le_refl _) (Nat.le_refl _) dX1_works_41

/-! FifthCardModel.clashNow()I -/
theorem ydX19_clashNow : yX19_clashNow.cls = "FifthCardModel" ∧ yX19_clashNow.cls ≠ "java/lang/invoke/MethodHandle" ∧ yX19_clashNow.cls ≠ "java/lang/invoke/VarHandle" ∧ (parseMethodDescriptor yX19_clashNow.desc).map (fun d => d.parameters.length) = some 0 := by decide +kernel
def rmX19_clashNow (mc ms : Nat) : Room := { frames := 1, cells := mc, slots := ms, locals := 22 }
set_option maxHeartbeats 4000000 in
theorem wX19_clashNow_2 {G : GT} {p : Program} {l : Launch} {e : Env} {s : State} {m : MethodId} {args : Array Value} {below : List Frame} {meth : Method} {c : Code} {H : Heap} {locs : List Loc} {ls : Array Slot} {a0 : Nat} {u : Hp} {x1 : Int32} {K : Int32 → Prop} (X : Mc G p s m args meth c RX19 cX19_clashNow 2) (hr : meth.sig.returnType = (some .int)) (h : jl1 (bX19_clashNow_2 K a0 u) x1) (hw : GW G u s H locs) (hl : lv_has ls 2 [(0, .ref a0), (1, .int x1)]) : W p l e (rmX19_clashNow 0 0) s m args below meth c H locs 0 0 (QI G below (fun r v => v = u ∧ K r) args s 0 0) (F0 m 2 ls []) := by
  obtain ⟨hx, hb, hml, hown, hts, -⟩ := id X
  obtain ⟨I, μ, h0, hs⟩ := h
  have key : ∀ (n : Nat) (x1 : Int32) (H : Heap) (locs : List Loc) (ls : Array Slot) , μ x1 < n → I x1 → GW G u s H locs → lv_has ls 2 [(0, .ref a0), (1, .int x1)] → W p l e (rmX19_clashNow 0 0) s m args below meth c H locs 0 0 (QI G below (fun r v => v = u ∧ K r) args s 0 0) (F0 m 2 ls []) := by
    intro n
    induction n with
    | zero =>
      intro x1 H locs ls hn
      exact absurd hn (Nat.not_lt_zero _)
    | succ n ih =>
      intro x1 H locs ls hn hI hw hl
      have h := hs x1 hI
      unfold bX19_clashNow_2 at h
      have hJ2 : ∀ (x1' : Int32) (H : Heap) (locs : List Loc) (ls : Array Slot) , (I x1' ∧ μ x1' < μ x1) → GW G u s H locs → lv_has ls 2 [(0, .ref a0), (1, .int x1')] → W p l e (rmX19_clashNow 0 0) s m args below meth c H locs 0 0 (QI G below (fun r v => v = u ∧ K r) args s 0 0) (F0 m 2 ls []) := fun x1' H locs ls h hw hl => ih x1' H locs ls (Nat.lt_of_lt_of_le h.2 (Nat.le_of_lt_succ hn)) h.1 hw hl
      refine lv_iload_n hx hb dX19_clashNow_2 rfl (lv_at hl 1 rfl) ?_
      refine lv_aload_n hx hb dX19_clashNow_3 rfl (lv_at hl 0 rfl) ?_
      have hk_1 : kd u a0 = 16 := h.1
      have h := h.2
      refine g_getI X hw in_X19 hk_1 rfl 17 rfl (by decide) q1468 (fun _ z => z) dX19_clashNow_4 ?_
      refine lv_icmp_ge (tgt := 43) hx hb dX19_clashNow_7 rfl (fun c_8 => ?_) (fun c_8 => ?_)
      · have h := h.1 c_8
        refine lv_bipush (v := (-2)) hx hb dX19_clashNow_43 (by decide) ?_
        exact g_iret X hw hr ⟨rfl, h⟩ (Nat.le_refl _) (Nat.le_refl _) dX19_clashNow_45
      · have h := h.2 c_8
        refine lv_aload_n hx hb dX19_clashNow_10 rfl (lv_at hl 0 rfl) ?_
        obtain ⟨b_2, e_3, h⟩ := h
        refine g_getR X hw in_X19 hk_1 rfl 25 rfl (by decide) q1476 (fun _ z => z) e_3 dX19_clashNow_11 ?_
        refine lv_iload_n hx hb dX19_clashNow_14 rfl (lv_at hl 1 rfl) ?_
        have hk_4 : kd u b_2 = 101 := h.1
        have h := h.2
        refine g_iald X hw hk_4 h.1 dX19_clashNow_15 ?_
        have h := h.2
        refine lv_bipush (v := (-2)) hx hb dX19_clashNow_16 (by decide) ?_
        refine lv_icmp_eq (tgt := 37) hx hb dX19_clashNow_18 rfl (fun c_7 => ?_) (fun c_7 => ?_)
        · have h := h.1 c_7
          refine lv_iinc (v := x1 + 1) (lv' := [(1, .int (x1 + 1)), (0, .ref a0)]) hx hb dX19_clashNow_37 hl (k := 1) rfl rfl (by decide) rfl (fun ls hl => ?_)
          refine lv_goto (tgt := 2) hx hb dX19_clashNow_40 rfl ?_
          exact hJ2 _ _ _ _ h hw (lv_sub hl [1, 0] rfl)
        · have h := h.2 c_7
          refine lv_aload_n hx hb dX19_clashNow_21 rfl (lv_at hl 0 rfl) ?_
          refine lv_aload_n hx hb dX19_clashNow_22 rfl (lv_at hl 0 rfl) ?_
          refine g_getR X hw in_X19 hk_1 rfl 25 rfl (by decide) q1476 (fun _ z => z) e_3 dX19_clashNow_23 ?_
          refine lv_iload_n hx hb dX19_clashNow_26 rfl (lv_at hl 1 rfl) ?_
          refine g_iald X hw hk_4 h.1 dX19_clashNow_27 ?_
          have h := h.2
          refine g_callio hw (g_V X hw (mX19_firstWith l G _ _ _ _ h) 1 (lw_V q2029 q2031 qs104 q143 q2032) rfl rfl ydX19_firstWith ⟨Nat.le_of_ble_eq_true rfl, Nat.le_of_ble_eq_true rfl⟩ (g_recv X hw (ci := 15) (q := (RX19, TX19, 46)) hk_1 rfl) (As := [.int (AI u b_2 (tn x1))]) (rest := []) rfl hl.1 rfl (Nat.le_of_ble_eq_true rfl) dX19_clashNow_28 ⟨Nat.le_refl _, Nat.le_refl _⟩) (fun r_5 H locs h hw => ?_)
          refine lv_iload_n hx hb dX19_clashNow_31 rfl (lv_at hl 1 rfl) ?_
          refine lv_icmp_ge (tgt := 37) hx hb dX19_clashNow_32 rfl (fun c_6 => ?_) (fun c_6 => ?_)
          · have h := h.1 c_6
            refine lv_iinc (v := x1 + 1) (lv' := [(1, .int (x1 + 1)), (0, .ref a0)]) hx hb dX19_clashNow_37 hl (k := 1) rfl rfl (by decide) rfl (fun ls hl => ?_)
            refine lv_goto (tgt := 2) hx hb dX19_clashNow_40 rfl ?_
            exact hJ2 _ _ _ _ h hw (lv_sub hl [1, 0] rfl)
          · have h := h.2 c_6
            refine lv_iload_n hx hb dX19_clashNow_35 rfl (lv_at hl 1 rfl) ?_
            exact g_iret X hw hr ⟨rfl, h⟩ (Nat.le_refl _) (Nat.le_refl _) dX19_clashNow_36
  exact key _ _ _ _ _ (Nat.lt_succ_self _) h0 hw hl
set_option maxHeartbeats 4000000 in
theorem mX19_clashNow (l : Launch) (G : GT) (u : Hp) (a0 : Nat) (K : Int32 → Prop) (h : pX19_clashNow u a0 K) : Met l yX19_clashNow (ws_ yX19_clashNow cX19_clashNow 2 (some .int)) (rmX19_clashNow 0 0) (va_Pc [.ref a0] (GB G u)) (va_Qi (fun r v => v = u ∧ K r) (fun u t => GH G u t.heap) (GA G)) 0 0 (GA G) := by
  refine Met.ofW (cc := cX19_clashNow) (maxL := 2) (ret := (some .int)) (by decide) rfl ?_
  intro p e s m args below meth c s₁ B hml hv
  obtain ⟨rfl, hv⟩ := hv
  have X := Mc_of (own := RX19) B hml rfl hv
  have hw : GW G u s s.heap [] := ⟨hv.2.1, va_S.rf⟩
  have hr := B.returns
  obtain ⟨hx, hb, hml, hown, hts, -⟩ := id X
  have hl := lv_entry ([.ref a0]) (n := 2) (Nat.le_of_ble_eq_true rfl)
  rw [lg_entry_eq]
  generalize (lg_sl ([.ref a0]) ++ List.replicate (2 - (lg_sl ([.ref a0])).length) Slot.unset).toArray = ls at hl ⊢
  have hl : lv_has ls 2 [(0, .ref a0)] := hl
  change W p l e (rmX19_clashNow 0 0) s m _ below meth c s.heap [] 0 0 (QI G below (fun r v => v = u ∧ K r) _ s 0 0) (F0 m 0 ls [])
  unfold pX19_clashNow at h
  refine lv_iconst (v := 0) hx hb dX19_clashNow_0 (by decide) ?_
  refine lv_istore_n (lv' := [(1, .int 0), (0, .ref a0)]) hx hb dX19_clashNow_1 rfl hl (by decide) rfl (fun ls hl => ?_)
  exact wX19_clashNow_2 X hr  h hw (lv_sub hl [1, 0] rfl)

/-! FifthCardModel.isWorking()Z -/
theorem ydX19_isWorking : yX19_isWorking.cls = "FifthCardModel" ∧ yX19_isWorking.cls ≠ "java/lang/invoke/MethodHandle" ∧ yX19_isWorking.cls ≠ "java/lang/invoke/VarHandle" ∧ (parseMethodDescriptor yX19_isWorking.desc).map (fun d => d.parameters.length) = some 0 := by decide +kernel
def rmX19_isWorking (mc ms : Nat) : Room := { frames := 2, cells := mc, slots := ms, locals := 43 }
set_option maxHeartbeats 4000000 in
theorem wX19_isWorking_2 {G : GT} {p : Program} {l : Launch} {e : Env} {s : State} {m : MethodId} {args : Array Value} {below : List Frame} {meth : Method} {c : Code} {H : Heap} {locs : List Loc} {ls : Array Slot} {a0 : Nat} {u : Hp} {x1 : Int32} {K : Int32 → Prop} (X : Mc G p s m args meth c RX19 cX19_isWorking 2) (hr : meth.sig.returnType = (some .boolean)) (h : jl1 (bX19_isWorking_2 K a0 u) x1) (hw : GW G u s H locs) (hl : lv_has ls 2 [(0, .ref a0), (1, .int x1)]) : W p l e (rmX19_isWorking 0 0) s m args below meth c H locs 0 0 (QI G below (fun r v => v = u ∧ K r) args s 0 0) (F0 m 2 ls []) := by
  obtain ⟨hx, hb, hml, hown, hts, -⟩ := id X
  obtain ⟨I, μ, h0, hs⟩ := h
  have key : ∀ (n : Nat) (x1 : Int32) (H : Heap) (locs : List Loc) (ls : Array Slot) , μ x1 < n → I x1 → GW G u s H locs → lv_has ls 2 [(0, .ref a0), (1, .int x1)] → W p l e (rmX19_isWorking 0 0) s m args below meth c H locs 0 0 (QI G below (fun r v => v = u ∧ K r) args s 0 0) (F0 m 2 ls []) := by
    intro n
    induction n with
    | zero =>
      intro x1 H locs ls hn
      exact absurd hn (Nat.not_lt_zero _)
    | succ n ih =>
      intro x1 H locs ls hn hI hw hl
      have h := hs x1 hI
      unfold bX19_isWorking_2 at h
      have hJ2 : ∀ (x1' : Int32) (H : Heap) (locs : List Loc) (ls : Array Slot) , (I x1' ∧ μ x1' < μ x1) → GW G u s H locs → lv_has ls 2 [(0, .ref a0), (1, .int x1')] → W p l e (rmX19_isWorking 0 0) s m args below meth c H locs 0 0 (QI G below (fun r v => v = u ∧ K r) args s 0 0) (F0 m 2 ls []) := fun x1' H locs ls h hw hl => ih x1' H locs ls (Nat.lt_of_lt_of_le h.2 (Nat.le_of_lt_succ hn)) h.1 hw hl
      refine lv_iload_n hx hb dX19_isWorking_2 rfl (lv_at hl 1 rfl) ?_
      refine lv_aload_n hx hb dX19_isWorking_3 rfl (lv_at hl 0 rfl) ?_
      have hk_1 : kd u a0 = 16 := h.1
      have h := h.2
      refine g_getI X hw in_X19 hk_1 rfl 17 rfl (by decide) q1468 (fun _ z => z) dX19_isWorking_4 ?_
      refine lv_icmp_ge (tgt := 29) hx hb dX19_isWorking_7 rfl (fun c_8 => ?_) (fun c_8 => ?_)
      · have h := h.1 c_8
        refine lv_aload_n hx hb dX19_isWorking_29 rfl (lv_at hl 0 rfl) ?_
        refine g_callio hw (g_V X hw (mX19_clashNow l G _ _ _ h) 0 (lw_V q2041 q2043 qs106 q143 q2044) rfl rfl ydX19_clashNow ⟨Nat.le_of_ble_eq_true rfl, Nat.le_of_ble_eq_true rfl⟩ (g_recv X hw (ci := 15) (q := (RX19, TX19, 46)) hk_1 rfl) (As := []) (rest := []) rfl hl.1 rfl (Nat.le_of_ble_eq_true rfl) dX19_isWorking_30 ⟨Nat.le_refl _, Nat.le_refl _⟩) (fun r_2 H locs h hw => ?_)
        refine lv_bipush (v := (-2)) hx hb dX19_isWorking_33 (by decide) ?_
        refine lv_icmp_ne (tgt := 42) hx hb dX19_isWorking_35 rfl (fun c_3 => ?_) (fun c_3 => ?_)
        · have h := h.2 c_3
          refine lv_iconst (v := 0) hx hb dX19_isWorking_42 (by decide) ?_
          exact g_zret X hw hr rfl ⟨rfl, h⟩ (Nat.le_refl _) (Nat.le_refl _) dX19_isWorking_43
        · have h := h.1 c_3
          refine lv_iconst (v := 1) hx hb dX19_isWorking_38 (by decide) ?_
          refine lv_goto (tgt := 43) hx hb dX19_isWorking_39 rfl ?_
          exact g_zret X hw hr rfl ⟨rfl, h⟩ (Nat.le_refl _) (Nat.le_refl _) dX19_isWorking_43
      · have h := h.2 c_8
        refine lv_aload_n hx hb dX19_isWorking_10 rfl (lv_at hl 0 rfl) ?_
        obtain ⟨b_4, e_5, h⟩ := h
        refine g_getR X hw in_X19 hk_1 rfl 25 rfl (by decide) q1476 (fun _ z => z) e_5 dX19_isWorking_11 ?_
        refine lv_iload_n hx hb dX19_isWorking_14 rfl (lv_at hl 1 rfl) ?_
        have hk_6 : kd u b_4 = 101 := h.1
        have h := h.2
        refine g_iald X hw hk_6 h.1 dX19_isWorking_15 ?_
        have h := h.2
        refine lv_bipush (v := (-2)) hx hb dX19_isWorking_16 (by decide) ?_
        refine lv_icmp_ne (tgt := 23) hx hb dX19_isWorking_18 rfl (fun c_7 => ?_) (fun c_7 => ?_)
        · have h := h.2 c_7
          refine lv_iinc (v := x1 + 1) (lv' := [(1, .int (x1 + 1)), (0, .ref a0)]) hx hb dX19_isWorking_23 hl (k := 1) rfl rfl (by decide) rfl (fun ls hl => ?_)
          refine lv_goto (tgt := 2) hx hb dX19_isWorking_26 rfl ?_
          exact hJ2 _ _ _ _ h hw (lv_sub hl [1, 0] rfl)
        · have h := h.1 c_7
          refine lv_iconst (v := 0) hx hb dX19_isWorking_21 (by decide) ?_
          exact g_zret X hw hr rfl ⟨rfl, h⟩ (Nat.le_refl _) (Nat.le_refl _) dX19_isWorking_22
  exact key _ _ _ _ _ (Nat.lt_succ_self _) h0 hw hl
set_option maxHeartbeats 4000000 in
theorem mX19_isWorking (l : Launch) (G : GT) (u : Hp) (a0 : Nat) (K : Int32 → Prop) (h : pX19_isWorking u a0 K) : Met l yX19_isWorking (ws_ yX19_isWorking cX19_isWorking 2 (some .boolean)) (rmX19_isWorking 0 0) (va_Pc [.ref a0] (GB G u)) (va_Qi (fun r v => v = u ∧ K r) (fun u t => GH G u t.heap) (GA G)) 0 0 (GA G) := by
  refine Met.ofW (cc := cX19_isWorking) (maxL := 2) (ret := (some .boolean)) (by decide) rfl ?_
  intro p e s m args below meth c s₁ B hml hv
  obtain ⟨rfl, hv⟩ := hv
  have X := Mc_of (own := RX19) B hml rfl hv
  have hw : GW G u s s.heap [] := ⟨hv.2.1, va_S.rf⟩
  have hr := B.returns
  obtain ⟨hx, hb, hml, hown, hts, -⟩ := id X
  have hl := lv_entry ([.ref a0]) (n := 2) (Nat.le_of_ble_eq_true rfl)
  rw [lg_entry_eq]
  generalize (lg_sl ([.ref a0]) ++ List.replicate (2 - (lg_sl ([.ref a0])).length) Slot.unset).toArray = ls at hl ⊢
  have hl : lv_has ls 2 [(0, .ref a0)] := hl
  change W p l e (rmX19_isWorking 0 0) s m _ below meth c s.heap [] 0 0 (QI G below (fun r v => v = u ∧ K r) _ s 0 0) (F0 m 0 ls [])
  unfold pX19_isWorking at h
  refine lv_iconst (v := 0) hx hb dX19_isWorking_0 (by decide) ?_
  refine lv_istore_n (lv' := [(1, .int 0), (0, .ref a0)]) hx hb dX19_isWorking_1 rfl hl (by decide) rfl (fun ls hl => ?_)
  exact wX19_isWorking_2 X hr  h hw (lv_sub hl [1, 0] rfl)

/-! FifthCardModel.works(I)I -/
theorem ydX19_works : yX19_works.cls = "FifthCardModel" ∧ yX19_works.cls ≠ "java/lang/invoke/MethodHandle" ∧ yX19_works.cls ≠ "java/lang/invoke/VarHandle" ∧ (parseMethodDescriptor yX19_works.desc).map (fun d => d.parameters.length) = some 1 := by decide +kernel
def rmX19_works (mc ms : Nat) : Room := { frames := 8, cells := mc, slots := ms, locals := 191 }
set_option maxHeartbeats 4000000 in
theorem mX19_works (l : Launch) (G : GT) (u : Hp) (a0 : Nat) (x1 : Int32) (K : Int32 → Hp → Prop) (h : pX19_works u a0 x1 K) : Met l yX19_works (ws_ yX19_works cX19_works 2 (some .int)) (rmX19_works 0 0) (va_Pc [.ref a0, .int x1] (GB G u)) (va_Qi K (fun u t => GH G u t.heap) (GA G)) 0 0 (GA G) := by
  refine Met.ofW (cc := cX19_works) (maxL := 2) (ret := (some .int)) (by decide) rfl ?_
  intro p e s m args below meth c s₁ B hml hv
  obtain ⟨rfl, hv⟩ := hv
  have X := Mc_of (own := RX19) B hml rfl hv
  have hw : GW G u s s.heap [] := ⟨hv.2.1, va_S.rf⟩
  have hr := B.returns
  obtain ⟨hx, hb, hml, hown, hts, -⟩ := id X
  have hl := lv_entry ([.ref a0, .int x1]) (n := 2) (Nat.le_of_ble_eq_true rfl)
  rw [lg_entry_eq]
  generalize (lg_sl ([.ref a0, .int x1]) ++ List.replicate (2 - (lg_sl ([.ref a0, .int x1])).length) Slot.unset).toArray = ls at hl ⊢
  have hl : lv_has ls 2 [(0, .ref a0), (1, .int x1)] := hl
  change W p l e (rmX19_works 0 0) s m _ below meth c s.heap [] 0 0 (QI G below K _ s 0 0) (F0 m 0 ls [])
  unfold pX19_works at h
  refine lv_aload_n hx hb dX19_works_0 rfl (lv_at hl 0 rfl) ?_
  refine lv_iconst (v := 0) hx hb dX19_works_1 (by decide) ?_
  have hk_1 : kd u a0 = 16 := h.1
  have h := h.2
  refine g_putI (v := 0) X hw in_X19 tyX19_ok nmX19 hk_1 rfl 0 rfl (by decide) q1451 (fun _ z => z) rfl rfl rfl dX19_works_2 (fun H locs hw => ?_)
  refine lv_aload_n hx hb dX19_works_5 rfl (lv_at hl 0 rfl) ?_
  refine lv_iload_n hx hb dX19_works_6 rfl (lv_at hl 1 rfl) ?_
  refine g_callio hw (g_V X hw (mX19_isRule l G _ _ _ _ h) 1 (lw_V q1940 q1942 qs84 q143 q1943) rfl rfl ydX19_isRule ⟨Nat.le_of_ble_eq_true rfl, Nat.le_of_ble_eq_true rfl⟩ (g_recv X hw (ci := 15) (q := (RX19, TX19, 46)) hk_1 rfl) (As := [.int x1]) (rest := []) rfl hl.1 rfl (Nat.le_of_ble_eq_true rfl) dX19_works_7 ⟨Nat.le_refl _, Nat.le_refl _⟩) (fun r_2 H locs h hw => ?_)
  refine lv_if_ne (tgt := 19) hx hb dX19_works_10 rfl (fun c_13 => ?_) (fun c_13 => ?_)
  · have h := h.2 c_13
    refine lv_aload_n hx hb dX19_works_19 rfl (lv_at hl 0 rfl) ?_
    refine lv_iload_n hx hb dX19_works_20 rfl (lv_at hl 1 rfl) ?_
    refine g_callv hw (g_V X hw (mX19_laysAll l G _ _ _ _ h) 1 (lw_V q2025 q2027 qs103 q143 q2028) rfl rfl ydX19_laysAll ⟨Nat.le_of_ble_eq_true rfl, Nat.le_of_ble_eq_true rfl⟩ (g_recv X hw (ci := 15) (q := (RX19, TX19, 46)) hk_1 rfl) (As := [.int x1]) (rest := []) rfl hl.1 rfl (Nat.le_of_ble_eq_true rfl) dX19_works_21 ⟨Nat.le_refl _, Nat.le_refl _⟩) (fun u_3 H locs h hw => ?_)
    refine lv_aload_n hx hb dX19_works_24 rfl (lv_at hl 0 rfl) ?_
    refine lv_aload_n hx hb dX19_works_25 rfl (lv_at hl 0 rfl) ?_
    have hk_4 : kd u_3 a0 = 16 := h.1
    have h := h.2
    refine g_callio hw (g_V X hw (mX19_isWorking l G _ _ _ h) 0 (lw_V q2037 q2039 qs105 q143 q2040) rfl rfl ydX19_isWorking ⟨Nat.le_of_ble_eq_true rfl, Nat.le_of_ble_eq_true rfl⟩ (g_recv X hw (ci := 15) (q := (RX19, TX19, 46)) hk_4 rfl) (As := []) (rest := [.ref a0]) rfl hl.1 rfl (Nat.le_of_ble_eq_true rfl) dX19_works_26 ⟨Nat.le_refl _, Nat.le_refl _⟩) (fun r_5 H locs h hw => ?_)
    refine lv_if_eq (tgt := 36) hx hb dX19_works_29 rfl (fun c_10 => ?_) (fun c_10 => ?_)
    · have h := h.1 c_10
      refine lv_iconst (v := 0) hx hb dX19_works_36 (by decide) ?_
      refine g_calli hw (g_V X hw (mX19_good l G _ _ _ _ h) 1 (lw_V q1867 q1869 qs77 q143 q1870) rfl rfl ydX19_good ⟨Nat.le_of_ble_eq_true rfl, Nat.le_of_ble_eq_true rfl⟩ (g_recv X hw (ci := 15) (q := (RX19, TX19, 46)) hk_4 rfl) (As := [.int 0]) (rest := []) rfl hl.1 rfl (Nat.le_of_ble_eq_true rfl) dX19_works_37 ⟨Nat.le_refl _, Nat.le_refl _⟩) (fun r_6 u_7 H locs h hw => ?_)
      exact g_iret X hw hr h (Nat.le_refl _) (Nat.le_refl _) dX19_works_40
    · have h := h.2 c_10
      refine lv_iconst (v := 1) hx hb dX19_works_32 (by decide) ?_
      refine lv_goto (tgt := 37) hx hb dX19_works_33 rfl ?_
      refine g_calli hw (g_V X hw (mX19_good l G _ _ _ _ h) 1 (lw_V q1867 q1869 qs77 q143 q1870) rfl rfl ydX19_good ⟨Nat.le_of_ble_eq_true rfl, Nat.le_of_ble_eq_true rfl⟩ (g_recv X hw (ci := 15) (q := (RX19, TX19, 46)) hk_4 rfl) (As := [.int 1]) (rest := []) rfl hl.1 rfl (Nat.le_of_ble_eq_true rfl) dX19_works_37 ⟨Nat.le_refl _, Nat.le_refl _⟩) (fun r_8 u_9 H locs h hw => ?_)
      exact g_iret X hw hr h (Nat.le_refl _) (Nat.le_refl _) dX19_works_40
  · have h := h.1 c_13
    refine lv_aload_n hx hb dX19_works_13 rfl (lv_at hl 0 rfl) ?_
    refine lv_iconst (v := 1) hx hb dX19_works_14 (by decide) ?_
    refine g_calli hw (g_V X hw (mX19_refused l G _ _ _ _ h) 1 (lw_V q1603 q1605 qs47 q143 q1606) rfl rfl ydX19_refused ⟨Nat.le_of_ble_eq_true rfl, Nat.le_of_ble_eq_true rfl⟩ (g_recv X hw (ci := 15) (q := (RX19, TX19, 46)) hk_1 rfl) (As := [.int 1]) (rest := []) rfl hl.1 rfl (Nat.le_of_ble_eq_true rfl) dX19_works_15 ⟨Nat.le_refl _, Nat.le_refl _⟩) (fun r_11 u_12 H locs h hw => ?_)
    exact g_iret X hw hr h (Nat.le_refl _) (Nat.le_refl _) dX19_works_18

/-! FifthCard$Pairing.markOf(I)I -/
theorem ydX4_markOf : yX4_markOf.cls = "FifthCard$Pairing" ∧ yX4_markOf.cls ≠ "java/lang/invoke/MethodHandle" ∧ yX4_markOf.cls ≠ "java/lang/invoke/VarHandle" ∧ (parseMethodDescriptor yX4_markOf.desc).map (fun d => d.parameters.length) = some 1 := by decide +kernel
def rmX4_markOf (mc ms : Nat) : Room := { frames := 0, cells := mc, slots := ms, locals := 0 }
set_option maxHeartbeats 4000000 in
theorem mX4_markOf (l : Launch) (G : GT) (u : Hp) (a0 : Nat) (x1 : Int32) (K : Int32 → Prop) (h : pX4_markOf u a0 x1 K) : Met l yX4_markOf (ws_ yX4_markOf cX4_markOf 2 (some .int)) (rmX4_markOf 0 0) (va_Pc [.ref a0, .int x1] (GB G u)) (va_Qi (fun r v => v = u ∧ K r) (fun u t => GH G u t.heap) (GA G)) 0 0 (GA G) := by
  refine Met.ofW (cc := cX4_markOf) (maxL := 2) (ret := (some .int)) (by decide) rfl ?_
  intro p e s m args below meth c s₁ B hml hv
  obtain ⟨rfl, hv⟩ := hv
  have X := Mc_of (own := RX4) B hml rfl hv
  have hw : GW G u s s.heap [] := ⟨hv.2.1, va_S.rf⟩
  have hr := B.returns
  obtain ⟨hx, hb, hml, hown, hts, -⟩ := id X
  have hl := lv_entry ([.ref a0, .int x1]) (n := 2) (Nat.le_of_ble_eq_true rfl)
  rw [lg_entry_eq]
  generalize (lg_sl ([.ref a0, .int x1]) ++ List.replicate (2 - (lg_sl ([.ref a0, .int x1])).length) Slot.unset).toArray = ls at hl ⊢
  have hl : lv_has ls 2 [(0, .ref a0), (1, .int x1)] := hl
  change W p l e (rmX4_markOf 0 0) s m _ below meth c s.heap [] 0 0 (QI G below (fun r v => v = u ∧ K r) _ s 0 0) (F0 m 0 ls [])
  unfold pX4_markOf at h
  refine lv_aload_n hx hb dX4_markOf_0 rfl (lv_at hl 0 rfl) ?_
  have hk_1 : kd u a0 = 4 := h.1
  have h := h.2
  obtain ⟨b_2, e_3, h⟩ := h
  refine g_getR X hw in_X4 hk_1 rfl 3 rfl (by decide) q291 (fun _ z => z) e_3 dX4_markOf_1 ?_
  refine lv_iload_n hx hb dX4_markOf_4 rfl (lv_at hl 1 rfl) ?_
  have hk_4 : kd u b_2 = 101 := h.1
  have h := h.2
  refine g_iald X hw hk_4 h.1 dX4_markOf_5 ?_
  have h := h.2
  exact g_iret X hw hr ⟨rfl, h⟩ (Nat.le_refl _) (Nat.le_refl _) dX4_markOf_6

/-! FifthCard.clash(IZ)I -/
theorem ydX1_clash : yX1_clash.cls = "FifthCard" ∧ yX1_clash.cls ≠ "java/lang/invoke/MethodHandle" ∧ yX1_clash.cls ≠ "java/lang/invoke/VarHandle" ∧ (parseMethodDescriptor yX1_clash.desc).map (fun d => d.parameters.length) = some 2 := by decide +kernel
def rmX1_clash (mc ms : Nat) : Room := { frames := 7, cells := mc, slots := ms, locals := 173 }
set_option maxHeartbeats 4000000 in
theorem mX1_clash (l : Launch) (G : GT) (u : Hp) (a0 : Nat) (x1 : Int32) (x2 : Int32) (K : Int32 → Hp → Prop) (h : pX1_clash u a0 x1 x2 K) : Met l yX1_clash (ws_ yX1_clash cX1_clash 4 (some .int)) (rmX1_clash 0 0) (va_Pc [.ref a0, .int x1, .int x2] (GB G u)) (va_Qi K (fun u t => GH G u t.heap) (GA G)) 0 0 (GA G) := by
  refine Met.ofW (cc := cX1_clash) (maxL := 4) (ret := (some .int)) (by decide) rfl ?_
  intro p e s m args below meth c s₁ B hml hv
  obtain ⟨rfl, hv⟩ := hv
  have X := Mc_of (own := RX1) B hml rfl hv
  have hw : GW G u s s.heap [] := ⟨hv.2.1, va_S.rf⟩
  have hr := B.returns
  obtain ⟨hx, hb, hml, hown, hts, -⟩ := id X
  have hl := lv_entry ([.ref a0, .int x1, .int x2]) (n := 4) (Nat.le_of_ble_eq_true rfl)
  rw [lg_entry_eq]
  generalize (lg_sl ([.ref a0, .int x1, .int x2]) ++ List.replicate (4 - (lg_sl ([.ref a0, .int x1, .int x2])).length) Slot.unset).toArray = ls at hl ⊢
  have hl : lv_has ls 4 [(0, .ref a0), (1, .int x1), (2, .int x2)] := hl
  change W p l e (rmX1_clash 0 0) s m _ below meth c s.heap [] 0 0 (QI G below K _ s 0 0) (F0 m 0 ls [])
  unfold pX1_clash at h
  refine lv_aload_n hx hb dX1_clash_0 rfl (lv_at hl 0 rfl) ?_
  have hk_1 : kd u a0 = 1 := h.1
  have h := h.2
  refine g_callv hw (g_V X hw (mX1_anew l G _ _ _ h) 0 (lw_V q535 q537 qs2 q122 q538) rfl rfl ydX1_anew ⟨Nat.le_of_ble_eq_true rfl, Nat.le_of_ble_eq_true rfl⟩ (g_recv X hw (ci := 0) (q := (RX1, TX1, 16)) hk_1 rfl) (As := []) (rest := []) rfl hl.1 rfl (Nat.le_of_ble_eq_true rfl) dX1_clash_1 ⟨Nat.le_refl _, Nat.le_refl _⟩) (fun u_2 H locs h hw => ?_)
  refine lv_aload_n hx hb dX1_clash_4 rfl (lv_at hl 0 rfl) ?_
  refine lv_iload_n hx hb dX1_clash_5 rfl (lv_at hl 1 rfl) ?_
  have hk_3 : kd u_2 a0 = 1 := h.1
  have h := h.2
  refine g_callio hw (g_V X hw (mX1_isRule l G _ _ _ _ h) 1 (lw_V q1074 q1076 qs28 q122 q1077) rfl rfl ydX1_isRule ⟨Nat.le_of_ble_eq_true rfl, Nat.le_of_ble_eq_true rfl⟩ (g_recv X hw (ci := 0) (q := (RX1, TX1, 16)) hk_3 rfl) (As := [.int x1]) (rest := []) rfl hl.1 rfl (Nat.le_of_ble_eq_true rfl) dX1_clash_6 ⟨Nat.le_refl _, Nat.le_refl _⟩) (fun r_4 H locs h hw => ?_)
  refine lv_if_ne (tgt := 18) hx hb dX1_clash_9 rfl (fun c_38 => ?_) (fun c_38 => ?_)
  · have h := h.2 c_38
    refine lv_aload_n hx hb dX1_clash_18 rfl (lv_at hl 0 rfl) ?_
    refine lv_aload_n hx hb dX1_clash_19 rfl (lv_at hl 0 rfl) ?_
    obtain ⟨b_5, e_6, h⟩ := h
    refine g_getR X hw in_X1 hk_3 rfl 3 rfl (by decide) q476 (fun _ z => z) e_6 dX1_clash_20 ?_
    have hk_7 : kd u_2 b_5 = 17 := h.1
    have h := h.2
    obtain ⟨b_8, e_9, h⟩ := h
    refine g_getR X hw in_X20 hk_7 rfl 0 rfl (by decide) q559 (fun _ z => z) e_9 dX1_clash_23 ?_
    refine lv_iload_n hx hb dX1_clash_26 rfl (lv_at hl 1 rfl) ?_
    have hk_10 : kd u_2 b_8 = 106 ∨ kd u_2 b_8 = 107 := h.1
    have h := h.2
    obtain ⟨hi_13, b_11, e_12, h⟩ := h
    refine g_aald X hw hk_10 hi_13 e_12 dX1_clash_27 ?_
    refine g_calli hw (g_V X hw (mX1_clashOf l G _ _ _ _ h) 1 (lw_V q1211 q1213 qs37 q122 q1214) rfl rfl ydX1_clashOf ⟨Nat.le_of_ble_eq_true rfl, Nat.le_of_ble_eq_true rfl⟩ (g_recv X hw (ci := 0) (q := (RX1, TX1, 16)) hk_3 rfl) (As := [.ref b_11]) (rest := []) rfl hl.1 rfl (Nat.le_of_ble_eq_true rfl) dX1_clash_28 ⟨Nat.le_refl _, Nat.le_refl _⟩) (fun r_14 u_15 H locs h hw => ?_)
    refine lv_istore_n (lv' := [(3, .int r_14), (0, .ref a0), (1, .int x1), (2, .int x2)]) hx hb dX1_clash_31 rfl hl (by decide) rfl (fun ls hl => ?_)
    refine lv_iload_n hx hb dX1_clash_32 rfl (lv_at hl 0 rfl) ?_
    refine lv_bipush (v := (-2)) hx hb dX1_clash_33 (by decide) ?_
    refine lv_icmp_eq (tgt := 42) hx hb dX1_clash_35 rfl (fun c_35 => ?_) (fun c_35 => ?_)
    · have h := h.1 c_35
      refine lv_iload_n hx hb dX1_clash_42 rfl (lv_at hl 0 rfl) ?_
      refine lv_goto (tgt := 67) hx hb dX1_clash_43 rfl ?_
      exact g_iret X hw hr h (Nat.le_refl _) (Nat.le_refl _) dX1_clash_67
    · have h := h.2 c_35
      refine lv_iload_n hx hb dX1_clash_38 rfl (lv_at hl 3 rfl) ?_
      refine lv_if_ne (tgt := 46) hx hb dX1_clash_39 rfl (fun c_34 => ?_) (fun c_34 => ?_)
      · have h := h.2 c_34
        refine lv_aload_n hx hb dX1_clash_46 rfl (lv_at hl 1 rfl) ?_
        have hk_16 : kd u_15 a0 = 1 := h.1
        have h := h.2
        obtain ⟨b_17, e_18, h⟩ := h
        refine g_getR X hw in_X1 hk_16 rfl 9 rfl (by decide) q482 (fun _ z => z) e_18 dX1_clash_47 ?_
        refine lv_aload_n hx hb dX1_clash_50 rfl (lv_at hl 1 rfl) ?_
        obtain ⟨b_19, e_20, h⟩ := h
        refine g_getR X hw in_X1 hk_16 rfl 3 rfl (by decide) q476 (fun _ z => z) e_20 dX1_clash_51 ?_
        have hk_21 : kd u_15 b_19 = 17 := h.1
        have h := h.2
        obtain ⟨b_22, e_23, h⟩ := h
        refine g_getR X hw in_X20 hk_21 rfl 0 rfl (by decide) q559 (fun _ z => z) e_23 dX1_clash_54 ?_
        refine lv_iload_n hx hb dX1_clash_57 rfl (lv_at hl 2 rfl) ?_
        have hk_24 : kd u_15 b_22 = 106 ∨ kd u_15 b_22 = 107 := h.1
        have h := h.2
        obtain ⟨hi_27, b_25, e_26, h⟩ := h
        refine g_aald X hw hk_24 hi_27 e_26 dX1_clash_58 ?_
        have hk_28 : isRu (kd u_15 b_25) := h.1
        have h := h.2
        obtain ⟨b_29, e_30, h⟩ := h
        refine g_getRu2R X hw hk_28 q450 e_30 dX1_clash_59 ?_
        refine lv_iload_n hx hb dX1_clash_62 rfl (lv_at hl 0 rfl) ?_
        have hk_31 : kd u_15 b_29 = 101 := h.1
        have h := h.2
        refine g_iald X hw hk_31 h.1 dX1_clash_63 ?_
        have h := h.2
        have hk_32 : kd u_15 b_17 = 4 := h.1
        have h := h.2
        refine g_callio hw (g_V X hw (mX4_markOf l G _ _ _ _ h) 1 (lw_V q1231 q1232 q1233 q128 q1234) rfl rfl ydX4_markOf ⟨Nat.le_of_ble_eq_true rfl, Nat.le_of_ble_eq_true rfl⟩ (g_recv X hw (ci := 3) (q := (RX4, TX4, 14)) hk_32 rfl) (As := [.int (AI u_15 b_29 (tn r_14))]) (rest := []) rfl hl.1 rfl (Nat.le_of_ble_eq_true rfl) dX1_clash_64 ⟨Nat.le_refl _, Nat.le_refl _⟩) (fun r_33 H locs h hw => ?_)
        exact g_iret X hw hr h (Nat.le_refl _) (Nat.le_refl _) dX1_clash_67
      · have h := h.1 c_34
        refine lv_iload_n hx hb dX1_clash_42 rfl (lv_at hl 0 rfl) ?_
        refine lv_goto (tgt := 67) hx hb dX1_clash_43 rfl ?_
        exact g_iret X hw hr h (Nat.le_refl _) (Nat.le_refl _) dX1_clash_67
  · have h := h.1 c_38
    refine lv_aload_n hx hb dX1_clash_12 rfl (lv_at hl 0 rfl) ?_
    refine lv_iconst (v := 1) hx hb dX1_clash_13 (by decide) ?_
    refine g_calli hw (g_V X hw (mX1_no l G _ _ _ _ h) 1 (lw_V q542 q544 qs3 q122 q545) rfl rfl ydX1_no ⟨Nat.le_of_ble_eq_true rfl, Nat.le_of_ble_eq_true rfl⟩ (g_recv X hw (ci := 0) (q := (RX1, TX1, 16)) hk_3 rfl) (As := [.int 1]) (rest := []) rfl hl.1 rfl (Nat.le_of_ble_eq_true rfl) dX1_clash_14 ⟨Nat.le_refl _, Nat.le_refl _⟩) (fun r_36 u_37 H locs h hw => ?_)
    exact g_iret X hw hr h (Nat.le_refl _) (Nat.le_refl _) dX1_clash_17

/-! FifthCardModel.clash(IZ)I -/
theorem ydX19_clash : yX19_clash.cls = "FifthCardModel" ∧ yX19_clash.cls ≠ "java/lang/invoke/MethodHandle" ∧ yX19_clash.cls ≠ "java/lang/invoke/VarHandle" ∧ (parseMethodDescriptor yX19_clash.desc).map (fun d => d.parameters.length) = some 2 := by decide +kernel
def rmX19_clash (mc ms : Nat) : Room := { frames := 8, cells := mc, slots := ms, locals := 191 }
set_option maxHeartbeats 4000000 in
theorem mX19_clash (l : Launch) (G : GT) (u : Hp) (a0 : Nat) (x1 : Int32) (x2 : Int32) (K : Int32 → Hp → Prop) (h : pX19_clash u a0 x1 x2 K) : Met l yX19_clash (ws_ yX19_clash cX19_clash 4 (some .int)) (rmX19_clash 0 0) (va_Pc [.ref a0, .int x1, .int x2] (GB G u)) (va_Qi K (fun u t => GH G u t.heap) (GA G)) 0 0 (GA G) := by
  refine Met.ofW (cc := cX19_clash) (maxL := 4) (ret := (some .int)) (by decide) rfl ?_
  intro p e s m args below meth c s₁ B hml hv
  obtain ⟨rfl, hv⟩ := hv
  have X := Mc_of (own := RX19) B hml rfl hv
  have hw : GW G u s s.heap [] := ⟨hv.2.1, va_S.rf⟩
  have hr := B.returns
  obtain ⟨hx, hb, hml, hown, hts, -⟩ := id X
  have hl := lv_entry ([.ref a0, .int x1, .int x2]) (n := 4) (Nat.le_of_ble_eq_true rfl)
  rw [lg_entry_eq]
  generalize (lg_sl ([.ref a0, .int x1, .int x2]) ++ List.replicate (4 - (lg_sl ([.ref a0, .int x1, .int x2])).length) Slot.unset).toArray = ls at hl ⊢
  have hl : lv_has ls 4 [(0, .ref a0), (1, .int x1), (2, .int x2)] := hl
  change W p l e (rmX19_clash 0 0) s m _ below meth c s.heap [] 0 0 (QI G below K _ s 0 0) (F0 m 0 ls [])
  unfold pX19_clash at h
  refine lv_aload_n hx hb dX19_clash_0 rfl (lv_at hl 0 rfl) ?_
  refine lv_iconst (v := 0) hx hb dX19_clash_1 (by decide) ?_
  have hk_1 : kd u a0 = 16 := h.1
  have h := h.2
  refine g_putI (v := 0) X hw in_X19 tyX19_ok nmX19 hk_1 rfl 0 rfl (by decide) q1451 (fun _ z => z) rfl rfl rfl dX19_clash_2 (fun H locs hw => ?_)
  refine lv_aload_n hx hb dX19_clash_5 rfl (lv_at hl 0 rfl) ?_
  refine lv_iload_n hx hb dX19_clash_6 rfl (lv_at hl 1 rfl) ?_
  refine g_callio hw (g_V X hw (mX19_isRule l G _ _ _ _ h) 1 (lw_V q1940 q1942 qs84 q143 q1943) rfl rfl ydX19_isRule ⟨Nat.le_of_ble_eq_true rfl, Nat.le_of_ble_eq_true rfl⟩ (g_recv X hw (ci := 15) (q := (RX19, TX19, 46)) hk_1 rfl) (As := [.int x1]) (rest := []) rfl hl.1 rfl (Nat.le_of_ble_eq_true rfl) dX19_clash_7 ⟨Nat.le_refl _, Nat.le_refl _⟩) (fun r_2 H locs h hw => ?_)
  refine lv_if_ne (tgt := 19) hx hb dX19_clash_10 rfl (fun c_20 => ?_) (fun c_20 => ?_)
  · have h := h.2 c_20
    refine lv_aload_n hx hb dX19_clash_19 rfl (lv_at hl 0 rfl) ?_
    refine lv_iload_n hx hb dX19_clash_20 rfl (lv_at hl 1 rfl) ?_
    refine g_callv hw (g_V X hw (mX19_laysAll l G _ _ _ _ h) 1 (lw_V q2025 q2027 qs103 q143 q2028) rfl rfl ydX19_laysAll ⟨Nat.le_of_ble_eq_true rfl, Nat.le_of_ble_eq_true rfl⟩ (g_recv X hw (ci := 15) (q := (RX19, TX19, 46)) hk_1 rfl) (As := [.int x1]) (rest := []) rfl hl.1 rfl (Nat.le_of_ble_eq_true rfl) dX19_clash_21 ⟨Nat.le_refl _, Nat.le_refl _⟩) (fun u_3 H locs h hw => ?_)
    refine lv_aload_n hx hb dX19_clash_24 rfl (lv_at hl 0 rfl) ?_
    have hk_4 : kd u_3 a0 = 16 := h.1
    have h := h.2
    refine g_callio hw (g_V X hw (mX19_clashNow l G _ _ _ h) 0 (lw_V q2041 q2043 qs106 q143 q2044) rfl rfl ydX19_clashNow ⟨Nat.le_of_ble_eq_true rfl, Nat.le_of_ble_eq_true rfl⟩ (g_recv X hw (ci := 15) (q := (RX19, TX19, 46)) hk_4 rfl) (As := []) (rest := []) rfl hl.1 rfl (Nat.le_of_ble_eq_true rfl) dX19_clash_25 ⟨Nat.le_refl _, Nat.le_refl _⟩) (fun r_5 H locs h hw => ?_)
    refine lv_istore_n (lv' := [(3, .int r_5), (0, .ref a0), (1, .int x1), (2, .int x2)]) hx hb dX19_clash_28 rfl hl (by decide) rfl (fun ls hl => ?_)
    refine lv_aload_n hx hb dX19_clash_29 rfl (lv_at hl 1 rfl) ?_
    refine lv_iload_n hx hb dX19_clash_30 rfl (lv_at hl 0 rfl) ?_
    refine lv_bipush (v := (-2)) hx hb dX19_clash_31 (by decide) ?_
    refine lv_icmp_eq (tgt := 40) hx hb dX19_clash_33 rfl (fun c_17 => ?_) (fun c_17 => ?_)
    · have h := h.1 c_17
      refine lv_iload_n hx hb dX19_clash_40 rfl (lv_at hl 0 rfl) ?_
      refine lv_goto (tgt := 54) hx hb dX19_clash_41 rfl ?_
      refine g_calli hw (g_V X hw (mX19_good l G _ _ _ _ h) 1 (lw_V q1867 q1869 qs77 q143 q1870) rfl rfl ydX19_good ⟨Nat.le_of_ble_eq_true rfl, Nat.le_of_ble_eq_true rfl⟩ (g_recv X hw (ci := 15) (q := (RX19, TX19, 46)) hk_4 rfl) (As := [.int r_5]) (rest := []) rfl hl.1 rfl (Nat.le_of_ble_eq_true rfl) dX19_clash_54 ⟨Nat.le_refl _, Nat.le_refl _⟩) (fun r_6 u_7 H locs h hw => ?_)
      exact g_iret X hw hr h (Nat.le_refl _) (Nat.le_refl _) dX19_clash_57
    · have h := h.2 c_17
      refine lv_iload_n hx hb dX19_clash_36 rfl (lv_at hl 3 rfl) ?_
      refine lv_if_ne (tgt := 44) hx hb dX19_clash_37 rfl (fun c_16 => ?_) (fun c_16 => ?_)
      · have h := h.2 c_16
        refine lv_aload_n hx hb dX19_clash_44 rfl (lv_at hl 1 rfl) ?_
        refine lv_aload_n hx hb dX19_clash_45 rfl (lv_at hl 1 rfl) ?_
        obtain ⟨b_8, e_9, h⟩ := h
        refine g_getR X hw in_X19 hk_4 rfl 25 rfl (by decide) q1476 (fun _ z => z) e_9 dX19_clash_46 ?_
        refine lv_iload_n hx hb dX19_clash_49 rfl (lv_at hl 0 rfl) ?_
        have hk_10 : kd u_3 b_8 = 101 := h.1
        have h := h.2
        refine g_iald X hw hk_10 h.1 dX19_clash_50 ?_
        have h := h.2
        refine g_callio hw (g_V X hw (mX19_firstWith l G _ _ _ _ h) 1 (lw_V q2029 q2031 qs104 q143 q2032) rfl rfl ydX19_firstWith ⟨Nat.le_of_ble_eq_true rfl, Nat.le_of_ble_eq_true rfl⟩ (g_recv X hw (ci := 15) (q := (RX19, TX19, 46)) hk_4 rfl) (As := [.int (AI u_3 b_8 (tn r_5))]) (rest := [.ref a0]) rfl hl.1 rfl (Nat.le_of_ble_eq_true rfl) dX19_clash_51 ⟨Nat.le_refl _, Nat.le_refl _⟩) (fun r_11 H locs h hw => ?_)
        refine g_calli hw (g_V X hw (mX19_good l G _ _ _ _ h) 1 (lw_V q1867 q1869 qs77 q143 q1870) rfl rfl ydX19_good ⟨Nat.le_of_ble_eq_true rfl, Nat.le_of_ble_eq_true rfl⟩ (g_recv X hw (ci := 15) (q := (RX19, TX19, 46)) hk_4 rfl) (As := [.int r_11]) (rest := []) rfl hl.1 rfl (Nat.le_of_ble_eq_true rfl) dX19_clash_54 ⟨Nat.le_refl _, Nat.le_refl _⟩) (fun r_12 u_13 H locs h hw => ?_)
        exact g_iret X hw hr h (Nat.le_refl _) (Nat.le_refl _) dX19_clash_57
      · have h := h.1 c_16
        refine lv_iload_n hx hb dX19_clash_40 rfl (lv_at hl 0 rfl) ?_
        refine lv_goto (tgt := 54) hx hb dX19_clash_41 rfl ?_
        refine g_calli hw (g_V X hw (mX19_good l G _ _ _ _ h) 1 (lw_V q1867 q1869 qs77 q143 q1870) rfl rfl ydX19_good ⟨Nat.le_of_ble_eq_true rfl, Nat.le_of_ble_eq_true rfl⟩ (g_recv X hw (ci := 15) (q := (RX19, TX19, 46)) hk_4 rfl) (As := [.int r_5]) (rest := []) rfl hl.1 rfl (Nat.le_of_ble_eq_true rfl) dX19_clash_54 ⟨Nat.le_refl _, Nat.le_refl _⟩) (fun r_14 u_15 H locs h hw => ?_)
        exact g_iret X hw hr h (Nat.le_refl _) (Nat.le_refl _) dX19_clash_57
  · have h := h.1 c_20
    refine lv_aload_n hx hb dX19_clash_13 rfl (lv_at hl 0 rfl) ?_
    refine lv_iconst (v := 1) hx hb dX19_clash_14 (by decide) ?_
    refine g_calli hw (g_V X hw (mX19_refused l G _ _ _ _ h) 1 (lw_V q1603 q1605 qs47 q143 q1606) rfl rfl ydX19_refused ⟨Nat.le_of_ble_eq_true rfl, Nat.le_of_ble_eq_true rfl⟩ (g_recv X hw (ci := 15) (q := (RX19, TX19, 46)) hk_1 rfl) (As := [.int 1]) (rest := []) rfl hl.1 rfl (Nat.le_of_ble_eq_true rfl) dX19_clash_15 ⟨Nat.le_refl _, Nat.le_refl _⟩) (fun r_18 u_19 H locs h hw => ?_)
    exact g_iret X hw hr h (Nat.le_refl _) (Nat.le_refl _) dX19_clash_18

/-! FifthCard.laid(I)I -/
theorem ydX1_laid : yX1_laid.cls = "FifthCard" ∧ yX1_laid.cls ≠ "java/lang/invoke/MethodHandle" ∧ yX1_laid.cls ≠ "java/lang/invoke/VarHandle" ∧ (parseMethodDescriptor yX1_laid.desc).map (fun d => d.parameters.length) = some 1 := by decide +kernel
def rmX1_laid (mc ms : Nat) : Room := { frames := 6, cells := mc, slots := ms, locals := 151 }
set_option maxHeartbeats 4000000 in
theorem wX1_laid_45 {G : GT} {p : Program} {l : Launch} {e : Env} {s : State} {m : MethodId} {args : Array Value} {below : List Frame} {meth : Method} {c : Code} {H : Heap} {locs : List Loc} {ls : Array Slot} {a0 : Nat} {a2 : Nat} {x3 : Int32} {x4 : Int32} {u : Hp} {K : Int32 → Hp → Prop} (X : Mc G p s m args meth c RX1 cX1_laid 5) (hr : meth.sig.returnType = (some .int)) (h : jl3 (bX1_laid_45 K a0 a2) x3 x4 u) (hw : GW G u s H locs) (hl : lv_has ls 5 [(0, .ref a0), (2, .ref a2), (3, .int x3), (4, .int x4)]) : W p l e (rmX1_laid 0 0) s m args below meth c H locs 0 0 (QI G below K args s 0 0) (F0 m 45 ls []) := by
  obtain ⟨hx, hb, hml, hown, hts, -⟩ := id X
  obtain ⟨I, μ, h0, hs⟩ := h
  have key : ∀ (n : Nat) (x3 : Int32) (x4 : Int32) (u : Hp) (H : Heap) (locs : List Loc) (ls : Array Slot) , μ x3 x4 u < n → I x3 x4 u → GW G u s H locs → lv_has ls 5 [(0, .ref a0), (2, .ref a2), (3, .int x3), (4, .int x4)] → W p l e (rmX1_laid 0 0) s m args below meth c H locs 0 0 (QI G below K args s 0 0) (F0 m 45 ls []) := by
    intro n
    induction n with
    | zero =>
      intro x3 x4 u H locs ls hn
      exact absurd hn (Nat.not_lt_zero _)
    | succ n ih =>
      intro x3 x4 u H locs ls hn hI hw hl
      have h := hs x3 x4 u hI
      unfold bX1_laid_45 at h
      have hJ45 : ∀ (x3' : Int32) (x4' : Int32) (u' : Hp) (H : Heap) (locs : List Loc) (ls : Array Slot) , (I x3' x4' u' ∧ μ x3' x4' u' < μ x3 x4 u) → GW G u' s H locs → lv_has ls 5 [(0, .ref a0), (2, .ref a2), (3, .int x3'), (4, .int x4')] → W p l e (rmX1_laid 0 0) s m args below meth c H locs 0 0 (QI G below K args s 0 0) (F0 m 45 ls []) := fun x3' x4' u' H locs ls h hw hl => ih x3' x4' u' H locs ls (Nat.lt_of_lt_of_le h.2 (Nat.le_of_lt_succ hn)) h.1 hw hl
      refine lv_iload hx hb dX1_laid_45 (lv_at hl 3 rfl) ?_
      refine lv_aload_n hx hb dX1_laid_47 rfl (lv_at hl 0 rfl) ?_
      have hk_1 : kd u a0 = 1 := h.1
      have h := h.2
      refine g_getI X hw in_X1 hk_1 rfl 8 rfl (by decide) q481 (fun _ z => z) dX1_laid_48 ?_
      refine lv_icmp_ge (tgt := 111) hx hb dX1_laid_51 rfl (fun c_13 => ?_) (fun c_13 => ?_)
      · have h := h.1 c_13
        refine lv_iload_n hx hb dX1_laid_111 rfl (lv_at hl 2 rfl) ?_
        exact g_iret X hw hr h (Nat.le_refl _) (Nat.le_refl _) dX1_laid_112
      · have h := h.2 c_13
        refine lv_aload_n hx hb dX1_laid_54 rfl (lv_at hl 1 rfl) ?_
        have hk_2 : isRu (kd u a2) := h.1
        have h := h.2
        obtain ⟨b_3, e_4, h⟩ := h
        refine g_getRu2R X hw hk_2 q450 e_4 dX1_laid_55 ?_
        refine lv_iload hx hb dX1_laid_58 (lv_at hl 3 rfl) ?_
        have hk_5 : kd u b_3 = 101 := h.1
        have h := h.2
        refine g_iald X hw hk_5 h.1 dX1_laid_60 ?_
        have h := h.2
        refine lv_bipush (v := (-2)) hx hb dX1_laid_61 (by decide) ?_
        refine lv_icmp_eq (tgt := 105) hx hb dX1_laid_63 rfl (fun c_12 => ?_) (fun c_12 => ?_)
        · have h := h.1 c_12
          refine lv_iinc (v := x4 + 1) (lv' := [(4, .int (x4 + 1)), (0, .ref a0), (2, .ref a2), (3, .int x3)]) hx hb dX1_laid_105 hl (k := 3) rfl rfl (by decide) rfl (fun ls hl => ?_)
          refine lv_goto (tgt := 45) hx hb dX1_laid_108 rfl ?_
          exact hJ45 _ _ _ _ _ _ h hw (lv_sub hl [1, 2, 3, 0] rfl)
        · have h := h.2 c_12
          refine lv_aload_n hx hb dX1_laid_66 rfl (lv_at hl 0 rfl) ?_
          obtain ⟨b_6, e_7, h⟩ := h
          refine g_getR X hw in_X1 hk_1 rfl 9 rfl (by decide) q482 (fun _ z => z) e_7 dX1_laid_67 ?_
          refine lv_aload_n hx hb dX1_laid_70 rfl (lv_at hl 1 rfl) ?_
          refine g_getRu2R X hw hk_2 q450 e_4 dX1_laid_71 ?_
          refine lv_iload hx hb dX1_laid_74 (lv_at hl 3 rfl) ?_
          refine g_iald X hw hk_5 h.1 dX1_laid_76 ?_
          have h := h.2
          have hk_8 : kd u b_6 = 4 := h.1
          have h := h.2
          refine g_callio hw (g_V X hw (mX4_isThere l G _ _ _ _ h) 1 (lw_V q1219 q1220 q1221 q128 q1222) rfl rfl ydX4_isThere ⟨Nat.le_of_ble_eq_true rfl, Nat.le_of_ble_eq_true rfl⟩ (g_recv X hw (ci := 3) (q := (RX4, TX4, 14)) hk_8 rfl) (As := [.int (AI u b_3 (tn x4))]) (rest := []) rfl hl.1 rfl (Nat.le_of_ble_eq_true rfl) dX1_laid_77 ⟨Nat.le_refl _, Nat.le_refl _⟩) (fun r_9 H locs h hw => ?_)
          refine lv_if_eq (tgt := 86) hx hb dX1_laid_80 rfl (fun c_11 => ?_) (fun c_11 => ?_)
          · have h := h.1 c_11
            refine lv_aload_n hx hb dX1_laid_86 rfl (lv_at hl 0 rfl) ?_
            refine g_getR X hw in_X1 hk_1 rfl 9 rfl (by decide) q482 (fun _ z => z) e_7 dX1_laid_87 ?_
            refine lv_aload_n hx hb dX1_laid_90 rfl (lv_at hl 1 rfl) ?_
            refine g_getRu2R X hw hk_2 q450 e_4 dX1_laid_91 ?_
            refine lv_iload hx hb dX1_laid_94 (lv_at hl 3 rfl) ?_
            refine g_iald X hw hk_5 h.1 dX1_laid_96 ?_
            have h := h.2
            refine lv_iload hx hb dX1_laid_97 (lv_at hl 3 rfl) ?_
            refine g_callv hw (g_V X hw (mX4_mark l G _ _ _ _ _ h) 2 (lw_V q1223 q1224 q1225 q128 q1226) rfl rfl ydX4_mark ⟨Nat.le_of_ble_eq_true rfl, Nat.le_of_ble_eq_true rfl⟩ (g_recv X hw (ci := 3) (q := (RX4, TX4, 14)) hk_8 rfl) (As := [.int (AI u b_3 (tn x4)), .int x4]) (rest := []) rfl hl.1 rfl (Nat.le_of_ble_eq_true rfl) dX1_laid_99 ⟨Nat.le_refl _, Nat.le_refl _⟩) (fun u_10 H locs h hw => ?_)
            refine lv_iinc (v := x3 + 1) (lv' := [(3, .int (x3 + 1)), (0, .ref a0), (2, .ref a2), (4, .int x4)]) hx hb dX1_laid_102 hl (k := 2) rfl rfl (by decide) rfl (fun ls hl => ?_)
            refine lv_iinc (v := x4 + 1) (lv' := [(4, .int (x4 + 1)), (3, .int (x3 + 1)), (0, .ref a0), (2, .ref a2)]) hx hb dX1_laid_105 hl (k := 3) rfl rfl (by decide) rfl (fun ls hl => ?_)
            refine lv_goto (tgt := 45) hx hb dX1_laid_108 rfl ?_
            exact hJ45 _ _ _ _ _ _ h hw (lv_sub hl [2, 3, 1, 0] rfl)
          · have h := h.2 c_11
            refine lv_goto (tgt := 105) hx hb dX1_laid_83 rfl ?_
            refine lv_iinc (v := x4 + 1) (lv' := [(4, .int (x4 + 1)), (0, .ref a0), (2, .ref a2), (3, .int x3)]) hx hb dX1_laid_105 hl (k := 3) rfl rfl (by decide) rfl (fun ls hl => ?_)
            refine lv_goto (tgt := 45) hx hb dX1_laid_108 rfl ?_
            exact hJ45 _ _ _ _ _ _ h hw (lv_sub hl [1, 2, 3, 0] rfl)
  exact key _ _ _ _ _ _ _ (Nat.lt_succ_self _) h0 hw hl
set_option maxHeartbeats 4000000 in
theorem mX1_laid (l : Launch) (G : GT) (u : Hp) (a0 : Nat) (x1 : Int32) (K : Int32 → Hp → Prop) (h : pX1_laid u a0 x1 K) : Met l yX1_laid (ws_ yX1_laid cX1_laid 5 (some .int)) (rmX1_laid 0 0) (va_Pc [.ref a0, .int x1] (GB G u)) (va_Qi K (fun u t => GH G u t.heap) (GA G)) 0 0 (GA G) := by
  refine Met.ofW (cc := cX1_laid) (maxL := 5) (ret := (some .int)) (by decide) rfl ?_
  intro p e s m args below meth c s₁ B hml hv
  obtain ⟨rfl, hv⟩ := hv
  have X := Mc_of (own := RX1) B hml rfl hv
  have hw : GW G u s s.heap [] := ⟨hv.2.1, va_S.rf⟩
  have hr := B.returns
  obtain ⟨hx, hb, hml, hown, hts, -⟩ := id X
  have hl := lv_entry ([.ref a0, .int x1]) (n := 5) (Nat.le_of_ble_eq_true rfl)
  rw [lg_entry_eq]
  generalize (lg_sl ([.ref a0, .int x1]) ++ List.replicate (5 - (lg_sl ([.ref a0, .int x1])).length) Slot.unset).toArray = ls at hl ⊢
  have hl : lv_has ls 5 [(0, .ref a0), (1, .int x1)] := hl
  change W p l e (rmX1_laid 0 0) s m _ below meth c s.heap [] 0 0 (QI G below K _ s 0 0) (F0 m 0 ls [])
  unfold pX1_laid at h
  refine lv_aload_n hx hb dX1_laid_0 rfl (lv_at hl 0 rfl) ?_
  have hk_14 : kd u a0 = 1 := h.1
  have h := h.2
  refine g_callv hw (g_V X hw (mX1_anew l G _ _ _ h) 0 (lw_V q535 q537 qs2 q122 q538) rfl rfl ydX1_anew ⟨Nat.le_of_ble_eq_true rfl, Nat.le_of_ble_eq_true rfl⟩ (g_recv X hw (ci := 0) (q := (RX1, TX1, 16)) hk_14 rfl) (As := []) (rest := []) rfl hl.1 rfl (Nat.le_of_ble_eq_true rfl) dX1_laid_1 ⟨Nat.le_refl _, Nat.le_refl _⟩) (fun u_15 H locs h hw => ?_)
  refine lv_aload_n hx hb dX1_laid_4 rfl (lv_at hl 0 rfl) ?_
  refine lv_iload_n hx hb dX1_laid_5 rfl (lv_at hl 1 rfl) ?_
  have hk_16 : kd u_15 a0 = 1 := h.1
  have h := h.2
  refine g_callio hw (g_V X hw (mX1_isRule l G _ _ _ _ h) 1 (lw_V q1074 q1076 qs28 q122 q1077) rfl rfl ydX1_isRule ⟨Nat.le_of_ble_eq_true rfl, Nat.le_of_ble_eq_true rfl⟩ (g_recv X hw (ci := 0) (q := (RX1, TX1, 16)) hk_16 rfl) (As := [.int x1]) (rest := []) rfl hl.1 rfl (Nat.le_of_ble_eq_true rfl) dX1_laid_6 ⟨Nat.le_refl _, Nat.le_refl _⟩) (fun r_17 H locs h hw => ?_)
  refine lv_if_ne (tgt := 18) hx hb dX1_laid_9 rfl (fun c_35 => ?_) (fun c_35 => ?_)
  · have h := h.2 c_35
    refine lv_aload_n hx hb dX1_laid_18 rfl (lv_at hl 0 rfl) ?_
    obtain ⟨b_18, e_19, h⟩ := h
    refine g_getR X hw in_X1 hk_16 rfl 3 rfl (by decide) q476 (fun _ z => z) e_19 dX1_laid_19 ?_
    have hk_20 : kd u_15 b_18 = 17 := h.1
    have h := h.2
    obtain ⟨b_21, e_22, h⟩ := h
    refine g_getR X hw in_X20 hk_20 rfl 0 rfl (by decide) q559 (fun _ z => z) e_22 dX1_laid_22 ?_
    refine lv_iload_n hx hb dX1_laid_25 rfl (lv_at hl 1 rfl) ?_
    have hk_23 : kd u_15 b_21 = 106 ∨ kd u_15 b_21 = 107 := h.1
    have h := h.2
    obtain ⟨hi_26, b_24, e_25, h⟩ := h
    refine g_aald X hw hk_23 hi_26 e_25 dX1_laid_26 ?_
    refine lv_astore_n (lv' := [(2, .ref b_24), (0, .ref a0), (1, .int x1)]) hx hb dX1_laid_27 rfl hl (by decide) rfl (fun ls hl => ?_)
    refine lv_aload_n hx hb dX1_laid_28 rfl (lv_at hl 1 rfl) ?_
    refine lv_aload_n hx hb dX1_laid_29 rfl (lv_at hl 0 rfl) ?_
    refine g_callv hw (g_V X hw (mX1_lay l G _ _ _ _ h) 1 (lw_V q1082 q1084 qs30 q122 q1085) rfl rfl ydX1_lay ⟨Nat.le_of_ble_eq_true rfl, Nat.le_of_ble_eq_true rfl⟩ (g_recv X hw (ci := 0) (q := (RX1, TX1, 16)) hk_16 rfl) (As := [.ref b_24]) (rest := []) rfl hl.1 rfl (Nat.le_of_ble_eq_true rfl) dX1_laid_30 ⟨Nat.le_refl _, Nat.le_refl _⟩) (fun u_27 H locs h hw => ?_)
    refine lv_aload_n hx hb dX1_laid_33 rfl (lv_at hl 1 rfl) ?_
    have hk_28 : kd u_27 a0 = 1 := h.1
    have h := h.2
    obtain ⟨b_29, e_30, h⟩ := h
    refine g_getR X hw in_X1 hk_28 rfl 9 rfl (by decide) q482 (fun _ z => z) e_30 dX1_laid_34 ?_
    have hk_31 : kd u_27 b_29 = 4 := h.1
    have h := h.2
    refine g_callv hw (g_V X hw (mX4_begin l G _ _ _ h) 0 (lw_V q1215 q1216 q1217 q128 q1218) rfl rfl ydX4_begin ⟨Nat.le_of_ble_eq_true rfl, Nat.le_of_ble_eq_true rfl⟩ (g_recv X hw (ci := 3) (q := (RX4, TX4, 14)) hk_31 rfl) (As := []) (rest := []) rfl hl.1 rfl (Nat.le_of_ble_eq_true rfl) dX1_laid_37 ⟨Nat.le_refl _, Nat.le_refl _⟩) (fun u_32 H locs h hw => ?_)
    refine lv_iconst (v := 0) hx hb dX1_laid_40 (by decide) ?_
    refine lv_istore_n (lv' := [(3, .int 0), (2, .ref b_24), (0, .ref a0), (1, .int x1)]) hx hb dX1_laid_41 rfl hl (by decide) rfl (fun ls hl => ?_)
    refine lv_iconst (v := 0) hx hb dX1_laid_42 (by decide) ?_
    refine lv_istore (lv' := [(4, .int 0), (3, .int 0), (2, .ref b_24), (0, .ref a0), (1, .int x1)]) hx hb dX1_laid_43 hl (by decide) rfl (fun ls hl => ?_)
    exact wX1_laid_45 X hr  h hw (lv_sub hl [3, 2, 1, 0] rfl)
  · have h := h.1 c_35
    refine lv_aload_n hx hb dX1_laid_12 rfl (lv_at hl 0 rfl) ?_
    refine lv_iconst (v := 1) hx hb dX1_laid_13 (by decide) ?_
    refine g_calli hw (g_V X hw (mX1_no l G _ _ _ _ h) 1 (lw_V q542 q544 qs3 q122 q545) rfl rfl ydX1_no ⟨Nat.le_of_ble_eq_true rfl, Nat.le_of_ble_eq_true rfl⟩ (g_recv X hw (ci := 0) (q := (RX1, TX1, 16)) hk_16 rfl) (As := [.int 1]) (rest := []) rfl hl.1 rfl (Nat.le_of_ble_eq_true rfl) dX1_laid_14 ⟨Nat.le_refl _, Nat.le_refl _⟩) (fun r_33 u_34 H locs h hw => ?_)
    exact g_iret X hw hr h (Nat.le_refl _) (Nat.le_refl _) dX1_laid_17

/-! FifthCardModel.laid(I)I -/
theorem ydX19_laid : yX19_laid.cls = "FifthCardModel" ∧ yX19_laid.cls ≠ "java/lang/invoke/MethodHandle" ∧ yX19_laid.cls ≠ "java/lang/invoke/VarHandle" ∧ (parseMethodDescriptor yX19_laid.desc).map (fun d => d.parameters.length) = some 1 := by decide +kernel
def rmX19_laid (mc ms : Nat) : Room := { frames := 8, cells := mc, slots := ms, locals := 191 }
set_option maxHeartbeats 4000000 in
theorem wX19_laid_28 {G : GT} {p : Program} {l : Launch} {e : Env} {s : State} {m : MethodId} {args : Array Value} {below : List Frame} {meth : Method} {c : Code} {H : Heap} {locs : List Loc} {ls : Array Slot} {a0 : Nat} {u : Hp} {x2 : Int32} {x3 : Int32} {K : Int32 → Hp → Prop} (X : Mc G p s m args meth c RX19 cX19_laid 4) (hr : meth.sig.returnType = (some .int)) (h : jl2 (bX19_laid_28 K a0 u) x2 x3) (hw : GW G u s H locs) (hl : lv_has ls 4 [(0, .ref a0), (2, .int x2), (3, .int x3)]) : W p l e (rmX19_laid 0 0) s m args below meth c H locs 0 0 (QI G below K args s 0 0) (F0 m 28 ls []) := by
  obtain ⟨hx, hb, hml, hown, hts, -⟩ := id X
  obtain ⟨I, μ, h0, hs⟩ := h
  have key : ∀ (n : Nat) (x2 : Int32) (x3 : Int32) (H : Heap) (locs : List Loc) (ls : Array Slot) , μ x2 x3 < n → I x2 x3 → GW G u s H locs → lv_has ls 4 [(0, .ref a0), (2, .int x2), (3, .int x3)] → W p l e (rmX19_laid 0 0) s m args below meth c H locs 0 0 (QI G below K args s 0 0) (F0 m 28 ls []) := by
    intro n
    induction n with
    | zero =>
      intro x2 x3 H locs ls hn
      exact absurd hn (Nat.not_lt_zero _)
    | succ n ih =>
      intro x2 x3 H locs ls hn hI hw hl
      have h := hs x2 x3 hI
      unfold bX19_laid_28 at h
      have hJ28 : ∀ (x2' : Int32) (x3' : Int32) (H : Heap) (locs : List Loc) (ls : Array Slot) , (I x2' x3' ∧ μ x2' x3' < μ x2 x3) → GW G u s H locs → lv_has ls 4 [(0, .ref a0), (2, .int x2'), (3, .int x3')] → W p l e (rmX19_laid 0 0) s m args below meth c H locs 0 0 (QI G below K args s 0 0) (F0 m 28 ls []) := fun x2' x3' H locs ls h hw hl => ih x2' x3' H locs ls (Nat.lt_of_lt_of_le h.2 (Nat.le_of_lt_succ hn)) h.1 hw hl
      refine lv_iload_n hx hb dX19_laid_28 rfl (lv_at hl 2 rfl) ?_
      refine lv_aload_n hx hb dX19_laid_29 rfl (lv_at hl 0 rfl) ?_
      have hk_1 : kd u a0 = 16 := h.1
      have h := h.2
      refine g_getI X hw in_X19 hk_1 rfl 17 rfl (by decide) q1468 (fun _ z => z) dX19_laid_30 ?_
      refine lv_icmp_ge (tgt := 75) hx hb dX19_laid_33 rfl (fun c_10 => ?_) (fun c_10 => ?_)
      · have h := h.1 c_10
        refine lv_aload_n hx hb dX19_laid_75 rfl (lv_at hl 0 rfl) ?_
        refine lv_iload_n hx hb dX19_laid_76 rfl (lv_at hl 1 rfl) ?_
        refine g_calli hw (g_V X hw (mX19_good l G _ _ _ _ h) 1 (lw_V q1867 q1869 qs77 q143 q1870) rfl rfl ydX19_good ⟨Nat.le_of_ble_eq_true rfl, Nat.le_of_ble_eq_true rfl⟩ (g_recv X hw (ci := 15) (q := (RX19, TX19, 46)) hk_1 rfl) (As := [.int x2]) (rest := []) rfl hl.1 rfl (Nat.le_of_ble_eq_true rfl) dX19_laid_77 ⟨Nat.le_refl _, Nat.le_refl _⟩) (fun r_2 u_3 H locs h hw => ?_)
        exact g_iret X hw hr h (Nat.le_refl _) (Nat.le_refl _) dX19_laid_80
      · have h := h.2 c_10
        refine lv_iload_n hx hb dX19_laid_36 rfl (lv_at hl 1 rfl) ?_
        refine lv_aload_n hx hb dX19_laid_37 rfl (lv_at hl 0 rfl) ?_
        obtain ⟨b_4, e_5, h⟩ := h
        refine g_getR X hw in_X19 hk_1 rfl 25 rfl (by decide) q1476 (fun _ z => z) e_5 dX19_laid_38 ?_
        refine lv_iload_n hx hb dX19_laid_41 rfl (lv_at hl 2 rfl) ?_
        have hk_6 : kd u b_4 = 101 := h.1
        have h := h.2
        refine g_iald X hw hk_6 h.1 dX19_laid_42 ?_
        have h := h.2
        refine lv_bipush (v := (-2)) hx hb dX19_laid_43 (by decide) ?_
        refine lv_icmp_eq (tgt := 66) hx hb dX19_laid_45 rfl (fun c_9 => ?_) (fun c_9 => ?_)
        · have h := h.1 c_9
          refine lv_iconst (v := 0) hx hb dX19_laid_66 (by decide) ?_
          refine lv_iadd hx hb dX19_laid_67 ?_
          refine lv_istore_n (lv' := [(2, .int (x2 + 0)), (0, .ref a0), (3, .int x3)]) hx hb dX19_laid_68 rfl hl (by decide) rfl (fun ls hl => ?_)
          refine lv_iinc (v := x3 + 1) (lv' := [(3, .int (x3 + 1)), (2, .int (x2 + 0)), (0, .ref a0)]) hx hb dX19_laid_69 hl (k := 2) rfl rfl (by decide) rfl (fun ls hl => ?_)
          refine lv_goto (tgt := 28) hx hb dX19_laid_72 rfl ?_
          exact hJ28 _ _ _ _ _ h hw (lv_sub hl [2, 1, 0] rfl)
        · have h := h.2 c_9
          refine lv_aload_n hx hb dX19_laid_48 rfl (lv_at hl 0 rfl) ?_
          refine lv_aload_n hx hb dX19_laid_49 rfl (lv_at hl 0 rfl) ?_
          refine g_getR X hw in_X19 hk_1 rfl 25 rfl (by decide) q1476 (fun _ z => z) e_5 dX19_laid_50 ?_
          refine lv_iload_n hx hb dX19_laid_53 rfl (lv_at hl 2 rfl) ?_
          refine g_iald X hw hk_6 h.1 dX19_laid_54 ?_
          have h := h.2
          refine g_callio hw (g_V X hw (mX19_firstWith l G _ _ _ _ h) 1 (lw_V q2029 q2031 qs104 q143 q2032) rfl rfl ydX19_firstWith ⟨Nat.le_of_ble_eq_true rfl, Nat.le_of_ble_eq_true rfl⟩ (g_recv X hw (ci := 15) (q := (RX19, TX19, 46)) hk_1 rfl) (As := [.int (AI u b_4 (tn x3))]) (rest := [.int x2]) rfl hl.1 rfl (Nat.le_of_ble_eq_true rfl) dX19_laid_55 ⟨Nat.le_refl _, Nat.le_refl _⟩) (fun r_7 H locs h hw => ?_)
          refine lv_iload_n hx hb dX19_laid_58 rfl (lv_at hl 2 rfl) ?_
          refine lv_icmp_ne (tgt := 66) hx hb dX19_laid_59 rfl (fun c_8 => ?_) (fun c_8 => ?_)
          · have h := h.2 c_8
            refine lv_iconst (v := 0) hx hb dX19_laid_66 (by decide) ?_
            refine lv_iadd hx hb dX19_laid_67 ?_
            refine lv_istore_n (lv' := [(2, .int (x2 + 0)), (0, .ref a0), (3, .int x3)]) hx hb dX19_laid_68 rfl hl (by decide) rfl (fun ls hl => ?_)
            refine lv_iinc (v := x3 + 1) (lv' := [(3, .int (x3 + 1)), (2, .int (x2 + 0)), (0, .ref a0)]) hx hb dX19_laid_69 hl (k := 2) rfl rfl (by decide) rfl (fun ls hl => ?_)
            refine lv_goto (tgt := 28) hx hb dX19_laid_72 rfl ?_
            exact hJ28 _ _ _ _ _ h hw (lv_sub hl [2, 1, 0] rfl)
          · have h := h.1 c_8
            refine lv_iconst (v := 1) hx hb dX19_laid_62 (by decide) ?_
            refine lv_goto (tgt := 67) hx hb dX19_laid_63 rfl ?_
            refine lv_iadd hx hb dX19_laid_67 ?_
            refine lv_istore_n (lv' := [(2, .int (x2 + 1)), (0, .ref a0), (3, .int x3)]) hx hb dX19_laid_68 rfl hl (by decide) rfl (fun ls hl => ?_)
            refine lv_iinc (v := x3 + 1) (lv' := [(3, .int (x3 + 1)), (2, .int (x2 + 1)), (0, .ref a0)]) hx hb dX19_laid_69 hl (k := 2) rfl rfl (by decide) rfl (fun ls hl => ?_)
            refine lv_goto (tgt := 28) hx hb dX19_laid_72 rfl ?_
            exact hJ28 _ _ _ _ _ h hw (lv_sub hl [2, 1, 0] rfl)
  exact key _ _ _ _ _ _ (Nat.lt_succ_self _) h0 hw hl
set_option maxHeartbeats 4000000 in
theorem mX19_laid (l : Launch) (G : GT) (u : Hp) (a0 : Nat) (x1 : Int32) (K : Int32 → Hp → Prop) (h : pX19_laid u a0 x1 K) : Met l yX19_laid (ws_ yX19_laid cX19_laid 4 (some .int)) (rmX19_laid 0 0) (va_Pc [.ref a0, .int x1] (GB G u)) (va_Qi K (fun u t => GH G u t.heap) (GA G)) 0 0 (GA G) := by
  refine Met.ofW (cc := cX19_laid) (maxL := 4) (ret := (some .int)) (by decide) rfl ?_
  intro p e s m args below meth c s₁ B hml hv
  obtain ⟨rfl, hv⟩ := hv
  have X := Mc_of (own := RX19) B hml rfl hv
  have hw : GW G u s s.heap [] := ⟨hv.2.1, va_S.rf⟩
  have hr := B.returns
  obtain ⟨hx, hb, hml, hown, hts, -⟩ := id X
  have hl := lv_entry ([.ref a0, .int x1]) (n := 4) (Nat.le_of_ble_eq_true rfl)
  rw [lg_entry_eq]
  generalize (lg_sl ([.ref a0, .int x1]) ++ List.replicate (4 - (lg_sl ([.ref a0, .int x1])).length) Slot.unset).toArray = ls at hl ⊢
  have hl : lv_has ls 4 [(0, .ref a0), (1, .int x1)] := hl
  change W p l e (rmX19_laid 0 0) s m _ below meth c s.heap [] 0 0 (QI G below K _ s 0 0) (F0 m 0 ls [])
  unfold pX19_laid at h
  refine lv_aload_n hx hb dX19_laid_0 rfl (lv_at hl 0 rfl) ?_
  refine lv_iconst (v := 0) hx hb dX19_laid_1 (by decide) ?_
  have hk_11 : kd u a0 = 16 := h.1
  have h := h.2
  refine g_putI (v := 0) X hw in_X19 tyX19_ok nmX19 hk_11 rfl 0 rfl (by decide) q1451 (fun _ z => z) rfl rfl rfl dX19_laid_2 (fun H locs hw => ?_)
  refine lv_aload_n hx hb dX19_laid_5 rfl (lv_at hl 0 rfl) ?_
  refine lv_iload_n hx hb dX19_laid_6 rfl (lv_at hl 1 rfl) ?_
  refine g_callio hw (g_V X hw (mX19_isRule l G _ _ _ _ h) 1 (lw_V q1940 q1942 qs84 q143 q1943) rfl rfl ydX19_isRule ⟨Nat.le_of_ble_eq_true rfl, Nat.le_of_ble_eq_true rfl⟩ (g_recv X hw (ci := 15) (q := (RX19, TX19, 46)) hk_11 rfl) (As := [.int x1]) (rest := []) rfl hl.1 rfl (Nat.le_of_ble_eq_true rfl) dX19_laid_7 ⟨Nat.le_refl _, Nat.le_refl _⟩) (fun r_12 H locs h hw => ?_)
  refine lv_if_ne (tgt := 19) hx hb dX19_laid_10 rfl (fun c_16 => ?_) (fun c_16 => ?_)
  · have h := h.2 c_16
    refine lv_aload_n hx hb dX19_laid_19 rfl (lv_at hl 0 rfl) ?_
    refine lv_iload_n hx hb dX19_laid_20 rfl (lv_at hl 1 rfl) ?_
    refine g_callv hw (g_V X hw (mX19_laysAll l G _ _ _ _ h) 1 (lw_V q2025 q2027 qs103 q143 q2028) rfl rfl ydX19_laysAll ⟨Nat.le_of_ble_eq_true rfl, Nat.le_of_ble_eq_true rfl⟩ (g_recv X hw (ci := 15) (q := (RX19, TX19, 46)) hk_11 rfl) (As := [.int x1]) (rest := []) rfl hl.1 rfl (Nat.le_of_ble_eq_true rfl) dX19_laid_21 ⟨Nat.le_refl _, Nat.le_refl _⟩) (fun u_13 H locs h hw => ?_)
    refine lv_iconst (v := 0) hx hb dX19_laid_24 (by decide) ?_
    refine lv_istore_n (lv' := [(2, .int 0), (0, .ref a0), (1, .int x1)]) hx hb dX19_laid_25 rfl hl (by decide) rfl (fun ls hl => ?_)
    refine lv_iconst (v := 0) hx hb dX19_laid_26 (by decide) ?_
    refine lv_istore_n (lv' := [(3, .int 0), (2, .int 0), (0, .ref a0), (1, .int x1)]) hx hb dX19_laid_27 rfl hl (by decide) rfl (fun ls hl => ?_)
    exact wX19_laid_28 X hr  h hw (lv_sub hl [2, 1, 0] rfl)
  · have h := h.1 c_16
    refine lv_aload_n hx hb dX19_laid_13 rfl (lv_at hl 0 rfl) ?_
    refine lv_iconst (v := 1) hx hb dX19_laid_14 (by decide) ?_
    refine g_calli hw (g_V X hw (mX19_refused l G _ _ _ _ h) 1 (lw_V q1603 q1605 qs47 q143 q1606) rfl rfl ydX19_refused ⟨Nat.le_of_ble_eq_true rfl, Nat.le_of_ble_eq_true rfl⟩ (g_recv X hw (ci := 15) (q := (RX19, TX19, 46)) hk_11 rfl) (As := [.int 1]) (rest := []) rfl hl.1 rfl (Nat.le_of_ble_eq_true rfl) dX19_laid_15 ⟨Nat.le_refl _, Nat.le_refl _⟩) (fun r_14 u_15 H locs h hw => ?_)
    exact g_iret X hw hr h (Nat.le_refl _) (Nat.le_refl _) dX19_laid_18

/-! FifthCard.fails(I)I -/
theorem ydX1_fails : yX1_fails.cls = "FifthCard" ∧ yX1_fails.cls ≠ "java/lang/invoke/MethodHandle" ∧ yX1_fails.cls ≠ "java/lang/invoke/VarHandle" ∧ (parseMethodDescriptor yX1_fails.desc).map (fun d => d.parameters.length) = some 1 := by decide +kernel
def rmX1_fails (mc ms : Nat) : Room := { frames := 7, cells := mc, slots := ms, locals := 174 }
set_option maxHeartbeats 4000000 in
theorem mX1_fails (l : Launch) (G : GT) (u : Hp) (a0 : Nat) (x1 : Int32) (K : Int32 → Hp → Prop) (h : pX1_fails u a0 x1 K) : Met l yX1_fails (ws_ yX1_fails cX1_fails 2 (some .int)) (rmX1_fails 0 0) (va_Pc [.ref a0, .int x1] (GB G u)) (va_Qi K (fun u t => GH G u t.heap) (GA G)) 0 0 (GA G) := by
  refine Met.ofW (cc := cX1_fails) (maxL := 2) (ret := (some .int)) (by decide) rfl ?_
  intro p e s m args below meth c s₁ B hml hv
  obtain ⟨rfl, hv⟩ := hv
  have X := Mc_of (own := RX1) B hml rfl hv
  have hw : GW G u s s.heap [] := ⟨hv.2.1, va_S.rf⟩
  have hr := B.returns
  obtain ⟨hx, hb, hml, hown, hts, -⟩ := id X
  have hl := lv_entry ([.ref a0, .int x1]) (n := 2) (Nat.le_of_ble_eq_true rfl)
  rw [lg_entry_eq]
  generalize (lg_sl ([.ref a0, .int x1]) ++ List.replicate (2 - (lg_sl ([.ref a0, .int x1])).length) Slot.unset).toArray = ls at hl ⊢
  have hl : lv_has ls 2 [(0, .ref a0), (1, .int x1)] := hl
  change W p l e (rmX1_fails 0 0) s m _ below meth c s.heap [] 0 0 (QI G below K _ s 0 0) (F0 m 0 ls [])
  unfold pX1_fails at h
  refine lv_aload_n hx hb dX1_fails_0 rfl (lv_at hl 0 rfl) ?_
  have hk_1 : kd u a0 = 1 := h.1
  have h := h.2
  refine g_callv hw (g_V X hw (mX1_anew l G _ _ _ h) 0 (lw_V q535 q537 qs2 q122 q538) rfl rfl ydX1_anew ⟨Nat.le_of_ble_eq_true rfl, Nat.le_of_ble_eq_true rfl⟩ (g_recv X hw (ci := 0) (q := (RX1, TX1, 16)) hk_1 rfl) (As := []) (rest := []) rfl hl.1 rfl (Nat.le_of_ble_eq_true rfl) dX1_fails_1 ⟨Nat.le_refl _, Nat.le_refl _⟩) (fun u_2 H locs h hw => ?_)
  refine lv_aload_n hx hb dX1_fails_4 rfl (lv_at hl 0 rfl) ?_
  refine lv_iload_n hx hb dX1_fails_5 rfl (lv_at hl 1 rfl) ?_
  have hk_3 : kd u_2 a0 = 1 := h.1
  have h := h.2
  refine g_callio hw (g_V X hw (mX1_isRule l G _ _ _ _ h) 1 (lw_V q1074 q1076 qs28 q122 q1077) rfl rfl ydX1_isRule ⟨Nat.le_of_ble_eq_true rfl, Nat.le_of_ble_eq_true rfl⟩ (g_recv X hw (ci := 0) (q := (RX1, TX1, 16)) hk_3 rfl) (As := [.int x1]) (rest := []) rfl hl.1 rfl (Nat.le_of_ble_eq_true rfl) dX1_fails_6 ⟨Nat.le_refl _, Nat.le_refl _⟩) (fun r_4 H locs h hw => ?_)
  refine lv_if_eq (tgt := 28) hx hb dX1_fails_9 rfl (fun c_18 => ?_) (fun c_18 => ?_)
  · have h := h.1 c_18
    refine lv_aload_n hx hb dX1_fails_28 rfl (lv_at hl 0 rfl) ?_
    refine lv_iconst (v := 1) hx hb dX1_fails_29 (by decide) ?_
    refine g_calli hw (g_V X hw (mX1_no l G _ _ _ _ h) 1 (lw_V q542 q544 qs3 q122 q545) rfl rfl ydX1_no ⟨Nat.le_of_ble_eq_true rfl, Nat.le_of_ble_eq_true rfl⟩ (g_recv X hw (ci := 0) (q := (RX1, TX1, 16)) hk_3 rfl) (As := [.int 1]) (rest := []) rfl hl.1 rfl (Nat.le_of_ble_eq_true rfl) dX1_fails_30 ⟨Nat.le_refl _, Nat.le_refl _⟩) (fun r_5 u_6 H locs h hw => ?_)
    exact g_iret X hw hr h (Nat.le_refl _) (Nat.le_refl _) dX1_fails_33
  · have h := h.2 c_18
    refine lv_aload_n hx hb dX1_fails_12 rfl (lv_at hl 0 rfl) ?_
    refine lv_aload_n hx hb dX1_fails_13 rfl (lv_at hl 0 rfl) ?_
    obtain ⟨b_7, e_8, h⟩ := h
    refine g_getR X hw in_X1 hk_3 rfl 3 rfl (by decide) q476 (fun _ z => z) e_8 dX1_fails_14 ?_
    have hk_9 : kd u_2 b_7 = 17 := h.1
    have h := h.2
    obtain ⟨b_10, e_11, h⟩ := h
    refine g_getR X hw in_X20 hk_9 rfl 0 rfl (by decide) q559 (fun _ z => z) e_11 dX1_fails_17 ?_
    refine lv_iload_n hx hb dX1_fails_20 rfl (lv_at hl 1 rfl) ?_
    have hk_12 : kd u_2 b_10 = 106 ∨ kd u_2 b_10 = 107 := h.1
    have h := h.2
    obtain ⟨hi_15, b_13, e_14, h⟩ := h
    refine g_aald X hw hk_12 hi_15 e_14 dX1_fails_21 ?_
    refine g_calli hw (g_V X hw (mX1_failsOf l G _ _ _ _ h) 1 (lw_V q1207 q1209 qs36 q122 q1210) rfl rfl ydX1_failsOf ⟨Nat.le_of_ble_eq_true rfl, Nat.le_of_ble_eq_true rfl⟩ (g_recv X hw (ci := 0) (q := (RX1, TX1, 16)) hk_3 rfl) (As := [.ref b_13]) (rest := []) rfl hl.1 rfl (Nat.le_of_ble_eq_true rfl) dX1_fails_22 ⟨Nat.le_refl _, Nat.le_refl _⟩) (fun r_16 u_17 H locs h hw => ?_)
    refine lv_goto (tgt := 33) hx hb dX1_fails_25 rfl ?_
    exact g_iret X hw hr h (Nat.le_refl _) (Nat.le_refl _) dX1_fails_33

/-! FifthCardModel.fails(I)I -/
theorem ydX19_fails : yX19_fails.cls = "FifthCardModel" ∧ yX19_fails.cls ≠ "java/lang/invoke/MethodHandle" ∧ yX19_fails.cls ≠ "java/lang/invoke/VarHandle" ∧ (parseMethodDescriptor yX19_fails.desc).map (fun d => d.parameters.length) = some 1 := by decide +kernel
def rmX19_fails (mc ms : Nat) : Room := { frames := 8, cells := mc, slots := ms, locals := 191 }
set_option maxHeartbeats 4000000 in
theorem wX19_fails_28 {G : GT} {p : Program} {l : Launch} {e : Env} {s : State} {m : MethodId} {args : Array Value} {below : List Frame} {meth : Method} {c : Code} {H : Heap} {locs : List Loc} {ls : Array Slot} {a0 : Nat} {u : Hp} {x2 : Int32} {x3 : Int32} {K : Int32 → Hp → Prop} (X : Mc G p s m args meth c RX19 cX19_fails 4) (hr : meth.sig.returnType = (some .int)) (h : jl2 (bX19_fails_28 K a0 u) x2 x3) (hw : GW G u s H locs) (hl : lv_has ls 4 [(0, .ref a0), (2, .int x2), (3, .int x3)]) : W p l e (rmX19_fails 0 0) s m args below meth c H locs 0 0 (QI G below K args s 0 0) (F0 m 28 ls []) := by
  obtain ⟨hx, hb, hml, hown, hts, -⟩ := id X
  obtain ⟨I, μ, h0, hs⟩ := h
  have key : ∀ (n : Nat) (x2 : Int32) (x3 : Int32) (H : Heap) (locs : List Loc) (ls : Array Slot) , μ x2 x3 < n → I x2 x3 → GW G u s H locs → lv_has ls 4 [(0, .ref a0), (2, .int x2), (3, .int x3)] → W p l e (rmX19_fails 0 0) s m args below meth c H locs 0 0 (QI G below K args s 0 0) (F0 m 28 ls []) := by
    intro n
    induction n with
    | zero =>
      intro x2 x3 H locs ls hn
      exact absurd hn (Nat.not_lt_zero _)
    | succ n ih =>
      intro x2 x3 H locs ls hn hI hw hl
      have h := hs x2 x3 hI
      unfold bX19_fails_28 at h
      have hJ28 : ∀ (x2' : Int32) (x3' : Int32) (H : Heap) (locs : List Loc) (ls : Array Slot) , (I x2' x3' ∧ μ x2' x3' < μ x2 x3) → GW G u s H locs → lv_has ls 4 [(0, .ref a0), (2, .int x2'), (3, .int x3')] → W p l e (rmX19_fails 0 0) s m args below meth c H locs 0 0 (QI G below K args s 0 0) (F0 m 28 ls []) := fun x2' x3' H locs ls h hw hl => ih x2' x3' H locs ls (Nat.lt_of_lt_of_le h.2 (Nat.le_of_lt_succ hn)) h.1 hw hl
      refine lv_iload_n hx hb dX19_fails_28 rfl (lv_at hl 2 rfl) ?_
      refine lv_aload_n hx hb dX19_fails_29 rfl (lv_at hl 0 rfl) ?_
      have hk_1 : kd u a0 = 16 := h.1
      have h := h.2
      refine g_getI X hw in_X19 hk_1 rfl 17 rfl (by decide) q1468 (fun _ z => z) dX19_fails_30 ?_
      refine lv_icmp_ge (tgt := 61) hx hb dX19_fails_33 rfl (fun c_8 => ?_) (fun c_8 => ?_)
      · have h := h.1 c_8
        refine lv_aload_n hx hb dX19_fails_61 rfl (lv_at hl 0 rfl) ?_
        refine lv_iload_n hx hb dX19_fails_62 rfl (lv_at hl 1 rfl) ?_
        refine g_calli hw (g_V X hw (mX19_good l G _ _ _ _ h) 1 (lw_V q1867 q1869 qs77 q143 q1870) rfl rfl ydX19_good ⟨Nat.le_of_ble_eq_true rfl, Nat.le_of_ble_eq_true rfl⟩ (g_recv X hw (ci := 15) (q := (RX19, TX19, 46)) hk_1 rfl) (As := [.int x2]) (rest := []) rfl hl.1 rfl (Nat.le_of_ble_eq_true rfl) dX19_fails_63 ⟨Nat.le_refl _, Nat.le_refl _⟩) (fun r_2 u_3 H locs h hw => ?_)
        exact g_iret X hw hr h (Nat.le_refl _) (Nat.le_refl _) dX19_fails_66
      · have h := h.2 c_8
        refine lv_iload_n hx hb dX19_fails_36 rfl (lv_at hl 1 rfl) ?_
        refine lv_aload_n hx hb dX19_fails_37 rfl (lv_at hl 0 rfl) ?_
        obtain ⟨b_4, e_5, h⟩ := h
        refine g_getR X hw in_X19 hk_1 rfl 25 rfl (by decide) q1476 (fun _ z => z) e_5 dX19_fails_38 ?_
        refine lv_iload_n hx hb dX19_fails_41 rfl (lv_at hl 2 rfl) ?_
        have hk_6 : kd u b_4 = 101 := h.1
        have h := h.2
        refine g_iald X hw hk_6 h.1 dX19_fails_42 ?_
        have h := h.2
        refine lv_bipush (v := (-2)) hx hb dX19_fails_43 (by decide) ?_
        refine lv_icmp_ne (tgt := 52) hx hb dX19_fails_45 rfl (fun c_7 => ?_) (fun c_7 => ?_)
        · have h := h.2 c_7
          refine lv_iconst (v := 0) hx hb dX19_fails_52 (by decide) ?_
          refine lv_iadd hx hb dX19_fails_53 ?_
          refine lv_istore_n (lv' := [(2, .int (x2 + 0)), (0, .ref a0), (3, .int x3)]) hx hb dX19_fails_54 rfl hl (by decide) rfl (fun ls hl => ?_)
          refine lv_iinc (v := x3 + 1) (lv' := [(3, .int (x3 + 1)), (2, .int (x2 + 0)), (0, .ref a0)]) hx hb dX19_fails_55 hl (k := 2) rfl rfl (by decide) rfl (fun ls hl => ?_)
          refine lv_goto (tgt := 28) hx hb dX19_fails_58 rfl ?_
          exact hJ28 _ _ _ _ _ h hw (lv_sub hl [2, 1, 0] rfl)
        · have h := h.1 c_7
          refine lv_iconst (v := 1) hx hb dX19_fails_48 (by decide) ?_
          refine lv_goto (tgt := 53) hx hb dX19_fails_49 rfl ?_
          refine lv_iadd hx hb dX19_fails_53 ?_
          refine lv_istore_n (lv' := [(2, .int (x2 + 1)), (0, .ref a0), (3, .int x3)]) hx hb dX19_fails_54 rfl hl (by decide) rfl (fun ls hl => ?_)
          refine lv_iinc (v := x3 + 1) (lv' := [(3, .int (x3 + 1)), (2, .int (x2 + 1)), (0, .ref a0)]) hx hb dX19_fails_55 hl (k := 2) rfl rfl (by decide) rfl (fun ls hl => ?_)
          refine lv_goto (tgt := 28) hx hb dX19_fails_58 rfl ?_
          exact hJ28 _ _ _ _ _ h hw (lv_sub hl [2, 1, 0] rfl)
  exact key _ _ _ _ _ _ (Nat.lt_succ_self _) h0 hw hl
set_option maxHeartbeats 4000000 in
theorem mX19_fails (l : Launch) (G : GT) (u : Hp) (a0 : Nat) (x1 : Int32) (K : Int32 → Hp → Prop) (h : pX19_fails u a0 x1 K) : Met l yX19_fails (ws_ yX19_fails cX19_fails 4 (some .int)) (rmX19_fails 0 0) (va_Pc [.ref a0, .int x1] (GB G u)) (va_Qi K (fun u t => GH G u t.heap) (GA G)) 0 0 (GA G) := by
  refine Met.ofW (cc := cX19_fails) (maxL := 4) (ret := (some .int)) (by decide) rfl ?_
  intro p e s m args below meth c s₁ B hml hv
  obtain ⟨rfl, hv⟩ := hv
  have X := Mc_of (own := RX19) B hml rfl hv
  have hw : GW G u s s.heap [] := ⟨hv.2.1, va_S.rf⟩
  have hr := B.returns
  obtain ⟨hx, hb, hml, hown, hts, -⟩ := id X
  have hl := lv_entry ([.ref a0, .int x1]) (n := 4) (Nat.le_of_ble_eq_true rfl)
  rw [lg_entry_eq]
  generalize (lg_sl ([.ref a0, .int x1]) ++ List.replicate (4 - (lg_sl ([.ref a0, .int x1])).length) Slot.unset).toArray = ls at hl ⊢
  have hl : lv_has ls 4 [(0, .ref a0), (1, .int x1)] := hl
  change W p l e (rmX19_fails 0 0) s m _ below meth c s.heap [] 0 0 (QI G below K _ s 0 0) (F0 m 0 ls [])
  unfold pX19_fails at h
  refine lv_aload_n hx hb dX19_fails_0 rfl (lv_at hl 0 rfl) ?_
  refine lv_iconst (v := 0) hx hb dX19_fails_1 (by decide) ?_
  have hk_9 : kd u a0 = 16 := h.1
  have h := h.2
  refine g_putI (v := 0) X hw in_X19 tyX19_ok nmX19 hk_9 rfl 0 rfl (by decide) q1451 (fun _ z => z) rfl rfl rfl dX19_fails_2 (fun H locs hw => ?_)
  refine lv_aload_n hx hb dX19_fails_5 rfl (lv_at hl 0 rfl) ?_
  refine lv_iload_n hx hb dX19_fails_6 rfl (lv_at hl 1 rfl) ?_
  refine g_callio hw (g_V X hw (mX19_isRule l G _ _ _ _ h) 1 (lw_V q1940 q1942 qs84 q143 q1943) rfl rfl ydX19_isRule ⟨Nat.le_of_ble_eq_true rfl, Nat.le_of_ble_eq_true rfl⟩ (g_recv X hw (ci := 15) (q := (RX19, TX19, 46)) hk_9 rfl) (As := [.int x1]) (rest := []) rfl hl.1 rfl (Nat.le_of_ble_eq_true rfl) dX19_fails_7 ⟨Nat.le_refl _, Nat.le_refl _⟩) (fun r_10 H locs h hw => ?_)
  refine lv_if_ne (tgt := 19) hx hb dX19_fails_10 rfl (fun c_14 => ?_) (fun c_14 => ?_)
  · have h := h.2 c_14
    refine lv_aload_n hx hb dX19_fails_19 rfl (lv_at hl 0 rfl) ?_
    refine lv_iload_n hx hb dX19_fails_20 rfl (lv_at hl 1 rfl) ?_
    refine g_callv hw (g_V X hw (mX19_laysAll l G _ _ _ _ h) 1 (lw_V q2025 q2027 qs103 q143 q2028) rfl rfl ydX19_laysAll ⟨Nat.le_of_ble_eq_true rfl, Nat.le_of_ble_eq_true rfl⟩ (g_recv X hw (ci := 15) (q := (RX19, TX19, 46)) hk_9 rfl) (As := [.int x1]) (rest := []) rfl hl.1 rfl (Nat.le_of_ble_eq_true rfl) dX19_fails_21 ⟨Nat.le_refl _, Nat.le_refl _⟩) (fun u_11 H locs h hw => ?_)
    refine lv_iconst (v := 0) hx hb dX19_fails_24 (by decide) ?_
    refine lv_istore_n (lv' := [(2, .int 0), (0, .ref a0), (1, .int x1)]) hx hb dX19_fails_25 rfl hl (by decide) rfl (fun ls hl => ?_)
    refine lv_iconst (v := 0) hx hb dX19_fails_26 (by decide) ?_
    refine lv_istore_n (lv' := [(3, .int 0), (2, .int 0), (0, .ref a0), (1, .int x1)]) hx hb dX19_fails_27 rfl hl (by decide) rfl (fun ls hl => ?_)
    exact wX19_fails_28 X hr  h hw (lv_sub hl [2, 1, 0] rfl)
  · have h := h.1 c_14
    refine lv_aload_n hx hb dX19_fails_13 rfl (lv_at hl 0 rfl) ?_
    refine lv_iconst (v := 1) hx hb dX19_fails_14 (by decide) ?_
    refine g_calli hw (g_V X hw (mX19_refused l G _ _ _ _ h) 1 (lw_V q1603 q1605 qs47 q143 q1606) rfl rfl ydX19_refused ⟨Nat.le_of_ble_eq_true rfl, Nat.le_of_ble_eq_true rfl⟩ (g_recv X hw (ci := 15) (q := (RX19, TX19, 46)) hk_9 rfl) (As := [.int 1]) (rest := []) rfl hl.1 rfl (Nat.le_of_ble_eq_true rfl) dX19_fails_15 ⟨Nat.le_refl _, Nat.le_refl _⟩) (fun r_12 u_13 H locs h hw => ?_)
    exact g_iret X hw hr h (Nat.le_refl _) (Nat.le_refl _) dX19_fails_18

/-! FifthCard.changed(II)I -/
theorem ydX1_changed : yX1_changed.cls = "FifthCard" ∧ yX1_changed.cls ≠ "java/lang/invoke/MethodHandle" ∧ yX1_changed.cls ≠ "java/lang/invoke/VarHandle" ∧ (parseMethodDescriptor yX1_changed.desc).map (fun d => d.parameters.length) = some 2 := by decide +kernel
def rmX1_changed (mc ms : Nat) : Room := { frames := 2, cells := mc, slots := ms, locals := 50 }
set_option maxHeartbeats 4000000 in
theorem mX1_changed (l : Launch) (G : GT) (u : Hp) (a0 : Nat) (x1 : Int32) (x2 : Int32) (K : Int32 → Hp → Prop) (h : pX1_changed u a0 x1 x2 K) : Met l yX1_changed (ws_ yX1_changed cX1_changed 7 (some .int)) (rmX1_changed 0 0) (va_Pc [.ref a0, .int x1, .int x2] (GB G u)) (va_Qi K (fun u t => GH G u t.heap) (GA G)) 0 0 (GA G) := by
  refine Met.ofW (cc := cX1_changed) (maxL := 7) (ret := (some .int)) (by decide) rfl ?_
  intro p e s m args below meth c s₁ B hml hv
  obtain ⟨rfl, hv⟩ := hv
  have X := Mc_of (own := RX1) B hml rfl hv
  have hw : GW G u s s.heap [] := ⟨hv.2.1, va_S.rf⟩
  have hr := B.returns
  obtain ⟨hx, hb, hml, hown, hts, -⟩ := id X
  have hl := lv_entry ([.ref a0, .int x1, .int x2]) (n := 7) (Nat.le_of_ble_eq_true rfl)
  rw [lg_entry_eq]
  generalize (lg_sl ([.ref a0, .int x1, .int x2]) ++ List.replicate (7 - (lg_sl ([.ref a0, .int x1, .int x2])).length) Slot.unset).toArray = ls at hl ⊢
  have hl : lv_has ls 7 [(0, .ref a0), (1, .int x1), (2, .int x2)] := hl
  change W p l e (rmX1_changed 0 0) s m _ below meth c s.heap [] 0 0 (QI G below K _ s 0 0) (F0 m 0 ls [])
  unfold pX1_changed at h
  refine lv_aload_n hx hb dX1_changed_0 rfl (lv_at hl 0 rfl) ?_
  have hk_1 : kd u a0 = 1 := h.1
  have h := h.2
  obtain ⟨b_2, e_3, h⟩ := h
  refine g_getR X hw in_X1 hk_1 rfl 3 rfl (by decide) q476 (fun _ z => z) e_3 dX1_changed_1 ?_
  have hk_4 : kd u b_2 = 17 := h.1
  have h := h.2
  refine g_callio hw (g_V X hw (mX20_rows l G _ _ _ h) 0 (lw_V q1013 q950 q951 q144 q952) rfl rfl ydX20_rows ⟨Nat.le_of_ble_eq_true rfl, Nat.le_of_ble_eq_true rfl⟩ (g_recv X hw (ci := 16) (q := (RX20, TX20, 13)) hk_4 rfl) (As := []) (rest := []) rfl hl.1 rfl (Nat.le_of_ble_eq_true rfl) dX1_changed_4 ⟨Nat.le_refl _, Nat.le_refl _⟩) (fun r_5 H locs h hw => ?_)
  refine lv_istore_n (lv' := [(3, .int r_5), (0, .ref a0), (1, .int x1), (2, .int x2)]) hx hb dX1_changed_7 rfl hl (by decide) rfl (fun ls hl => ?_)
  refine lv_aload_n hx hb dX1_changed_8 rfl (lv_at hl 1 rfl) ?_
  refine g_getR X hw in_X1 hk_1 rfl 3 rfl (by decide) q476 (fun _ z => z) e_3 dX1_changed_9 ?_
  refine lv_iload_n hx hb dX1_changed_12 rfl (lv_at hl 2 rfl) ?_
  refine lv_aload_n hx hb dX1_changed_13 rfl (lv_at hl 1 rfl) ?_
  refine g_getR X hw in_X1 hk_1 rfl 3 rfl (by decide) q476 (fun _ z => z) e_3 dX1_changed_14 ?_
  refine g_callio hw (g_V X hw (mX20_tiltings l G _ _ _ h) 0 (lw_V q1014 q954 q955 q144 q956) rfl rfl ydX20_tiltings ⟨Nat.le_of_ble_eq_true rfl, Nat.le_of_ble_eq_true rfl⟩ (g_recv X hw (ci := 16) (q := (RX20, TX20, 13)) hk_4 rfl) (As := []) (rest := [.int x1, .ref b_2]) rfl hl.1 rfl (Nat.le_of_ble_eq_true rfl) dX1_changed_17 ⟨Nat.le_refl _, Nat.le_refl _⟩) (fun r_6 H locs h hw => ?_)
  refine lv_idiv hx hb dX1_changed_20 h.1 ?_
  have h := h.2
  refine lv_iload_n hx hb dX1_changed_21 rfl (lv_at hl 0 rfl) ?_
  refine lv_aload_n hx hb dX1_changed_22 rfl (lv_at hl 1 rfl) ?_
  obtain ⟨b_7, e_8, h⟩ := h
  refine g_getR X hw in_X1 hk_1 rfl 15 rfl (by decide) q488 (fun _ z => z) e_8 dX1_changed_23 ?_
  refine g_callv hw (g_V X hw (mX20_unrank l G _ _ _ _ _ _ h) 3 (lw_V q1049 q973 q974 q144 q975) rfl rfl ydX20_unrank ⟨Nat.le_of_ble_eq_true rfl, Nat.le_of_ble_eq_true rfl⟩ (g_recv X hw (ci := 16) (q := (RX20, TX20, 13)) hk_4 rfl) (As := [.int (x1 / r_6), .int r_5, .ref b_7]) (rest := []) rfl hl.1 rfl (Nat.le_of_ble_eq_true rfl) dX1_changed_26 ⟨Nat.le_refl _, Nat.le_refl _⟩) (fun u_9 H locs h hw => ?_)
  refine lv_aload_n hx hb dX1_changed_29 rfl (lv_at hl 1 rfl) ?_
  have hk_10 : kd u_9 a0 = 1 := h.1
  have h := h.2
  obtain ⟨b_11, e_12, h⟩ := h
  refine g_getR X hw in_X1 hk_10 rfl 15 rfl (by decide) q488 (fun _ z => z) e_12 dX1_changed_30 ?_
  refine lv_iload_n hx hb dX1_changed_33 rfl (lv_at hl 3 rfl) ?_
  have hk_13 : kd u_9 b_11 = 101 := h.1
  have h := h.2
  refine g_iald X hw hk_13 h.1 dX1_changed_34 ?_
  have h := h.2
  refine lv_istore (lv' := [(4, .int (AI u_9 b_11 (tn x2))), (3, .int r_5), (0, .ref a0), (1, .int x1), (2, .int x2)]) hx hb dX1_changed_35 hl (by decide) rfl (fun ls hl => ?_)
  refine lv_aload_n hx hb dX1_changed_37 rfl (lv_at hl 2 rfl) ?_
  refine g_getR X hw in_X1 hk_10 rfl 15 rfl (by decide) q488 (fun _ z => z) e_12 dX1_changed_38 ?_
  refine lv_iload_n hx hb dX1_changed_41 rfl (lv_at hl 4 rfl) ?_
  refine lv_aload_n hx hb dX1_changed_42 rfl (lv_at hl 2 rfl) ?_
  refine g_getR X hw in_X1 hk_10 rfl 15 rfl (by decide) q488 (fun _ z => z) e_12 dX1_changed_43 ?_
  refine lv_iload_n hx hb dX1_changed_46 rfl (lv_at hl 4 rfl) ?_
  refine lv_iconst (v := 1) hx hb dX1_changed_47 (by decide) ?_
  refine lv_iadd hx hb dX1_changed_48 ?_
  refine g_iald X hw hk_13 h.1 dX1_changed_49 ?_
  have h := h.2
  refine g_iast X hw hk_13 h.1 dX1_changed_50 (fun H locs hw => ?_)
  have h := h.2
  refine lv_aload_n hx hb dX1_changed_51 rfl (lv_at hl 2 rfl) ?_
  refine g_getR X hw in_X1 hk_10 rfl 15 rfl (by decide) q488 (fun _ z => z) e_12 dX1_changed_52 ?_
  refine lv_iload_n hx hb dX1_changed_55 rfl (lv_at hl 4 rfl) ?_
  refine lv_iconst (v := 1) hx hb dX1_changed_56 (by decide) ?_
  refine lv_iadd hx hb dX1_changed_57 ?_
  refine lv_iload hx hb dX1_changed_58 (lv_at hl 0 rfl) ?_
  refine g_iast X hw hk_13 h.1 dX1_changed_60 (fun H locs hw => ?_)
  have h := h.2
  refine lv_iload_n hx hb dX1_changed_61 rfl (lv_at hl 3 rfl) ?_
  refine lv_aload_n hx hb dX1_changed_62 rfl (lv_at hl 2 rfl) ?_
  obtain ⟨b_14, e_15, h⟩ := h
  refine g_getR X hw in_X1 hk_10 rfl 3 rfl (by decide) q476 (fun _ z => z) e_15 dX1_changed_63 ?_
  have hk_16 : kd u_9 b_14 = 17 := h.1
  have h := h.2
  refine g_callio hw (g_V X hw (mX20_tiltings l G _ _ _ h) 0 (lw_V q1014 q954 q955 q144 q956) rfl rfl ydX20_tiltings ⟨Nat.le_of_ble_eq_true rfl, Nat.le_of_ble_eq_true rfl⟩ (g_recv X hw (ci := 16) (q := (RX20, TX20, 13)) hk_16 rfl) (As := []) (rest := [.int x1]) rfl hl.1 rfl (Nat.le_of_ble_eq_true rfl) dX1_changed_66 ⟨Nat.le_refl _, Nat.le_refl _⟩) (fun r_17 H locs h hw => ?_)
  refine lv_irem hx hb dX1_changed_69 h.1 ?_
  have h := h.2
  refine lv_istore (lv' := [(5, .int (jrem x1 r_17)), (4, .int (AI u_9 b_11 (tn x2))), (3, .int r_5), (0, .ref a0), (1, .int x1), (2, .int x2)]) hx hb dX1_changed_70 hl (by decide) rfl (fun ls hl => ?_)
  refine lv_iload hx hb dX1_changed_72 (lv_at hl 0 rfl) ?_
  refine lv_iload_n hx hb dX1_changed_74 rfl (lv_at hl 5 rfl) ?_
  refine lv_ishr hx hb dX1_changed_75 ?_
  refine lv_iconst (v := 1) hx hb dX1_changed_76 (by decide) ?_
  refine lv_iand hx hb dX1_changed_77 ?_
  refine lv_iconst (v := 1) hx hb dX1_changed_78 (by decide) ?_
  refine lv_ishl hx hb dX1_changed_79 ?_
  refine lv_iload hx hb dX1_changed_80 (lv_at hl 0 rfl) ?_
  refine lv_iload_n hx hb dX1_changed_82 rfl (lv_at hl 5 rfl) ?_
  refine lv_iconst (v := 1) hx hb dX1_changed_83 (by decide) ?_
  refine lv_iadd hx hb dX1_changed_84 ?_
  refine lv_ishr hx hb dX1_changed_85 ?_
  refine lv_iconst (v := 1) hx hb dX1_changed_86 (by decide) ?_
  refine lv_iand hx hb dX1_changed_87 ?_
  refine lv_ior hx hb dX1_changed_88 ?_
  refine lv_topi (fun x6_18 e_19 => ?_)
  have h := h x6_18 e_19
  refine lv_istore (lv' := [(6, .int x6_18), (5, .int (jrem x1 r_17)), (4, .int (AI u_9 b_11 (tn x2))), (3, .int r_5), (0, .ref a0), (1, .int x1), (2, .int x2)]) hx hb dX1_changed_89 hl (by decide) rfl (fun ls hl => ?_)
  refine lv_aload_n hx hb dX1_changed_91 rfl (lv_at hl 4 rfl) ?_
  refine g_getR X hw in_X1 hk_10 rfl 3 rfl (by decide) q476 (fun _ z => z) e_15 dX1_changed_92 ?_
  refine lv_aload_n hx hb dX1_changed_95 rfl (lv_at hl 4 rfl) ?_
  refine g_getR X hw in_X1 hk_10 rfl 15 rfl (by decide) q488 (fun _ z => z) e_12 dX1_changed_96 ?_
  refine lv_iload_n hx hb dX1_changed_99 rfl (lv_at hl 3 rfl) ?_
  refine g_callio hw (g_V X hw (mX20_rank l G _ _ _ _ _ h) 2 (lw_V q1255 q941 q942 q144 q943) rfl rfl ydX20_rank ⟨Nat.le_of_ble_eq_true rfl, Nat.le_of_ble_eq_true rfl⟩ (g_recv X hw (ci := 16) (q := (RX20, TX20, 13)) hk_16 rfl) (As := [.ref b_11, .int r_5]) (rest := []) rfl hl.1 rfl (Nat.le_of_ble_eq_true rfl) dX1_changed_100 ⟨Nat.le_refl _, Nat.le_refl _⟩) (fun r_20 H locs h hw => ?_)
  refine lv_aload_n hx hb dX1_changed_103 rfl (lv_at hl 4 rfl) ?_
  refine g_getR X hw in_X1 hk_10 rfl 3 rfl (by decide) q476 (fun _ z => z) e_15 dX1_changed_104 ?_
  refine g_callio hw (g_V X hw (mX20_tiltings l G _ _ _ h) 0 (lw_V q1014 q954 q955 q144 q956) rfl rfl ydX20_tiltings ⟨Nat.le_of_ble_eq_true rfl, Nat.le_of_ble_eq_true rfl⟩ (g_recv X hw (ci := 16) (q := (RX20, TX20, 13)) hk_16 rfl) (As := []) (rest := [.int r_20]) rfl hl.1 rfl (Nat.le_of_ble_eq_true rfl) dX1_changed_107 ⟨Nat.le_refl _, Nat.le_refl _⟩) (fun r_21 H locs h hw => ?_)
  refine lv_imul hx hb dX1_changed_110 ?_
  refine lv_iload hx hb dX1_changed_111 (lv_at hl 1 rfl) ?_
  refine lv_iconst (v := 3) hx hb dX1_changed_113 (by decide) ?_
  refine lv_iload_n hx hb dX1_changed_114 rfl (lv_at hl 6 rfl) ?_
  refine lv_ishl hx hb dX1_changed_115 ?_
  refine lv_iconst (v := (-1)) hx hb dX1_changed_116 (by decide) ?_
  refine lv_ixor hx hb dX1_changed_117 ?_
  refine lv_iand hx hb dX1_changed_118 ?_
  refine lv_iload hx hb dX1_changed_119 (lv_at hl 0 rfl) ?_
  refine lv_iload_n hx hb dX1_changed_121 rfl (lv_at hl 6 rfl) ?_
  refine lv_ishl hx hb dX1_changed_122 ?_
  refine lv_ior hx hb dX1_changed_123 ?_
  refine lv_iadd hx hb dX1_changed_124 ?_
  exact g_iret X hw hr h (Nat.le_refl _) (Nat.le_refl _) dX1_changed_125

/-! FifthCard$Pairing.isMarked(II)Z -/
theorem ydX4_isMarked : yX4_isMarked.cls = "FifthCard$Pairing" ∧ yX4_isMarked.cls ≠ "java/lang/invoke/MethodHandle" ∧ yX4_isMarked.cls ≠ "java/lang/invoke/VarHandle" ∧ (parseMethodDescriptor yX4_isMarked.desc).map (fun d => d.parameters.length) = some 2 := by decide +kernel
def rmX4_isMarked (mc ms : Nat) : Room := { frames := 0, cells := mc, slots := ms, locals := 0 }
set_option maxHeartbeats 4000000 in
theorem mX4_isMarked (l : Launch) (G : GT) (u : Hp) (a0 : Nat) (x1 : Int32) (x2 : Int32) (K : Int32 → Prop) (h : pX4_isMarked u a0 x1 x2 K) : Met l yX4_isMarked (ws_ yX4_isMarked cX4_isMarked 3 (some .boolean)) (rmX4_isMarked 0 0) (va_Pc [.ref a0, .int x1, .int x2] (GB G u)) (va_Qi (fun r v => v = u ∧ K r) (fun u t => GH G u t.heap) (GA G)) 0 0 (GA G) := by
  refine Met.ofW (cc := cX4_isMarked) (maxL := 3) (ret := (some .boolean)) (by decide) rfl ?_
  intro p e s m args below meth c s₁ B hml hv
  obtain ⟨rfl, hv⟩ := hv
  have X := Mc_of (own := RX4) B hml rfl hv
  have hw : GW G u s s.heap [] := ⟨hv.2.1, va_S.rf⟩
  have hr := B.returns
  obtain ⟨hx, hb, hml, hown, hts, -⟩ := id X
  have hl := lv_entry ([.ref a0, .int x1, .int x2]) (n := 3) (Nat.le_of_ble_eq_true rfl)
  rw [lg_entry_eq]
  generalize (lg_sl ([.ref a0, .int x1, .int x2]) ++ List.replicate (3 - (lg_sl ([.ref a0, .int x1, .int x2])).length) Slot.unset).toArray = ls at hl ⊢
  have hl : lv_has ls 3 [(0, .ref a0), (1, .int x1), (2, .int x2)] := hl
  change W p l e (rmX4_isMarked 0 0) s m _ below meth c s.heap [] 0 0 (QI G below (fun r v => v = u ∧ K r) _ s 0 0) (F0 m 0 ls [])
  unfold pX4_isMarked at h
  refine lv_aload_n hx hb dX4_isMarked_0 rfl (lv_at hl 0 rfl) ?_
  have hk_1 : kd u a0 = 4 := h.1
  have h := h.2
  obtain ⟨b_2, e_3, h⟩ := h
  refine g_getR X hw in_X4 hk_1 rfl 4 rfl (by decide) q292 (fun _ z => z) e_3 dX4_isMarked_1 ?_
  refine lv_iload_n hx hb dX4_isMarked_4 rfl (lv_at hl 1 rfl) ?_
  have hk_4 : kd u b_2 = 101 := h.1
  have h := h.2
  refine g_iald X hw hk_4 h.1 dX4_isMarked_5 ?_
  have h := h.2
  refine lv_aload_n hx hb dX4_isMarked_6 rfl (lv_at hl 0 rfl) ?_
  refine g_getI X hw in_X4 hk_1 rfl 11 rfl (by decide) q299 (fun _ z => z) dX4_isMarked_7 ?_
  refine lv_icmp_ne (tgt := 27) hx hb dX4_isMarked_10 rfl (fun c_9 => ?_) (fun c_9 => ?_)
  · have h := h.2 c_9
    refine lv_iconst (v := 0) hx hb dX4_isMarked_27 (by decide) ?_
    exact g_zret X hw hr rfl ⟨rfl, h⟩ (Nat.le_refl _) (Nat.le_refl _) dX4_isMarked_28
  · have h := h.1 c_9
    refine lv_aload_n hx hb dX4_isMarked_13 rfl (lv_at hl 0 rfl) ?_
    obtain ⟨b_5, e_6, h⟩ := h
    refine g_getR X hw in_X4 hk_1 rfl 3 rfl (by decide) q291 (fun _ z => z) e_6 dX4_isMarked_14 ?_
    refine lv_iload_n hx hb dX4_isMarked_17 rfl (lv_at hl 1 rfl) ?_
    have hk_7 : kd u b_5 = 101 := h.1
    have h := h.2
    refine g_iald X hw hk_7 h.1 dX4_isMarked_18 ?_
    have h := h.2
    refine lv_iload_n hx hb dX4_isMarked_19 rfl (lv_at hl 2 rfl) ?_
    refine lv_icmp_eq (tgt := 27) hx hb dX4_isMarked_20 rfl (fun c_8 => ?_) (fun c_8 => ?_)
    · have h := h.1 c_8
      refine lv_iconst (v := 0) hx hb dX4_isMarked_27 (by decide) ?_
      exact g_zret X hw hr rfl ⟨rfl, h⟩ (Nat.le_refl _) (Nat.le_refl _) dX4_isMarked_28
    · have h := h.2 c_8
      refine lv_iconst (v := 1) hx hb dX4_isMarked_23 (by decide) ?_
      refine lv_goto (tgt := 28) hx hb dX4_isMarked_24 rfl ?_
      exact g_zret X hw hr rfl ⟨rfl, h⟩ (Nat.le_refl _) (Nat.le_refl _) dX4_isMarked_28

