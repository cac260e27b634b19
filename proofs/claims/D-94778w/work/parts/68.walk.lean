/-! printed by tools/genparts.py: the walks (m..): the machine runs as the predicates say -/
set_option maxRecDepth 100000
/-! FifthCard$Reader.must(Ljava/lang/String;)V -/
theorem ydX2_must : yX2_must.cls = "FifthCard$Reader" ∧ yX2_must.cls ≠ "java/lang/invoke/MethodHandle" ∧ yX2_must.cls ≠ "java/lang/invoke/VarHandle" ∧ (parseMethodDescriptor yX2_must.desc).map (fun d => d.parameters.length) = some 1 := by decide +kernel
def rmX2_must (mc ms : Nat) : Room := { frames := 6, cells := mc, slots := ms, locals := 142 }
set_option maxHeartbeats 4000000 in
theorem mX2_must (l : Launch) (G : GT) (u : Hp) (a0 : Nat) (a1 : Nat) (MC MS : Nat) (K : Hp → Prop) (E : Nat → Hp → Prop) (h : pX2_must (Glit G) u a0 a1 MC MS K E) : vx_Met l yX2_must (ws_ yX2_must cX2_must 2 none) (rmX2_must MC MS) (va_Pc [.ref a0, .ref a1] (GB G u)) (va_Qv K (fun u t => GH G u t.heap) (GA G)) (XE G "FifthCard$Refused" E) MC MS (GA G) := by
  refine vx_ofW (cc := cX2_must) (maxL := 2) (ret := none) (by decide) rfl ?_
  intro p e s m args below meth c s₁ B hml ht hv
  obtain ⟨rfl, hv⟩ := hv
  have X := Mc_of (own := RX2) B hml rfl hv
  have hw : GW G u s s.heap [] := ⟨hv.2.1, va_S.rf⟩
  have hr := B.returns
  obtain ⟨hx, hb, hml, hown, hts, -⟩ := id X
  have hl := lv_entry ([.ref a0, .ref a1]) (n := 2) (Nat.le_of_ble_eq_true rfl)
  rw [lg_entry_eq]
  generalize (lg_sl ([.ref a0, .ref a1]) ++ List.replicate (2 - (lg_sl ([.ref a0, .ref a1])).length) Slot.unset).toArray = ls at hl ⊢
  have hl : lv_has ls 2 [(0, .ref a0), (1, .ref a1)] := hl
  change W p l e (rmX2_must MC MS) s m _ below meth c s.heap [] 0 0 (TV G "FifthCard$Refused" below K E _ s MC MS) (F0 m 0 ls [])
  unfold pX2_must at h
  have hc1 : 0 + MC ≤ MC := by omega
  have hc2 : 0 + MS ≤ MS := by omega
  refine lv_aload_n hx hb dX2_must_0 rfl (lv_at hl 0 rfl) ?_
  refine lv_aload_n hx hb dX2_must_1 rfl (lv_at hl 1 rfl) ?_
  have hk_5 : kd u a0 = 2 := h.1
  have h := h.2
  obtain ⟨q_1, q_2, hq_3, hq_4, h⟩ := h
  refine g_calli hw (g_V X hw (mX2_takes l G _ _ _ _ _ _ h) 1 (lw_V q823 q825 qs11 q123 q826) rfl rfl ydX2_takes ⟨Nat.le_of_ble_eq_true rfl, Nat.le_of_ble_eq_true rfl⟩ (g_recv X hw (ci := 1) (q := (RX2, TX2, 11)) hk_5 rfl) (As := [.ref a1]) (rest := []) rfl hl.1 rfl (Nat.le_of_ble_eq_true rfl) dX2_must_2 ⟨(by show _ ≤ MC; omega), (by show _ ≤ MS; omega)⟩) (fun r_6 u_7 H locs h hw => ?_)
  refine lv_if_ne (tgt := 14) hx hb dX2_must_5 rfl (fun c_14 => ?_) (fun c_14 => ?_)
  · have h := h.2 c_14
    exact vx_ret (g_vret X hw hr h (by omega) (by omega) dX2_must_14)
  · have h := h.1 c_14
    refine lv_aload_n hx hb dX2_must_8 rfl (lv_at hl 0 rfl) ?_
    refine lv_iconst (v := 1) hx hb dX2_must_9 (by decide) ?_
    have hk_8 : kd u_7 a0 = 2 := h.1
    have h := h.2
    refine g_callr hw (g_V X hw (mX2_fail l G _ _ _ _ h) 1 (lw_V q738 q740 qs7 q123 q741) rfl rfl ydX2_fail ⟨Nat.le_of_ble_eq_true rfl, Nat.le_of_ble_eq_true rfl⟩ (g_recv X hw (ci := 1) (q := (RX2, TX2, 11)) hk_8 rfl) (As := [.int 1]) (rest := []) rfl hl.1 rfl (Nat.le_of_ble_eq_true rfl) dX2_must_10 ⟨(by show _ ≤ MC; omega), (by show _ ≤ MS; omega)⟩) (fun o_9 u_10 H locs h hw => ?_)
    obtain ⟨b_11, e_12, h⟩ := h
    rw [e_12]
    show W _ _ _ _ _ _ _ _ _ _ _ _ _ _ _ (F0 _ _ _ (.ref _ :: _))
    have hk_13 : kd u_10 b_11 = 3 := h.1
    have h := h.2
    exact g_throw X ht hw hk_13 h (by omega) (by omega) dX2_must_13

/-! FifthCard$Reader.numberHere(II)I -/
theorem ydX2_numberHere : yX2_numberHere.cls = "FifthCard$Reader" ∧ yX2_numberHere.cls ≠ "java/lang/invoke/MethodHandle" ∧ yX2_numberHere.cls ≠ "java/lang/invoke/VarHandle" ∧ (parseMethodDescriptor yX2_numberHere.desc).map (fun d => d.parameters.length) = some 2 := by decide +kernel
def rmX2_numberHere (mc ms : Nat) : Room := { frames := 2, cells := mc, slots := ms, locals := 43 }
set_option maxHeartbeats 4000000 in
theorem mX2_numberHere (l : Launch) (G : GT) (u : Hp) (a0 : Nat) (x1 : Int32) (x2 : Int32) (K : Int32 → Hp → Prop) (E : Nat → Hp → Prop) (h : pX2_numberHere u a0 x1 x2 K E) : vx_Met l yX2_numberHere (ws_ yX2_numberHere cX2_numberHere 3 (some .int)) (rmX2_numberHere 0 0) (va_Pc [.ref a0, .int x1, .int x2] (GB G u)) (va_Qi K (fun u t => GH G u t.heap) (GA G)) (XE G "FifthCard$Refused" E) 0 0 (GA G) := by
  refine vx_ofW (cc := cX2_numberHere) (maxL := 3) (ret := (some .int)) (by decide) rfl ?_
  intro p e s m args below meth c s₁ B hml ht hv
  obtain ⟨rfl, hv⟩ := hv
  have X := Mc_of (own := RX2) B hml rfl hv
  have hw : GW G u s s.heap [] := ⟨hv.2.1, va_S.rf⟩
  have hr := B.returns
  obtain ⟨hx, hb, hml, hown, hts, -⟩ := id X
  have hl := lv_entry ([.ref a0, .int x1, .int x2]) (n := 3) (Nat.le_of_ble_eq_true rfl)
  rw [lg_entry_eq]
  generalize (lg_sl ([.ref a0, .int x1, .int x2]) ++ List.replicate (3 - (lg_sl ([.ref a0, .int x1, .int x2])).length) Slot.unset).toArray = ls at hl ⊢
  have hl : lv_has ls 3 [(0, .ref a0), (1, .int x1), (2, .int x2)] := hl
  change W p l e (rmX2_numberHere 0 0) s m _ below meth c s.heap [] 0 0 (TI G "FifthCard$Refused" below K E _ s 0 0) (F0 m 0 ls [])
  unfold pX2_numberHere at h
  refine lv_aload_n hx hb dX2_numberHere_0 rfl (lv_at hl 0 rfl) ?_
  have hk_1 : kd u a0 = 2 := h.1
  have h := h.2
  refine g_getI X hw in_X2 hk_1 rfl 6 rfl (by decide) q250 (fun _ z => z) dX2_numberHere_1 ?_
  refine lv_iconst (v := 3) hx hb dX2_numberHere_4 (by decide) ?_
  refine lv_icmp_eq (tgt := 14) hx hb dX2_numberHere_5 rfl (fun c_14 => ?_) (fun c_14 => ?_)
  · have h := h.1 c_14
    refine lv_aload_n hx hb dX2_numberHere_14 rfl (lv_at hl 0 rfl) ?_
    refine g_getI X hw in_X2 hk_1 rfl 8 rfl (by decide) q252 (fun _ z => z) dX2_numberHere_15 ?_
    refine lv_iload_n hx hb dX2_numberHere_18 rfl (lv_at hl 1 rfl) ?_
    refine lv_iload_n hx hb dX2_numberHere_19 rfl (lv_at hl 2 rfl) ?_
    refine g_callio hw (g_SN X hw (mX1_in l G _ _ _ _ _ h) 3 q541 q122 (List.mem_of_getElem? (i := 26) rfl) q540 rfl rfl ydX1_in ⟨Nat.le_of_ble_eq_true rfl, Nat.le_of_ble_eq_true rfl⟩ (As := [.int (FI u 208 a0), .int x1, .int x2]) (rest := []) rfl hl.1 rfl (Nat.le_of_ble_eq_true rfl) dX2_numberHere_20 ⟨Nat.le_refl _, Nat.le_refl _⟩) (fun r_2 H locs h hw => ?_)
    refine lv_if_ne (tgt := 32) hx hb dX2_numberHere_23 rfl (fun c_8 => ?_) (fun c_8 => ?_)
    · have h := h.2 c_8
      refine lv_aload_n hx hb dX2_numberHere_32 rfl (lv_at hl 0 rfl) ?_
      refine g_getI X hw in_X2 hk_1 rfl 8 rfl (by decide) q252 (fun _ z => z) dX2_numberHere_33 ?_
      exact vx_ret (g_iret X hw hr h (Nat.le_refl _) (Nat.le_refl _) dX2_numberHere_36)
    · have h := h.1 c_8
      refine lv_aload_n hx hb dX2_numberHere_26 rfl (lv_at hl 0 rfl) ?_
      refine lv_iconst (v := 4) hx hb dX2_numberHere_27 (by decide) ?_
      refine g_callr hw (g_V X hw (mX2_fail l G _ _ _ _ h) 1 (lw_V q738 q740 qs7 q123 q741) rfl rfl ydX2_fail ⟨Nat.le_of_ble_eq_true rfl, Nat.le_of_ble_eq_true rfl⟩ (g_recv X hw (ci := 1) (q := (RX2, TX2, 11)) hk_1 rfl) (As := [.int 4]) (rest := []) rfl hl.1 rfl (Nat.le_of_ble_eq_true rfl) dX2_numberHere_28 ⟨Nat.le_refl _, Nat.le_refl _⟩) (fun o_3 u_4 H locs h hw => ?_)
      obtain ⟨b_5, e_6, h⟩ := h
      rw [e_6]
      show W _ _ _ _ _ _ _ _ _ _ _ _ _ _ _ (F0 _ _ _ (.ref _ :: _))
      have hk_7 : kd u_4 b_5 = 3 := h.1
      have h := h.2
      exact g_throw X ht hw hk_7 h (Nat.le_refl _) (Nat.le_refl _) dX2_numberHere_31
  · have h := h.2 c_14
    refine lv_aload_n hx hb dX2_numberHere_8 rfl (lv_at hl 0 rfl) ?_
    refine lv_iconst (v := 1) hx hb dX2_numberHere_9 (by decide) ?_
    refine g_callr hw (g_V X hw (mX2_fail l G _ _ _ _ h) 1 (lw_V q738 q740 qs7 q123 q741) rfl rfl ydX2_fail ⟨Nat.le_of_ble_eq_true rfl, Nat.le_of_ble_eq_true rfl⟩ (g_recv X hw (ci := 1) (q := (RX2, TX2, 11)) hk_1 rfl) (As := [.int 1]) (rest := []) rfl hl.1 rfl (Nat.le_of_ble_eq_true rfl) dX2_numberHere_10 ⟨Nat.le_refl _, Nat.le_refl _⟩) (fun o_9 u_10 H locs h hw => ?_)
    obtain ⟨b_11, e_12, h⟩ := h
    rw [e_12]
    show W _ _ _ _ _ _ _ _ _ _ _ _ _ _ _ (F0 _ _ _ (.ref _ :: _))
    have hk_13 : kd u_10 b_11 = 3 := h.1
    have h := h.2
    exact g_throw X ht hw hk_13 h (Nat.le_refl _) (Nat.le_refl _) dX2_numberHere_13

/-! FifthCard$Reader.after(Ljava/lang/String;II)I -/
theorem ydX2_after : yX2_after.cls = "FifthCard$Reader" ∧ yX2_after.cls ≠ "java/lang/invoke/MethodHandle" ∧ yX2_after.cls ≠ "java/lang/invoke/VarHandle" ∧ (parseMethodDescriptor yX2_after.desc).map (fun d => d.parameters.length) = some 3 := by decide +kernel
def rmX2_after (mc ms : Nat) : Room := { frames := 7, cells := mc, slots := ms, locals := 163 }
set_option maxHeartbeats 4000000 in
theorem mX2_after (l : Launch) (G : GT) (u : Hp) (a0 : Nat) (a1 : Nat) (x2 : Int32) (x3 : Int32) (MC MS : Nat) (K : Int32 → Hp → Prop) (E : Nat → Hp → Prop) (h : pX2_after (Glit G) u a0 a1 x2 x3 MC MS K E) : vx_Met l yX2_after (ws_ yX2_after cX2_after 5 (some .int)) (rmX2_after MC MS) (va_Pc [.ref a0, .ref a1, .int x2, .int x3] (GB G u)) (va_Qi K (fun u t => GH G u t.heap) (GA G)) (XE G "FifthCard$Refused" E) MC MS (GA G) := by
  refine vx_ofW (cc := cX2_after) (maxL := 5) (ret := (some .int)) (by decide) rfl ?_
  intro p e s m args below meth c s₁ B hml ht hv
  obtain ⟨rfl, hv⟩ := hv
  have X := Mc_of (own := RX2) B hml rfl hv
  have hw : GW G u s s.heap [] := ⟨hv.2.1, va_S.rf⟩
  have hr := B.returns
  obtain ⟨hx, hb, hml, hown, hts, -⟩ := id X
  have hl := lv_entry ([.ref a0, .ref a1, .int x2, .int x3]) (n := 5) (Nat.le_of_ble_eq_true rfl)
  rw [lg_entry_eq]
  generalize (lg_sl ([.ref a0, .ref a1, .int x2, .int x3]) ++ List.replicate (5 - (lg_sl ([.ref a0, .ref a1, .int x2, .int x3])).length) Slot.unset).toArray = ls at hl ⊢
  have hl : lv_has ls 5 [(0, .ref a0), (1, .ref a1), (2, .int x2), (3, .int x3)] := hl
  change W p l e (rmX2_after MC MS) s m _ below meth c s.heap [] 0 0 (TI G "FifthCard$Refused" below K E _ s MC MS) (F0 m 0 ls [])
  unfold pX2_after at h
  have hc1 : 0 + MC ≤ MC := by omega
  have hc2 : 0 + MS ≤ MS := by omega
  refine lv_aload_n hx hb dX2_after_0 rfl (lv_at hl 0 rfl) ?_
  refine lv_aload_n hx hb dX2_after_1 rfl (lv_at hl 1 rfl) ?_
  have hk_5 : kd u a0 = 2 := h.1
  have h := h.2
  obtain ⟨q_1, q_2, hq_3, hq_4, h⟩ := h
  refine g_tcallv X ht hw (g_TV X hw (mX2_must l G _ _ _ _ _ _ _ h) 1 (lw_V q819 q821 qs10 q123 q822) rfl rfl ydX2_must ⟨Nat.le_of_ble_eq_true rfl, Nat.le_of_ble_eq_true rfl⟩ (g_recv X hw (ci := 1) (q := (RX2, TX2, 11)) hk_5 rfl) (As := [.ref a1]) (rest := []) rfl hl.1 rfl (Nat.le_of_ble_eq_true rfl) dX2_after_2 ⟨(by show _ ≤ MC; omega), (by show _ ≤ MS; omega)⟩) (by omega) (by omega) (fun u_6 H locs h hw => ?_)
  refine lv_aload_n hx hb dX2_after_5 rfl (lv_at hl 0 rfl) ?_
  refine lv_iload_n hx hb dX2_after_6 rfl (lv_at hl 2 rfl) ?_
  refine lv_iload_n hx hb dX2_after_7 rfl (lv_at hl 3 rfl) ?_
  have hk_7 : kd u_6 a0 = 2 := h.1
  have h := h.2
  refine g_tcalli X ht hw (g_TV X hw (mX2_numberHere l G _ _ _ _ _ _ h) 2 (lw_V q831 q833 qs13 q123 q834) rfl rfl ydX2_numberHere ⟨Nat.le_of_ble_eq_true rfl, Nat.le_of_ble_eq_true rfl⟩ (g_recv X hw (ci := 1) (q := (RX2, TX2, 11)) hk_7 rfl) (As := [.int x2, .int x3]) (rest := []) rfl hl.1 rfl (Nat.le_of_ble_eq_true rfl) dX2_after_8 ⟨(by show _ ≤ MC; omega), (by show _ ≤ MS; omega)⟩) (by omega) (by omega) (fun r_8 u_9 H locs h hw => ?_)
  refine lv_istore (lv' := [(4, .int r_8), (0, .ref a0), (1, .ref a1), (2, .int x2), (3, .int x3)]) hx hb dX2_after_11 hl (by decide) rfl (fun ls hl => ?_)
  refine lv_aload_n hx hb dX2_after_13 rfl (lv_at hl 1 rfl) ?_
  have hk_14 : kd u_9 a0 = 2 := h.1
  have h := h.2
  obtain ⟨q_10, q_11, hq_12, hq_13, h⟩ := h
  refine g_callv hw (g_V X hw (mX2_next l G _ _ _ _ _ h) 0 (lw_V q640 q642 qs4 q123 q643) rfl rfl ydX2_next ⟨Nat.le_of_ble_eq_true rfl, Nat.le_of_ble_eq_true rfl⟩ (g_recv X hw (ci := 1) (q := (RX2, TX2, 11)) hk_14 rfl) (As := []) (rest := []) rfl hl.1 rfl (Nat.le_of_ble_eq_true rfl) dX2_after_14 ⟨(by show _ ≤ MC; omega), (by show _ ≤ MS; omega)⟩) (fun u_15 H locs h hw => ?_)
  refine lv_iload hx hb dX2_after_17 (lv_at hl 0 rfl) ?_
  exact vx_ret (g_iret X hw hr h (by omega) (by omega) dX2_after_19)

/-! FifthCard$Reader.trickLine()V -/
theorem ydX2_trickLine : yX2_trickLine.cls = "FifthCard$Reader" ∧ yX2_trickLine.cls ≠ "java/lang/invoke/MethodHandle" ∧ yX2_trickLine.cls ≠ "java/lang/invoke/VarHandle" ∧ (parseMethodDescriptor yX2_trickLine.desc).map (fun d => d.parameters.length) = some 0 := by decide +kernel
def rmX2_trickLine (mc ms : Nat) : Room := { frames := 8, cells := mc, slots := ms, locals := 187 }
set_option maxHeartbeats 4000000 in
theorem wX2_trickLine_206 {G : GT} {p : Program} {l : Launch} {e : Env} {s : State} {m : MethodId} {args : Array Value} {below : List Frame} {meth : Method} {c : Code} {H : Heap} {locs : List Loc} {ls : Array Slot} {cells slots : Nat} {MC MS : Nat} {a0 : Nat} {x1 : Int32} {u : Hp} {mc : Nat} {ms : Nat} {K : Hp → Prop} {E : Nat → Hp → Prop} (X : Mc G p s m args meth c RX2 cX2_trickLine 4) (hr : meth.sig.returnType = none) (ht : ∀ x ∈ c.exceptionTable.toList, False) (hc1 : cells + mc ≤ MC) (hc2 : slots + ms ≤ MS) (h : bX2_trickLine_206 K E (Glit G) a0 x1 u mc ms) (hw : GW G u s H locs) (hl : lv_has ls 4 [(0, .ref a0), (1, .int x1)]) : W p l e (rmX2_trickLine MC MS) s m args below meth c H locs cells slots (TV G "FifthCard$Refused" below K E args s MC MS) (F0 m 206 ls []) := by
  obtain ⟨hx, hb, hml, hown, hts, -⟩ := id X
  unfold bX2_trickLine_206 at h
  refine lv_aload_n hx hb dX2_trickLine_206 rfl (lv_at hl 0 rfl) ?_
  have hk_1 : kd u a0 = 2 := h.1
  have h := h.2
  obtain ⟨b_2, e_3, h⟩ := h
  refine g_getR X hw in_X2 hk_1 rfl 10 rfl (by decide) q254 (fun _ z => z) e_3 dX2_trickLine_207 ?_
  refine lv_aload_n hx hb dX2_trickLine_210 rfl (lv_at hl 0 rfl) ?_
  refine va_ldcS (tx := "tilts") hx hb hown (X.2.2.2.2.2.2.1.2.2.2.2.2.2.1 12 ("FifthCard$Reader", 169, "tilts") rfl) dX2_trickLine_211 ?_
  obtain ⟨q_4, q_5, hq_6, hq_7, h⟩ := h
  refine g_calli hw (g_V X hw (mX2_takes l G _ _ _ _ _ _ h) 1 (lw_V q823 q825 qs11 q123 q826) rfl rfl ydX2_takes ⟨Nat.le_of_ble_eq_true rfl, Nat.le_of_ble_eq_true rfl⟩ (g_recv X hw (ci := 1) (q := (RX2, TX2, 11)) hk_1 rfl) (As := [.ref (Glit G 12)]) (rest := [.ref b_2]) rfl hl.1 rfl (Nat.le_of_ble_eq_true rfl) dX2_trickLine_213 ⟨(by show _ ≤ MC; omega), (by show _ ≤ MS; omega)⟩) (fun r_8 u_9 H locs h hw => ?_)
  have hk_10 : kd u_9 b_2 = 17 := h.1
  have h := h.2
  have ho_11 := h.1
  have h := h.2
  refine g_putI (v := r_8) X hw in_X20 tyX20_ok nmX20 hk_10 rfl 11 rfl (by decide) q610 (fun _ z => z) rfl ho_11.1 ho_11.2 dX2_trickLine_216 (fun H locs hw => ?_)
  refine lv_aload_n hx hb dX2_trickLine_219 rfl (lv_at hl 0 rfl) ?_
  have hk_12 : kd u_9 a0 = 2 := h.1
  have h := h.2
  obtain ⟨b_13, e_14, h⟩ := h
  refine g_getR X hw in_X2 hk_12 rfl 10 rfl (by decide) q254 (fun _ z => z) e_14 dX2_trickLine_220 ?_
  refine lv_iload_n hx hb dX2_trickLine_223 rfl (lv_at hl 1 rfl) ?_
  have hk_15 : kd u_9 b_13 = 17 := h.1
  have h := h.2
  refine g_putI (v := x1) X hw in_X20 tyX20_ok nmX20 hk_15 rfl 3 rfl (by decide) q571 (fun _ z => z) rfl rfl rfl dX2_trickLine_224 (fun H locs hw => ?_)
  exact vx_ret (g_vret X hw hr h (by omega) (by omega) dX2_trickLine_227)
set_option maxHeartbeats 4000000 in
theorem wX2_trickLine_153 {G : GT} {p : Program} {l : Launch} {e : Env} {s : State} {m : MethodId} {args : Array Value} {below : List Frame} {meth : Method} {c : Code} {H : Heap} {locs : List Loc} {ls : Array Slot} {cells slots : Nat} {MC MS : Nat} {a0 : Nat} {x1 : Int32} {x3 : Int32} {u : Hp} {mc : Nat} {ms : Nat} {K : Hp → Prop} {E : Nat → Hp → Prop} (X : Mc G p s m args meth c RX2 cX2_trickLine 4) (hr : meth.sig.returnType = none) (ht : ∀ x ∈ c.exceptionTable.toList, False) (hc1 : cells + mc ≤ MC) (hc2 : slots + ms ≤ MS) (h : bX2_trickLine_153 K E (Glit G) a0 x1 x3 u mc ms) (hw : GW G u s H locs) (hl : lv_has ls 4 [(0, .ref a0), (1, .int x1), (3, .int x3)]) : W p l e (rmX2_trickLine MC MS) s m args below meth c H locs cells slots (TV G "FifthCard$Refused" below K E args s MC MS) (F0 m 153 ls []) := by
  obtain ⟨hx, hb, hml, hown, hts, -⟩ := id X
  unfold bX2_trickLine_153 at h
  refine lv_aload_n hx hb dX2_trickLine_153 rfl (lv_at hl 0 rfl) ?_
  have hk_16 : kd u a0 = 2 := h.1
  have h := h.2
  obtain ⟨b_17, e_18, h⟩ := h
  refine g_getR X hw in_X2 hk_16 rfl 10 rfl (by decide) q254 (fun _ z => z) e_18 dX2_trickLine_154 ?_
  refine lv_iload_n hx hb dX2_trickLine_157 rfl (lv_at hl 1 rfl) ?_
  have hk_19 : kd u b_17 = 17 := h.1
  have h := h.2
  refine g_calllo hw (g_V X hw (mX20_hands l G _ _ _ _ h) 1 (lw_V q843 q844 q845 q144 q846) rfl rfl ydX20_hands ⟨Nat.le_of_ble_eq_true rfl, Nat.le_of_ble_eq_true rfl⟩ (g_recv X hw (ci := 16) (q := (RX20, TX20, 13)) hk_19 rfl) (As := [.int x1]) (rest := []) rfl hl.1 rfl (Nat.le_of_ble_eq_true rfl) dX2_trickLine_158 ⟨(by show _ ≤ MC; omega), (by show _ ≤ MS; omega)⟩) (fun r_20 H locs h hw => ?_)
  refine lv_ldc2 hx hb hown (hts _ q854) dX2_trickLine_161 ?_
  refine W.lcmp hx hb dX2_trickLine_164 ?_
  refine lv_if_le (tgt := 179) hx hb dX2_trickLine_165 rfl (fun c_47 => ?_) (fun c_47 => ?_)
  · have h := h.1 c_47
    refine lv_aload_n hx hb dX2_trickLine_179 rfl (lv_at hl 0 rfl) ?_
    obtain ⟨q_21, q_22, hq_23, hq_24, h⟩ := h
    refine g_callv hw (g_V X hw (mX2_next l G _ _ _ _ _ h) 0 (lw_V q640 q642 qs4 q123 q643) rfl rfl ydX2_next ⟨Nat.le_of_ble_eq_true rfl, Nat.le_of_ble_eq_true rfl⟩ (g_recv X hw (ci := 1) (q := (RX2, TX2, 11)) hk_16 rfl) (As := []) (rest := []) rfl hl.1 rfl (Nat.le_of_ble_eq_true rfl) dX2_trickLine_180 ⟨(by show _ ≤ MC; omega), (by show _ ≤ MS; omega)⟩) (fun u_25 H locs h hw => ?_)
    refine lv_aload_n hx hb dX2_trickLine_183 rfl (lv_at hl 0 rfl) ?_
    have hk_26 : kd u_25 a0 = 2 := h.1
    have h := h.2
    obtain ⟨b_27, e_28, h⟩ := h
    refine g_getR X hw in_X2 hk_26 rfl 10 rfl (by decide) q254 (fun _ z => z) e_28 dX2_trickLine_184 ?_
    have hk_29 : kd u_25 b_27 = 17 := h.1
    have h := h.2
    refine g_getI X hw in_X20 hk_29 rfl 9 rfl (by decide) q601 (fun _ z => z) dX2_trickLine_187 ?_
    refine lv_if_ne (tgt := 206) hx hb dX2_trickLine_190 rfl (fun c_38 => ?_) (fun c_38 => ?_)
    · have h := h.2 c_38
      exact wX2_trickLine_206 X hr ht (by omega) (by omega) h hw (lv_sub hl [0, 1] rfl)
    · have h := h.1 c_38
      refine lv_aload_n hx hb dX2_trickLine_193 rfl (lv_at hl 0 rfl) ?_
      refine g_getR X hw in_X2 hk_26 rfl 10 rfl (by decide) q254 (fun _ z => z) e_28 dX2_trickLine_194 ?_
      refine lv_aload_n hx hb dX2_trickLine_197 rfl (lv_at hl 0 rfl) ?_
      refine va_ldcS (tx := "held") hx hb hown (X.2.2.2.2.2.2.1.2.2.2.2.2.2.1 11 ("FifthCard$Reader", 165, "held") rfl) dX2_trickLine_198 ?_
      obtain ⟨q_30, q_31, hq_32, hq_33, h⟩ := h
      refine g_calli hw (g_V X hw (mX2_takes l G _ _ _ _ _ _ h) 1 (lw_V q823 q825 qs11 q123 q826) rfl rfl ydX2_takes ⟨Nat.le_of_ble_eq_true rfl, Nat.le_of_ble_eq_true rfl⟩ (g_recv X hw (ci := 1) (q := (RX2, TX2, 11)) hk_26 rfl) (As := [.ref (Glit G 11)]) (rest := [.ref b_27]) rfl hl.1 rfl (Nat.le_of_ble_eq_true rfl) dX2_trickLine_200 ⟨(by show _ ≤ MC; omega), (by show _ ≤ MS; omega)⟩) (fun r_34 u_35 H locs h hw => ?_)
      have hk_36 : kd u_35 b_27 = 17 := h.1
      have h := h.2
      have ho_37 := h.1
      have h := h.2
      refine g_putI (v := r_34) X hw in_X20 tyX20_ok nmX20 hk_36 rfl 10 rfl (by decide) q607 (fun _ z => z) rfl ho_37.1 ho_37.2 dX2_trickLine_203 (fun H locs hw => ?_)
      exact wX2_trickLine_206 X hr ht (by omega) (by omega) h hw (lv_sub hl [0, 1] rfl)
  · have h := h.2 c_47
    refine lv_aload_n hx hb dX2_trickLine_168 rfl (lv_at hl 0 rfl) ?_
    obtain ⟨b_39, e_40, h⟩ := h
    refine g_getR X hw in_X2 hk_16 rfl 0 rfl (by decide) q244 (fun _ z => z) e_40 dX2_trickLine_169 ?_
    refine lv_bipush (v := 7) hx hb dX2_trickLine_172 (by decide) ?_
    refine lv_iload_n hx hb dX2_trickLine_174 rfl (lv_at hl 2 rfl) ?_
    have hk_41 : kd u b_39 = 3 := h.1
    have h := h.2
    refine g_callr hw (g_V X hw (mX3_at l G _ _ _ _ _ h) 2 (lw_V q742 q743 q744 q127 q745) rfl rfl ydX3_at ⟨Nat.le_of_ble_eq_true rfl, Nat.le_of_ble_eq_true rfl⟩ (g_recv X hw (ci := 2) (q := (RX3, TX3, 8)) hk_41 rfl) (As := [.int 7, .int x3]) (rest := []) rfl hl.1 rfl (Nat.le_of_ble_eq_true rfl) dX2_trickLine_175 ⟨(by show _ ≤ MC; omega), (by show _ ≤ MS; omega)⟩) (fun o_42 u_43 H locs h hw => ?_)
    obtain ⟨b_44, e_45, h⟩ := h
    rw [e_45]
    show W _ _ _ _ _ _ _ _ _ _ _ _ _ _ _ (F0 _ _ _ (.ref _ :: _))
    have hk_46 : kd u_43 b_44 = 3 := h.1
    have h := h.2
    exact g_throw X ht hw hk_46 h (by omega) (by omega) dX2_trickLine_178
set_option maxHeartbeats 4000000 in
theorem mX2_trickLine (l : Launch) (G : GT) (u : Hp) (a0 : Nat) (MC MS : Nat) (K : Hp → Prop) (E : Nat → Hp → Prop) (h : pX2_trickLine (Glit G) u a0 MC MS K E) : vx_Met l yX2_trickLine (ws_ yX2_trickLine cX2_trickLine 4 none) (rmX2_trickLine MC MS) (va_Pc [.ref a0] (GB G u)) (va_Qv K (fun u t => GH G u t.heap) (GA G)) (XE G "FifthCard$Refused" E) MC MS (GA G) := by
  refine vx_ofW (cc := cX2_trickLine) (maxL := 4) (ret := none) (by decide) rfl ?_
  intro p e s m args below meth c s₁ B hml ht hv
  obtain ⟨rfl, hv⟩ := hv
  have X := Mc_of (own := RX2) B hml rfl hv
  have hw : GW G u s s.heap [] := ⟨hv.2.1, va_S.rf⟩
  have hr := B.returns
  obtain ⟨hx, hb, hml, hown, hts, -⟩ := id X
  have hl := lv_entry ([.ref a0]) (n := 4) (Nat.le_of_ble_eq_true rfl)
  rw [lg_entry_eq]
  generalize (lg_sl ([.ref a0]) ++ List.replicate (4 - (lg_sl ([.ref a0])).length) Slot.unset).toArray = ls at hl ⊢
  have hl : lv_has ls 4 [(0, .ref a0)] := hl
  change W p l e (rmX2_trickLine MC MS) s m _ below meth c s.heap [] 0 0 (TV G "FifthCard$Refused" below K E _ s MC MS) (F0 m 0 ls [])
  unfold pX2_trickLine at h
  have hc1 : 0 + MC ≤ MC := by omega
  have hc2 : 0 + MS ≤ MS := by omega
  refine lv_aload_n hx hb dX2_trickLine_0 rfl (lv_at hl 0 rfl) ?_
  have hk_48 : kd u a0 = 2 := h.1
  have h := h.2
  obtain ⟨b_49, e_50, h⟩ := h
  refine g_getR X hw in_X2 hk_48 rfl 10 rfl (by decide) q254 (fun _ z => z) e_50 dX2_trickLine_1 ?_
  have hk_51 : kd u b_49 = 17 := h.1
  have h := h.2
  refine g_getI X hw in_X20 hk_51 rfl 3 rfl (by decide) q571 (fun _ z => z) dX2_trickLine_4 ?_
  refine lv_if_le (tgt := 16) hx hb dX2_trickLine_7 rfl (fun c_128 => ?_) (fun c_128 => ?_)
  · have h := h.1 c_128
    refine lv_aload_n hx hb dX2_trickLine_16 rfl (lv_at hl 0 rfl) ?_
    obtain ⟨q_52, q_53, hq_54, hq_55, h⟩ := h
    refine g_callv hw (g_V X hw (mX2_next l G _ _ _ _ _ h) 0 (lw_V q640 q642 qs4 q123 q643) rfl rfl ydX2_next ⟨Nat.le_of_ble_eq_true rfl, Nat.le_of_ble_eq_true rfl⟩ (g_recv X hw (ci := 1) (q := (RX2, TX2, 11)) hk_48 rfl) (As := []) (rest := []) rfl hl.1 rfl (Nat.le_of_ble_eq_true rfl) dX2_trickLine_17 ⟨(by show _ ≤ MC; omega), (by show _ ≤ MS; omega)⟩) (fun u_56 H locs h hw => ?_)
    refine lv_aload_n hx hb dX2_trickLine_20 rfl (lv_at hl 0 rfl) ?_
    refine va_ldcS (tx := "cards") hx hb hown (X.2.2.2.2.2.2.1.2.2.2.2.2.2.1 5 ("FifthCard$Reader", 130, "cards") rfl) dX2_trickLine_21 ?_
    refine lv_iconst (v := 4) hx hb dX2_trickLine_23 (by decide) ?_
    refine lv_bipush (v := 12) hx hb dX2_trickLine_24 (by decide) ?_
    have hk_61 : kd u_56 a0 = 2 := h.1
    have h := h.2
    obtain ⟨q_57, q_58, hq_59, hq_60, h⟩ := h
    refine g_tcalli X ht hw (g_TV X hw (mX2_after l G _ _ _ _ _ _ _ _ _ h) 3 (lw_V q815 q817 qs9 q123 q818) rfl rfl ydX2_after ⟨Nat.le_of_ble_eq_true rfl, Nat.le_of_ble_eq_true rfl⟩ (g_recv X hw (ci := 1) (q := (RX2, TX2, 11)) hk_61 rfl) (As := [.ref (Glit G 5), .int 4, .int 12]) (rest := []) rfl hl.1 rfl (Nat.le_of_ble_eq_true rfl) dX2_trickLine_26 ⟨(by show _ ≤ MC; omega), (by show _ ≤ MS; omega)⟩) (by omega) (by omega) (fun r_62 u_63 H locs h hw => ?_)
    refine lv_istore_n (lv' := [(1, .int r_62), (0, .ref a0)]) hx hb dX2_trickLine_29 rfl hl (by decide) rfl (fun ls hl => ?_)
    refine lv_aload_n hx hb dX2_trickLine_30 rfl (lv_at hl 1 rfl) ?_
    refine va_ldcS (tx := "suits") hx hb hown (X.2.2.2.2.2.2.1.2.2.2.2.2.2.1 6 ("FifthCard$Reader", 135, "suits") rfl) dX2_trickLine_31 ?_
    have hk_68 : kd u_63 a0 = 2 := h.1
    have h := h.2
    obtain ⟨q_64, q_65, hq_66, hq_67, h⟩ := h
    refine g_tcallv X ht hw (g_TV X hw (mX2_must l G _ _ _ _ _ _ _ h) 1 (lw_V q819 q821 qs10 q123 q822) rfl rfl ydX2_must ⟨Nat.le_of_ble_eq_true rfl, Nat.le_of_ble_eq_true rfl⟩ (g_recv X hw (ci := 1) (q := (RX2, TX2, 11)) hk_68 rfl) (As := [.ref (Glit G 6)]) (rest := []) rfl hl.1 rfl (Nat.le_of_ble_eq_true rfl) dX2_trickLine_33 ⟨(by show _ ≤ MC; omega), (by show _ ≤ MS; omega)⟩) (by omega) (by omega) (fun u_69 H locs h hw => ?_)
    refine lv_aload_n hx hb dX2_trickLine_36 rfl (lv_at hl 1 rfl) ?_
    refine lv_iconst (v := 1) hx hb dX2_trickLine_37 (by decide) ?_
    refine lv_iconst (v := 4) hx hb dX2_trickLine_38 (by decide) ?_
    have hk_70 : kd u_69 a0 = 2 := h.1
    have h := h.2
    refine g_tcalli X ht hw (g_TV X hw (mX2_numberHere l G _ _ _ _ _ _ h) 2 (lw_V q831 q833 qs13 q123 q834) rfl rfl ydX2_numberHere ⟨Nat.le_of_ble_eq_true rfl, Nat.le_of_ble_eq_true rfl⟩ (g_recv X hw (ci := 1) (q := (RX2, TX2, 11)) hk_70 rfl) (As := [.int 1, .int 4]) (rest := []) rfl hl.1 rfl (Nat.le_of_ble_eq_true rfl) dX2_trickLine_39 ⟨(by show _ ≤ MC; omega), (by show _ ≤ MS; omega)⟩) (by omega) (by omega) (fun r_71 u_72 H locs h hw => ?_)
    refine lv_istore_n (lv' := [(2, .int r_71), (1, .int r_62), (0, .ref a0)]) hx hb dX2_trickLine_42 rfl hl (by decide) rfl (fun ls hl => ?_)
    refine lv_iload_n hx hb dX2_trickLine_43 rfl (lv_at hl 1 rfl) ?_
    refine lv_iload_n hx hb dX2_trickLine_44 rfl (lv_at hl 0 rfl) ?_
    refine lv_irem hx hb dX2_trickLine_45 h.1 ?_
    have h := h.2
    refine lv_if_eq (tgt := 55) hx hb dX2_trickLine_46 rfl (fun c_122 => ?_) (fun c_122 => ?_)
    · have h := h.1 c_122
      refine lv_aload_n hx hb dX2_trickLine_55 rfl (lv_at hl 2 rfl) ?_
      have hk_77 : kd u_72 a0 = 2 := h.1
      have h := h.2
      obtain ⟨q_73, q_74, hq_75, hq_76, h⟩ := h
      refine g_callv hw (g_V X hw (mX2_next l G _ _ _ _ _ h) 0 (lw_V q640 q642 qs4 q123 q643) rfl rfl ydX2_next ⟨Nat.le_of_ble_eq_true rfl, Nat.le_of_ble_eq_true rfl⟩ (g_recv X hw (ci := 1) (q := (RX2, TX2, 11)) hk_77 rfl) (As := []) (rest := []) rfl hl.1 rfl (Nat.le_of_ble_eq_true rfl) dX2_trickLine_56 ⟨(by show _ ≤ MC; omega), (by show _ ≤ MS; omega)⟩) (fun u_78 H locs h hw => ?_)
      refine lv_aload_n hx hb dX2_trickLine_59 rfl (lv_at hl 2 rfl) ?_
      have hk_79 : kd u_78 a0 = 2 := h.1
      have h := h.2
      obtain ⟨b_80, e_81, h⟩ := h
      refine g_getR X hw in_X2 hk_79 rfl 10 rfl (by decide) q254 (fun _ z => z) e_81 dX2_trickLine_60 ?_
      refine lv_iload_n hx hb dX2_trickLine_63 rfl (lv_at hl 0 rfl) ?_
      have hk_82 : kd u_78 b_80 = 17 := h.1
      have h := h.2
      refine g_putI (v := r_71) X hw in_X20 tyX20_ok nmX20 hk_82 rfl 4 rfl (by decide) q574 (fun _ z => z) rfl rfl rfl dX2_trickLine_64 (fun H locs hw => ?_)
      refine lv_aload_n hx hb dX2_trickLine_67 rfl (lv_at hl 2 rfl) ?_
      refine g_getR X hw in_X2 hk_79 rfl 10 rfl (by decide) q254 (fun _ z => z) e_81 dX2_trickLine_68 ?_
      refine lv_aload_n hx hb dX2_trickLine_71 rfl (lv_at hl 2 rfl) ?_
      refine va_ldcS (tx := "hand") hx hb hown (X.2.2.2.2.2.2.1.2.2.2.2.2.2.1 7 ("FifthCard$Reader", 139, "hand") rfl) dX2_trickLine_72 ?_
      refine lv_iconst (v := 2) hx hb dX2_trickLine_74 (by decide) ?_
      refine lv_iconst (v := 5) hx hb dX2_trickLine_75 (by decide) ?_
      refine lv_iload_n hx hb dX2_trickLine_76 rfl (lv_at hl 1 rfl) ?_
      refine g_min X hl.1 q837 q838 q150 q839 (Nat.le_of_ble_eq_true rfl) (Nat.le_of_ble_eq_true rfl) (by show _ ≤ MC; omega) (by show _ ≤ MS; omega) dX2_trickLine_77 ?_
      obtain ⟨q_83, q_84, hq_85, hq_86, h⟩ := h
      refine g_tcalli X ht hw (g_TV X hw (mX2_after l G _ _ _ _ _ _ _ _ _ h) 3 (lw_V q815 q817 qs9 q123 q818) rfl rfl ydX2_after ⟨Nat.le_of_ble_eq_true rfl, Nat.le_of_ble_eq_true rfl⟩ (g_recv X hw (ci := 1) (q := (RX2, TX2, 11)) hk_79 rfl) (As := [.ref (Glit G 7), .int 2, .int (jmin 5 r_62)]) (rest := [.ref b_80]) rfl hl.1 rfl (Nat.le_of_ble_eq_true rfl) dX2_trickLine_80 ⟨(by show _ ≤ MC; omega), (by show _ ≤ MS; omega)⟩) (by omega) (by omega) (fun r_87 u_88 H locs h hw => ?_)
      have hk_89 : kd u_88 b_80 = 17 := h.1
      have h := h.2
      refine g_putI (v := r_87) X hw in_X20 tyX20_ok nmX20 hk_89 rfl 5 rfl (by decide) q584 (fun _ z => z) rfl rfl rfl dX2_trickLine_83 (fun H locs hw => ?_)
      refine lv_aload_n hx hb dX2_trickLine_86 rfl (lv_at hl 2 rfl) ?_
      have hk_90 : kd u_88 a0 = 2 := h.1
      have h := h.2
      obtain ⟨b_91, e_92, h⟩ := h
      refine g_getR X hw in_X2 hk_90 rfl 10 rfl (by decide) q254 (fun _ z => z) e_92 dX2_trickLine_87 ?_
      refine lv_aload_n hx hb dX2_trickLine_90 rfl (lv_at hl 2 rfl) ?_
      refine va_ldcS (tx := "kept") hx hb hown (X.2.2.2.2.2.2.1.2.2.2.2.2.2.1 8 ("FifthCard$Reader", 148, "kept") rfl) dX2_trickLine_91 ?_
      refine lv_iconst (v := 1) hx hb dX2_trickLine_93 (by decide) ?_
      refine lv_iconst (v := 2) hx hb dX2_trickLine_94 (by decide) ?_
      refine lv_aload_n hx hb dX2_trickLine_95 rfl (lv_at hl 2 rfl) ?_
      refine g_getR X hw in_X2 hk_90 rfl 10 rfl (by decide) q254 (fun _ z => z) e_92 dX2_trickLine_96 ?_
      have hk_93 : kd u_88 b_91 = 17 := h.1
      have h := h.2
      refine g_getI X hw in_X20 hk_93 rfl 5 rfl (by decide) q584 (fun _ z => z) dX2_trickLine_99 ?_
      refine lv_iconst (v := 1) hx hb dX2_trickLine_102 (by decide) ?_
      refine lv_isub hx hb dX2_trickLine_103 ?_
      refine g_min X hl.1 q837 q838 q150 q839 (Nat.le_of_ble_eq_true rfl) (Nat.le_of_ble_eq_true rfl) (by show _ ≤ MC; omega) (by show _ ≤ MS; omega) dX2_trickLine_104 ?_
      obtain ⟨q_94, q_95, hq_96, hq_97, h⟩ := h
      refine g_tcalli X ht hw (g_TV X hw (mX2_after l G _ _ _ _ _ _ _ _ _ h) 3 (lw_V q815 q817 qs9 q123 q818) rfl rfl ydX2_after ⟨Nat.le_of_ble_eq_true rfl, Nat.le_of_ble_eq_true rfl⟩ (g_recv X hw (ci := 1) (q := (RX2, TX2, 11)) hk_90 rfl) (As := [.ref (Glit G 8), .int 1, .int (jmin 2 ((FI (sFI u_88 2005 b_80 r_87) 2005 b_91) - 1))]) (rest := [.ref b_91]) rfl hl.1 rfl (Nat.le_of_ble_eq_true rfl) dX2_trickLine_107 ⟨(by show _ ≤ MC; omega), (by show _ ≤ MS; omega)⟩) (by omega) (by omega) (fun r_98 u_99 H locs h hw => ?_)
      have hk_100 : kd u_99 b_91 = 17 := h.1
      have h := h.2
      refine g_putI (v := r_98) X hw in_X20 tyX20_ok nmX20 hk_100 rfl 6 rfl (by decide) q590 (fun _ z => z) rfl rfl rfl dX2_trickLine_110 (fun H locs hw => ?_)
      refine lv_aload_n hx hb dX2_trickLine_113 rfl (lv_at hl 2 rfl) ?_
      have hk_101 : kd u_99 a0 = 2 := h.1
      have h := h.2
      refine g_getI X hw in_X2 hk_101 rfl 7 rfl (by decide) q251 (fun _ z => z) dX2_trickLine_114 ?_
      refine lv_topi (fun x3_102 e_103 => ?_)
      have h := h x3_102 e_103
      refine lv_istore_n (lv' := [(3, .int x3_102), (2, .int r_71), (1, .int r_62), (0, .ref a0)]) hx hb dX2_trickLine_117 rfl hl (by decide) rfl (fun ls hl => ?_)
      refine lv_aload_n hx hb dX2_trickLine_118 rfl (lv_at hl 3 rfl) ?_
      refine va_ldcS (tx := "stranger") hx hb hown (X.2.2.2.2.2.2.1.2.2.2.2.2.2.1 9 ("FifthCard$Reader", 152, "stranger") rfl) dX2_trickLine_119 ?_
      refine g_callio hw (g_V X hw (mX2_isWord l G _ _ _ _ h) 1 (lw_V q827 q829 qs12 q123 q830) rfl rfl ydX2_isWord ⟨Nat.le_of_ble_eq_true rfl, Nat.le_of_ble_eq_true rfl⟩ (g_recv X hw (ci := 1) (q := (RX2, TX2, 11)) hk_101 rfl) (As := [.ref (Glit G 9)]) (rest := []) rfl hl.1 rfl (Nat.le_of_ble_eq_true rfl) dX2_trickLine_121 ⟨(by show _ ≤ MC; omega), (by show _ ≤ MS; omega)⟩) (fun r_104 H locs h hw => ?_)
      refine lv_if_eq (tgt := 138) hx hb dX2_trickLine_124 rfl (fun c_115 => ?_) (fun c_115 => ?_)
      · have h := h.1 c_115
        refine lv_aload_n hx hb dX2_trickLine_138 rfl (lv_at hl 3 rfl) ?_
        refine va_ldcS (tx := "she") hx hb hown (X.2.2.2.2.2.2.1.2.2.2.2.2.2.1 10 ("FifthCard$Reader", 157, "she") rfl) dX2_trickLine_139 ?_
        refine g_callio hw (g_V X hw (mX2_isWord l G _ _ _ _ h) 1 (lw_V q827 q829 qs12 q123 q830) rfl rfl ydX2_isWord ⟨Nat.le_of_ble_eq_true rfl, Nat.le_of_ble_eq_true rfl⟩ (g_recv X hw (ci := 1) (q := (RX2, TX2, 11)) hk_101 rfl) (As := [.ref (Glit G 10)]) (rest := []) rfl hl.1 rfl (Nat.le_of_ble_eq_true rfl) dX2_trickLine_141 ⟨(by show _ ≤ MC; omega), (by show _ ≤ MS; omega)⟩) (fun r_105 H locs h hw => ?_)
        refine lv_if_ne (tgt := 153) hx hb dX2_trickLine_144 rfl (fun c_111 => ?_) (fun c_111 => ?_)
        · have h := h.2 c_111
          exact wX2_trickLine_153 X hr ht (by omega) (by omega) h hw (lv_sub hl [3, 2, 0] rfl)
        · have h := h.1 c_111
          refine lv_aload_n hx hb dX2_trickLine_147 rfl (lv_at hl 3 rfl) ?_
          refine lv_iconst (v := 1) hx hb dX2_trickLine_148 (by decide) ?_
          refine g_callr hw (g_V X hw (mX2_fail l G _ _ _ _ h) 1 (lw_V q738 q740 qs7 q123 q741) rfl rfl ydX2_fail ⟨Nat.le_of_ble_eq_true rfl, Nat.le_of_ble_eq_true rfl⟩ (g_recv X hw (ci := 1) (q := (RX2, TX2, 11)) hk_101 rfl) (As := [.int 1]) (rest := []) rfl hl.1 rfl (Nat.le_of_ble_eq_true rfl) dX2_trickLine_149 ⟨(by show _ ≤ MC; omega), (by show _ ≤ MS; omega)⟩) (fun o_106 u_107 H locs h hw => ?_)
          obtain ⟨b_108, e_109, h⟩ := h
          rw [e_109]
          show W _ _ _ _ _ _ _ _ _ _ _ _ _ _ _ (F0 _ _ _ (.ref _ :: _))
          have hk_110 : kd u_107 b_108 = 3 := h.1
          have h := h.2
          exact g_throw X ht hw hk_110 h (by omega) (by omega) dX2_trickLine_152
      · have h := h.2 c_115
        refine lv_aload_n hx hb dX2_trickLine_127 rfl (lv_at hl 3 rfl) ?_
        obtain ⟨b_112, e_113, h⟩ := h
        refine g_getR X hw in_X2 hk_101 rfl 10 rfl (by decide) q254 (fun _ z => z) e_113 dX2_trickLine_128 ?_
        refine lv_iconst (v := 1) hx hb dX2_trickLine_131 (by decide) ?_
        have hk_114 : kd u_99 b_112 = 17 := h.1
        have h := h.2
        refine g_putI (v := 1) X hw in_X20 tyX20_ok nmX20 hk_114 rfl 9 rfl (by decide) q601 (fun _ z => z) rfl rfl rfl dX2_trickLine_132 (fun H locs hw => ?_)
        refine lv_goto (tgt := 153) hx hb dX2_trickLine_135 rfl ?_
        exact wX2_trickLine_153 X hr ht (by omega) (by omega) h hw (lv_sub hl [3, 2, 0] rfl)
    · have h := h.2 c_122
      refine lv_aload_n hx hb dX2_trickLine_49 rfl (lv_at hl 2 rfl) ?_
      refine lv_iconst (v := 4) hx hb dX2_trickLine_50 (by decide) ?_
      have hk_116 : kd u_72 a0 = 2 := h.1
      have h := h.2
      refine g_callr hw (g_V X hw (mX2_fail l G _ _ _ _ h) 1 (lw_V q738 q740 qs7 q123 q741) rfl rfl ydX2_fail ⟨Nat.le_of_ble_eq_true rfl, Nat.le_of_ble_eq_true rfl⟩ (g_recv X hw (ci := 1) (q := (RX2, TX2, 11)) hk_116 rfl) (As := [.int 4]) (rest := []) rfl hl.1 rfl (Nat.le_of_ble_eq_true rfl) dX2_trickLine_51 ⟨(by show _ ≤ MC; omega), (by show _ ≤ MS; omega)⟩) (fun o_117 u_118 H locs h hw => ?_)
      obtain ⟨b_119, e_120, h⟩ := h
      rw [e_120]
      show W _ _ _ _ _ _ _ _ _ _ _ _ _ _ _ (F0 _ _ _ (.ref _ :: _))
      have hk_121 : kd u_118 b_119 = 3 := h.1
      have h := h.2
      exact g_throw X ht hw hk_121 h (by omega) (by omega) dX2_trickLine_54
  · have h := h.2 c_128
    refine lv_aload_n hx hb dX2_trickLine_10 rfl (lv_at hl 0 rfl) ?_
    refine lv_iconst (v := 3) hx hb dX2_trickLine_11 (by decide) ?_
    refine g_callr hw (g_V X hw (mX2_fail l G _ _ _ _ h) 1 (lw_V q738 q740 qs7 q123 q741) rfl rfl ydX2_fail ⟨Nat.le_of_ble_eq_true rfl, Nat.le_of_ble_eq_true rfl⟩ (g_recv X hw (ci := 1) (q := (RX2, TX2, 11)) hk_48 rfl) (As := [.int 3]) (rest := []) rfl hl.1 rfl (Nat.le_of_ble_eq_true rfl) dX2_trickLine_12 ⟨(by show _ ≤ MC; omega), (by show _ ≤ MS; omega)⟩) (fun o_123 u_124 H locs h hw => ?_)
    obtain ⟨b_125, e_126, h⟩ := h
    rw [e_126]
    show W _ _ _ _ _ _ _ _ _ _ _ _ _ _ _ (F0 _ _ _ (.ref _ :: _))
    have hk_127 : kd u_124 b_125 = 3 := h.1
    have h := h.2
    exact g_throw X ht hw hk_127 h (by omega) (by omega) dX2_trickLine_15

/-! FifthCard$Reader.begins(Z)V -/
theorem ydX2_begins : yX2_begins.cls = "FifthCard$Reader" ∧ yX2_begins.cls ≠ "java/lang/invoke/MethodHandle" ∧ yX2_begins.cls ≠ "java/lang/invoke/VarHandle" ∧ (parseMethodDescriptor yX2_begins.desc).map (fun d => d.parameters.length) = some 1 := by decide +kernel
def rmX2_begins (mc ms : Nat) : Room := { frames := 5, cells := mc, slots := ms, locals := 121 }
set_option maxHeartbeats 4000000 in
theorem mX2_begins (l : Launch) (G : GT) (u : Hp) (a0 : Nat) (x1 : Int32) (MC MS : Nat) (K : Hp → Prop) (E : Nat → Hp → Prop) (h : pX2_begins (Glit G) u a0 x1 MC MS K E) : vx_Met l yX2_begins (ws_ yX2_begins cX2_begins 2 none) (rmX2_begins MC MS) (va_Pc [.ref a0, .int x1] (GB G u)) (va_Qv K (fun u t => GH G u t.heap) (GA G)) (XE G "FifthCard$Refused" E) MC MS (GA G) := by
  refine vx_ofW (cc := cX2_begins) (maxL := 2) (ret := none) (by decide) rfl ?_
  intro p e s m args below meth c s₁ B hml ht hv
  obtain ⟨rfl, hv⟩ := hv
  have X := Mc_of (own := RX2) B hml rfl hv
  have hw : GW G u s s.heap [] := ⟨hv.2.1, va_S.rf⟩
  have hr := B.returns
  obtain ⟨hx, hb, hml, hown, hts, -⟩ := id X
  have hl := lv_entry ([.ref a0, .int x1]) (n := 2) (Nat.le_of_ble_eq_true rfl)
  rw [lg_entry_eq]
  generalize (lg_sl ([.ref a0, .int x1]) ++ List.replicate (2 - (lg_sl ([.ref a0, .int x1])).length) Slot.unset).toArray = ls at hl ⊢
  have hl : lv_has ls 2 [(0, .ref a0), (1, .int x1)] := hl
  change W p l e (rmX2_begins MC MS) s m _ below meth c s.heap [] 0 0 (TV G "FifthCard$Refused" below K E _ s MC MS) (F0 m 0 ls [])
  unfold pX2_begins at h
  have hc1 : 0 + MC ≤ MC := by omega
  have hc2 : 0 + MS ≤ MS := by omega
  refine lv_iload_n hx hb dX2_begins_0 rfl (lv_at hl 1 rfl) ?_
  refine lv_if_ne (tgt := 10) hx hb dX2_begins_1 rfl (fun c_22 => ?_) (fun c_22 => ?_)
  · have h := h.2 c_22
    refine lv_aload_n hx hb dX2_begins_10 rfl (lv_at hl 0 rfl) ?_
    have hk_1 : kd u a0 = 2 := h.1
    have h := h.2
    obtain ⟨b_2, e_3, h⟩ := h
    refine g_getR X hw in_X2 hk_1 rfl 10 rfl (by decide) q254 (fun _ z => z) e_3 dX2_begins_11 ?_
    have hk_4 : kd u b_2 = 17 := h.1
    have h := h.2
    refine g_getI X hw in_X20 hk_4 rfl 3 rfl (by decide) q571 (fun _ z => z) dX2_begins_14 ?_
    refine lv_if_ne (tgt := 27) hx hb dX2_begins_17 rfl (fun c_15 => ?_) (fun c_15 => ?_)
    · have h := h.2 c_15
      refine lv_aload_n hx hb dX2_begins_27 rfl (lv_at hl 0 rfl) ?_
      obtain ⟨q_5, q_6, hq_7, hq_8, h⟩ := h
      refine g_callv hw (g_V X hw (mX2_next l G _ _ _ _ _ h) 0 (lw_V q640 q642 qs4 q123 q643) rfl rfl ydX2_next ⟨Nat.le_of_ble_eq_true rfl, Nat.le_of_ble_eq_true rfl⟩ (g_recv X hw (ci := 1) (q := (RX2, TX2, 11)) hk_1 rfl) (As := []) (rest := []) rfl hl.1 rfl (Nat.le_of_ble_eq_true rfl) dX2_begins_28 ⟨(by show _ ≤ MC; omega), (by show _ ≤ MS; omega)⟩) (fun u_9 H locs h hw => ?_)
      exact vx_ret (g_vret X hw hr h (by omega) (by omega) dX2_begins_31)
    · have h := h.1 c_15
      refine lv_aload_n hx hb dX2_begins_20 rfl (lv_at hl 0 rfl) ?_
      refine lv_bipush (v := 6) hx hb dX2_begins_21 (by decide) ?_
      refine g_callr hw (g_V X hw (mX2_fail l G _ _ _ _ h) 1 (lw_V q738 q740 qs7 q123 q741) rfl rfl ydX2_fail ⟨Nat.le_of_ble_eq_true rfl, Nat.le_of_ble_eq_true rfl⟩ (g_recv X hw (ci := 1) (q := (RX2, TX2, 11)) hk_1 rfl) (As := [.int 6]) (rest := []) rfl hl.1 rfl (Nat.le_of_ble_eq_true rfl) dX2_begins_23 ⟨(by show _ ≤ MC; omega), (by show _ ≤ MS; omega)⟩) (fun o_10 u_11 H locs h hw => ?_)
      obtain ⟨b_12, e_13, h⟩ := h
      rw [e_13]
      show W _ _ _ _ _ _ _ _ _ _ _ _ _ _ _ (F0 _ _ _ (.ref _ :: _))
      have hk_14 : kd u_11 b_12 = 3 := h.1
      have h := h.2
      exact g_throw X ht hw hk_14 h (by omega) (by omega) dX2_begins_26
  · have h := h.1 c_22
    refine lv_aload_n hx hb dX2_begins_4 rfl (lv_at hl 0 rfl) ?_
    refine lv_iconst (v := 5) hx hb dX2_begins_5 (by decide) ?_
    have hk_16 : kd u a0 = 2 := h.1
    have h := h.2
    refine g_callr hw (g_V X hw (mX2_fail l G _ _ _ _ h) 1 (lw_V q738 q740 qs7 q123 q741) rfl rfl ydX2_fail ⟨Nat.le_of_ble_eq_true rfl, Nat.le_of_ble_eq_true rfl⟩ (g_recv X hw (ci := 1) (q := (RX2, TX2, 11)) hk_16 rfl) (As := [.int 5]) (rest := []) rfl hl.1 rfl (Nat.le_of_ble_eq_true rfl) dX2_begins_6 ⟨(by show _ ≤ MC; omega), (by show _ ≤ MS; omega)⟩) (fun o_17 u_18 H locs h hw => ?_)
    obtain ⟨b_19, e_20, h⟩ := h
    rw [e_20]
    show W _ _ _ _ _ _ _ _ _ _ _ _ _ _ _ (F0 _ _ _ (.ref _ :: _))
    have hk_21 : kd u_18 b_19 = 3 := h.1
    have h := h.2
    exact g_throw X ht hw hk_21 h (by omega) (by omega) dX2_begins_9

/-! FifthCard$Reader.newName()Ljava/lang/String; -/
theorem ydX2_newName : yX2_newName.cls = "FifthCard$Reader" ∧ yX2_newName.cls ≠ "java/lang/invoke/MethodHandle" ∧ yX2_newName.cls ≠ "java/lang/invoke/VarHandle" ∧ (parseMethodDescriptor yX2_newName.desc).map (fun d => d.parameters.length) = some 0 := by decide +kernel
def rmX2_newName (mc ms : Nat) : Room := { frames := 5, cells := mc, slots := ms, locals := 121 }
set_option maxHeartbeats 4000000 in
theorem wX2_newName_143 {G : GT} {p : Program} {l : Launch} {e : Env} {s : State} {m : MethodId} {args : Array Value} {below : List Frame} {meth : Method} {c : Code} {H : Heap} {locs : List Loc} {ls : Array Slot} {cells slots : Nat} {MC MS : Nat} {a0 : Nat} {x2 : Int32} {u : Hp} {mc : Nat} {ms : Nat} {K : Option Nat → Hp → Prop} {E : Nat → Hp → Prop} (X : Mc G p s m args meth c RX2 cX2_newName 3) (hr : meth.sig.returnType = (some (.object "java/lang/String"))) (ht : ∀ x ∈ c.exceptionTable.toList, False) (hc1 : cells + mc ≤ MC) (hc2 : slots + ms ≤ MS) (h : bX2_newName_143 K E (Glit G) a0 x2 u mc ms) (hw : GW G u s H locs) (hl : lv_has ls 3 [(0, .ref a0), (2, .int x2)]) : W p l e (rmX2_newName MC MS) s m args below meth c H locs cells slots (TR G "FifthCard$Refused" below K E args s MC MS) (F0 m 143 ls []) := by
  obtain ⟨hx, hb, hml, hown, hts, -⟩ := id X
  unfold bX2_newName_143 at h
  refine lv_iload_n hx hb dX2_newName_143 rfl (lv_at hl 1 rfl) ?_
  by_cases c_7 : x2 = 0
  · refine lv_tableIn (tgt := 180) hx hb dX2_newName_144 (by rw [c_7]; decide) (by rw [c_7]; decide) (by first | (rw [c_7]; done) | (rw [c_7]; rfl)) rfl ?_
    have h := h.1 c_7
    refine lv_aload_n hx hb dX2_newName_180 rfl (lv_at hl 0 rfl) ?_
    refine lv_iconst (v := 1) hx hb dX2_newName_181 (by decide) ?_
    have hk_1 : kd u a0 = 2 := h.1
    have h := h.2
    refine g_callr hw (g_V X hw (mX2_fail l G _ _ _ _ h) 1 (lw_V q738 q740 qs7 q123 q741) rfl rfl ydX2_fail ⟨Nat.le_of_ble_eq_true rfl, Nat.le_of_ble_eq_true rfl⟩ (g_recv X hw (ci := 1) (q := (RX2, TX2, 11)) hk_1 rfl) (As := [.int 1]) (rest := []) rfl hl.1 rfl (Nat.le_of_ble_eq_true rfl) dX2_newName_182 ⟨(by show _ ≤ MC; omega), (by show _ ≤ MS; omega)⟩) (fun o_2 u_3 H locs h hw => ?_)
    obtain ⟨b_4, e_5, h⟩ := h
    rw [e_5]
    show W _ _ _ _ _ _ _ _ _ _ _ _ _ _ _ (F0 _ _ _ (.ref _ :: _))
    have hk_6 : kd u_3 b_4 = 3 := h.1
    have h := h.2
    exact g_throw X ht hw hk_6 h (by omega) (by omega) dX2_newName_185
  have h := h.2
  by_cases c_14 : x2 = 1
  · refine lv_tableIn (tgt := 180) hx hb dX2_newName_144 (by rw [c_14]; decide) (by rw [c_14]; decide) (by first | (rw [c_14]; done) | (rw [c_14]; rfl)) rfl ?_
    have h := h.1 c_14
    refine lv_aload_n hx hb dX2_newName_180 rfl (lv_at hl 0 rfl) ?_
    refine lv_iconst (v := 1) hx hb dX2_newName_181 (by decide) ?_
    have hk_8 : kd u a0 = 2 := h.1
    have h := h.2
    refine g_callr hw (g_V X hw (mX2_fail l G _ _ _ _ h) 1 (lw_V q738 q740 qs7 q123 q741) rfl rfl ydX2_fail ⟨Nat.le_of_ble_eq_true rfl, Nat.le_of_ble_eq_true rfl⟩ (g_recv X hw (ci := 1) (q := (RX2, TX2, 11)) hk_8 rfl) (As := [.int 1]) (rest := []) rfl hl.1 rfl (Nat.le_of_ble_eq_true rfl) dX2_newName_182 ⟨(by show _ ≤ MC; omega), (by show _ ≤ MS; omega)⟩) (fun o_9 u_10 H locs h hw => ?_)
    obtain ⟨b_11, e_12, h⟩ := h
    rw [e_12]
    show W _ _ _ _ _ _ _ _ _ _ _ _ _ _ _ (F0 _ _ _ (.ref _ :: _))
    have hk_13 : kd u_10 b_11 = 3 := h.1
    have h := h.2
    exact g_throw X ht hw hk_13 h (by omega) (by omega) dX2_newName_185
  have h := h.2
  by_cases c_21 : x2 = 2
  · refine lv_tableIn (tgt := 180) hx hb dX2_newName_144 (by rw [c_21]; decide) (by rw [c_21]; decide) (by first | (rw [c_21]; done) | (rw [c_21]; rfl)) rfl ?_
    have h := h.1 c_21
    refine lv_aload_n hx hb dX2_newName_180 rfl (lv_at hl 0 rfl) ?_
    refine lv_iconst (v := 1) hx hb dX2_newName_181 (by decide) ?_
    have hk_15 : kd u a0 = 2 := h.1
    have h := h.2
    refine g_callr hw (g_V X hw (mX2_fail l G _ _ _ _ h) 1 (lw_V q738 q740 qs7 q123 q741) rfl rfl ydX2_fail ⟨Nat.le_of_ble_eq_true rfl, Nat.le_of_ble_eq_true rfl⟩ (g_recv X hw (ci := 1) (q := (RX2, TX2, 11)) hk_15 rfl) (As := [.int 1]) (rest := []) rfl hl.1 rfl (Nat.le_of_ble_eq_true rfl) dX2_newName_182 ⟨(by show _ ≤ MC; omega), (by show _ ≤ MS; omega)⟩) (fun o_16 u_17 H locs h hw => ?_)
    obtain ⟨b_18, e_19, h⟩ := h
    rw [e_19]
    show W _ _ _ _ _ _ _ _ _ _ _ _ _ _ _ (F0 _ _ _ (.ref _ :: _))
    have hk_20 : kd u_17 b_18 = 3 := h.1
    have h := h.2
    exact g_throw X ht hw hk_20 h (by omega) (by omega) dX2_newName_185
  have h := h.2
  by_cases c_28 : x2 = 3
  · refine lv_tableIn (tgt := 180) hx hb dX2_newName_144 (by rw [c_28]; decide) (by rw [c_28]; decide) (by first | (rw [c_28]; done) | (rw [c_28]; rfl)) rfl ?_
    have h := h.1 c_28
    refine lv_aload_n hx hb dX2_newName_180 rfl (lv_at hl 0 rfl) ?_
    refine lv_iconst (v := 1) hx hb dX2_newName_181 (by decide) ?_
    have hk_22 : kd u a0 = 2 := h.1
    have h := h.2
    refine g_callr hw (g_V X hw (mX2_fail l G _ _ _ _ h) 1 (lw_V q738 q740 qs7 q123 q741) rfl rfl ydX2_fail ⟨Nat.le_of_ble_eq_true rfl, Nat.le_of_ble_eq_true rfl⟩ (g_recv X hw (ci := 1) (q := (RX2, TX2, 11)) hk_22 rfl) (As := [.int 1]) (rest := []) rfl hl.1 rfl (Nat.le_of_ble_eq_true rfl) dX2_newName_182 ⟨(by show _ ≤ MC; omega), (by show _ ≤ MS; omega)⟩) (fun o_23 u_24 H locs h hw => ?_)
    obtain ⟨b_25, e_26, h⟩ := h
    rw [e_26]
    show W _ _ _ _ _ _ _ _ _ _ _ _ _ _ _ (F0 _ _ _ (.ref _ :: _))
    have hk_27 : kd u_24 b_25 = 3 := h.1
    have h := h.2
    exact g_throw X ht hw hk_27 h (by omega) (by omega) dX2_newName_185
  have h := h.2
  by_cases c_35 : x2 = 4
  · refine lv_tableIn (tgt := 180) hx hb dX2_newName_144 (by rw [c_35]; decide) (by rw [c_35]; decide) (by first | (rw [c_35]; done) | (rw [c_35]; rfl)) rfl ?_
    have h := h.1 c_35
    refine lv_aload_n hx hb dX2_newName_180 rfl (lv_at hl 0 rfl) ?_
    refine lv_iconst (v := 1) hx hb dX2_newName_181 (by decide) ?_
    have hk_29 : kd u a0 = 2 := h.1
    have h := h.2
    refine g_callr hw (g_V X hw (mX2_fail l G _ _ _ _ h) 1 (lw_V q738 q740 qs7 q123 q741) rfl rfl ydX2_fail ⟨Nat.le_of_ble_eq_true rfl, Nat.le_of_ble_eq_true rfl⟩ (g_recv X hw (ci := 1) (q := (RX2, TX2, 11)) hk_29 rfl) (As := [.int 1]) (rest := []) rfl hl.1 rfl (Nat.le_of_ble_eq_true rfl) dX2_newName_182 ⟨(by show _ ≤ MC; omega), (by show _ ≤ MS; omega)⟩) (fun o_30 u_31 H locs h hw => ?_)
    obtain ⟨b_32, e_33, h⟩ := h
    rw [e_33]
    show W _ _ _ _ _ _ _ _ _ _ _ _ _ _ _ (F0 _ _ _ (.ref _ :: _))
    have hk_34 : kd u_31 b_32 = 3 := h.1
    have h := h.2
    exact g_throw X ht hw hk_34 h (by omega) (by omega) dX2_newName_185
  have h := h.2
  have h := h ⟨c_7, c_14, c_21, c_28, c_35⟩
  refine lv_tableOut (tgt := 186) hx hb dX2_newName_144 (tbl_out 0 5 (by decide) (by decide) (fun i hi => by match i, hi with | 0, _ => exact c_7 | 1, _ => exact c_14 | 2, _ => exact c_21 | 3, _ => exact c_28 | 4, _ => exact c_35 | n + 5, hi => exact absurd hi (by omega))) rfl ?_
  refine lv_aload_n hx hb dX2_newName_186 rfl (lv_at hl 0 rfl) ?_
  have hk_36 : kd u a0 = 2 := h.1
  have h := h.2
  obtain ⟨b_37, e_38, h⟩ := h
  refine g_getR X hw in_X2 hk_36 rfl 10 rfl (by decide) q254 (fun _ z => z) e_38 dX2_newName_187 ?_
  refine lv_aload_n hx hb dX2_newName_190 rfl (lv_at hl 0 rfl) ?_
  obtain ⟨b_39, e_40, h⟩ := h
  refine g_getR X hw in_X2 hk_36 rfl 9 rfl (by decide) q253 (fun _ z => z) e_40 dX2_newName_191 ?_
  have hk_41 : kd u b_37 = 17 := h.1
  have h := h.2
  refine g_callio hw (g_V X hw (mX20_isTold l G _ _ _ _ h) 1 (lw_V q871 q872 q873 q144 q874) rfl rfl ydX20_isTold ⟨Nat.le_of_ble_eq_true rfl, Nat.le_of_ble_eq_true rfl⟩ (g_recv X hw (ci := 16) (q := (RX20, TX20, 13)) hk_41 rfl) (As := [.ref b_39]) (rest := []) rfl hl.1 rfl (Nat.le_of_ble_eq_true rfl) dX2_newName_194 ⟨(by show _ ≤ MC; omega), (by show _ ≤ MS; omega)⟩) (fun r_42 H locs h hw => ?_)
  refine lv_if_eq (tgt := 206) hx hb dX2_newName_197 rfl (fun c_53 => ?_) (fun c_53 => ?_)
  · have h := h.1 c_53
    refine lv_aload_n hx hb dX2_newName_206 rfl (lv_at hl 0 rfl) ?_
    refine g_getR X hw in_X2 hk_36 rfl 9 rfl (by decide) q253 (fun _ z => z) e_40 dX2_newName_207 ?_
    refine lv_astore_n (lv' := [(1, .ref b_39), (0, .ref a0), (2, .int x2)]) hx hb dX2_newName_210 rfl hl (by decide) rfl (fun ls hl => ?_)
    refine lv_aload_n hx hb dX2_newName_211 rfl (lv_at hl 1 rfl) ?_
    obtain ⟨q_43, q_44, hq_45, hq_46, h⟩ := h
    refine g_callv hw (g_V X hw (mX2_next l G _ _ _ _ _ h) 0 (lw_V q640 q642 qs4 q123 q643) rfl rfl ydX2_next ⟨Nat.le_of_ble_eq_true rfl, Nat.le_of_ble_eq_true rfl⟩ (g_recv X hw (ci := 1) (q := (RX2, TX2, 11)) hk_36 rfl) (As := []) (rest := []) rfl hl.1 rfl (Nat.le_of_ble_eq_true rfl) dX2_newName_212 ⟨(by show _ ≤ MC; omega), (by show _ ≤ MS; omega)⟩) (fun u_47 H locs h hw => ?_)
    refine lv_aload_n hx hb dX2_newName_215 rfl (lv_at hl 0 rfl) ?_
    exact vx_ret (g_aret X hw (v := (some b_39)) hr (Or.inl ⟨_, rfl⟩) h (by omega) (by omega) dX2_newName_216)
  · have h := h.2 c_53
    refine lv_aload_n hx hb dX2_newName_200 rfl (lv_at hl 0 rfl) ?_
    refine lv_iconst (v := 3) hx hb dX2_newName_201 (by decide) ?_
    refine g_callr hw (g_V X hw (mX2_fail l G _ _ _ _ h) 1 (lw_V q738 q740 qs7 q123 q741) rfl rfl ydX2_fail ⟨Nat.le_of_ble_eq_true rfl, Nat.le_of_ble_eq_true rfl⟩ (g_recv X hw (ci := 1) (q := (RX2, TX2, 11)) hk_36 rfl) (As := [.int 3]) (rest := []) rfl hl.1 rfl (Nat.le_of_ble_eq_true rfl) dX2_newName_202 ⟨(by show _ ≤ MC; omega), (by show _ ≤ MS; omega)⟩) (fun o_48 u_49 H locs h hw => ?_)
    obtain ⟨b_50, e_51, h⟩ := h
    rw [e_51]
    show W _ _ _ _ _ _ _ _ _ _ _ _ _ _ _ (F0 _ _ _ (.ref _ :: _))
    have hk_52 : kd u_49 b_50 = 3 := h.1
    have h := h.2
    exact g_throw X ht hw hk_52 h (by omega) (by omega) dX2_newName_205
set_option maxHeartbeats 4000000 in
theorem mX2_newName (l : Launch) (G : GT) (u : Hp) (a0 : Nat) (MC MS : Nat) (K : Option Nat → Hp → Prop) (E : Nat → Hp → Prop) (h : pX2_newName (Glit G) u a0 MC MS K E) : vx_Met l yX2_newName (ws_ yX2_newName cX2_newName 3 (some (.object "java/lang/String"))) (rmX2_newName MC MS) (va_Pc [.ref a0] (GB G u)) (va_Qq K (fun u t => GH G u t.heap) (GA G)) (XE G "FifthCard$Refused" E) MC MS (GA G) := by
  refine vx_ofW (cc := cX2_newName) (maxL := 3) (ret := (some (.object "java/lang/String"))) (by decide) rfl ?_
  intro p e s m args below meth c s₁ B hml ht hv
  obtain ⟨rfl, hv⟩ := hv
  have X := Mc_of (own := RX2) B hml rfl hv
  have hw : GW G u s s.heap [] := ⟨hv.2.1, va_S.rf⟩
  have hr := B.returns
  obtain ⟨hx, hb, hml, hown, hts, -⟩ := id X
  have hl := lv_entry ([.ref a0]) (n := 3) (Nat.le_of_ble_eq_true rfl)
  rw [lg_entry_eq]
  generalize (lg_sl ([.ref a0]) ++ List.replicate (3 - (lg_sl ([.ref a0])).length) Slot.unset).toArray = ls at hl ⊢
  have hl : lv_has ls 3 [(0, .ref a0)] := hl
  change W p l e (rmX2_newName MC MS) s m _ below meth c s.heap [] 0 0 (TR G "FifthCard$Refused" below K E _ s MC MS) (F0 m 0 ls [])
  unfold pX2_newName at h
  have hc1 : 0 + MC ≤ MC := by omega
  have hc2 : 0 + MS ≤ MS := by omega
  refine lv_aload_n hx hb dX2_newName_0 rfl (lv_at hl 0 rfl) ?_
  have hk_54 : kd u a0 = 2 := h.1
  have h := h.2
  refine g_getI X hw in_X2 hk_54 rfl 6 rfl (by decide) q250 (fun _ z => z) dX2_newName_1 ?_
  refine lv_iconst (v := 2) hx hb dX2_newName_4 (by decide) ?_
  refine lv_icmp_eq (tgt := 14) hx hb dX2_newName_5 rfl (fun c_85 => ?_) (fun c_85 => ?_)
  · have h := h.1 c_85
    refine lv_aload_n hx hb dX2_newName_14 rfl (lv_at hl 0 rfl) ?_
    obtain ⟨b_55, e_56, h⟩ := h
    refine g_getR X hw in_X2 hk_54 rfl 9 rfl (by decide) q253 (fun _ z => z) e_56 dX2_newName_15 ?_
    refine lv_astore_n (lv' := [(1, .ref b_55), (0, .ref a0)]) hx hb dX2_newName_18 rfl hl (by decide) rfl (fun ls hl => ?_)
    refine lv_iconst (v := (-1)) hx hb dX2_newName_19 (by decide) ?_
    refine lv_istore_n (lv' := [(2, .int (-1)), (1, .ref b_55), (0, .ref a0)]) hx hb dX2_newName_20 rfl hl (by decide) rfl (fun ls hl => ?_)
    refine lv_aload_n hx hb dX2_newName_21 rfl (lv_at hl 1 rfl) ?_
    have hk_57 : kd u b_55 = 21 ∨ kd u b_55 = 201 := h.1
    have h := h.2
    refine g_calli hw (g_V X hw (mJ3_hashCode l G _ _ _ h) 0 (lw_V q746 q747 q748 q145 q749) rfl rfl ydJ3_hashCode ⟨Nat.le_of_ble_eq_true rfl, Nat.le_of_ble_eq_true rfl⟩ (g_recvS X hw hk_57) (As := []) (rest := []) rfl hl.1 rfl (Nat.le_of_ble_eq_true rfl) dX2_newName_22 ⟨(by show _ ≤ MC; omega), (by show _ ≤ MS; omega)⟩) (fun r_58 u_59 H locs h hw => ?_)
    by_cases c_63 : r_58 = (-1376511864)
    · refine lv_lookup (tgt := 104) hx hb dX2_newName_25 (by decide) (by first | (rw [c_63]; done) | (rw [c_63]; rfl)) rfl ?_
      have h := h.1 c_63
      refine lv_aload_n hx hb dX2_newName_104 rfl (lv_at hl 1 rfl) ?_
      refine va_ldcS (tx := "evening") hx hb hown (X.2.2.2.2.2.2.1.2.2.2.2.2.2.1 4 ("FifthCard$Reader", 118, "evening") rfl) dX2_newName_105 ?_
      have hk_60 : kd u_59 b_55 = 21 ∨ kd u_59 b_55 = 201 := h.1
      have h := h.2
      refine g_callio hw (g_V X hw (mJ3_equals l G _ _ _ _ h) 1 (lw_V q800 q801 q802 q145 q803) rfl rfl ydJ3_equals ⟨Nat.le_of_ble_eq_true rfl, Nat.le_of_ble_eq_true rfl⟩ (g_recvS X hw hk_60) (As := [.ref (Glit G 4)]) (rest := []) rfl hl.1 rfl (Nat.le_of_ble_eq_true rfl) dX2_newName_107 ⟨(by show _ ≤ MC; omega), (by show _ ≤ MS; omega)⟩) (fun r_61 H locs h hw => ?_)
      refine lv_if_eq (tgt := 143) hx hb dX2_newName_110 rfl (fun c_62 => ?_) (fun c_62 => ?_)
      · have h := h.1 c_62
        exact wX2_newName_143 X hr ht (by omega) (by omega) h hw (lv_sub hl [2, 0] rfl)
      · have h := h.2 c_62
        refine lv_iconst (v := 2) hx hb dX2_newName_113 (by decide) ?_
        refine lv_istore_n (lv' := [(2, .int 2), (1, .ref b_55), (0, .ref a0)]) hx hb dX2_newName_114 rfl hl (by decide) rfl (fun ls hl => ?_)
        refine lv_goto (tgt := 143) hx hb dX2_newName_115 rfl ?_
        exact wX2_newName_143 X hr ht (by omega) (by omega) h hw (lv_sub hl [2, 0] rfl)
    have h := h.2
    by_cases c_67 : r_58 = (-873683940)
    · refine lv_lookup (tgt := 132) hx hb dX2_newName_25 (by decide) (by first | (rw [c_67]; done) | (rw [c_67]; rfl)) rfl ?_
      have h := h.1 c_67
      refine lv_aload_n hx hb dX2_newName_132 rfl (lv_at hl 1 rfl) ?_
      refine va_ldcS (tx := "tilted") hx hb hown (X.2.2.2.2.2.2.1.2.2.2.2.2.2.1 14 ("FifthCard$Reader", 175, "tilted") rfl) dX2_newName_133 ?_
      have hk_64 : kd u_59 b_55 = 21 ∨ kd u_59 b_55 = 201 := h.1
      have h := h.2
      refine g_callio hw (g_V X hw (mJ3_equals l G _ _ _ _ h) 1 (lw_V q800 q801 q802 q145 q803) rfl rfl ydJ3_equals ⟨Nat.le_of_ble_eq_true rfl, Nat.le_of_ble_eq_true rfl⟩ (g_recvS X hw hk_64) (As := [.ref (Glit G 14)]) (rest := []) rfl hl.1 rfl (Nat.le_of_ble_eq_true rfl) dX2_newName_135 ⟨(by show _ ≤ MC; omega), (by show _ ≤ MS; omega)⟩) (fun r_65 H locs h hw => ?_)
      refine lv_if_eq (tgt := 143) hx hb dX2_newName_138 rfl (fun c_66 => ?_) (fun c_66 => ?_)
      · have h := h.1 c_66
        exact wX2_newName_143 X hr ht (by omega) (by omega) h hw (lv_sub hl [2, 0] rfl)
      · have h := h.2 c_66
        refine lv_iconst (v := 4) hx hb dX2_newName_141 (by decide) ?_
        refine lv_istore_n (lv' := [(2, .int 4), (1, .ref b_55), (0, .ref a0)]) hx hb dX2_newName_142 rfl hl (by decide) rfl (fun ls hl => ?_)
        exact wX2_newName_143 X hr ht (by omega) (by omega) h hw (lv_sub hl [2, 0] rfl)
    have h := h.2
    by_cases c_71 : r_58 = 3512060
    · refine lv_lookup (tgt := 90) hx hb dX2_newName_25 (by decide) (by first | (rw [c_71]; done) | (rw [c_71]; rfl)) rfl ?_
      have h := h.1 c_71
      refine lv_aload_n hx hb dX2_newName_90 rfl (lv_at hl 1 rfl) ?_
      refine va_ldcS (tx := "rule") hx hb hown (X.2.2.2.2.2.2.1.2.2.2.2.2.2.1 3 ("FifthCard$Reader", 116, "rule") rfl) dX2_newName_91 ?_
      have hk_68 : kd u_59 b_55 = 21 ∨ kd u_59 b_55 = 201 := h.1
      have h := h.2
      refine g_callio hw (g_V X hw (mJ3_equals l G _ _ _ _ h) 1 (lw_V q800 q801 q802 q145 q803) rfl rfl ydJ3_equals ⟨Nat.le_of_ble_eq_true rfl, Nat.le_of_ble_eq_true rfl⟩ (g_recvS X hw hk_68) (As := [.ref (Glit G 3)]) (rest := []) rfl hl.1 rfl (Nat.le_of_ble_eq_true rfl) dX2_newName_93 ⟨(by show _ ≤ MC; omega), (by show _ ≤ MS; omega)⟩) (fun r_69 H locs h hw => ?_)
      refine lv_if_eq (tgt := 143) hx hb dX2_newName_96 rfl (fun c_70 => ?_) (fun c_70 => ?_)
      · have h := h.1 c_70
        exact wX2_newName_143 X hr ht (by omega) (by omega) h hw (lv_sub hl [2, 0] rfl)
      · have h := h.2 c_70
        refine lv_iconst (v := 1) hx hb dX2_newName_99 (by decide) ?_
        refine lv_istore_n (lv' := [(2, .int 1), (1, .ref b_55), (0, .ref a0)]) hx hb dX2_newName_100 rfl hl (by decide) rfl (fun ls hl => ?_)
        refine lv_goto (tgt := 143) hx hb dX2_newName_101 rfl ?_
        exact wX2_newName_143 X hr ht (by omega) (by omega) h hw (lv_sub hl [2, 0] rfl)
    have h := h.2
    by_cases c_75 : r_58 = 109413654
    · refine lv_lookup (tgt := 118) hx hb dX2_newName_25 (by decide) (by first | (rw [c_75]; done) | (rw [c_75]; rfl)) rfl ?_
      have h := h.1 c_75
      refine lv_aload_n hx hb dX2_newName_118 rfl (lv_at hl 1 rfl) ?_
      refine va_ldcS (tx := "shows") hx hb hown (X.2.2.2.2.2.2.1.2.2.2.2.2.2.1 13 ("FifthCard$Reader", 173, "shows") rfl) dX2_newName_119 ?_
      have hk_72 : kd u_59 b_55 = 21 ∨ kd u_59 b_55 = 201 := h.1
      have h := h.2
      refine g_callio hw (g_V X hw (mJ3_equals l G _ _ _ _ h) 1 (lw_V q800 q801 q802 q145 q803) rfl rfl ydJ3_equals ⟨Nat.le_of_ble_eq_true rfl, Nat.le_of_ble_eq_true rfl⟩ (g_recvS X hw hk_72) (As := [.ref (Glit G 13)]) (rest := []) rfl hl.1 rfl (Nat.le_of_ble_eq_true rfl) dX2_newName_121 ⟨(by show _ ≤ MC; omega), (by show _ ≤ MS; omega)⟩) (fun r_73 H locs h hw => ?_)
      refine lv_if_eq (tgt := 143) hx hb dX2_newName_124 rfl (fun c_74 => ?_) (fun c_74 => ?_)
      · have h := h.1 c_74
        exact wX2_newName_143 X hr ht (by omega) (by omega) h hw (lv_sub hl [2, 0] rfl)
      · have h := h.2 c_74
        refine lv_iconst (v := 3) hx hb dX2_newName_127 (by decide) ?_
        refine lv_istore_n (lv' := [(2, .int 3), (1, .ref b_55), (0, .ref a0)]) hx hb dX2_newName_128 rfl hl (by decide) rfl (fun ls hl => ?_)
        refine lv_goto (tgt := 143) hx hb dX2_newName_129 rfl ?_
        exact wX2_newName_143 X hr ht (by omega) (by omega) h hw (lv_sub hl [2, 0] rfl)
    have h := h.2
    by_cases c_79 : r_58 = 110628691
    · refine lv_lookup (tgt := 76) hx hb dX2_newName_25 (by decide) (by first | (rw [c_79]; done) | (rw [c_79]; rfl)) rfl ?_
      have h := h.1 c_79
      refine lv_aload_n hx hb dX2_newName_76 rfl (lv_at hl 1 rfl) ?_
      refine va_ldcS (tx := "trick") hx hb hown (X.2.2.2.2.2.2.1.2.2.2.2.2.2.1 2 ("FifthCard$Reader", 115, "trick") rfl) dX2_newName_77 ?_
      have hk_76 : kd u_59 b_55 = 21 ∨ kd u_59 b_55 = 201 := h.1
      have h := h.2
      refine g_callio hw (g_V X hw (mJ3_equals l G _ _ _ _ h) 1 (lw_V q800 q801 q802 q145 q803) rfl rfl ydJ3_equals ⟨Nat.le_of_ble_eq_true rfl, Nat.le_of_ble_eq_true rfl⟩ (g_recvS X hw hk_76) (As := [.ref (Glit G 2)]) (rest := []) rfl hl.1 rfl (Nat.le_of_ble_eq_true rfl) dX2_newName_79 ⟨(by show _ ≤ MC; omega), (by show _ ≤ MS; omega)⟩) (fun r_77 H locs h hw => ?_)
      refine lv_if_eq (tgt := 143) hx hb dX2_newName_82 rfl (fun c_78 => ?_) (fun c_78 => ?_)
      · have h := h.1 c_78
        exact wX2_newName_143 X hr ht (by omega) (by omega) h hw (lv_sub hl [2, 0] rfl)
      · have h := h.2 c_78
        refine lv_iconst (v := 0) hx hb dX2_newName_85 (by decide) ?_
        refine lv_istore_n (lv' := [(2, .int 0), (1, .ref b_55), (0, .ref a0)]) hx hb dX2_newName_86 rfl hl (by decide) rfl (fun ls hl => ?_)
        refine lv_goto (tgt := 143) hx hb dX2_newName_87 rfl ?_
        exact wX2_newName_143 X hr ht (by omega) (by omega) h hw (lv_sub hl [2, 0] rfl)
    have h := h.2
    have h := h ⟨c_63, c_67, c_71, c_75, c_79⟩
    refine lv_lookup (tgt := 143) hx hb dX2_newName_25 (by decide) (by first | (rw [lv_osw c_63 (by decide), lv_osw c_67 (by decide), lv_osw c_71 (by decide), lv_osw c_75 (by decide), lv_osw c_79 (by decide)]; done) | (rw [lv_osw c_63 (by decide), lv_osw c_67 (by decide), lv_osw c_71 (by decide), lv_osw c_75 (by decide), lv_osw c_79 (by decide)]; rfl)) rfl ?_
    exact wX2_newName_143 X hr ht (by omega) (by omega) h hw (lv_sub hl [2, 0] rfl)
  · have h := h.2 c_85
    refine lv_aload_n hx hb dX2_newName_8 rfl (lv_at hl 0 rfl) ?_
    refine lv_iconst (v := 1) hx hb dX2_newName_9 (by decide) ?_
    refine g_callr hw (g_V X hw (mX2_fail l G _ _ _ _ h) 1 (lw_V q738 q740 qs7 q123 q741) rfl rfl ydX2_fail ⟨Nat.le_of_ble_eq_true rfl, Nat.le_of_ble_eq_true rfl⟩ (g_recv X hw (ci := 1) (q := (RX2, TX2, 11)) hk_54 rfl) (As := [.int 1]) (rest := []) rfl hl.1 rfl (Nat.le_of_ble_eq_true rfl) dX2_newName_10 ⟨(by show _ ≤ MC; omega), (by show _ ≤ MS; omega)⟩) (fun o_80 u_81 H locs h hw => ?_)
    obtain ⟨b_82, e_83, h⟩ := h
    rw [e_83]
    show W _ _ _ _ _ _ _ _ _ _ _ _ _ _ _ (F0 _ _ _ (.ref _ :: _))
    have hk_84 : kd u_81 b_82 = 3 := h.1
    have h := h.2
    exact g_throw X ht hw hk_84 h (by omega) (by omega) dX2_newName_13

/-! FifthCard$Reader.ruleOf(Ljava/lang/String;I)LFifthCard$Rule; -/
theorem ydX2_ruleOf : yX2_ruleOf.cls = "FifthCard$Reader" ∧ yX2_ruleOf.cls ≠ "java/lang/invoke/MethodHandle" ∧ yX2_ruleOf.cls ≠ "java/lang/invoke/VarHandle" ∧ (parseMethodDescriptor yX2_ruleOf.desc).map (fun d => d.parameters.length) = some 2 := by decide +kernel
def rmX2_ruleOf (mc ms : Nat) : Room := { frames := 7, cells := mc, slots := ms, locals := 163 }
set_option maxHeartbeats 4000000 in
theorem mX2_ruleOf (l : Launch) (G : GT) (u : Hp) (a0 : Nat) (a1 : Nat) (x2 : Int32) (MC MS : Nat) (K : Option Nat → Hp → Prop) (E : Nat → Hp → Prop) (h : pX2_ruleOf (Glit G) u a0 a1 x2 MC MS K E) : vx_Met l yX2_ruleOf (ws_ yX2_ruleOf cX2_ruleOf 5 (some (.object "FifthCard$Rule"))) (rmX2_ruleOf MC MS) (va_Pc [.ref a0, .ref a1, .int x2] (GB G u)) (va_Qq K (fun u t => GH G u t.heap) (GA G)) (XE G "FifthCard$Refused" E) MC MS (GA G) := by
  refine vx_ofW (cc := cX2_ruleOf) (maxL := 5) (ret := (some (.object "FifthCard$Rule"))) (by decide) rfl ?_
  intro p e s m args below meth c s₁ B hml ht hv
  obtain ⟨rfl, hv⟩ := hv
  have X := Mc_of (own := RX2) B hml rfl hv
  have hw : GW G u s s.heap [] := ⟨hv.2.1, va_S.rf⟩
  have hr := B.returns
  obtain ⟨hx, hb, hml, hown, hts, -⟩ := id X
  have hl := lv_entry ([.ref a0, .ref a1, .int x2]) (n := 5) (Nat.le_of_ble_eq_true rfl)
  rw [lg_entry_eq]
  generalize (lg_sl ([.ref a0, .ref a1, .int x2]) ++ List.replicate (5 - (lg_sl ([.ref a0, .ref a1, .int x2])).length) Slot.unset).toArray = ls at hl ⊢
  have hl : lv_has ls 5 [(0, .ref a0), (1, .ref a1), (2, .int x2)] := hl
  change W p l e (rmX2_ruleOf MC MS) s m _ below meth c s.heap [] 0 0 (TR G "FifthCard$Refused" below K E _ s MC MS) (F0 m 0 ls [])
  unfold pX2_ruleOf at h
  have hc1 : 0 + MC ≤ MC := by omega
  have hc2 : 0 + MS ≤ MS := by omega
  refine lv_aload_n hx hb dX2_ruleOf_0 rfl (lv_at hl 0 rfl) ?_
  refine va_ldcS (tx := "suit") hx hb hown (X.2.2.2.2.2.2.1.2.2.2.2.2.2.1 23 ("FifthCard$Reader", 196, "suit") rfl) dX2_ruleOf_1 ?_
  have hk_5 : kd u a0 = 2 := h.1
  have h := h.2
  obtain ⟨q_1, q_2, hq_3, hq_4, h⟩ := h
  refine g_calli hw (g_V X hw (mX2_takes l G _ _ _ _ _ _ h) 1 (lw_V q823 q825 qs11 q123 q826) rfl rfl ydX2_takes ⟨Nat.le_of_ble_eq_true rfl, Nat.le_of_ble_eq_true rfl⟩ (g_recv X hw (ci := 1) (q := (RX2, TX2, 11)) hk_5 rfl) (As := [.ref (Glit G 23)]) (rest := []) rfl hl.1 rfl (Nat.le_of_ble_eq_true rfl) dX2_ruleOf_3 ⟨(by show _ ≤ MC; omega), (by show _ ≤ MS; omega)⟩) (fun r_6 u_7 H locs h hw => ?_)
  refine lv_if_eq (tgt := 19) hx hb dX2_ruleOf_6 rfl (fun c_82 => ?_) (fun c_82 => ?_)
  · have h := h.1 c_82
    refine lv_aload_n hx hb dX2_ruleOf_19 rfl (lv_at hl 0 rfl) ?_
    refine va_ldcS (tx := "table") hx hb hown (X.2.2.2.2.2.2.1.2.2.2.2.2.2.1 24 ("FifthCard$Reader", 203, "table") rfl) dX2_ruleOf_20 ?_
    have hk_12 : kd u_7 a0 = 2 := h.1
    have h := h.2
    obtain ⟨q_8, q_9, hq_10, hq_11, h⟩ := h
    refine g_calli hw (g_V X hw (mX2_takes l G _ _ _ _ _ _ h) 1 (lw_V q823 q825 qs11 q123 q826) rfl rfl ydX2_takes ⟨Nat.le_of_ble_eq_true rfl, Nat.le_of_ble_eq_true rfl⟩ (g_recv X hw (ci := 1) (q := (RX2, TX2, 11)) hk_12 rfl) (As := [.ref (Glit G 24)]) (rest := []) rfl hl.1 rfl (Nat.le_of_ble_eq_true rfl) dX2_ruleOf_22 ⟨(by show _ ≤ MC; omega), (by show _ ≤ MS; omega)⟩) (fun r_13 u_14 H locs h hw => ?_)
    refine lv_if_eq (tgt := 38) hx hb dX2_ruleOf_25 rfl (fun c_71 => ?_) (fun c_71 => ?_)
    · have h := h.1 c_71
      refine lv_aload_n hx hb dX2_ruleOf_38 rfl (lv_at hl 0 rfl) ?_
      refine va_ldcS (tx := "keeps") hx hb hown (X.2.2.2.2.2.2.1.2.2.2.2.2.2.1 25 ("FifthCard$Reader", 208, "keeps") rfl) dX2_ruleOf_39 ?_
      have hk_19 : kd u_14 a0 = 2 := h.1
      have h := h.2
      obtain ⟨q_15, q_16, hq_17, hq_18, h⟩ := h
      refine g_tcallv X ht hw (g_TV X hw (mX2_must l G _ _ _ _ _ _ _ h) 1 (lw_V q819 q821 qs10 q123 q822) rfl rfl ydX2_must ⟨Nat.le_of_ble_eq_true rfl, Nat.le_of_ble_eq_true rfl⟩ (g_recv X hw (ci := 1) (q := (RX2, TX2, 11)) hk_19 rfl) (As := [.ref (Glit G 25)]) (rest := []) rfl hl.1 rfl (Nat.le_of_ble_eq_true rfl) dX2_ruleOf_41 ⟨(by show _ ≤ MC; omega), (by show _ ≤ MS; omega)⟩) (by omega) (by omega) (fun u_20 H locs h hw => ?_)
      refine lv_aload_n hx hb dX2_ruleOf_44 rfl (lv_at hl 0 rfl) ?_
      have hk_21 : kd u_20 a0 = 2 := h.1
      have h := h.2
      refine g_callio hw (g_V X hw (mX2_keepHere l G _ _ _ h) 0 (lw_V q911 q913 qs18 q123 q914) rfl rfl ydX2_keepHere ⟨Nat.le_of_ble_eq_true rfl, Nat.le_of_ble_eq_true rfl⟩ (g_recv X hw (ci := 1) (q := (RX2, TX2, 11)) hk_21 rfl) (As := []) (rest := []) rfl hl.1 rfl (Nat.le_of_ble_eq_true rfl) dX2_ruleOf_45 ⟨(by show _ ≤ MC; omega), (by show _ ≤ MS; omega)⟩) (fun r_22 H locs h hw => ?_)
      refine lv_istore_n (lv' := [(3, .int r_22), (0, .ref a0), (1, .ref a1), (2, .int x2)]) hx hb dX2_ruleOf_48 rfl hl (by decide) rfl (fun ls hl => ?_)
      refine lv_iload_n hx hb dX2_ruleOf_49 rfl (lv_at hl 0 rfl) ?_
      refine lv_iconst (v := (-1)) hx hb dX2_ruleOf_50 (by decide) ?_
      refine lv_icmp_ne (tgt := 60) hx hb dX2_ruleOf_51 rfl (fun c_60 => ?_) (fun c_60 => ?_)
      · have h := h.2 c_60
        refine lv_aload_n hx hb dX2_ruleOf_60 rfl (lv_at hl 1 rfl) ?_
        obtain ⟨q_23, q_24, hq_25, hq_26, h⟩ := h
        refine g_callv hw (g_V X hw (mX2_next l G _ _ _ _ _ h) 0 (lw_V q640 q642 qs4 q123 q643) rfl rfl ydX2_next ⟨Nat.le_of_ble_eq_true rfl, Nat.le_of_ble_eq_true rfl⟩ (g_recv X hw (ci := 1) (q := (RX2, TX2, 11)) hk_21 rfl) (As := []) (rest := []) rfl hl.1 rfl (Nat.le_of_ble_eq_true rfl) dX2_ruleOf_61 ⟨(by show _ ≤ MC; omega), (by show _ ≤ MS; omega)⟩) (fun u_27 H locs h hw => ?_)
        refine lv_aload_n hx hb dX2_ruleOf_64 rfl (lv_at hl 1 rfl) ?_
        refine va_ldcS (tx := "tells") hx hb hown (X.2.2.2.2.2.2.1.2.2.2.2.2.2.1 26 ("FifthCard$Reader", 213, "tells") rfl) dX2_ruleOf_65 ?_
        have hk_32 : kd u_27 a0 = 2 := h.1
        have h := h.2
        obtain ⟨q_28, q_29, hq_30, hq_31, h⟩ := h
        refine g_tcallv X ht hw (g_TV X hw (mX2_must l G _ _ _ _ _ _ _ h) 1 (lw_V q819 q821 qs10 q123 q822) rfl rfl ydX2_must ⟨Nat.le_of_ble_eq_true rfl, Nat.le_of_ble_eq_true rfl⟩ (g_recv X hw (ci := 1) (q := (RX2, TX2, 11)) hk_32 rfl) (As := [.ref (Glit G 26)]) (rest := []) rfl hl.1 rfl (Nat.le_of_ble_eq_true rfl) dX2_ruleOf_67 ⟨(by show _ ≤ MC; omega), (by show _ ≤ MS; omega)⟩) (by omega) (by omega) (fun u_33 H locs h hw => ?_)
        refine lv_aload_n hx hb dX2_ruleOf_70 rfl (lv_at hl 1 rfl) ?_
        have hk_34 : kd u_33 a0 = 2 := h.1
        have h := h.2
        refine g_callio hw (g_V X hw (mX2_tellHere l G _ _ _ h) 0 (lw_V q920 q922 qs19 q123 q923) rfl rfl ydX2_tellHere ⟨Nat.le_of_ble_eq_true rfl, Nat.le_of_ble_eq_true rfl⟩ (g_recv X hw (ci := 1) (q := (RX2, TX2, 11)) hk_34 rfl) (As := []) (rest := []) rfl hl.1 rfl (Nat.le_of_ble_eq_true rfl) dX2_ruleOf_71 ⟨(by show _ ≤ MC; omega), (by show _ ≤ MS; omega)⟩) (fun r_35 H locs h hw => ?_)
        refine lv_istore (lv' := [(4, .int r_35), (3, .int r_22), (0, .ref a0), (1, .ref a1), (2, .int x2)]) hx hb dX2_ruleOf_74 hl (by decide) rfl (fun ls hl => ?_)
        refine lv_iload hx hb dX2_ruleOf_76 (lv_at hl 0 rfl) ?_
        refine lv_iconst (v := (-1)) hx hb dX2_ruleOf_78 (by decide) ?_
        refine lv_icmp_ne (tgt := 88) hx hb dX2_ruleOf_79 rfl (fun c_54 => ?_) (fun c_54 => ?_)
        · have h := h.2 c_54
          refine lv_aload_n hx hb dX2_ruleOf_88 rfl (lv_at hl 2 rfl) ?_
          obtain ⟨q_36, q_37, hq_38, hq_39, h⟩ := h
          refine g_callv hw (g_V X hw (mX2_next l G _ _ _ _ _ h) 0 (lw_V q640 q642 qs4 q123 q643) rfl rfl ydX2_next ⟨Nat.le_of_ble_eq_true rfl, Nat.le_of_ble_eq_true rfl⟩ (g_recv X hw (ci := 1) (q := (RX2, TX2, 11)) hk_34 rfl) (As := []) (rest := []) rfl hl.1 rfl (Nat.le_of_ble_eq_true rfl) dX2_ruleOf_89 ⟨(by show _ ≤ MC; omega), (by show _ ≤ MS; omega)⟩) (fun u_40 H locs h hw => ?_)
          refine lv_aload_n hx hb dX2_ruleOf_92 rfl (lv_at hl 3 rfl) ?_
          refine lv_iload_n hx hb dX2_ruleOf_93 rfl (lv_at hl 4 rfl) ?_
          refine lv_iconst (v := 5) hx hb dX2_ruleOf_94 (by decide) ?_
          refine lv_iload_n hx hb dX2_ruleOf_95 rfl (lv_at hl 1 rfl) ?_
          refine lv_imul hx hb dX2_ruleOf_96 ?_
          refine lv_iload hx hb dX2_ruleOf_97 (lv_at hl 0 rfl) ?_
          refine lv_iadd hx hb dX2_ruleOf_99 ?_
          obtain ⟨q_41, q_42, hq_43, hq_44, h⟩ := h
          refine g_callr hw (g_SN X hw (mX1_spoken l G _ _ _ _ _ _ _ h) 3 q361 q122 (List.mem_of_getElem? (i := 28) rfl) q360 rfl rfl ydX1_spoken ⟨Nat.le_of_ble_eq_true rfl, Nat.le_of_ble_eq_true rfl⟩ (As := [.ref a1, .int x2, .int ((5 * r_22) + r_35)]) (rest := []) rfl hl.1 rfl (Nat.le_of_ble_eq_true rfl) dX2_ruleOf_100 ⟨(by show _ ≤ MC; omega), (by show _ ≤ MS; omega)⟩) (fun o_45 u_46 H locs h hw => ?_)
          exact vx_ret (g_aret X hw (v := o_45) hr (Or.inl ⟨_, rfl⟩) h (by omega) (by omega) dX2_ruleOf_103)
        · have h := h.1 c_54
          refine lv_aload_n hx hb dX2_ruleOf_82 rfl (lv_at hl 2 rfl) ?_
          refine lv_iconst (v := 1) hx hb dX2_ruleOf_83 (by decide) ?_
          refine g_callr hw (g_V X hw (mX2_fail l G _ _ _ _ h) 1 (lw_V q738 q740 qs7 q123 q741) rfl rfl ydX2_fail ⟨Nat.le_of_ble_eq_true rfl, Nat.le_of_ble_eq_true rfl⟩ (g_recv X hw (ci := 1) (q := (RX2, TX2, 11)) hk_34 rfl) (As := [.int 1]) (rest := []) rfl hl.1 rfl (Nat.le_of_ble_eq_true rfl) dX2_ruleOf_84 ⟨(by show _ ≤ MC; omega), (by show _ ≤ MS; omega)⟩) (fun o_49 u_50 H locs h hw => ?_)
          obtain ⟨b_51, e_52, h⟩ := h
          rw [e_52]
          show W _ _ _ _ _ _ _ _ _ _ _ _ _ _ _ (F0 _ _ _ (.ref _ :: _))
          have hk_53 : kd u_50 b_51 = 3 := h.1
          have h := h.2
          exact g_throw X ht hw hk_53 h (by omega) (by omega) dX2_ruleOf_87
      · have h := h.1 c_60
        refine lv_aload_n hx hb dX2_ruleOf_54 rfl (lv_at hl 1 rfl) ?_
        refine lv_iconst (v := 1) hx hb dX2_ruleOf_55 (by decide) ?_
        refine g_callr hw (g_V X hw (mX2_fail l G _ _ _ _ h) 1 (lw_V q738 q740 qs7 q123 q741) rfl rfl ydX2_fail ⟨Nat.le_of_ble_eq_true rfl, Nat.le_of_ble_eq_true rfl⟩ (g_recv X hw (ci := 1) (q := (RX2, TX2, 11)) hk_21 rfl) (As := [.int 1]) (rest := []) rfl hl.1 rfl (Nat.le_of_ble_eq_true rfl) dX2_ruleOf_56 ⟨(by show _ ≤ MC; omega), (by show _ ≤ MS; omega)⟩) (fun o_55 u_56 H locs h hw => ?_)
        obtain ⟨b_57, e_58, h⟩ := h
        rw [e_58]
        show W _ _ _ _ _ _ _ _ _ _ _ _ _ _ _ (F0 _ _ _ (.ref _ :: _))
        have hk_59 : kd u_56 b_57 = 3 := h.1
        have h := h.2
        exact g_throw X ht hw hk_59 h (by omega) (by omega) dX2_ruleOf_59
    · have h := h.2 c_71
      obtain ⟨hm_63, hm_64, h⟩ := h
      refine g_new X hw (T := TX22) (N := 4) in_X22 tyX22_ok (ci := 18) rfl df_X22 q899 q900 q152 (by show _ ≤ MC; omega) (by show _ ≤ MS; omega) dX2_ruleOf_28 (fun q_61 H hq_62 hw => ?_)
      have h := h q_61 hq_62
      have hk_65 : kd (mkC u_14 q_61 19 0) q_61 = 19 := hu1_eq
      refine lv_dup hx hb dX2_ruleOf_31 rfl ?_
      refine lv_aload_n hx hb dX2_ruleOf_32 rfl (lv_at hl 1 rfl) ?_
      refine lv_iload_n hx hb dX2_ruleOf_33 rfl (lv_at hl 2 rfl) ?_
      obtain ⟨q_66, q_67, hq_68, hq_69, h⟩ := h
      refine g_callv hw (g_I X hw (mX22_init l G _ _ _ _ _ _ _ h) 2 q903 q152 q901 q902 rfl rfl rfl ydX22_init ⟨Nat.le_of_ble_eq_true rfl, Nat.le_of_ble_eq_true rfl⟩ (As := [.ref a1, .int x2]) (rest := [.ref q_61]) rfl hl.1 rfl (Nat.le_of_ble_eq_true rfl) dX2_ruleOf_34 ⟨(by show _ ≤ MC; omega), (by show _ ≤ MS; omega)⟩) (fun u_70 H locs h hw => ?_)
      exact vx_ret (g_aret X hw (v := (some q_61)) hr (Or.inl ⟨_, rfl⟩) h (by omega) (by omega) dX2_ruleOf_37)
  · have h := h.2 c_82
    obtain ⟨hm_74, hm_75, h⟩ := h
    refine g_new X hw (T := TX21) (N := 6) in_X21 tyX21_ok (ci := 17) rfl df_X21 q881 q882 q151 (by show _ ≤ MC; omega) (by show _ ≤ MS; omega) dX2_ruleOf_9 (fun q_72 H hq_73 hw => ?_)
    have h := h q_72 hq_73
    have hk_76 : kd (mkC u_7 q_72 18 0) q_72 = 18 := hu1_eq
    refine lv_dup hx hb dX2_ruleOf_12 rfl ?_
    refine lv_aload_n hx hb dX2_ruleOf_13 rfl (lv_at hl 1 rfl) ?_
    refine lv_iload_n hx hb dX2_ruleOf_14 rfl (lv_at hl 2 rfl) ?_
    obtain ⟨q_77, q_78, hq_79, hq_80, h⟩ := h
    refine g_callv hw (g_I X hw (mX21_init l G _ _ _ _ _ _ _ h) 2 q885 q151 q883 q884 rfl rfl rfl ydX21_init ⟨Nat.le_of_ble_eq_true rfl, Nat.le_of_ble_eq_true rfl⟩ (As := [.ref a1, .int x2]) (rest := [.ref q_72]) rfl hl.1 rfl (Nat.le_of_ble_eq_true rfl) dX2_ruleOf_15 ⟨(by show _ ≤ MC; omega), (by show _ ≤ MS; omega)⟩) (fun u_81 H locs h hw => ?_)
    exact vx_ret (g_aret X hw (v := (some q_72)) hr (Or.inl ⟨_, rfl⟩) h (by omega) (by omega) dX2_ruleOf_18)

/-! FifthCard$Reader.rule()V -/
theorem ydX2_rule : yX2_rule.cls = "FifthCard$Reader" ∧ yX2_rule.cls ≠ "java/lang/invoke/MethodHandle" ∧ yX2_rule.cls ≠ "java/lang/invoke/VarHandle" ∧ (parseMethodDescriptor yX2_rule.desc).map (fun d => d.parameters.length) = some 0 := by decide +kernel
def rmX2_rule (mc ms : Nat) : Room := { frames := 8, cells := mc, slots := ms, locals := 187 }
set_option maxHeartbeats 4000000 in
theorem wX2_rule_17 {G : GT} {p : Program} {l : Launch} {e : Env} {s : State} {m : MethodId} {args : Array Value} {below : List Frame} {meth : Method} {c : Code} {H : Heap} {locs : List Loc} {ls : Array Slot} {cells slots : Nat} {MC MS : Nat} {a0 : Nat} {z0 : Int32} {z1 : Nat} {u : Hp} {mc : Nat} {ms : Nat} {K : Hp → Prop} {E : Nat → Hp → Prop} (X : Mc G p s m args meth c RX2 cX2_rule 1) (hr : meth.sig.returnType = none) (ht : ∀ x ∈ c.exceptionTable.toList, False) (hc1 : cells + mc ≤ MC) (hc2 : slots + ms ≤ MS) (h : bX2_rule_17 K E (Glit G) a0 z0 z1 u mc ms) (hw : GW G u s H locs) (hl : lv_has ls 1 [(0, .ref a0)]) : W p l e (rmX2_rule MC MS) s m args below meth c H locs cells slots (TV G "FifthCard$Refused" below K E args s MC MS) (F0 m 17 ls [.int z0, .ref z1]) := by
  obtain ⟨hx, hb, hml, hown, hts, -⟩ := id X
  unfold bX2_rule_17 at h
  have hk_5 : kd u z1 = 2 := h.1
  have h := h.2
  obtain ⟨q_1, q_2, hq_3, hq_4, h⟩ := h
  refine g_tcallv X ht hw (g_TV X hw (mX2_begins l G _ _ _ _ _ _ _ h) 1 (lw_V q861 q863 qs15 q123 q864) rfl rfl ydX2_begins ⟨Nat.le_of_ble_eq_true rfl, Nat.le_of_ble_eq_true rfl⟩ (g_recv X hw (ci := 1) (q := (RX2, TX2, 11)) hk_5 rfl) (As := [.int z0]) (rest := []) rfl hl.1 rfl (Nat.le_of_ble_eq_true rfl) dX2_rule_17 ⟨(by show _ ≤ MC; omega), (by show _ ≤ MS; omega)⟩) (by omega) (by omega) (fun u_6 H locs h hw => ?_)
  refine lv_aload_n hx hb dX2_rule_20 rfl (lv_at hl 0 rfl) ?_
  have hk_7 : kd u_6 a0 = 2 := h.1
  have h := h.2
  obtain ⟨b_8, e_9, h⟩ := h
  refine g_getR X hw in_X2 hk_7 rfl 10 rfl (by decide) q254 (fun _ z => z) e_9 dX2_rule_21 ?_
  have hk_10 : kd u_6 b_8 = 17 := h.1
  have h := h.2
  obtain ⟨b_11, e_12, h⟩ := h
  refine g_getR X hw in_X20 hk_10 rfl 0 rfl (by decide) q558 (fun _ z => z) e_12 dX2_rule_24 ?_
  refine lv_aload_n hx hb dX2_rule_27 rfl (lv_at hl 0 rfl) ?_
  refine g_getR X hw in_X2 hk_7 rfl 10 rfl (by decide) q254 (fun _ z => z) e_9 dX2_rule_28 ?_
  refine g_getI X hw in_X20 hk_10 rfl 7 rfl (by decide) q594 (fun _ z => z) dX2_rule_31 ?_
  refine lv_aload_n hx hb dX2_rule_34 rfl (lv_at hl 0 rfl) ?_
  refine lv_aload_n hx hb dX2_rule_35 rfl (lv_at hl 0 rfl) ?_
  obtain ⟨q_13, q_14, hq_15, hq_16, h⟩ := h
  refine g_tcallr X ht hw (g_TV X hw (mX2_newName l G _ _ _ _ _ _ h) 0 (lw_V q865 q867 qs16 q123 q868) rfl rfl ydX2_newName ⟨Nat.le_of_ble_eq_true rfl, Nat.le_of_ble_eq_true rfl⟩ (g_recv X hw (ci := 1) (q := (RX2, TX2, 11)) hk_7 rfl) (As := []) (rest := [.ref a0, .int (FI u_6 2007 b_8), .ref b_11]) rfl hl.1 rfl (Nat.le_of_ble_eq_true rfl) dX2_rule_36 ⟨(by show _ ≤ MC; omega), (by show _ ≤ MS; omega)⟩) (by omega) (by omega) (fun o_17 u_18 H locs h hw => ?_)
  obtain ⟨b_19, e_20, h⟩ := h
  rw [e_20]
  show W _ _ _ _ _ _ _ _ _ _ _ _ _ _ _ (F0 _ _ _ (.ref _ :: _))
  refine lv_aload_n hx hb dX2_rule_39 rfl (lv_at hl 0 rfl) ?_
  have hk_21 : kd u_18 a0 = 2 := h.1
  have h := h.2
  obtain ⟨b_22, e_23, h⟩ := h
  refine g_getR X hw in_X2 hk_21 rfl 10 rfl (by decide) q254 (fun _ z => z) e_23 dX2_rule_40 ?_
  have hk_24 : kd u_18 b_22 = 17 := h.1
  have h := h.2
  refine g_getI X hw in_X20 hk_24 rfl 7 rfl (by decide) q594 (fun _ z => z) dX2_rule_43 ?_
  obtain ⟨q_25, q_26, hq_27, hq_28, h⟩ := h
  refine g_tcallr X ht hw (g_TV X hw (mX2_ruleOf l G _ _ _ _ _ _ _ _ h) 2 (lw_V q876 q878 qs17 q123 q879) rfl rfl ydX2_ruleOf ⟨Nat.le_of_ble_eq_true rfl, Nat.le_of_ble_eq_true rfl⟩ (g_recv X hw (ci := 1) (q := (RX2, TX2, 11)) hk_21 rfl) (As := [.ref b_19, .int (FI u_18 2007 b_22)]) (rest := [.int (FI u_6 2007 b_8), .ref b_11]) rfl hl.1 rfl (Nat.le_of_ble_eq_true rfl) dX2_rule_46 ⟨(by show _ ≤ MC; omega), (by show _ ≤ MS; omega)⟩) (by omega) (by omega) (fun o_29 u_30 H locs h hw => ?_)
  obtain ⟨b_31, e_32, h⟩ := h
  rw [e_32]
  show W _ _ _ _ _ _ _ _ _ _ _ _ _ _ _ (F0 _ _ _ (.ref _ :: _))
  have hk_33 : kd u_30 b_11 = 106 := h.1
  have h := h.2
  have hk_35 : isRu (kd u_30 b_31) := h.1
  have h := h.2
  have hi_34 := h.1
  have h := h.2
  refine g_aastRu X hw hk_33 hi_34 hk_35 dX2_rule_49 (fun H locs hw => ?_)
  refine lv_aload_n hx hb dX2_rule_50 rfl (lv_at hl 0 rfl) ?_
  have hk_36 : kd u_30 a0 = 2 := h.1
  have h := h.2
  obtain ⟨b_37, e_38, h⟩ := h
  refine g_getR X hw in_X2 hk_36 rfl 10 rfl (by decide) q254 (fun _ z => z) e_38 dX2_rule_51 ?_
  refine lv_dup hx hb dX2_rule_54 rfl ?_
  have hk_39 : kd u_30 b_37 = 17 := h.1
  have h := h.2
  refine g_getI X hw in_X20 hk_39 rfl 7 rfl (by decide) q594 (fun _ z => z) dX2_rule_55 ?_
  refine lv_iconst (v := 1) hx hb dX2_rule_58 (by decide) ?_
  refine lv_iadd hx hb dX2_rule_59 ?_
  refine g_putI (v := (FI u_30 2007 b_37) + 1) X hw in_X20 tyX20_ok nmX20 hk_39 rfl 7 rfl (by decide) q594 (fun _ z => z) rfl rfl rfl dX2_rule_60 (fun H locs hw => ?_)
  exact vx_ret (g_vret X hw hr h (by omega) (by omega) dX2_rule_63)
set_option maxHeartbeats 4000000 in
theorem mX2_rule (l : Launch) (G : GT) (u : Hp) (a0 : Nat) (MC MS : Nat) (K : Hp → Prop) (E : Nat → Hp → Prop) (h : pX2_rule (Glit G) u a0 MC MS K E) : vx_Met l yX2_rule (ws_ yX2_rule cX2_rule 1 none) (rmX2_rule MC MS) (va_Pc [.ref a0] (GB G u)) (va_Qv K (fun u t => GH G u t.heap) (GA G)) (XE G "FifthCard$Refused" E) MC MS (GA G) := by
  refine vx_ofW (cc := cX2_rule) (maxL := 1) (ret := none) (by decide) rfl ?_
  intro p e s m args below meth c s₁ B hml ht hv
  obtain ⟨rfl, hv⟩ := hv
  have X := Mc_of (own := RX2) B hml rfl hv
  have hw : GW G u s s.heap [] := ⟨hv.2.1, va_S.rf⟩
  have hr := B.returns
  obtain ⟨hx, hb, hml, hown, hts, -⟩ := id X
  have hl := lv_entry ([.ref a0]) (n := 1) (Nat.le_of_ble_eq_true rfl)
  rw [lg_entry_eq]
  generalize (lg_sl ([.ref a0]) ++ List.replicate (1 - (lg_sl ([.ref a0])).length) Slot.unset).toArray = ls at hl ⊢
  have hl : lv_has ls 1 [(0, .ref a0)] := hl
  change W p l e (rmX2_rule MC MS) s m _ below meth c s.heap [] 0 0 (TV G "FifthCard$Refused" below K E _ s MC MS) (F0 m 0 ls [])
  unfold pX2_rule at h
  have hc1 : 0 + MC ≤ MC := by omega
  have hc2 : 0 + MS ≤ MS := by omega
  refine lv_aload_n hx hb dX2_rule_0 rfl (lv_at hl 0 rfl) ?_
  refine lv_aload_n hx hb dX2_rule_1 rfl (lv_at hl 0 rfl) ?_
  have hk_40 : kd u a0 = 2 := h.1
  have h := h.2
  obtain ⟨b_41, e_42, h⟩ := h
  refine g_getR X hw in_X2 hk_40 rfl 10 rfl (by decide) q254 (fun _ z => z) e_42 dX2_rule_2 ?_
  have hk_43 : kd u b_41 = 17 := h.1
  have h := h.2
  refine g_getI X hw in_X20 hk_43 rfl 7 rfl (by decide) q594 (fun _ z => z) dX2_rule_5 ?_
  refine lv_iconst (v := 4) hx hb dX2_rule_8 (by decide) ?_
  refine lv_icmp_ge (tgt := 16) hx hb dX2_rule_9 rfl (fun c_44 => ?_) (fun c_44 => ?_)
  · have h := h.1 c_44
    refine lv_iconst (v := 0) hx hb dX2_rule_16 (by decide) ?_
    exact wX2_rule_17 X hr ht (by omega) (by omega) h hw (lv_sub hl [0] rfl)
  · have h := h.2 c_44
    refine lv_iconst (v := 1) hx hb dX2_rule_12 (by decide) ?_
    refine lv_goto (tgt := 17) hx hb dX2_rule_13 rfl ?_
    exact wX2_rule_17 X hr ht (by omega) (by omega) h hw (lv_sub hl [0] rfl)

/-! FifthCard$Reader.numbers(III)I -/
theorem ydX2_numbers : yX2_numbers.cls = "FifthCard$Reader" ∧ yX2_numbers.cls ≠ "java/lang/invoke/MethodHandle" ∧ yX2_numbers.cls ≠ "java/lang/invoke/VarHandle" ∧ (parseMethodDescriptor yX2_numbers.desc).map (fun d => d.parameters.length) = some 3 := by decide +kernel
def rmX2_numbers (mc ms : Nat) : Room := { frames := 5, cells := mc, slots := ms, locals := 121 }
set_option maxHeartbeats 4000000 in
theorem wX2_numbers_120 {G : GT} {p : Program} {l : Launch} {e : Env} {s : State} {m : MethodId} {args : Array Value} {below : List Frame} {meth : Method} {c : Code} {H : Heap} {locs : List Loc} {ls : Array Slot} {cells slots : Nat} {MC MS : Nat} {a0 : Nat} {x1 : Int32} {x2 : Int32} {x3 : Int32} {x4 : Int32} {x5 : Int32} {u : Hp} {mc : Nat} {ms : Nat} {K : Int32 → Hp → Prop} {E : Nat → Hp → Prop} {J9 : Int32 → Int32 → Int32 → Hp → Nat → Nat → Prop} (X : Mc G p s m args meth c RX2 cX2_numbers 8) (hr : meth.sig.returnType = (some .int)) (ht : ∀ x ∈ c.exceptionTable.toList, False) (hJ9 : ∀ (x4 : Int32) (x5 : Int32) (x6 : Int32) (u : Hp) (mc : Nat) (ms : Nat) (H : Heap) (locs : List Loc) (ls : Array Slot) (cells slots : Nat) , cells + mc ≤ MC → slots + ms ≤ MS → J9 x4 x5 x6 u mc ms → GW G u s H locs → lv_has ls 8 [(0, .ref a0), (1, .int x1), (2, .int x2), (3, .int x3), (4, .int x4), (5, .int x5), (6, .int x6)] → W p l e (rmX2_numbers MC MS) s m args below meth c H locs cells slots (TI G "FifthCard$Refused" below K E args s MC MS) (F0 m 9 ls [])) (hc1 : cells + mc ≤ MC) (hc2 : slots + ms ≤ MS) (h : bX2_numbers_120 K E (Glit G) J9 a0 x1 x2 x3 x4 x5 u mc ms) (hw : GW G u s H locs) (hl : lv_has ls 8 [(0, .ref a0), (1, .int x1), (2, .int x2), (3, .int x3), (4, .int x4), (5, .int x5)]) : W p l e (rmX2_numbers MC MS) s m args below meth c H locs cells slots (TI G "FifthCard$Refused" below K E args s MC MS) (F0 m 120 ls []) := by
  obtain ⟨hx, hb, hml, hown, hts, -⟩ := id X
  unfold bX2_numbers_120 at h
  refine lv_iconst (v := 0) hx hb dX2_numbers_120 (by decide) ?_
  refine lv_istore (lv' := [(6, .int 0), (0, .ref a0), (1, .int x1), (2, .int x2), (3, .int x3), (4, .int x4), (5, .int x5)]) hx hb dX2_numbers_121 hl (by decide) rfl (fun ls hl => ?_)
  refine lv_iload hx hb dX2_numbers_123 (lv_at hl 0 rfl) ?_
  refine lv_if_eq (tgt := 132) hx hb dX2_numbers_125 rfl (fun c_1 => ?_) (fun c_1 => ?_)
  · refine lv_goto (tgt := 9) hx hb dX2_numbers_132 rfl ?_
    exact hJ9 _ _ _ _ _ _ _ _ _ _ _ (by omega) (by omega) h hw (lv_sub hl [1, 2, 3, 4, 5, 6, 0] rfl)
  · first | exact absurd (by decide) c_1 | exact absurd c_1 (by decide)
set_option maxHeartbeats 4000000 in
theorem wX2_numbers_116 {G : GT} {p : Program} {l : Launch} {e : Env} {s : State} {m : MethodId} {args : Array Value} {below : List Frame} {meth : Method} {c : Code} {H : Heap} {locs : List Loc} {ls : Array Slot} {cells slots : Nat} {MC MS : Nat} {a0 : Nat} {x1 : Int32} {x2 : Int32} {x3 : Int32} {x4 : Int32} {x5 : Int32} {u : Hp} {mc : Nat} {ms : Nat} {K : Int32 → Hp → Prop} {E : Nat → Hp → Prop} {J9 : Int32 → Int32 → Int32 → Hp → Nat → Nat → Prop} (X : Mc G p s m args meth c RX2 cX2_numbers 8) (hr : meth.sig.returnType = (some .int)) (ht : ∀ x ∈ c.exceptionTable.toList, False) (hJ9 : ∀ (x4 : Int32) (x5 : Int32) (x6 : Int32) (u : Hp) (mc : Nat) (ms : Nat) (H : Heap) (locs : List Loc) (ls : Array Slot) (cells slots : Nat) , cells + mc ≤ MC → slots + ms ≤ MS → J9 x4 x5 x6 u mc ms → GW G u s H locs → lv_has ls 8 [(0, .ref a0), (1, .int x1), (2, .int x2), (3, .int x3), (4, .int x4), (5, .int x5), (6, .int x6)] → W p l e (rmX2_numbers MC MS) s m args below meth c H locs cells slots (TI G "FifthCard$Refused" below K E args s MC MS) (F0 m 9 ls [])) (hc1 : cells + mc ≤ MC) (hc2 : slots + ms ≤ MS) (h : bX2_numbers_116 K E (Glit G) J9 a0 x1 x2 x3 x4 x5 u mc ms) (hw : GW G u s H locs) (hl : lv_has ls 8 [(0, .ref a0), (1, .int x1), (2, .int x2), (3, .int x3), (4, .int x4), (5, .int x5)]) : W p l e (rmX2_numbers MC MS) s m args below meth c H locs cells slots (TI G "FifthCard$Refused" below K E args s MC MS) (F0 m 116 ls []) := by
  obtain ⟨hx, hb, hml, hown, hts, -⟩ := id X
  unfold bX2_numbers_116 at h
  refine lv_iconst (v := 1) hx hb dX2_numbers_116 (by decide) ?_
  refine lv_goto (tgt := 121) hx hb dX2_numbers_117 rfl ?_
  refine lv_istore (lv' := [(6, .int 1), (0, .ref a0), (1, .int x1), (2, .int x2), (3, .int x3), (4, .int x4), (5, .int x5)]) hx hb dX2_numbers_121 hl (by decide) rfl (fun ls hl => ?_)
  refine lv_iload hx hb dX2_numbers_123 (lv_at hl 0 rfl) ?_
  refine lv_if_eq (tgt := 132) hx hb dX2_numbers_125 rfl (fun c_8 => ?_) (fun c_8 => ?_)
  · first | exact absurd c_8 (by decide) | exact absurd (by decide) c_8
  · refine lv_aload_n hx hb dX2_numbers_128 rfl (lv_at hl 1 rfl) ?_
    have hk_6 : kd u a0 = 2 := h.1
    have h := h.2
    obtain ⟨q_2, q_3, hq_4, hq_5, h⟩ := h
    refine g_callv hw (g_V X hw (mX2_next l G _ _ _ _ _ h) 0 (lw_V q640 q642 qs4 q123 q643) rfl rfl ydX2_next ⟨Nat.le_of_ble_eq_true rfl, Nat.le_of_ble_eq_true rfl⟩ (g_recv X hw (ci := 1) (q := (RX2, TX2, 11)) hk_6 rfl) (As := []) (rest := []) rfl hl.1 rfl (Nat.le_of_ble_eq_true rfl) dX2_numbers_129 ⟨(by show _ ≤ MC; omega), (by show _ ≤ MS; omega)⟩) (fun u_7 H locs h hw => ?_)
    refine lv_goto (tgt := 9) hx hb dX2_numbers_132 rfl ?_
    exact hJ9 _ _ _ _ _ _ _ _ _ _ _ (by omega) (by omega) h hw (lv_sub hl [1, 2, 3, 4, 5, 6, 0] rfl)
set_option maxHeartbeats 4000000 in
theorem wX2_numbers_74 {G : GT} {p : Program} {l : Launch} {e : Env} {s : State} {m : MethodId} {args : Array Value} {below : List Frame} {meth : Method} {c : Code} {H : Heap} {locs : List Loc} {ls : Array Slot} {cells slots : Nat} {MC MS : Nat} {a0 : Nat} {x1 : Int32} {x2 : Int32} {x3 : Int32} {x4 : Int32} {x5 : Int32} {z0 : Int32} {u : Hp} {mc : Nat} {ms : Nat} {K : Int32 → Hp → Prop} {E : Nat → Hp → Prop} {J9 : Int32 → Int32 → Int32 → Hp → Nat → Nat → Prop} (X : Mc G p s m args meth c RX2 cX2_numbers 8) (hr : meth.sig.returnType = (some .int)) (ht : ∀ x ∈ c.exceptionTable.toList, False) (hJ9 : ∀ (x4 : Int32) (x5 : Int32) (x6 : Int32) (u : Hp) (mc : Nat) (ms : Nat) (H : Heap) (locs : List Loc) (ls : Array Slot) (cells slots : Nat) , cells + mc ≤ MC → slots + ms ≤ MS → J9 x4 x5 x6 u mc ms → GW G u s H locs → lv_has ls 8 [(0, .ref a0), (1, .int x1), (2, .int x2), (3, .int x3), (4, .int x4), (5, .int x5), (6, .int x6)] → W p l e (rmX2_numbers MC MS) s m args below meth c H locs cells slots (TI G "FifthCard$Refused" below K E args s MC MS) (F0 m 9 ls [])) (hc1 : cells + mc ≤ MC) (hc2 : slots + ms ≤ MS) (h : bX2_numbers_74 K E (Glit G) J9 a0 x1 x2 x3 x4 x5 z0 u mc ms) (hw : GW G u s H locs) (hl : lv_has ls 8 [(0, .ref a0), (1, .int x1), (2, .int x2), (3, .int x3), (4, .int x4), (5, .int x5)]) : W p l e (rmX2_numbers MC MS) s m args below meth c H locs cells slots (TI G "FifthCard$Refused" below K E args s MC MS) (F0 m 74 ls [.int z0]) := by
  obtain ⟨hx, hb, hml, hown, hts, -⟩ := id X
  unfold bX2_numbers_74 at h
  refine lv_istore (lv' := [(6, .int z0), (0, .ref a0), (1, .int x1), (2, .int x2), (3, .int x3), (4, .int x4), (5, .int x5)]) hx hb dX2_numbers_74 hl (by decide) rfl (fun ls hl => ?_)
  refine lv_iload hx hb dX2_numbers_76 (lv_at hl 0 rfl) ?_
  refine lv_if_eq (tgt := 96) hx hb dX2_numbers_78 rfl (fun c_23 => ?_) (fun c_23 => ?_)
  · have h := h.1 c_23
    refine lv_iload hx hb dX2_numbers_96 (lv_at hl 0 rfl) ?_
    refine lv_if_ne (tgt := 116) hx hb dX2_numbers_98 rfl (fun c_12 => ?_) (fun c_12 => ?_)
    · have h := h.2 c_12
      exact wX2_numbers_116 X hr ht hJ9 (by omega) (by omega) h hw (lv_sub hl [1, 2, 3, 4, 5, 6] rfl)
    · have h := h.1 c_12
      refine lv_iload hx hb dX2_numbers_101 (lv_at hl 6 rfl) ?_
      refine lv_iload_n hx hb dX2_numbers_103 rfl (lv_at hl 3 rfl) ?_
      refine lv_icmp_ge (tgt := 120) hx hb dX2_numbers_104 rfl (fun c_11 => ?_) (fun c_11 => ?_)
      · have h := h.1 c_11
        exact wX2_numbers_120 X hr ht hJ9 (by omega) (by omega) h hw (lv_sub hl [1, 2, 3, 4, 5, 6] rfl)
      · have h := h.2 c_11
        refine lv_aload_n hx hb dX2_numbers_107 rfl (lv_at hl 1 rfl) ?_
        have hk_9 : kd u a0 = 2 := h.1
        have h := h.2
        refine g_getI X hw in_X2 hk_9 rfl 6 rfl (by decide) q250 (fun _ z => z) dX2_numbers_108 ?_
        refine lv_bipush (v := 44) hx hb dX2_numbers_111 (by decide) ?_
        refine lv_icmp_ne (tgt := 120) hx hb dX2_numbers_113 rfl (fun c_10 => ?_) (fun c_10 => ?_)
        · have h := h.2 c_10
          exact wX2_numbers_120 X hr ht hJ9 (by omega) (by omega) h hw (lv_sub hl [1, 2, 3, 4, 5, 6] rfl)
        · have h := h.1 c_10
          exact wX2_numbers_116 X hr ht hJ9 (by omega) (by omega) h hw (lv_sub hl [1, 2, 3, 4, 5, 6] rfl)
  · have h := h.2 c_23
    refine lv_aload_n hx hb dX2_numbers_81 rfl (lv_at hl 1 rfl) ?_
    have hk_13 : kd u a0 = 2 := h.1
    have h := h.2
    refine g_getI X hw in_X2 hk_13 rfl 6 rfl (by decide) q250 (fun _ z => z) dX2_numbers_82 ?_
    refine lv_bipush (v := 44) hx hb dX2_numbers_85 (by decide) ?_
    refine lv_icmp_eq (tgt := 96) hx hb dX2_numbers_87 rfl (fun c_22 => ?_) (fun c_22 => ?_)
    · have h := h.1 c_22
      refine lv_iload hx hb dX2_numbers_96 (lv_at hl 0 rfl) ?_
      refine lv_if_ne (tgt := 116) hx hb dX2_numbers_98 rfl (fun c_16 => ?_) (fun c_16 => ?_)
      · have h := h.2 c_16
        exact wX2_numbers_116 X hr ht hJ9 (by omega) (by omega) h hw (lv_sub hl [1, 2, 3, 4, 5, 6] rfl)
      · have h := h.1 c_16
        refine lv_iload hx hb dX2_numbers_101 (lv_at hl 6 rfl) ?_
        refine lv_iload_n hx hb dX2_numbers_103 rfl (lv_at hl 3 rfl) ?_
        refine lv_icmp_ge (tgt := 120) hx hb dX2_numbers_104 rfl (fun c_15 => ?_) (fun c_15 => ?_)
        · have h := h.1 c_15
          exact wX2_numbers_120 X hr ht hJ9 (by omega) (by omega) h hw (lv_sub hl [1, 2, 3, 4, 5, 6] rfl)
        · have h := h.2 c_15
          refine lv_aload_n hx hb dX2_numbers_107 rfl (lv_at hl 1 rfl) ?_
          refine g_getI X hw in_X2 hk_13 rfl 6 rfl (by decide) q250 (fun _ z => z) dX2_numbers_108 ?_
          refine lv_bipush (v := 44) hx hb dX2_numbers_111 (by decide) ?_
          refine lv_icmp_ne (tgt := 120) hx hb dX2_numbers_113 rfl (fun c_14 => ?_) (fun c_14 => ?_)
          · have h := h.2 c_14
            exact wX2_numbers_120 X hr ht hJ9 (by omega) (by omega) h hw (lv_sub hl [1, 2, 3, 4, 5, 6] rfl)
          · have h := h.1 c_14
            exact wX2_numbers_116 X hr ht hJ9 (by omega) (by omega) h hw (lv_sub hl [1, 2, 3, 4, 5, 6] rfl)
    · have h := h.2 c_22
      refine lv_aload_n hx hb dX2_numbers_90 rfl (lv_at hl 1 rfl) ?_
      refine lv_iconst (v := 1) hx hb dX2_numbers_91 (by decide) ?_
      refine g_callr hw (g_V X hw (mX2_fail l G _ _ _ _ h) 1 (lw_V q738 q740 qs7 q123 q741) rfl rfl ydX2_fail ⟨Nat.le_of_ble_eq_true rfl, Nat.le_of_ble_eq_true rfl⟩ (g_recv X hw (ci := 1) (q := (RX2, TX2, 11)) hk_13 rfl) (As := [.int 1]) (rest := []) rfl hl.1 rfl (Nat.le_of_ble_eq_true rfl) dX2_numbers_92 ⟨(by show _ ≤ MC; omega), (by show _ ≤ MS; omega)⟩) (fun o_17 u_18 H locs h hw => ?_)
      obtain ⟨b_19, e_20, h⟩ := h
      rw [e_20]
      show W _ _ _ _ _ _ _ _ _ _ _ _ _ _ _ (F0 _ _ _ (.ref _ :: _))
      have hk_21 : kd u_18 b_19 = 3 := h.1
      have h := h.2
      exact g_throw X ht hw hk_21 h (by omega) (by omega) dX2_numbers_95
set_option maxHeartbeats 4000000 in
theorem wX2_numbers_9 {G : GT} {p : Program} {l : Launch} {e : Env} {s : State} {m : MethodId} {args : Array Value} {below : List Frame} {meth : Method} {c : Code} {H : Heap} {locs : List Loc} {ls : Array Slot} {cells slots : Nat} {MC MS : Nat} {a0 : Nat} {x1 : Int32} {x2 : Int32} {x3 : Int32} {x4 : Int32} {x5 : Int32} {x6 : Int32} {u : Hp} {mc : Nat} {ms : Nat} {K : Int32 → Hp → Prop} {E : Nat → Hp → Prop} (X : Mc G p s m args meth c RX2 cX2_numbers 8) (hr : meth.sig.returnType = (some .int)) (ht : ∀ x ∈ c.exceptionTable.toList, False) (hc1 : cells + mc ≤ MC) (hc2 : slots + ms ≤ MS) (h : jl6 (bX2_numbers_9 K E (Glit G) a0 x1 x2 x3) x4 x5 x6 u mc ms) (hw : GW G u s H locs) (hl : lv_has ls 8 [(0, .ref a0), (1, .int x1), (2, .int x2), (3, .int x3), (4, .int x4), (5, .int x5), (6, .int x6)]) : W p l e (rmX2_numbers MC MS) s m args below meth c H locs cells slots (TI G "FifthCard$Refused" below K E args s MC MS) (F0 m 9 ls []) := by
  obtain ⟨hx, hb, hml, hown, hts, -⟩ := id X
  obtain ⟨I, μ, h0, hs⟩ := h
  have key : ∀ (n : Nat) (x4 : Int32) (x5 : Int32) (x6 : Int32) (u : Hp) (mc : Nat) (ms : Nat) (H : Heap) (locs : List Loc) (ls : Array Slot) (cells slots : Nat) , cells + mc ≤ MC → slots + ms ≤ MS → μ x4 x5 x6 u mc ms < n → I x4 x5 x6 u mc ms → GW G u s H locs → lv_has ls 8 [(0, .ref a0), (1, .int x1), (2, .int x2), (3, .int x3), (4, .int x4), (5, .int x5), (6, .int x6)] → W p l e (rmX2_numbers MC MS) s m args below meth c H locs cells slots (TI G "FifthCard$Refused" below K E args s MC MS) (F0 m 9 ls []) := by
    intro n
    induction n with
    | zero =>
      intro x4 x5 x6 u mc ms H locs ls cells slots hc1 hc2 hn
      exact absurd hn (Nat.not_lt_zero _)
    | succ n ih =>
      intro x4 x5 x6 u mc ms H locs ls cells slots hc1 hc2 hn hI hw hl
      have h := hs x4 x5 x6 u mc ms hI
      unfold bX2_numbers_9 at h
      have hJ9 : ∀ (x4' : Int32) (x5' : Int32) (x6' : Int32) (u' : Hp) (mc' : Nat) (ms' : Nat) (H : Heap) (locs : List Loc) (ls : Array Slot) (cells slots : Nat) , cells + mc' ≤ MC → slots + ms' ≤ MS → (I x4' x5' x6' u' mc' ms' ∧ μ x4' x5' x6' u' mc' ms' < μ x4 x5 x6 u mc ms) → GW G u' s H locs → lv_has ls 8 [(0, .ref a0), (1, .int x1), (2, .int x2), (3, .int x3), (4, .int x4'), (5, .int x5'), (6, .int x6')] → W p l e (rmX2_numbers MC MS) s m args below meth c H locs cells slots (TI G "FifthCard$Refused" below K E args s MC MS) (F0 m 9 ls []) := fun x4' x5' x6' u' mc' ms' H locs ls cells slots g1 g2 h hw hl => ih x4' x5' x6' u' mc' ms' H locs ls cells slots g1 g2 (Nat.lt_of_lt_of_le h.2 (Nat.le_of_lt_succ hn)) h.1 hw hl
      refine lv_iload hx hb dX2_numbers_9 (lv_at hl 6 rfl) ?_
      refine lv_if_eq (tgt := 135) hx hb dX2_numbers_11 rfl (fun c_46 => ?_) (fun c_46 => ?_)
      · have h := h.1 c_46
        refine lv_iload hx hb dX2_numbers_135 (lv_at hl 4 rfl) ?_
        exact vx_ret (g_iret X hw hr h (by omega) (by omega) dX2_numbers_137)
      · have h := h.2 c_46
        refine lv_aload_n hx hb dX2_numbers_14 rfl (lv_at hl 0 rfl) ?_
        refine lv_iconst (v := 0) hx hb dX2_numbers_15 (by decide) ?_
        refine lv_iload_n hx hb dX2_numbers_16 rfl (lv_at hl 3 rfl) ?_
        have hk_24 : kd u a0 = 2 := h.1
        have h := h.2
        refine g_tcalli X ht hw (g_TV X hw (mX2_numberHere l G _ _ _ _ _ _ h) 2 (lw_V q831 q833 qs13 q123 q834) rfl rfl ydX2_numberHere ⟨Nat.le_of_ble_eq_true rfl, Nat.le_of_ble_eq_true rfl⟩ (g_recv X hw (ci := 1) (q := (RX2, TX2, 11)) hk_24 rfl) (As := [.int 0, .int x3]) (rest := []) rfl hl.1 rfl (Nat.le_of_ble_eq_true rfl) dX2_numbers_17 ⟨(by show _ ≤ MC; omega), (by show _ ≤ MS; omega)⟩) (by omega) (by omega) (fun r_25 u_26 H locs h hw => ?_)
        refine lv_istore (lv' := [(7, .int r_25), (0, .ref a0), (1, .int x1), (2, .int x2), (3, .int x3), (4, .int x4), (5, .int x5), (6, .int x6)]) hx hb dX2_numbers_20 hl (by decide) rfl (fun ls hl => ?_)
        refine lv_iload hx hb dX2_numbers_22 (lv_at hl 5 rfl) ?_
        refine lv_iload hx hb dX2_numbers_24 (lv_at hl 0 rfl) ?_
        refine g_callio hw (g_SN X hw (mX1_has l G _ _ _ _ h) 2 q939 q122 (List.mem_of_getElem? (i := 29) rfl) q938 rfl rfl ydX1_has ⟨Nat.le_of_ble_eq_true rfl, Nat.le_of_ble_eq_true rfl⟩ (As := [.int x4, .int r_25]) (rest := []) rfl hl.1 rfl (Nat.le_of_ble_eq_true rfl) dX2_numbers_26 ⟨(by show _ ≤ MC; omega), (by show _ ≤ MS; omega)⟩) (fun r_27 H locs h hw => ?_)
        refine lv_if_eq (tgt := 38) hx hb dX2_numbers_29 rfl (fun c_45 => ?_) (fun c_45 => ?_)
        · have h := h.1 c_45
          refine lv_aload_n hx hb dX2_numbers_38 rfl (lv_at hl 1 rfl) ?_
          have hk_32 : kd u_26 a0 = 2 := h.1
          have h := h.2
          obtain ⟨q_28, q_29, hq_30, hq_31, h⟩ := h
          refine g_callv hw (g_V X hw (mX2_next l G _ _ _ _ _ h) 0 (lw_V q640 q642 qs4 q123 q643) rfl rfl ydX2_next ⟨Nat.le_of_ble_eq_true rfl, Nat.le_of_ble_eq_true rfl⟩ (g_recv X hw (ci := 1) (q := (RX2, TX2, 11)) hk_32 rfl) (As := []) (rest := []) rfl hl.1 rfl (Nat.le_of_ble_eq_true rfl) dX2_numbers_39 ⟨(by show _ ≤ MC; omega), (by show _ ≤ MS; omega)⟩) (fun u_33 H locs h hw => ?_)
          refine lv_iload hx hb dX2_numbers_42 (lv_at hl 5 rfl) ?_
          refine lv_iconst (v := 1) hx hb dX2_numbers_44 (by decide) ?_
          refine lv_iload hx hb dX2_numbers_45 (lv_at hl 0 rfl) ?_
          refine lv_ishl hx hb dX2_numbers_47 ?_
          refine lv_ior hx hb dX2_numbers_48 ?_
          refine lv_istore (lv' := [(4, .int (x4 ||| (jshl 1 r_25))), (7, .int r_25), (0, .ref a0), (1, .int x1), (2, .int x2), (3, .int x3), (5, .int x5), (6, .int x6)]) hx hb dX2_numbers_49 hl (by decide) rfl (fun ls hl => ?_)
          refine lv_aload_n hx hb dX2_numbers_51 rfl (lv_at hl 2 rfl) ?_
          have hk_34 : kd u_33 a0 = 2 := h.1
          have h := h.2
          obtain ⟨b_35, e_36, h⟩ := h
          refine g_getR X hw in_X2 hk_34 rfl 3 rfl (by decide) q247 (fun _ z => z) e_36 dX2_numbers_52 ?_
          refine lv_iload hx hb dX2_numbers_55 (lv_at hl 6 rfl) ?_
          refine lv_iload hx hb dX2_numbers_57 (lv_at hl 1 rfl) ?_
          have hk_37 : kd u_33 b_35 = 101 := h.1
          have h := h.2
          refine g_iast X hw hk_37 h.1 dX2_numbers_59 (fun H locs hw => ?_)
          have h := h.2
          refine lv_iinc (v := x5 + 1) (lv' := [(5, .int (x5 + 1)), (4, .int (x4 ||| (jshl 1 r_25))), (7, .int r_25), (0, .ref a0), (1, .int x1), (2, .int x2), (3, .int x3), (6, .int x6)]) hx hb dX2_numbers_60 hl (k := 6) rfl rfl (by decide) rfl (fun ls hl => ?_)
          refine lv_iload hx hb dX2_numbers_63 (lv_at hl 0 rfl) ?_
          refine lv_iload_n hx hb dX2_numbers_65 rfl (lv_at hl 4 rfl) ?_
          refine lv_icmp_ge (tgt := 73) hx hb dX2_numbers_66 rfl (fun c_38 => ?_) (fun c_38 => ?_)
          · have h := h.1 c_38
            refine lv_iconst (v := 0) hx hb dX2_numbers_73 (by decide) ?_
            exact wX2_numbers_74 X hr ht hJ9 (by omega) (by omega) h hw (lv_sub hl [3, 4, 5, 6, 1, 0] rfl)
          · have h := h.2 c_38
            refine lv_iconst (v := 1) hx hb dX2_numbers_69 (by decide) ?_
            refine lv_goto (tgt := 74) hx hb dX2_numbers_70 rfl ?_
            exact wX2_numbers_74 X hr ht hJ9 (by omega) (by omega) h hw (lv_sub hl [3, 4, 5, 6, 1, 0] rfl)
        · have h := h.2 c_45
          refine lv_aload_n hx hb dX2_numbers_32 rfl (lv_at hl 1 rfl) ?_
          refine lv_iconst (v := 3) hx hb dX2_numbers_33 (by decide) ?_
          have hk_39 : kd u_26 a0 = 2 := h.1
          have h := h.2
          refine g_callr hw (g_V X hw (mX2_fail l G _ _ _ _ h) 1 (lw_V q738 q740 qs7 q123 q741) rfl rfl ydX2_fail ⟨Nat.le_of_ble_eq_true rfl, Nat.le_of_ble_eq_true rfl⟩ (g_recv X hw (ci := 1) (q := (RX2, TX2, 11)) hk_39 rfl) (As := [.int 3]) (rest := []) rfl hl.1 rfl (Nat.le_of_ble_eq_true rfl) dX2_numbers_34 ⟨(by show _ ≤ MC; omega), (by show _ ≤ MS; omega)⟩) (fun o_40 u_41 H locs h hw => ?_)
          obtain ⟨b_42, e_43, h⟩ := h
          rw [e_43]
          show W _ _ _ _ _ _ _ _ _ _ _ _ _ _ _ (F0 _ _ _ (.ref _ :: _))
          have hk_44 : kd u_41 b_42 = 3 := h.1
          have h := h.2
          exact g_throw X ht hw hk_44 h (by omega) (by omega) dX2_numbers_37
  exact key _ _ _ _ _ _ _ _ _ _ _ _ hc1 hc2 (Nat.lt_succ_self _) h0 hw hl
set_option maxHeartbeats 4000000 in
theorem mX2_numbers (l : Launch) (G : GT) (u : Hp) (a0 : Nat) (x1 : Int32) (x2 : Int32) (x3 : Int32) (MC MS : Nat) (K : Int32 → Hp → Prop) (E : Nat → Hp → Prop) (h : pX2_numbers (Glit G) u a0 x1 x2 x3 MC MS K E) : vx_Met l yX2_numbers (ws_ yX2_numbers cX2_numbers 8 (some .int)) (rmX2_numbers MC MS) (va_Pc [.ref a0, .int x1, .int x2, .int x3] (GB G u)) (va_Qi K (fun u t => GH G u t.heap) (GA G)) (XE G "FifthCard$Refused" E) MC MS (GA G) := by
  refine vx_ofW (cc := cX2_numbers) (maxL := 8) (ret := (some .int)) (by decide) rfl ?_
  intro p e s m args below meth c s₁ B hml ht hv
  obtain ⟨rfl, hv⟩ := hv
  have X := Mc_of (own := RX2) B hml rfl hv
  have hw : GW G u s s.heap [] := ⟨hv.2.1, va_S.rf⟩
  have hr := B.returns
  obtain ⟨hx, hb, hml, hown, hts, -⟩ := id X
  have hl := lv_entry ([.ref a0, .int x1, .int x2, .int x3]) (n := 8) (Nat.le_of_ble_eq_true rfl)
  rw [lg_entry_eq]
  generalize (lg_sl ([.ref a0, .int x1, .int x2, .int x3]) ++ List.replicate (8 - (lg_sl ([.ref a0, .int x1, .int x2, .int x3])).length) Slot.unset).toArray = ls at hl ⊢
  have hl : lv_has ls 8 [(0, .ref a0), (1, .int x1), (2, .int x2), (3, .int x3)] := hl
  change W p l e (rmX2_numbers MC MS) s m _ below meth c s.heap [] 0 0 (TI G "FifthCard$Refused" below K E _ s MC MS) (F0 m 0 ls [])
  unfold pX2_numbers at h
  have hc1 : 0 + MC ≤ MC := by omega
  have hc2 : 0 + MS ≤ MS := by omega
  refine lv_iconst (v := 0) hx hb dX2_numbers_0 (by decide) ?_
  refine lv_istore (lv' := [(4, .int 0), (0, .ref a0), (1, .int x1), (2, .int x2), (3, .int x3)]) hx hb dX2_numbers_1 hl (by decide) rfl (fun ls hl => ?_)
  refine lv_iconst (v := 0) hx hb dX2_numbers_3 (by decide) ?_
  refine lv_istore (lv' := [(5, .int 0), (4, .int 0), (0, .ref a0), (1, .int x1), (2, .int x2), (3, .int x3)]) hx hb dX2_numbers_4 hl (by decide) rfl (fun ls hl => ?_)
  refine lv_iconst (v := 1) hx hb dX2_numbers_6 (by decide) ?_
  refine lv_istore (lv' := [(6, .int 1), (5, .int 0), (4, .int 0), (0, .ref a0), (1, .int x1), (2, .int x2), (3, .int x3)]) hx hb dX2_numbers_7 hl (by decide) rfl (fun ls hl => ?_)
  exact wX2_numbers_9 X hr ht (by omega) (by omega) h hw (lv_sub hl [3, 4, 5, 6, 2, 1, 0] rfl)

/-! FifthCard$Reader.evening()V -/
theorem ydX2_evening : yX2_evening.cls = "FifthCard$Reader" ∧ yX2_evening.cls ≠ "java/lang/invoke/MethodHandle" ∧ yX2_evening.cls ≠ "java/lang/invoke/VarHandle" ∧ (parseMethodDescriptor yX2_evening.desc).map (fun d => d.parameters.length) = some 0 := by decide +kernel
def rmX2_evening (mc ms : Nat) : Room := { frames := 7, cells := mc, slots := ms, locals := 163 }
set_option maxHeartbeats 4000000 in
theorem wX2_evening_173 {G : GT} {p : Program} {l : Launch} {e : Env} {s : State} {m : MethodId} {args : Array Value} {below : List Frame} {meth : Method} {c : Code} {H : Heap} {locs : List Loc} {ls : Array Slot} {cells slots : Nat} {MC MS : Nat} {a0 : Nat} {x1 : Int32} {x3 : Int32} {z0 : Int32} {z1 : Int32} {z2 : Nat} {u : Hp} {mc : Nat} {ms : Nat} {K : Hp → Prop} {E : Nat → Hp → Prop} (X : Mc G p s m args meth c RX2 cX2_evening 5) (hr : meth.sig.returnType = none) (ht : ∀ x ∈ c.exceptionTable.toList, False) (hc1 : cells + mc ≤ MC) (hc2 : slots + ms ≤ MS) (h : bX2_evening_173 K E (Glit G) a0 x1 x3 z0 z1 z2 u mc ms) (hw : GW G u s H locs) (hl : lv_has ls 5 [(0, .ref a0), (1, .int x1), (3, .int x3)]) : W p l e (rmX2_evening MC MS) s m args below meth c H locs cells slots (TV G "FifthCard$Refused" below K E args s MC MS) (F0 m 173 ls [.int z0, .int z1, .ref z2]) := by
  obtain ⟨hx, hb, hml, hown, hts, -⟩ := id X
  unfold bX2_evening_173 at h
  have hk_1 : kd u z2 = 101 := h.1
  have h := h.2
  refine g_iast X hw hk_1 h.1 dX2_evening_173 (fun H locs hw => ?_)
  have h := h.2
  refine lv_aload_n hx hb dX2_evening_174 rfl (lv_at hl 0 rfl) ?_
  have hk_2 : kd u a0 = 2 := h.1
  have h := h.2
  obtain ⟨b_3, e_4, h⟩ := h
  refine g_getR X hw in_X2 hk_2 rfl 10 rfl (by decide) q254 (fun _ z => z) e_4 dX2_evening_175 ?_
  have hk_5 : kd u b_3 = 17 := h.1
  have h := h.2
  refine g_getI X hw in_X20 hk_5 rfl 11 rfl (by decide) q610 (fun _ z => z) dX2_evening_178 ?_
  refine lv_if_eq (tgt := 215) hx hb dX2_evening_181 rfl (fun c_35 => ?_) (fun c_35 => ?_)
  · have h := h.1 c_35
    refine lv_aload_n hx hb dX2_evening_215 rfl (lv_at hl 0 rfl) ?_
    refine g_getR X hw in_X2 hk_2 rfl 10 rfl (by decide) q254 (fun _ z => z) e_4 dX2_evening_216 ?_
    refine lv_dup hx hb dX2_evening_219 rfl ?_
    refine g_getI X hw in_X20 hk_5 rfl 8 rfl (by decide) q596 (fun _ z => z) dX2_evening_220 ?_
    refine lv_iconst (v := 1) hx hb dX2_evening_223 (by decide) ?_
    refine lv_iadd hx hb dX2_evening_224 ?_
    refine g_putI (v := (FI u 2008 b_3) + 1) X hw in_X20 tyX20_ok nmX20 hk_5 rfl 8 rfl (by decide) q596 (fun _ z => z) rfl rfl rfl dX2_evening_225 (fun H locs hw => ?_)
    exact vx_ret (g_vret X hw hr h (by omega) (by omega) dX2_evening_228)
  · have h := h.2 c_35
    refine lv_aload_n hx hb dX2_evening_184 rfl (lv_at hl 0 rfl) ?_
    refine va_ldcS (tx := "tilted") hx hb hown (X.2.2.2.2.2.2.1.2.2.2.2.2.2.1 14 ("FifthCard$Reader", 175, "tilted") rfl) dX2_evening_185 ?_
    obtain ⟨q_6, q_7, hq_8, hq_9, h⟩ := h
    refine g_calli hw (g_V X hw (mX2_takes l G _ _ _ _ _ _ h) 1 (lw_V q823 q825 qs11 q123 q826) rfl rfl ydX2_takes ⟨Nat.le_of_ble_eq_true rfl, Nat.le_of_ble_eq_true rfl⟩ (g_recv X hw (ci := 1) (q := (RX2, TX2, 11)) hk_2 rfl) (As := [.ref (Glit G 14)]) (rest := []) rfl hl.1 rfl (Nat.le_of_ble_eq_true rfl) dX2_evening_187 ⟨(by show _ ≤ MC; omega), (by show _ ≤ MS; omega)⟩) (fun r_10 u_11 H locs h hw => ?_)
    refine lv_if_eq (tgt := 215) hx hb dX2_evening_190 rfl (fun c_34 => ?_) (fun c_34 => ?_)
    · have h := h.1 c_34
      refine lv_aload_n hx hb dX2_evening_215 rfl (lv_at hl 0 rfl) ?_
      have hk_12 : kd u_11 a0 = 2 := h.1
      have h := h.2
      obtain ⟨b_13, e_14, h⟩ := h
      refine g_getR X hw in_X2 hk_12 rfl 10 rfl (by decide) q254 (fun _ z => z) e_14 dX2_evening_216 ?_
      refine lv_dup hx hb dX2_evening_219 rfl ?_
      have hk_15 : kd u_11 b_13 = 17 := h.1
      have h := h.2
      refine g_getI X hw in_X20 hk_15 rfl 8 rfl (by decide) q596 (fun _ z => z) dX2_evening_220 ?_
      refine lv_iconst (v := 1) hx hb dX2_evening_223 (by decide) ?_
      refine lv_iadd hx hb dX2_evening_224 ?_
      refine g_putI (v := (FI u_11 2008 b_13) + 1) X hw in_X20 tyX20_ok nmX20 hk_15 rfl 8 rfl (by decide) q596 (fun _ z => z) rfl rfl rfl dX2_evening_225 (fun H locs hw => ?_)
      exact vx_ret (g_vret X hw hr h (by omega) (by omega) dX2_evening_228)
    · have h := h.2 c_34
      refine lv_aload_n hx hb dX2_evening_193 rfl (lv_at hl 0 rfl) ?_
      have hk_16 : kd u_11 a0 = 2 := h.1
      have h := h.2
      obtain ⟨b_17, e_18, h⟩ := h
      refine g_getR X hw in_X2 hk_16 rfl 10 rfl (by decide) q254 (fun _ z => z) e_18 dX2_evening_194 ?_
      have hk_19 : kd u_11 b_17 = 17 := h.1
      have h := h.2
      obtain ⟨b_20, e_21, h⟩ := h
      refine g_getR X hw in_X20 hk_19 rfl 2 rfl (by decide) q565 (fun _ z => z) e_21 dX2_evening_197 ?_
      refine lv_iload_n hx hb dX2_evening_200 rfl (lv_at hl 1 rfl) ?_
      refine lv_dup2_11 hx hb dX2_evening_201 rfl rfl ?_
      have hk_22 : kd u_11 b_20 = 101 := h.1
      have h := h.2
      refine g_iald X hw hk_22 h.1 dX2_evening_202 ?_
      have h := h.2
      refine lv_aload_n hx hb dX2_evening_203 rfl (lv_at hl 0 rfl) ?_
      refine lv_iconst (v := 1) hx hb dX2_evening_204 (by decide) ?_
      refine lv_bipush (v := 6) hx hb dX2_evening_205 (by decide) ?_
      refine lv_iload_n hx hb dX2_evening_207 rfl (lv_at hl 2 rfl) ?_
      refine lv_iconst (v := 1) hx hb dX2_evening_208 (by decide) ?_
      refine lv_isub hx hb dX2_evening_209 ?_
      obtain ⟨q_23, q_24, hq_25, hq_26, h⟩ := h
      refine g_tcalli X ht hw (g_TV X hw (mX2_numbers l G _ _ _ _ _ _ _ _ _ h) 3 (lw_V q933 q935 qs21 q123 q936) rfl rfl ydX2_numbers ⟨Nat.le_of_ble_eq_true rfl, Nat.le_of_ble_eq_true rfl⟩ (g_recv X hw (ci := 1) (q := (RX2, TX2, 11)) hk_16 rfl) (As := [.int 1, .int 6, .int (x3 - 1)]) (rest := [.int (AI u_11 b_20 (tn x1)), .int x1, .ref b_20]) rfl hl.1 rfl (Nat.le_of_ble_eq_true rfl) dX2_evening_210 ⟨(by show _ ≤ MC; omega), (by show _ ≤ MS; omega)⟩) (by omega) (by omega) (fun r_27 u_28 H locs h hw => ?_)
      refine lv_iadd hx hb dX2_evening_213 ?_
      have hk_29 : kd u_28 b_20 = 101 := h.1
      have h := h.2
      refine g_iast X hw hk_29 h.1 dX2_evening_214 (fun H locs hw => ?_)
      have h := h.2
      refine lv_aload_n hx hb dX2_evening_215 rfl (lv_at hl 0 rfl) ?_
      have hk_30 : kd u_28 a0 = 2 := h.1
      have h := h.2
      obtain ⟨b_31, e_32, h⟩ := h
      refine g_getR X hw in_X2 hk_30 rfl 10 rfl (by decide) q254 (fun _ z => z) e_32 dX2_evening_216 ?_
      refine lv_dup hx hb dX2_evening_219 rfl ?_
      have hk_33 : kd u_28 b_31 = 17 := h.1
      have h := h.2
      refine g_getI X hw in_X20 hk_33 rfl 8 rfl (by decide) q596 (fun _ z => z) dX2_evening_220 ?_
      refine lv_iconst (v := 1) hx hb dX2_evening_223 (by decide) ?_
      refine lv_iadd hx hb dX2_evening_224 ?_
      refine g_putI (v := (FI u_28 2008 b_31) + 1) X hw in_X20 tyX20_ok nmX20 hk_33 rfl 8 rfl (by decide) q596 (fun _ z => z) rfl rfl rfl dX2_evening_225 (fun H locs hw => ?_)
      exact vx_ret (g_vret X hw hr h (by omega) (by omega) dX2_evening_228)
set_option maxHeartbeats 4000000 in
theorem wX2_evening_104 {G : GT} {p : Program} {l : Launch} {e : Env} {s : State} {m : MethodId} {args : Array Value} {below : List Frame} {meth : Method} {c : Code} {H : Heap} {locs : List Loc} {ls : Array Slot} {cells slots : Nat} {MC MS : Nat} {a0 : Nat} {x1 : Int32} {z0 : Int32} {z1 : Int32} {z2 : Nat} {u : Hp} {mc : Nat} {ms : Nat} {K : Hp → Prop} {E : Nat → Hp → Prop} (X : Mc G p s m args meth c RX2 cX2_evening 5) (hr : meth.sig.returnType = none) (ht : ∀ x ∈ c.exceptionTable.toList, False) (hc1 : cells + mc ≤ MC) (hc2 : slots + ms ≤ MS) (h : bX2_evening_104 K E (Glit G) a0 x1 z0 z1 z2 u mc ms) (hw : GW G u s H locs) (hl : lv_has ls 5 [(0, .ref a0), (1, .int x1)]) : W p l e (rmX2_evening MC MS) s m args below meth c H locs cells slots (TV G "FifthCard$Refused" below K E args s MC MS) (F0 m 104 ls [.int z0, .int z1, .ref z2]) := by
  obtain ⟨hx, hb, hml, hown, hts, -⟩ := id X
  unfold bX2_evening_104 at h
  have hk_36 : kd u z2 = 101 := h.1
  have h := h.2
  refine g_iast X hw hk_36 h.1 dX2_evening_104 (fun H locs hw => ?_)
  have h := h.2
  refine lv_aload_n hx hb dX2_evening_105 rfl (lv_at hl 0 rfl) ?_
  refine va_ldcS (tx := "shows") hx hb hown (X.2.2.2.2.2.2.1.2.2.2.2.2.2.1 13 ("FifthCard$Reader", 173, "shows") rfl) dX2_evening_106 ?_
  have hk_41 : kd u a0 = 2 := h.1
  have h := h.2
  obtain ⟨q_37, q_38, hq_39, hq_40, h⟩ := h
  refine g_tcallv X ht hw (g_TV X hw (mX2_must l G _ _ _ _ _ _ _ h) 1 (lw_V q819 q821 qs10 q123 q822) rfl rfl ydX2_must ⟨Nat.le_of_ble_eq_true rfl, Nat.le_of_ble_eq_true rfl⟩ (g_recv X hw (ci := 1) (q := (RX2, TX2, 11)) hk_41 rfl) (As := [.ref (Glit G 13)]) (rest := []) rfl hl.1 rfl (Nat.le_of_ble_eq_true rfl) dX2_evening_108 ⟨(by show _ ≤ MC; omega), (by show _ ≤ MS; omega)⟩) (by omega) (by omega) (fun u_42 H locs h hw => ?_)
  refine lv_aload_n hx hb dX2_evening_111 rfl (lv_at hl 0 rfl) ?_
  have hk_43 : kd u_42 a0 = 2 := h.1
  have h := h.2
  obtain ⟨b_44, e_45, h⟩ := h
  refine g_getR X hw in_X2 hk_43 rfl 10 rfl (by decide) q254 (fun _ z => z) e_45 dX2_evening_112 ?_
  have hk_46 : kd u_42 b_44 = 17 := h.1
  have h := h.2
  refine g_callio hw (g_V X hw (mX20_rows l G _ _ _ h) 0 (lw_V q949 q950 q951 q144 q952) rfl rfl ydX20_rows ⟨Nat.le_of_ble_eq_true rfl, Nat.le_of_ble_eq_true rfl⟩ (g_recv X hw (ci := 16) (q := (RX20, TX20, 13)) hk_46 rfl) (As := []) (rest := []) rfl hl.1 rfl (Nat.le_of_ble_eq_true rfl) dX2_evening_115 ⟨(by show _ ≤ MC; omega), (by show _ ≤ MS; omega)⟩) (fun r_47 H locs h hw => ?_)
  refine lv_istore_n (lv' := [(3, .int r_47), (0, .ref a0), (1, .int x1)]) hx hb dX2_evening_118 rfl hl (by decide) rfl (fun ls hl => ?_)
  refine lv_aload_n hx hb dX2_evening_119 rfl (lv_at hl 1 rfl) ?_
  refine lv_iload_n hx hb dX2_evening_120 rfl (lv_at hl 0 rfl) ?_
  refine lv_iload_n hx hb dX2_evening_121 rfl (lv_at hl 0 rfl) ?_
  refine lv_aload_n hx hb dX2_evening_122 rfl (lv_at hl 1 rfl) ?_
  refine g_getR X hw in_X2 hk_43 rfl 10 rfl (by decide) q254 (fun _ z => z) e_45 dX2_evening_123 ?_
  refine g_getI X hw in_X20 hk_46 rfl 3 rfl (by decide) q571 (fun _ z => z) dX2_evening_126 ?_
  refine lv_iconst (v := 1) hx hb dX2_evening_129 (by decide) ?_
  refine lv_isub hx hb dX2_evening_130 ?_
  obtain ⟨q_48, q_49, hq_50, hq_51, h⟩ := h
  refine g_tcalli X ht hw (g_TV X hw (mX2_numbers l G _ _ _ _ _ _ _ _ _ h) 3 (lw_V q933 q935 qs21 q123 q936) rfl rfl ydX2_numbers ⟨Nat.le_of_ble_eq_true rfl, Nat.le_of_ble_eq_true rfl⟩ (g_recv X hw (ci := 1) (q := (RX2, TX2, 11)) hk_43 rfl) (As := [.int r_47, .int r_47, .int ((FI u_42 2003 b_44) - 1)]) (rest := []) rfl hl.1 rfl (Nat.le_of_ble_eq_true rfl) dX2_evening_131 ⟨(by show _ ≤ MC; omega), (by show _ ≤ MS; omega)⟩) (by omega) (by omega) (fun r_52 u_53 H locs h hw => ?_)
  refine lv_istore (lv' := [(4, .int r_52), (3, .int r_47), (0, .ref a0), (1, .int x1)]) hx hb dX2_evening_134 hl (by decide) rfl (fun ls hl => ?_)
  refine lv_aload_n hx hb dX2_evening_136 rfl (lv_at hl 2 rfl) ?_
  have hk_54 : kd u_53 a0 = 2 := h.1
  have h := h.2
  obtain ⟨b_55, e_56, h⟩ := h
  refine g_getR X hw in_X2 hk_54 rfl 10 rfl (by decide) q254 (fun _ z => z) e_56 dX2_evening_137 ?_
  have hk_57 : kd u_53 b_55 = 17 := h.1
  have h := h.2
  obtain ⟨b_58, e_59, h⟩ := h
  refine g_getR X hw in_X20 hk_57 rfl 2 rfl (by decide) q565 (fun _ z => z) e_59 dX2_evening_140 ?_
  refine lv_iload_n hx hb dX2_evening_143 rfl (lv_at hl 3 rfl) ?_
  refine lv_iload hx hb dX2_evening_144 (lv_at hl 0 rfl) ?_
  refine lv_if_ne (tgt := 153) hx hb dX2_evening_146 rfl (fun c_64 => ?_) (fun c_64 => ?_)
  · have h := h.2 c_64
    refine lv_aload_n hx hb dX2_evening_153 rfl (lv_at hl 2 rfl) ?_
    refine g_getR X hw in_X2 hk_54 rfl 10 rfl (by decide) q254 (fun _ z => z) e_56 dX2_evening_154 ?_
    refine lv_aload_n hx hb dX2_evening_157 rfl (lv_at hl 2 rfl) ?_
    obtain ⟨b_60, e_61, h⟩ := h
    refine g_getR X hw in_X2 hk_54 rfl 3 rfl (by decide) q247 (fun _ z => z) e_61 dX2_evening_158 ?_
    refine lv_iload_n hx hb dX2_evening_161 rfl (lv_at hl 1 rfl) ?_
    refine g_callio hw (g_V X hw (mX20_rank l G _ _ _ _ _ h) 2 (lw_V q940 q941 q942 q144 q943) rfl rfl ydX20_rank ⟨Nat.le_of_ble_eq_true rfl, Nat.le_of_ble_eq_true rfl⟩ (g_recv X hw (ci := 16) (q := (RX20, TX20, 13)) hk_57 rfl) (As := [.ref b_60, .int r_47]) (rest := [.int x1, .ref b_58]) rfl hl.1 rfl (Nat.le_of_ble_eq_true rfl) dX2_evening_162 ⟨(by show _ ≤ MC; omega), (by show _ ≤ MS; omega)⟩) (fun r_62 H locs h hw => ?_)
    refine lv_aload_n hx hb dX2_evening_165 rfl (lv_at hl 2 rfl) ?_
    refine g_getR X hw in_X2 hk_54 rfl 10 rfl (by decide) q254 (fun _ z => z) e_56 dX2_evening_166 ?_
    refine g_callio hw (g_V X hw (mX20_tiltings l G _ _ _ h) 0 (lw_V q953 q954 q955 q144 q956) rfl rfl ydX20_tiltings ⟨Nat.le_of_ble_eq_true rfl, Nat.le_of_ble_eq_true rfl⟩ (g_recv X hw (ci := 16) (q := (RX20, TX20, 13)) hk_57 rfl) (As := []) (rest := [.int r_62, .int x1, .ref b_58]) rfl hl.1 rfl (Nat.le_of_ble_eq_true rfl) dX2_evening_169 ⟨(by show _ ≤ MC; omega), (by show _ ≤ MS; omega)⟩) (fun r_63 H locs h hw => ?_)
    refine lv_imul hx hb dX2_evening_172 ?_
    exact wX2_evening_173 X hr ht (by omega) (by omega) h hw (lv_sub hl [2, 3, 1] rfl)
  · have h := h.1 c_64
    refine lv_iconst (v := 0) hx hb dX2_evening_149 (by decide) ?_
    refine lv_goto (tgt := 173) hx hb dX2_evening_150 rfl ?_
    exact wX2_evening_173 X hr ht (by omega) (by omega) h hw (lv_sub hl [2, 3, 1] rfl)
set_option maxHeartbeats 4000000 in
theorem wX2_evening_18 {G : GT} {p : Program} {l : Launch} {e : Env} {s : State} {m : MethodId} {args : Array Value} {below : List Frame} {meth : Method} {c : Code} {H : Heap} {locs : List Loc} {ls : Array Slot} {cells slots : Nat} {MC MS : Nat} {a0 : Nat} {z0 : Int32} {z1 : Nat} {u : Hp} {mc : Nat} {ms : Nat} {K : Hp → Prop} {E : Nat → Hp → Prop} (X : Mc G p s m args meth c RX2 cX2_evening 5) (hr : meth.sig.returnType = none) (ht : ∀ x ∈ c.exceptionTable.toList, False) (hc1 : cells + mc ≤ MC) (hc2 : slots + ms ≤ MS) (h : bX2_evening_18 K E (Glit G) a0 z0 z1 u mc ms) (hw : GW G u s H locs) (hl : lv_has ls 5 [(0, .ref a0)]) : W p l e (rmX2_evening MC MS) s m args below meth c H locs cells slots (TV G "FifthCard$Refused" below K E args s MC MS) (F0 m 18 ls [.int z0, .ref z1]) := by
  obtain ⟨hx, hb, hml, hown, hts, -⟩ := id X
  unfold bX2_evening_18 at h
  have hk_69 : kd u z1 = 2 := h.1
  have h := h.2
  obtain ⟨q_65, q_66, hq_67, hq_68, h⟩ := h
  refine g_tcallv X ht hw (g_TV X hw (mX2_begins l G _ _ _ _ _ _ _ h) 1 (lw_V q861 q863 qs15 q123 q864) rfl rfl ydX2_begins ⟨Nat.le_of_ble_eq_true rfl, Nat.le_of_ble_eq_true rfl⟩ (g_recv X hw (ci := 1) (q := (RX2, TX2, 11)) hk_69 rfl) (As := [.int z0]) (rest := []) rfl hl.1 rfl (Nat.le_of_ble_eq_true rfl) dX2_evening_18 ⟨(by show _ ≤ MC; omega), (by show _ ≤ MS; omega)⟩) (by omega) (by omega) (fun u_70 H locs h hw => ?_)
  refine lv_aload_n hx hb dX2_evening_21 rfl (lv_at hl 0 rfl) ?_
  have hk_71 : kd u_70 a0 = 2 := h.1
  have h := h.2
  obtain ⟨b_72, e_73, h⟩ := h
  refine g_getR X hw in_X2 hk_71 rfl 10 rfl (by decide) q254 (fun _ z => z) e_73 dX2_evening_22 ?_
  have hk_74 : kd u_70 b_72 = 17 := h.1
  have h := h.2
  refine g_getI X hw in_X20 hk_74 rfl 8 rfl (by decide) q596 (fun _ z => z) dX2_evening_25 ?_
  refine lv_istore_n (lv' := [(1, .int (FI u_70 2008 b_72)), (0, .ref a0)]) hx hb dX2_evening_28 rfl hl (by decide) rfl (fun ls hl => ?_)
  refine lv_aload_n hx hb dX2_evening_29 rfl (lv_at hl 1 rfl) ?_
  refine lv_aload_n hx hb dX2_evening_30 rfl (lv_at hl 1 rfl) ?_
  refine g_getR X hw in_X2 hk_71 rfl 10 rfl (by decide) q254 (fun _ z => z) e_73 dX2_evening_31 ?_
  refine g_getI X hw in_X20 hk_74 rfl 5 rfl (by decide) q584 (fun _ z => z) dX2_evening_34 ?_
  refine lv_aload_n hx hb dX2_evening_37 rfl (lv_at hl 1 rfl) ?_
  refine g_getR X hw in_X2 hk_71 rfl 10 rfl (by decide) q254 (fun _ z => z) e_73 dX2_evening_38 ?_
  refine g_getI X hw in_X20 hk_74 rfl 5 rfl (by decide) q584 (fun _ z => z) dX2_evening_41 ?_
  refine lv_aload_n hx hb dX2_evening_44 rfl (lv_at hl 1 rfl) ?_
  refine g_getR X hw in_X2 hk_71 rfl 10 rfl (by decide) q254 (fun _ z => z) e_73 dX2_evening_45 ?_
  refine g_getI X hw in_X20 hk_74 rfl 3 rfl (by decide) q571 (fun _ z => z) dX2_evening_48 ?_
  refine lv_iconst (v := 1) hx hb dX2_evening_51 (by decide) ?_
  refine lv_isub hx hb dX2_evening_52 ?_
  obtain ⟨q_75, q_76, hq_77, hq_78, h⟩ := h
  refine g_tcalli X ht hw (g_TV X hw (mX2_numbers l G _ _ _ _ _ _ _ _ _ h) 3 (lw_V q933 q935 qs21 q123 q936) rfl rfl ydX2_numbers ⟨Nat.le_of_ble_eq_true rfl, Nat.le_of_ble_eq_true rfl⟩ (g_recv X hw (ci := 1) (q := (RX2, TX2, 11)) hk_71 rfl) (As := [.int (FI u_70 2005 b_72), .int (FI u_70 2005 b_72), .int ((FI u_70 2003 b_72) - 1)]) (rest := []) rfl hl.1 rfl (Nat.le_of_ble_eq_true rfl) dX2_evening_53 ⟨(by show _ ≤ MC; omega), (by show _ ≤ MS; omega)⟩) (by omega) (by omega) (fun r_79 u_80 H locs h hw => ?_)
  refine lv_istore_n (lv' := [(2, .int r_79), (1, .int (FI u_70 2008 b_72)), (0, .ref a0)]) hx hb dX2_evening_56 rfl hl (by decide) rfl (fun ls hl => ?_)
  refine lv_aload_n hx hb dX2_evening_57 rfl (lv_at hl 2 rfl) ?_
  have hk_81 : kd u_80 a0 = 2 := h.1
  have h := h.2
  obtain ⟨b_82, e_83, h⟩ := h
  refine g_getR X hw in_X2 hk_81 rfl 10 rfl (by decide) q254 (fun _ z => z) e_83 dX2_evening_58 ?_
  have hk_84 : kd u_80 b_82 = 17 := h.1
  have h := h.2
  obtain ⟨b_85, e_86, h⟩ := h
  refine g_getR X hw in_X20 hk_84 rfl 1 rfl (by decide) q562 (fun _ z => z) e_86 dX2_evening_61 ?_
  refine lv_iload_n hx hb dX2_evening_64 rfl (lv_at hl 1 rfl) ?_
  refine lv_aload_n hx hb dX2_evening_65 rfl (lv_at hl 2 rfl) ?_
  refine g_getR X hw in_X2 hk_81 rfl 10 rfl (by decide) q254 (fun _ z => z) e_83 dX2_evening_66 ?_
  refine g_getI X hw in_X20 hk_84 rfl 9 rfl (by decide) q601 (fun _ z => z) dX2_evening_69 ?_
  refine lv_if_eq (tgt := 96) hx hb dX2_evening_72 rfl (fun c_91 => ?_) (fun c_91 => ?_)
  · have h := h.1 c_91
    refine lv_aload_n hx hb dX2_evening_96 rfl (lv_at hl 2 rfl) ?_
    refine g_getR X hw in_X2 hk_81 rfl 10 rfl (by decide) q254 (fun _ z => z) e_83 dX2_evening_97 ?_
    refine lv_iload_n hx hb dX2_evening_100 rfl (lv_at hl 0 rfl) ?_
    refine g_callio hw (g_V X hw (mX20_rankSet l G _ _ _ _ h) 1 (lw_V q945 q946 q947 q144 q948) rfl rfl ydX20_rankSet ⟨Nat.le_of_ble_eq_true rfl, Nat.le_of_ble_eq_true rfl⟩ (g_recv X hw (ci := 16) (q := (RX20, TX20, 13)) hk_84 rfl) (As := [.int r_79]) (rest := [.int (FI u_70 2008 b_72), .ref b_85]) rfl hl.1 rfl (Nat.le_of_ble_eq_true rfl) dX2_evening_101 ⟨(by show _ ≤ MC; omega), (by show _ ≤ MS; omega)⟩) (fun r_87 H locs h hw => ?_)
    exact wX2_evening_104 X hr ht (by omega) (by omega) h hw (lv_sub hl [2, 1] rfl)
  · have h := h.2 c_91
    refine lv_aload_n hx hb dX2_evening_75 rfl (lv_at hl 2 rfl) ?_
    refine g_getR X hw in_X2 hk_81 rfl 10 rfl (by decide) q254 (fun _ z => z) e_83 dX2_evening_76 ?_
    refine lv_aload_n hx hb dX2_evening_79 rfl (lv_at hl 2 rfl) ?_
    obtain ⟨b_88, e_89, h⟩ := h
    refine g_getR X hw in_X2 hk_81 rfl 3 rfl (by decide) q247 (fun _ z => z) e_89 dX2_evening_80 ?_
    refine lv_aload_n hx hb dX2_evening_83 rfl (lv_at hl 2 rfl) ?_
    refine g_getR X hw in_X2 hk_81 rfl 10 rfl (by decide) q254 (fun _ z => z) e_83 dX2_evening_84 ?_
    refine g_getI X hw in_X20 hk_84 rfl 5 rfl (by decide) q584 (fun _ z => z) dX2_evening_87 ?_
    refine g_callio hw (g_V X hw (mX20_rank l G _ _ _ _ _ h) 2 (lw_V q940 q941 q942 q144 q943) rfl rfl ydX20_rank ⟨Nat.le_of_ble_eq_true rfl, Nat.le_of_ble_eq_true rfl⟩ (g_recv X hw (ci := 16) (q := (RX20, TX20, 13)) hk_84 rfl) (As := [.ref b_88, .int (FI u_80 2005 b_82)]) (rest := [.int (FI u_70 2008 b_72), .ref b_85]) rfl hl.1 rfl (Nat.le_of_ble_eq_true rfl) dX2_evening_90 ⟨(by show _ ≤ MC; omega), (by show _ ≤ MS; omega)⟩) (fun r_90 H locs h hw => ?_)
    refine lv_goto (tgt := 104) hx hb dX2_evening_93 rfl ?_
    exact wX2_evening_104 X hr ht (by omega) (by omega) h hw (lv_sub hl [2, 1] rfl)
set_option maxHeartbeats 4000000 in
theorem mX2_evening (l : Launch) (G : GT) (u : Hp) (a0 : Nat) (MC MS : Nat) (K : Hp → Prop) (E : Nat → Hp → Prop) (h : pX2_evening (Glit G) u a0 MC MS K E) : vx_Met l yX2_evening (ws_ yX2_evening cX2_evening 5 none) (rmX2_evening MC MS) (va_Pc [.ref a0] (GB G u)) (va_Qv K (fun u t => GH G u t.heap) (GA G)) (XE G "FifthCard$Refused" E) MC MS (GA G) := by
  refine vx_ofW (cc := cX2_evening) (maxL := 5) (ret := none) (by decide) rfl ?_
  intro p e s m args below meth c s₁ B hml ht hv
  obtain ⟨rfl, hv⟩ := hv
  have X := Mc_of (own := RX2) B hml rfl hv
  have hw : GW G u s s.heap [] := ⟨hv.2.1, va_S.rf⟩
  have hr := B.returns
  obtain ⟨hx, hb, hml, hown, hts, -⟩ := id X
  have hl := lv_entry ([.ref a0]) (n := 5) (Nat.le_of_ble_eq_true rfl)
  rw [lg_entry_eq]
  generalize (lg_sl ([.ref a0]) ++ List.replicate (5 - (lg_sl ([.ref a0])).length) Slot.unset).toArray = ls at hl ⊢
  have hl : lv_has ls 5 [(0, .ref a0)] := hl
  change W p l e (rmX2_evening MC MS) s m _ below meth c s.heap [] 0 0 (TV G "FifthCard$Refused" below K E _ s MC MS) (F0 m 0 ls [])
  unfold pX2_evening at h
  have hc1 : 0 + MC ≤ MC := by omega
  have hc2 : 0 + MS ≤ MS := by omega
  refine lv_aload_n hx hb dX2_evening_0 rfl (lv_at hl 0 rfl) ?_
  refine lv_aload_n hx hb dX2_evening_1 rfl (lv_at hl 0 rfl) ?_
  have hk_92 : kd u a0 = 2 := h.1
  have h := h.2
  obtain ⟨b_93, e_94, h⟩ := h
  refine g_getR X hw in_X2 hk_92 rfl 10 rfl (by decide) q254 (fun _ z => z) e_94 dX2_evening_2 ?_
  have hk_95 : kd u b_93 = 17 := h.1
  have h := h.2
  refine g_getI X hw in_X20 hk_95 rfl 8 rfl (by decide) q596 (fun _ z => z) dX2_evening_5 ?_
  refine lv_bipush (v := 9) hx hb dX2_evening_8 (by decide) ?_
  refine lv_icmp_ge (tgt := 17) hx hb dX2_evening_10 rfl (fun c_96 => ?_) (fun c_96 => ?_)
  · have h := h.1 c_96
    refine lv_iconst (v := 0) hx hb dX2_evening_17 (by decide) ?_
    exact wX2_evening_18 X hr ht (by omega) (by omega) h hw (lv_sub hl [0] rfl)
  · have h := h.2 c_96
    refine lv_iconst (v := 1) hx hb dX2_evening_13 (by decide) ?_
    refine lv_goto (tgt := 18) hx hb dX2_evening_14 rfl ?_
    exact wX2_evening_18 X hr ht (by omega) (by omega) h hw (lv_sub hl [0] rfl)

/-! FifthCard$Reader.line()V -/
theorem ydX2_line : yX2_line.cls = "FifthCard$Reader" ∧ yX2_line.cls ≠ "java/lang/invoke/MethodHandle" ∧ yX2_line.cls ≠ "java/lang/invoke/VarHandle" ∧ (parseMethodDescriptor yX2_line.desc).map (fun d => d.parameters.length) = some 0 := by decide +kernel
def rmX2_line (mc ms : Nat) : Room := { frames := 9, cells := mc, slots := ms, locals := 210 }
set_option maxHeartbeats 4000000 in
theorem wX2_line_99 {G : GT} {p : Program} {l : Launch} {e : Env} {s : State} {m : MethodId} {args : Array Value} {below : List Frame} {meth : Method} {c : Code} {H : Heap} {locs : List Loc} {ls : Array Slot} {cells slots : Nat} {MC MS : Nat} {a0 : Nat} {x2 : Int32} {u : Hp} {mc : Nat} {ms : Nat} {K : Hp → Prop} {E : Nat → Hp → Prop} (X : Mc G p s m args meth c RX2 cX2_line 3) (hr : meth.sig.returnType = none) (ht : ∀ x ∈ c.exceptionTable.toList, False) (hc1 : cells + mc ≤ MC) (hc2 : slots + ms ≤ MS) (h : bX2_line_99 K E (Glit G) a0 x2 u mc ms) (hw : GW G u s H locs) (hl : lv_has ls 3 [(0, .ref a0), (2, .int x2)]) : W p l e (rmX2_line MC MS) s m args below meth c H locs cells slots (TV G "FifthCard$Refused" below K E args s MC MS) (F0 m 99 ls []) := by
  obtain ⟨hx, hb, hml, hown, hts, -⟩ := id X
  unfold bX2_line_99 at h
  refine lv_iload_n hx hb dX2_line_99 rfl (lv_at hl 1 rfl) ?_
  by_cases c_7 : x2 = 0
  · refine lv_tableIn (tgt := 128) hx hb dX2_line_100 (by rw [c_7]; decide) (by rw [c_7]; decide) (by first | (rw [c_7]; done) | (rw [c_7]; rfl)) rfl ?_
    have h := h.1 c_7
    refine lv_aload_n hx hb dX2_line_128 rfl (lv_at hl 0 rfl) ?_
    have hk_5 : kd u a0 = 2 := h.1
    have h := h.2
    obtain ⟨q_1, q_2, hq_3, hq_4, h⟩ := h
    refine g_tcallv X ht hw (g_TV X hw (mX2_trickLine l G _ _ _ _ _ _ h) 0 (lw_V q810 q812 qs8 q123 q813) rfl rfl ydX2_trickLine ⟨Nat.le_of_ble_eq_true rfl, Nat.le_of_ble_eq_true rfl⟩ (g_recv X hw (ci := 1) (q := (RX2, TX2, 11)) hk_5 rfl) (As := []) (rest := []) rfl hl.1 rfl (Nat.le_of_ble_eq_true rfl) dX2_line_129 ⟨(by show _ ≤ MC; omega), (by show _ ≤ MS; omega)⟩) (by omega) (by omega) (fun u_6 H locs h hw => ?_)
    refine lv_goto (tgt := 155) hx hb dX2_line_132 rfl ?_
    exact vx_ret (g_vret X hw hr h (by omega) (by omega) dX2_line_155)
  have h := h.2
  by_cases c_14 : x2 = 1
  · refine lv_tableIn (tgt := 135) hx hb dX2_line_100 (by rw [c_14]; decide) (by rw [c_14]; decide) (by first | (rw [c_14]; done) | (rw [c_14]; rfl)) rfl ?_
    have h := h.1 c_14
    refine lv_aload_n hx hb dX2_line_135 rfl (lv_at hl 0 rfl) ?_
    have hk_12 : kd u a0 = 2 := h.1
    have h := h.2
    obtain ⟨q_8, q_9, hq_10, hq_11, h⟩ := h
    refine g_tcallv X ht hw (g_TV X hw (mX2_rule l G _ _ _ _ _ _ h) 0 (lw_V q857 q859 qs14 q123 q860) rfl rfl ydX2_rule ⟨Nat.le_of_ble_eq_true rfl, Nat.le_of_ble_eq_true rfl⟩ (g_recv X hw (ci := 1) (q := (RX2, TX2, 11)) hk_12 rfl) (As := []) (rest := []) rfl hl.1 rfl (Nat.le_of_ble_eq_true rfl) dX2_line_136 ⟨(by show _ ≤ MC; omega), (by show _ ≤ MS; omega)⟩) (by omega) (by omega) (fun u_13 H locs h hw => ?_)
    refine lv_goto (tgt := 155) hx hb dX2_line_139 rfl ?_
    exact vx_ret (g_vret X hw hr h (by omega) (by omega) dX2_line_155)
  have h := h.2
  by_cases c_21 : x2 = 2
  · refine lv_tableIn (tgt := 142) hx hb dX2_line_100 (by rw [c_21]; decide) (by rw [c_21]; decide) (by first | (rw [c_21]; done) | (rw [c_21]; rfl)) rfl ?_
    have h := h.1 c_21
    refine lv_aload_n hx hb dX2_line_142 rfl (lv_at hl 0 rfl) ?_
    have hk_19 : kd u a0 = 2 := h.1
    have h := h.2
    obtain ⟨q_15, q_16, hq_17, hq_18, h⟩ := h
    refine g_tcallv X ht hw (g_TV X hw (mX2_evening l G _ _ _ _ _ _ h) 0 (lw_V q929 q931 qs20 q123 q932) rfl rfl ydX2_evening ⟨Nat.le_of_ble_eq_true rfl, Nat.le_of_ble_eq_true rfl⟩ (g_recv X hw (ci := 1) (q := (RX2, TX2, 11)) hk_19 rfl) (As := []) (rest := []) rfl hl.1 rfl (Nat.le_of_ble_eq_true rfl) dX2_line_143 ⟨(by show _ ≤ MC; omega), (by show _ ≤ MS; omega)⟩) (by omega) (by omega) (fun u_20 H locs h hw => ?_)
    refine lv_goto (tgt := 155) hx hb dX2_line_146 rfl ?_
    exact vx_ret (g_vret X hw hr h (by omega) (by omega) dX2_line_155)
  have h := h.2
  have h := h ⟨c_7, c_14, c_21⟩
  refine lv_tableOut (tgt := 149) hx hb dX2_line_100 (tbl_out 0 3 (by decide) (by decide) (fun i hi => by match i, hi with | 0, _ => exact c_7 | 1, _ => exact c_14 | 2, _ => exact c_21 | n + 3, hi => exact absurd hi (by omega))) rfl ?_
  refine lv_aload_n hx hb dX2_line_149 rfl (lv_at hl 0 rfl) ?_
  refine lv_iconst (v := 1) hx hb dX2_line_150 (by decide) ?_
  have hk_22 : kd u a0 = 2 := h.1
  have h := h.2
  refine g_callr hw (g_V X hw (mX2_fail l G _ _ _ _ h) 1 (lw_V q738 q740 qs7 q123 q741) rfl rfl ydX2_fail ⟨Nat.le_of_ble_eq_true rfl, Nat.le_of_ble_eq_true rfl⟩ (g_recv X hw (ci := 1) (q := (RX2, TX2, 11)) hk_22 rfl) (As := [.int 1]) (rest := []) rfl hl.1 rfl (Nat.le_of_ble_eq_true rfl) dX2_line_151 ⟨(by show _ ≤ MC; omega), (by show _ ≤ MS; omega)⟩) (fun o_23 u_24 H locs h hw => ?_)
  obtain ⟨b_25, e_26, h⟩ := h
  rw [e_26]
  show W _ _ _ _ _ _ _ _ _ _ _ _ _ _ _ (F0 _ _ _ (.ref _ :: _))
  have hk_27 : kd u_24 b_25 = 3 := h.1
  have h := h.2
  exact g_throw X ht hw hk_27 h (by omega) (by omega) dX2_line_154
set_option maxHeartbeats 4000000 in
theorem mX2_line (l : Launch) (G : GT) (u : Hp) (a0 : Nat) (MC MS : Nat) (K : Hp → Prop) (E : Nat → Hp → Prop) (h : pX2_line (Glit G) u a0 MC MS K E) : vx_Met l yX2_line (ws_ yX2_line cX2_line 3 none) (rmX2_line MC MS) (va_Pc [.ref a0] (GB G u)) (va_Qv K (fun u t => GH G u t.heap) (GA G)) (XE G "FifthCard$Refused" E) MC MS (GA G) := by
  refine vx_ofW (cc := cX2_line) (maxL := 3) (ret := none) (by decide) rfl ?_
  intro p e s m args below meth c s₁ B hml ht hv
  obtain ⟨rfl, hv⟩ := hv
  have X := Mc_of (own := RX2) B hml rfl hv
  have hw : GW G u s s.heap [] := ⟨hv.2.1, va_S.rf⟩
  have hr := B.returns
  obtain ⟨hx, hb, hml, hown, hts, -⟩ := id X
  have hl := lv_entry ([.ref a0]) (n := 3) (Nat.le_of_ble_eq_true rfl)
  rw [lg_entry_eq]
  generalize (lg_sl ([.ref a0]) ++ List.replicate (3 - (lg_sl ([.ref a0])).length) Slot.unset).toArray = ls at hl ⊢
  have hl : lv_has ls 3 [(0, .ref a0)] := hl
  change W p l e (rmX2_line MC MS) s m _ below meth c s.heap [] 0 0 (TV G "FifthCard$Refused" below K E _ s MC MS) (F0 m 0 ls [])
  unfold pX2_line at h
  have hc1 : 0 + MC ≤ MC := by omega
  have hc2 : 0 + MS ≤ MS := by omega
  refine lv_aload_n hx hb dX2_line_0 rfl (lv_at hl 0 rfl) ?_
  have hk_28 : kd u a0 = 2 := h.1
  have h := h.2
  refine g_getI X hw in_X2 hk_28 rfl 6 rfl (by decide) q250 (fun _ z => z) dX2_line_1 ?_
  refine lv_iconst (v := 2) hx hb dX2_line_4 (by decide) ?_
  refine lv_icmp_eq (tgt := 14) hx hb dX2_line_5 rfl (fun c_51 => ?_) (fun c_51 => ?_)
  · have h := h.1 c_51
    refine lv_aload_n hx hb dX2_line_14 rfl (lv_at hl 0 rfl) ?_
    obtain ⟨b_29, e_30, h⟩ := h
    refine g_getR X hw in_X2 hk_28 rfl 9 rfl (by decide) q253 (fun _ z => z) e_30 dX2_line_15 ?_
    refine lv_astore_n (lv' := [(1, .ref b_29), (0, .ref a0)]) hx hb dX2_line_18 rfl hl (by decide) rfl (fun ls hl => ?_)
    refine lv_iconst (v := (-1)) hx hb dX2_line_19 (by decide) ?_
    refine lv_istore_n (lv' := [(2, .int (-1)), (1, .ref b_29), (0, .ref a0)]) hx hb dX2_line_20 rfl hl (by decide) rfl (fun ls hl => ?_)
    refine lv_aload_n hx hb dX2_line_21 rfl (lv_at hl 1 rfl) ?_
    have hk_31 : kd u b_29 = 21 ∨ kd u b_29 = 201 := h.1
    have h := h.2
    refine g_calli hw (g_V X hw (mJ3_hashCode l G _ _ _ h) 0 (lw_V q746 q747 q748 q145 q749) rfl rfl ydJ3_hashCode ⟨Nat.le_of_ble_eq_true rfl, Nat.le_of_ble_eq_true rfl⟩ (g_recvS X hw hk_31) (As := []) (rest := []) rfl hl.1 rfl (Nat.le_of_ble_eq_true rfl) dX2_line_22 ⟨(by show _ ≤ MC; omega), (by show _ ≤ MS; omega)⟩) (fun r_32 u_33 H locs h hw => ?_)
    by_cases c_37 : r_32 = (-1376511864)
    · refine lv_lookup (tgt := 88) hx hb dX2_line_25 (by decide) (by first | (rw [c_37]; done) | (rw [c_37]; rfl)) rfl ?_
      have h := h.1 c_37
      refine lv_aload_n hx hb dX2_line_88 rfl (lv_at hl 1 rfl) ?_
      refine va_ldcS (tx := "evening") hx hb hown (X.2.2.2.2.2.2.1.2.2.2.2.2.2.1 4 ("FifthCard$Reader", 118, "evening") rfl) dX2_line_89 ?_
      have hk_34 : kd u_33 b_29 = 21 ∨ kd u_33 b_29 = 201 := h.1
      have h := h.2
      refine g_callio hw (g_V X hw (mJ3_equals l G _ _ _ _ h) 1 (lw_V q800 q801 q802 q145 q803) rfl rfl ydJ3_equals ⟨Nat.le_of_ble_eq_true rfl, Nat.le_of_ble_eq_true rfl⟩ (g_recvS X hw hk_34) (As := [.ref (Glit G 4)]) (rest := []) rfl hl.1 rfl (Nat.le_of_ble_eq_true rfl) dX2_line_91 ⟨(by show _ ≤ MC; omega), (by show _ ≤ MS; omega)⟩) (fun r_35 H locs h hw => ?_)
      refine lv_if_eq (tgt := 99) hx hb dX2_line_94 rfl (fun c_36 => ?_) (fun c_36 => ?_)
      · have h := h.1 c_36
        exact wX2_line_99 X hr ht (by omega) (by omega) h hw (lv_sub hl [2, 0] rfl)
      · have h := h.2 c_36
        refine lv_iconst (v := 2) hx hb dX2_line_97 (by decide) ?_
        refine lv_istore_n (lv' := [(2, .int 2), (1, .ref b_29), (0, .ref a0)]) hx hb dX2_line_98 rfl hl (by decide) rfl (fun ls hl => ?_)
        exact wX2_line_99 X hr ht (by omega) (by omega) h hw (lv_sub hl [2, 0] rfl)
    have h := h.2
    by_cases c_41 : r_32 = 3512060
    · refine lv_lookup (tgt := 74) hx hb dX2_line_25 (by decide) (by first | (rw [c_41]; done) | (rw [c_41]; rfl)) rfl ?_
      have h := h.1 c_41
      refine lv_aload_n hx hb dX2_line_74 rfl (lv_at hl 1 rfl) ?_
      refine va_ldcS (tx := "rule") hx hb hown (X.2.2.2.2.2.2.1.2.2.2.2.2.2.1 3 ("FifthCard$Reader", 116, "rule") rfl) dX2_line_75 ?_
      have hk_38 : kd u_33 b_29 = 21 ∨ kd u_33 b_29 = 201 := h.1
      have h := h.2
      refine g_callio hw (g_V X hw (mJ3_equals l G _ _ _ _ h) 1 (lw_V q800 q801 q802 q145 q803) rfl rfl ydJ3_equals ⟨Nat.le_of_ble_eq_true rfl, Nat.le_of_ble_eq_true rfl⟩ (g_recvS X hw hk_38) (As := [.ref (Glit G 3)]) (rest := []) rfl hl.1 rfl (Nat.le_of_ble_eq_true rfl) dX2_line_77 ⟨(by show _ ≤ MC; omega), (by show _ ≤ MS; omega)⟩) (fun r_39 H locs h hw => ?_)
      refine lv_if_eq (tgt := 99) hx hb dX2_line_80 rfl (fun c_40 => ?_) (fun c_40 => ?_)
      · have h := h.1 c_40
        exact wX2_line_99 X hr ht (by omega) (by omega) h hw (lv_sub hl [2, 0] rfl)
      · have h := h.2 c_40
        refine lv_iconst (v := 1) hx hb dX2_line_83 (by decide) ?_
        refine lv_istore_n (lv' := [(2, .int 1), (1, .ref b_29), (0, .ref a0)]) hx hb dX2_line_84 rfl hl (by decide) rfl (fun ls hl => ?_)
        refine lv_goto (tgt := 99) hx hb dX2_line_85 rfl ?_
        exact wX2_line_99 X hr ht (by omega) (by omega) h hw (lv_sub hl [2, 0] rfl)
    have h := h.2
    by_cases c_45 : r_32 = 110628691
    · refine lv_lookup (tgt := 60) hx hb dX2_line_25 (by decide) (by first | (rw [c_45]; done) | (rw [c_45]; rfl)) rfl ?_
      have h := h.1 c_45
      refine lv_aload_n hx hb dX2_line_60 rfl (lv_at hl 1 rfl) ?_
      refine va_ldcS (tx := "trick") hx hb hown (X.2.2.2.2.2.2.1.2.2.2.2.2.2.1 2 ("FifthCard$Reader", 115, "trick") rfl) dX2_line_61 ?_
      have hk_42 : kd u_33 b_29 = 21 ∨ kd u_33 b_29 = 201 := h.1
      have h := h.2
      refine g_callio hw (g_V X hw (mJ3_equals l G _ _ _ _ h) 1 (lw_V q800 q801 q802 q145 q803) rfl rfl ydJ3_equals ⟨Nat.le_of_ble_eq_true rfl, Nat.le_of_ble_eq_true rfl⟩ (g_recvS X hw hk_42) (As := [.ref (Glit G 2)]) (rest := []) rfl hl.1 rfl (Nat.le_of_ble_eq_true rfl) dX2_line_63 ⟨(by show _ ≤ MC; omega), (by show _ ≤ MS; omega)⟩) (fun r_43 H locs h hw => ?_)
      refine lv_if_eq (tgt := 99) hx hb dX2_line_66 rfl (fun c_44 => ?_) (fun c_44 => ?_)
      · have h := h.1 c_44
        exact wX2_line_99 X hr ht (by omega) (by omega) h hw (lv_sub hl [2, 0] rfl)
      · have h := h.2 c_44
        refine lv_iconst (v := 0) hx hb dX2_line_69 (by decide) ?_
        refine lv_istore_n (lv' := [(2, .int 0), (1, .ref b_29), (0, .ref a0)]) hx hb dX2_line_70 rfl hl (by decide) rfl (fun ls hl => ?_)
        refine lv_goto (tgt := 99) hx hb dX2_line_71 rfl ?_
        exact wX2_line_99 X hr ht (by omega) (by omega) h hw (lv_sub hl [2, 0] rfl)
    have h := h.2
    have h := h ⟨c_37, c_41, c_45⟩
    refine lv_lookup (tgt := 99) hx hb dX2_line_25 (by decide) (by first | (rw [lv_osw c_37 (by decide), lv_osw c_41 (by decide), lv_osw c_45 (by decide)]; done) | (rw [lv_osw c_37 (by decide), lv_osw c_41 (by decide), lv_osw c_45 (by decide)]; rfl)) rfl ?_
    exact wX2_line_99 X hr ht (by omega) (by omega) h hw (lv_sub hl [2, 0] rfl)
  · have h := h.2 c_51
    refine lv_aload_n hx hb dX2_line_8 rfl (lv_at hl 0 rfl) ?_
    refine lv_iconst (v := 1) hx hb dX2_line_9 (by decide) ?_
    refine g_callr hw (g_V X hw (mX2_fail l G _ _ _ _ h) 1 (lw_V q738 q740 qs7 q123 q741) rfl rfl ydX2_fail ⟨Nat.le_of_ble_eq_true rfl, Nat.le_of_ble_eq_true rfl⟩ (g_recv X hw (ci := 1) (q := (RX2, TX2, 11)) hk_28 rfl) (As := [.int 1]) (rest := []) rfl hl.1 rfl (Nat.le_of_ble_eq_true rfl) dX2_line_10 ⟨(by show _ ≤ MC; omega), (by show _ ≤ MS; omega)⟩) (fun o_46 u_47 H locs h hw => ?_)
    obtain ⟨b_48, e_49, h⟩ := h
    rw [e_49]
    show W _ _ _ _ _ _ _ _ _ _ _ _ _ _ _ (F0 _ _ _ (.ref _ :: _))
    have hk_50 : kd u_47 b_48 = 3 := h.1
    have h := h.2
    exact g_throw X ht hw hk_50 h (by omega) (by omega) dX2_line_13

/-! FifthCard$Reader.read(I)LFifthCard$Trick; -/
theorem ydX2_read : yX2_read.cls = "FifthCard$Reader" ∧ yX2_read.cls ≠ "java/lang/invoke/MethodHandle" ∧ yX2_read.cls ≠ "java/lang/invoke/VarHandle" ∧ (parseMethodDescriptor yX2_read.desc).map (fun d => d.parameters.length) = some 1 := by decide +kernel
def rmX2_read (mc ms : Nat) : Room := { frames := 10, cells := mc, slots := ms, locals := 232 }
set_option maxHeartbeats 4000000 in
theorem wX2_read_29 {G : GT} {p : Program} {l : Launch} {e : Env} {s : State} {m : MethodId} {args : Array Value} {below : List Frame} {meth : Method} {c : Code} {H : Heap} {locs : List Loc} {ls : Array Slot} {cells slots : Nat} {MC MS : Nat} {a0 : Nat} {u : Hp} {mc : Nat} {ms : Nat} {K : Option Nat → Hp → Prop} {E : Nat → Hp → Prop} (X : Mc G p s m args meth c RX2 cX2_read 2) (hr : meth.sig.returnType = (some (.object "FifthCard$Trick"))) (ht : ∀ x ∈ c.exceptionTable.toList, False) (hc1 : cells + mc ≤ MC) (hc2 : slots + ms ≤ MS) (h : jl3 (bX2_read_29 K E (Glit G) a0) u mc ms) (hw : GW G u s H locs) (hl : lv_has ls 2 [(0, .ref a0)]) : W p l e (rmX2_read MC MS) s m args below meth c H locs cells slots (TR G "FifthCard$Refused" below K E args s MC MS) (F0 m 29 ls []) := by
  obtain ⟨hx, hb, hml, hown, hts, -⟩ := id X
  obtain ⟨I, μ, h0, hs⟩ := h
  have key : ∀ (n : Nat) (u : Hp) (mc : Nat) (ms : Nat) (H : Heap) (locs : List Loc) (ls : Array Slot) (cells slots : Nat) , cells + mc ≤ MC → slots + ms ≤ MS → μ u mc ms < n → I u mc ms → GW G u s H locs → lv_has ls 2 [(0, .ref a0)] → W p l e (rmX2_read MC MS) s m args below meth c H locs cells slots (TR G "FifthCard$Refused" below K E args s MC MS) (F0 m 29 ls []) := by
    intro n
    induction n with
    | zero =>
      intro u mc ms H locs ls cells slots hc1 hc2 hn
      exact absurd hn (Nat.not_lt_zero _)
    | succ n ih =>
      intro u mc ms H locs ls cells slots hc1 hc2 hn hI hw hl
      have h := hs u mc ms hI
      unfold bX2_read_29 at h
      have hJ29 : ∀ (u' : Hp) (mc' : Nat) (ms' : Nat) (H : Heap) (locs : List Loc) (ls : Array Slot) (cells slots : Nat) , cells + mc' ≤ MC → slots + ms' ≤ MS → (I u' mc' ms' ∧ μ u' mc' ms' < μ u mc ms) → GW G u' s H locs → lv_has ls 2 [(0, .ref a0)] → W p l e (rmX2_read MC MS) s m args below meth c H locs cells slots (TR G "FifthCard$Refused" below K E args s MC MS) (F0 m 29 ls []) := fun u' mc' ms' H locs ls cells slots g1 g2 h hw hl => ih u' mc' ms' H locs ls cells slots g1 g2 (Nat.lt_of_lt_of_le h.2 (Nat.le_of_lt_succ hn)) h.1 hw hl
      refine lv_aload_n hx hb dX2_read_29 rfl (lv_at hl 0 rfl) ?_
      have hk_1 : kd u a0 = 2 := h.1
      have h := h.2
      refine g_getI X hw in_X2 hk_1 rfl 6 rfl (by decide) q250 (fun _ z => z) dX2_read_30 ?_
      refine lv_bipush (v := 59) hx hb dX2_read_33 (by decide) ?_
      refine lv_icmp_ne (tgt := 49) hx hb dX2_read_35 rfl (fun c_19 => ?_) (fun c_19 => ?_)
      · have h := h.2 c_19
        refine lv_aload_n hx hb dX2_read_49 rfl (lv_at hl 0 rfl) ?_
        refine g_getI X hw in_X2 hk_1 rfl 6 rfl (by decide) q250 (fun _ z => z) dX2_read_50 ?_
        refine lv_if_eq (tgt := 62) hx hb dX2_read_53 rfl (fun c_7 => ?_) (fun c_7 => ?_)
        · have h := h.1 c_7
          refine lv_aload_n hx hb dX2_read_62 rfl (lv_at hl 0 rfl) ?_
          refine g_getO X hw in_X2 hk_1 rfl 10 rfl (by decide) q254 (fun _ z => z) dX2_read_63 ?_
          exact vx_ret (g_aret X hw (v := FR u 210 a0) hr (Or.inl ⟨_, rfl⟩) h (by omega) (by omega) dX2_read_66)
        · have h := h.2 c_7
          refine lv_aload_n hx hb dX2_read_56 rfl (lv_at hl 0 rfl) ?_
          refine lv_iconst (v := 1) hx hb dX2_read_57 (by decide) ?_
          refine g_callr hw (g_V X hw (mX2_fail l G _ _ _ _ h) 1 (lw_V q738 q740 qs7 q123 q741) rfl rfl ydX2_fail ⟨Nat.le_of_ble_eq_true rfl, Nat.le_of_ble_eq_true rfl⟩ (g_recv X hw (ci := 1) (q := (RX2, TX2, 11)) hk_1 rfl) (As := [.int 1]) (rest := []) rfl hl.1 rfl (Nat.le_of_ble_eq_true rfl) dX2_read_58 ⟨(by show _ ≤ MC; omega), (by show _ ≤ MS; omega)⟩) (fun o_2 u_3 H locs h hw => ?_)
          obtain ⟨b_4, e_5, h⟩ := h
          rw [e_5]
          show W _ _ _ _ _ _ _ _ _ _ _ _ _ _ _ (F0 _ _ _ (.ref _ :: _))
          have hk_6 : kd u_3 b_4 = 3 := h.1
          have h := h.2
          exact g_throw X ht hw hk_6 h (by omega) (by omega) dX2_read_61
      · have h := h.1 c_19
        refine lv_aload_n hx hb dX2_read_38 rfl (lv_at hl 0 rfl) ?_
        obtain ⟨q_8, q_9, hq_10, hq_11, h⟩ := h
        refine g_callv hw (g_V X hw (mX2_next l G _ _ _ _ _ h) 0 (lw_V q640 q642 qs4 q123 q643) rfl rfl ydX2_next ⟨Nat.le_of_ble_eq_true rfl, Nat.le_of_ble_eq_true rfl⟩ (g_recv X hw (ci := 1) (q := (RX2, TX2, 11)) hk_1 rfl) (As := []) (rest := []) rfl hl.1 rfl (Nat.le_of_ble_eq_true rfl) dX2_read_39 ⟨(by show _ ≤ MC; omega), (by show _ ≤ MS; omega)⟩) (fun u_12 H locs h hw => ?_)
        refine lv_aload_n hx hb dX2_read_42 rfl (lv_at hl 0 rfl) ?_
        have hk_17 : kd u_12 a0 = 2 := h.1
        have h := h.2
        obtain ⟨q_13, q_14, hq_15, hq_16, h⟩ := h
        refine g_tcallv X ht hw (g_TV X hw (mX2_line l G _ _ _ _ _ _ h) 0 (lw_V q734 q736 qs6 q123 q737) rfl rfl ydX2_line ⟨Nat.le_of_ble_eq_true rfl, Nat.le_of_ble_eq_true rfl⟩ (g_recv X hw (ci := 1) (q := (RX2, TX2, 11)) hk_17 rfl) (As := []) (rest := []) rfl hl.1 rfl (Nat.le_of_ble_eq_true rfl) dX2_read_43 ⟨(by show _ ≤ MC; omega), (by show _ ≤ MS; omega)⟩) (by omega) (by omega) (fun u_18 H locs h hw => ?_)
        refine lv_goto (tgt := 29) hx hb dX2_read_46 rfl ?_
        exact hJ29 _ _ _ _ _ _ _ _ (by omega) (by omega) h hw (lv_sub hl [0] rfl)
  exact key _ _ _ _ _ _ _ _ _ hc1 hc2 (Nat.lt_succ_self _) h0 hw hl
set_option maxHeartbeats 4000000 in
theorem mX2_read (l : Launch) (G : GT) (u : Hp) (a0 : Nat) (x1 : Int32) (MC MS : Nat) (K : Option Nat → Hp → Prop) (E : Nat → Hp → Prop) (h : pX2_read (Glit G) u a0 x1 MC MS K E) : vx_Met l yX2_read (ws_ yX2_read cX2_read 2 (some (.object "FifthCard$Trick"))) (rmX2_read MC MS) (va_Pc [.ref a0, .int x1] (GB G u)) (va_Qq K (fun u t => GH G u t.heap) (GA G)) (XE G "FifthCard$Refused" E) MC MS (GA G) := by
  refine vx_ofW (cc := cX2_read) (maxL := 2) (ret := (some (.object "FifthCard$Trick"))) (by decide) rfl ?_
  intro p e s m args below meth c s₁ B hml ht hv
  obtain ⟨rfl, hv⟩ := hv
  have X := Mc_of (own := RX2) B hml rfl hv
  have hw : GW G u s s.heap [] := ⟨hv.2.1, va_S.rf⟩
  have hr := B.returns
  obtain ⟨hx, hb, hml, hown, hts, -⟩ := id X
  have hl := lv_entry ([.ref a0, .int x1]) (n := 2) (Nat.le_of_ble_eq_true rfl)
  rw [lg_entry_eq]
  generalize (lg_sl ([.ref a0, .int x1]) ++ List.replicate (2 - (lg_sl ([.ref a0, .int x1])).length) Slot.unset).toArray = ls at hl ⊢
  have hl : lv_has ls 2 [(0, .ref a0), (1, .int x1)] := hl
  change W p l e (rmX2_read MC MS) s m _ below meth c s.heap [] 0 0 (TR G "FifthCard$Refused" below K E _ s MC MS) (F0 m 0 ls [])
  unfold pX2_read at h
  have hc1 : 0 + MC ≤ MC := by omega
  have hc2 : 0 + MS ≤ MS := by omega
  refine lv_aload_n hx hb dX2_read_0 rfl (lv_at hl 0 rfl) ?_
  refine lv_iload_n hx hb dX2_read_1 rfl (lv_at hl 1 rfl) ?_
  have hk_20 : kd u a0 = 2 := h.1
  have h := h.2
  refine g_putI (v := x1) X hw in_X2 tyX2_ok nmX2 hk_20 rfl 4 rfl (by decide) q248 (fun _ z => z) rfl rfl rfl dX2_read_2 (fun H locs hw => ?_)
  refine lv_aload_n hx hb dX2_read_5 rfl (lv_at hl 0 rfl) ?_
  refine lv_iconst (v := 0) hx hb dX2_read_6 (by decide) ?_
  refine g_putI (v := 0) X hw in_X2 tyX2_ok nmX2 hk_20 rfl 5 rfl (by decide) q249 (fun _ z => z) rfl rfl rfl dX2_read_7 (fun H locs hw => ?_)
  refine lv_aload_n hx hb dX2_read_10 rfl (lv_at hl 0 rfl) ?_
  obtain ⟨hm_23, hm_24, h⟩ := h
  refine g_new X hw (T := TX20) (N := 13) in_X20 tyX20_ok (ci := 16) rfl df_X20 q550 q551 q144 (by show _ ≤ MC; omega) (by show _ ≤ MS; omega) dX2_read_11 (fun q_21 H hq_22 hw => ?_)
  have h := h q_21 hq_22
  have hk_25 : kd (mkC (sFI (sFI u 204 a0 x1) 205 a0 0) q_21 17 0) a0 = 2 := kd_mkC hk_20 hq_22 (by decide)
  have hk_26 : kd (mkC (sFI (sFI u 204 a0 x1) 205 a0 0) q_21 17 0) q_21 = 17 := hu1_eq
  refine lv_dup hx hb dX2_read_14 rfl ?_
  obtain ⟨q_27, q_28, hq_29, hq_30, h⟩ := h
  refine g_callv hw (g_IN X hw (mX20_init l G _ _ _ _ _ h) 0 q554 q144 (List.mem_of_getElem? (i := 27) rfl) q553 rfl rfl rfl ydX20_init ⟨Nat.le_of_ble_eq_true rfl, Nat.le_of_ble_eq_true rfl⟩ (As := []) (rest := [.ref q_21, .ref a0]) rfl hl.1 rfl (Nat.le_of_ble_eq_true rfl) dX2_read_15 ⟨(by show _ ≤ MC; omega), (by show _ ≤ MS; omega)⟩) (fun u_31 H locs h hw => ?_)
  have hk_32 : kd u_31 a0 = 2 := h.1
  have h := h.2
  refine g_putO (v := (some q_21)) X hw in_X2 tyX2_ok nmX2 hk_32 rfl 10 rfl (by decide) q254 (fun _ z => z) rfl rfl rfl dX2_read_18 (fun H locs hw => ?_)
  refine lv_aload_n hx hb dX2_read_21 rfl (lv_at hl 0 rfl) ?_
  obtain ⟨q_33, q_34, hq_35, hq_36, h⟩ := h
  refine g_callv hw (g_V X hw (mX2_next l G _ _ _ _ _ h) 0 (lw_V q640 q642 qs4 q123 q643) rfl rfl ydX2_next ⟨Nat.le_of_ble_eq_true rfl, Nat.le_of_ble_eq_true rfl⟩ (g_recv X hw (ci := 1) (q := (RX2, TX2, 11)) hk_32 rfl) (As := []) (rest := []) rfl hl.1 rfl (Nat.le_of_ble_eq_true rfl) dX2_read_22 ⟨(by show _ ≤ MC; omega), (by show _ ≤ MS; omega)⟩) (fun u_37 H locs h hw => ?_)
  refine lv_aload_n hx hb dX2_read_25 rfl (lv_at hl 0 rfl) ?_
  have hk_42 : kd u_37 a0 = 2 := h.1
  have h := h.2
  obtain ⟨q_38, q_39, hq_40, hq_41, h⟩ := h
  refine g_tcallv X ht hw (g_TV X hw (mX2_line l G _ _ _ _ _ _ h) 0 (lw_V q734 q736 qs6 q123 q737) rfl rfl ydX2_line ⟨Nat.le_of_ble_eq_true rfl, Nat.le_of_ble_eq_true rfl⟩ (g_recv X hw (ci := 1) (q := (RX2, TX2, 11)) hk_42 rfl) (As := []) (rest := []) rfl hl.1 rfl (Nat.le_of_ble_eq_true rfl) dX2_read_26 ⟨(by show _ ≤ MC; omega), (by show _ ≤ MS; omega)⟩) (by omega) (by omega) (fun u_43 H locs h hw => ?_)
  exact wX2_read_29 X hr ht (by omega) (by omega) h hw (lv_sub hl [0] rfl)

/-! FifthCard.trick(I)I -/
theorem ydX1_trick : yX1_trick.cls = "FifthCard" ∧ yX1_trick.cls ≠ "java/lang/invoke/MethodHandle" ∧ yX1_trick.cls ≠ "java/lang/invoke/VarHandle" ∧ (parseMethodDescriptor yX1_trick.desc).map (fun d => d.parameters.length) = some 1 := by decide +kernel
def rmX1_trick (mc ms : Nat) : Room := { frames := 11, cells := mc, slots := ms, locals := 253 }
set_option maxHeartbeats 4000000 in
theorem wX1_trick_142 {G : GT} {p : Program} {l : Launch} {e : Env} {s : State} {m : MethodId} {args : Array Value} {below : List Frame} {meth : Method} {c : Code} {H : Heap} {locs : List Loc} {ls : Array Slot} {cells slots : Nat} {MC MS : Nat} {a0 : Nat} {mc : Nat} {ms : Nat} {x2 : Int32} {u : Hp} {K : Int32 → Hp → Prop} (X : Mc G p s m args meth c RX1 cX1_trick 3) (hr : meth.sig.returnType = (some .int)) (htab : c.exceptionTable.toList = tableOf [((32 : Nat), (44 : Nat), (47 : Nat), (141 : Nat))]) (hc1 : cells + mc ≤ MC) (hc2 : slots + ms ≤ MS) (h : jl2 (bX1_trick_142 K (Glit G) a0 mc ms) x2 u) (hw : GW G u s H locs) (hl : lv_has ls 3 [(0, .ref a0), (2, .int x2)]) : W p l e (rmX1_trick MC MS) s m args below meth c H locs cells slots (QI G below K args s MC MS) (F0 m 142 ls []) := by
  obtain ⟨hx, hb, hml, hown, hts, -⟩ := id X
  obtain ⟨I, μ, h0, hs⟩ := h
  have key : ∀ (n : Nat) (x2 : Int32) (u : Hp) (H : Heap) (locs : List Loc) (ls : Array Slot) (cells slots : Nat) , cells + mc ≤ MC → slots + ms ≤ MS → μ x2 u < n → I x2 u → GW G u s H locs → lv_has ls 3 [(0, .ref a0), (2, .int x2)] → W p l e (rmX1_trick MC MS) s m args below meth c H locs cells slots (QI G below K args s MC MS) (F0 m 142 ls []) := by
    intro n
    induction n with
    | zero =>
      intro x2 u H locs ls cells slots hc1 hc2 hn
      exact absurd hn (Nat.not_lt_zero _)
    | succ n ih =>
      intro x2 u H locs ls cells slots hc1 hc2 hn hI hw hl
      have h := hs x2 u hI
      unfold bX1_trick_142 at h
      have hJ142 : ∀ (x2' : Int32) (u' : Hp) (H : Heap) (locs : List Loc) (ls : Array Slot) (cells slots : Nat) , cells + mc ≤ MC → slots + ms ≤ MS → (I x2' u' ∧ μ x2' u' < μ x2 u) → GW G u' s H locs → lv_has ls 3 [(0, .ref a0), (2, .int x2')] → W p l e (rmX1_trick MC MS) s m args below meth c H locs cells slots (QI G below K args s MC MS) (F0 m 142 ls []) := fun x2' u' H locs ls cells slots g1 g2 h hw hl => ih x2' u' H locs ls cells slots g1 g2 (Nat.lt_of_lt_of_le h.2 (Nat.le_of_lt_succ hn)) h.1 hw hl
      refine lv_iload_n hx hb dX1_trick_142 rfl (lv_at hl 1 rfl) ?_
      refine lv_aload_n hx hb dX1_trick_143 rfl (lv_at hl 0 rfl) ?_
      have hk_1 : kd u a0 = 1 := h.1
      have h := h.2
      obtain ⟨b_2, e_3, h⟩ := h
      refine g_getR X hw in_X1 hk_1 rfl 3 rfl (by decide) q476 (fun _ z => z) e_3 dX1_trick_144 ?_
      have hk_4 : kd u b_2 = 17 := h.1
      have h := h.2
      refine g_getI X hw in_X20 hk_4 rfl 8 rfl (by decide) q595 (fun _ z => z) dX1_trick_147 ?_
      refine lv_icmp_ge (tgt := 184) hx hb dX1_trick_150 rfl (fun c_15 => ?_) (fun c_15 => ?_)
      · have h := h.1 c_15
        refine lv_aload_n hx hb dX1_trick_184 rfl (lv_at hl 0 rfl) ?_
        refine lv_iconst (v := 0) hx hb dX1_trick_185 (by decide) ?_
        refine g_putI (v := 0) X hw in_X1 tyX1_ok nmX1 hk_1 rfl 7 rfl (by decide) q480 (fun _ z => z) rfl rfl rfl dX1_trick_186 (fun H locs hw => ?_)
        refine lv_aload_n hx hb dX1_trick_189 rfl (lv_at hl 0 rfl) ?_
        refine g_getR X hw in_X1 hk_1 rfl 3 rfl (by decide) q476 (fun _ z => z) e_3 dX1_trick_190 ?_
        refine g_getI X hw in_X20 hk_4 rfl 7 rfl (by decide) q593 (fun _ z => z) dX1_trick_193 ?_
        exact g_iret X hw hr h (by omega) (by omega) dX1_trick_196
      · have h := h.2 c_15
        refine lv_aload_n hx hb dX1_trick_153 rfl (lv_at hl 0 rfl) ?_
        obtain ⟨b_5, e_6, h⟩ := h
        refine g_getR X hw in_X1 hk_1 rfl 11 rfl (by decide) q484 (fun _ z => z) e_6 dX1_trick_154 ?_
        refine lv_aload_n hx hb dX1_trick_157 rfl (lv_at hl 0 rfl) ?_
        refine g_getR X hw in_X1 hk_1 rfl 3 rfl (by decide) q476 (fun _ z => z) e_3 dX1_trick_158 ?_
        obtain ⟨b_7, e_8, h⟩ := h
        refine g_getR X hw in_X20 hk_4 rfl 1 rfl (by decide) q561 (fun _ z => z) e_8 dX1_trick_161 ?_
        refine lv_iload_n hx hb dX1_trick_164 rfl (lv_at hl 1 rfl) ?_
        have hk_9 : kd u b_7 = 101 := h.1
        have h := h.2
        refine g_iald X hw hk_9 h.1 dX1_trick_165 ?_
        have h := h.2
        refine lv_aload_n hx hb dX1_trick_166 rfl (lv_at hl 0 rfl) ?_
        refine g_getR X hw in_X1 hk_1 rfl 3 rfl (by decide) q476 (fun _ z => z) e_3 dX1_trick_167 ?_
        obtain ⟨b_10, e_11, h⟩ := h
        refine g_getR X hw in_X20 hk_4 rfl 2 rfl (by decide) q564 (fun _ z => z) e_11 dX1_trick_170 ?_
        refine lv_iload_n hx hb dX1_trick_173 rfl (lv_at hl 1 rfl) ?_
        have hk_12 : kd u b_10 = 101 := h.1
        have h := h.2
        refine g_iald X hw hk_12 h.1 dX1_trick_174 ?_
        have h := h.2
        have hk_13 : kd u b_5 = 5 := h.1
        have h := h.2
        refine g_callv hw (g_V X hw (mX5_add l G _ _ _ _ _ h) 2 (lw_V q989 q990 q991 q129 q992) rfl rfl ydX5_add ⟨Nat.le_of_ble_eq_true rfl, Nat.le_of_ble_eq_true rfl⟩ (g_recv X hw (ci := 4) (q := (RX5, TX5, 4)) hk_13 rfl) (As := [.int (AI u b_7 (tn x2)), .int (AI u b_10 (tn x2))]) (rest := []) rfl hl.1 rfl (Nat.le_of_ble_eq_true rfl) dX1_trick_175 ⟨(by show _ ≤ MC; omega), (by show _ ≤ MS; omega)⟩) (fun u_14 H locs h hw => ?_)
        refine lv_iinc (v := x2 + 1) (lv' := [(2, .int (x2 + 1)), (0, .ref a0)]) hx hb dX1_trick_178 hl (k := 1) rfl rfl (by decide) rfl (fun ls hl => ?_)
        refine lv_goto (tgt := 142) hx hb dX1_trick_181 rfl ?_
        exact hJ142 _ _ _ _ _ _ _ (by omega) (by omega) h hw (lv_sub hl [1, 0] rfl)
  exact key _ _ _ _ _ _ _ _ hc1 hc2 (Nat.lt_succ_self _) h0 hw hl
set_option maxHeartbeats 4000000 in
theorem wX1_trick_102 {G : GT} {p : Program} {l : Launch} {e : Env} {s : State} {m : MethodId} {args : Array Value} {below : List Frame} {meth : Method} {c : Code} {H : Heap} {locs : List Loc} {ls : Array Slot} {cells slots : Nat} {MC MS : Nat} {a0 : Nat} {mc : Nat} {ms : Nat} {x2 : Int32} {u : Hp} {K : Int32 → Hp → Prop} (X : Mc G p s m args meth c RX1 cX1_trick 3) (hr : meth.sig.returnType = (some .int)) (htab : c.exceptionTable.toList = tableOf [((32 : Nat), (44 : Nat), (47 : Nat), (141 : Nat))]) (hc1 : cells + mc ≤ MC) (hc2 : slots + ms ≤ MS) (h : jl2 (bX1_trick_102 K (Glit G) a0 mc ms) x2 u) (hw : GW G u s H locs) (hl : lv_has ls 3 [(0, .ref a0), (2, .int x2)]) : W p l e (rmX1_trick MC MS) s m args below meth c H locs cells slots (QI G below K args s MC MS) (F0 m 102 ls []) := by
  obtain ⟨hx, hb, hml, hown, hts, -⟩ := id X
  obtain ⟨I, μ, h0, hs⟩ := h
  have key : ∀ (n : Nat) (x2 : Int32) (u : Hp) (H : Heap) (locs : List Loc) (ls : Array Slot) (cells slots : Nat) , cells + mc ≤ MC → slots + ms ≤ MS → μ x2 u < n → I x2 u → GW G u s H locs → lv_has ls 3 [(0, .ref a0), (2, .int x2)] → W p l e (rmX1_trick MC MS) s m args below meth c H locs cells slots (QI G below K args s MC MS) (F0 m 102 ls []) := by
    intro n
    induction n with
    | zero =>
      intro x2 u H locs ls cells slots hc1 hc2 hn
      exact absurd hn (Nat.not_lt_zero _)
    | succ n ih =>
      intro x2 u H locs ls cells slots hc1 hc2 hn hI hw hl
      have h := hs x2 u hI
      unfold bX1_trick_102 at h
      have hJ102 : ∀ (x2' : Int32) (u' : Hp) (H : Heap) (locs : List Loc) (ls : Array Slot) (cells slots : Nat) , cells + mc ≤ MC → slots + ms ≤ MS → (I x2' u' ∧ μ x2' u' < μ x2 u) → GW G u' s H locs → lv_has ls 3 [(0, .ref a0), (2, .int x2')] → W p l e (rmX1_trick MC MS) s m args below meth c H locs cells slots (QI G below K args s MC MS) (F0 m 102 ls []) := fun x2' u' H locs ls cells slots g1 g2 h hw hl => ih x2' u' H locs ls cells slots g1 g2 (Nat.lt_of_lt_of_le h.2 (Nat.le_of_lt_succ hn)) h.1 hw hl
      refine lv_iload_n hx hb dX1_trick_102 rfl (lv_at hl 1 rfl) ?_
      refine lv_bipush (v := 20) hx hb dX1_trick_103 (by decide) ?_
      refine lv_icmp_ge (tgt := 124) hx hb dX1_trick_105 rfl (fun c_28 => ?_) (fun c_28 => ?_)
      · have h := h.1 c_28
        refine lv_aload_n hx hb dX1_trick_124 rfl (lv_at hl 0 rfl) ?_
        have hk_16 : kd u a0 = 1 := h.1
        have h := h.2
        obtain ⟨b_17, e_18, h⟩ := h
        refine g_getR X hw in_X1 hk_16 rfl 11 rfl (by decide) q484 (fun _ z => z) e_18 dX1_trick_125 ?_
        refine lv_iconst (v := 0) hx hb dX1_trick_128 (by decide) ?_
        have hk_19 : kd u b_17 = 5 := h.1
        have h := h.2
        refine g_putI (v := 0) X hw in_X5 tyX5_ok nmX5 hk_19 rfl 2 rfl (by decide) q345 (fun _ z => z) rfl rfl rfl dX1_trick_129 (fun H locs hw => ?_)
        refine lv_aload_n hx hb dX1_trick_132 rfl (lv_at hl 0 rfl) ?_
        refine g_getR X hw in_X1 hk_16 rfl 11 rfl (by decide) q484 (fun _ z => z) e_18 dX1_trick_133 ?_
        refine lv_iconst (v := 0) hx hb dX1_trick_136 (by decide) ?_
        refine g_putI (v := 0) X hw in_X5 tyX5_ok nmX5 hk_19 rfl 3 rfl (by decide) q347 (fun _ z => z) rfl rfl rfl dX1_trick_137 (fun H locs hw => ?_)
        refine lv_iconst (v := 0) hx hb dX1_trick_140 (by decide) ?_
        refine lv_istore_n (lv' := [(2, .int 0), (0, .ref a0)]) hx hb dX1_trick_141 rfl hl (by decide) rfl (fun ls hl => ?_)
        exact wX1_trick_142 X hr htab (by omega) (by omega) h hw (lv_sub hl [1, 0] rfl)
      · have h := h.2 c_28
        refine lv_aload_n hx hb dX1_trick_108 rfl (lv_at hl 0 rfl) ?_
        have hk_20 : kd u a0 = 1 := h.1
        have h := h.2
        obtain ⟨b_21, e_22, h⟩ := h
        refine g_getR X hw in_X1 hk_20 rfl 10 rfl (by decide) q483 (fun _ z => z) e_22 dX1_trick_109 ?_
        refine lv_iload_n hx hb dX1_trick_112 rfl (lv_at hl 1 rfl) ?_
        have hk_23 : kd u b_21 = 106 ∨ kd u b_21 = 107 := h.1
        have h := h.2
        obtain ⟨hi_26, b_24, e_25, h⟩ := h
        refine g_aald X hw hk_23 hi_26 e_25 dX1_trick_113 ?_
        refine lv_iconst (v := 0) hx hb dX1_trick_114 (by decide) ?_
        have hk_27 : isRu (kd u b_24) := h.1
        have h := h.2
        refine g_putRu3I X hw hk_27 q451 rfl rfl dX1_trick_115 (fun H locs hw => ?_)
        refine lv_iinc (v := x2 + 1) (lv' := [(2, .int (x2 + 1)), (0, .ref a0)]) hx hb dX1_trick_118 hl (k := 1) rfl rfl (by decide) rfl (fun ls hl => ?_)
        refine lv_goto (tgt := 102) hx hb dX1_trick_121 rfl ?_
        exact hJ102 _ _ _ _ _ _ _ (by omega) (by omega) h hw (lv_sub hl [1, 0] rfl)
  exact key _ _ _ _ _ _ _ _ hc1 hc2 (Nat.lt_succ_self _) h0 hw hl
set_option maxHeartbeats 4000000 in
theorem mX1_trick (l : Launch) (G : GT) (u : Hp) (a0 : Nat) (x1 : Int32) (MC MS : Nat) (K : Int32 → Hp → Prop) (h : pX1_trick (Glit G) u a0 x1 MC MS K) : Met l yX1_trick (wsW_ yX1_trick cX1_trick 3 (some .int) [((32 : Nat), (44 : Nat), (47 : Nat), (141 : Nat))]) (rmX1_trick MC MS) (va_Pc [.ref a0, .int x1] (GB G u)) (va_Qi K (fun u t => GH G u t.heap) (GA G)) MC MS (GA G) := by
  refine Met_ofWH (cc := cX1_trick) (maxL := 3) (ret := (some .int)) (hh := [((32 : Nat), (44 : Nat), (47 : Nat), (141 : Nat))]) (by decide) rfl ?_
  intro p e s m args below meth c s₁ B hml hv
  obtain ⟨rfl, hv⟩ := hv
  have X := Mc_ofW (own := RX1) B hml rfl hv
  have hw : GW G u s s.heap [] := ⟨hv.2.1, va_S.rf⟩
  have hr := B.returns
  have htab := vx_table (x := yX1_trick) B (atoms_spec (ws := wsW_ yX1_trick cX1_trick 3 (some .int) [((32 : Nat), (44 : Nat), (47 : Nat), (141 : Nat))]) B.pre _ List.mem_cons_self)
  obtain ⟨hx, hb, hml, hown, hts, -⟩ := id X
  have hl := lv_entry ([.ref a0, .int x1]) (n := 3) (Nat.le_of_ble_eq_true rfl)
  rw [lg_entry_eq]
  generalize (lg_sl ([.ref a0, .int x1]) ++ List.replicate (3 - (lg_sl ([.ref a0, .int x1])).length) Slot.unset).toArray = ls at hl ⊢
  have hl : lv_has ls 3 [(0, .ref a0), (1, .int x1)] := hl
  change W p l e (rmX1_trick MC MS) s m _ below meth c s.heap [] 0 0 (QI G below K _ s MC MS) (F0 m 0 ls [])
  unfold pX1_trick at h
  have hc1 : 0 + MC ≤ MC := by omega
  have hc2 : 0 + MS ≤ MS := by omega
  refine lv_aload_n hx hb dX1_trick_0 rfl (lv_at hl 0 rfl) ?_
  have hk_29 : kd u a0 = 1 := h.1
  have h := h.2
  refine g_callv hw (g_V X hw (mX1_anew l G _ _ _ h) 0 (lw_V q535 q537 qs2 q122 q538) rfl rfl ydX1_anew ⟨Nat.le_of_ble_eq_true rfl, Nat.le_of_ble_eq_true rfl⟩ (g_recv X hw (ci := 0) (q := (RX1, TX1, 16)) hk_29 rfl) (As := []) (rest := []) rfl hl.1 rfl (Nat.le_of_ble_eq_true rfl) dX1_trick_1 ⟨(by show _ ≤ MC; omega), (by show _ ≤ MS; omega)⟩) (fun u_30 H locs h hw => ?_)
  refine lv_iload_n hx hb dX1_trick_4 rfl (lv_at hl 1 rfl) ?_
  refine lv_iconst (v := 0) hx hb dX1_trick_5 (by decide) ?_
  refine lv_aload_n hx hb dX1_trick_6 rfl (lv_at hl 0 rfl) ?_
  have hk_31 : kd u_30 a0 = 1 := h.1
  have h := h.2
  refine g_getI X hw in_X1 hk_31 rfl 1 rfl (by decide) q474 (fun _ z => z) dX1_trick_7 ?_
  refine g_callio hw (g_S X hw (mX1_in l G _ _ _ _ _ h) 3 (lw_S q539 q540 q122 q541) rfl rfl ydX1_in ⟨Nat.le_of_ble_eq_true rfl, Nat.le_of_ble_eq_true rfl⟩ (As := [.int x1, .int 0, .int (FI u_30 101 a0)]) (rest := []) rfl hl.1 rfl (Nat.le_of_ble_eq_true rfl) dX1_trick_10 ⟨(by show _ ≤ MC; omega), (by show _ ≤ MS; omega)⟩) (fun r_32 H locs h hw => ?_)
  refine lv_if_ne (tgt := 22) hx hb dX1_trick_13 rfl (fun c_59 => ?_) (fun c_59 => ?_)
  · have h := h.2 c_59
    refine lv_aload_n hx hb dX1_trick_22 rfl (lv_at hl 0 rfl) ?_
    refine lv_iconst (v := 0) hx hb dX1_trick_23 (by decide) ?_
    refine g_putI (v := 0) X hw in_X1 tyX1_ok nmX1 hk_31 rfl 1 rfl (by decide) q474 (fun _ z => z) rfl rfl rfl dX1_trick_24 (fun H locs hw => ?_)
    refine lv_aload_n hx hb dX1_trick_27 rfl (lv_at hl 0 rfl) ?_
    refine lv_iconst (v := 0) hx hb dX1_trick_28 (by decide) ?_
    refine g_putI (v := 0) X hw in_X1 tyX1_ok nmX1 hk_31 rfl 5 rfl (by decide) q478 (fun _ z => z) rfl rfl rfl dX1_trick_29 (fun H locs hw => ?_)
    refine lv_aload_n hx hb dX1_trick_32 rfl (lv_at hl 0 rfl) ?_
    refine lv_aload_n hx hb dX1_trick_33 rfl (lv_at hl 0 rfl) ?_
    obtain ⟨b_33, e_34, h⟩ := h
    refine g_getR X hw in_X1 hk_31 rfl 2 rfl (by decide) q475 (fun _ z => z) e_34 dX1_trick_34 ?_
    refine lv_iload_n hx hb dX1_trick_37 rfl (lv_at hl 1 rfl) ?_
    have hk_39 : kd u_30 b_33 = 2 := h.1
    have h := h.2
    obtain ⟨q_35, q_36, hq_37, hq_38, h⟩ := h
    refine g_ccallr X htab (by decide) (by decide) q534 (List.mem_of_getElem? (i := 5) rfl) hw (g_TV X hw (mX2_read l G _ _ _ _ _ _ _ h) 1 (lw_V q546 q547 q548 q123 q549) rfl rfl ydX2_read ⟨Nat.le_of_ble_eq_true rfl, Nat.le_of_ble_eq_true rfl⟩ (g_recv X hw (ci := 1) (q := (RX2, TX2, 11)) hk_39 rfl) (As := [.int x1]) (rest := [.ref a0]) rfl hl.1 rfl (Nat.le_of_ble_eq_true rfl) dX1_trick_38 ⟨(by show _ ≤ MC; omega), (by show _ ≤ MS; omega)⟩) (fun q_51 u_52 H locs h hw => ?_) (fun o_40 u_41 H locs h hw => ?_)
    · refine lv_astore_n (lv' := [(2, .ref q_51), (0, .ref a0), (1, .int x1)]) hx hb dX1_trick_47 rfl hl (by decide) rfl (fun ls hl => ?_)
      refine lv_aload_n hx hb dX1_trick_48 rfl (lv_at hl 1 rfl) ?_
      refine lv_aload_n hx hb dX1_trick_49 rfl (lv_at hl 0 rfl) ?_
      have hk_53 : kd u_52 q_51 = 3 := h.1
      have h := h.2
      refine g_getI X hw in_X3 hk_53 rfl 6 rfl (by decide) q223 (fun _ z => z) dX1_trick_50 ?_
      have hk_54 : kd u_52 a0 = 1 := h.1
      have h := h.2
      refine g_putI (v := FI u_52 306 q_51) X hw in_X1 tyX1_ok nmX1 hk_54 rfl 5 rfl (by decide) q478 (fun _ z => z) rfl rfl rfl dX1_trick_53 (fun H locs hw => ?_)
      refine lv_aload_n hx hb dX1_trick_56 rfl (lv_at hl 1 rfl) ?_
      refine lv_aload_n hx hb dX1_trick_57 rfl (lv_at hl 0 rfl) ?_
      refine g_getI X hw in_X3 hk_53 rfl 7 rfl (by decide) q225 (fun _ z => z) dX1_trick_58 ?_
      refine g_putI (v := FI (sFI u_52 105 a0 (FI u_52 306 q_51)) 307 q_51) X hw in_X1 tyX1_ok nmX1 hk_54 rfl 6 rfl (by decide) q479 (fun _ z => z) rfl rfl rfl dX1_trick_61 (fun H locs hw => ?_)
      refine lv_aload_n hx hb dX1_trick_64 rfl (lv_at hl 1 rfl) ?_
      refine lv_iconst (v := 4) hx hb dX1_trick_65 (by decide) ?_
      refine g_calli hw (g_V X hw (mX1_no l G _ _ _ _ h) 1 (lw_V q542 q544 qs3 q122 q545) rfl rfl ydX1_no ⟨Nat.le_of_ble_eq_true rfl, Nat.le_of_ble_eq_true rfl⟩ (g_recv X hw (ci := 0) (q := (RX1, TX1, 16)) hk_54 rfl) (As := [.int 4]) (rest := []) rfl hl.1 rfl (Nat.le_of_ble_eq_true rfl) dX1_trick_66 ⟨(by show _ ≤ MC; omega), (by show _ ≤ MS; omega)⟩) (fun r_55 u_56 H locs h hw => ?_)
      exact g_iret X hw hr h (by omega) (by omega) dX1_trick_69
    · obtain ⟨b_42, e_43, h⟩ := h
      rw [e_43]
      show W _ _ _ _ _ _ _ _ _ _ _ _ _ _ _ (F0 _ _ _ (.ref _ :: _))
      have hk_44 : kd u_41 a0 = 1 := h.1
      have h := h.2
      refine g_putO (v := (some b_42)) X hw in_X1 tyX1_ok nmX1 hk_44 rfl 3 rfl (by decide) q476 (fun _ z => z) rfl rfl rfl dX1_trick_41 (fun H locs hw => ?_)
      refine lv_goto (tgt := 70) hx hb dX1_trick_44 rfl ?_
      refine lv_aload_n hx hb dX1_trick_70 rfl (lv_at hl 0 rfl) ?_
      refine lv_aload_n hx hb dX1_trick_71 rfl (lv_at hl 0 rfl) ?_
      refine g_getR X hw in_X1 hk_44 rfl 3 rfl (by decide) q476 (fun _ z => z) hu2_eq dX1_trick_72 ?_
      refine lv_aload_n hx hb dX1_trick_75 rfl (lv_at hl 0 rfl) ?_
      refine g_getR X hw in_X1 hk_44 rfl 3 rfl (by decide) q476 (fun _ z => z) hu2_eq dX1_trick_76 ?_
      have hk_45 : kd u_41 b_42 = 17 := h.1
      have h := h.2
      refine g_getI X hw in_X20 hk_45 rfl 3 rfl (by decide) q572 (fun _ z => z) dX1_trick_79 ?_
      refine g_calllo hw (g_V X hw (mX20_hands l G _ _ _ _ h) 1 (lw_V q958 q844 q845 q144 q846) rfl rfl ydX20_hands ⟨Nat.le_of_ble_eq_true rfl, Nat.le_of_ble_eq_true rfl⟩ (g_recv X hw (ci := 16) (q := (RX20, TX20, 13)) hk_45 rfl) (As := [.int (FI u_41 2003 b_42)]) (rest := [.ref a0]) rfl hl.1 rfl (Nat.le_of_ble_eq_true rfl) dX1_trick_82 ⟨(by show _ ≤ MC; omega), (by show _ ≤ MS; omega)⟩) (fun r_46 H locs h hw => ?_)
      refine lv_l2i hx hb dX1_trick_85 rfl ?_
      refine g_putI (v := r_46.toInt32) X hw in_X1 tyX1_ok nmX1 hk_44 rfl 8 rfl (by decide) q481 (fun _ z => z) rfl rfl rfl dX1_trick_86 (fun H locs hw => ?_)
      refine lv_aload_n hx hb dX1_trick_89 rfl (lv_at hl 0 rfl) ?_
      obtain ⟨b_47, e_48, h⟩ := h
      refine g_getR X hw in_X1 hk_44 rfl 9 rfl (by decide) q482 (fun _ z => z) e_48 dX1_trick_90 ?_
      refine lv_aload_n hx hb dX1_trick_93 rfl (lv_at hl 0 rfl) ?_
      refine g_getR X hw in_X1 hk_44 rfl 3 rfl (by decide) q476 (fun _ z => z) hu2_eq dX1_trick_94 ?_
      have hk_49 : kd u_41 b_47 = 4 := h.1
      have h := h.2
      refine g_callv hw (g_V X hw (mX4_lay l G _ _ _ _ h) 1 (lw_V q959 q960 q961 q128 q962) rfl rfl ydX4_lay ⟨Nat.le_of_ble_eq_true rfl, Nat.le_of_ble_eq_true rfl⟩ (g_recv X hw (ci := 3) (q := (RX4, TX4, 14)) hk_49 rfl) (As := [.ref b_42]) (rest := []) rfl hl.1 rfl (Nat.le_of_ble_eq_true rfl) dX1_trick_97 ⟨(by show _ ≤ MC; omega), (by show _ ≤ MS; omega)⟩) (fun u_50 H locs h hw => ?_)
      refine lv_iconst (v := 0) hx hb dX1_trick_100 (by decide) ?_
      refine lv_istore_n (lv' := [(2, .int 0), (0, .ref a0), (1, .int x1)]) hx hb dX1_trick_101 rfl hl (by decide) rfl (fun ls hl => ?_)
      exact wX1_trick_102 X hr htab (by omega) (by omega) h hw (lv_sub hl [1, 0] rfl)
  · have h := h.1 c_59
    refine lv_aload_n hx hb dX1_trick_16 rfl (lv_at hl 0 rfl) ?_
    refine lv_iconst (v := 2) hx hb dX1_trick_17 (by decide) ?_
    refine g_calli hw (g_V X hw (mX1_no l G _ _ _ _ h) 1 (lw_V q542 q544 qs3 q122 q545) rfl rfl ydX1_no ⟨Nat.le_of_ble_eq_true rfl, Nat.le_of_ble_eq_true rfl⟩ (g_recv X hw (ci := 0) (q := (RX1, TX1, 16)) hk_31 rfl) (As := [.int 2]) (rest := []) rfl hl.1 rfl (Nat.le_of_ble_eq_true rfl) dX1_trick_18 ⟨(by show _ ≤ MC; omega), (by show _ ≤ MS; omega)⟩) (fun r_57 u_58 H locs h hw => ?_)
    exact g_iret X hw hr h (by omega) (by omega) dX1_trick_21

