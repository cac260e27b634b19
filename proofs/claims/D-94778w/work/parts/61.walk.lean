/-! printed by tools/genparts.py: the walks (m..): the machine runs as the predicates say -/
set_option maxRecDepth 100000
/-! FifthCard$Refused.at(II)LFifthCard$Refused; -/
theorem ydX3_at : yX3_at.cls = "FifthCard$Refused" ∧ yX3_at.cls ≠ "java/lang/invoke/MethodHandle" ∧ yX3_at.cls ≠ "java/lang/invoke/VarHandle" ∧ (parseMethodDescriptor yX3_at.desc).map (fun d => d.parameters.length) = some 2 := by decide +kernel
def rmX3_at (mc ms : Nat) : Room := { frames := 0, cells := mc, slots := ms, locals := 0 }
set_option maxHeartbeats 4000000 in
theorem mX3_at (l : Launch) (G : GT) (u : Hp) (a0 : Nat) (x1 : Int32) (x2 : Int32) (K : Option Nat → Hp → Prop) (h : pX3_at u a0 x1 x2 K) : Met l yX3_at (ws_ yX3_at cX3_at 3 (some (.object "FifthCard$Refused"))) (rmX3_at 0 0) (va_Pc [.ref a0, .int x1, .int x2] (GB G u)) (va_Qq K (fun u t => GH G u t.heap) (GA G)) 0 0 (GA G) := by
  refine Met.ofW (cc := cX3_at) (maxL := 3) (ret := (some (.object "FifthCard$Refused"))) (by decide) rfl ?_
  intro p e s m args below meth c s₁ B hml hv
  obtain ⟨rfl, hv⟩ := hv
  have X := Mc_of (own := RX3) B hml rfl hv
  have hw : GW G u s s.heap [] := ⟨hv.2.1, va_S.rf⟩
  have hr := B.returns
  obtain ⟨hx, hb, hml, hown, hts, -⟩ := id X
  have hl := lv_entry ([.ref a0, .int x1, .int x2]) (n := 3) (Nat.le_of_ble_eq_true rfl)
  rw [lg_entry_eq]
  generalize (lg_sl ([.ref a0, .int x1, .int x2]) ++ List.replicate (3 - (lg_sl ([.ref a0, .int x1, .int x2])).length) Slot.unset).toArray = ls at hl ⊢
  have hl : lv_has ls 3 [(0, .ref a0), (1, .int x1), (2, .int x2)] := hl
  change W p l e (rmX3_at 0 0) s m _ below meth c s.heap [] 0 0 (QR G below K _ s 0 0) (F0 m 0 ls [])
  unfold pX3_at at h
  refine lv_aload_n hx hb dX3_at_0 rfl (lv_at hl 0 rfl) ?_
  refine lv_iload_n hx hb dX3_at_1 rfl (lv_at hl 1 rfl) ?_
  have hk_1 : kd u a0 = 3 := h.1
  have h := h.2
  refine g_putI (v := x1) X hw in_X3 tyX3_ok nmX3 hk_1 rfl 6 rfl (by decide) q222 (fun _ z => z) rfl rfl rfl dX3_at_2 (fun H locs hw => ?_)
  refine lv_aload_n hx hb dX3_at_5 rfl (lv_at hl 0 rfl) ?_
  refine lv_iload_n hx hb dX3_at_6 rfl (lv_at hl 2 rfl) ?_
  refine g_putI (v := x2) X hw in_X3 tyX3_ok nmX3 hk_1 rfl 7 rfl (by decide) q224 (fun _ z => z) rfl rfl rfl dX3_at_7 (fun H locs hw => ?_)
  refine lv_aload_n hx hb dX3_at_10 rfl (lv_at hl 0 rfl) ?_
  exact g_aret X hw (v := (some a0)) hr (Or.inl ⟨_, rfl⟩) h (Nat.le_refl _) (Nat.le_refl _) dX3_at_11

/-! FifthCard$Reader.fail(I)LFifthCard$Refused; -/
theorem ydX2_fail : yX2_fail.cls = "FifthCard$Reader" ∧ yX2_fail.cls ≠ "java/lang/invoke/MethodHandle" ∧ yX2_fail.cls ≠ "java/lang/invoke/VarHandle" ∧ (parseMethodDescriptor yX2_fail.desc).map (fun d => d.parameters.length) = some 1 := by decide +kernel
def rmX2_fail (mc ms : Nat) : Room := { frames := 1, cells := mc, slots := ms, locals := 22 }
set_option maxHeartbeats 4000000 in
theorem mX2_fail (l : Launch) (G : GT) (u : Hp) (a0 : Nat) (x1 : Int32) (K : Option Nat → Hp → Prop) (h : pX2_fail u a0 x1 K) : Met l yX2_fail (ws_ yX2_fail cX2_fail 2 (some (.object "FifthCard$Refused"))) (rmX2_fail 0 0) (va_Pc [.ref a0, .int x1] (GB G u)) (va_Qq K (fun u t => GH G u t.heap) (GA G)) 0 0 (GA G) := by
  refine Met.ofW (cc := cX2_fail) (maxL := 2) (ret := (some (.object "FifthCard$Refused"))) (by decide) rfl ?_
  intro p e s m args below meth c s₁ B hml hv
  obtain ⟨rfl, hv⟩ := hv
  have X := Mc_of (own := RX2) B hml rfl hv
  have hw : GW G u s s.heap [] := ⟨hv.2.1, va_S.rf⟩
  have hr := B.returns
  obtain ⟨hx, hb, hml, hown, hts, -⟩ := id X
  have hl := lv_entry ([.ref a0, .int x1]) (n := 2) (Nat.le_of_ble_eq_true rfl)
  rw [lg_entry_eq]
  generalize (lg_sl ([.ref a0, .int x1]) ++ List.replicate (2 - (lg_sl ([.ref a0, .int x1])).length) Slot.unset).toArray = ls at hl ⊢
  have hl : lv_has ls 2 [(0, .ref a0), (1, .int x1)] := hl
  change W p l e (rmX2_fail 0 0) s m _ below meth c s.heap [] 0 0 (QR G below K _ s 0 0) (F0 m 0 ls [])
  unfold pX2_fail at h
  refine lv_aload_n hx hb dX2_fail_0 rfl (lv_at hl 0 rfl) ?_
  have hk_1 : kd u a0 = 2 := h.1
  have h := h.2
  obtain ⟨b_2, e_3, h⟩ := h
  refine g_getR X hw in_X2 hk_1 rfl 0 rfl (by decide) q244 (fun _ z => z) e_3 dX2_fail_1 ?_
  refine lv_iload_n hx hb dX2_fail_4 rfl (lv_at hl 1 rfl) ?_
  refine lv_aload_n hx hb dX2_fail_5 rfl (lv_at hl 0 rfl) ?_
  refine g_getI X hw in_X2 hk_1 rfl 7 rfl (by decide) q251 (fun _ z => z) dX2_fail_6 ?_
  have hk_4 : kd u b_2 = 3 := h.1
  have h := h.2
  refine g_callr hw (g_V X hw (mX3_at l G _ _ _ _ _ h) 2 (lw_V q742 q743 q744 q127 q745) rfl rfl ydX3_at ⟨Nat.le_of_ble_eq_true rfl, Nat.le_of_ble_eq_true rfl⟩ (g_recv X hw (ci := 2) (q := (RX3, TX3, 8)) hk_4 rfl) (As := [.int x1, .int (FI u 207 a0)]) (rest := []) rfl hl.1 rfl (Nat.le_of_ble_eq_true rfl) dX2_fail_9 ⟨Nat.le_refl _, Nat.le_refl _⟩) (fun o_5 u_6 H locs h hw => ?_)
  exact g_aret X hw (v := o_5) hr (Or.inl ⟨_, rfl⟩) h (Nat.le_refl _) (Nat.le_refl _) dX2_fail_12

/-! FifthCard$Reader.isWord(Ljava/lang/String;)Z -/
theorem ydX2_isWord : yX2_isWord.cls = "FifthCard$Reader" ∧ yX2_isWord.cls ≠ "java/lang/invoke/MethodHandle" ∧ yX2_isWord.cls ≠ "java/lang/invoke/VarHandle" ∧ (parseMethodDescriptor yX2_isWord.desc).map (fun d => d.parameters.length) = some 1 := by decide +kernel
def rmX2_isWord (mc ms : Nat) : Room := { frames := 2, cells := mc, slots := ms, locals := 44 }
set_option maxHeartbeats 4000000 in
theorem mX2_isWord (l : Launch) (G : GT) (u : Hp) (a0 : Nat) (a1 : Nat) (K : Int32 → Prop) (h : pX2_isWord u a0 a1 K) : Met l yX2_isWord (ws_ yX2_isWord cX2_isWord 2 (some .boolean)) (rmX2_isWord 0 0) (va_Pc [.ref a0, .ref a1] (GB G u)) (va_Qi (fun r v => v = u ∧ K r) (fun u t => GH G u t.heap) (GA G)) 0 0 (GA G) := by
  refine Met.ofW (cc := cX2_isWord) (maxL := 2) (ret := (some .boolean)) (by decide) rfl ?_
  intro p e s m args below meth c s₁ B hml hv
  obtain ⟨rfl, hv⟩ := hv
  have X := Mc_of (own := RX2) B hml rfl hv
  have hw : GW G u s s.heap [] := ⟨hv.2.1, va_S.rf⟩
  have hr := B.returns
  obtain ⟨hx, hb, hml, hown, hts, -⟩ := id X
  have hl := lv_entry ([.ref a0, .ref a1]) (n := 2) (Nat.le_of_ble_eq_true rfl)
  rw [lg_entry_eq]
  generalize (lg_sl ([.ref a0, .ref a1]) ++ List.replicate (2 - (lg_sl ([.ref a0, .ref a1])).length) Slot.unset).toArray = ls at hl ⊢
  have hl : lv_has ls 2 [(0, .ref a0), (1, .ref a1)] := hl
  change W p l e (rmX2_isWord 0 0) s m _ below meth c s.heap [] 0 0 (QI G below (fun r v => v = u ∧ K r) _ s 0 0) (F0 m 0 ls [])
  unfold pX2_isWord at h
  refine lv_aload_n hx hb dX2_isWord_0 rfl (lv_at hl 0 rfl) ?_
  have hk_1 : kd u a0 = 2 := h.1
  have h := h.2
  refine g_getI X hw in_X2 hk_1 rfl 6 rfl (by decide) q250 (fun _ z => z) dX2_isWord_1 ?_
  refine lv_iconst (v := 2) hx hb dX2_isWord_4 (by decide) ?_
  refine lv_icmp_ne (tgt := 23) hx hb dX2_isWord_5 rfl (fun c_7 => ?_) (fun c_7 => ?_)
  · have h := h.2 c_7
    refine lv_iconst (v := 0) hx hb dX2_isWord_23 (by decide) ?_
    exact g_zret X hw hr rfl ⟨rfl, h⟩ (Nat.le_refl _) (Nat.le_refl _) dX2_isWord_24
  · have h := h.1 c_7
    refine lv_aload_n hx hb dX2_isWord_8 rfl (lv_at hl 0 rfl) ?_
    obtain ⟨b_2, e_3, h⟩ := h
    refine g_getR X hw in_X2 hk_1 rfl 9 rfl (by decide) q253 (fun _ z => z) e_3 dX2_isWord_9 ?_
    refine lv_aload_n hx hb dX2_isWord_12 rfl (lv_at hl 1 rfl) ?_
    have hk_4 : kd u b_2 = 21 ∨ kd u b_2 = 201 := h.1
    have h := h.2
    refine g_callio hw (g_V X hw (mJ3_equals l G _ _ _ _ h) 1 (lw_V q800 q801 q802 q145 q803) rfl rfl ydJ3_equals ⟨Nat.le_of_ble_eq_true rfl, Nat.le_of_ble_eq_true rfl⟩ (g_recvS X hw hk_4) (As := [.ref a1]) (rest := []) rfl hl.1 rfl (Nat.le_of_ble_eq_true rfl) dX2_isWord_13 ⟨Nat.le_refl _, Nat.le_refl _⟩) (fun r_5 H locs h hw => ?_)
    refine lv_if_eq (tgt := 23) hx hb dX2_isWord_16 rfl (fun c_6 => ?_) (fun c_6 => ?_)
    · have h := h.1 c_6
      refine lv_iconst (v := 0) hx hb dX2_isWord_23 (by decide) ?_
      exact g_zret X hw hr rfl ⟨rfl, h⟩ (Nat.le_refl _) (Nat.le_refl _) dX2_isWord_24
    · have h := h.2 c_6
      refine lv_iconst (v := 1) hx hb dX2_isWord_19 (by decide) ?_
      refine lv_goto (tgt := 24) hx hb dX2_isWord_20 rfl ?_
      exact g_zret X hw hr rfl ⟨rfl, h⟩ (Nat.le_refl _) (Nat.le_refl _) dX2_isWord_24

/-! FifthCard$Reader.takes(Ljava/lang/String;)Z -/
theorem ydX2_takes : yX2_takes.cls = "FifthCard$Reader" ∧ yX2_takes.cls ≠ "java/lang/invoke/MethodHandle" ∧ yX2_takes.cls ≠ "java/lang/invoke/VarHandle" ∧ (parseMethodDescriptor yX2_takes.desc).map (fun d => d.parameters.length) = some 1 := by decide +kernel
def rmX2_takes (mc ms : Nat) : Room := { frames := 5, cells := mc, slots := ms, locals := 121 }
set_option maxHeartbeats 4000000 in
theorem mX2_takes (l : Launch) (G : GT) (u : Hp) (a0 : Nat) (a1 : Nat) (MC MS : Nat) (K : Int32 → Hp → Prop) (h : pX2_takes (Glit G) u a0 a1 MC MS K) : Met l yX2_takes (ws_ yX2_takes cX2_takes 2 (some .boolean)) (rmX2_takes MC MS) (va_Pc [.ref a0, .ref a1] (GB G u)) (va_Qi K (fun u t => GH G u t.heap) (GA G)) MC MS (GA G) := by
  refine Met.ofW (cc := cX2_takes) (maxL := 2) (ret := (some .boolean)) (by decide) rfl ?_
  intro p e s m args below meth c s₁ B hml hv
  obtain ⟨rfl, hv⟩ := hv
  have X := Mc_of (own := RX2) B hml rfl hv
  have hw : GW G u s s.heap [] := ⟨hv.2.1, va_S.rf⟩
  have hr := B.returns
  obtain ⟨hx, hb, hml, hown, hts, -⟩ := id X
  have hl := lv_entry ([.ref a0, .ref a1]) (n := 2) (Nat.le_of_ble_eq_true rfl)
  rw [lg_entry_eq]
  generalize (lg_sl ([.ref a0, .ref a1]) ++ List.replicate (2 - (lg_sl ([.ref a0, .ref a1])).length) Slot.unset).toArray = ls at hl ⊢
  have hl : lv_has ls 2 [(0, .ref a0), (1, .ref a1)] := hl
  change W p l e (rmX2_takes MC MS) s m _ below meth c s.heap [] 0 0 (QI G below K _ s MC MS) (F0 m 0 ls [])
  unfold pX2_takes at h
  have hc1 : 0 + MC ≤ MC := by omega
  have hc2 : 0 + MS ≤ MS := by omega
  refine lv_aload_n hx hb dX2_takes_0 rfl (lv_at hl 0 rfl) ?_
  refine lv_aload_n hx hb dX2_takes_1 rfl (lv_at hl 1 rfl) ?_
  have hk_1 : kd u a0 = 2 := h.1
  have h := h.2
  refine g_callio hw (g_V X hw (mX2_isWord l G _ _ _ _ h) 1 (lw_V q827 q829 qs12 q123 q830) rfl rfl ydX2_isWord ⟨Nat.le_of_ble_eq_true rfl, Nat.le_of_ble_eq_true rfl⟩ (g_recv X hw (ci := 1) (q := (RX2, TX2, 11)) hk_1 rfl) (As := [.ref a1]) (rest := []) rfl hl.1 rfl (Nat.le_of_ble_eq_true rfl) dX2_takes_2 ⟨(by show _ ≤ MC; omega), (by show _ ≤ MS; omega)⟩) (fun r_2 H locs h hw => ?_)
  refine lv_if_ne (tgt := 10) hx hb dX2_takes_5 rfl (fun c_8 => ?_) (fun c_8 => ?_)
  · have h := h.2 c_8
    refine lv_aload_n hx hb dX2_takes_10 rfl (lv_at hl 0 rfl) ?_
    obtain ⟨q_3, q_4, hq_5, hq_6, h⟩ := h
    refine g_callv hw (g_V X hw (mX2_next l G _ _ _ _ _ h) 0 (lw_V q640 q642 qs4 q123 q643) rfl rfl ydX2_next ⟨Nat.le_of_ble_eq_true rfl, Nat.le_of_ble_eq_true rfl⟩ (g_recv X hw (ci := 1) (q := (RX2, TX2, 11)) hk_1 rfl) (As := []) (rest := []) rfl hl.1 rfl (Nat.le_of_ble_eq_true rfl) dX2_takes_11 ⟨(by show _ ≤ MC; omega), (by show _ ≤ MS; omega)⟩) (fun u_7 H locs h hw => ?_)
    refine lv_iconst (v := 1) hx hb dX2_takes_14 (by decide) ?_
    exact g_zret X hw hr rfl h (by omega) (by omega) dX2_takes_15
  · have h := h.1 c_8
    refine lv_iconst (v := 0) hx hb dX2_takes_8 (by decide) ?_
    exact g_zret X hw hr rfl h (by omega) (by omega) dX2_takes_9

/-! FifthCard.falling(II)J -/
theorem ydX1_falling : yX1_falling.cls = "FifthCard" ∧ yX1_falling.cls ≠ "java/lang/invoke/MethodHandle" ∧ yX1_falling.cls ≠ "java/lang/invoke/VarHandle" ∧ (parseMethodDescriptor yX1_falling.desc).map (fun d => d.parameters.length) = some 2 := by decide +kernel
def rmX1_falling (mc ms : Nat) : Room := { frames := 0, cells := mc, slots := ms, locals := 0 }
set_option maxHeartbeats 4000000 in
theorem wX1_falling_5 {G : GT} {p : Program} {l : Launch} {e : Env} {s : State} {m : MethodId} {args : Array Value} {below : List Frame} {meth : Method} {c : Code} {H : Heap} {locs : List Loc} {ls : Array Slot} {u : Hp} {x0 : Int32} {x1 : Int32} {y2 : Int64} {x4 : Int32} {K : Int64 → Prop} (X : Mc G p s m args meth c RX1 cX1_falling 5) (hr : meth.sig.returnType = (some .long)) (h : jl2 (bX1_falling_5 K x0 x1) y2 x4) (hw : GW G u s H locs) (hl : lv_has ls 5 [(0, .int x0), (1, .int x1), (2, .long y2), (4, .int x4)]) : W p l e (rmX1_falling 0 0) s m args below meth c H locs 0 0 (QJ G below (fun r v => v = u ∧ K r) args s 0 0) (F0 m 5 ls []) := by
  obtain ⟨hx, hb, hml, hown, hts, -⟩ := id X
  obtain ⟨I, μ, h0, hs⟩ := h
  have key : ∀ (n : Nat) (y2 : Int64) (x4 : Int32) (H : Heap) (locs : List Loc) (ls : Array Slot) , μ y2 x4 < n → I y2 x4 → GW G u s H locs → lv_has ls 5 [(0, .int x0), (1, .int x1), (2, .long y2), (4, .int x4)] → W p l e (rmX1_falling 0 0) s m args below meth c H locs 0 0 (QJ G below (fun r v => v = u ∧ K r) args s 0 0) (F0 m 5 ls []) := by
    intro n
    induction n with
    | zero =>
      intro y2 x4 H locs ls hn
      exact absurd hn (Nat.not_lt_zero _)
    | succ n ih =>
      intro y2 x4 H locs ls hn hI hw hl
      have h := hs y2 x4 hI
      unfold bX1_falling_5 at h
      have hJ5 : ∀ (y2' : Int64) (x4' : Int32) (H : Heap) (locs : List Loc) (ls : Array Slot) , (I y2' x4' ∧ μ y2' x4' < μ y2 x4) → GW G u s H locs → lv_has ls 5 [(0, .int x0), (1, .int x1), (2, .long y2'), (4, .int x4')] → W p l e (rmX1_falling 0 0) s m args below meth c H locs 0 0 (QJ G below (fun r v => v = u ∧ K r) args s 0 0) (F0 m 5 ls []) := fun y2' x4' H locs ls h hw hl => ih y2' x4' H locs ls (Nat.lt_of_lt_of_le h.2 (Nat.le_of_lt_succ hn)) h.1 hw hl
      refine lv_iload hx hb dX1_falling_5 (lv_at hl 3 rfl) ?_
      refine lv_iload_n hx hb dX1_falling_7 rfl (lv_at hl 1 rfl) ?_
      refine lv_icmp_ge (tgt := 25) hx hb dX1_falling_8 rfl (fun c_1 => ?_) (fun c_1 => ?_)
      · have h := h.1 c_1
        refine lv_lload_n hx hb dX1_falling_25 rfl (lv_at hl 2 rfl) ?_
        exact g_lret X hw hr ⟨rfl, h⟩ (Nat.le_refl _) (Nat.le_refl _) dX1_falling_26
      · have h := h.2 c_1
        refine lv_lload_n hx hb dX1_falling_11 rfl (lv_at hl 2 rfl) ?_
        refine lv_iload_n hx hb dX1_falling_12 rfl (lv_at hl 0 rfl) ?_
        refine lv_iload hx hb dX1_falling_13 (lv_at hl 3 rfl) ?_
        refine lv_isub hx hb dX1_falling_15 ?_
        refine lv_i2l hx hb dX1_falling_16 rfl ?_
        refine lv_lmul hx hb dX1_falling_17 ?_
        refine lv_lstore_n (lv' := [(2, .long (y2 * ((x0 - x4).toInt64))), (0, .int x0), (1, .int x1), (4, .int x4)]) hx hb dX1_falling_18 rfl hl (by decide) rfl (fun ls hl => ?_)
        refine lv_iinc (v := x4 + 1) (lv' := [(4, .int (x4 + 1)), (2, .long (y2 * ((x0 - x4).toInt64))), (0, .int x0), (1, .int x1)]) hx hb dX1_falling_19 hl (k := 3) rfl rfl (by decide) rfl (fun ls hl => ?_)
        refine lv_goto (tgt := 5) hx hb dX1_falling_22 rfl ?_
        exact hJ5 _ _ _ _ _ h hw (lv_sub hl [2, 3, 1, 0] rfl)
  exact key _ _ _ _ _ _ (Nat.lt_succ_self _) h0 hw hl
set_option maxHeartbeats 4000000 in
theorem mX1_falling (l : Launch) (G : GT) (u : Hp) (x0 : Int32) (x1 : Int32) (K : Int64 → Prop) (h : pX1_falling x0 x1 K) : Met l yX1_falling (ws_ yX1_falling cX1_falling 5 (some .long)) (rmX1_falling 0 0) (va_Pc [.int x0, .int x1] (GB G u)) (va_Ql (fun r v => v = u ∧ K r) (fun u t => GH G u t.heap) (GA G)) 0 0 (GA G) := by
  refine Met.ofW (cc := cX1_falling) (maxL := 5) (ret := (some .long)) (by decide) rfl ?_
  intro p e s m args below meth c s₁ B hml hv
  obtain ⟨rfl, hv⟩ := hv
  have X := Mc_of (own := RX1) B hml rfl hv
  have hw : GW G u s s.heap [] := ⟨hv.2.1, va_S.rf⟩
  have hr := B.returns
  obtain ⟨hx, hb, hml, hown, hts, -⟩ := id X
  have hl := lv_entry ([.int x0, .int x1]) (n := 5) (Nat.le_of_ble_eq_true rfl)
  rw [lg_entry_eq]
  generalize (lg_sl ([.int x0, .int x1]) ++ List.replicate (5 - (lg_sl ([.int x0, .int x1])).length) Slot.unset).toArray = ls at hl ⊢
  have hl : lv_has ls 5 [(0, .int x0), (1, .int x1)] := hl
  change W p l e (rmX1_falling 0 0) s m _ below meth c s.heap [] 0 0 (QJ G below (fun r v => v = u ∧ K r) _ s 0 0) (F0 m 0 ls [])
  unfold pX1_falling at h
  refine lv_lconst (v := 1) hx hb dX1_falling_0 (by decide) ?_
  refine lv_lstore_n (lv' := [(2, .long 1), (0, .int x0), (1, .int x1)]) hx hb dX1_falling_1 rfl hl (by decide) rfl (fun ls hl => ?_)
  refine lv_iconst (v := 0) hx hb dX1_falling_2 (by decide) ?_
  refine lv_istore (lv' := [(4, .int 0), (2, .long 1), (0, .int x0), (1, .int x1)]) hx hb dX1_falling_3 hl (by decide) rfl (fun ls hl => ?_)
  exact wX1_falling_5 X hr  h hw (lv_sub hl [2, 3, 1, 0] rfl)

/-! FifthCard.factorial(I)I -/
theorem ydX1_factorial : yX1_factorial.cls = "FifthCard" ∧ yX1_factorial.cls ≠ "java/lang/invoke/MethodHandle" ∧ yX1_factorial.cls ≠ "java/lang/invoke/VarHandle" ∧ (parseMethodDescriptor yX1_factorial.desc).map (fun d => d.parameters.length) = some 1 := by decide +kernel
def rmX1_factorial (mc ms : Nat) : Room := { frames := 1, cells := mc, slots := ms, locals := 24 }
set_option maxHeartbeats 4000000 in
theorem mX1_factorial (l : Launch) (G : GT) (u : Hp) (x0 : Int32) (K : Int32 → Prop) (h : pX1_factorial x0 K) : Met l yX1_factorial (ws_ yX1_factorial cX1_factorial 1 (some .int)) (rmX1_factorial 0 0) (va_Pc [.int x0] (GB G u)) (va_Qi (fun r v => v = u ∧ K r) (fun u t => GH G u t.heap) (GA G)) 0 0 (GA G) := by
  refine Met.ofW (cc := cX1_factorial) (maxL := 1) (ret := (some .int)) (by decide) rfl ?_
  intro p e s m args below meth c s₁ B hml hv
  obtain ⟨rfl, hv⟩ := hv
  have X := Mc_of (own := RX1) B hml rfl hv
  have hw : GW G u s s.heap [] := ⟨hv.2.1, va_S.rf⟩
  have hr := B.returns
  obtain ⟨hx, hb, hml, hown, hts, -⟩ := id X
  have hl := lv_entry ([.int x0]) (n := 1) (Nat.le_of_ble_eq_true rfl)
  rw [lg_entry_eq]
  generalize (lg_sl ([.int x0]) ++ List.replicate (1 - (lg_sl ([.int x0])).length) Slot.unset).toArray = ls at hl ⊢
  have hl : lv_has ls 1 [(0, .int x0)] := hl
  change W p l e (rmX1_factorial 0 0) s m _ below meth c s.heap [] 0 0 (QI G below (fun r v => v = u ∧ K r) _ s 0 0) (F0 m 0 ls [])
  unfold pX1_factorial at h
  refine lv_iload_n hx hb dX1_factorial_0 rfl (lv_at hl 0 rfl) ?_
  refine lv_iload_n hx hb dX1_factorial_1 rfl (lv_at hl 0 rfl) ?_
  refine g_calllo hw (g_S X hw (mX1_falling l G _ _ _ _ h) 2 (lw_S q853 q848 q122 q849) rfl rfl ydX1_falling ⟨Nat.le_of_ble_eq_true rfl, Nat.le_of_ble_eq_true rfl⟩ (As := [.int x0, .int x0]) (rest := []) rfl hl.1 rfl (Nat.le_of_ble_eq_true rfl) dX1_factorial_2 ⟨Nat.le_refl _, Nat.le_refl _⟩) (fun r_1 H locs h hw => ?_)
  refine lv_l2i hx hb dX1_factorial_5 rfl ?_
  exact g_iret X hw hr ⟨rfl, h⟩ (Nat.le_refl _) (Nat.le_refl _) dX1_factorial_6

/-! FifthCard$Trick.hands(I)J -/
theorem ydX20_hands : yX20_hands.cls = "FifthCard$Trick" ∧ yX20_hands.cls ≠ "java/lang/invoke/MethodHandle" ∧ yX20_hands.cls ≠ "java/lang/invoke/VarHandle" ∧ (parseMethodDescriptor yX20_hands.desc).map (fun d => d.parameters.length) = some 1 := by decide +kernel
def rmX20_hands (mc ms : Nat) : Room := { frames := 2, cells := mc, slots := ms, locals := 44 }
set_option maxHeartbeats 4000000 in
theorem mX20_hands (l : Launch) (G : GT) (u : Hp) (a0 : Nat) (x1 : Int32) (K : Int64 → Prop) (h : pX20_hands u a0 x1 K) : Met l yX20_hands (ws_ yX20_hands cX20_hands 2 (some .long)) (rmX20_hands 0 0) (va_Pc [.ref a0, .int x1] (GB G u)) (va_Ql (fun r v => v = u ∧ K r) (fun u t => GH G u t.heap) (GA G)) 0 0 (GA G) := by
  refine Met.ofW (cc := cX20_hands) (maxL := 2) (ret := (some .long)) (by decide) rfl ?_
  intro p e s m args below meth c s₁ B hml hv
  obtain ⟨rfl, hv⟩ := hv
  have X := Mc_of (own := RX20) B hml rfl hv
  have hw : GW G u s s.heap [] := ⟨hv.2.1, va_S.rf⟩
  have hr := B.returns
  obtain ⟨hx, hb, hml, hown, hts, -⟩ := id X
  have hl := lv_entry ([.ref a0, .int x1]) (n := 2) (Nat.le_of_ble_eq_true rfl)
  rw [lg_entry_eq]
  generalize (lg_sl ([.ref a0, .int x1]) ++ List.replicate (2 - (lg_sl ([.ref a0, .int x1])).length) Slot.unset).toArray = ls at hl ⊢
  have hl : lv_has ls 2 [(0, .ref a0), (1, .int x1)] := hl
  change W p l e (rmX20_hands 0 0) s m _ below meth c s.heap [] 0 0 (QJ G below (fun r v => v = u ∧ K r) _ s 0 0) (F0 m 0 ls [])
  unfold pX20_hands at h
  refine lv_aload_n hx hb dX20_hands_0 rfl (lv_at hl 0 rfl) ?_
  have hk_1 : kd u a0 = 17 := h.1
  have h := h.2
  refine g_getI X hw in_X20 hk_1 rfl 9 rfl (by decide) q600 (fun _ z => z) dX20_hands_1 ?_
  refine lv_if_eq (tgt := 18) hx hb dX20_hands_4 rfl (fun c_5 => ?_) (fun c_5 => ?_)
  · have h := h.1 c_5
    refine lv_iload_n hx hb dX20_hands_18 rfl (lv_at hl 1 rfl) ?_
    refine lv_aload_n hx hb dX20_hands_19 rfl (lv_at hl 0 rfl) ?_
    refine g_getI X hw in_X20 hk_1 rfl 5 rfl (by decide) q576 (fun _ z => z) dX20_hands_20 ?_
    refine g_calllo hw (g_SN X hw (mX1_falling l G _ _ _ _ h) 2 q849 q122 (List.mem_of_getElem? (i := 38) rfl) q848 rfl rfl ydX1_falling ⟨Nat.le_of_ble_eq_true rfl, Nat.le_of_ble_eq_true rfl⟩ (As := [.int x1, .int (FI u 2005 a0)]) (rest := []) rfl hl.1 rfl (Nat.le_of_ble_eq_true rfl) dX20_hands_23 ⟨Nat.le_refl _, Nat.le_refl _⟩) (fun r_2 H locs h hw => ?_)
    refine lv_aload_n hx hb dX20_hands_26 rfl (lv_at hl 0 rfl) ?_
    refine g_getI X hw in_X20 hk_1 rfl 5 rfl (by decide) q576 (fun _ z => z) dX20_hands_27 ?_
    refine g_callio hw (g_SN X hw (mX1_factorial l G _ _ _ h) 1 q852 q122 (List.mem_of_getElem? (i := 39) rfl) q851 rfl rfl ydX1_factorial ⟨Nat.le_of_ble_eq_true rfl, Nat.le_of_ble_eq_true rfl⟩ (As := [.int (FI u 2005 a0)]) (rest := [.long r_2]) rfl hl.1 rfl (Nat.le_of_ble_eq_true rfl) dX20_hands_30 ⟨Nat.le_refl _, Nat.le_refl _⟩) (fun r_3 H locs h hw => ?_)
    refine lv_i2l hx hb dX20_hands_33 rfl ?_
    refine lv_ldiv hx hb dX20_hands_34 h.1 ?_
    have h := h.2
    exact g_lret X hw hr ⟨rfl, h⟩ (Nat.le_refl _) (Nat.le_refl _) dX20_hands_35
  · have h := h.2 c_5
    refine lv_iload_n hx hb dX20_hands_7 rfl (lv_at hl 1 rfl) ?_
    refine lv_aload_n hx hb dX20_hands_8 rfl (lv_at hl 0 rfl) ?_
    refine g_getI X hw in_X20 hk_1 rfl 5 rfl (by decide) q576 (fun _ z => z) dX20_hands_9 ?_
    refine g_calllo hw (g_SN X hw (mX1_falling l G _ _ _ _ h) 2 q849 q122 (List.mem_of_getElem? (i := 38) rfl) q848 rfl rfl ydX1_falling ⟨Nat.le_of_ble_eq_true rfl, Nat.le_of_ble_eq_true rfl⟩ (As := [.int x1, .int (FI u 2005 a0)]) (rest := []) rfl hl.1 rfl (Nat.le_of_ble_eq_true rfl) dX20_hands_12 ⟨Nat.le_refl _, Nat.le_refl _⟩) (fun r_4 H locs h hw => ?_)
    refine lv_goto (tgt := 35) hx hb dX20_hands_15 rfl ?_
    exact g_lret X hw hr ⟨rfl, h⟩ (Nat.le_refl _) (Nat.le_refl _) dX20_hands_35

/-! FifthCard$Trick.isTold(Ljava/lang/String;)Z -/
theorem ydX20_isTold : yX20_isTold.cls = "FifthCard$Trick" ∧ yX20_isTold.cls ≠ "java/lang/invoke/MethodHandle" ∧ yX20_isTold.cls ≠ "java/lang/invoke/VarHandle" ∧ (parseMethodDescriptor yX20_isTold.desc).map (fun d => d.parameters.length) = some 1 := by decide +kernel
def rmX20_isTold (mc ms : Nat) : Room := { frames := 2, cells := mc, slots := ms, locals := 44 }
set_option maxHeartbeats 4000000 in
theorem wX20_isTold_4 {G : GT} {p : Program} {l : Launch} {e : Env} {s : State} {m : MethodId} {args : Array Value} {below : List Frame} {meth : Method} {c : Code} {H : Heap} {locs : List Loc} {ls : Array Slot} {a0 : Nat} {a1 : Nat} {u : Hp} {x2 : Int32} {x3 : Int32} {K : Int32 → Prop} (X : Mc G p s m args meth c RX20 cX20_isTold 4) (hr : meth.sig.returnType = (some .boolean)) (h : jl2 (bX20_isTold_4 K a0 a1 u) x2 x3) (hw : GW G u s H locs) (hl : lv_has ls 4 [(0, .ref a0), (1, .ref a1), (2, .int x2), (3, .int x3)]) : W p l e (rmX20_isTold 0 0) s m args below meth c H locs 0 0 (QI G below (fun r v => v = u ∧ K r) args s 0 0) (F0 m 4 ls []) := by
  obtain ⟨hx, hb, hml, hown, hts, -⟩ := id X
  obtain ⟨I, μ, h0, hs⟩ := h
  have key : ∀ (n : Nat) (x2 : Int32) (x3 : Int32) (H : Heap) (locs : List Loc) (ls : Array Slot) , μ x2 x3 < n → I x2 x3 → GW G u s H locs → lv_has ls 4 [(0, .ref a0), (1, .ref a1), (2, .int x2), (3, .int x3)] → W p l e (rmX20_isTold 0 0) s m args below meth c H locs 0 0 (QI G below (fun r v => v = u ∧ K r) args s 0 0) (F0 m 4 ls []) := by
    intro n
    induction n with
    | zero =>
      intro x2 x3 H locs ls hn
      exact absurd hn (Nat.not_lt_zero _)
    | succ n ih =>
      intro x2 x3 H locs ls hn hI hw hl
      have h := hs x2 x3 hI
      unfold bX20_isTold_4 at h
      have hJ4 : ∀ (x2' : Int32) (x3' : Int32) (H : Heap) (locs : List Loc) (ls : Array Slot) , (I x2' x3' ∧ μ x2' x3' < μ x2 x3) → GW G u s H locs → lv_has ls 4 [(0, .ref a0), (1, .ref a1), (2, .int x2'), (3, .int x3')] → W p l e (rmX20_isTold 0 0) s m args below meth c H locs 0 0 (QI G below (fun r v => v = u ∧ K r) args s 0 0) (F0 m 4 ls []) := fun x2' x3' H locs ls h hw hl => ih x2' x3' H locs ls (Nat.lt_of_lt_of_le h.2 (Nat.le_of_lt_succ hn)) h.1 hw hl
      refine lv_iload_n hx hb dX20_isTold_4 rfl (lv_at hl 3 rfl) ?_
      refine lv_aload_n hx hb dX20_isTold_5 rfl (lv_at hl 0 rfl) ?_
      have hk_1 : kd u a0 = 17 := h.1
      have h := h.2
      refine g_getI X hw in_X20 hk_1 rfl 7 rfl (by decide) q592 (fun _ z => z) dX20_isTold_6 ?_
      refine lv_icmp_ge (tgt := 44) hx hb dX20_isTold_9 rfl (fun c_15 => ?_) (fun c_15 => ?_)
      · have h := h.1 c_15
        refine lv_iload_n hx hb dX20_isTold_44 rfl (lv_at hl 2 rfl) ?_
        exact g_zret X hw hr h.1 ⟨rfl, h.2⟩ (Nat.le_refl _) (Nat.le_refl _) dX20_isTold_45
      · have h := h.2 c_15
        refine lv_iload_n hx hb dX20_isTold_12 rfl (lv_at hl 2 rfl) ?_
        refine lv_if_ne (tgt := 32) hx hb dX20_isTold_13 rfl (fun c_14 => ?_) (fun c_14 => ?_)
        · have h := h.2 c_14
          refine lv_iconst (v := 1) hx hb dX20_isTold_32 (by decide) ?_
          refine lv_goto (tgt := 37) hx hb dX20_isTold_33 rfl ?_
          refine lv_istore_n (lv' := [(2, .int 1), (0, .ref a0), (1, .ref a1), (3, .int x3)]) hx hb dX20_isTold_37 rfl hl (by decide) rfl (fun ls hl => ?_)
          refine lv_iinc (v := x3 + 1) (lv' := [(3, .int (x3 + 1)), (2, .int 1), (0, .ref a0), (1, .ref a1)]) hx hb dX20_isTold_38 hl (k := 3) rfl rfl (by decide) rfl (fun ls hl => ?_)
          refine lv_goto (tgt := 4) hx hb dX20_isTold_41 rfl ?_
          exact hJ4 _ _ _ _ _ h hw (lv_sub hl [2, 3, 1, 0] rfl)
        · have h := h.1 c_14
          refine lv_aload_n hx hb dX20_isTold_16 rfl (lv_at hl 0 rfl) ?_
          obtain ⟨b_2, e_3, h⟩ := h
          refine g_getR X hw in_X20 hk_1 rfl 0 rfl (by decide) q557 (fun _ z => z) e_3 dX20_isTold_17 ?_
          refine lv_iload_n hx hb dX20_isTold_20 rfl (lv_at hl 3 rfl) ?_
          have hk_4 : kd u b_2 = 106 ∨ kd u b_2 = 107 := h.1
          have h := h.2
          obtain ⟨hi_7, b_5, e_6, h⟩ := h
          refine g_aald X hw hk_4 hi_7 e_6 dX20_isTold_21 ?_
          have hk_8 : isRu (kd u b_5) := h.1
          have h := h.2
          obtain ⟨b_9, e_10, h⟩ := h
          refine g_getRu0R X hw hk_8 q447 e_10 dX20_isTold_22 ?_
          refine lv_aload_n hx hb dX20_isTold_25 rfl (lv_at hl 1 rfl) ?_
          have hk_11 : kd u b_9 = 21 ∨ kd u b_9 = 201 := h.1
          have h := h.2
          refine g_callio hw (g_V X hw (mJ3_equals l G _ _ _ _ h) 1 (lw_V q875 q801 q802 q145 q803) rfl rfl ydJ3_equals ⟨Nat.le_of_ble_eq_true rfl, Nat.le_of_ble_eq_true rfl⟩ (g_recvS X hw hk_11) (As := [.ref a1]) (rest := []) rfl hl.1 rfl (Nat.le_of_ble_eq_true rfl) dX20_isTold_26 ⟨Nat.le_refl _, Nat.le_refl _⟩) (fun r_12 H locs h hw => ?_)
          refine lv_if_eq (tgt := 36) hx hb dX20_isTold_29 rfl (fun c_13 => ?_) (fun c_13 => ?_)
          · have h := h.1 c_13
            refine lv_iconst (v := 0) hx hb dX20_isTold_36 (by decide) ?_
            refine lv_istore_n (lv' := [(2, .int 0), (0, .ref a0), (1, .ref a1), (3, .int x3)]) hx hb dX20_isTold_37 rfl hl (by decide) rfl (fun ls hl => ?_)
            refine lv_iinc (v := x3 + 1) (lv' := [(3, .int (x3 + 1)), (2, .int 0), (0, .ref a0), (1, .ref a1)]) hx hb dX20_isTold_38 hl (k := 3) rfl rfl (by decide) rfl (fun ls hl => ?_)
            refine lv_goto (tgt := 4) hx hb dX20_isTold_41 rfl ?_
            exact hJ4 _ _ _ _ _ h hw (lv_sub hl [2, 3, 1, 0] rfl)
          · have h := h.2 c_13
            refine lv_iconst (v := 1) hx hb dX20_isTold_32 (by decide) ?_
            refine lv_goto (tgt := 37) hx hb dX20_isTold_33 rfl ?_
            refine lv_istore_n (lv' := [(2, .int 1), (0, .ref a0), (1, .ref a1), (3, .int x3)]) hx hb dX20_isTold_37 rfl hl (by decide) rfl (fun ls hl => ?_)
            refine lv_iinc (v := x3 + 1) (lv' := [(3, .int (x3 + 1)), (2, .int 1), (0, .ref a0), (1, .ref a1)]) hx hb dX20_isTold_38 hl (k := 3) rfl rfl (by decide) rfl (fun ls hl => ?_)
            refine lv_goto (tgt := 4) hx hb dX20_isTold_41 rfl ?_
            exact hJ4 _ _ _ _ _ h hw (lv_sub hl [2, 3, 1, 0] rfl)
  exact key _ _ _ _ _ _ (Nat.lt_succ_self _) h0 hw hl
set_option maxHeartbeats 4000000 in
theorem mX20_isTold (l : Launch) (G : GT) (u : Hp) (a0 : Nat) (a1 : Nat) (K : Int32 → Prop) (h : pX20_isTold u a0 a1 K) : Met l yX20_isTold (ws_ yX20_isTold cX20_isTold 4 (some .boolean)) (rmX20_isTold 0 0) (va_Pc [.ref a0, .ref a1] (GB G u)) (va_Qi (fun r v => v = u ∧ K r) (fun u t => GH G u t.heap) (GA G)) 0 0 (GA G) := by
  refine Met.ofW (cc := cX20_isTold) (maxL := 4) (ret := (some .boolean)) (by decide) rfl ?_
  intro p e s m args below meth c s₁ B hml hv
  obtain ⟨rfl, hv⟩ := hv
  have X := Mc_of (own := RX20) B hml rfl hv
  have hw : GW G u s s.heap [] := ⟨hv.2.1, va_S.rf⟩
  have hr := B.returns
  obtain ⟨hx, hb, hml, hown, hts, -⟩ := id X
  have hl := lv_entry ([.ref a0, .ref a1]) (n := 4) (Nat.le_of_ble_eq_true rfl)
  rw [lg_entry_eq]
  generalize (lg_sl ([.ref a0, .ref a1]) ++ List.replicate (4 - (lg_sl ([.ref a0, .ref a1])).length) Slot.unset).toArray = ls at hl ⊢
  have hl : lv_has ls 4 [(0, .ref a0), (1, .ref a1)] := hl
  change W p l e (rmX20_isTold 0 0) s m _ below meth c s.heap [] 0 0 (QI G below (fun r v => v = u ∧ K r) _ s 0 0) (F0 m 0 ls [])
  unfold pX20_isTold at h
  refine lv_iconst (v := 0) hx hb dX20_isTold_0 (by decide) ?_
  refine lv_istore_n (lv' := [(2, .int 0), (0, .ref a0), (1, .ref a1)]) hx hb dX20_isTold_1 rfl hl (by decide) rfl (fun ls hl => ?_)
  refine lv_iconst (v := 0) hx hb dX20_isTold_2 (by decide) ?_
  refine lv_istore_n (lv' := [(3, .int 0), (2, .int 0), (0, .ref a0), (1, .ref a1)]) hx hb dX20_isTold_3 rfl hl (by decide) rfl (fun ls hl => ?_)
  exact wX20_isTold_4 X hr  h hw (lv_sub hl [2, 3, 1, 0] rfl)

/-! FifthCard$Suited.<init>(Ljava/lang/String;I)V -/
theorem ydX21_init : yX21_init.cls = "FifthCard$Suited" ∧ yX21_init.cls ≠ "java/lang/invoke/MethodHandle" ∧ yX21_init.cls ≠ "java/lang/invoke/VarHandle" ∧ (parseMethodDescriptor yX21_init.desc).map (fun d => d.parameters.length) = some 2 := by decide +kernel
def rmX21_init (mc ms : Nat) : Room := { frames := 2, cells := mc, slots := ms, locals := 42 }
set_option maxHeartbeats 4000000 in
theorem mX21_init (l : Launch) (G : GT) (u : Hp) (a0 : Nat) (a1 : Nat) (x2 : Int32) (MC MS : Nat) (K : Hp → Prop) (h : pX21_init u a0 a1 x2 MC MS K) : Met l yX21_init (ws_ yX21_init cX21_init 3 none) (rmX21_init MC MS) (va_Pc [.ref a0, .ref a1, .int x2] (GB G u)) (va_Qv K (fun u t => GH G u t.heap) (GA G)) MC MS (GA G) := by
  refine Met.ofW (cc := cX21_init) (maxL := 3) (ret := none) (by decide) rfl ?_
  intro p e s m args below meth c s₁ B hml hv
  obtain ⟨rfl, hv⟩ := hv
  have X := Mc_of (own := RX21) B hml rfl hv
  have hw : GW G u s s.heap [] := ⟨hv.2.1, va_S.rf⟩
  have hr := B.returns
  have hin : meth.name = "<init>" := (name_of_methodNamed B.named B.method).1
  obtain ⟨hx, hb, hml, hown, hts, -⟩ := id X
  have hl := lv_entry ([.ref a0, .ref a1, .int x2]) (n := 3) (Nat.le_of_ble_eq_true rfl)
  rw [lg_entry_eq]
  generalize (lg_sl ([.ref a0, .ref a1, .int x2]) ++ List.replicate (3 - (lg_sl ([.ref a0, .ref a1, .int x2])).length) Slot.unset).toArray = ls at hl ⊢
  have hl : lv_has ls 3 [(0, .ref a0), (1, .ref a1), (2, .int x2)] := hl
  change W p l e (rmX21_init MC MS) s m _ below meth c s.heap [] 0 0 (QV G below K _ s MC MS) (F0 m 0 ls [])
  unfold pX21_init at h
  have hc1 : 0 + MC ≤ MC := by omega
  have hc2 : 0 + MS ≤ MS := by omega
  refine lv_aload_n hx hb dX21_init_0 rfl (lv_at hl 0 rfl) ?_
  refine lv_aload_n hx hb dX21_init_1 rfl (lv_at hl 1 rfl) ?_
  refine lv_iload_n hx hb dX21_init_2 rfl (lv_at hl 2 rfl) ?_
  obtain ⟨q_1, q_2, hq_3, hq_4, h⟩ := h
  refine g_callv hw (g_I X hw (mX17_init l G _ _ _ _ _ _ _ h) 2 q438 q141 q886 q437 rfl rfl rfl ydX17_init ⟨Nat.le_of_ble_eq_true rfl, Nat.le_of_ble_eq_true rfl⟩ (As := [.ref a1, .int x2]) (rest := []) rfl hl.1 rfl (Nat.le_of_ble_eq_true rfl) dX21_init_3 ⟨(by show _ ≤ MC; omega), (by show _ ≤ MS; omega)⟩) (fun u_5 H locs h hw => ?_)
  refine lv_aload_n hx hb dX21_init_6 rfl (lv_at hl 0 rfl) ?_
  refine lv_iconst (v := 5) hx hb dX21_init_7 (by decide) ?_
  obtain ⟨hm_8, hm_9, h⟩ := h
  refine g_newI X hw q279 (N' := 5) (by decide) (by decide) (by decide) (by show _ ≤ MC; omega) (by show _ ≤ MS; omega) dX21_init_8 (fun q_6 H hq_7 hw => ?_)
  have h := h q_6 hq_7
  have hk_10 : kd (mkC u_5 q_6 101 5) q_6 = 101 := hu1_eq
  have hk_11 : kd (mkC u_5 q_6 101 5) a0 = 18 := h.1
  have h := h.2
  refine g_putFO (v := (some q_6)) X hin hw in_X21 tyX21_ok nmX21 hk_11 rfl 4 rfl (by decide) q887 (fun _ z => z) rfl rfl rfl rfl dX21_init_10 (fun H locs hw => ?_)
  refine lv_aload_n hx hb dX21_init_13 rfl (lv_at hl 0 rfl) ?_
  refine lv_iconst (v := 5) hx hb dX21_init_14 (by decide) ?_
  obtain ⟨hm_14, hm_15, h⟩ := h
  refine g_newI X hw q279 (N' := 5) (by decide) (by decide) (by decide) (by show _ ≤ MC; omega) (by show _ ≤ MS; omega) dX21_init_15 (fun q_12 H hq_13 hw => ?_)
  have h := h q_12 hq_13
  have hk_16 : kd (mkC (sFR (mkC u_5 q_6 101 5) 2104 a0 (some q_6)) q_12 101 5) q_6 = 101 := kd_mkC hk_10 hq_13 (by decide)
  have hk_17 : kd (mkC (sFR (mkC u_5 q_6 101 5) 2104 a0 (some q_6)) q_12 101 5) a0 = 18 := kd_mkC hk_11 hq_13 (by decide)
  have hk_18 : kd (mkC (sFR (mkC u_5 q_6 101 5) 2104 a0 (some q_6)) q_12 101 5) q_12 = 101 := hu1_eq
  obtain ⟨u_19, e_20⟩ : ∃ v : Hp, v = (mkC (sFR (mkC u_5 q_6 101 5) 2104 a0 (some q_6)) q_12 101 5) := ⟨_, rfl⟩
  have h := h u_19 e_20
  have hw : GW G u_19 s H locs := by rw [e_20]; exact hw
  have hk_21 : kd u_19 q_6 = 101 := by rw [e_20]; exact hk_16
  have hk_22 : kd u_19 a0 = 18 := by rw [e_20]; exact hk_17
  have hk_23 : kd u_19 q_12 = 101 := by rw [e_20]; exact hk_18
  refine g_putFO (v := (some q_12)) X hin hw in_X21 tyX21_ok nmX21 hk_22 rfl 5 rfl (by decide) q888 (fun _ z => z) rfl rfl rfl rfl dX21_init_17 (fun H locs hw => ?_)
  exact g_vret X hw hr h (by omega) (by omega) dX21_init_20

/-! FifthCard$Tabled.<init>(Ljava/lang/String;I)V -/
theorem ydX22_init : yX22_init.cls = "FifthCard$Tabled" ∧ yX22_init.cls ≠ "java/lang/invoke/MethodHandle" ∧ yX22_init.cls ≠ "java/lang/invoke/VarHandle" ∧ (parseMethodDescriptor yX22_init.desc).map (fun d => d.parameters.length) = some 2 := by decide +kernel
def rmX22_init (mc ms : Nat) : Room := { frames := 2, cells := mc, slots := ms, locals := 42 }
set_option maxHeartbeats 4000000 in
theorem mX22_init (l : Launch) (G : GT) (u : Hp) (a0 : Nat) (a1 : Nat) (x2 : Int32) (MC MS : Nat) (K : Hp → Prop) (h : pX22_init u a0 a1 x2 MC MS K) : Met l yX22_init (ws_ yX22_init cX22_init 3 none) (rmX22_init MC MS) (va_Pc [.ref a0, .ref a1, .int x2] (GB G u)) (va_Qv K (fun u t => GH G u t.heap) (GA G)) MC MS (GA G) := by
  refine Met.ofW (cc := cX22_init) (maxL := 3) (ret := none) (by decide) rfl ?_
  intro p e s m args below meth c s₁ B hml hv
  obtain ⟨rfl, hv⟩ := hv
  have X := Mc_of (own := RX22) B hml rfl hv
  have hw : GW G u s s.heap [] := ⟨hv.2.1, va_S.rf⟩
  have hr := B.returns
  have hin : meth.name = "<init>" := (name_of_methodNamed B.named B.method).1
  obtain ⟨hx, hb, hml, hown, hts, -⟩ := id X
  have hl := lv_entry ([.ref a0, .ref a1, .int x2]) (n := 3) (Nat.le_of_ble_eq_true rfl)
  rw [lg_entry_eq]
  generalize (lg_sl ([.ref a0, .ref a1, .int x2]) ++ List.replicate (3 - (lg_sl ([.ref a0, .ref a1, .int x2])).length) Slot.unset).toArray = ls at hl ⊢
  have hl : lv_has ls 3 [(0, .ref a0), (1, .ref a1), (2, .int x2)] := hl
  change W p l e (rmX22_init MC MS) s m _ below meth c s.heap [] 0 0 (QV G below K _ s MC MS) (F0 m 0 ls [])
  unfold pX22_init at h
  have hc1 : 0 + MC ≤ MC := by omega
  have hc2 : 0 + MS ≤ MS := by omega
  refine lv_aload_n hx hb dX22_init_0 rfl (lv_at hl 0 rfl) ?_
  refine lv_aload_n hx hb dX22_init_1 rfl (lv_at hl 1 rfl) ?_
  refine lv_iload_n hx hb dX22_init_2 rfl (lv_at hl 2 rfl) ?_
  obtain ⟨q_1, q_2, hq_3, hq_4, h⟩ := h
  refine g_callv hw (g_I X hw (mX17_init l G _ _ _ _ _ _ _ h) 2 q438 q141 q904 q437 rfl rfl rfl ydX17_init ⟨Nat.le_of_ble_eq_true rfl, Nat.le_of_ble_eq_true rfl⟩ (As := [.ref a1, .int x2]) (rest := []) rfl hl.1 rfl (Nat.le_of_ble_eq_true rfl) dX22_init_3 ⟨(by show _ ≤ MC; omega), (by show _ ≤ MS; omega)⟩) (fun u_5 H locs h hw => ?_)
  exact g_vret X hw hr h (by omega) (by omega) dX22_init_6

/-! FifthCard$Reader.keepHere()I -/
theorem ydX2_keepHere : yX2_keepHere.cls = "FifthCard$Reader" ∧ yX2_keepHere.cls ≠ "java/lang/invoke/MethodHandle" ∧ yX2_keepHere.cls ≠ "java/lang/invoke/VarHandle" ∧ (parseMethodDescriptor yX2_keepHere.desc).map (fun d => d.parameters.length) = some 0 := by decide +kernel
def rmX2_keepHere (mc ms : Nat) : Room := { frames := 3, cells := mc, slots := ms, locals := 65 }
set_option maxHeartbeats 4000000 in
theorem mX2_keepHere (l : Launch) (G : GT) (u : Hp) (a0 : Nat) (K : Int32 → Prop) (h : pX2_keepHere (Glit G) u a0 K) : Met l yX2_keepHere (ws_ yX2_keepHere cX2_keepHere 1 (some .int)) (rmX2_keepHere 0 0) (va_Pc [.ref a0] (GB G u)) (va_Qi (fun r v => v = u ∧ K r) (fun u t => GH G u t.heap) (GA G)) 0 0 (GA G) := by
  refine Met.ofW (cc := cX2_keepHere) (maxL := 1) (ret := (some .int)) (by decide) rfl ?_
  intro p e s m args below meth c s₁ B hml hv
  obtain ⟨rfl, hv⟩ := hv
  have X := Mc_of (own := RX2) B hml rfl hv
  have hw : GW G u s s.heap [] := ⟨hv.2.1, va_S.rf⟩
  have hr := B.returns
  obtain ⟨hx, hb, hml, hown, hts, -⟩ := id X
  have hl := lv_entry ([.ref a0]) (n := 1) (Nat.le_of_ble_eq_true rfl)
  rw [lg_entry_eq]
  generalize (lg_sl ([.ref a0]) ++ List.replicate (1 - (lg_sl ([.ref a0])).length) Slot.unset).toArray = ls at hl ⊢
  have hl : lv_has ls 1 [(0, .ref a0)] := hl
  change W p l e (rmX2_keepHere 0 0) s m _ below meth c s.heap [] 0 0 (QI G below (fun r v => v = u ∧ K r) _ s 0 0) (F0 m 0 ls [])
  unfold pX2_keepHere at h
  refine lv_aload_n hx hb dX2_keepHere_0 rfl (lv_at hl 0 rfl) ?_
  refine va_ldcS (tx := "low") hx hb hown (X.2.2.2.2.2.2.1.2.2.2.2.2.2.1 15 ("FifthCard$Reader", 180, "low") rfl) dX2_keepHere_1 ?_
  have hk_1 : kd u a0 = 2 := h.1
  have h := h.2
  refine g_callio hw (g_V X hw (mX2_isWord l G _ _ _ _ h) 1 (lw_V q827 q829 qs12 q123 q830) rfl rfl ydX2_isWord ⟨Nat.le_of_ble_eq_true rfl, Nat.le_of_ble_eq_true rfl⟩ (g_recv X hw (ci := 1) (q := (RX2, TX2, 11)) hk_1 rfl) (As := [.ref (Glit G 15)]) (rest := []) rfl hl.1 rfl (Nat.le_of_ble_eq_true rfl) dX2_keepHere_3 ⟨Nat.le_refl _, Nat.le_refl _⟩) (fun r_2 H locs h hw => ?_)
  refine lv_if_eq (tgt := 13) hx hb dX2_keepHere_6 rfl (fun c_9 => ?_) (fun c_9 => ?_)
  · have h := h.1 c_9
    refine lv_aload_n hx hb dX2_keepHere_13 rfl (lv_at hl 0 rfl) ?_
    refine va_ldcS (tx := "high") hx hb hown (X.2.2.2.2.2.2.1.2.2.2.2.2.2.1 16 ("FifthCard$Reader", 182, "high") rfl) dX2_keepHere_14 ?_
    refine g_callio hw (g_V X hw (mX2_isWord l G _ _ _ _ h) 1 (lw_V q827 q829 qs12 q123 q830) rfl rfl ydX2_isWord ⟨Nat.le_of_ble_eq_true rfl, Nat.le_of_ble_eq_true rfl⟩ (g_recv X hw (ci := 1) (q := (RX2, TX2, 11)) hk_1 rfl) (As := [.ref (Glit G 16)]) (rest := []) rfl hl.1 rfl (Nat.le_of_ble_eq_true rfl) dX2_keepHere_16 ⟨Nat.le_refl _, Nat.le_refl _⟩) (fun r_3 H locs h hw => ?_)
    refine lv_if_eq (tgt := 26) hx hb dX2_keepHere_19 rfl (fun c_8 => ?_) (fun c_8 => ?_)
    · have h := h.1 c_8
      refine lv_aload_n hx hb dX2_keepHere_26 rfl (lv_at hl 0 rfl) ?_
      refine va_ldcS (tx := "mid") hx hb hown (X.2.2.2.2.2.2.1.2.2.2.2.2.2.1 17 ("FifthCard$Reader", 184, "mid") rfl) dX2_keepHere_27 ?_
      refine g_callio hw (g_V X hw (mX2_isWord l G _ _ _ _ h) 1 (lw_V q827 q829 qs12 q123 q830) rfl rfl ydX2_isWord ⟨Nat.le_of_ble_eq_true rfl, Nat.le_of_ble_eq_true rfl⟩ (g_recv X hw (ci := 1) (q := (RX2, TX2, 11)) hk_1 rfl) (As := [.ref (Glit G 17)]) (rest := []) rfl hl.1 rfl (Nat.le_of_ble_eq_true rfl) dX2_keepHere_29 ⟨Nat.le_refl _, Nat.le_refl _⟩) (fun r_4 H locs h hw => ?_)
      refine lv_if_eq (tgt := 39) hx hb dX2_keepHere_32 rfl (fun c_7 => ?_) (fun c_7 => ?_)
      · have h := h.1 c_7
        refine lv_aload_n hx hb dX2_keepHere_39 rfl (lv_at hl 0 rfl) ?_
        refine va_ldcS (tx := "sum") hx hb hown (X.2.2.2.2.2.2.1.2.2.2.2.2.2.1 18 ("FifthCard$Reader", 186, "sum") rfl) dX2_keepHere_40 ?_
        refine g_callio hw (g_V X hw (mX2_isWord l G _ _ _ _ h) 1 (lw_V q827 q829 qs12 q123 q830) rfl rfl ydX2_isWord ⟨Nat.le_of_ble_eq_true rfl, Nat.le_of_ble_eq_true rfl⟩ (g_recv X hw (ci := 1) (q := (RX2, TX2, 11)) hk_1 rfl) (As := [.ref (Glit G 18)]) (rest := []) rfl hl.1 rfl (Nat.le_of_ble_eq_true rfl) dX2_keepHere_42 ⟨Nat.le_refl _, Nat.le_refl _⟩) (fun r_5 H locs h hw => ?_)
        refine lv_if_eq (tgt := 52) hx hb dX2_keepHere_45 rfl (fun c_6 => ?_) (fun c_6 => ?_)
        · have h := h.1 c_6
          refine lv_iconst (v := (-1)) hx hb dX2_keepHere_52 (by decide) ?_
          exact g_iret X hw hr ⟨rfl, h⟩ (Nat.le_refl _) (Nat.le_refl _) dX2_keepHere_53
        · have h := h.2 c_6
          refine lv_iconst (v := 3) hx hb dX2_keepHere_48 (by decide) ?_
          refine lv_goto (tgt := 53) hx hb dX2_keepHere_49 rfl ?_
          exact g_iret X hw hr ⟨rfl, h⟩ (Nat.le_refl _) (Nat.le_refl _) dX2_keepHere_53
      · have h := h.2 c_7
        refine lv_iconst (v := 2) hx hb dX2_keepHere_35 (by decide) ?_
        refine lv_goto (tgt := 53) hx hb dX2_keepHere_36 rfl ?_
        exact g_iret X hw hr ⟨rfl, h⟩ (Nat.le_refl _) (Nat.le_refl _) dX2_keepHere_53
    · have h := h.2 c_8
      refine lv_iconst (v := 1) hx hb dX2_keepHere_22 (by decide) ?_
      refine lv_goto (tgt := 53) hx hb dX2_keepHere_23 rfl ?_
      exact g_iret X hw hr ⟨rfl, h⟩ (Nat.le_refl _) (Nat.le_refl _) dX2_keepHere_53
  · have h := h.2 c_9
    refine lv_iconst (v := 0) hx hb dX2_keepHere_9 (by decide) ?_
    refine lv_goto (tgt := 53) hx hb dX2_keepHere_10 rfl ?_
    exact g_iret X hw hr ⟨rfl, h⟩ (Nat.le_refl _) (Nat.le_refl _) dX2_keepHere_53

/-! FifthCard$Reader.tellHere()I -/
theorem ydX2_tellHere : yX2_tellHere.cls = "FifthCard$Reader" ∧ yX2_tellHere.cls ≠ "java/lang/invoke/MethodHandle" ∧ yX2_tellHere.cls ≠ "java/lang/invoke/VarHandle" ∧ (parseMethodDescriptor yX2_tellHere.desc).map (fun d => d.parameters.length) = some 0 := by decide +kernel
def rmX2_tellHere (mc ms : Nat) : Room := { frames := 3, cells := mc, slots := ms, locals := 65 }
set_option maxHeartbeats 4000000 in
theorem mX2_tellHere (l : Launch) (G : GT) (u : Hp) (a0 : Nat) (K : Int32 → Prop) (h : pX2_tellHere (Glit G) u a0 K) : Met l yX2_tellHere (ws_ yX2_tellHere cX2_tellHere 1 (some .int)) (rmX2_tellHere 0 0) (va_Pc [.ref a0] (GB G u)) (va_Qi (fun r v => v = u ∧ K r) (fun u t => GH G u t.heap) (GA G)) 0 0 (GA G) := by
  refine Met.ofW (cc := cX2_tellHere) (maxL := 1) (ret := (some .int)) (by decide) rfl ?_
  intro p e s m args below meth c s₁ B hml hv
  obtain ⟨rfl, hv⟩ := hv
  have X := Mc_of (own := RX2) B hml rfl hv
  have hw : GW G u s s.heap [] := ⟨hv.2.1, va_S.rf⟩
  have hr := B.returns
  obtain ⟨hx, hb, hml, hown, hts, -⟩ := id X
  have hl := lv_entry ([.ref a0]) (n := 1) (Nat.le_of_ble_eq_true rfl)
  rw [lg_entry_eq]
  generalize (lg_sl ([.ref a0]) ++ List.replicate (1 - (lg_sl ([.ref a0])).length) Slot.unset).toArray = ls at hl ⊢
  have hl : lv_has ls 1 [(0, .ref a0)] := hl
  change W p l e (rmX2_tellHere 0 0) s m _ below meth c s.heap [] 0 0 (QI G below (fun r v => v = u ∧ K r) _ s 0 0) (F0 m 0 ls [])
  unfold pX2_tellHere at h
  refine lv_aload_n hx hb dX2_tellHere_0 rfl (lv_at hl 0 rfl) ?_
  refine va_ldcS (tx := "place") hx hb hown (X.2.2.2.2.2.2.1.2.2.2.2.2.2.1 19 ("FifthCard$Reader", 188, "place") rfl) dX2_tellHere_1 ?_
  have hk_1 : kd u a0 = 2 := h.1
  have h := h.2
  refine g_callio hw (g_V X hw (mX2_isWord l G _ _ _ _ h) 1 (lw_V q827 q829 qs12 q123 q830) rfl rfl ydX2_isWord ⟨Nat.le_of_ble_eq_true rfl, Nat.le_of_ble_eq_true rfl⟩ (g_recv X hw (ci := 1) (q := (RX2, TX2, 11)) hk_1 rfl) (As := [.ref (Glit G 19)]) (rest := []) rfl hl.1 rfl (Nat.le_of_ble_eq_true rfl) dX2_tellHere_3 ⟨Nat.le_refl _, Nat.le_refl _⟩) (fun r_2 H locs h hw => ?_)
  refine lv_if_eq (tgt := 13) hx hb dX2_tellHere_6 rfl (fun c_11 => ?_) (fun c_11 => ?_)
  · have h := h.1 c_11
    refine lv_aload_n hx hb dX2_tellHere_13 rfl (lv_at hl 0 rfl) ?_
    refine va_ldcS (tx := "rank") hx hb hown (X.2.2.2.2.2.2.1.2.2.2.2.2.2.1 20 ("FifthCard$Reader", 190, "rank") rfl) dX2_tellHere_14 ?_
    refine g_callio hw (g_V X hw (mX2_isWord l G _ _ _ _ h) 1 (lw_V q827 q829 qs12 q123 q830) rfl rfl ydX2_isWord ⟨Nat.le_of_ble_eq_true rfl, Nat.le_of_ble_eq_true rfl⟩ (g_recv X hw (ci := 1) (q := (RX2, TX2, 11)) hk_1 rfl) (As := [.ref (Glit G 20)]) (rest := []) rfl hl.1 rfl (Nat.le_of_ble_eq_true rfl) dX2_tellHere_16 ⟨Nat.le_refl _, Nat.le_refl _⟩) (fun r_3 H locs h hw => ?_)
    refine lv_if_eq (tgt := 26) hx hb dX2_tellHere_19 rfl (fun c_10 => ?_) (fun c_10 => ?_)
    · have h := h.1 c_10
      refine lv_aload_n hx hb dX2_tellHere_26 rfl (lv_at hl 0 rfl) ?_
      refine va_ldcS (tx := "gap") hx hb hown (X.2.2.2.2.2.2.1.2.2.2.2.2.2.1 21 ("FifthCard$Reader", 192, "gap") rfl) dX2_tellHere_27 ?_
      refine g_callio hw (g_V X hw (mX2_isWord l G _ _ _ _ h) 1 (lw_V q827 q829 qs12 q123 q830) rfl rfl ydX2_isWord ⟨Nat.le_of_ble_eq_true rfl, Nat.le_of_ble_eq_true rfl⟩ (g_recv X hw (ci := 1) (q := (RX2, TX2, 11)) hk_1 rfl) (As := [.ref (Glit G 21)]) (rest := []) rfl hl.1 rfl (Nat.le_of_ble_eq_true rfl) dX2_tellHere_29 ⟨Nat.le_refl _, Nat.le_refl _⟩) (fun r_4 H locs h hw => ?_)
      refine lv_if_eq (tgt := 39) hx hb dX2_tellHere_32 rfl (fun c_9 => ?_) (fun c_9 => ?_)
      · have h := h.1 c_9
        refine lv_aload_n hx hb dX2_tellHere_39 rfl (lv_at hl 0 rfl) ?_
        refine va_ldcS (tx := "ring") hx hb hown (X.2.2.2.2.2.2.1.2.2.2.2.2.2.1 22 ("FifthCard$Reader", 194, "ring") rfl) dX2_tellHere_40 ?_
        refine g_callio hw (g_V X hw (mX2_isWord l G _ _ _ _ h) 1 (lw_V q827 q829 qs12 q123 q830) rfl rfl ydX2_isWord ⟨Nat.le_of_ble_eq_true rfl, Nat.le_of_ble_eq_true rfl⟩ (g_recv X hw (ci := 1) (q := (RX2, TX2, 11)) hk_1 rfl) (As := [.ref (Glit G 22)]) (rest := []) rfl hl.1 rfl (Nat.le_of_ble_eq_true rfl) dX2_tellHere_42 ⟨Nat.le_refl _, Nat.le_refl _⟩) (fun r_5 H locs h hw => ?_)
        refine lv_if_eq (tgt := 52) hx hb dX2_tellHere_45 rfl (fun c_8 => ?_) (fun c_8 => ?_)
        · have h := h.1 c_8
          refine lv_aload_n hx hb dX2_tellHere_52 rfl (lv_at hl 0 rfl) ?_
          refine va_ldcS (tx := "sum") hx hb hown (X.2.2.2.2.2.2.1.2.2.2.2.2.2.1 18 ("FifthCard$Reader", 186, "sum") rfl) dX2_tellHere_53 ?_
          refine g_callio hw (g_V X hw (mX2_isWord l G _ _ _ _ h) 1 (lw_V q827 q829 qs12 q123 q830) rfl rfl ydX2_isWord ⟨Nat.le_of_ble_eq_true rfl, Nat.le_of_ble_eq_true rfl⟩ (g_recv X hw (ci := 1) (q := (RX2, TX2, 11)) hk_1 rfl) (As := [.ref (Glit G 18)]) (rest := []) rfl hl.1 rfl (Nat.le_of_ble_eq_true rfl) dX2_tellHere_55 ⟨Nat.le_refl _, Nat.le_refl _⟩) (fun r_6 H locs h hw => ?_)
          refine lv_if_eq (tgt := 65) hx hb dX2_tellHere_58 rfl (fun c_7 => ?_) (fun c_7 => ?_)
          · have h := h.1 c_7
            refine lv_iconst (v := (-1)) hx hb dX2_tellHere_65 (by decide) ?_
            exact g_iret X hw hr ⟨rfl, h⟩ (Nat.le_refl _) (Nat.le_refl _) dX2_tellHere_66
          · have h := h.2 c_7
            refine lv_iconst (v := 4) hx hb dX2_tellHere_61 (by decide) ?_
            refine lv_goto (tgt := 66) hx hb dX2_tellHere_62 rfl ?_
            exact g_iret X hw hr ⟨rfl, h⟩ (Nat.le_refl _) (Nat.le_refl _) dX2_tellHere_66
        · have h := h.2 c_8
          refine lv_iconst (v := 3) hx hb dX2_tellHere_48 (by decide) ?_
          refine lv_goto (tgt := 66) hx hb dX2_tellHere_49 rfl ?_
          exact g_iret X hw hr ⟨rfl, h⟩ (Nat.le_refl _) (Nat.le_refl _) dX2_tellHere_66
      · have h := h.2 c_9
        refine lv_iconst (v := 2) hx hb dX2_tellHere_35 (by decide) ?_
        refine lv_goto (tgt := 66) hx hb dX2_tellHere_36 rfl ?_
        exact g_iret X hw hr ⟨rfl, h⟩ (Nat.le_refl _) (Nat.le_refl _) dX2_tellHere_66
    · have h := h.2 c_10
      refine lv_iconst (v := 1) hx hb dX2_tellHere_22 (by decide) ?_
      refine lv_goto (tgt := 66) hx hb dX2_tellHere_23 rfl ?_
      exact g_iret X hw hr ⟨rfl, h⟩ (Nat.le_refl _) (Nat.le_refl _) dX2_tellHere_66
  · have h := h.2 c_11
    refine lv_iconst (v := 0) hx hb dX2_tellHere_9 (by decide) ?_
    refine lv_goto (tgt := 66) hx hb dX2_tellHere_10 rfl ?_
    exact g_iret X hw hr ⟨rfl, h⟩ (Nat.le_refl _) (Nat.le_refl _) dX2_tellHere_66

/-! FifthCard.has(II)Z -/
theorem ydX1_has : yX1_has.cls = "FifthCard" ∧ yX1_has.cls ≠ "java/lang/invoke/MethodHandle" ∧ yX1_has.cls ≠ "java/lang/invoke/VarHandle" ∧ (parseMethodDescriptor yX1_has.desc).map (fun d => d.parameters.length) = some 2 := by decide +kernel
def rmX1_has (mc ms : Nat) : Room := { frames := 0, cells := mc, slots := ms, locals := 0 }
set_option maxHeartbeats 4000000 in
theorem mX1_has (l : Launch) (G : GT) (u : Hp) (x0 : Int32) (x1 : Int32) (K : Int32 → Prop) (h : pX1_has x0 x1 K) : Met l yX1_has (ws_ yX1_has cX1_has 2 (some .boolean)) (rmX1_has 0 0) (va_Pc [.int x0, .int x1] (GB G u)) (va_Qi (fun r v => v = u ∧ K r) (fun u t => GH G u t.heap) (GA G)) 0 0 (GA G) := by
  refine Met.ofW (cc := cX1_has) (maxL := 2) (ret := (some .boolean)) (by decide) rfl ?_
  intro p e s m args below meth c s₁ B hml hv
  obtain ⟨rfl, hv⟩ := hv
  have X := Mc_of (own := RX1) B hml rfl hv
  have hw : GW G u s s.heap [] := ⟨hv.2.1, va_S.rf⟩
  have hr := B.returns
  obtain ⟨hx, hb, hml, hown, hts, -⟩ := id X
  have hl := lv_entry ([.int x0, .int x1]) (n := 2) (Nat.le_of_ble_eq_true rfl)
  rw [lg_entry_eq]
  generalize (lg_sl ([.int x0, .int x1]) ++ List.replicate (2 - (lg_sl ([.int x0, .int x1])).length) Slot.unset).toArray = ls at hl ⊢
  have hl : lv_has ls 2 [(0, .int x0), (1, .int x1)] := hl
  change W p l e (rmX1_has 0 0) s m _ below meth c s.heap [] 0 0 (QI G below (fun r v => v = u ∧ K r) _ s 0 0) (F0 m 0 ls [])
  unfold pX1_has at h
  refine lv_iload_n hx hb dX1_has_0 rfl (lv_at hl 0 rfl) ?_
  refine lv_iload_n hx hb dX1_has_1 rfl (lv_at hl 1 rfl) ?_
  refine lv_ishr hx hb dX1_has_2 ?_
  refine lv_iconst (v := 1) hx hb dX1_has_3 (by decide) ?_
  refine lv_iand hx hb dX1_has_4 ?_
  refine lv_iconst (v := 1) hx hb dX1_has_5 (by decide) ?_
  refine lv_icmp_ne (tgt := 13) hx hb dX1_has_6 rfl (fun c_1 => ?_) (fun c_1 => ?_)
  · have h := h.2 c_1
    refine lv_iconst (v := 0) hx hb dX1_has_13 (by decide) ?_
    exact g_zret X hw hr rfl ⟨rfl, h⟩ (Nat.le_refl _) (Nat.le_refl _) dX1_has_14
  · have h := h.1 c_1
    refine lv_iconst (v := 1) hx hb dX1_has_9 (by decide) ?_
    refine lv_goto (tgt := 14) hx hb dX1_has_10 rfl ?_
    exact g_zret X hw hr rfl ⟨rfl, h⟩ (Nat.le_refl _) (Nat.le_refl _) dX1_has_14

/-! FifthCard$Trick.rank([II)I -/
theorem ydX20_rank : yX20_rank.cls = "FifthCard$Trick" ∧ yX20_rank.cls ≠ "java/lang/invoke/MethodHandle" ∧ yX20_rank.cls ≠ "java/lang/invoke/VarHandle" ∧ (parseMethodDescriptor yX20_rank.desc).map (fun d => d.parameters.length) = some 2 := by decide +kernel
def rmX20_rank (mc ms : Nat) : Room := { frames := 1, cells := mc, slots := ms, locals := 21 }
set_option maxHeartbeats 4000000 in
theorem wX20_rank_20 {G : GT} {p : Program} {l : Launch} {e : Env} {s : State} {m : MethodId} {args : Array Value} {below : List Frame} {meth : Method} {c : Code} {H : Heap} {locs : List Loc} {ls : Array Slot} {a0 : Nat} {a1 : Nat} {x2 : Int32} {x3 : Int32} {x4 : Int32} {x5 : Int32} {u : Hp} {x6 : Int32} {x7 : Int32} {K : Int32 → Prop} {J8 : Int32 → Int32 → Int32 → Prop} (X : Mc G p s m args meth c RX20 cX20_rank 8) (hr : meth.sig.returnType = (some .int)) (hJ8 : ∀ (x3 : Int32) (x4 : Int32) (x5 : Int32) (H : Heap) (locs : List Loc) (ls : Array Slot) , J8 x3 x4 x5 → GW G u s H locs → lv_has ls 8 [(0, .ref a0), (1, .ref a1), (2, .int x2), (3, .int x3), (4, .int x4), (5, .int x5)] → W p l e (rmX20_rank 0 0) s m args below meth c H locs 0 0 (QI G below (fun r v => v = u ∧ K r) args s 0 0) (F0 m 8 ls [])) (h : jl2 (bX20_rank_20 K J8 a0 a1 x2 x3 x4 x5 u) x6 x7) (hw : GW G u s H locs) (hl : lv_has ls 8 [(0, .ref a0), (1, .ref a1), (2, .int x2), (3, .int x3), (4, .int x4), (5, .int x5), (6, .int x6), (7, .int x7)]) : W p l e (rmX20_rank 0 0) s m args below meth c H locs 0 0 (QI G below (fun r v => v = u ∧ K r) args s 0 0) (F0 m 20 ls []) := by
  obtain ⟨hx, hb, hml, hown, hts, -⟩ := id X
  obtain ⟨I, μ, h0, hs⟩ := h
  have key : ∀ (n : Nat) (x6 : Int32) (x7 : Int32) (H : Heap) (locs : List Loc) (ls : Array Slot) , μ x6 x7 < n → I x6 x7 → GW G u s H locs → lv_has ls 8 [(0, .ref a0), (1, .ref a1), (2, .int x2), (3, .int x3), (4, .int x4), (5, .int x5), (6, .int x6), (7, .int x7)] → W p l e (rmX20_rank 0 0) s m args below meth c H locs 0 0 (QI G below (fun r v => v = u ∧ K r) args s 0 0) (F0 m 20 ls []) := by
    intro n
    induction n with
    | zero =>
      intro x6 x7 H locs ls hn
      exact absurd hn (Nat.not_lt_zero _)
    | succ n ih =>
      intro x6 x7 H locs ls hn hI hw hl
      have h := hs x6 x7 hI
      unfold bX20_rank_20 at h
      have hJ20 : ∀ (x6' : Int32) (x7' : Int32) (H : Heap) (locs : List Loc) (ls : Array Slot) , (I x6' x7' ∧ μ x6' x7' < μ x6 x7) → GW G u s H locs → lv_has ls 8 [(0, .ref a0), (1, .ref a1), (2, .int x2), (3, .int x3), (4, .int x4), (5, .int x5), (6, .int x6'), (7, .int x7')] → W p l e (rmX20_rank 0 0) s m args below meth c H locs 0 0 (QI G below (fun r v => v = u ∧ K r) args s 0 0) (F0 m 20 ls []) := fun x6' x7' H locs ls h hw hl => ih x6' x7' H locs ls (Nat.lt_of_lt_of_le h.2 (Nat.le_of_lt_succ hn)) h.1 hw hl
      refine lv_iload hx hb dX20_rank_20 (lv_at hl 7 rfl) ?_
      refine lv_aload_n hx hb dX20_rank_22 rfl (lv_at hl 1 rfl) ?_
      refine lv_iload hx hb dX20_rank_23 (lv_at hl 5 rfl) ?_
      have hk_1 : kd u a1 = 101 := h.1
      have h := h.2
      refine g_iald X hw hk_1 h.1 dX20_rank_25 ?_
      have h := h.2
      refine lv_icmp_ge (tgt := 55) hx hb dX20_rank_26 rfl (fun c_9 => ?_) (fun c_9 => ?_)
      · have h := h.1 c_9
        refine lv_iload_n hx hb dX20_rank_55 rfl (lv_at hl 3 rfl) ?_
        refine lv_aload_n hx hb dX20_rank_56 rfl (lv_at hl 0 rfl) ?_
        have hk_2 : kd u a0 = 17 := h.1
        have h := h.2
        refine g_getI X hw in_X20 hk_2 rfl 3 rfl (by decide) q569 (fun _ z => z) dX20_rank_57 ?_
        refine lv_iload hx hb dX20_rank_60 (lv_at hl 5 rfl) ?_
        refine lv_isub hx hb dX20_rank_62 ?_
        refine lv_imul hx hb dX20_rank_63 ?_
        refine lv_iload hx hb dX20_rank_64 (lv_at hl 6 rfl) ?_
        refine lv_iadd hx hb dX20_rank_66 ?_
        refine lv_topi (fun x3_3 e_4 => ?_)
        have h := h x3_3 e_4
        refine lv_istore_n (lv' := [(3, .int x3_3), (0, .ref a0), (1, .ref a1), (2, .int x2), (4, .int x4), (5, .int x5), (6, .int x6), (7, .int x7)]) hx hb dX20_rank_67 rfl hl (by decide) rfl (fun ls hl => ?_)
        refine lv_iload hx hb dX20_rank_68 (lv_at hl 4 rfl) ?_
        refine lv_iconst (v := 1) hx hb dX20_rank_70 (by decide) ?_
        refine lv_aload_n hx hb dX20_rank_71 rfl (lv_at hl 2 rfl) ?_
        refine lv_iload hx hb dX20_rank_72 (lv_at hl 5 rfl) ?_
        refine g_iald X hw hk_1 h.1 dX20_rank_74 ?_
        have h := h.2
        refine lv_ishl hx hb dX20_rank_75 ?_
        refine lv_ior hx hb dX20_rank_76 ?_
        refine lv_topi (fun x4_5 e_6 => ?_)
        have h := h x4_5 e_6
        refine lv_istore (lv' := [(4, .int x4_5), (3, .int x3_3), (0, .ref a0), (1, .ref a1), (2, .int x2), (5, .int x5), (6, .int x6), (7, .int x7)]) hx hb dX20_rank_77 hl (by decide) rfl (fun ls hl => ?_)
        refine lv_iinc (v := x5 + 1) (lv' := [(5, .int (x5 + 1)), (4, .int x4_5), (3, .int x3_3), (0, .ref a0), (1, .ref a1), (2, .int x2), (6, .int x6), (7, .int x7)]) hx hb dX20_rank_79 hl (k := 5) rfl rfl (by decide) rfl (fun ls hl => ?_)
        refine lv_goto (tgt := 8) hx hb dX20_rank_82 rfl ?_
        exact hJ8 _ _ _ _ _ _ h hw (lv_sub hl [3, 4, 5, 2, 1, 0] rfl)
      · have h := h.2 c_9
        refine lv_iload hx hb dX20_rank_29 (lv_at hl 6 rfl) ?_
        refine lv_iload hx hb dX20_rank_31 (lv_at hl 4 rfl) ?_
        refine lv_iload hx hb dX20_rank_33 (lv_at hl 7 rfl) ?_
        refine g_callio hw (g_SN X hw (mX1_has l G _ _ _ _ h) 2 q939 q122 (List.mem_of_getElem? (i := 40) rfl) q938 rfl rfl ydX1_has ⟨Nat.le_of_ble_eq_true rfl, Nat.le_of_ble_eq_true rfl⟩ (As := [.int x4, .int x7]) (rest := [.int x6]) rfl hl.1 rfl (Nat.le_of_ble_eq_true rfl) dX20_rank_35 ⟨Nat.le_refl _, Nat.le_refl _⟩) (fun r_7 H locs h hw => ?_)
        refine lv_if_eq (tgt := 45) hx hb dX20_rank_38 rfl (fun c_8 => ?_) (fun c_8 => ?_)
        · have h := h.1 c_8
          refine lv_iconst (v := 1) hx hb dX20_rank_45 (by decide) ?_
          refine lv_iadd hx hb dX20_rank_46 ?_
          refine lv_istore (lv' := [(6, .int (x6 + 1)), (0, .ref a0), (1, .ref a1), (2, .int x2), (3, .int x3), (4, .int x4), (5, .int x5), (7, .int x7)]) hx hb dX20_rank_47 hl (by decide) rfl (fun ls hl => ?_)
          refine lv_iinc (v := x7 + 1) (lv' := [(7, .int (x7 + 1)), (6, .int (x6 + 1)), (0, .ref a0), (1, .ref a1), (2, .int x2), (3, .int x3), (4, .int x4), (5, .int x5)]) hx hb dX20_rank_49 hl (k := 7) rfl rfl (by decide) rfl (fun ls hl => ?_)
          refine lv_goto (tgt := 20) hx hb dX20_rank_52 rfl ?_
          exact hJ20 _ _ _ _ _ h hw (lv_sub hl [2, 3, 4, 5, 6, 7, 1, 0] rfl)
        · have h := h.2 c_8
          refine lv_iconst (v := 0) hx hb dX20_rank_41 (by decide) ?_
          refine lv_goto (tgt := 46) hx hb dX20_rank_42 rfl ?_
          refine lv_iadd hx hb dX20_rank_46 ?_
          refine lv_istore (lv' := [(6, .int (x6 + 0)), (0, .ref a0), (1, .ref a1), (2, .int x2), (3, .int x3), (4, .int x4), (5, .int x5), (7, .int x7)]) hx hb dX20_rank_47 hl (by decide) rfl (fun ls hl => ?_)
          refine lv_iinc (v := x7 + 1) (lv' := [(7, .int (x7 + 1)), (6, .int (x6 + 0)), (0, .ref a0), (1, .ref a1), (2, .int x2), (3, .int x3), (4, .int x4), (5, .int x5)]) hx hb dX20_rank_49 hl (k := 7) rfl rfl (by decide) rfl (fun ls hl => ?_)
          refine lv_goto (tgt := 20) hx hb dX20_rank_52 rfl ?_
          exact hJ20 _ _ _ _ _ h hw (lv_sub hl [2, 3, 4, 5, 6, 7, 1, 0] rfl)
  exact key _ _ _ _ _ _ (Nat.lt_succ_self _) h0 hw hl
set_option maxHeartbeats 4000000 in
theorem wX20_rank_8 {G : GT} {p : Program} {l : Launch} {e : Env} {s : State} {m : MethodId} {args : Array Value} {below : List Frame} {meth : Method} {c : Code} {H : Heap} {locs : List Loc} {ls : Array Slot} {a0 : Nat} {a1 : Nat} {x2 : Int32} {u : Hp} {x3 : Int32} {x4 : Int32} {x5 : Int32} {K : Int32 → Prop} (X : Mc G p s m args meth c RX20 cX20_rank 8) (hr : meth.sig.returnType = (some .int)) (h : jl3 (bX20_rank_8 K a0 a1 x2 u) x3 x4 x5) (hw : GW G u s H locs) (hl : lv_has ls 8 [(0, .ref a0), (1, .ref a1), (2, .int x2), (3, .int x3), (4, .int x4), (5, .int x5)]) : W p l e (rmX20_rank 0 0) s m args below meth c H locs 0 0 (QI G below (fun r v => v = u ∧ K r) args s 0 0) (F0 m 8 ls []) := by
  obtain ⟨hx, hb, hml, hown, hts, -⟩ := id X
  obtain ⟨I, μ, h0, hs⟩ := h
  have key : ∀ (n : Nat) (x3 : Int32) (x4 : Int32) (x5 : Int32) (H : Heap) (locs : List Loc) (ls : Array Slot) , μ x3 x4 x5 < n → I x3 x4 x5 → GW G u s H locs → lv_has ls 8 [(0, .ref a0), (1, .ref a1), (2, .int x2), (3, .int x3), (4, .int x4), (5, .int x5)] → W p l e (rmX20_rank 0 0) s m args below meth c H locs 0 0 (QI G below (fun r v => v = u ∧ K r) args s 0 0) (F0 m 8 ls []) := by
    intro n
    induction n with
    | zero =>
      intro x3 x4 x5 H locs ls hn
      exact absurd hn (Nat.not_lt_zero _)
    | succ n ih =>
      intro x3 x4 x5 H locs ls hn hI hw hl
      have h := hs x3 x4 x5 hI
      unfold bX20_rank_8 at h
      have hJ8 : ∀ (x3' : Int32) (x4' : Int32) (x5' : Int32) (H : Heap) (locs : List Loc) (ls : Array Slot) , (I x3' x4' x5' ∧ μ x3' x4' x5' < μ x3 x4 x5) → GW G u s H locs → lv_has ls 8 [(0, .ref a0), (1, .ref a1), (2, .int x2), (3, .int x3'), (4, .int x4'), (5, .int x5')] → W p l e (rmX20_rank 0 0) s m args below meth c H locs 0 0 (QI G below (fun r v => v = u ∧ K r) args s 0 0) (F0 m 8 ls []) := fun x3' x4' x5' H locs ls h hw hl => ih x3' x4' x5' H locs ls (Nat.lt_of_lt_of_le h.2 (Nat.le_of_lt_succ hn)) h.1 hw hl
      refine lv_iload hx hb dX20_rank_8 (lv_at hl 5 rfl) ?_
      refine lv_iload_n hx hb dX20_rank_10 rfl (lv_at hl 2 rfl) ?_
      refine lv_icmp_ge (tgt := 85) hx hb dX20_rank_11 rfl (fun c_10 => ?_) (fun c_10 => ?_)
      · have h := h.1 c_10
        refine lv_iload_n hx hb dX20_rank_85 rfl (lv_at hl 3 rfl) ?_
        exact g_iret X hw hr ⟨rfl, h⟩ (Nat.le_refl _) (Nat.le_refl _) dX20_rank_86
      · have h := h.2 c_10
        refine lv_iconst (v := 0) hx hb dX20_rank_14 (by decide) ?_
        refine lv_istore (lv' := [(6, .int 0), (0, .ref a0), (1, .ref a1), (2, .int x2), (3, .int x3), (4, .int x4), (5, .int x5)]) hx hb dX20_rank_15 hl (by decide) rfl (fun ls hl => ?_)
        refine lv_iconst (v := 0) hx hb dX20_rank_17 (by decide) ?_
        refine lv_istore (lv' := [(7, .int 0), (6, .int 0), (0, .ref a0), (1, .ref a1), (2, .int x2), (3, .int x3), (4, .int x4), (5, .int x5)]) hx hb dX20_rank_18 hl (by decide) rfl (fun ls hl => ?_)
        exact wX20_rank_20 X hr hJ8  h hw (lv_sub hl [2, 3, 4, 5, 6, 7, 1, 0] rfl)
  exact key _ _ _ _ _ _ _ (Nat.lt_succ_self _) h0 hw hl
set_option maxHeartbeats 4000000 in
theorem mX20_rank (l : Launch) (G : GT) (u : Hp) (a0 : Nat) (a1 : Nat) (x2 : Int32) (K : Int32 → Prop) (h : pX20_rank u a0 a1 x2 K) : Met l yX20_rank (ws_ yX20_rank cX20_rank 8 (some .int)) (rmX20_rank 0 0) (va_Pc [.ref a0, .ref a1, .int x2] (GB G u)) (va_Qi (fun r v => v = u ∧ K r) (fun u t => GH G u t.heap) (GA G)) 0 0 (GA G) := by
  refine Met.ofW (cc := cX20_rank) (maxL := 8) (ret := (some .int)) (by decide) rfl ?_
  intro p e s m args below meth c s₁ B hml hv
  obtain ⟨rfl, hv⟩ := hv
  have X := Mc_of (own := RX20) B hml rfl hv
  have hw : GW G u s s.heap [] := ⟨hv.2.1, va_S.rf⟩
  have hr := B.returns
  obtain ⟨hx, hb, hml, hown, hts, -⟩ := id X
  have hl := lv_entry ([.ref a0, .ref a1, .int x2]) (n := 8) (Nat.le_of_ble_eq_true rfl)
  rw [lg_entry_eq]
  generalize (lg_sl ([.ref a0, .ref a1, .int x2]) ++ List.replicate (8 - (lg_sl ([.ref a0, .ref a1, .int x2])).length) Slot.unset).toArray = ls at hl ⊢
  have hl : lv_has ls 8 [(0, .ref a0), (1, .ref a1), (2, .int x2)] := hl
  change W p l e (rmX20_rank 0 0) s m _ below meth c s.heap [] 0 0 (QI G below (fun r v => v = u ∧ K r) _ s 0 0) (F0 m 0 ls [])
  unfold pX20_rank at h
  refine lv_iconst (v := 0) hx hb dX20_rank_0 (by decide) ?_
  refine lv_istore_n (lv' := [(3, .int 0), (0, .ref a0), (1, .ref a1), (2, .int x2)]) hx hb dX20_rank_1 rfl hl (by decide) rfl (fun ls hl => ?_)
  refine lv_iconst (v := 0) hx hb dX20_rank_2 (by decide) ?_
  refine lv_istore (lv' := [(4, .int 0), (3, .int 0), (0, .ref a0), (1, .ref a1), (2, .int x2)]) hx hb dX20_rank_3 hl (by decide) rfl (fun ls hl => ?_)
  refine lv_iconst (v := 0) hx hb dX20_rank_5 (by decide) ?_
  refine lv_istore (lv' := [(5, .int 0), (4, .int 0), (3, .int 0), (0, .ref a0), (1, .ref a1), (2, .int x2)]) hx hb dX20_rank_6 hl (by decide) rfl (fun ls hl => ?_)
  exact wX20_rank_8 X hr  h hw (lv_sub hl [3, 4, 5, 2, 1, 0] rfl)

/-! FifthCard$Trick.rankSet(I)I -/
theorem ydX20_rankSet : yX20_rankSet.cls = "FifthCard$Trick" ∧ yX20_rankSet.cls ≠ "java/lang/invoke/MethodHandle" ∧ yX20_rankSet.cls ≠ "java/lang/invoke/VarHandle" ∧ (parseMethodDescriptor yX20_rankSet.desc).map (fun d => d.parameters.length) = some 1 := by decide +kernel
def rmX20_rankSet (mc ms : Nat) : Room := { frames := 2, cells := mc, slots := ms, locals := 44 }
set_option maxHeartbeats 4000000 in
theorem wX20_rankSet_10 {G : GT} {p : Program} {l : Launch} {e : Env} {s : State} {m : MethodId} {args : Array Value} {below : List Frame} {meth : Method} {c : Code} {H : Heap} {locs : List Loc} {ls : Array Slot} {a0 : Nat} {x1 : Int32} {u : Hp} {x2 : Int32} {x3 : Int32} {x4 : Int32} {K : Int32 → Prop} (X : Mc G p s m args meth c RX20 cX20_rankSet 5) (hr : meth.sig.returnType = (some .int)) (h : jl3 (bX20_rankSet_10 K a0 x1 u) x2 x3 x4) (hw : GW G u s H locs) (hl : lv_has ls 5 [(0, .ref a0), (1, .int x1), (2, .int x2), (3, .int x3), (4, .int x4)]) : W p l e (rmX20_rankSet 0 0) s m args below meth c H locs 0 0 (QI G below (fun r v => v = u ∧ K r) args s 0 0) (F0 m 10 ls []) := by
  obtain ⟨hx, hb, hml, hown, hts, -⟩ := id X
  obtain ⟨I, μ, h0, hs⟩ := h
  have key : ∀ (n : Nat) (x2 : Int32) (x3 : Int32) (x4 : Int32) (H : Heap) (locs : List Loc) (ls : Array Slot) , μ x2 x3 x4 < n → I x2 x3 x4 → GW G u s H locs → lv_has ls 5 [(0, .ref a0), (1, .int x1), (2, .int x2), (3, .int x3), (4, .int x4)] → W p l e (rmX20_rankSet 0 0) s m args below meth c H locs 0 0 (QI G below (fun r v => v = u ∧ K r) args s 0 0) (F0 m 10 ls []) := by
    intro n
    induction n with
    | zero =>
      intro x2 x3 x4 H locs ls hn
      exact absurd hn (Nat.not_lt_zero _)
    | succ n ih =>
      intro x2 x3 x4 H locs ls hn hI hw hl
      have h := hs x2 x3 x4 hI
      unfold bX20_rankSet_10 at h
      have hJ10 : ∀ (x2' : Int32) (x3' : Int32) (x4' : Int32) (H : Heap) (locs : List Loc) (ls : Array Slot) , (I x2' x3' x4' ∧ μ x2' x3' x4' < μ x2 x3 x4) → GW G u s H locs → lv_has ls 5 [(0, .ref a0), (1, .int x1), (2, .int x2'), (3, .int x3'), (4, .int x4')] → W p l e (rmX20_rankSet 0 0) s m args below meth c H locs 0 0 (QI G below (fun r v => v = u ∧ K r) args s 0 0) (F0 m 10 ls []) := fun x2' x3' x4' H locs ls h hw hl => ih x2' x3' x4' H locs ls (Nat.lt_of_lt_of_le h.2 (Nat.le_of_lt_succ hn)) h.1 hw hl
      refine lv_iload hx hb dX20_rankSet_10 (lv_at hl 4 rfl) ?_
      refine lv_aload_n hx hb dX20_rankSet_12 rfl (lv_at hl 0 rfl) ?_
      have hk_1 : kd u a0 = 17 := h.1
      have h := h.2
      refine g_getI X hw in_X20 hk_1 rfl 3 rfl (by decide) q569 (fun _ z => z) dX20_rankSet_13 ?_
      refine lv_icmp_ge (tgt := 71) hx hb dX20_rankSet_16 rfl (fun c_9 => ?_) (fun c_9 => ?_)
      · have h := h.1 c_9
        refine lv_iload_n hx hb dX20_rankSet_71 rfl (lv_at hl 2 rfl) ?_
        exact g_iret X hw hr ⟨rfl, h⟩ (Nat.le_refl _) (Nat.le_refl _) dX20_rankSet_72
      · have h := h.2 c_9
        refine lv_iload_n hx hb dX20_rankSet_19 rfl (lv_at hl 3 rfl) ?_
        refine lv_if_le (tgt := 71) hx hb dX20_rankSet_20 rfl (fun c_8 => ?_) (fun c_8 => ?_)
        · have h := h.1 c_8
          refine lv_iload_n hx hb dX20_rankSet_71 rfl (lv_at hl 2 rfl) ?_
          exact g_iret X hw hr ⟨rfl, h⟩ (Nat.le_refl _) (Nat.le_refl _) dX20_rankSet_72
        · have h := h.2 c_8
          refine lv_iload_n hx hb dX20_rankSet_23 rfl (lv_at hl 1 rfl) ?_
          refine lv_iload hx hb dX20_rankSet_24 (lv_at hl 4 rfl) ?_
          refine g_callio hw (g_SN X hw (mX1_has l G _ _ _ _ h) 2 q939 q122 (List.mem_of_getElem? (i := 40) rfl) q938 rfl rfl ydX1_has ⟨Nat.le_of_ble_eq_true rfl, Nat.le_of_ble_eq_true rfl⟩ (As := [.int x1, .int x4]) (rest := []) rfl hl.1 rfl (Nat.le_of_ble_eq_true rfl) dX20_rankSet_26 ⟨Nat.le_refl _, Nat.le_refl _⟩) (fun r_2 H locs h hw => ?_)
          refine lv_if_eq (tgt := 38) hx hb dX20_rankSet_29 rfl (fun c_7 => ?_) (fun c_7 => ?_)
          · have h := h.1 c_7
            refine lv_iload_n hx hb dX20_rankSet_38 rfl (lv_at hl 2 rfl) ?_
            refine lv_aload_n hx hb dX20_rankSet_39 rfl (lv_at hl 0 rfl) ?_
            refine g_getI X hw in_X20 hk_1 rfl 3 rfl (by decide) q569 (fun _ z => z) dX20_rankSet_40 ?_
            refine lv_iconst (v := 1) hx hb dX20_rankSet_43 (by decide) ?_
            refine lv_isub hx hb dX20_rankSet_44 ?_
            refine lv_iload hx hb dX20_rankSet_45 (lv_at hl 4 rfl) ?_
            refine lv_isub hx hb dX20_rankSet_47 ?_
            refine lv_iload_n hx hb dX20_rankSet_48 rfl (lv_at hl 3 rfl) ?_
            refine lv_iconst (v := 1) hx hb dX20_rankSet_49 (by decide) ?_
            refine lv_isub hx hb dX20_rankSet_50 ?_
            refine g_calllo hw (g_SN X hw (mX1_falling l G _ _ _ _ h) 2 q849 q122 (List.mem_of_getElem? (i := 38) rfl) q848 rfl rfl ydX1_falling ⟨Nat.le_of_ble_eq_true rfl, Nat.le_of_ble_eq_true rfl⟩ (As := [.int (((FI u 2003 a0) - 1) - x4), .int (x3 - 1)]) (rest := [.int x2]) rfl hl.1 rfl (Nat.le_of_ble_eq_true rfl) dX20_rankSet_51 ⟨Nat.le_refl _, Nat.le_refl _⟩) (fun r_3 H locs h hw => ?_)
            refine lv_iload_n hx hb dX20_rankSet_54 rfl (lv_at hl 3 rfl) ?_
            refine lv_iconst (v := 1) hx hb dX20_rankSet_55 (by decide) ?_
            refine lv_isub hx hb dX20_rankSet_56 ?_
            refine g_callio hw (g_SN X hw (mX1_factorial l G _ _ _ h) 1 q852 q122 (List.mem_of_getElem? (i := 39) rfl) q851 rfl rfl ydX1_factorial ⟨Nat.le_of_ble_eq_true rfl, Nat.le_of_ble_eq_true rfl⟩ (As := [.int (x3 - 1)]) (rest := [.long r_3, .int x2]) rfl hl.1 rfl (Nat.le_of_ble_eq_true rfl) dX20_rankSet_57 ⟨Nat.le_refl _, Nat.le_refl _⟩) (fun r_4 H locs h hw => ?_)
            refine lv_i2l hx hb dX20_rankSet_60 rfl ?_
            refine lv_ldiv hx hb dX20_rankSet_61 h.1 ?_
            have h := h.2
            refine lv_l2i hx hb dX20_rankSet_62 rfl ?_
            refine lv_iadd hx hb dX20_rankSet_63 ?_
            refine lv_topi (fun x2_5 e_6 => ?_)
            have h := h x2_5 e_6
            refine lv_istore_n (lv' := [(2, .int x2_5), (0, .ref a0), (1, .int x1), (3, .int x3), (4, .int x4)]) hx hb dX20_rankSet_64 rfl hl (by decide) rfl (fun ls hl => ?_)
            refine lv_iinc (v := x4 + 1) (lv' := [(4, .int (x4 + 1)), (2, .int x2_5), (0, .ref a0), (1, .int x1), (3, .int x3)]) hx hb dX20_rankSet_65 hl (k := 4) rfl rfl (by decide) rfl (fun ls hl => ?_)
            refine lv_goto (tgt := 10) hx hb dX20_rankSet_68 rfl ?_
            exact hJ10 _ _ _ _ _ _ h hw (lv_sub hl [2, 3, 1, 4, 0] rfl)
          · have h := h.2 c_7
            refine lv_iinc (v := x3 + (-1)) (lv' := [(3, .int (x3 + (-1))), (0, .ref a0), (1, .int x1), (2, .int x2), (4, .int x4)]) hx hb dX20_rankSet_32 hl (k := 3) rfl rfl (by decide) rfl (fun ls hl => ?_)
            refine lv_goto (tgt := 65) hx hb dX20_rankSet_35 rfl ?_
            refine lv_iinc (v := x4 + 1) (lv' := [(4, .int (x4 + 1)), (3, .int (x3 + (-1))), (0, .ref a0), (1, .int x1), (2, .int x2)]) hx hb dX20_rankSet_65 hl (k := 4) rfl rfl (by decide) rfl (fun ls hl => ?_)
            refine lv_goto (tgt := 10) hx hb dX20_rankSet_68 rfl ?_
            exact hJ10 _ _ _ _ _ _ h hw (lv_sub hl [2, 3, 4, 1, 0] rfl)
  exact key _ _ _ _ _ _ _ (Nat.lt_succ_self _) h0 hw hl
set_option maxHeartbeats 4000000 in
theorem mX20_rankSet (l : Launch) (G : GT) (u : Hp) (a0 : Nat) (x1 : Int32) (K : Int32 → Prop) (h : pX20_rankSet u a0 x1 K) : Met l yX20_rankSet (ws_ yX20_rankSet cX20_rankSet 5 (some .int)) (rmX20_rankSet 0 0) (va_Pc [.ref a0, .int x1] (GB G u)) (va_Qi (fun r v => v = u ∧ K r) (fun u t => GH G u t.heap) (GA G)) 0 0 (GA G) := by
  refine Met.ofW (cc := cX20_rankSet) (maxL := 5) (ret := (some .int)) (by decide) rfl ?_
  intro p e s m args below meth c s₁ B hml hv
  obtain ⟨rfl, hv⟩ := hv
  have X := Mc_of (own := RX20) B hml rfl hv
  have hw : GW G u s s.heap [] := ⟨hv.2.1, va_S.rf⟩
  have hr := B.returns
  obtain ⟨hx, hb, hml, hown, hts, -⟩ := id X
  have hl := lv_entry ([.ref a0, .int x1]) (n := 5) (Nat.le_of_ble_eq_true rfl)
  rw [lg_entry_eq]
  generalize (lg_sl ([.ref a0, .int x1]) ++ List.replicate (5 - (lg_sl ([.ref a0, .int x1])).length) Slot.unset).toArray = ls at hl ⊢
  have hl : lv_has ls 5 [(0, .ref a0), (1, .int x1)] := hl
  change W p l e (rmX20_rankSet 0 0) s m _ below meth c s.heap [] 0 0 (QI G below (fun r v => v = u ∧ K r) _ s 0 0) (F0 m 0 ls [])
  unfold pX20_rankSet at h
  refine lv_iconst (v := 0) hx hb dX20_rankSet_0 (by decide) ?_
  refine lv_istore_n (lv' := [(2, .int 0), (0, .ref a0), (1, .int x1)]) hx hb dX20_rankSet_1 rfl hl (by decide) rfl (fun ls hl => ?_)
  refine lv_aload_n hx hb dX20_rankSet_2 rfl (lv_at hl 1 rfl) ?_
  have hk_10 : kd u a0 = 17 := h.1
  have h := h.2
  refine g_getI X hw in_X20 hk_10 rfl 5 rfl (by decide) q576 (fun _ z => z) dX20_rankSet_3 ?_
  refine lv_istore_n (lv' := [(3, .int (FI u 2005 a0)), (2, .int 0), (0, .ref a0), (1, .int x1)]) hx hb dX20_rankSet_6 rfl hl (by decide) rfl (fun ls hl => ?_)
  refine lv_iconst (v := 0) hx hb dX20_rankSet_7 (by decide) ?_
  refine lv_istore (lv' := [(4, .int 0), (3, .int (FI u 2005 a0)), (2, .int 0), (0, .ref a0), (1, .int x1)]) hx hb dX20_rankSet_8 hl (by decide) rfl (fun ls hl => ?_)
  exact wX20_rankSet_10 X hr  h hw (lv_sub hl [3, 4, 2, 1, 0] rfl)

/-! FifthCard$Trick.rows()I -/
theorem ydX20_rows : yX20_rows.cls = "FifthCard$Trick" ∧ yX20_rows.cls ≠ "java/lang/invoke/MethodHandle" ∧ yX20_rows.cls ≠ "java/lang/invoke/VarHandle" ∧ (parseMethodDescriptor yX20_rows.desc).map (fun d => d.parameters.length) = some 0 := by decide +kernel
def rmX20_rows (mc ms : Nat) : Room := { frames := 0, cells := mc, slots := ms, locals := 0 }
set_option maxHeartbeats 4000000 in
theorem mX20_rows (l : Launch) (G : GT) (u : Hp) (a0 : Nat) (K : Int32 → Prop) (h : pX20_rows u a0 K) : Met l yX20_rows (ws_ yX20_rows cX20_rows 1 (some .int)) (rmX20_rows 0 0) (va_Pc [.ref a0] (GB G u)) (va_Qi (fun r v => v = u ∧ K r) (fun u t => GH G u t.heap) (GA G)) 0 0 (GA G) := by
  refine Met.ofW (cc := cX20_rows) (maxL := 1) (ret := (some .int)) (by decide) rfl ?_
  intro p e s m args below meth c s₁ B hml hv
  obtain ⟨rfl, hv⟩ := hv
  have X := Mc_of (own := RX20) B hml rfl hv
  have hw : GW G u s s.heap [] := ⟨hv.2.1, va_S.rf⟩
  have hr := B.returns
  obtain ⟨hx, hb, hml, hown, hts, -⟩ := id X
  have hl := lv_entry ([.ref a0]) (n := 1) (Nat.le_of_ble_eq_true rfl)
  rw [lg_entry_eq]
  generalize (lg_sl ([.ref a0]) ++ List.replicate (1 - (lg_sl ([.ref a0])).length) Slot.unset).toArray = ls at hl ⊢
  have hl : lv_has ls 1 [(0, .ref a0)] := hl
  change W p l e (rmX20_rows 0 0) s m _ below meth c s.heap [] 0 0 (QI G below (fun r v => v = u ∧ K r) _ s 0 0) (F0 m 0 ls [])
  unfold pX20_rows at h
  refine lv_aload_n hx hb dX20_rows_0 rfl (lv_at hl 0 rfl) ?_
  have hk_1 : kd u a0 = 17 := h.1
  have h := h.2
  refine g_getI X hw in_X20 hk_1 rfl 5 rfl (by decide) q576 (fun _ z => z) dX20_rows_1 ?_
  refine lv_aload_n hx hb dX20_rows_4 rfl (lv_at hl 0 rfl) ?_
  refine g_getI X hw in_X20 hk_1 rfl 6 rfl (by decide) q586 (fun _ z => z) dX20_rows_5 ?_
  refine lv_isub hx hb dX20_rows_8 ?_
  exact g_iret X hw hr ⟨rfl, h⟩ (Nat.le_refl _) (Nat.le_refl _) dX20_rows_9

/-! FifthCard$Trick.tiltings()I -/
theorem ydX20_tiltings : yX20_tiltings.cls = "FifthCard$Trick" ∧ yX20_tiltings.cls ≠ "java/lang/invoke/MethodHandle" ∧ yX20_tiltings.cls ≠ "java/lang/invoke/VarHandle" ∧ (parseMethodDescriptor yX20_tiltings.desc).map (fun d => d.parameters.length) = some 0 := by decide +kernel
def rmX20_tiltings (mc ms : Nat) : Room := { frames := 1, cells := mc, slots := ms, locals := 20 }
set_option maxHeartbeats 4000000 in
theorem mX20_tiltings (l : Launch) (G : GT) (u : Hp) (a0 : Nat) (K : Int32 → Prop) (h : pX20_tiltings u a0 K) : Met l yX20_tiltings (ws_ yX20_tiltings cX20_tiltings 1 (some .int)) (rmX20_tiltings 0 0) (va_Pc [.ref a0] (GB G u)) (va_Qi (fun r v => v = u ∧ K r) (fun u t => GH G u t.heap) (GA G)) 0 0 (GA G) := by
  refine Met.ofW (cc := cX20_tiltings) (maxL := 1) (ret := (some .int)) (by decide) rfl ?_
  intro p e s m args below meth c s₁ B hml hv
  obtain ⟨rfl, hv⟩ := hv
  have X := Mc_of (own := RX20) B hml rfl hv
  have hw : GW G u s s.heap [] := ⟨hv.2.1, va_S.rf⟩
  have hr := B.returns
  obtain ⟨hx, hb, hml, hown, hts, -⟩ := id X
  have hl := lv_entry ([.ref a0]) (n := 1) (Nat.le_of_ble_eq_true rfl)
  rw [lg_entry_eq]
  generalize (lg_sl ([.ref a0]) ++ List.replicate (1 - (lg_sl ([.ref a0])).length) Slot.unset).toArray = ls at hl ⊢
  have hl : lv_has ls 1 [(0, .ref a0)] := hl
  change W p l e (rmX20_tiltings 0 0) s m _ below meth c s.heap [] 0 0 (QI G below (fun r v => v = u ∧ K r) _ s 0 0) (F0 m 0 ls [])
  unfold pX20_tiltings at h
  refine lv_aload_n hx hb dX20_tiltings_0 rfl (lv_at hl 0 rfl) ?_
  have hk_1 : kd u a0 = 17 := h.1
  have h := h.2
  refine g_getI X hw in_X20 hk_1 rfl 11 rfl (by decide) q609 (fun _ z => z) dX20_tiltings_1 ?_
  refine lv_if_eq (tgt := 16) hx hb dX20_tiltings_4 rfl (fun c_3 => ?_) (fun c_3 => ?_)
  · have h := h.1 c_3
    refine lv_iconst (v := 1) hx hb dX20_tiltings_16 (by decide) ?_
    exact g_iret X hw hr ⟨rfl, h⟩ (Nat.le_refl _) (Nat.le_refl _) dX20_tiltings_17
  · have h := h.2 c_3
    refine lv_iconst (v := 1) hx hb dX20_tiltings_7 (by decide) ?_
    refine lv_aload_n hx hb dX20_tiltings_8 rfl (lv_at hl 0 rfl) ?_
    refine g_callio hw (g_V X hw (mX20_rows l G _ _ _ h) 0 (lw_V q957 q950 q951 q144 q952) rfl rfl ydX20_rows ⟨Nat.le_of_ble_eq_true rfl, Nat.le_of_ble_eq_true rfl⟩ (g_recv X hw (ci := 16) (q := (RX20, TX20, 13)) hk_1 rfl) (As := []) (rest := [.int 1]) rfl hl.1 rfl (Nat.le_of_ble_eq_true rfl) dX20_tiltings_9 ⟨Nat.le_refl _, Nat.le_refl _⟩) (fun r_2 H locs h hw => ?_)
    refine lv_ishl hx hb dX20_tiltings_12 ?_
    refine lv_goto (tgt := 17) hx hb dX20_tiltings_13 rfl ?_
    exact g_iret X hw hr ⟨rfl, h⟩ (Nat.le_refl _) (Nat.le_refl _) dX20_tiltings_17

/-! FifthCard$Trick.unrank(II[I)V -/
theorem ydX20_unrank : yX20_unrank.cls = "FifthCard$Trick" ∧ yX20_unrank.cls ≠ "java/lang/invoke/MethodHandle" ∧ yX20_unrank.cls ≠ "java/lang/invoke/VarHandle" ∧ (parseMethodDescriptor yX20_unrank.desc).map (fun d => d.parameters.length) = some 3 := by decide +kernel
def rmX20_unrank (mc ms : Nat) : Room := { frames := 1, cells := mc, slots := ms, locals := 21 }
set_option maxHeartbeats 4000000 in
theorem wX20_unrank_89 {G : GT} {p : Program} {l : Launch} {e : Env} {s : State} {m : MethodId} {args : Array Value} {below : List Frame} {meth : Method} {c : Code} {H : Heap} {locs : List Loc} {ls : Array Slot} {x2 : Int32} {a3 : Nat} {a5 : Nat} {x6 : Int32} {x7 : Int32} {x8 : Int32} {x9 : Int32} {u : Hp} {K : Hp → Prop} {J58 : Int32 → Int32 → Hp → Prop} {J74 : Int32 → Int32 → Prop} (X : Mc G p s m args meth c RX20 cX20_unrank 10) (hr : meth.sig.returnType = none) (hJ58 : ∀ (x6 : Int32) (x7 : Int32) (u : Hp) (H : Heap) (locs : List Loc) (ls : Array Slot) , J58 x6 x7 u → GW G u s H locs → lv_has ls 10 [(2, .int x2), (3, .ref a3), (5, .ref a5), (6, .int x6), (7, .int x7)] → W p l e (rmX20_unrank 0 0) s m args below meth c H locs 0 0 (QV G below K args s 0 0) (F0 m 58 ls [])) (hJ74 : ∀ (x8 : Int32) (x9 : Int32) (H : Heap) (locs : List Loc) (ls : Array Slot) , J74 x8 x9 → GW G u s H locs → lv_has ls 10 [(2, .int x2), (3, .ref a3), (5, .ref a5), (6, .int x6), (7, .int x7), (8, .int x8), (9, .int x9)] → W p l e (rmX20_unrank 0 0) s m args below meth c H locs 0 0 (QV G below K args s 0 0) (F0 m 74 ls [])) (h : bX20_unrank_89 K J58 J74 x2 a3 a5 x6 x7 x8 x9 u) (hw : GW G u s H locs) (hl : lv_has ls 10 [(2, .int x2), (3, .ref a3), (5, .ref a5), (6, .int x6), (7, .int x7), (8, .int x8), (9, .int x9)]) : W p l e (rmX20_unrank 0 0) s m args below meth c H locs 0 0 (QV G below K args s 0 0) (F0 m 89 ls []) := by
  obtain ⟨hx, hb, hml, hown, hts, -⟩ := id X
  unfold bX20_unrank_89 at h
  refine lv_iload hx hb dX20_unrank_89 (lv_at hl 6 rfl) ?_
  refine lv_iload hx hb dX20_unrank_91 (lv_at hl 3 rfl) ?_
  refine lv_iload hx hb dX20_unrank_93 (lv_at hl 5 rfl) ?_
  refine g_callio hw (g_SN X hw (mX1_has l G _ _ _ _ h) 2 q939 q122 (List.mem_of_getElem? (i := 40) rfl) q938 rfl rfl ydX1_has ⟨Nat.le_of_ble_eq_true rfl, Nat.le_of_ble_eq_true rfl⟩ (As := [.int x6, .int x8]) (rest := [.int x9]) rfl hl.1 rfl (Nat.le_of_ble_eq_true rfl) dX20_unrank_95 ⟨Nat.le_refl _, Nat.le_refl _⟩) (fun r_1 H locs h hw => ?_)
  refine lv_if_eq (tgt := 105) hx hb dX20_unrank_98 rfl (fun c_2 => ?_) (fun c_2 => ?_)
  · have h := h.1 c_2
    refine lv_iconst (v := 1) hx hb dX20_unrank_105 (by decide) ?_
    refine lv_isub hx hb dX20_unrank_106 ?_
    refine lv_istore (lv' := [(9, .int (x9 - 1)), (2, .int x2), (3, .ref a3), (5, .ref a5), (6, .int x6), (7, .int x7), (8, .int x8)]) hx hb dX20_unrank_107 hl (by decide) rfl (fun ls hl => ?_)
    refine lv_iinc (v := x8 + 1) (lv' := [(8, .int (x8 + 1)), (9, .int (x9 - 1)), (2, .int x2), (3, .ref a3), (5, .ref a5), (6, .int x6), (7, .int x7)]) hx hb dX20_unrank_109 hl (k := 6) rfl rfl (by decide) rfl (fun ls hl => ?_)
    refine lv_goto (tgt := 74) hx hb dX20_unrank_112 rfl ?_
    exact hJ74 _ _ _ _ _ h hw (lv_sub hl [2, 3, 4, 5, 6, 0, 1] rfl)
  · have h := h.2 c_2
    refine lv_iconst (v := 0) hx hb dX20_unrank_101 (by decide) ?_
    refine lv_goto (tgt := 106) hx hb dX20_unrank_102 rfl ?_
    refine lv_isub hx hb dX20_unrank_106 ?_
    refine lv_istore (lv' := [(9, .int (x9 - 0)), (2, .int x2), (3, .ref a3), (5, .ref a5), (6, .int x6), (7, .int x7), (8, .int x8)]) hx hb dX20_unrank_107 hl (by decide) rfl (fun ls hl => ?_)
    refine lv_iinc (v := x8 + 1) (lv' := [(8, .int (x8 + 1)), (9, .int (x9 - 0)), (2, .int x2), (3, .ref a3), (5, .ref a5), (6, .int x6), (7, .int x7)]) hx hb dX20_unrank_109 hl (k := 6) rfl rfl (by decide) rfl (fun ls hl => ?_)
    refine lv_goto (tgt := 74) hx hb dX20_unrank_112 rfl ?_
    exact hJ74 _ _ _ _ _ h hw (lv_sub hl [2, 3, 4, 5, 6, 0, 1] rfl)
set_option maxHeartbeats 4000000 in
theorem wX20_unrank_74 {G : GT} {p : Program} {l : Launch} {e : Env} {s : State} {m : MethodId} {args : Array Value} {below : List Frame} {meth : Method} {c : Code} {H : Heap} {locs : List Loc} {ls : Array Slot} {x2 : Int32} {a3 : Nat} {a5 : Nat} {x6 : Int32} {x7 : Int32} {u : Hp} {x8 : Int32} {x9 : Int32} {K : Hp → Prop} {J58 : Int32 → Int32 → Hp → Prop} (X : Mc G p s m args meth c RX20 cX20_unrank 10) (hr : meth.sig.returnType = none) (hJ58 : ∀ (x6 : Int32) (x7 : Int32) (u : Hp) (H : Heap) (locs : List Loc) (ls : Array Slot) , J58 x6 x7 u → GW G u s H locs → lv_has ls 10 [(2, .int x2), (3, .ref a3), (5, .ref a5), (6, .int x6), (7, .int x7)] → W p l e (rmX20_unrank 0 0) s m args below meth c H locs 0 0 (QV G below K args s 0 0) (F0 m 58 ls [])) (h : jl2 (bX20_unrank_74 K J58 x2 a3 a5 x6 x7 u) x8 x9) (hw : GW G u s H locs) (hl : lv_has ls 10 [(2, .int x2), (3, .ref a3), (5, .ref a5), (6, .int x6), (7, .int x7), (8, .int x8), (9, .int x9)]) : W p l e (rmX20_unrank 0 0) s m args below meth c H locs 0 0 (QV G below K args s 0 0) (F0 m 74 ls []) := by
  obtain ⟨hx, hb, hml, hown, hts, -⟩ := id X
  obtain ⟨I, μ, h0, hs⟩ := h
  have key : ∀ (n : Nat) (x8 : Int32) (x9 : Int32) (H : Heap) (locs : List Loc) (ls : Array Slot) , μ x8 x9 < n → I x8 x9 → GW G u s H locs → lv_has ls 10 [(2, .int x2), (3, .ref a3), (5, .ref a5), (6, .int x6), (7, .int x7), (8, .int x8), (9, .int x9)] → W p l e (rmX20_unrank 0 0) s m args below meth c H locs 0 0 (QV G below K args s 0 0) (F0 m 74 ls []) := by
    intro n
    induction n with
    | zero =>
      intro x8 x9 H locs ls hn
      exact absurd hn (Nat.not_lt_zero _)
    | succ n ih =>
      intro x8 x9 H locs ls hn hI hw hl
      have h := hs x8 x9 hI
      unfold bX20_unrank_74 at h
      have hJ74 : ∀ (x8' : Int32) (x9' : Int32) (H : Heap) (locs : List Loc) (ls : Array Slot) , (I x8' x9' ∧ μ x8' x9' < μ x8 x9) → GW G u s H locs → lv_has ls 10 [(2, .int x2), (3, .ref a3), (5, .ref a5), (6, .int x6), (7, .int x7), (8, .int x8'), (9, .int x9')] → W p l e (rmX20_unrank 0 0) s m args below meth c H locs 0 0 (QV G below K args s 0 0) (F0 m 74 ls []) := fun x8' x9' H locs ls h hw hl => ih x8' x9' H locs ls (Nat.lt_of_lt_of_le h.2 (Nat.le_of_lt_succ hn)) h.1 hw hl
      refine lv_iload hx hb dX20_unrank_74 (lv_at hl 3 rfl) ?_
      refine lv_iload hx hb dX20_unrank_76 (lv_at hl 5 rfl) ?_
      refine g_callio hw (g_SN X hw (mX1_has l G _ _ _ _ h) 2 q939 q122 (List.mem_of_getElem? (i := 40) rfl) q938 rfl rfl ydX1_has ⟨Nat.le_of_ble_eq_true rfl, Nat.le_of_ble_eq_true rfl⟩ (As := [.int x6, .int x8]) (rest := []) rfl hl.1 rfl (Nat.le_of_ble_eq_true rfl) dX20_unrank_78 ⟨Nat.le_refl _, Nat.le_refl _⟩) (fun r_3 H locs h hw => ?_)
      refine lv_if_ne (tgt := 89) hx hb dX20_unrank_81 rfl (fun c_6 => ?_) (fun c_6 => ?_)
      · have h := h.2 c_6
        exact wX20_unrank_89 X hr hJ58 hJ74  h hw (lv_sub hl [0, 1, 2, 3, 4, 5, 6] rfl)
      · have h := h.1 c_6
        refine lv_iload hx hb dX20_unrank_84 (lv_at hl 6 rfl) ?_
        refine lv_if_le (tgt := 115) hx hb dX20_unrank_86 rfl (fun c_5 => ?_) (fun c_5 => ?_)
        · have h := h.1 c_5
          refine lv_aload_n hx hb dX20_unrank_115 rfl (lv_at hl 1 rfl) ?_
          refine lv_iload hx hb dX20_unrank_116 (lv_at hl 4 rfl) ?_
          refine lv_iload hx hb dX20_unrank_118 (lv_at hl 5 rfl) ?_
          have hk_4 : kd u a3 = 101 := h.1
          have h := h.2
          refine g_iast X hw hk_4 h.1 dX20_unrank_120 (fun H locs hw => ?_)
          have h := h.2
          refine lv_iload hx hb dX20_unrank_121 (lv_at hl 3 rfl) ?_
          refine lv_iconst (v := 1) hx hb dX20_unrank_123 (by decide) ?_
          refine lv_iload hx hb dX20_unrank_124 (lv_at hl 5 rfl) ?_
          refine lv_ishl hx hb dX20_unrank_126 ?_
          refine lv_ior hx hb dX20_unrank_127 ?_
          refine lv_istore (lv' := [(6, .int (x6 ||| (jshl 1 x8))), (2, .int x2), (3, .ref a3), (5, .ref a5), (7, .int x7), (8, .int x8), (9, .int x9)]) hx hb dX20_unrank_128 hl (by decide) rfl (fun ls hl => ?_)
          refine lv_iinc (v := x7 + 1) (lv' := [(7, .int (x7 + 1)), (6, .int (x6 ||| (jshl 1 x8))), (2, .int x2), (3, .ref a3), (5, .ref a5), (8, .int x8), (9, .int x9)]) hx hb dX20_unrank_130 hl (k := 4) rfl rfl (by decide) rfl (fun ls hl => ?_)
          refine lv_goto (tgt := 58) hx hb dX20_unrank_133 rfl ?_
          exact hJ58 _ _ _ _ _ _ h hw (lv_sub hl [2, 3, 4, 1, 0] rfl)
        · have h := h.2 c_5
          exact wX20_unrank_89 X hr hJ58 hJ74  h hw (lv_sub hl [0, 1, 2, 3, 4, 5, 6] rfl)
  exact key _ _ _ _ _ _ (Nat.lt_succ_self _) h0 hw hl
set_option maxHeartbeats 4000000 in
theorem wX20_unrank_58 {G : GT} {p : Program} {l : Launch} {e : Env} {s : State} {m : MethodId} {args : Array Value} {below : List Frame} {meth : Method} {c : Code} {H : Heap} {locs : List Loc} {ls : Array Slot} {x2 : Int32} {a3 : Nat} {a5 : Nat} {x6 : Int32} {x7 : Int32} {u : Hp} {K : Hp → Prop} (X : Mc G p s m args meth c RX20 cX20_unrank 10) (hr : meth.sig.returnType = none) (h : jl3 (bX20_unrank_58 K x2 a3 a5) x6 x7 u) (hw : GW G u s H locs) (hl : lv_has ls 10 [(2, .int x2), (3, .ref a3), (5, .ref a5), (6, .int x6), (7, .int x7)]) : W p l e (rmX20_unrank 0 0) s m args below meth c H locs 0 0 (QV G below K args s 0 0) (F0 m 58 ls []) := by
  obtain ⟨hx, hb, hml, hown, hts, -⟩ := id X
  obtain ⟨I, μ, h0, hs⟩ := h
  have key : ∀ (n : Nat) (x6 : Int32) (x7 : Int32) (u : Hp) (H : Heap) (locs : List Loc) (ls : Array Slot) , μ x6 x7 u < n → I x6 x7 u → GW G u s H locs → lv_has ls 10 [(2, .int x2), (3, .ref a3), (5, .ref a5), (6, .int x6), (7, .int x7)] → W p l e (rmX20_unrank 0 0) s m args below meth c H locs 0 0 (QV G below K args s 0 0) (F0 m 58 ls []) := by
    intro n
    induction n with
    | zero =>
      intro x6 x7 u H locs ls hn
      exact absurd hn (Nat.not_lt_zero _)
    | succ n ih =>
      intro x6 x7 u H locs ls hn hI hw hl
      have h := hs x6 x7 u hI
      unfold bX20_unrank_58 at h
      have hJ58 : ∀ (x6' : Int32) (x7' : Int32) (u' : Hp) (H : Heap) (locs : List Loc) (ls : Array Slot) , (I x6' x7' u' ∧ μ x6' x7' u' < μ x6 x7 u) → GW G u' s H locs → lv_has ls 10 [(2, .int x2), (3, .ref a3), (5, .ref a5), (6, .int x6'), (7, .int x7')] → W p l e (rmX20_unrank 0 0) s m args below meth c H locs 0 0 (QV G below K args s 0 0) (F0 m 58 ls []) := fun x6' x7' u' H locs ls h hw hl => ih x6' x7' u' H locs ls (Nat.lt_of_lt_of_le h.2 (Nat.le_of_lt_succ hn)) h.1 hw hl
      refine lv_iload hx hb dX20_unrank_58 (lv_at hl 4 rfl) ?_
      refine lv_iload_n hx hb dX20_unrank_60 rfl (lv_at hl 0 rfl) ?_
      refine lv_icmp_ge (tgt := 136) hx hb dX20_unrank_61 rfl (fun c_8 => ?_) (fun c_8 => ?_)
      · have h := h.1 c_8
        exact g_vret X hw hr h (Nat.le_refl _) (Nat.le_refl _) dX20_unrank_136
      · have h := h.2 c_8
        refine lv_iconst (v := 0) hx hb dX20_unrank_64 (by decide) ?_
        refine lv_istore (lv' := [(8, .int 0), (2, .int x2), (3, .ref a3), (5, .ref a5), (6, .int x6), (7, .int x7)]) hx hb dX20_unrank_65 hl (by decide) rfl (fun ls hl => ?_)
        refine lv_aload hx hb dX20_unrank_67 (lv_at hl 3 rfl) ?_
        refine lv_iload hx hb dX20_unrank_69 (lv_at hl 5 rfl) ?_
        have hk_7 : kd u a5 = 101 := h.1
        have h := h.2
        refine g_iald X hw hk_7 h.1 dX20_unrank_71 ?_
        have h := h.2
        refine lv_istore (lv' := [(9, .int (AI u a5 (tn x7))), (8, .int 0), (2, .int x2), (3, .ref a3), (5, .ref a5), (6, .int x6), (7, .int x7)]) hx hb dX20_unrank_72 hl (by decide) rfl (fun ls hl => ?_)
        exact wX20_unrank_74 X hr hJ58  h hw (lv_sub hl [2, 3, 4, 5, 6, 1, 0] rfl)
  exact key _ _ _ _ _ _ _ (Nat.lt_succ_self _) h0 hw hl
set_option maxHeartbeats 4000000 in
theorem wX20_unrank_14 {G : GT} {p : Program} {l : Launch} {e : Env} {s : State} {m : MethodId} {args : Array Value} {below : List Frame} {meth : Method} {c : Code} {H : Heap} {locs : List Loc} {ls : Array Slot} {a0 : Nat} {x2 : Int32} {a3 : Nat} {a5 : Nat} {x4 : Int32} {x6 : Int32} {u : Hp} {K : Hp → Prop} (X : Mc G p s m args meth c RX20 cX20_unrank 10) (hr : meth.sig.returnType = none) (h : jl3 (bX20_unrank_14 K a0 x2 a3 a5) x4 x6 u) (hw : GW G u s H locs) (hl : lv_has ls 10 [(0, .ref a0), (2, .int x2), (3, .ref a3), (4, .int x4), (5, .ref a5), (6, .int x6)]) : W p l e (rmX20_unrank 0 0) s m args below meth c H locs 0 0 (QV G below K args s 0 0) (F0 m 14 ls []) := by
  obtain ⟨hx, hb, hml, hown, hts, -⟩ := id X
  obtain ⟨I, μ, h0, hs⟩ := h
  have key : ∀ (n : Nat) (x4 : Int32) (x6 : Int32) (u : Hp) (H : Heap) (locs : List Loc) (ls : Array Slot) , μ x4 x6 u < n → I x4 x6 u → GW G u s H locs → lv_has ls 10 [(0, .ref a0), (2, .int x2), (3, .ref a3), (4, .int x4), (5, .ref a5), (6, .int x6)] → W p l e (rmX20_unrank 0 0) s m args below meth c H locs 0 0 (QV G below K args s 0 0) (F0 m 14 ls []) := by
    intro n
    induction n with
    | zero =>
      intro x4 x6 u H locs ls hn
      exact absurd hn (Nat.not_lt_zero _)
    | succ n ih =>
      intro x4 x6 u H locs ls hn hI hw hl
      have h := hs x4 x6 u hI
      unfold bX20_unrank_14 at h
      have hJ14 : ∀ (x4' : Int32) (x6' : Int32) (u' : Hp) (H : Heap) (locs : List Loc) (ls : Array Slot) , (I x4' x6' u' ∧ μ x4' x6' u' < μ x4 x6 u) → GW G u' s H locs → lv_has ls 10 [(0, .ref a0), (2, .int x2), (3, .ref a3), (4, .int x4'), (5, .ref a5), (6, .int x6')] → W p l e (rmX20_unrank 0 0) s m args below meth c H locs 0 0 (QV G below K args s 0 0) (F0 m 14 ls []) := fun x4' x6' u' H locs ls h hw hl => ih x4' x6' u' H locs ls (Nat.lt_of_lt_of_le h.2 (Nat.le_of_lt_succ hn)) h.1 hw hl
      refine lv_iload hx hb dX20_unrank_14 (lv_at hl 5 rfl) ?_
      refine lv_if_lt (tgt := 52) hx hb dX20_unrank_16 rfl (fun c_11 => ?_) (fun c_11 => ?_)
      · have h := h.1 c_11
        refine lv_iconst (v := 0) hx hb dX20_unrank_52 (by decide) ?_
        refine lv_istore (lv' := [(6, .int 0), (0, .ref a0), (2, .int x2), (3, .ref a3), (4, .int x4), (5, .ref a5)]) hx hb dX20_unrank_53 hl (by decide) rfl (fun ls hl => ?_)
        refine lv_iconst (v := 0) hx hb dX20_unrank_55 (by decide) ?_
        refine lv_istore (lv' := [(7, .int 0), (6, .int 0), (0, .ref a0), (2, .int x2), (3, .ref a3), (4, .int x4), (5, .ref a5)]) hx hb dX20_unrank_56 hl (by decide) rfl (fun ls hl => ?_)
        exact wX20_unrank_58 X hr  h hw (lv_sub hl [3, 4, 6, 1, 0] rfl)
      · have h := h.2 c_11
        refine lv_aload hx hb dX20_unrank_19 (lv_at hl 4 rfl) ?_
        refine lv_iload hx hb dX20_unrank_21 (lv_at hl 5 rfl) ?_
        refine lv_iload hx hb dX20_unrank_23 (lv_at hl 3 rfl) ?_
        refine lv_aload_n hx hb dX20_unrank_25 rfl (lv_at hl 0 rfl) ?_
        have hk_9 : kd u a0 = 17 := h.1
        have h := h.2
        refine g_getI X hw in_X20 hk_9 rfl 3 rfl (by decide) q569 (fun _ z => z) dX20_unrank_26 ?_
        refine lv_iload hx hb dX20_unrank_29 (lv_at hl 5 rfl) ?_
        refine lv_isub hx hb dX20_unrank_31 ?_
        refine lv_irem hx hb dX20_unrank_32 h.1 ?_
        have h := h.2
        have hk_10 : kd u a5 = 101 := h.1
        have h := h.2
        refine g_iast X hw hk_10 h.1 dX20_unrank_33 (fun H locs hw => ?_)
        have h := h.2
        refine lv_iload hx hb dX20_unrank_34 (lv_at hl 3 rfl) ?_
        refine lv_aload_n hx hb dX20_unrank_36 rfl (lv_at hl 0 rfl) ?_
        refine g_getI X hw in_X20 hk_9 rfl 3 rfl (by decide) q569 (fun _ z => z) dX20_unrank_37 ?_
        refine lv_iload hx hb dX20_unrank_40 (lv_at hl 5 rfl) ?_
        refine lv_isub hx hb dX20_unrank_42 ?_
        refine lv_idiv hx hb dX20_unrank_43 h.1 ?_
        have h := h.2
        refine lv_istore (lv' := [(4, .int (x4 / ((FI u 2003 a0) - x6))), (0, .ref a0), (2, .int x2), (3, .ref a3), (5, .ref a5), (6, .int x6)]) hx hb dX20_unrank_44 hl (by decide) rfl (fun ls hl => ?_)
        refine lv_iinc (v := x6 + (-1)) (lv' := [(6, .int (x6 + (-1))), (4, .int (x4 / ((FI u 2003 a0) - x6))), (0, .ref a0), (2, .int x2), (3, .ref a3), (5, .ref a5)]) hx hb dX20_unrank_46 hl (k := 5) rfl rfl (by decide) rfl (fun ls hl => ?_)
        refine lv_goto (tgt := 14) hx hb dX20_unrank_49 rfl ?_
        exact hJ14 _ _ _ _ _ _ h hw (lv_sub hl [2, 3, 4, 1, 5, 0] rfl)
  exact key _ _ _ _ _ _ _ (Nat.lt_succ_self _) h0 hw hl
set_option maxHeartbeats 4000000 in
theorem mX20_unrank (l : Launch) (G : GT) (u : Hp) (a0 : Nat) (x1 : Int32) (x2 : Int32) (a3 : Nat) (K : Hp → Prop) (h : pX20_unrank u a0 x1 x2 a3 K) : Met l yX20_unrank (ws_ yX20_unrank cX20_unrank 10 none) (rmX20_unrank 0 0) (va_Pc [.ref a0, .int x1, .int x2, .ref a3] (GB G u)) (va_Qv K (fun u t => GH G u t.heap) (GA G)) 0 0 (GA G) := by
  refine Met.ofW (cc := cX20_unrank) (maxL := 10) (ret := none) (by decide) rfl ?_
  intro p e s m args below meth c s₁ B hml hv
  obtain ⟨rfl, hv⟩ := hv
  have X := Mc_of (own := RX20) B hml rfl hv
  have hw : GW G u s s.heap [] := ⟨hv.2.1, va_S.rf⟩
  have hr := B.returns
  obtain ⟨hx, hb, hml, hown, hts, -⟩ := id X
  have hl := lv_entry ([.ref a0, .int x1, .int x2, .ref a3]) (n := 10) (Nat.le_of_ble_eq_true rfl)
  rw [lg_entry_eq]
  generalize (lg_sl ([.ref a0, .int x1, .int x2, .ref a3]) ++ List.replicate (10 - (lg_sl ([.ref a0, .int x1, .int x2, .ref a3])).length) Slot.unset).toArray = ls at hl ⊢
  have hl : lv_has ls 10 [(0, .ref a0), (1, .int x1), (2, .int x2), (3, .ref a3)] := hl
  change W p l e (rmX20_unrank 0 0) s m _ below meth c s.heap [] 0 0 (QV G below K _ s 0 0) (F0 m 0 ls [])
  unfold pX20_unrank at h
  refine lv_iload_n hx hb dX20_unrank_0 rfl (lv_at hl 1 rfl) ?_
  refine lv_istore (lv' := [(4, .int x1), (0, .ref a0), (1, .int x1), (2, .int x2), (3, .ref a3)]) hx hb dX20_unrank_1 hl (by decide) rfl (fun ls hl => ?_)
  refine lv_aload_n hx hb dX20_unrank_3 rfl (lv_at hl 1 rfl) ?_
  have hk_12 : kd u a0 = 17 := h.1
  have h := h.2
  obtain ⟨b_13, e_14, h⟩ := h
  refine g_getR X hw in_X20 hk_12 rfl 12 rfl (by decide) q612 (fun _ z => z) e_14 dX20_unrank_4 ?_
  refine lv_astore (lv' := [(5, .ref b_13), (4, .int x1), (0, .ref a0), (1, .int x1), (2, .int x2), (3, .ref a3)]) hx hb dX20_unrank_7 hl (by decide) rfl (fun ls hl => ?_)
  refine lv_iload_n hx hb dX20_unrank_9 rfl (lv_at hl 4 rfl) ?_
  refine lv_iconst (v := 1) hx hb dX20_unrank_10 (by decide) ?_
  refine lv_isub hx hb dX20_unrank_11 ?_
  refine lv_istore (lv' := [(6, .int (x2 - 1)), (5, .ref b_13), (4, .int x1), (0, .ref a0), (1, .int x1), (2, .int x2), (3, .ref a3)]) hx hb dX20_unrank_12 hl (by decide) rfl (fun ls hl => ?_)
  exact wX20_unrank_14 X hr  h hw (lv_sub hl [3, 5, 6, 2, 1, 0] rfl)

/-! FifthCard$Trick.layHand(I[I)V -/
theorem ydX20_layHand : yX20_layHand.cls = "FifthCard$Trick" ∧ yX20_layHand.cls ≠ "java/lang/invoke/MethodHandle" ∧ yX20_layHand.cls ≠ "java/lang/invoke/VarHandle" ∧ (parseMethodDescriptor yX20_layHand.desc).map (fun d => d.parameters.length) = some 2 := by decide +kernel
def rmX20_layHand (mc ms : Nat) : Room := { frames := 2, cells := mc, slots := ms, locals := 50 }
set_option maxHeartbeats 4000000 in
theorem wX20_layHand_26 {G : GT} {p : Program} {l : Launch} {e : Env} {s : State} {m : MethodId} {args : Array Value} {below : List Frame} {meth : Method} {c : Code} {H : Heap} {locs : List Loc} {ls : Array Slot} {a0 : Nat} {a2 : Nat} {x3 : Int32} {x4 : Int32} {x5 : Int32} {u : Hp} {K : Hp → Prop} (X : Mc G p s m args meth c RX20 cX20_layHand 7) (hr : meth.sig.returnType = none) (h : jl4 (bX20_layHand_26 K a0 a2) x3 x4 x5 u) (hw : GW G u s H locs) (hl : lv_has ls 7 [(0, .ref a0), (2, .ref a2), (3, .int x3), (4, .int x4), (5, .int x5)]) : W p l e (rmX20_layHand 0 0) s m args below meth c H locs 0 0 (QV G below K args s 0 0) (F0 m 26 ls []) := by
  obtain ⟨hx, hb, hml, hown, hts, -⟩ := id X
  obtain ⟨I, μ, h0, hs⟩ := h
  have key : ∀ (n : Nat) (x3 : Int32) (x4 : Int32) (x5 : Int32) (u : Hp) (H : Heap) (locs : List Loc) (ls : Array Slot) , μ x3 x4 x5 u < n → I x3 x4 x5 u → GW G u s H locs → lv_has ls 7 [(0, .ref a0), (2, .ref a2), (3, .int x3), (4, .int x4), (5, .int x5)] → W p l e (rmX20_layHand 0 0) s m args below meth c H locs 0 0 (QV G below K args s 0 0) (F0 m 26 ls []) := by
    intro n
    induction n with
    | zero =>
      intro x3 x4 x5 u H locs ls hn
      exact absurd hn (Nat.not_lt_zero _)
    | succ n ih =>
      intro x3 x4 x5 u H locs ls hn hI hw hl
      have h := hs x3 x4 x5 u hI
      unfold bX20_layHand_26 at h
      have hJ26 : ∀ (x3' : Int32) (x4' : Int32) (x5' : Int32) (u' : Hp) (H : Heap) (locs : List Loc) (ls : Array Slot) , (I x3' x4' x5' u' ∧ μ x3' x4' x5' u' < μ x3 x4 x5 u) → GW G u' s H locs → lv_has ls 7 [(0, .ref a0), (2, .ref a2), (3, .int x3'), (4, .int x4'), (5, .int x5')] → W p l e (rmX20_layHand 0 0) s m args below meth c H locs 0 0 (QV G below K args s 0 0) (F0 m 26 ls []) := fun x3' x4' x5' u' H locs ls h hw hl => ih x3' x4' x5' u' H locs ls (Nat.lt_of_lt_of_le h.2 (Nat.le_of_lt_succ hn)) h.1 hw hl
      refine lv_iload hx hb dX20_layHand_26 (lv_at hl 3 rfl) ?_
      refine lv_aload_n hx hb dX20_layHand_28 rfl (lv_at hl 0 rfl) ?_
      have hk_1 : kd u a0 = 17 := h.1
      have h := h.2
      refine g_getI X hw in_X20 hk_1 rfl 5 rfl (by decide) q576 (fun _ z => z) dX20_layHand_29 ?_
      refine lv_icmp_ge (tgt := 102) hx hb dX20_layHand_32 rfl (fun c_8 => ?_) (fun c_8 => ?_)
      · have h := h.1 c_8
        exact g_vret X hw hr h (Nat.le_refl _) (Nat.le_refl _) dX20_layHand_102
      · have h := h.2 c_8
        refine lv_aload_n hx hb dX20_layHand_35 rfl (lv_at hl 0 rfl) ?_
        refine g_getI X hw in_X20 hk_1 rfl 3 rfl (by decide) q569 (fun _ z => z) dX20_layHand_36 ?_
        refine lv_iconst (v := 1) hx hb dX20_layHand_39 (by decide) ?_
        refine lv_isub hx hb dX20_layHand_40 ?_
        refine lv_iload hx hb dX20_layHand_41 (lv_at hl 4 rfl) ?_
        refine lv_isub hx hb dX20_layHand_43 ?_
        refine lv_aload_n hx hb dX20_layHand_44 rfl (lv_at hl 0 rfl) ?_
        refine g_getI X hw in_X20 hk_1 rfl 5 rfl (by decide) q576 (fun _ z => z) dX20_layHand_45 ?_
        refine lv_iload hx hb dX20_layHand_48 (lv_at hl 3 rfl) ?_
        refine lv_isub hx hb dX20_layHand_50 ?_
        refine lv_iconst (v := 1) hx hb dX20_layHand_51 (by decide) ?_
        refine lv_isub hx hb dX20_layHand_52 ?_
        refine g_calllo hw (g_SN X hw (mX1_falling l G _ _ _ _ h) 2 q849 q122 (List.mem_of_getElem? (i := 38) rfl) q848 rfl rfl ydX1_falling ⟨Nat.le_of_ble_eq_true rfl, Nat.le_of_ble_eq_true rfl⟩ (As := [.int (((FI u 2003 a0) - 1) - x5), .int (((FI u 2005 a0) - x4) - 1)]) (rest := []) rfl hl.1 rfl (Nat.le_of_ble_eq_true rfl) dX20_layHand_53 ⟨Nat.le_refl _, Nat.le_refl _⟩) (fun r_2 H locs h hw => ?_)
        refine lv_aload_n hx hb dX20_layHand_56 rfl (lv_at hl 0 rfl) ?_
        refine g_getI X hw in_X20 hk_1 rfl 5 rfl (by decide) q576 (fun _ z => z) dX20_layHand_57 ?_
        refine lv_iload hx hb dX20_layHand_60 (lv_at hl 3 rfl) ?_
        refine lv_isub hx hb dX20_layHand_62 ?_
        refine lv_iconst (v := 1) hx hb dX20_layHand_63 (by decide) ?_
        refine lv_isub hx hb dX20_layHand_64 ?_
        refine g_callio hw (g_SN X hw (mX1_factorial l G _ _ _ h) 1 q852 q122 (List.mem_of_getElem? (i := 39) rfl) q851 rfl rfl ydX1_factorial ⟨Nat.le_of_ble_eq_true rfl, Nat.le_of_ble_eq_true rfl⟩ (As := [.int (((FI u 2005 a0) - x4) - 1)]) (rest := [.long r_2]) rfl hl.1 rfl (Nat.le_of_ble_eq_true rfl) dX20_layHand_65 ⟨Nat.le_refl _, Nat.le_refl _⟩) (fun r_3 H locs h hw => ?_)
        refine lv_i2l hx hb dX20_layHand_68 rfl ?_
        refine lv_ldiv hx hb dX20_layHand_69 h.1 ?_
        have h := h.2
        refine lv_l2i hx hb dX20_layHand_70 rfl ?_
        refine lv_istore (lv' := [(6, .int ((r_2 / (r_3.toInt64)).toInt32)), (0, .ref a0), (2, .ref a2), (3, .int x3), (4, .int x4), (5, .int x5)]) hx hb dX20_layHand_71 hl (by decide) rfl (fun ls hl => ?_)
        refine lv_iload_n hx hb dX20_layHand_73 rfl (lv_at hl 3 rfl) ?_
        refine lv_iload hx hb dX20_layHand_74 (lv_at hl 0 rfl) ?_
        refine lv_icmp_ge (tgt := 91) hx hb dX20_layHand_76 rfl (fun c_7 => ?_) (fun c_7 => ?_)
        · have h := h.1 c_7
          refine lv_iload_n hx hb dX20_layHand_91 rfl (lv_at hl 3 rfl) ?_
          refine lv_iload hx hb dX20_layHand_92 (lv_at hl 0 rfl) ?_
          refine lv_isub hx hb dX20_layHand_94 ?_
          refine lv_topi (fun x3_4 e_5 => ?_)
          have h := h x3_4 e_5
          refine lv_istore_n (lv' := [(3, .int x3_4), (6, .int ((r_2 / (r_3.toInt64)).toInt32)), (0, .ref a0), (2, .ref a2), (4, .int x4), (5, .int x5)]) hx hb dX20_layHand_95 rfl hl (by decide) rfl (fun ls hl => ?_)
          refine lv_iinc (v := x5 + 1) (lv' := [(5, .int (x5 + 1)), (3, .int x3_4), (6, .int ((r_2 / (r_3.toInt64)).toInt32)), (0, .ref a0), (2, .ref a2), (4, .int x4)]) hx hb dX20_layHand_96 hl (k := 5) rfl rfl (by decide) rfl (fun ls hl => ?_)
          refine lv_goto (tgt := 26) hx hb dX20_layHand_99 rfl ?_
          exact hJ26 _ _ _ _ _ _ _ h hw (lv_sub hl [3, 4, 1, 5, 0] rfl)
        · have h := h.2 c_7
          refine lv_aload_n hx hb dX20_layHand_79 rfl (lv_at hl 2 rfl) ?_
          refine lv_iload hx hb dX20_layHand_80 (lv_at hl 4 rfl) ?_
          refine lv_iload hx hb dX20_layHand_82 (lv_at hl 5 rfl) ?_
          have hk_6 : kd u a2 = 101 := h.1
          have h := h.2
          refine g_iast X hw hk_6 h.1 dX20_layHand_84 (fun H locs hw => ?_)
          have h := h.2
          refine lv_iinc (v := x4 + 1) (lv' := [(4, .int (x4 + 1)), (6, .int ((r_2 / (r_3.toInt64)).toInt32)), (0, .ref a0), (2, .ref a2), (3, .int x3), (5, .int x5)]) hx hb dX20_layHand_85 hl (k := 4) rfl rfl (by decide) rfl (fun ls hl => ?_)
          refine lv_goto (tgt := 96) hx hb dX20_layHand_88 rfl ?_
          refine lv_iinc (v := x5 + 1) (lv' := [(5, .int (x5 + 1)), (4, .int (x4 + 1)), (6, .int ((r_2 / (r_3.toInt64)).toInt32)), (0, .ref a0), (2, .ref a2), (3, .int x3)]) hx hb dX20_layHand_96 hl (k := 5) rfl rfl (by decide) rfl (fun ls hl => ?_)
          refine lv_goto (tgt := 26) hx hb dX20_layHand_99 rfl ?_
          exact hJ26 _ _ _ _ _ _ _ h hw (lv_sub hl [3, 4, 5, 1, 0] rfl)
  exact key _ _ _ _ _ _ _ _ (Nat.lt_succ_self _) h0 hw hl
set_option maxHeartbeats 4000000 in
theorem mX20_layHand (l : Launch) (G : GT) (u : Hp) (a0 : Nat) (x1 : Int32) (a2 : Nat) (K : Hp → Prop) (h : pX20_layHand u a0 x1 a2 K) : Met l yX20_layHand (ws_ yX20_layHand cX20_layHand 7 none) (rmX20_layHand 0 0) (va_Pc [.ref a0, .int x1, .ref a2] (GB G u)) (va_Qv K (fun u t => GH G u t.heap) (GA G)) 0 0 (GA G) := by
  refine Met.ofW (cc := cX20_layHand) (maxL := 7) (ret := none) (by decide) rfl ?_
  intro p e s m args below meth c s₁ B hml hv
  obtain ⟨rfl, hv⟩ := hv
  have X := Mc_of (own := RX20) B hml rfl hv
  have hw : GW G u s s.heap [] := ⟨hv.2.1, va_S.rf⟩
  have hr := B.returns
  obtain ⟨hx, hb, hml, hown, hts, -⟩ := id X
  have hl := lv_entry ([.ref a0, .int x1, .ref a2]) (n := 7) (Nat.le_of_ble_eq_true rfl)
  rw [lg_entry_eq]
  generalize (lg_sl ([.ref a0, .int x1, .ref a2]) ++ List.replicate (7 - (lg_sl ([.ref a0, .int x1, .ref a2])).length) Slot.unset).toArray = ls at hl ⊢
  have hl : lv_has ls 7 [(0, .ref a0), (1, .int x1), (2, .ref a2)] := hl
  change W p l e (rmX20_layHand 0 0) s m _ below meth c s.heap [] 0 0 (QV G below K _ s 0 0) (F0 m 0 ls [])
  unfold pX20_layHand at h
  refine lv_aload_n hx hb dX20_layHand_0 rfl (lv_at hl 0 rfl) ?_
  have hk_9 : kd u a0 = 17 := h.1
  have h := h.2
  refine g_getI X hw in_X20 hk_9 rfl 9 rfl (by decide) q600 (fun _ z => z) dX20_layHand_1 ?_
  refine lv_if_eq (tgt := 18) hx hb dX20_layHand_4 rfl (fun c_11 => ?_) (fun c_11 => ?_)
  · have h := h.1 c_11
    refine lv_iload_n hx hb dX20_layHand_18 rfl (lv_at hl 1 rfl) ?_
    refine lv_istore_n (lv' := [(3, .int x1), (0, .ref a0), (1, .int x1), (2, .ref a2)]) hx hb dX20_layHand_19 rfl hl (by decide) rfl (fun ls hl => ?_)
    refine lv_iconst (v := 0) hx hb dX20_layHand_20 (by decide) ?_
    refine lv_istore (lv' := [(4, .int 0), (3, .int x1), (0, .ref a0), (1, .int x1), (2, .ref a2)]) hx hb dX20_layHand_21 hl (by decide) rfl (fun ls hl => ?_)
    refine lv_iconst (v := 0) hx hb dX20_layHand_23 (by decide) ?_
    refine lv_istore (lv' := [(5, .int 0), (4, .int 0), (3, .int x1), (0, .ref a0), (1, .int x1), (2, .ref a2)]) hx hb dX20_layHand_24 hl (by decide) rfl (fun ls hl => ?_)
    exact wX20_layHand_26 X hr  h hw (lv_sub hl [3, 5, 2, 1, 0] rfl)
  · have h := h.2 c_11
    refine lv_aload_n hx hb dX20_layHand_7 rfl (lv_at hl 0 rfl) ?_
    refine lv_iload_n hx hb dX20_layHand_8 rfl (lv_at hl 1 rfl) ?_
    refine lv_aload_n hx hb dX20_layHand_9 rfl (lv_at hl 0 rfl) ?_
    refine g_getI X hw in_X20 hk_9 rfl 5 rfl (by decide) q576 (fun _ z => z) dX20_layHand_10 ?_
    refine lv_aload_n hx hb dX20_layHand_13 rfl (lv_at hl 2 rfl) ?_
    refine g_callv hw (g_V X hw (mX20_unrank l G _ _ _ _ _ _ h) 3 (lw_V q972 q973 q974 q144 q975) rfl rfl ydX20_unrank ⟨Nat.le_of_ble_eq_true rfl, Nat.le_of_ble_eq_true rfl⟩ (g_recv X hw (ci := 16) (q := (RX20, TX20, 13)) hk_9 rfl) (As := [.int x1, .int (FI u 2005 a0), .ref a2]) (rest := []) rfl hl.1 rfl (Nat.le_of_ble_eq_true rfl) dX20_layHand_14 ⟨Nat.le_refl _, Nat.le_refl _⟩) (fun u_10 H locs h hw => ?_)
    exact g_vret X hw hr h (Nat.le_refl _) (Nat.le_refl _) dX20_layHand_17

/-! FifthCard.ones(I)I -/
theorem ydX1_ones : yX1_ones.cls = "FifthCard" ∧ yX1_ones.cls ≠ "java/lang/invoke/MethodHandle" ∧ yX1_ones.cls ≠ "java/lang/invoke/VarHandle" ∧ (parseMethodDescriptor yX1_ones.desc).map (fun d => d.parameters.length) = some 1 := by decide +kernel
def rmX1_ones (mc ms : Nat) : Room := { frames := 0, cells := mc, slots := ms, locals := 0 }
set_option maxHeartbeats 4000000 in
theorem wX1_ones_4 {G : GT} {p : Program} {l : Launch} {e : Env} {s : State} {m : MethodId} {args : Array Value} {below : List Frame} {meth : Method} {c : Code} {H : Heap} {locs : List Loc} {ls : Array Slot} {u : Hp} {x1 : Int32} {x2 : Int32} {K : Int32 → Prop} (X : Mc G p s m args meth c RX1 cX1_ones 3) (hr : meth.sig.returnType = (some .int)) (h : jl2 (bX1_ones_4 K) x1 x2) (hw : GW G u s H locs) (hl : lv_has ls 3 [(1, .int x1), (2, .int x2)]) : W p l e (rmX1_ones 0 0) s m args below meth c H locs 0 0 (QI G below (fun r v => v = u ∧ K r) args s 0 0) (F0 m 4 ls []) := by
  obtain ⟨hx, hb, hml, hown, hts, -⟩ := id X
  obtain ⟨I, μ, h0, hs⟩ := h
  have key : ∀ (n : Nat) (x1 : Int32) (x2 : Int32) (H : Heap) (locs : List Loc) (ls : Array Slot) , μ x1 x2 < n → I x1 x2 → GW G u s H locs → lv_has ls 3 [(1, .int x1), (2, .int x2)] → W p l e (rmX1_ones 0 0) s m args below meth c H locs 0 0 (QI G below (fun r v => v = u ∧ K r) args s 0 0) (F0 m 4 ls []) := by
    intro n
    induction n with
    | zero =>
      intro x1 x2 H locs ls hn
      exact absurd hn (Nat.not_lt_zero _)
    | succ n ih =>
      intro x1 x2 H locs ls hn hI hw hl
      have h := hs x1 x2 hI
      unfold bX1_ones_4 at h
      have hJ4 : ∀ (x1' : Int32) (x2' : Int32) (H : Heap) (locs : List Loc) (ls : Array Slot) , (I x1' x2' ∧ μ x1' x2' < μ x1 x2) → GW G u s H locs → lv_has ls 3 [(1, .int x1'), (2, .int x2')] → W p l e (rmX1_ones 0 0) s m args below meth c H locs 0 0 (QI G below (fun r v => v = u ∧ K r) args s 0 0) (F0 m 4 ls []) := fun x1' x2' H locs ls h hw hl => ih x1' x2' H locs ls (Nat.lt_of_lt_of_le h.2 (Nat.le_of_lt_succ hn)) h.1 hw hl
      refine lv_iload_n hx hb dX1_ones_4 rfl (lv_at hl 1 rfl) ?_
      refine lv_if_eq (tgt := 20) hx hb dX1_ones_5 rfl (fun c_1 => ?_) (fun c_1 => ?_)
      · have h := h.1 c_1
        refine lv_iload_n hx hb dX1_ones_20 rfl (lv_at hl 0 rfl) ?_
        exact g_iret X hw hr ⟨rfl, h⟩ (Nat.le_refl _) (Nat.le_refl _) dX1_ones_21
      · have h := h.2 c_1
        refine lv_iinc (v := x1 + 1) (lv' := [(1, .int (x1 + 1)), (2, .int x2)]) hx hb dX1_ones_8 hl (k := 0) rfl rfl (by decide) rfl (fun ls hl => ?_)
        refine lv_iload_n hx hb dX1_ones_11 rfl (lv_at hl 1 rfl) ?_
        refine lv_iload_n hx hb dX1_ones_12 rfl (lv_at hl 1 rfl) ?_
        refine lv_iconst (v := 1) hx hb dX1_ones_13 (by decide) ?_
        refine lv_isub hx hb dX1_ones_14 ?_
        refine lv_iand hx hb dX1_ones_15 ?_
        refine lv_istore_n (lv' := [(2, .int (x2 &&& (x2 - 1))), (1, .int (x1 + 1))]) hx hb dX1_ones_16 rfl hl (by decide) rfl (fun ls hl => ?_)
        refine lv_goto (tgt := 4) hx hb dX1_ones_17 rfl ?_
        exact hJ4 _ _ _ _ _ h hw (lv_sub hl [1, 0] rfl)
  exact key _ _ _ _ _ _ (Nat.lt_succ_self _) h0 hw hl
set_option maxHeartbeats 4000000 in
theorem mX1_ones (l : Launch) (G : GT) (u : Hp) (x0 : Int32) (K : Int32 → Prop) (h : pX1_ones x0 K) : Met l yX1_ones (ws_ yX1_ones cX1_ones 3 (some .int)) (rmX1_ones 0 0) (va_Pc [.int x0] (GB G u)) (va_Qi (fun r v => v = u ∧ K r) (fun u t => GH G u t.heap) (GA G)) 0 0 (GA G) := by
  refine Met.ofW (cc := cX1_ones) (maxL := 3) (ret := (some .int)) (by decide) rfl ?_
  intro p e s m args below meth c s₁ B hml hv
  obtain ⟨rfl, hv⟩ := hv
  have X := Mc_of (own := RX1) B hml rfl hv
  have hw : GW G u s s.heap [] := ⟨hv.2.1, va_S.rf⟩
  have hr := B.returns
  obtain ⟨hx, hb, hml, hown, hts, -⟩ := id X
  have hl := lv_entry ([.int x0]) (n := 3) (Nat.le_of_ble_eq_true rfl)
  rw [lg_entry_eq]
  generalize (lg_sl ([.int x0]) ++ List.replicate (3 - (lg_sl ([.int x0])).length) Slot.unset).toArray = ls at hl ⊢
  have hl : lv_has ls 3 [(0, .int x0)] := hl
  change W p l e (rmX1_ones 0 0) s m _ below meth c s.heap [] 0 0 (QI G below (fun r v => v = u ∧ K r) _ s 0 0) (F0 m 0 ls [])
  unfold pX1_ones at h
  refine lv_iconst (v := 0) hx hb dX1_ones_0 (by decide) ?_
  refine lv_istore_n (lv' := [(1, .int 0), (0, .int x0)]) hx hb dX1_ones_1 rfl hl (by decide) rfl (fun ls hl => ?_)
  refine lv_iload_n hx hb dX1_ones_2 rfl (lv_at hl 1 rfl) ?_
  refine lv_istore_n (lv' := [(2, .int x0), (1, .int 0), (0, .int x0)]) hx hb dX1_ones_3 rfl hl (by decide) rfl (fun ls hl => ?_)
  exact wX1_ones_4 X hr  h hw (lv_sub hl [1, 0] rfl)

/-! FifthCard$Pairing.someLeftOut(LFifthCard$Trick;I)V -/
theorem ydX4_someLeftOut : yX4_someLeftOut.cls = "FifthCard$Pairing" ∧ yX4_someLeftOut.cls ≠ "java/lang/invoke/MethodHandle" ∧ yX4_someLeftOut.cls ≠ "java/lang/invoke/VarHandle" ∧ (parseMethodDescriptor yX4_someLeftOut.desc).map (fun d => d.parameters.length) = some 2 := by decide +kernel
def rmX4_someLeftOut (mc ms : Nat) : Room := { frames := 2, cells := mc, slots := ms, locals := 48 }
set_option maxHeartbeats 4000000 in
theorem wX4_someLeftOut_104 {G : GT} {p : Program} {l : Launch} {e : Env} {s : State} {m : MethodId} {args : Array Value} {below : List Frame} {meth : Method} {c : Code} {H : Heap} {locs : List Loc} {ls : Array Slot} {a0 : Nat} {a1 : Nat} {x2 : Int32} {x3 : Int32} {x4 : Int32} {x6 : Int32} {x7 : Int32} {u : Hp} {K : Hp → Prop} {J5 : Int32 → Int32 → Hp → Prop} (X : Mc G p s m args meth c RX4 cX4_someLeftOut 8) (hr : meth.sig.returnType = none) (hJ5 : ∀ (x3 : Int32) (x4 : Int32) (u : Hp) (H : Heap) (locs : List Loc) (ls : Array Slot) , J5 x3 x4 u → GW G u s H locs → lv_has ls 8 [(0, .ref a0), (1, .ref a1), (2, .int x2), (3, .int x3), (4, .int x4)] → W p l e (rmX4_someLeftOut 0 0) s m args below meth c H locs 0 0 (QV G below K args s 0 0) (F0 m 5 ls [])) (h : jl2 (bX4_someLeftOut_104 K J5 a0 a1 x2 x3 x4 x6) x7 u) (hw : GW G u s H locs) (hl : lv_has ls 8 [(0, .ref a0), (1, .ref a1), (2, .int x2), (3, .int x3), (4, .int x4), (6, .int x6), (7, .int x7)]) : W p l e (rmX4_someLeftOut 0 0) s m args below meth c H locs 0 0 (QV G below K args s 0 0) (F0 m 104 ls []) := by
  obtain ⟨hx, hb, hml, hown, hts, -⟩ := id X
  obtain ⟨I, μ, h0, hs⟩ := h
  have key : ∀ (n : Nat) (x7 : Int32) (u : Hp) (H : Heap) (locs : List Loc) (ls : Array Slot) , μ x7 u < n → I x7 u → GW G u s H locs → lv_has ls 8 [(0, .ref a0), (1, .ref a1), (2, .int x2), (3, .int x3), (4, .int x4), (6, .int x6), (7, .int x7)] → W p l e (rmX4_someLeftOut 0 0) s m args below meth c H locs 0 0 (QV G below K args s 0 0) (F0 m 104 ls []) := by
    intro n
    induction n with
    | zero =>
      intro x7 u H locs ls hn
      exact absurd hn (Nat.not_lt_zero _)
    | succ n ih =>
      intro x7 u H locs ls hn hI hw hl
      have h := hs x7 u hI
      unfold bX4_someLeftOut_104 at h
      have hJ104 : ∀ (x7' : Int32) (u' : Hp) (H : Heap) (locs : List Loc) (ls : Array Slot) , (I x7' u' ∧ μ x7' u' < μ x7 u) → GW G u' s H locs → lv_has ls 8 [(0, .ref a0), (1, .ref a1), (2, .int x2), (3, .int x3), (4, .int x4), (6, .int x6), (7, .int x7')] → W p l e (rmX4_someLeftOut 0 0) s m args below meth c H locs 0 0 (QV G below K args s 0 0) (F0 m 104 ls []) := fun x7' u' H locs ls h hw hl => ih x7' u' H locs ls (Nat.lt_of_lt_of_le h.2 (Nat.le_of_lt_succ hn)) h.1 hw hl
      refine lv_iload hx hb dX4_someLeftOut_104 (lv_at hl 6 rfl) ?_
      refine lv_aload_n hx hb dX4_someLeftOut_106 rfl (lv_at hl 0 rfl) ?_
      have hk_1 : kd u a0 = 4 := h.1
      have h := h.2
      refine g_getI X hw in_X4 hk_1 rfl 8 rfl (by decide) q296 (fun _ z => z) dX4_someLeftOut_107 ?_
      refine lv_iload_n hx hb dX4_someLeftOut_110 rfl (lv_at hl 2 rfl) ?_
      refine lv_imul hx hb dX4_someLeftOut_111 ?_
      refine lv_icmp_le (tgt := 151) hx hb dX4_someLeftOut_112 rfl (fun c_9 => ?_) (fun c_9 => ?_)
      · have h := h.1 c_9
        refine lv_aload_n hx hb dX4_someLeftOut_151 rfl (lv_at hl 0 rfl) ?_
        obtain ⟨b_2, e_3, h⟩ := h
        refine g_getR X hw in_X4 hk_1 rfl 0 rfl (by decide) q288 (fun _ z => z) e_3 dX4_someLeftOut_152 ?_
        refine lv_iload hx hb dX4_someLeftOut_155 (lv_at hl 6 rfl) ?_
        refine lv_iload hx hb dX4_someLeftOut_157 (lv_at hl 5 rfl) ?_
        have hk_4 : kd u b_2 = 101 := h.1
        have h := h.2
        refine g_iast X hw hk_4 h.1 dX4_someLeftOut_159 (fun H locs hw => ?_)
        have h := h.2
        refine lv_iinc (v := x3 + 1) (lv' := [(3, .int (x3 + 1)), (0, .ref a0), (1, .ref a1), (2, .int x2), (4, .int x4), (6, .int x6), (7, .int x7)]) hx hb dX4_someLeftOut_160 hl (k := 3) rfl rfl (by decide) rfl (fun ls hl => ?_)
        refine lv_iinc (v := x4 + 1) (lv' := [(4, .int (x4 + 1)), (3, .int (x3 + 1)), (0, .ref a0), (1, .ref a1), (2, .int x2), (6, .int x6), (7, .int x7)]) hx hb dX4_someLeftOut_163 hl (k := 4) rfl rfl (by decide) rfl (fun ls hl => ?_)
        refine lv_goto (tgt := 5) hx hb dX4_someLeftOut_166 rfl ?_
        exact hJ5 _ _ _ _ _ _ h hw (lv_sub hl [2, 3, 4, 1, 0] rfl)
      · have h := h.2 c_9
        refine lv_aload_n hx hb dX4_someLeftOut_115 rfl (lv_at hl 0 rfl) ?_
        obtain ⟨b_5, e_6, h⟩ := h
        refine g_getR X hw in_X4 hk_1 rfl 0 rfl (by decide) q288 (fun _ z => z) e_6 dX4_someLeftOut_116 ?_
        refine lv_iload hx hb dX4_someLeftOut_119 (lv_at hl 6 rfl) ?_
        refine lv_iconst (v := 1) hx hb dX4_someLeftOut_121 (by decide) ?_
        refine lv_isub hx hb dX4_someLeftOut_122 ?_
        have hk_7 : kd u b_5 = 101 := h.1
        have h := h.2
        refine g_iald X hw hk_7 h.1 dX4_someLeftOut_123 ?_
        have h := h.2
        refine lv_iload hx hb dX4_someLeftOut_124 (lv_at hl 5 rfl) ?_
        refine lv_icmp_le (tgt := 151) hx hb dX4_someLeftOut_126 rfl (fun c_8 => ?_) (fun c_8 => ?_)
        · have h := h.1 c_8
          refine lv_aload_n hx hb dX4_someLeftOut_151 rfl (lv_at hl 0 rfl) ?_
          refine g_getR X hw in_X4 hk_1 rfl 0 rfl (by decide) q288 (fun _ z => z) e_6 dX4_someLeftOut_152 ?_
          refine lv_iload hx hb dX4_someLeftOut_155 (lv_at hl 6 rfl) ?_
          refine lv_iload hx hb dX4_someLeftOut_157 (lv_at hl 5 rfl) ?_
          refine g_iast X hw hk_7 h.1 dX4_someLeftOut_159 (fun H locs hw => ?_)
          have h := h.2
          refine lv_iinc (v := x3 + 1) (lv' := [(3, .int (x3 + 1)), (0, .ref a0), (1, .ref a1), (2, .int x2), (4, .int x4), (6, .int x6), (7, .int x7)]) hx hb dX4_someLeftOut_160 hl (k := 3) rfl rfl (by decide) rfl (fun ls hl => ?_)
          refine lv_iinc (v := x4 + 1) (lv' := [(4, .int (x4 + 1)), (3, .int (x3 + 1)), (0, .ref a0), (1, .ref a1), (2, .int x2), (6, .int x6), (7, .int x7)]) hx hb dX4_someLeftOut_163 hl (k := 4) rfl rfl (by decide) rfl (fun ls hl => ?_)
          refine lv_goto (tgt := 5) hx hb dX4_someLeftOut_166 rfl ?_
          exact hJ5 _ _ _ _ _ _ h hw (lv_sub hl [2, 3, 4, 1, 0] rfl)
        · have h := h.2 c_8
          refine lv_aload_n hx hb dX4_someLeftOut_129 rfl (lv_at hl 0 rfl) ?_
          refine g_getR X hw in_X4 hk_1 rfl 0 rfl (by decide) q288 (fun _ z => z) e_6 dX4_someLeftOut_130 ?_
          refine lv_iload hx hb dX4_someLeftOut_133 (lv_at hl 6 rfl) ?_
          refine lv_aload_n hx hb dX4_someLeftOut_135 rfl (lv_at hl 0 rfl) ?_
          refine g_getR X hw in_X4 hk_1 rfl 0 rfl (by decide) q288 (fun _ z => z) e_6 dX4_someLeftOut_136 ?_
          refine lv_iload hx hb dX4_someLeftOut_139 (lv_at hl 6 rfl) ?_
          refine lv_iconst (v := 1) hx hb dX4_someLeftOut_141 (by decide) ?_
          refine lv_isub hx hb dX4_someLeftOut_142 ?_
          refine g_iald X hw hk_7 h.1 dX4_someLeftOut_143 ?_
          have h := h.2
          refine g_iast X hw hk_7 h.1 dX4_someLeftOut_144 (fun H locs hw => ?_)
          have h := h.2
          refine lv_iinc (v := x7 + (-1)) (lv' := [(7, .int (x7 + (-1))), (0, .ref a0), (1, .ref a1), (2, .int x2), (3, .int x3), (4, .int x4), (6, .int x6)]) hx hb dX4_someLeftOut_145 hl (k := 6) rfl rfl (by decide) rfl (fun ls hl => ?_)
          refine lv_goto (tgt := 104) hx hb dX4_someLeftOut_148 rfl ?_
          exact hJ104 _ _ _ _ _ h hw (lv_sub hl [1, 2, 3, 4, 5, 6, 0] rfl)
  exact key _ _ _ _ _ _ (Nat.lt_succ_self _) h0 hw hl
set_option maxHeartbeats 4000000 in
theorem wX4_someLeftOut_37 {G : GT} {p : Program} {l : Launch} {e : Env} {s : State} {m : MethodId} {args : Array Value} {below : List Frame} {meth : Method} {c : Code} {H : Heap} {locs : List Loc} {ls : Array Slot} {a0 : Nat} {a1 : Nat} {x2 : Int32} {x3 : Int32} {x4 : Int32} {x5 : Int32} {x6 : Int32} {u : Hp} {K : Hp → Prop} {J5 : Int32 → Int32 → Hp → Prop} (X : Mc G p s m args meth c RX4 cX4_someLeftOut 8) (hr : meth.sig.returnType = none) (hJ5 : ∀ (x3 : Int32) (x4 : Int32) (u : Hp) (H : Heap) (locs : List Loc) (ls : Array Slot) , J5 x3 x4 u → GW G u s H locs → lv_has ls 8 [(0, .ref a0), (1, .ref a1), (2, .int x2), (3, .int x3), (4, .int x4)] → W p l e (rmX4_someLeftOut 0 0) s m args below meth c H locs 0 0 (QV G below K args s 0 0) (F0 m 5 ls [])) (h : jl3 (bX4_someLeftOut_37 K J5 a0 a1 x2 x3 x4) x5 x6 u) (hw : GW G u s H locs) (hl : lv_has ls 8 [(0, .ref a0), (1, .ref a1), (2, .int x2), (3, .int x3), (4, .int x4), (5, .int x5), (6, .int x6)]) : W p l e (rmX4_someLeftOut 0 0) s m args below meth c H locs 0 0 (QV G below K args s 0 0) (F0 m 37 ls []) := by
  obtain ⟨hx, hb, hml, hown, hts, -⟩ := id X
  obtain ⟨I, μ, h0, hs⟩ := h
  have key : ∀ (n : Nat) (x5 : Int32) (x6 : Int32) (u : Hp) (H : Heap) (locs : List Loc) (ls : Array Slot) , μ x5 x6 u < n → I x5 x6 u → GW G u s H locs → lv_has ls 8 [(0, .ref a0), (1, .ref a1), (2, .int x2), (3, .int x3), (4, .int x4), (5, .int x5), (6, .int x6)] → W p l e (rmX4_someLeftOut 0 0) s m args below meth c H locs 0 0 (QV G below K args s 0 0) (F0 m 37 ls []) := by
    intro n
    induction n with
    | zero =>
      intro x5 x6 u H locs ls hn
      exact absurd hn (Nat.not_lt_zero _)
    | succ n ih =>
      intro x5 x6 u H locs ls hn hI hw hl
      have h := hs x5 x6 u hI
      unfold bX4_someLeftOut_37 at h
      have hJ37 : ∀ (x5' : Int32) (x6' : Int32) (u' : Hp) (H : Heap) (locs : List Loc) (ls : Array Slot) , (I x5' x6' u' ∧ μ x5' x6' u' < μ x5 x6 u) → GW G u' s H locs → lv_has ls 8 [(0, .ref a0), (1, .ref a1), (2, .int x2), (3, .int x3), (4, .int x4), (5, .int x5'), (6, .int x6')] → W p l e (rmX4_someLeftOut 0 0) s m args below meth c H locs 0 0 (QV G below K args s 0 0) (F0 m 37 ls []) := fun x5' x6' u' H locs ls h hw hl => ih x5' x6' u' H locs ls (Nat.lt_of_lt_of_le h.2 (Nat.le_of_lt_succ hn)) h.1 hw hl
      refine lv_iload hx hb dX4_someLeftOut_37 (lv_at hl 6 rfl) ?_
      refine lv_aload_n hx hb dX4_someLeftOut_39 rfl (lv_at hl 1 rfl) ?_
      have hk_10 : kd u a1 = 17 := h.1
      have h := h.2
      refine g_getI X hw in_X20 hk_10 rfl 5 rfl (by decide) q580 (fun _ z => z) dX4_someLeftOut_40 ?_
      refine lv_icmp_ge (tgt := 82) hx hb dX4_someLeftOut_43 rfl (fun c_24 => ?_) (fun c_24 => ?_)
      · have h := h.1 c_24
        refine lv_aload_n hx hb dX4_someLeftOut_82 rfl (lv_at hl 1 rfl) ?_
        refine lv_aload_n hx hb dX4_someLeftOut_83 rfl (lv_at hl 0 rfl) ?_
        have hk_11 : kd u a0 = 4 := h.1
        have h := h.2
        obtain ⟨b_12, e_13, h⟩ := h
        refine g_getR X hw in_X4 hk_11 rfl 7 rfl (by decide) q295 (fun _ z => z) e_13 dX4_someLeftOut_84 ?_
        refine lv_iload hx hb dX4_someLeftOut_87 (lv_at hl 5 rfl) ?_
        refine g_callio hw (g_V X hw (mX20_rank l G _ _ _ _ _ h) 2 (lw_V q984 q941 q942 q144 q943) rfl rfl ydX20_rank ⟨Nat.le_of_ble_eq_true rfl, Nat.le_of_ble_eq_true rfl⟩ (g_recv X hw (ci := 16) (q := (RX20, TX20, 13)) hk_10 rfl) (As := [.ref b_12, .int x5]) (rest := []) rfl hl.1 rfl (Nat.le_of_ble_eq_true rfl) dX4_someLeftOut_89 ⟨Nat.le_refl _, Nat.le_refl _⟩) (fun r_14 H locs h hw => ?_)
        refine lv_istore (lv' := [(6, .int r_14), (0, .ref a0), (1, .ref a1), (2, .int x2), (3, .int x3), (4, .int x4), (5, .int x5)]) hx hb dX4_someLeftOut_92 hl (by decide) rfl (fun ls hl => ?_)
        refine lv_aload_n hx hb dX4_someLeftOut_94 rfl (lv_at hl 1 rfl) ?_
        refine g_getI X hw in_X4 hk_11 rfl 8 rfl (by decide) q296 (fun _ z => z) dX4_someLeftOut_95 ?_
        refine lv_iload_n hx hb dX4_someLeftOut_98 rfl (lv_at hl 3 rfl) ?_
        refine lv_imul hx hb dX4_someLeftOut_99 ?_
        refine lv_iload_n hx hb dX4_someLeftOut_100 rfl (lv_at hl 4 rfl) ?_
        refine lv_iadd hx hb dX4_someLeftOut_101 ?_
        refine lv_istore (lv' := [(7, .int (((FI u 408 a0) * x2) + x3)), (6, .int r_14), (0, .ref a0), (1, .ref a1), (2, .int x2), (3, .int x3), (4, .int x4), (5, .int x5)]) hx hb dX4_someLeftOut_102 hl (by decide) rfl (fun ls hl => ?_)
        exact wX4_someLeftOut_104 X hr hJ5  h hw (lv_sub hl [2, 3, 4, 5, 6, 1, 0] rfl)
      · have h := h.2 c_24
        refine lv_iload hx hb dX4_someLeftOut_46 (lv_at hl 4 rfl) ?_
        refine lv_iload hx hb dX4_someLeftOut_48 (lv_at hl 6 rfl) ?_
        refine g_callio hw (g_SN X hw (mX1_has l G _ _ _ _ h) 2 q939 q122 (List.mem_of_getElem? (i := 22) rfl) q938 rfl rfl ydX1_has ⟨Nat.le_of_ble_eq_true rfl, Nat.le_of_ble_eq_true rfl⟩ (As := [.int x4, .int x6]) (rest := []) rfl hl.1 rfl (Nat.le_of_ble_eq_true rfl) dX4_someLeftOut_50 ⟨Nat.le_refl _, Nat.le_refl _⟩) (fun r_15 H locs h hw => ?_)
        refine lv_if_ne (tgt := 59) hx hb dX4_someLeftOut_53 rfl (fun c_23 => ?_) (fun c_23 => ?_)
        · have h := h.2 c_23
          refine lv_aload_n hx hb dX4_someLeftOut_59 rfl (lv_at hl 0 rfl) ?_
          have hk_16 : kd u a0 = 4 := h.1
          have h := h.2
          obtain ⟨b_17, e_18, h⟩ := h
          refine g_getR X hw in_X4 hk_16 rfl 7 rfl (by decide) q295 (fun _ z => z) e_18 dX4_someLeftOut_60 ?_
          refine lv_iload hx hb dX4_someLeftOut_63 (lv_at hl 5 rfl) ?_
          refine lv_aload_n hx hb dX4_someLeftOut_65 rfl (lv_at hl 0 rfl) ?_
          obtain ⟨b_19, e_20, h⟩ := h
          refine g_getR X hw in_X4 hk_16 rfl 6 rfl (by decide) q294 (fun _ z => z) e_20 dX4_someLeftOut_66 ?_
          refine lv_iload hx hb dX4_someLeftOut_69 (lv_at hl 6 rfl) ?_
          have hk_21 : kd u b_19 = 101 := h.1
          have h := h.2
          refine g_iald X hw hk_21 h.1 dX4_someLeftOut_71 ?_
          have h := h.2
          have hk_22 : kd u b_17 = 101 := h.1
          have h := h.2
          refine g_iast X hw hk_22 h.1 dX4_someLeftOut_72 (fun H locs hw => ?_)
          have h := h.2
          refine lv_iinc (v := x5 + 1) (lv' := [(5, .int (x5 + 1)), (0, .ref a0), (1, .ref a1), (2, .int x2), (3, .int x3), (4, .int x4), (6, .int x6)]) hx hb dX4_someLeftOut_73 hl (k := 5) rfl rfl (by decide) rfl (fun ls hl => ?_)
          refine lv_iinc (v := x6 + 1) (lv' := [(6, .int (x6 + 1)), (5, .int (x5 + 1)), (0, .ref a0), (1, .ref a1), (2, .int x2), (3, .int x3), (4, .int x4)]) hx hb dX4_someLeftOut_76 hl (k := 6) rfl rfl (by decide) rfl (fun ls hl => ?_)
          refine lv_goto (tgt := 37) hx hb dX4_someLeftOut_79 rfl ?_
          exact hJ37 _ _ _ _ _ _ h hw (lv_sub hl [2, 3, 4, 5, 6, 1, 0] rfl)
        · have h := h.1 c_23
          refine lv_goto (tgt := 76) hx hb dX4_someLeftOut_56 rfl ?_
          refine lv_iinc (v := x6 + 1) (lv' := [(6, .int (x6 + 1)), (0, .ref a0), (1, .ref a1), (2, .int x2), (3, .int x3), (4, .int x4), (5, .int x5)]) hx hb dX4_someLeftOut_76 hl (k := 6) rfl rfl (by decide) rfl (fun ls hl => ?_)
          refine lv_goto (tgt := 37) hx hb dX4_someLeftOut_79 rfl ?_
          exact hJ37 _ _ _ _ _ _ h hw (lv_sub hl [1, 2, 3, 4, 5, 6, 0] rfl)
  exact key _ _ _ _ _ _ _ (Nat.lt_succ_self _) h0 hw hl
set_option maxHeartbeats 4000000 in
theorem wX4_someLeftOut_5 {G : GT} {p : Program} {l : Launch} {e : Env} {s : State} {m : MethodId} {args : Array Value} {below : List Frame} {meth : Method} {c : Code} {H : Heap} {locs : List Loc} {ls : Array Slot} {a0 : Nat} {a1 : Nat} {x2 : Int32} {x3 : Int32} {x4 : Int32} {u : Hp} {K : Hp → Prop} (X : Mc G p s m args meth c RX4 cX4_someLeftOut 8) (hr : meth.sig.returnType = none) (h : jl3 (bX4_someLeftOut_5 K a0 a1 x2) x3 x4 u) (hw : GW G u s H locs) (hl : lv_has ls 8 [(0, .ref a0), (1, .ref a1), (2, .int x2), (3, .int x3), (4, .int x4)]) : W p l e (rmX4_someLeftOut 0 0) s m args below meth c H locs 0 0 (QV G below K args s 0 0) (F0 m 5 ls []) := by
  obtain ⟨hx, hb, hml, hown, hts, -⟩ := id X
  obtain ⟨I, μ, h0, hs⟩ := h
  have key : ∀ (n : Nat) (x3 : Int32) (x4 : Int32) (u : Hp) (H : Heap) (locs : List Loc) (ls : Array Slot) , μ x3 x4 u < n → I x3 x4 u → GW G u s H locs → lv_has ls 8 [(0, .ref a0), (1, .ref a1), (2, .int x2), (3, .int x3), (4, .int x4)] → W p l e (rmX4_someLeftOut 0 0) s m args below meth c H locs 0 0 (QV G below K args s 0 0) (F0 m 5 ls []) := by
    intro n
    induction n with
    | zero =>
      intro x3 x4 u H locs ls hn
      exact absurd hn (Nat.not_lt_zero _)
    | succ n ih =>
      intro x3 x4 u H locs ls hn hI hw hl
      have h := hs x3 x4 u hI
      unfold bX4_someLeftOut_5 at h
      have hJ5 : ∀ (x3' : Int32) (x4' : Int32) (u' : Hp) (H : Heap) (locs : List Loc) (ls : Array Slot) , (I x3' x4' u' ∧ μ x3' x4' u' < μ x3 x4 u) → GW G u' s H locs → lv_has ls 8 [(0, .ref a0), (1, .ref a1), (2, .int x2), (3, .int x3'), (4, .int x4')] → W p l e (rmX4_someLeftOut 0 0) s m args below meth c H locs 0 0 (QV G below K args s 0 0) (F0 m 5 ls []) := fun x3' x4' u' H locs ls h hw hl => ih x3' x4' u' H locs ls (Nat.lt_of_lt_of_le h.2 (Nat.le_of_lt_succ hn)) h.1 hw hl
      refine lv_iload hx hb dX4_someLeftOut_5 (lv_at hl 4 rfl) ?_
      refine lv_iconst (v := 1) hx hb dX4_someLeftOut_7 (by decide) ?_
      refine lv_aload_n hx hb dX4_someLeftOut_8 rfl (lv_at hl 1 rfl) ?_
      have hk_25 : kd u a1 = 17 := h.1
      have h := h.2
      refine g_getI X hw in_X20 hk_25 rfl 5 rfl (by decide) q580 (fun _ z => z) dX4_someLeftOut_9 ?_
      refine lv_ishl hx hb dX4_someLeftOut_12 ?_
      refine lv_icmp_ge (tgt := 169) hx hb dX4_someLeftOut_13 rfl (fun c_29 => ?_) (fun c_29 => ?_)
      · have h := h.1 c_29
        exact g_vret X hw hr h (Nat.le_refl _) (Nat.le_refl _) dX4_someLeftOut_169
      · have h := h.2 c_29
        refine lv_iload hx hb dX4_someLeftOut_16 (lv_at hl 4 rfl) ?_
        refine g_callio hw (g_SN X hw (mX1_ones l G _ _ _ h) 1 q982 q122 (List.mem_of_getElem? (i := 23) rfl) q981 rfl rfl ydX1_ones ⟨Nat.le_of_ble_eq_true rfl, Nat.le_of_ble_eq_true rfl⟩ (As := [.int x4]) (rest := []) rfl hl.1 rfl (Nat.le_of_ble_eq_true rfl) dX4_someLeftOut_18 ⟨Nat.le_refl _, Nat.le_refl _⟩) (fun r_26 H locs h hw => ?_)
        refine lv_aload_n hx hb dX4_someLeftOut_21 rfl (lv_at hl 1 rfl) ?_
        refine g_callio hw (g_V X hw (mX20_rows l G _ _ _ h) 0 (lw_V q965 q950 q951 q144 q952) rfl rfl ydX20_rows ⟨Nat.le_of_ble_eq_true rfl, Nat.le_of_ble_eq_true rfl⟩ (g_recv X hw (ci := 16) (q := (RX20, TX20, 13)) hk_25 rfl) (As := []) (rest := [.int r_26]) rfl hl.1 rfl (Nat.le_of_ble_eq_true rfl) dX4_someLeftOut_22 ⟨Nat.le_refl _, Nat.le_refl _⟩) (fun r_27 H locs h hw => ?_)
        refine lv_icmp_eq (tgt := 31) hx hb dX4_someLeftOut_25 rfl (fun c_28 => ?_) (fun c_28 => ?_)
        · have h := h.1 c_28
          refine lv_iconst (v := 0) hx hb dX4_someLeftOut_31 (by decide) ?_
          refine lv_istore (lv' := [(5, .int 0), (0, .ref a0), (1, .ref a1), (2, .int x2), (3, .int x3), (4, .int x4)]) hx hb dX4_someLeftOut_32 hl (by decide) rfl (fun ls hl => ?_)
          refine lv_iconst (v := 0) hx hb dX4_someLeftOut_34 (by decide) ?_
          refine lv_istore (lv' := [(6, .int 0), (5, .int 0), (0, .ref a0), (1, .ref a1), (2, .int x2), (3, .int x3), (4, .int x4)]) hx hb dX4_someLeftOut_35 hl (by decide) rfl (fun ls hl => ?_)
          exact wX4_someLeftOut_37 X hr hJ5  h hw (lv_sub hl [2, 3, 4, 5, 6, 1, 0] rfl)
        · have h := h.2 c_28
          refine lv_goto (tgt := 163) hx hb dX4_someLeftOut_28 rfl ?_
          refine lv_iinc (v := x4 + 1) (lv' := [(4, .int (x4 + 1)), (0, .ref a0), (1, .ref a1), (2, .int x2), (3, .int x3)]) hx hb dX4_someLeftOut_163 hl (k := 4) rfl rfl (by decide) rfl (fun ls hl => ?_)
          refine lv_goto (tgt := 5) hx hb dX4_someLeftOut_166 rfl ?_
          exact hJ5 _ _ _ _ _ _ h hw (lv_sub hl [1, 2, 3, 4, 0] rfl)
  exact key _ _ _ _ _ _ _ (Nat.lt_succ_self _) h0 hw hl
set_option maxHeartbeats 4000000 in
theorem mX4_someLeftOut (l : Launch) (G : GT) (u : Hp) (a0 : Nat) (a1 : Nat) (x2 : Int32) (K : Hp → Prop) (h : pX4_someLeftOut u a0 a1 x2 K) : Met l yX4_someLeftOut (ws_ yX4_someLeftOut cX4_someLeftOut 8 none) (rmX4_someLeftOut 0 0) (va_Pc [.ref a0, .ref a1, .int x2] (GB G u)) (va_Qv K (fun u t => GH G u t.heap) (GA G)) 0 0 (GA G) := by
  refine Met.ofW (cc := cX4_someLeftOut) (maxL := 8) (ret := none) (by decide) rfl ?_
  intro p e s m args below meth c s₁ B hml hv
  obtain ⟨rfl, hv⟩ := hv
  have X := Mc_of (own := RX4) B hml rfl hv
  have hw : GW G u s s.heap [] := ⟨hv.2.1, va_S.rf⟩
  have hr := B.returns
  obtain ⟨hx, hb, hml, hown, hts, -⟩ := id X
  have hl := lv_entry ([.ref a0, .ref a1, .int x2]) (n := 8) (Nat.le_of_ble_eq_true rfl)
  rw [lg_entry_eq]
  generalize (lg_sl ([.ref a0, .ref a1, .int x2]) ++ List.replicate (8 - (lg_sl ([.ref a0, .ref a1, .int x2])).length) Slot.unset).toArray = ls at hl ⊢
  have hl : lv_has ls 8 [(0, .ref a0), (1, .ref a1), (2, .int x2)] := hl
  change W p l e (rmX4_someLeftOut 0 0) s m _ below meth c s.heap [] 0 0 (QV G below K _ s 0 0) (F0 m 0 ls [])
  unfold pX4_someLeftOut at h
  refine lv_iconst (v := 0) hx hb dX4_someLeftOut_0 (by decide) ?_
  refine lv_istore_n (lv' := [(3, .int 0), (0, .ref a0), (1, .ref a1), (2, .int x2)]) hx hb dX4_someLeftOut_1 rfl hl (by decide) rfl (fun ls hl => ?_)
  refine lv_iconst (v := 0) hx hb dX4_someLeftOut_2 (by decide) ?_
  refine lv_istore (lv' := [(4, .int 0), (3, .int 0), (0, .ref a0), (1, .ref a1), (2, .int x2)]) hx hb dX4_someLeftOut_3 hl (by decide) rfl (fun ls hl => ?_)
  exact wX4_someLeftOut_5 X hr  h hw (lv_sub hl [2, 3, 4, 1, 0] rfl)

/-! FifthCard$Pairing.allOrders(LFifthCard$Trick;I)V -/
theorem ydX4_allOrders : yX4_allOrders.cls = "FifthCard$Pairing" ∧ yX4_allOrders.cls ≠ "java/lang/invoke/MethodHandle" ∧ yX4_allOrders.cls ≠ "java/lang/invoke/VarHandle" ∧ (parseMethodDescriptor yX4_allOrders.desc).map (fun d => d.parameters.length) = some 2 := by decide +kernel
def rmX4_allOrders (mc ms : Nat) : Room := { frames := 2, cells := mc, slots := ms, locals := 48 }
set_option maxHeartbeats 4000000 in
theorem wX4_allOrders_86 {G : GT} {p : Program} {l : Launch} {e : Env} {s : State} {m : MethodId} {args : Array Value} {below : List Frame} {meth : Method} {c : Code} {H : Heap} {locs : List Loc} {ls : Array Slot} {a0 : Nat} {a1 : Nat} {x2 : Int32} {x3 : Int32} {x4 : Int32} {x5 : Int32} {x6 : Int32} {x7 : Int32} {x9 : Int32} {x10 : Int32} {u : Hp} {K : Hp → Prop} {J8 : Int32 → Hp → Prop} {J27 : Int32 → Int32 → Int32 → Hp → Prop} {J71 : Int32 → Int32 → Prop} (X : Mc G p s m args meth c RX4 cX4_allOrders 11) (hr : meth.sig.returnType = none) (hJ8 : ∀ (x4 : Int32) (u : Hp) (H : Heap) (locs : List Loc) (ls : Array Slot) , J8 x4 u → GW G u s H locs → lv_has ls 11 [(0, .ref a0), (1, .ref a1), (2, .int x2), (3, .int x3), (4, .int x4)] → W p l e (rmX4_allOrders 0 0) s m args below meth c H locs 0 0 (QV G below K args s 0 0) (F0 m 8 ls [])) (hJ27 : ∀ (x5 : Int32) (x6 : Int32) (x7 : Int32) (u : Hp) (H : Heap) (locs : List Loc) (ls : Array Slot) , J27 x5 x6 x7 u → GW G u s H locs → lv_has ls 11 [(0, .ref a0), (1, .ref a1), (2, .int x2), (3, .int x3), (4, .int x4), (5, .int x5), (6, .int x6), (7, .int x7)] → W p l e (rmX4_allOrders 0 0) s m args below meth c H locs 0 0 (QV G below K args s 0 0) (F0 m 27 ls [])) (hJ71 : ∀ (x9 : Int32) (x10 : Int32) (H : Heap) (locs : List Loc) (ls : Array Slot) , J71 x9 x10 → GW G u s H locs → lv_has ls 11 [(0, .ref a0), (1, .ref a1), (2, .int x2), (3, .int x3), (4, .int x4), (5, .int x5), (6, .int x6), (7, .int x7), (9, .int x9), (10, .int x10)] → W p l e (rmX4_allOrders 0 0) s m args below meth c H locs 0 0 (QV G below K args s 0 0) (F0 m 71 ls [])) (h : bX4_allOrders_86 K J8 J27 J71 a0 a1 x2 x3 x4 x5 x6 x7 x9 x10 u) (hw : GW G u s H locs) (hl : lv_has ls 11 [(0, .ref a0), (1, .ref a1), (2, .int x2), (3, .int x3), (4, .int x4), (5, .int x5), (6, .int x6), (7, .int x7), (9, .int x9), (10, .int x10)]) : W p l e (rmX4_allOrders 0 0) s m args below meth c H locs 0 0 (QV G below K args s 0 0) (F0 m 86 ls []) := by
  obtain ⟨hx, hb, hml, hown, hts, -⟩ := id X
  unfold bX4_allOrders_86 at h
  refine lv_iload hx hb dX4_allOrders_86 (lv_at hl 8 rfl) ?_
  refine lv_iload hx hb dX4_allOrders_88 (lv_at hl 6 rfl) ?_
  refine lv_iload hx hb dX4_allOrders_90 (lv_at hl 9 rfl) ?_
  refine g_callio hw (g_SN X hw (mX1_has l G _ _ _ _ h) 2 q939 q122 (List.mem_of_getElem? (i := 22) rfl) q938 rfl rfl ydX1_has ⟨Nat.le_of_ble_eq_true rfl, Nat.le_of_ble_eq_true rfl⟩ (As := [.int x6, .int x10]) (rest := [.int x9]) rfl hl.1 rfl (Nat.le_of_ble_eq_true rfl) dX4_allOrders_92 ⟨Nat.le_refl _, Nat.le_refl _⟩) (fun r_1 H locs h hw => ?_)
  refine lv_if_eq (tgt := 102) hx hb dX4_allOrders_95 rfl (fun c_2 => ?_) (fun c_2 => ?_)
  · have h := h.1 c_2
    refine lv_iconst (v := 1) hx hb dX4_allOrders_102 (by decide) ?_
    refine lv_isub hx hb dX4_allOrders_103 ?_
    refine lv_istore (lv' := [(9, .int (x9 - 1)), (0, .ref a0), (1, .ref a1), (2, .int x2), (3, .int x3), (4, .int x4), (5, .int x5), (6, .int x6), (7, .int x7), (10, .int x10)]) hx hb dX4_allOrders_104 hl (by decide) rfl (fun ls hl => ?_)
    refine lv_iinc (v := x10 + 1) (lv' := [(10, .int (x10 + 1)), (9, .int (x9 - 1)), (0, .ref a0), (1, .ref a1), (2, .int x2), (3, .int x3), (4, .int x4), (5, .int x5), (6, .int x6), (7, .int x7)]) hx hb dX4_allOrders_106 hl (k := 9) rfl rfl (by decide) rfl (fun ls hl => ?_)
    refine lv_goto (tgt := 71) hx hb dX4_allOrders_109 rfl ?_
    exact hJ71 _ _ _ _ _ h hw (lv_sub hl [2, 3, 4, 5, 6, 7, 8, 9, 1, 0] rfl)
  · have h := h.2 c_2
    refine lv_iconst (v := 0) hx hb dX4_allOrders_98 (by decide) ?_
    refine lv_goto (tgt := 103) hx hb dX4_allOrders_99 rfl ?_
    refine lv_isub hx hb dX4_allOrders_103 ?_
    refine lv_istore (lv' := [(9, .int (x9 - 0)), (0, .ref a0), (1, .ref a1), (2, .int x2), (3, .int x3), (4, .int x4), (5, .int x5), (6, .int x6), (7, .int x7), (10, .int x10)]) hx hb dX4_allOrders_104 hl (by decide) rfl (fun ls hl => ?_)
    refine lv_iinc (v := x10 + 1) (lv' := [(10, .int (x10 + 1)), (9, .int (x9 - 0)), (0, .ref a0), (1, .ref a1), (2, .int x2), (3, .int x3), (4, .int x4), (5, .int x5), (6, .int x6), (7, .int x7)]) hx hb dX4_allOrders_106 hl (k := 9) rfl rfl (by decide) rfl (fun ls hl => ?_)
    refine lv_goto (tgt := 71) hx hb dX4_allOrders_109 rfl ?_
    exact hJ71 _ _ _ _ _ h hw (lv_sub hl [2, 3, 4, 5, 6, 7, 8, 9, 1, 0] rfl)
set_option maxHeartbeats 4000000 in
theorem wX4_allOrders_71 {G : GT} {p : Program} {l : Launch} {e : Env} {s : State} {m : MethodId} {args : Array Value} {below : List Frame} {meth : Method} {c : Code} {H : Heap} {locs : List Loc} {ls : Array Slot} {a0 : Nat} {a1 : Nat} {x2 : Int32} {x3 : Int32} {x4 : Int32} {x5 : Int32} {x6 : Int32} {x7 : Int32} {u : Hp} {x9 : Int32} {x10 : Int32} {K : Hp → Prop} {J8 : Int32 → Hp → Prop} {J27 : Int32 → Int32 → Int32 → Hp → Prop} (X : Mc G p s m args meth c RX4 cX4_allOrders 11) (hr : meth.sig.returnType = none) (hJ8 : ∀ (x4 : Int32) (u : Hp) (H : Heap) (locs : List Loc) (ls : Array Slot) , J8 x4 u → GW G u s H locs → lv_has ls 11 [(0, .ref a0), (1, .ref a1), (2, .int x2), (3, .int x3), (4, .int x4)] → W p l e (rmX4_allOrders 0 0) s m args below meth c H locs 0 0 (QV G below K args s 0 0) (F0 m 8 ls [])) (hJ27 : ∀ (x5 : Int32) (x6 : Int32) (x7 : Int32) (u : Hp) (H : Heap) (locs : List Loc) (ls : Array Slot) , J27 x5 x6 x7 u → GW G u s H locs → lv_has ls 11 [(0, .ref a0), (1, .ref a1), (2, .int x2), (3, .int x3), (4, .int x4), (5, .int x5), (6, .int x6), (7, .int x7)] → W p l e (rmX4_allOrders 0 0) s m args below meth c H locs 0 0 (QV G below K args s 0 0) (F0 m 27 ls [])) (h : jl2 (bX4_allOrders_71 K J8 J27 a0 a1 x2 x3 x4 x5 x6 x7 u) x9 x10) (hw : GW G u s H locs) (hl : lv_has ls 11 [(0, .ref a0), (1, .ref a1), (2, .int x2), (3, .int x3), (4, .int x4), (5, .int x5), (6, .int x6), (7, .int x7), (9, .int x9), (10, .int x10)]) : W p l e (rmX4_allOrders 0 0) s m args below meth c H locs 0 0 (QV G below K args s 0 0) (F0 m 71 ls []) := by
  obtain ⟨hx, hb, hml, hown, hts, -⟩ := id X
  obtain ⟨I, μ, h0, hs⟩ := h
  have key : ∀ (n : Nat) (x9 : Int32) (x10 : Int32) (H : Heap) (locs : List Loc) (ls : Array Slot) , μ x9 x10 < n → I x9 x10 → GW G u s H locs → lv_has ls 11 [(0, .ref a0), (1, .ref a1), (2, .int x2), (3, .int x3), (4, .int x4), (5, .int x5), (6, .int x6), (7, .int x7), (9, .int x9), (10, .int x10)] → W p l e (rmX4_allOrders 0 0) s m args below meth c H locs 0 0 (QV G below K args s 0 0) (F0 m 71 ls []) := by
    intro n
    induction n with
    | zero =>
      intro x9 x10 H locs ls hn
      exact absurd hn (Nat.not_lt_zero _)
    | succ n ih =>
      intro x9 x10 H locs ls hn hI hw hl
      have h := hs x9 x10 hI
      unfold bX4_allOrders_71 at h
      have hJ71 : ∀ (x9' : Int32) (x10' : Int32) (H : Heap) (locs : List Loc) (ls : Array Slot) , (I x9' x10' ∧ μ x9' x10' < μ x9 x10) → GW G u s H locs → lv_has ls 11 [(0, .ref a0), (1, .ref a1), (2, .int x2), (3, .int x3), (4, .int x4), (5, .int x5), (6, .int x6), (7, .int x7), (9, .int x9'), (10, .int x10')] → W p l e (rmX4_allOrders 0 0) s m args below meth c H locs 0 0 (QV G below K args s 0 0) (F0 m 71 ls []) := fun x9' x10' H locs ls h hw hl => ih x9' x10' H locs ls (Nat.lt_of_lt_of_le h.2 (Nat.le_of_lt_succ hn)) h.1 hw hl
      refine lv_iload hx hb dX4_allOrders_71 (lv_at hl 6 rfl) ?_
      refine lv_iload hx hb dX4_allOrders_73 (lv_at hl 9 rfl) ?_
      refine g_callio hw (g_SN X hw (mX1_has l G _ _ _ _ h) 2 q939 q122 (List.mem_of_getElem? (i := 22) rfl) q938 rfl rfl ydX1_has ⟨Nat.le_of_ble_eq_true rfl, Nat.le_of_ble_eq_true rfl⟩ (As := [.int x6, .int x10]) (rest := []) rfl hl.1 rfl (Nat.le_of_ble_eq_true rfl) dX4_allOrders_75 ⟨Nat.le_refl _, Nat.le_refl _⟩) (fun r_3 H locs h hw => ?_)
      refine lv_if_ne (tgt := 86) hx hb dX4_allOrders_78 rfl (fun c_12 => ?_) (fun c_12 => ?_)
      · have h := h.2 c_12
        exact wX4_allOrders_86 X hr hJ8 hJ27 hJ71  h hw (lv_sub hl [0, 1, 2, 3, 4, 5, 6, 7, 8, 9] rfl)
      · have h := h.1 c_12
        refine lv_iload hx hb dX4_allOrders_81 (lv_at hl 8 rfl) ?_
        refine lv_if_le (tgt := 112) hx hb dX4_allOrders_83 rfl (fun c_11 => ?_) (fun c_11 => ?_)
        · have h := h.1 c_11
          refine lv_iload hx hb dX4_allOrders_112 (lv_at hl 6 rfl) ?_
          refine lv_iconst (v := 1) hx hb dX4_allOrders_114 (by decide) ?_
          refine lv_iload hx hb dX4_allOrders_115 (lv_at hl 9 rfl) ?_
          refine lv_ishl hx hb dX4_allOrders_117 ?_
          refine lv_ior hx hb dX4_allOrders_118 ?_
          refine lv_istore (lv' := [(6, .int (x6 ||| (jshl 1 x10))), (0, .ref a0), (1, .ref a1), (2, .int x2), (3, .int x3), (4, .int x4), (5, .int x5), (7, .int x7), (9, .int x9), (10, .int x10)]) hx hb dX4_allOrders_119 hl (by decide) rfl (fun ls hl => ?_)
          refine lv_aload_n hx hb dX4_allOrders_121 rfl (lv_at hl 1 rfl) ?_
          have hk_4 : kd u a0 = 4 := h.1
          have h := h.2
          obtain ⟨b_5, e_6, h⟩ := h
          refine g_getR X hw in_X4 hk_4 rfl 7 rfl (by decide) q295 (fun _ z => z) e_6 dX4_allOrders_122 ?_
          refine lv_iload hx hb dX4_allOrders_125 (lv_at hl 7 rfl) ?_
          refine lv_aload_n hx hb dX4_allOrders_127 rfl (lv_at hl 1 rfl) ?_
          obtain ⟨b_7, e_8, h⟩ := h
          refine g_getR X hw in_X4 hk_4 rfl 6 rfl (by decide) q294 (fun _ z => z) e_8 dX4_allOrders_128 ?_
          refine lv_iload hx hb dX4_allOrders_131 (lv_at hl 9 rfl) ?_
          have hk_9 : kd u b_7 = 101 := h.1
          have h := h.2
          refine g_iald X hw hk_9 h.1 dX4_allOrders_133 ?_
          have h := h.2
          have hk_10 : kd u b_5 = 101 := h.1
          have h := h.2
          refine g_iast X hw hk_10 h.1 dX4_allOrders_134 (fun H locs hw => ?_)
          have h := h.2
          refine lv_iinc (v := x7 + 1) (lv' := [(7, .int (x7 + 1)), (6, .int (x6 ||| (jshl 1 x10))), (0, .ref a0), (1, .ref a1), (2, .int x2), (3, .int x3), (4, .int x4), (5, .int x5), (9, .int x9), (10, .int x10)]) hx hb dX4_allOrders_135 hl (k := 7) rfl rfl (by decide) rfl (fun ls hl => ?_)
          refine lv_goto (tgt := 27) hx hb dX4_allOrders_138 rfl ?_
          exact hJ27 _ _ _ _ _ _ _ h hw (lv_sub hl [2, 3, 4, 5, 6, 7, 1, 0] rfl)
        · have h := h.2 c_11
          exact wX4_allOrders_86 X hr hJ8 hJ27 hJ71  h hw (lv_sub hl [0, 1, 2, 3, 4, 5, 6, 7, 8, 9] rfl)
  exact key _ _ _ _ _ _ (Nat.lt_succ_self _) h0 hw hl
set_option maxHeartbeats 4000000 in
theorem wX4_allOrders_27 {G : GT} {p : Program} {l : Launch} {e : Env} {s : State} {m : MethodId} {args : Array Value} {below : List Frame} {meth : Method} {c : Code} {H : Heap} {locs : List Loc} {ls : Array Slot} {a0 : Nat} {a1 : Nat} {x2 : Int32} {x3 : Int32} {x4 : Int32} {x5 : Int32} {x6 : Int32} {x7 : Int32} {u : Hp} {K : Hp → Prop} {J8 : Int32 → Hp → Prop} (X : Mc G p s m args meth c RX4 cX4_allOrders 11) (hr : meth.sig.returnType = none) (hJ8 : ∀ (x4 : Int32) (u : Hp) (H : Heap) (locs : List Loc) (ls : Array Slot) , J8 x4 u → GW G u s H locs → lv_has ls 11 [(0, .ref a0), (1, .ref a1), (2, .int x2), (3, .int x3), (4, .int x4)] → W p l e (rmX4_allOrders 0 0) s m args below meth c H locs 0 0 (QV G below K args s 0 0) (F0 m 8 ls [])) (h : jl4 (bX4_allOrders_27 K J8 a0 a1 x2 x3 x4) x5 x6 x7 u) (hw : GW G u s H locs) (hl : lv_has ls 11 [(0, .ref a0), (1, .ref a1), (2, .int x2), (3, .int x3), (4, .int x4), (5, .int x5), (6, .int x6), (7, .int x7)]) : W p l e (rmX4_allOrders 0 0) s m args below meth c H locs 0 0 (QV G below K args s 0 0) (F0 m 27 ls []) := by
  obtain ⟨hx, hb, hml, hown, hts, -⟩ := id X
  obtain ⟨I, μ, h0, hs⟩ := h
  have key : ∀ (n : Nat) (x5 : Int32) (x6 : Int32) (x7 : Int32) (u : Hp) (H : Heap) (locs : List Loc) (ls : Array Slot) , μ x5 x6 x7 u < n → I x5 x6 x7 u → GW G u s H locs → lv_has ls 11 [(0, .ref a0), (1, .ref a1), (2, .int x2), (3, .int x3), (4, .int x4), (5, .int x5), (6, .int x6), (7, .int x7)] → W p l e (rmX4_allOrders 0 0) s m args below meth c H locs 0 0 (QV G below K args s 0 0) (F0 m 27 ls []) := by
    intro n
    induction n with
    | zero =>
      intro x5 x6 x7 u H locs ls hn
      exact absurd hn (Nat.not_lt_zero _)
    | succ n ih =>
      intro x5 x6 x7 u H locs ls hn hI hw hl
      have h := hs x5 x6 x7 u hI
      unfold bX4_allOrders_27 at h
      have hJ27 : ∀ (x5' : Int32) (x6' : Int32) (x7' : Int32) (u' : Hp) (H : Heap) (locs : List Loc) (ls : Array Slot) , (I x5' x6' x7' u' ∧ μ x5' x6' x7' u' < μ x5 x6 x7 u) → GW G u' s H locs → lv_has ls 11 [(0, .ref a0), (1, .ref a1), (2, .int x2), (3, .int x3), (4, .int x4), (5, .int x5'), (6, .int x6'), (7, .int x7')] → W p l e (rmX4_allOrders 0 0) s m args below meth c H locs 0 0 (QV G below K args s 0 0) (F0 m 27 ls []) := fun x5' x6' x7' u' H locs ls h hw hl => ih x5' x6' x7' u' H locs ls (Nat.lt_of_lt_of_le h.2 (Nat.le_of_lt_succ hn)) h.1 hw hl
      refine lv_iload hx hb dX4_allOrders_27 (lv_at hl 7 rfl) ?_
      refine lv_iload_n hx hb dX4_allOrders_29 rfl (lv_at hl 3 rfl) ?_
      refine lv_icmp_ge (tgt := 141) hx hb dX4_allOrders_30 rfl (fun c_23 => ?_) (fun c_23 => ?_)
      · have h := h.1 c_23
        refine lv_aload_n hx hb dX4_allOrders_141 rfl (lv_at hl 0 rfl) ?_
        have hk_13 : kd u a0 = 4 := h.1
        have h := h.2
        obtain ⟨b_14, e_15, h⟩ := h
        refine g_getR X hw in_X4 hk_13 rfl 0 rfl (by decide) q288 (fun _ z => z) e_15 dX4_allOrders_142 ?_
        refine lv_aload_n hx hb dX4_allOrders_145 rfl (lv_at hl 0 rfl) ?_
        refine g_getI X hw in_X4 hk_13 rfl 8 rfl (by decide) q296 (fun _ z => z) dX4_allOrders_146 ?_
        refine lv_iload_n hx hb dX4_allOrders_149 rfl (lv_at hl 2 rfl) ?_
        refine lv_imul hx hb dX4_allOrders_150 ?_
        refine lv_iload hx hb dX4_allOrders_151 (lv_at hl 4 rfl) ?_
        refine lv_iadd hx hb dX4_allOrders_153 ?_
        refine lv_aload_n hx hb dX4_allOrders_154 rfl (lv_at hl 1 rfl) ?_
        refine lv_aload_n hx hb dX4_allOrders_155 rfl (lv_at hl 0 rfl) ?_
        obtain ⟨b_16, e_17, h⟩ := h
        refine g_getR X hw in_X4 hk_13 rfl 7 rfl (by decide) q295 (fun _ z => z) e_17 dX4_allOrders_156 ?_
        refine lv_iload_n hx hb dX4_allOrders_159 rfl (lv_at hl 3 rfl) ?_
        have hk_18 : kd u a1 = 17 := h.1
        have h := h.2
        refine g_callio hw (g_V X hw (mX20_rank l G _ _ _ _ _ h) 2 (lw_V q984 q941 q942 q144 q943) rfl rfl ydX20_rank ⟨Nat.le_of_ble_eq_true rfl, Nat.le_of_ble_eq_true rfl⟩ (g_recv X hw (ci := 16) (q := (RX20, TX20, 13)) hk_18 rfl) (As := [.ref b_16, .int x3]) (rest := [.int (((FI u 408 a0) * x2) + x4), .ref b_14]) rfl hl.1 rfl (Nat.le_of_ble_eq_true rfl) dX4_allOrders_160 ⟨Nat.le_refl _, Nat.le_refl _⟩) (fun r_19 H locs h hw => ?_)
        have hk_20 : kd u b_14 = 101 := h.1
        have h := h.2
        refine g_iast X hw hk_20 h.1 dX4_allOrders_163 (fun H locs hw => ?_)
        have h := h.2
        refine lv_iinc (v := x4 + 1) (lv' := [(4, .int (x4 + 1)), (0, .ref a0), (1, .ref a1), (2, .int x2), (3, .int x3), (5, .int x5), (6, .int x6), (7, .int x7)]) hx hb dX4_allOrders_164 hl (k := 4) rfl rfl (by decide) rfl (fun ls hl => ?_)
        refine lv_goto (tgt := 8) hx hb dX4_allOrders_167 rfl ?_
        exact hJ8 _ _ _ _ _ h hw (lv_sub hl [1, 2, 3, 4, 0] rfl)
      · have h := h.2 c_23
        refine lv_aload_n hx hb dX4_allOrders_33 rfl (lv_at hl 1 rfl) ?_
        have hk_21 : kd u a1 = 17 := h.1
        have h := h.2
        refine g_getI X hw in_X20 hk_21 rfl 5 rfl (by decide) q580 (fun _ z => z) dX4_allOrders_34 ?_
        refine lv_iload hx hb dX4_allOrders_37 (lv_at hl 7 rfl) ?_
        refine lv_isub hx hb dX4_allOrders_39 ?_
        refine lv_iconst (v := 1) hx hb dX4_allOrders_40 (by decide) ?_
        refine lv_isub hx hb dX4_allOrders_41 ?_
        refine lv_iload_n hx hb dX4_allOrders_42 rfl (lv_at hl 3 rfl) ?_
        refine lv_iload hx hb dX4_allOrders_43 (lv_at hl 7 rfl) ?_
        refine lv_isub hx hb dX4_allOrders_45 ?_
        refine lv_iconst (v := 1) hx hb dX4_allOrders_46 (by decide) ?_
        refine lv_isub hx hb dX4_allOrders_47 ?_
        refine g_calllo hw (g_SN X hw (mX1_falling l G _ _ _ _ h) 2 q849 q122 (List.mem_of_getElem? (i := 20) rfl) q848 rfl rfl ydX1_falling ⟨Nat.le_of_ble_eq_true rfl, Nat.le_of_ble_eq_true rfl⟩ (As := [.int (((FI u 2005 a1) - x7) - 1), .int ((x3 - x7) - 1)]) (rest := []) rfl hl.1 rfl (Nat.le_of_ble_eq_true rfl) dX4_allOrders_48 ⟨Nat.le_refl _, Nat.le_refl _⟩) (fun r_22 H locs h hw => ?_)
        refine lv_l2i hx hb dX4_allOrders_51 rfl ?_
        refine lv_istore (lv' := [(8, .int (r_22.toInt32)), (0, .ref a0), (1, .ref a1), (2, .int x2), (3, .int x3), (4, .int x4), (5, .int x5), (6, .int x6), (7, .int x7)]) hx hb dX4_allOrders_52 hl (by decide) rfl (fun ls hl => ?_)
        refine lv_iload hx hb dX4_allOrders_54 (lv_at hl 6 rfl) ?_
        refine lv_iload hx hb dX4_allOrders_56 (lv_at hl 0 rfl) ?_
        refine lv_idiv hx hb dX4_allOrders_58 h.1 ?_
        have h := h.2
        refine lv_istore (lv' := [(9, .int (x5 / (r_22.toInt32))), (8, .int (r_22.toInt32)), (0, .ref a0), (1, .ref a1), (2, .int x2), (3, .int x3), (4, .int x4), (5, .int x5), (6, .int x6), (7, .int x7)]) hx hb dX4_allOrders_59 hl (by decide) rfl (fun ls hl => ?_)
        refine lv_iload hx hb dX4_allOrders_61 (lv_at hl 7 rfl) ?_
        refine lv_iload hx hb dX4_allOrders_63 (lv_at hl 1 rfl) ?_
        refine lv_irem hx hb dX4_allOrders_65 h.1 ?_
        have h := h.2
        refine lv_istore (lv' := [(5, .int (jrem x5 (r_22.toInt32))), (9, .int (x5 / (r_22.toInt32))), (8, .int (r_22.toInt32)), (0, .ref a0), (1, .ref a1), (2, .int x2), (3, .int x3), (4, .int x4), (6, .int x6), (7, .int x7)]) hx hb dX4_allOrders_66 hl (by decide) rfl (fun ls hl => ?_)
        refine lv_iconst (v := 0) hx hb dX4_allOrders_68 (by decide) ?_
        refine lv_istore (lv' := [(10, .int 0), (5, .int (jrem x5 (r_22.toInt32))), (9, .int (x5 / (r_22.toInt32))), (8, .int (r_22.toInt32)), (0, .ref a0), (1, .ref a1), (2, .int x2), (3, .int x3), (4, .int x4), (6, .int x6), (7, .int x7)]) hx hb dX4_allOrders_69 hl (by decide) rfl (fun ls hl => ?_)
        exact wX4_allOrders_71 X hr hJ8 hJ27  h hw (lv_sub hl [4, 5, 6, 7, 8, 1, 9, 10, 2, 0] rfl)
  exact key _ _ _ _ _ _ _ _ (Nat.lt_succ_self _) h0 hw hl
set_option maxHeartbeats 4000000 in
theorem wX4_allOrders_8 {G : GT} {p : Program} {l : Launch} {e : Env} {s : State} {m : MethodId} {args : Array Value} {below : List Frame} {meth : Method} {c : Code} {H : Heap} {locs : List Loc} {ls : Array Slot} {a0 : Nat} {a1 : Nat} {x2 : Int32} {x3 : Int32} {x4 : Int32} {u : Hp} {K : Hp → Prop} (X : Mc G p s m args meth c RX4 cX4_allOrders 11) (hr : meth.sig.returnType = none) (h : jl2 (bX4_allOrders_8 K a0 a1 x2 x3) x4 u) (hw : GW G u s H locs) (hl : lv_has ls 11 [(0, .ref a0), (1, .ref a1), (2, .int x2), (3, .int x3), (4, .int x4)]) : W p l e (rmX4_allOrders 0 0) s m args below meth c H locs 0 0 (QV G below K args s 0 0) (F0 m 8 ls []) := by
  obtain ⟨hx, hb, hml, hown, hts, -⟩ := id X
  obtain ⟨I, μ, h0, hs⟩ := h
  have key : ∀ (n : Nat) (x4 : Int32) (u : Hp) (H : Heap) (locs : List Loc) (ls : Array Slot) , μ x4 u < n → I x4 u → GW G u s H locs → lv_has ls 11 [(0, .ref a0), (1, .ref a1), (2, .int x2), (3, .int x3), (4, .int x4)] → W p l e (rmX4_allOrders 0 0) s m args below meth c H locs 0 0 (QV G below K args s 0 0) (F0 m 8 ls []) := by
    intro n
    induction n with
    | zero =>
      intro x4 u H locs ls hn
      exact absurd hn (Nat.not_lt_zero _)
    | succ n ih =>
      intro x4 u H locs ls hn hI hw hl
      have h := hs x4 u hI
      unfold bX4_allOrders_8 at h
      have hJ8 : ∀ (x4' : Int32) (u' : Hp) (H : Heap) (locs : List Loc) (ls : Array Slot) , (I x4' u' ∧ μ x4' u' < μ x4 u) → GW G u' s H locs → lv_has ls 11 [(0, .ref a0), (1, .ref a1), (2, .int x2), (3, .int x3), (4, .int x4')] → W p l e (rmX4_allOrders 0 0) s m args below meth c H locs 0 0 (QV G below K args s 0 0) (F0 m 8 ls []) := fun x4' u' H locs ls h hw hl => ih x4' u' H locs ls (Nat.lt_of_lt_of_le h.2 (Nat.le_of_lt_succ hn)) h.1 hw hl
      refine lv_iload hx hb dX4_allOrders_8 (lv_at hl 4 rfl) ?_
      refine lv_aload_n hx hb dX4_allOrders_10 rfl (lv_at hl 0 rfl) ?_
      have hk_24 : kd u a0 = 4 := h.1
      have h := h.2
      refine g_getI X hw in_X4 hk_24 rfl 8 rfl (by decide) q296 (fun _ z => z) dX4_allOrders_11 ?_
      refine lv_icmp_ge (tgt := 170) hx hb dX4_allOrders_14 rfl (fun c_25 => ?_) (fun c_25 => ?_)
      · have h := h.1 c_25
        exact g_vret X hw hr h (Nat.le_refl _) (Nat.le_refl _) dX4_allOrders_170
      · have h := h.2 c_25
        refine lv_iload hx hb dX4_allOrders_17 (lv_at hl 4 rfl) ?_
        refine lv_istore (lv' := [(5, .int x4), (0, .ref a0), (1, .ref a1), (2, .int x2), (3, .int x3), (4, .int x4)]) hx hb dX4_allOrders_19 hl (by decide) rfl (fun ls hl => ?_)
        refine lv_iconst (v := 0) hx hb dX4_allOrders_21 (by decide) ?_
        refine lv_istore (lv' := [(6, .int 0), (5, .int x4), (0, .ref a0), (1, .ref a1), (2, .int x2), (3, .int x3), (4, .int x4)]) hx hb dX4_allOrders_22 hl (by decide) rfl (fun ls hl => ?_)
        refine lv_iconst (v := 0) hx hb dX4_allOrders_24 (by decide) ?_
        refine lv_istore (lv' := [(7, .int 0), (6, .int 0), (5, .int x4), (0, .ref a0), (1, .ref a1), (2, .int x2), (3, .int x3), (4, .int x4)]) hx hb dX4_allOrders_25 hl (by decide) rfl (fun ls hl => ?_)
        exact wX4_allOrders_27 X hr hJ8  h hw (lv_sub hl [3, 4, 5, 6, 7, 2, 1, 0] rfl)
  exact key _ _ _ _ _ _ (Nat.lt_succ_self _) h0 hw hl
set_option maxHeartbeats 4000000 in
theorem mX4_allOrders (l : Launch) (G : GT) (u : Hp) (a0 : Nat) (a1 : Nat) (x2 : Int32) (K : Hp → Prop) (h : pX4_allOrders u a0 a1 x2 K) : Met l yX4_allOrders (ws_ yX4_allOrders cX4_allOrders 11 none) (rmX4_allOrders 0 0) (va_Pc [.ref a0, .ref a1, .int x2] (GB G u)) (va_Qv K (fun u t => GH G u t.heap) (GA G)) 0 0 (GA G) := by
  refine Met.ofW (cc := cX4_allOrders) (maxL := 11) (ret := none) (by decide) rfl ?_
  intro p e s m args below meth c s₁ B hml hv
  obtain ⟨rfl, hv⟩ := hv
  have X := Mc_of (own := RX4) B hml rfl hv
  have hw : GW G u s s.heap [] := ⟨hv.2.1, va_S.rf⟩
  have hr := B.returns
  obtain ⟨hx, hb, hml, hown, hts, -⟩ := id X
  have hl := lv_entry ([.ref a0, .ref a1, .int x2]) (n := 11) (Nat.le_of_ble_eq_true rfl)
  rw [lg_entry_eq]
  generalize (lg_sl ([.ref a0, .ref a1, .int x2]) ++ List.replicate (11 - (lg_sl ([.ref a0, .ref a1, .int x2])).length) Slot.unset).toArray = ls at hl ⊢
  have hl : lv_has ls 11 [(0, .ref a0), (1, .ref a1), (2, .int x2)] := hl
  change W p l e (rmX4_allOrders 0 0) s m _ below meth c s.heap [] 0 0 (QV G below K _ s 0 0) (F0 m 0 ls [])
  unfold pX4_allOrders at h
  refine lv_aload_n hx hb dX4_allOrders_0 rfl (lv_at hl 1 rfl) ?_
  have hk_26 : kd u a1 = 17 := h.1
  have h := h.2
  refine g_callio hw (g_V X hw (mX20_rows l G _ _ _ h) 0 (lw_V q965 q950 q951 q144 q952) rfl rfl ydX20_rows ⟨Nat.le_of_ble_eq_true rfl, Nat.le_of_ble_eq_true rfl⟩ (g_recv X hw (ci := 16) (q := (RX20, TX20, 13)) hk_26 rfl) (As := []) (rest := []) rfl hl.1 rfl (Nat.le_of_ble_eq_true rfl) dX4_allOrders_1 ⟨Nat.le_refl _, Nat.le_refl _⟩) (fun r_27 H locs h hw => ?_)
  refine lv_istore_n (lv' := [(3, .int r_27), (0, .ref a0), (1, .ref a1), (2, .int x2)]) hx hb dX4_allOrders_4 rfl hl (by decide) rfl (fun ls hl => ?_)
  refine lv_iconst (v := 0) hx hb dX4_allOrders_5 (by decide) ?_
  refine lv_istore (lv' := [(4, .int 0), (3, .int r_27), (0, .ref a0), (1, .ref a1), (2, .int x2)]) hx hb dX4_allOrders_6 hl (by decide) rfl (fun ls hl => ?_)
  exact wX4_allOrders_8 X hr  h hw (lv_sub hl [2, 3, 4, 1, 0] rfl)

/-! FifthCard$Pairing.lay(LFifthCard$Trick;)V -/
theorem ydX4_lay : yX4_lay.cls = "FifthCard$Pairing" ∧ yX4_lay.cls ≠ "java/lang/invoke/MethodHandle" ∧ yX4_lay.cls ≠ "java/lang/invoke/VarHandle" ∧ (parseMethodDescriptor yX4_lay.desc).map (fun d => d.parameters.length) = some 1 := by decide +kernel
def rmX4_lay (mc ms : Nat) : Room := { frames := 3, cells := mc, slots := ms, locals := 78 }
set_option maxHeartbeats 4000000 in
theorem wX4_lay_76 {G : GT} {p : Program} {l : Launch} {e : Env} {s : State} {m : MethodId} {args : Array Value} {below : List Frame} {meth : Method} {c : Code} {H : Heap} {locs : List Loc} {ls : Array Slot} {a0 : Nat} {a1 : Nat} {x2 : Int32} {u : Hp} {K : Hp → Prop} (X : Mc G p s m args meth c RX4 cX4_lay 3) (hr : meth.sig.returnType = none) (h : jl2 (bX4_lay_76 K a0 a1) x2 u) (hw : GW G u s H locs) (hl : lv_has ls 3 [(0, .ref a0), (1, .ref a1), (2, .int x2)]) : W p l e (rmX4_lay 0 0) s m args below meth c H locs 0 0 (QV G below K args s 0 0) (F0 m 76 ls []) := by
  obtain ⟨hx, hb, hml, hown, hts, -⟩ := id X
  obtain ⟨I, μ, h0, hs⟩ := h
  have key : ∀ (n : Nat) (x2 : Int32) (u : Hp) (H : Heap) (locs : List Loc) (ls : Array Slot) , μ x2 u < n → I x2 u → GW G u s H locs → lv_has ls 3 [(0, .ref a0), (1, .ref a1), (2, .int x2)] → W p l e (rmX4_lay 0 0) s m args below meth c H locs 0 0 (QV G below K args s 0 0) (F0 m 76 ls []) := by
    intro n
    induction n with
    | zero =>
      intro x2 u H locs ls hn
      exact absurd hn (Nat.not_lt_zero _)
    | succ n ih =>
      intro x2 u H locs ls hn hI hw hl
      have h := hs x2 u hI
      unfold bX4_lay_76 at h
      have hJ76 : ∀ (x2' : Int32) (u' : Hp) (H : Heap) (locs : List Loc) (ls : Array Slot) , (I x2' u' ∧ μ x2' u' < μ x2 u) → GW G u' s H locs → lv_has ls 3 [(0, .ref a0), (1, .ref a1), (2, .int x2')] → W p l e (rmX4_lay 0 0) s m args below meth c H locs 0 0 (QV G below K args s 0 0) (F0 m 76 ls []) := fun x2' u' H locs ls h hw hl => ih x2' u' H locs ls (Nat.lt_of_lt_of_le h.2 (Nat.le_of_lt_succ hn)) h.1 hw hl
      refine lv_iload_n hx hb dX4_lay_76 rfl (lv_at hl 2 rfl) ?_
      refine lv_aload_n hx hb dX4_lay_77 rfl (lv_at hl 0 rfl) ?_
      have hk_1 : kd u a0 = 4 := h.1
      have h := h.2
      refine g_getI X hw in_X4 hk_1 rfl 9 rfl (by decide) q297 (fun _ z => z) dX4_lay_78 ?_
      refine lv_icmp_ge (tgt := 128) hx hb dX4_lay_81 rfl (fun c_15 => ?_) (fun c_15 => ?_)
      · have h := h.1 c_15
        refine lv_aload_n hx hb dX4_lay_128 rfl (lv_at hl 0 rfl) ?_
        refine lv_iconst (v := (-1)) hx hb dX4_lay_129 (by decide) ?_
        refine g_putI (v := (-1)) X hw in_X4 tyX4_ok nmX4 hk_1 rfl 12 rfl (by decide) q300 (fun _ z => z) rfl rfl rfl dX4_lay_130 (fun H locs hw => ?_)
        refine lv_aload_n hx hb dX4_lay_133 rfl (lv_at hl 0 rfl) ?_
        refine lv_iconst (v := 0) hx hb dX4_lay_134 (by decide) ?_
        refine g_putI (v := 0) X hw in_X4 tyX4_ok nmX4 hk_1 rfl 13 rfl (by decide) q302 (fun _ z => z) rfl rfl rfl dX4_lay_135 (fun H locs hw => ?_)
        exact g_vret X hw hr h (Nat.le_refl _) (Nat.le_refl _) dX4_lay_138
      · have h := h.2 c_15
        refine lv_aload_n hx hb dX4_lay_84 rfl (lv_at hl 1 rfl) ?_
        refine lv_iload_n hx hb dX4_lay_85 rfl (lv_at hl 2 rfl) ?_
        refine lv_aload_n hx hb dX4_lay_86 rfl (lv_at hl 0 rfl) ?_
        obtain ⟨b_2, e_3, h⟩ := h
        refine g_getR X hw in_X4 hk_1 rfl 6 rfl (by decide) q294 (fun _ z => z) e_3 dX4_lay_87 ?_
        have hk_4 : kd u a1 = 17 := h.1
        have h := h.2
        refine g_callv hw (g_V X hw (mX20_layHand l G _ _ _ _ _ h) 2 (lw_V q968 q969 q970 q144 q971) rfl rfl ydX20_layHand ⟨Nat.le_of_ble_eq_true rfl, Nat.le_of_ble_eq_true rfl⟩ (g_recv X hw (ci := 16) (q := (RX20, TX20, 13)) hk_4 rfl) (As := [.int x2, .ref b_2]) (rest := []) rfl hl.1 rfl (Nat.le_of_ble_eq_true rfl) dX4_lay_90 ⟨Nat.le_refl _, Nat.le_refl _⟩) (fun u_5 H locs h hw => ?_)
        refine lv_aload_n hx hb dX4_lay_93 rfl (lv_at hl 1 rfl) ?_
        have hk_6 : kd u_5 a1 = 17 := h.1
        have h := h.2
        refine g_getI X hw in_X20 hk_6 rfl 9 rfl (by decide) q597 (fun _ z => z) dX4_lay_94 ?_
        refine lv_if_ne (tgt := 107) hx hb dX4_lay_97 rfl (fun c_14 => ?_) (fun c_14 => ?_)
        · have h := h.2 c_14
          refine lv_aload_n hx hb dX4_lay_107 rfl (lv_at hl 0 rfl) ?_
          refine lv_aload_n hx hb dX4_lay_108 rfl (lv_at hl 1 rfl) ?_
          refine lv_iload_n hx hb dX4_lay_109 rfl (lv_at hl 2 rfl) ?_
          have hk_7 : kd u_5 a0 = 4 := h.1
          have h := h.2
          refine g_callv hw (g_V X hw (mX4_someLeftOut l G _ _ _ _ _ h) 2 (lw_V q976 q978 qs22 q128 q979) rfl rfl ydX4_someLeftOut ⟨Nat.le_of_ble_eq_true rfl, Nat.le_of_ble_eq_true rfl⟩ (g_recv X hw (ci := 3) (q := (RX4, TX4, 14)) hk_7 rfl) (As := [.ref a1, .int x2]) (rest := []) rfl hl.1 rfl (Nat.le_of_ble_eq_true rfl) dX4_lay_110 ⟨Nat.le_refl _, Nat.le_refl _⟩) (fun u_8 H locs h hw => ?_)
          refine lv_goto (tgt := 122) hx hb dX4_lay_113 rfl ?_
          refine lv_iinc (v := x2 + 1) (lv' := [(2, .int (x2 + 1)), (0, .ref a0), (1, .ref a1)]) hx hb dX4_lay_122 hl (k := 2) rfl rfl (by decide) rfl (fun ls hl => ?_)
          refine lv_goto (tgt := 76) hx hb dX4_lay_125 rfl ?_
          exact hJ76 _ _ _ _ _ h hw (lv_sub hl [1, 2, 0] rfl)
        · have h := h.1 c_14
          refine lv_aload_n hx hb dX4_lay_100 rfl (lv_at hl 1 rfl) ?_
          refine g_getI X hw in_X20 hk_6 rfl 10 rfl (by decide) q603 (fun _ z => z) dX4_lay_101 ?_
          refine lv_if_eq (tgt := 116) hx hb dX4_lay_104 rfl (fun c_13 => ?_) (fun c_13 => ?_)
          · have h := h.1 c_13
            refine lv_aload_n hx hb dX4_lay_116 rfl (lv_at hl 0 rfl) ?_
            refine lv_aload_n hx hb dX4_lay_117 rfl (lv_at hl 1 rfl) ?_
            refine lv_iload_n hx hb dX4_lay_118 rfl (lv_at hl 2 rfl) ?_
            have hk_9 : kd u_5 a0 = 4 := h.1
            have h := h.2
            refine g_callv hw (g_V X hw (mX4_allOrders l G _ _ _ _ _ h) 2 (lw_V q985 q987 qs23 q128 q988) rfl rfl ydX4_allOrders ⟨Nat.le_of_ble_eq_true rfl, Nat.le_of_ble_eq_true rfl⟩ (g_recv X hw (ci := 3) (q := (RX4, TX4, 14)) hk_9 rfl) (As := [.ref a1, .int x2]) (rest := []) rfl hl.1 rfl (Nat.le_of_ble_eq_true rfl) dX4_lay_119 ⟨Nat.le_refl _, Nat.le_refl _⟩) (fun u_10 H locs h hw => ?_)
            refine lv_iinc (v := x2 + 1) (lv' := [(2, .int (x2 + 1)), (0, .ref a0), (1, .ref a1)]) hx hb dX4_lay_122 hl (k := 2) rfl rfl (by decide) rfl (fun ls hl => ?_)
            refine lv_goto (tgt := 76) hx hb dX4_lay_125 rfl ?_
            exact hJ76 _ _ _ _ _ h hw (lv_sub hl [1, 2, 0] rfl)
          · have h := h.2 c_13
            refine lv_aload_n hx hb dX4_lay_107 rfl (lv_at hl 0 rfl) ?_
            refine lv_aload_n hx hb dX4_lay_108 rfl (lv_at hl 1 rfl) ?_
            refine lv_iload_n hx hb dX4_lay_109 rfl (lv_at hl 2 rfl) ?_
            have hk_11 : kd u_5 a0 = 4 := h.1
            have h := h.2
            refine g_callv hw (g_V X hw (mX4_someLeftOut l G _ _ _ _ _ h) 2 (lw_V q976 q978 qs22 q128 q979) rfl rfl ydX4_someLeftOut ⟨Nat.le_of_ble_eq_true rfl, Nat.le_of_ble_eq_true rfl⟩ (g_recv X hw (ci := 3) (q := (RX4, TX4, 14)) hk_11 rfl) (As := [.ref a1, .int x2]) (rest := []) rfl hl.1 rfl (Nat.le_of_ble_eq_true rfl) dX4_lay_110 ⟨Nat.le_refl _, Nat.le_refl _⟩) (fun u_12 H locs h hw => ?_)
            refine lv_goto (tgt := 122) hx hb dX4_lay_113 rfl ?_
            refine lv_iinc (v := x2 + 1) (lv' := [(2, .int (x2 + 1)), (0, .ref a0), (1, .ref a1)]) hx hb dX4_lay_122 hl (k := 2) rfl rfl (by decide) rfl (fun ls hl => ?_)
            refine lv_goto (tgt := 76) hx hb dX4_lay_125 rfl ?_
            exact hJ76 _ _ _ _ _ h hw (lv_sub hl [1, 2, 0] rfl)
  exact key _ _ _ _ _ _ (Nat.lt_succ_self _) h0 hw hl
set_option maxHeartbeats 4000000 in
theorem wX4_lay_36 {G : GT} {p : Program} {l : Launch} {e : Env} {s : State} {m : MethodId} {args : Array Value} {below : List Frame} {meth : Method} {c : Code} {H : Heap} {locs : List Loc} {ls : Array Slot} {a0 : Nat} {a1 : Nat} {z0 : Nat} {u : Hp} {K : Hp → Prop} (X : Mc G p s m args meth c RX4 cX4_lay 3) (hr : meth.sig.returnType = none) (h : bX4_lay_36 K a0 a1 z0 u) (hw : GW G u s H locs) (hl : lv_has ls 3 [(0, .ref a0), (1, .ref a1)]) : W p l e (rmX4_lay 0 0) s m args below meth c H locs 0 0 (QV G below K args s 0 0) (F0 m 36 ls [.ref z0]) := by
  obtain ⟨hx, hb, hml, hown, hts, -⟩ := id X
  unfold bX4_lay_36 at h
  refine lv_aload_n hx hb dX4_lay_36 rfl (lv_at hl 1 rfl) ?_
  have hk_16 : kd u a1 = 17 := h.1
  have h := h.2
  refine g_getI X hw in_X20 hk_16 rfl 5 rfl (by decide) q580 (fun _ z => z) dX4_lay_37 ?_
  refine lv_aload_n hx hb dX4_lay_40 rfl (lv_at hl 1 rfl) ?_
  refine g_callio hw (g_V X hw (mX20_rows l G _ _ _ h) 0 (lw_V q965 q950 q951 q144 q952) rfl rfl ydX20_rows ⟨Nat.le_of_ble_eq_true rfl, Nat.le_of_ble_eq_true rfl⟩ (g_recv X hw (ci := 16) (q := (RX20, TX20, 13)) hk_16 rfl) (As := []) (rest := [.int (FI u 2005 a1), .ref z0]) rfl hl.1 rfl (Nat.le_of_ble_eq_true rfl) dX4_lay_41 ⟨Nat.le_refl _, Nat.le_refl _⟩) (fun r_17 H locs h hw => ?_)
  refine g_calllo hw (g_SN X hw (mX1_falling l G _ _ _ _ h) 2 q849 q122 (List.mem_of_getElem? (i := 20) rfl) q848 rfl rfl ydX1_falling ⟨Nat.le_of_ble_eq_true rfl, Nat.le_of_ble_eq_true rfl⟩ (As := [.int (FI u 2005 a1), .int r_17]) (rest := [.ref z0]) rfl hl.1 rfl (Nat.le_of_ble_eq_true rfl) dX4_lay_44 ⟨Nat.le_refl _, Nat.le_refl _⟩) (fun r_18 H locs h hw => ?_)
  refine lv_aload_n hx hb dX4_lay_47 rfl (lv_at hl 1 rfl) ?_
  refine g_callio hw (g_V X hw (mX20_rows l G _ _ _ h) 0 (lw_V q965 q950 q951 q144 q952) rfl rfl ydX20_rows ⟨Nat.le_of_ble_eq_true rfl, Nat.le_of_ble_eq_true rfl⟩ (g_recv X hw (ci := 16) (q := (RX20, TX20, 13)) hk_16 rfl) (As := []) (rest := [.long r_18, .ref z0]) rfl hl.1 rfl (Nat.le_of_ble_eq_true rfl) dX4_lay_48 ⟨Nat.le_refl _, Nat.le_refl _⟩) (fun r_19 H locs h hw => ?_)
  refine g_callio hw (g_SN X hw (mX1_factorial l G _ _ _ h) 1 q852 q122 (List.mem_of_getElem? (i := 21) rfl) q851 rfl rfl ydX1_factorial ⟨Nat.le_of_ble_eq_true rfl, Nat.le_of_ble_eq_true rfl⟩ (As := [.int r_19]) (rest := [.long r_18, .ref z0]) rfl hl.1 rfl (Nat.le_of_ble_eq_true rfl) dX4_lay_51 ⟨Nat.le_refl _, Nat.le_refl _⟩) (fun r_20 H locs h hw => ?_)
  refine lv_i2l hx hb dX4_lay_54 rfl ?_
  refine lv_ldiv hx hb dX4_lay_55 h.1 ?_
  have h := h.2
  refine lv_goto (tgt := 70) hx hb dX4_lay_56 rfl ?_
  refine lv_l2i hx hb dX4_lay_70 rfl ?_
  have hk_21 : kd u z0 = 4 := h.1
  have h := h.2
  refine g_putI (v := (r_18 / (r_20.toInt64)).toInt32) X hw in_X4 tyX4_ok nmX4 hk_21 rfl 8 rfl (by decide) q296 (fun _ z => z) rfl rfl rfl dX4_lay_71 (fun H locs hw => ?_)
  refine lv_iconst (v := 0) hx hb dX4_lay_74 (by decide) ?_
  refine lv_istore_n (lv' := [(2, .int 0), (0, .ref a0), (1, .ref a1)]) hx hb dX4_lay_75 rfl hl (by decide) rfl (fun ls hl => ?_)
  exact wX4_lay_76 X hr  h hw (lv_sub hl [1, 2, 0] rfl)
set_option maxHeartbeats 4000000 in
theorem mX4_lay (l : Launch) (G : GT) (u : Hp) (a0 : Nat) (a1 : Nat) (K : Hp → Prop) (h : pX4_lay u a0 a1 K) : Met l yX4_lay (ws_ yX4_lay cX4_lay 3 none) (rmX4_lay 0 0) (va_Pc [.ref a0, .ref a1] (GB G u)) (va_Qv K (fun u t => GH G u t.heap) (GA G)) 0 0 (GA G) := by
  refine Met.ofW (cc := cX4_lay) (maxL := 3) (ret := none) (by decide) rfl ?_
  intro p e s m args below meth c s₁ B hml hv
  obtain ⟨rfl, hv⟩ := hv
  have X := Mc_of (own := RX4) B hml rfl hv
  have hw : GW G u s s.heap [] := ⟨hv.2.1, va_S.rf⟩
  have hr := B.returns
  obtain ⟨hx, hb, hml, hown, hts, -⟩ := id X
  have hl := lv_entry ([.ref a0, .ref a1]) (n := 3) (Nat.le_of_ble_eq_true rfl)
  rw [lg_entry_eq]
  generalize (lg_sl ([.ref a0, .ref a1]) ++ List.replicate (3 - (lg_sl ([.ref a0, .ref a1])).length) Slot.unset).toArray = ls at hl ⊢
  have hl : lv_has ls 3 [(0, .ref a0), (1, .ref a1)] := hl
  change W p l e (rmX4_lay 0 0) s m _ below meth c s.heap [] 0 0 (QV G below K _ s 0 0) (F0 m 0 ls [])
  unfold pX4_lay at h
  refine lv_aload_n hx hb dX4_lay_0 rfl (lv_at hl 0 rfl) ?_
  refine lv_aload_n hx hb dX4_lay_1 rfl (lv_at hl 1 rfl) ?_
  refine lv_aload_n hx hb dX4_lay_2 rfl (lv_at hl 1 rfl) ?_
  have hk_22 : kd u a1 = 17 := h.1
  have h := h.2
  refine g_getI X hw in_X20 hk_22 rfl 3 rfl (by decide) q566 (fun _ z => z) dX4_lay_3 ?_
  refine g_calllo hw (g_V X hw (mX20_hands l G _ _ _ _ h) 1 (lw_V q963 q844 q845 q144 q846) rfl rfl ydX20_hands ⟨Nat.le_of_ble_eq_true rfl, Nat.le_of_ble_eq_true rfl⟩ (g_recv X hw (ci := 16) (q := (RX20, TX20, 13)) hk_22 rfl) (As := [.int (FI u 2003 a1)]) (rest := [.ref a0]) rfl hl.1 rfl (Nat.le_of_ble_eq_true rfl) dX4_lay_6 ⟨Nat.le_refl _, Nat.le_refl _⟩) (fun r_23 H locs h hw => ?_)
  refine lv_l2i hx hb dX4_lay_9 rfl ?_
  have hk_24 : kd u a0 = 4 := h.1
  have h := h.2
  refine g_putI (v := r_23.toInt32) X hw in_X4 tyX4_ok nmX4 hk_24 rfl 9 rfl (by decide) q297 (fun _ z => z) rfl rfl rfl dX4_lay_10 (fun H locs hw => ?_)
  refine lv_aload_n hx hb dX4_lay_13 rfl (lv_at hl 0 rfl) ?_
  refine lv_aload_n hx hb dX4_lay_14 rfl (lv_at hl 1 rfl) ?_
  refine g_callio hw (g_V X hw (mX20_tiltings l G _ _ _ h) 0 (lw_V q964 q954 q955 q144 q956) rfl rfl ydX20_tiltings ⟨Nat.le_of_ble_eq_true rfl, Nat.le_of_ble_eq_true rfl⟩ (g_recv X hw (ci := 16) (q := (RX20, TX20, 13)) hk_22 rfl) (As := []) (rest := [.ref a0]) rfl hl.1 rfl (Nat.le_of_ble_eq_true rfl) dX4_lay_15 ⟨Nat.le_refl _, Nat.le_refl _⟩) (fun r_25 H locs h hw => ?_)
  refine g_putI (v := r_25) X hw in_X4 tyX4_ok nmX4 hk_24 rfl 10 rfl (by decide) q298 (fun _ z => z) rfl rfl rfl dX4_lay_18 (fun H locs hw => ?_)
  refine lv_aload_n hx hb dX4_lay_21 rfl (lv_at hl 0 rfl) ?_
  refine lv_aload_n hx hb dX4_lay_22 rfl (lv_at hl 1 rfl) ?_
  refine g_getI X hw in_X20 hk_22 rfl 9 rfl (by decide) q597 (fun _ z => z) dX4_lay_23 ?_
  refine lv_if_ne (tgt := 36) hx hb dX4_lay_26 rfl (fun c_29 => ?_) (fun c_29 => ?_)
  · have h := h.2 c_29
    exact wX4_lay_36 X hr  h hw (lv_sub hl [0, 1] rfl)
  · have h := h.1 c_29
    refine lv_aload_n hx hb dX4_lay_29 rfl (lv_at hl 1 rfl) ?_
    refine g_getI X hw in_X20 hk_22 rfl 10 rfl (by decide) q603 (fun _ z => z) dX4_lay_30 ?_
    refine lv_if_eq (tgt := 59) hx hb dX4_lay_33 rfl (fun c_28 => ?_) (fun c_28 => ?_)
    · have h := h.1 c_28
      refine lv_aload_n hx hb dX4_lay_59 rfl (lv_at hl 1 rfl) ?_
      refine g_getI X hw in_X20 hk_22 rfl 5 rfl (by decide) q580 (fun _ z => z) dX4_lay_60 ?_
      refine lv_aload_n hx hb dX4_lay_63 rfl (lv_at hl 1 rfl) ?_
      refine g_callio hw (g_V X hw (mX20_rows l G _ _ _ h) 0 (lw_V q965 q950 q951 q144 q952) rfl rfl ydX20_rows ⟨Nat.le_of_ble_eq_true rfl, Nat.le_of_ble_eq_true rfl⟩ (g_recv X hw (ci := 16) (q := (RX20, TX20, 13)) hk_22 rfl) (As := []) (rest := [.int (FI (sFI (sFI u 409 a0 (r_23.toInt32)) 410 a0 r_25) 2005 a1), .ref a0]) rfl hl.1 rfl (Nat.le_of_ble_eq_true rfl) dX4_lay_64 ⟨Nat.le_refl _, Nat.le_refl _⟩) (fun r_26 H locs h hw => ?_)
      refine g_calllo hw (g_SN X hw (mX1_falling l G _ _ _ _ h) 2 q849 q122 (List.mem_of_getElem? (i := 20) rfl) q848 rfl rfl ydX1_falling ⟨Nat.le_of_ble_eq_true rfl, Nat.le_of_ble_eq_true rfl⟩ (As := [.int (FI (sFI (sFI u 409 a0 (r_23.toInt32)) 410 a0 r_25) 2005 a1), .int r_26]) (rest := [.ref a0]) rfl hl.1 rfl (Nat.le_of_ble_eq_true rfl) dX4_lay_67 ⟨Nat.le_refl _, Nat.le_refl _⟩) (fun r_27 H locs h hw => ?_)
      refine lv_l2i hx hb dX4_lay_70 rfl ?_
      refine g_putI (v := r_27.toInt32) X hw in_X4 tyX4_ok nmX4 hk_24 rfl 8 rfl (by decide) q296 (fun _ z => z) rfl rfl rfl dX4_lay_71 (fun H locs hw => ?_)
      refine lv_iconst (v := 0) hx hb dX4_lay_74 (by decide) ?_
      refine lv_istore_n (lv' := [(2, .int 0), (0, .ref a0), (1, .ref a1)]) hx hb dX4_lay_75 rfl hl (by decide) rfl (fun ls hl => ?_)
      exact wX4_lay_76 X hr  h hw (lv_sub hl [1, 2, 0] rfl)
    · have h := h.2 c_28
      exact wX4_lay_36 X hr  h hw (lv_sub hl [0, 1] rfl)

/-! FifthCard$Log.add(II)V -/
theorem ydX5_add : yX5_add.cls = "FifthCard$Log" ∧ yX5_add.cls ≠ "java/lang/invoke/MethodHandle" ∧ yX5_add.cls ≠ "java/lang/invoke/VarHandle" ∧ (parseMethodDescriptor yX5_add.desc).map (fun d => d.parameters.length) = some 2 := by decide +kernel
def rmX5_add (mc ms : Nat) : Room := { frames := 0, cells := mc, slots := ms, locals := 0 }
set_option maxHeartbeats 4000000 in
theorem mX5_add (l : Launch) (G : GT) (u : Hp) (a0 : Nat) (x1 : Int32) (x2 : Int32) (K : Hp → Prop) (h : pX5_add u a0 x1 x2 K) : Met l yX5_add (ws_ yX5_add cX5_add 3 none) (rmX5_add 0 0) (va_Pc [.ref a0, .int x1, .int x2] (GB G u)) (va_Qv K (fun u t => GH G u t.heap) (GA G)) 0 0 (GA G) := by
  refine Met.ofW (cc := cX5_add) (maxL := 3) (ret := none) (by decide) rfl ?_
  intro p e s m args below meth c s₁ B hml hv
  obtain ⟨rfl, hv⟩ := hv
  have X := Mc_of (own := RX5) B hml rfl hv
  have hw : GW G u s s.heap [] := ⟨hv.2.1, va_S.rf⟩
  have hr := B.returns
  obtain ⟨hx, hb, hml, hown, hts, -⟩ := id X
  have hl := lv_entry ([.ref a0, .int x1, .int x2]) (n := 3) (Nat.le_of_ble_eq_true rfl)
  rw [lg_entry_eq]
  generalize (lg_sl ([.ref a0, .int x1, .int x2]) ++ List.replicate (3 - (lg_sl ([.ref a0, .int x1, .int x2])).length) Slot.unset).toArray = ls at hl ⊢
  have hl : lv_has ls 3 [(0, .ref a0), (1, .int x1), (2, .int x2)] := hl
  change W p l e (rmX5_add 0 0) s m _ below meth c s.heap [] 0 0 (QV G below K _ s 0 0) (F0 m 0 ls [])
  unfold pX5_add at h
  refine lv_aload_n hx hb dX5_add_0 rfl (lv_at hl 0 rfl) ?_
  have hk_1 : kd u a0 = 5 := h.1
  have h := h.2
  obtain ⟨b_2, e_3, h⟩ := h
  refine g_getR X hw in_X5 hk_1 rfl 0 rfl (by decide) q340 (fun _ z => z) e_3 dX5_add_1 ?_
  refine lv_aload_n hx hb dX5_add_4 rfl (lv_at hl 0 rfl) ?_
  refine g_getI X hw in_X5 hk_1 rfl 2 rfl (by decide) q344 (fun _ z => z) dX5_add_5 ?_
  refine lv_iload_n hx hb dX5_add_8 rfl (lv_at hl 1 rfl) ?_
  have hk_4 : kd u b_2 = 101 := h.1
  have h := h.2
  refine g_iast X hw hk_4 h.1 dX5_add_9 (fun H locs hw => ?_)
  have h := h.2
  refine lv_aload_n hx hb dX5_add_10 rfl (lv_at hl 0 rfl) ?_
  obtain ⟨b_5, e_6, h⟩ := h
  refine g_getR X hw in_X5 hk_1 rfl 1 rfl (by decide) q342 (fun _ z => z) e_6 dX5_add_11 ?_
  refine lv_aload_n hx hb dX5_add_14 rfl (lv_at hl 0 rfl) ?_
  refine g_getI X hw in_X5 hk_1 rfl 2 rfl (by decide) q344 (fun _ z => z) dX5_add_15 ?_
  refine lv_iload_n hx hb dX5_add_18 rfl (lv_at hl 2 rfl) ?_
  have hk_7 : kd u b_5 = 101 := h.1
  have h := h.2
  refine g_iast X hw hk_7 h.1 dX5_add_19 (fun H locs hw => ?_)
  have h := h.2
  refine lv_aload_n hx hb dX5_add_20 rfl (lv_at hl 0 rfl) ?_
  refine lv_dup hx hb dX5_add_21 rfl ?_
  refine g_getI X hw in_X5 hk_1 rfl 2 rfl (by decide) q344 (fun _ z => z) dX5_add_22 ?_
  refine lv_iconst (v := 1) hx hb dX5_add_25 (by decide) ?_
  refine lv_iadd hx hb dX5_add_26 ?_
  refine g_putI (v := (FI u 502 a0) + 1) X hw in_X5 tyX5_ok nmX5 hk_1 rfl 2 rfl (by decide) q344 (fun _ z => z) rfl rfl rfl dX5_add_27 (fun H locs hw => ?_)
  exact g_vret X hw hr h (Nat.le_refl _) (Nat.le_refl _) dX5_add_30

/-! FifthCardModel.refused(I)I -/
theorem ydX19_refused : yX19_refused.cls = "FifthCardModel" ∧ yX19_refused.cls ≠ "java/lang/invoke/MethodHandle" ∧ yX19_refused.cls ≠ "java/lang/invoke/VarHandle" ∧ (parseMethodDescriptor yX19_refused.desc).map (fun d => d.parameters.length) = some 1 := by decide +kernel
def rmX19_refused (mc ms : Nat) : Room := { frames := 0, cells := mc, slots := ms, locals := 0 }
set_option maxHeartbeats 4000000 in
theorem mX19_refused (l : Launch) (G : GT) (u : Hp) (a0 : Nat) (x1 : Int32) (K : Int32 → Hp → Prop) (h : pX19_refused u a0 x1 K) : Met l yX19_refused (ws_ yX19_refused cX19_refused 2 (some .int)) (rmX19_refused 0 0) (va_Pc [.ref a0, .int x1] (GB G u)) (va_Qi K (fun u t => GH G u t.heap) (GA G)) 0 0 (GA G) := by
  refine Met.ofW (cc := cX19_refused) (maxL := 2) (ret := (some .int)) (by decide) rfl ?_
  intro p e s m args below meth c s₁ B hml hv
  obtain ⟨rfl, hv⟩ := hv
  have X := Mc_of (own := RX19) B hml rfl hv
  have hw : GW G u s s.heap [] := ⟨hv.2.1, va_S.rf⟩
  have hr := B.returns
  obtain ⟨hx, hb, hml, hown, hts, -⟩ := id X
  have hl := lv_entry ([.ref a0, .int x1]) (n := 2) (Nat.le_of_ble_eq_true rfl)
  rw [lg_entry_eq]
  generalize (lg_sl ([.ref a0, .int x1]) ++ List.replicate (2 - (lg_sl ([.ref a0, .int x1])).length) Slot.unset).toArray = ls at hl ⊢
  have hl : lv_has ls 2 [(0, .ref a0), (1, .int x1)] := hl
  change W p l e (rmX19_refused 0 0) s m _ below meth c s.heap [] 0 0 (QI G below K _ s 0 0) (F0 m 0 ls [])
  unfold pX19_refused at h
  refine lv_aload_n hx hb dX19_refused_0 rfl (lv_at hl 0 rfl) ?_
  refine lv_iload_n hx hb dX19_refused_1 rfl (lv_at hl 1 rfl) ?_
  have hk_1 : kd u a0 = 16 := h.1
  have h := h.2
  refine g_putI (v := x1) X hw in_X19 tyX19_ok nmX19 hk_1 rfl 1 rfl (by decide) q1452 (fun _ z => z) rfl rfl rfl dX19_refused_2 (fun H locs hw => ?_)
  refine lv_aload_n hx hb dX19_refused_5 rfl (lv_at hl 0 rfl) ?_
  refine lv_iconst (v := (-1)) hx hb dX19_refused_6 (by decide) ?_
  refine g_putI (v := (-1)) X hw in_X19 tyX19_ok nmX19 hk_1 rfl 2 rfl (by decide) q1453 (fun _ z => z) rfl rfl rfl dX19_refused_7 (fun H locs hw => ?_)
  refine lv_iconst (v := (-1)) hx hb dX19_refused_10 (by decide) ?_
  exact g_iret X hw hr h (Nat.le_refl _) (Nat.le_refl _) dX19_refused_11

/-! FifthCardModel$Trick.<init>()V -/
theorem ydX23_init : yX23_init.cls = "FifthCardModel$Trick" ∧ yX23_init.cls ≠ "java/lang/invoke/MethodHandle" ∧ yX23_init.cls ≠ "java/lang/invoke/VarHandle" ∧ (parseMethodDescriptor yX23_init.desc).map (fun d => d.parameters.length) = some 0 := by decide +kernel
def rmX23_init (mc ms : Nat) : Room := { frames := 1, cells := mc, slots := ms, locals := 20 }
set_option maxHeartbeats 4000000 in
theorem mX23_init (l : Launch) (G : GT) (u : Hp) (a0 : Nat) (MC MS : Nat) (K : Hp → Prop) (h : pX23_init u a0 MC MS K) : Met l yX23_init (ws_ yX23_init cX23_init 1 none) (rmX23_init MC MS) (va_Pc [.ref a0] (GB G u)) (va_Qv K (fun u t => GH G u t.heap) (GA G)) MC MS (GA G) := by
  refine Met.ofW (cc := cX23_init) (maxL := 1) (ret := none) (by decide) rfl ?_
  intro p e s m args below meth c s₁ B hml hv
  obtain ⟨rfl, hv⟩ := hv
  have X := Mc_of (own := RX23) B hml rfl hv
  have hw : GW G u s s.heap [] := ⟨hv.2.1, va_S.rf⟩
  have hr := B.returns
  have hin : meth.name = "<init>" := (name_of_methodNamed B.named B.method).1
  obtain ⟨hx, hb, hml, hown, hts, -⟩ := id X
  have hl := lv_entry ([.ref a0]) (n := 1) (Nat.le_of_ble_eq_true rfl)
  rw [lg_entry_eq]
  generalize (lg_sl ([.ref a0]) ++ List.replicate (1 - (lg_sl ([.ref a0])).length) Slot.unset).toArray = ls at hl ⊢
  have hl : lv_has ls 1 [(0, .ref a0)] := hl
  change W p l e (rmX23_init MC MS) s m _ below meth c s.heap [] 0 0 (QV G below K _ s MC MS) (F0 m 0 ls [])
  unfold pX23_init at h
  have hc1 : 0 + MC ≤ MC := by omega
  have hc2 : 0 + MS ≤ MS := by omega
  refine lv_aload_n hx hb dX23_init_0 rfl (lv_at hl 0 rfl) ?_
  refine W.objInit hx hb hown (hts _ q1612) (hts _ q162) (hts _ q163) rfl (by rw [hml]; exact hl.1) rfl dX23_init_1 (Nat.le_of_ble_eq_true rfl) (Nat.le_of_ble_eq_true rfl) ?_
  refine lv_aload_n hx hb dX23_init_4 rfl (lv_at hl 0 rfl) ?_
  refine lv_iconst (v := 4) hx hb dX23_init_5 (by decide) ?_
  obtain ⟨hm_3, hm_4, h⟩ := h
  refine g_newI X hw q279 (N' := 4) (by decide) (by decide) (by decide) (by show _ ≤ MC; omega) (by show _ ≤ MS; omega) dX23_init_6 (fun q_1 H hq_2 hw => ?_)
  have h := h q_1 hq_2
  have hk_5 : kd (mkC u q_1 101 4) q_1 = 101 := hu1_eq
  have hk_6 : kd (mkC u q_1 101 4) a0 = 20 := h.1
  have h := h.2
  refine g_putFO (v := (some q_1)) X hin hw in_X23 tyX23_ok nmX23 hk_6 rfl 10 rfl (by decide) q1627 (fun _ z => z) rfl rfl rfl rfl dX23_init_8 (fun H locs hw => ?_)
  refine lv_aload_n hx hb dX23_init_11 rfl (lv_at hl 0 rfl) ?_
  refine lv_bipush (v := 45) hx hb dX23_init_12 (by decide) ?_
  obtain ⟨hm_9, hm_10, h⟩ := h
  refine g_newI X hw q279 (N' := 45) (by decide) (by decide) (by decide) (by show _ ≤ MC; omega) (by show _ ≤ MS; omega) dX23_init_14 (fun q_7 H hq_8 hw => ?_)
  have h := h q_7 hq_8
  have hk_11 : kd (mkC (sFR (mkC u q_1 101 4) 2310 a0 (some q_1)) q_7 101 45) q_1 = 101 := kd_mkC hk_5 hq_8 (by decide)
  have hk_12 : kd (mkC (sFR (mkC u q_1 101 4) 2310 a0 (some q_1)) q_7 101 45) a0 = 20 := kd_mkC hk_6 hq_8 (by decide)
  have hk_13 : kd (mkC (sFR (mkC u q_1 101 4) 2310 a0 (some q_1)) q_7 101 45) q_7 = 101 := hu1_eq
  obtain ⟨u_14, e_15⟩ : ∃ v : Hp, v = (mkC (sFR (mkC u q_1 101 4) 2310 a0 (some q_1)) q_7 101 45) := ⟨_, rfl⟩
  have h := h u_14 e_15
  have hw : GW G u_14 s H locs := by rw [e_15]; exact hw
  have hk_16 : kd u_14 q_1 = 101 := by rw [e_15]; exact hk_11
  have hk_17 : kd u_14 a0 = 20 := by rw [e_15]; exact hk_12
  have hk_18 : kd u_14 q_7 = 101 := by rw [e_15]; exact hk_13
  refine g_putFO (v := (some q_7)) X hin hw in_X23 tyX23_ok nmX23 hk_17 rfl 11 rfl (by decide) q1629 (fun _ z => z) rfl rfl rfl rfl dX23_init_16 (fun H locs hw => ?_)
  refine lv_aload_n hx hb dX23_init_19 rfl (lv_at hl 0 rfl) ?_
  refine lv_bipush (v := 45) hx hb dX23_init_20 (by decide) ?_
  obtain ⟨hm_21, hm_22, h⟩ := h
  refine g_newI X hw q279 (N' := 45) (by decide) (by decide) (by decide) (by show _ ≤ MC; omega) (by show _ ≤ MS; omega) dX23_init_22 (fun q_19 H hq_20 hw => ?_)
  have h := h q_19 hq_20
  have hk_23 : kd (mkC (sFR u_14 2311 a0 (some q_7)) q_19 101 45) q_1 = 101 := kd_mkC hk_16 hq_20 (by decide)
  have hk_24 : kd (mkC (sFR u_14 2311 a0 (some q_7)) q_19 101 45) a0 = 20 := kd_mkC hk_17 hq_20 (by decide)
  have hk_25 : kd (mkC (sFR u_14 2311 a0 (some q_7)) q_19 101 45) q_7 = 101 := kd_mkC hk_18 hq_20 (by decide)
  have hk_26 : kd (mkC (sFR u_14 2311 a0 (some q_7)) q_19 101 45) q_19 = 101 := hu1_eq
  refine g_putFO (v := (some q_19)) X hin hw in_X23 tyX23_ok nmX23 hk_24 rfl 12 rfl (by decide) q1631 (fun _ z => z) rfl rfl rfl rfl dX23_init_24 (fun H locs hw => ?_)
  refine lv_aload_n hx hb dX23_init_27 rfl (lv_at hl 0 rfl) ?_
  refine lv_bipush (v := 9) hx hb dX23_init_28 (by decide) ?_
  obtain ⟨u_27, e_28⟩ : ∃ v : Hp, v = (sFR (mkC (sFR u_14 2311 a0 (some q_7)) q_19 101 45) 2312 a0 (some q_19)) := ⟨_, rfl⟩
  have h := h u_27 e_28
  have hw : GW G u_27 s H locs := by rw [e_28]; exact hw
  have hk_29 : kd u_27 q_1 = 101 := by rw [e_28]; exact hk_23
  have hk_30 : kd u_27 a0 = 20 := by rw [e_28]; exact hk_24
  have hk_31 : kd u_27 q_7 = 101 := by rw [e_28]; exact hk_25
  have hk_32 : kd u_27 q_19 = 101 := by rw [e_28]; exact hk_26
  obtain ⟨hm_35, hm_36, h⟩ := h
  refine g_newI X hw q279 (N' := 9) (by decide) (by decide) (by decide) (by show _ ≤ MC; omega) (by show _ ≤ MS; omega) dX23_init_30 (fun q_33 H hq_34 hw => ?_)
  have h := h q_33 hq_34
  have hk_37 : kd (mkC u_27 q_33 101 9) q_1 = 101 := kd_mkC hk_29 hq_34 (by decide)
  have hk_38 : kd (mkC u_27 q_33 101 9) a0 = 20 := kd_mkC hk_30 hq_34 (by decide)
  have hk_39 : kd (mkC u_27 q_33 101 9) q_7 = 101 := kd_mkC hk_31 hq_34 (by decide)
  have hk_40 : kd (mkC u_27 q_33 101 9) q_19 = 101 := kd_mkC hk_32 hq_34 (by decide)
  have hk_41 : kd (mkC u_27 q_33 101 9) q_33 = 101 := hu1_eq
  refine g_putFO (v := (some q_33)) X hin hw in_X23 tyX23_ok nmX23 hk_38 rfl 13 rfl (by decide) q1633 (fun _ z => z) rfl rfl rfl rfl dX23_init_32 (fun H locs hw => ?_)
  refine lv_aload_n hx hb dX23_init_35 rfl (lv_at hl 0 rfl) ?_
  refine lv_iconst (v := 4) hx hb dX23_init_36 (by decide) ?_
  obtain ⟨hm_44, hm_45, h⟩ := h
  refine g_newJ X hw q1668 (N' := 4) (by decide) (by decide) (by decide) (by show _ ≤ MC; omega) (by show _ ≤ MS; omega) dX23_init_37 (fun q_42 H hq_43 hw => ?_)
  have h := h q_42 hq_43
  have hk_46 : kd (mkC (sFR (mkC u_27 q_33 101 9) 2313 a0 (some q_33)) q_42 105 4) q_1 = 101 := kd_mkC hk_37 hq_43 (by decide)
  have hk_47 : kd (mkC (sFR (mkC u_27 q_33 101 9) 2313 a0 (some q_33)) q_42 105 4) a0 = 20 := kd_mkC hk_38 hq_43 (by decide)
  have hk_48 : kd (mkC (sFR (mkC u_27 q_33 101 9) 2313 a0 (some q_33)) q_42 105 4) q_7 = 101 := kd_mkC hk_39 hq_43 (by decide)
  have hk_49 : kd (mkC (sFR (mkC u_27 q_33 101 9) 2313 a0 (some q_33)) q_42 105 4) q_19 = 101 := kd_mkC hk_40 hq_43 (by decide)
  have hk_50 : kd (mkC (sFR (mkC u_27 q_33 101 9) 2313 a0 (some q_33)) q_42 105 4) q_33 = 101 := kd_mkC hk_41 hq_43 (by decide)
  have hk_51 : kd (mkC (sFR (mkC u_27 q_33 101 9) 2313 a0 (some q_33)) q_42 105 4) q_42 = 105 := hu1_eq
  obtain ⟨u_52, e_53⟩ : ∃ v : Hp, v = (mkC (sFR (mkC u_27 q_33 101 9) 2313 a0 (some q_33)) q_42 105 4) := ⟨_, rfl⟩
  have h := h u_52 e_53
  have hw : GW G u_52 s H locs := by rw [e_53]; exact hw
  have hk_54 : kd u_52 q_1 = 101 := by rw [e_53]; exact hk_46
  have hk_55 : kd u_52 a0 = 20 := by rw [e_53]; exact hk_47
  have hk_56 : kd u_52 q_7 = 101 := by rw [e_53]; exact hk_48
  have hk_57 : kd u_52 q_19 = 101 := by rw [e_53]; exact hk_49
  have hk_58 : kd u_52 q_33 = 101 := by rw [e_53]; exact hk_50
  have hk_59 : kd u_52 q_42 = 105 := by rw [e_53]; exact hk_51
  refine g_putFO (v := (some q_42)) X hin hw in_X23 tyX23_ok nmX23 hk_55 rfl 14 rfl (by decide) q1635 (fun _ z => z) rfl rfl rfl rfl dX23_init_39 (fun H locs hw => ?_)
  exact g_vret X hw hr h (by omega) (by omega) dX23_init_42

/-! FifthCardModel.byteAt(I)I -/
theorem ydX19_byteAt : yX19_byteAt.cls = "FifthCardModel" ∧ yX19_byteAt.cls ≠ "java/lang/invoke/MethodHandle" ∧ yX19_byteAt.cls ≠ "java/lang/invoke/VarHandle" ∧ (parseMethodDescriptor yX19_byteAt.desc).map (fun d => d.parameters.length) = some 1 := by decide +kernel
def rmX19_byteAt (mc ms : Nat) : Room := { frames := 0, cells := mc, slots := ms, locals := 0 }
set_option maxHeartbeats 4000000 in
theorem mX19_byteAt (l : Launch) (G : GT) (u : Hp) (a0 : Nat) (x1 : Int32) (K : Int32 → Prop) (h : pX19_byteAt u a0 x1 K) : Met l yX19_byteAt (ws_ yX19_byteAt cX19_byteAt 2 (some .int)) (rmX19_byteAt 0 0) (va_Pc [.ref a0, .int x1] (GB G u)) (va_Qi (fun r v => v = u ∧ K r) (fun u t => GH G u t.heap) (GA G)) 0 0 (GA G) := by
  refine Met.ofW (cc := cX19_byteAt) (maxL := 2) (ret := (some .int)) (by decide) rfl ?_
  intro p e s m args below meth c s₁ B hml hv
  obtain ⟨rfl, hv⟩ := hv
  have X := Mc_of (own := RX19) B hml rfl hv
  have hw : GW G u s s.heap [] := ⟨hv.2.1, va_S.rf⟩
  have hr := B.returns
  obtain ⟨hx, hb, hml, hown, hts, -⟩ := id X
  have hl := lv_entry ([.ref a0, .int x1]) (n := 2) (Nat.le_of_ble_eq_true rfl)
  rw [lg_entry_eq]
  generalize (lg_sl ([.ref a0, .int x1]) ++ List.replicate (2 - (lg_sl ([.ref a0, .int x1])).length) Slot.unset).toArray = ls at hl ⊢
  have hl : lv_has ls 2 [(0, .ref a0), (1, .int x1)] := hl
  change W p l e (rmX19_byteAt 0 0) s m _ below meth c s.heap [] 0 0 (QI G below (fun r v => v = u ∧ K r) _ s 0 0) (F0 m 0 ls [])
  unfold pX19_byteAt at h
  refine lv_iload_n hx hb dX19_byteAt_0 rfl (lv_at hl 1 rfl) ?_
  refine lv_aload_n hx hb dX19_byteAt_1 rfl (lv_at hl 0 rfl) ?_
  have hk_1 : kd u a0 = 16 := h.1
  have h := h.2
  refine g_getI X hw in_X19 hk_1 rfl 7 rfl (by decide) q1458 (fun _ z => z) dX19_byteAt_2 ?_
  refine lv_icmp_ge (tgt := 21) hx hb dX19_byteAt_5 rfl (fun c_5 => ?_) (fun c_5 => ?_)
  · have h := h.1 c_5
    refine lv_iconst (v := (-1)) hx hb dX19_byteAt_21 (by decide) ?_
    exact g_iret X hw hr ⟨rfl, h⟩ (Nat.le_refl _) (Nat.le_refl _) dX19_byteAt_22
  · have h := h.2 c_5
    refine lv_aload_n hx hb dX19_byteAt_8 rfl (lv_at hl 0 rfl) ?_
    obtain ⟨b_2, e_3, h⟩ := h
    refine g_getR X hw in_X19 hk_1 rfl 5 rfl (by decide) q1456 (fun _ z => z) e_3 dX19_byteAt_9 ?_
    refine lv_iload_n hx hb dX19_byteAt_12 rfl (lv_at hl 1 rfl) ?_
    have hk_4 : kd u b_2 = 102 ∨ kd u b_2 = 202 := h.1
    have h := h.2
    refine g_bald X hw hk_4 h.1 dX19_byteAt_13 ?_
    have h := h.2
    refine lv_sipush (v := 255) hx hb dX19_byteAt_14 (by decide) ?_
    refine lv_iand hx hb dX19_byteAt_17 ?_
    refine lv_goto (tgt := 22) hx hb dX19_byteAt_18 rfl ?_
    exact g_iret X hw hr ⟨rfl, h⟩ (Nat.le_refl _) (Nat.le_refl _) dX19_byteAt_22

/-! FifthCardModel.isLetter(I)Z -/
theorem ydX19_isLetter : yX19_isLetter.cls = "FifthCardModel" ∧ yX19_isLetter.cls ≠ "java/lang/invoke/MethodHandle" ∧ yX19_isLetter.cls ≠ "java/lang/invoke/VarHandle" ∧ (parseMethodDescriptor yX19_isLetter.desc).map (fun d => d.parameters.length) = some 1 := by decide +kernel
def rmX19_isLetter (mc ms : Nat) : Room := { frames := 0, cells := mc, slots := ms, locals := 0 }
set_option maxHeartbeats 4000000 in
theorem mX19_isLetter (l : Launch) (G : GT) (u : Hp) (x0 : Int32) (K : Int32 → Prop) (h : pX19_isLetter x0 K) : Met l yX19_isLetter (ws_ yX19_isLetter cX19_isLetter 1 (some .boolean)) (rmX19_isLetter 0 0) (va_Pc [.int x0] (GB G u)) (va_Qi (fun r v => v = u ∧ K r) (fun u t => GH G u t.heap) (GA G)) 0 0 (GA G) := by
  refine Met.ofW (cc := cX19_isLetter) (maxL := 1) (ret := (some .boolean)) (by decide) rfl ?_
  intro p e s m args below meth c s₁ B hml hv
  obtain ⟨rfl, hv⟩ := hv
  have X := Mc_of (own := RX19) B hml rfl hv
  have hw : GW G u s s.heap [] := ⟨hv.2.1, va_S.rf⟩
  have hr := B.returns
  obtain ⟨hx, hb, hml, hown, hts, -⟩ := id X
  have hl := lv_entry ([.int x0]) (n := 1) (Nat.le_of_ble_eq_true rfl)
  rw [lg_entry_eq]
  generalize (lg_sl ([.int x0]) ++ List.replicate (1 - (lg_sl ([.int x0])).length) Slot.unset).toArray = ls at hl ⊢
  have hl : lv_has ls 1 [(0, .int x0)] := hl
  change W p l e (rmX19_isLetter 0 0) s m _ below meth c s.heap [] 0 0 (QI G below (fun r v => v = u ∧ K r) _ s 0 0) (F0 m 0 ls [])
  unfold pX19_isLetter at h
  refine lv_iload_n hx hb dX19_isLetter_0 rfl (lv_at hl 0 rfl) ?_
  refine lv_bipush (v := 97) hx hb dX19_isLetter_1 (by decide) ?_
  refine lv_icmp_lt (tgt := 16) hx hb dX19_isLetter_3 rfl (fun c_2 => ?_) (fun c_2 => ?_)
  · have h := h.1 c_2
    refine lv_iconst (v := 0) hx hb dX19_isLetter_16 (by decide) ?_
    exact g_zret X hw hr rfl ⟨rfl, h⟩ (Nat.le_refl _) (Nat.le_refl _) dX19_isLetter_17
  · have h := h.2 c_2
    refine lv_iload_n hx hb dX19_isLetter_6 rfl (lv_at hl 0 rfl) ?_
    refine lv_bipush (v := 122) hx hb dX19_isLetter_7 (by decide) ?_
    refine lv_icmp_gt (tgt := 16) hx hb dX19_isLetter_9 rfl (fun c_1 => ?_) (fun c_1 => ?_)
    · have h := h.1 c_1
      refine lv_iconst (v := 0) hx hb dX19_isLetter_16 (by decide) ?_
      exact g_zret X hw hr rfl ⟨rfl, h⟩ (Nat.le_refl _) (Nat.le_refl _) dX19_isLetter_17
    · have h := h.2 c_1
      refine lv_iconst (v := 1) hx hb dX19_isLetter_12 (by decide) ?_
      refine lv_goto (tgt := 17) hx hb dX19_isLetter_13 rfl ?_
      exact g_zret X hw hr rfl ⟨rfl, h⟩ (Nat.le_refl _) (Nat.le_refl _) dX19_isLetter_17

/-! FifthCardModel.isDigit(I)Z -/
theorem ydX19_isDigit : yX19_isDigit.cls = "FifthCardModel" ∧ yX19_isDigit.cls ≠ "java/lang/invoke/MethodHandle" ∧ yX19_isDigit.cls ≠ "java/lang/invoke/VarHandle" ∧ (parseMethodDescriptor yX19_isDigit.desc).map (fun d => d.parameters.length) = some 1 := by decide +kernel
def rmX19_isDigit (mc ms : Nat) : Room := { frames := 0, cells := mc, slots := ms, locals := 0 }
set_option maxHeartbeats 4000000 in
theorem mX19_isDigit (l : Launch) (G : GT) (u : Hp) (x0 : Int32) (K : Int32 → Prop) (h : pX19_isDigit x0 K) : Met l yX19_isDigit (ws_ yX19_isDigit cX19_isDigit 1 (some .boolean)) (rmX19_isDigit 0 0) (va_Pc [.int x0] (GB G u)) (va_Qi (fun r v => v = u ∧ K r) (fun u t => GH G u t.heap) (GA G)) 0 0 (GA G) := by
  refine Met.ofW (cc := cX19_isDigit) (maxL := 1) (ret := (some .boolean)) (by decide) rfl ?_
  intro p e s m args below meth c s₁ B hml hv
  obtain ⟨rfl, hv⟩ := hv
  have X := Mc_of (own := RX19) B hml rfl hv
  have hw : GW G u s s.heap [] := ⟨hv.2.1, va_S.rf⟩
  have hr := B.returns
  obtain ⟨hx, hb, hml, hown, hts, -⟩ := id X
  have hl := lv_entry ([.int x0]) (n := 1) (Nat.le_of_ble_eq_true rfl)
  rw [lg_entry_eq]
  generalize (lg_sl ([.int x0]) ++ List.replicate (1 - (lg_sl ([.int x0])).length) Slot.unset).toArray = ls at hl ⊢
  have hl : lv_has ls 1 [(0, .int x0)] := hl
  change W p l e (rmX19_isDigit 0 0) s m _ below meth c s.heap [] 0 0 (QI G below (fun r v => v = u ∧ K r) _ s 0 0) (F0 m 0 ls [])
  unfold pX19_isDigit at h
  refine lv_iload_n hx hb dX19_isDigit_0 rfl (lv_at hl 0 rfl) ?_
  refine lv_bipush (v := 48) hx hb dX19_isDigit_1 (by decide) ?_
  refine lv_icmp_lt (tgt := 16) hx hb dX19_isDigit_3 rfl (fun c_2 => ?_) (fun c_2 => ?_)
  · have h := h.1 c_2
    refine lv_iconst (v := 0) hx hb dX19_isDigit_16 (by decide) ?_
    exact g_zret X hw hr rfl ⟨rfl, h⟩ (Nat.le_refl _) (Nat.le_refl _) dX19_isDigit_17
  · have h := h.2 c_2
    refine lv_iload_n hx hb dX19_isDigit_6 rfl (lv_at hl 0 rfl) ?_
    refine lv_bipush (v := 57) hx hb dX19_isDigit_7 (by decide) ?_
    refine lv_icmp_gt (tgt := 16) hx hb dX19_isDigit_9 rfl (fun c_1 => ?_) (fun c_1 => ?_)
    · have h := h.1 c_1
      refine lv_iconst (v := 0) hx hb dX19_isDigit_16 (by decide) ?_
      exact g_zret X hw hr rfl ⟨rfl, h⟩ (Nat.le_refl _) (Nat.le_refl _) dX19_isDigit_17
    · have h := h.2 c_1
      refine lv_iconst (v := 1) hx hb dX19_isDigit_12 (by decide) ?_
      refine lv_goto (tgt := 17) hx hb dX19_isDigit_13 rfl ?_
      exact g_zret X hw hr rfl ⟨rfl, h⟩ (Nat.le_refl _) (Nat.le_refl _) dX19_isDigit_17

/-! FifthCardModel.goesOn()V -/
theorem ydX19_goesOn : yX19_goesOn.cls = "FifthCardModel" ∧ yX19_goesOn.cls ≠ "java/lang/invoke/MethodHandle" ∧ yX19_goesOn.cls ≠ "java/lang/invoke/VarHandle" ∧ (parseMethodDescriptor yX19_goesOn.desc).map (fun d => d.parameters.length) = some 0 := by decide +kernel
def rmX19_goesOn (mc ms : Nat) : Room := { frames := 1, cells := mc, slots := ms, locals := 21 }
set_option maxHeartbeats 4000000 in
theorem wX19_goesOn_178 {G : GT} {p : Program} {l : Launch} {e : Env} {s : State} {m : MethodId} {args : Array Value} {below : List Frame} {meth : Method} {c : Code} {H : Heap} {locs : List Loc} {ls : Array Slot} {a0 : Nat} {x2 : Int32} {u : Hp} {K : Hp → Prop} (X : Mc G p s m args meth c RX19 cX19_goesOn 3) (hr : meth.sig.returnType = none) (h : jl2 (bX19_goesOn_178 K a0) x2 u) (hw : GW G u s H locs) (hl : lv_has ls 3 [(0, .ref a0), (2, .int x2)]) : W p l e (rmX19_goesOn 0 0) s m args below meth c H locs 0 0 (QV G below K args s 0 0) (F0 m 178 ls []) := by
  obtain ⟨hx, hb, hml, hown, hts, -⟩ := id X
  obtain ⟨I, μ, h0, hs⟩ := h
  have key : ∀ (n : Nat) (x2 : Int32) (u : Hp) (H : Heap) (locs : List Loc) (ls : Array Slot) , μ x2 u < n → I x2 u → GW G u s H locs → lv_has ls 3 [(0, .ref a0), (2, .int x2)] → W p l e (rmX19_goesOn 0 0) s m args below meth c H locs 0 0 (QV G below K args s 0 0) (F0 m 178 ls []) := by
    intro n
    induction n with
    | zero =>
      intro x2 u H locs ls hn
      exact absurd hn (Nat.not_lt_zero _)
    | succ n ih =>
      intro x2 u H locs ls hn hI hw hl
      have h := hs x2 u hI
      unfold bX19_goesOn_178 at h
      have hJ178 : ∀ (x2' : Int32) (u' : Hp) (H : Heap) (locs : List Loc) (ls : Array Slot) , (I x2' u' ∧ μ x2' u' < μ x2 u) → GW G u' s H locs → lv_has ls 3 [(0, .ref a0), (2, .int x2')] → W p l e (rmX19_goesOn 0 0) s m args below meth c H locs 0 0 (QV G below K args s 0 0) (F0 m 178 ls []) := fun x2' u' H locs ls h hw hl => ih x2' u' H locs ls (Nat.lt_of_lt_of_le h.2 (Nat.le_of_lt_succ hn)) h.1 hw hl
      refine lv_aload_n hx hb dX19_goesOn_178 rfl (lv_at hl 0 rfl) ?_
      refine lv_aload_n hx hb dX19_goesOn_179 rfl (lv_at hl 0 rfl) ?_
      have hk_1 : kd u a0 = 16 := h.1
      have h := h.2
      refine g_getI X hw in_X19 hk_1 rfl 8 rfl (by decide) q1459 (fun _ z => z) dX19_goesOn_180 ?_
      refine g_callio hw (g_V X hw (mX19_byteAt l G _ _ _ _ h) 1 (lw_V q1673 q1675 qs49 q143 q1676) rfl rfl ydX19_byteAt ⟨Nat.le_of_ble_eq_true rfl, Nat.le_of_ble_eq_true rfl⟩ (g_recv X hw (ci := 15) (q := (RX19, TX19, 46)) hk_1 rfl) (As := [.int (FI u 1908 a0)]) (rest := []) rfl hl.1 rfl (Nat.le_of_ble_eq_true rfl) dX19_goesOn_183 ⟨Nat.le_refl _, Nat.le_refl _⟩) (fun r_2 H locs h hw => ?_)
      refine g_callio hw (g_S X hw (mX19_isDigit l G _ _ _ h) 1 (lw_S q1681 q1682 q143 q1683) rfl rfl ydX19_isDigit ⟨Nat.le_of_ble_eq_true rfl, Nat.le_of_ble_eq_true rfl⟩ (As := [.int r_2]) (rest := []) rfl hl.1 rfl (Nat.le_of_ble_eq_true rfl) dX19_goesOn_186 ⟨Nat.le_refl _, Nat.le_refl _⟩) (fun r_3 H locs h hw => ?_)
      refine lv_if_eq (tgt := 236) hx hb dX19_goesOn_189 rfl (fun c_7 => ?_) (fun c_7 => ?_)
      · have h := h.1 c_7
        refine lv_iload_n hx hb dX19_goesOn_236 rfl (lv_at hl 1 rfl) ?_
        refine lv_iconst (v := 3) hx hb dX19_goesOn_237 (by decide) ?_
        refine lv_icmp_gt (tgt := 281) hx hb dX19_goesOn_238 rfl (fun c_4 => ?_) (fun c_4 => ?_)
        · have h := h.1 c_4
          exact g_vret X hw hr h (Nat.le_refl _) (Nat.le_refl _) dX19_goesOn_281
        · have h := h.2 c_4
          refine lv_aload_n hx hb dX19_goesOn_241 rfl (lv_at hl 0 rfl) ?_
          refine lv_iconst (v := 3) hx hb dX19_goesOn_242 (by decide) ?_
          refine g_putI (v := 3) X hw in_X19 tyX19_ok nmX19 hk_1 rfl 9 rfl (by decide) q1460 (fun _ z => z) rfl rfl rfl dX19_goesOn_243 (fun H locs hw => ?_)
          refine lv_goto (tgt := 281) hx hb dX19_goesOn_246 rfl ?_
          exact g_vret X hw hr h (Nat.le_refl _) (Nat.le_refl _) dX19_goesOn_281
      · have h := h.2 c_7
        refine lv_iload_n hx hb dX19_goesOn_192 rfl (lv_at hl 1 rfl) ?_
        refine lv_iconst (v := 3) hx hb dX19_goesOn_193 (by decide) ?_
        refine lv_icmp_ge (tgt := 220) hx hb dX19_goesOn_194 rfl (fun c_6 => ?_) (fun c_6 => ?_)
        · have h := h.1 c_6
          refine lv_iinc (v := x2 + 1) (lv' := [(2, .int (x2 + 1)), (0, .ref a0)]) hx hb dX19_goesOn_220 hl (k := 1) rfl rfl (by decide) rfl (fun ls hl => ?_)
          refine lv_aload_n hx hb dX19_goesOn_223 rfl (lv_at hl 1 rfl) ?_
          refine lv_dup hx hb dX19_goesOn_224 rfl ?_
          refine g_getI X hw in_X19 hk_1 rfl 8 rfl (by decide) q1459 (fun _ z => z) dX19_goesOn_225 ?_
          refine lv_iconst (v := 1) hx hb dX19_goesOn_228 (by decide) ?_
          refine lv_iadd hx hb dX19_goesOn_229 ?_
          refine g_putI (v := (FI u 1908 a0) + 1) X hw in_X19 tyX19_ok nmX19 hk_1 rfl 8 rfl (by decide) q1459 (fun _ z => z) rfl rfl rfl dX19_goesOn_230 (fun H locs hw => ?_)
          refine lv_goto (tgt := 178) hx hb dX19_goesOn_233 rfl ?_
          exact hJ178 _ _ _ _ _ h hw (lv_sub hl [1, 0] rfl)
        · have h := h.2 c_6
          refine lv_aload_n hx hb dX19_goesOn_197 rfl (lv_at hl 0 rfl) ?_
          refine lv_bipush (v := 10) hx hb dX19_goesOn_198 (by decide) ?_
          refine lv_aload_n hx hb dX19_goesOn_200 rfl (lv_at hl 0 rfl) ?_
          refine g_getI X hw in_X19 hk_1 rfl 12 rfl (by decide) q1463 (fun _ z => z) dX19_goesOn_201 ?_
          refine lv_imul hx hb dX19_goesOn_204 ?_
          refine lv_aload_n hx hb dX19_goesOn_205 rfl (lv_at hl 0 rfl) ?_
          refine lv_aload_n hx hb dX19_goesOn_206 rfl (lv_at hl 0 rfl) ?_
          refine g_getI X hw in_X19 hk_1 rfl 8 rfl (by decide) q1459 (fun _ z => z) dX19_goesOn_207 ?_
          refine g_callio hw (g_V X hw (mX19_byteAt l G _ _ _ _ h) 1 (lw_V q1673 q1675 qs49 q143 q1676) rfl rfl ydX19_byteAt ⟨Nat.le_of_ble_eq_true rfl, Nat.le_of_ble_eq_true rfl⟩ (g_recv X hw (ci := 15) (q := (RX19, TX19, 46)) hk_1 rfl) (As := [.int (FI u 1908 a0)]) (rest := [.int (10 * (FI u 1912 a0)), .ref a0]) rfl hl.1 rfl (Nat.le_of_ble_eq_true rfl) dX19_goesOn_210 ⟨Nat.le_refl _, Nat.le_refl _⟩) (fun r_5 H locs h hw => ?_)
          refine lv_iadd hx hb dX19_goesOn_213 ?_
          refine lv_bipush (v := 48) hx hb dX19_goesOn_214 (by decide) ?_
          refine lv_isub hx hb dX19_goesOn_216 ?_
          refine g_putI (v := ((10 * (FI u 1912 a0)) + r_5) - 48) X hw in_X19 tyX19_ok nmX19 hk_1 rfl 12 rfl (by decide) q1463 (fun _ z => z) rfl rfl rfl dX19_goesOn_217 (fun H locs hw => ?_)
          refine lv_iinc (v := x2 + 1) (lv' := [(2, .int (x2 + 1)), (0, .ref a0)]) hx hb dX19_goesOn_220 hl (k := 1) rfl rfl (by decide) rfl (fun ls hl => ?_)
          refine lv_aload_n hx hb dX19_goesOn_223 rfl (lv_at hl 1 rfl) ?_
          refine lv_dup hx hb dX19_goesOn_224 rfl ?_
          refine g_getI X hw in_X19 hk_1 rfl 8 rfl (by decide) q1459 (fun _ z => z) dX19_goesOn_225 ?_
          refine lv_iconst (v := 1) hx hb dX19_goesOn_228 (by decide) ?_
          refine lv_iadd hx hb dX19_goesOn_229 ?_
          refine g_putI (v := (FI (sFI u 1912 a0 (((10 * (FI u 1912 a0)) + r_5) - 48)) 1908 a0) + 1) X hw in_X19 tyX19_ok nmX19 hk_1 rfl 8 rfl (by decide) q1459 (fun _ z => z) rfl rfl rfl dX19_goesOn_230 (fun H locs hw => ?_)
          refine lv_goto (tgt := 178) hx hb dX19_goesOn_233 rfl ?_
          exact hJ178 _ _ _ _ _ h hw (lv_sub hl [1, 0] rfl)
  exact key _ _ _ _ _ _ (Nat.lt_succ_self _) h0 hw hl
set_option maxHeartbeats 4000000 in
theorem wX19_goesOn_89 {G : GT} {p : Program} {l : Launch} {e : Env} {s : State} {m : MethodId} {args : Array Value} {below : List Frame} {meth : Method} {c : Code} {H : Heap} {locs : List Loc} {ls : Array Slot} {a0 : Nat} {x2 : Int32} {u : Hp} {K : Hp → Prop} (X : Mc G p s m args meth c RX19 cX19_goesOn 3) (hr : meth.sig.returnType = none) (h : jl2 (bX19_goesOn_89 K a0) x2 u) (hw : GW G u s H locs) (hl : lv_has ls 3 [(0, .ref a0), (2, .int x2)]) : W p l e (rmX19_goesOn 0 0) s m args below meth c H locs 0 0 (QV G below K args s 0 0) (F0 m 89 ls []) := by
  obtain ⟨hx, hb, hml, hown, hts, -⟩ := id X
  obtain ⟨I, μ, h0, hs⟩ := h
  have key : ∀ (n : Nat) (x2 : Int32) (u : Hp) (H : Heap) (locs : List Loc) (ls : Array Slot) , μ x2 u < n → I x2 u → GW G u s H locs → lv_has ls 3 [(0, .ref a0), (2, .int x2)] → W p l e (rmX19_goesOn 0 0) s m args below meth c H locs 0 0 (QV G below K args s 0 0) (F0 m 89 ls []) := by
    intro n
    induction n with
    | zero =>
      intro x2 u H locs ls hn
      exact absurd hn (Nat.not_lt_zero _)
    | succ n ih =>
      intro x2 u H locs ls hn hI hw hl
      have h := hs x2 u hI
      unfold bX19_goesOn_89 at h
      have hJ89 : ∀ (x2' : Int32) (u' : Hp) (H : Heap) (locs : List Loc) (ls : Array Slot) , (I x2' u' ∧ μ x2' u' < μ x2 u) → GW G u' s H locs → lv_has ls 3 [(0, .ref a0), (2, .int x2')] → W p l e (rmX19_goesOn 0 0) s m args below meth c H locs 0 0 (QV G below K args s 0 0) (F0 m 89 ls []) := fun x2' u' H locs ls h hw hl => ih x2' u' H locs ls (Nat.lt_of_lt_of_le h.2 (Nat.le_of_lt_succ hn)) h.1 hw hl
      refine lv_aload_n hx hb dX19_goesOn_89 rfl (lv_at hl 0 rfl) ?_
      refine lv_aload_n hx hb dX19_goesOn_90 rfl (lv_at hl 0 rfl) ?_
      have hk_8 : kd u a0 = 16 := h.1
      have h := h.2
      refine g_getI X hw in_X19 hk_8 rfl 8 rfl (by decide) q1459 (fun _ z => z) dX19_goesOn_91 ?_
      refine g_callio hw (g_V X hw (mX19_byteAt l G _ _ _ _ h) 1 (lw_V q1673 q1675 qs49 q143 q1676) rfl rfl ydX19_byteAt ⟨Nat.le_of_ble_eq_true rfl, Nat.le_of_ble_eq_true rfl⟩ (g_recv X hw (ci := 15) (q := (RX19, TX19, 46)) hk_8 rfl) (As := [.int (FI u 1908 a0)]) (rest := []) rfl hl.1 rfl (Nat.le_of_ble_eq_true rfl) dX19_goesOn_94 ⟨Nat.le_refl _, Nat.le_refl _⟩) (fun r_9 H locs h hw => ?_)
      refine g_callio hw (g_S X hw (mX19_isLetter l G _ _ _ h) 1 (lw_S q1677 q1678 q143 q1679) rfl rfl ydX19_isLetter ⟨Nat.le_of_ble_eq_true rfl, Nat.le_of_ble_eq_true rfl⟩ (As := [.int r_9]) (rest := []) rfl hl.1 rfl (Nat.le_of_ble_eq_true rfl) dX19_goesOn_97 ⟨Nat.le_refl _, Nat.le_refl _⟩) (fun r_10 H locs h hw => ?_)
      refine lv_if_eq (tgt := 152) hx hb dX19_goesOn_100 rfl (fun c_14 => ?_) (fun c_14 => ?_)
      · have h := h.1 c_14
        refine lv_iload_n hx hb dX19_goesOn_152 rfl (lv_at hl 1 rfl) ?_
        refine lv_bipush (v := 8) hx hb dX19_goesOn_153 (by decide) ?_
        refine lv_icmp_gt (tgt := 281) hx hb dX19_goesOn_155 rfl (fun c_11 => ?_) (fun c_11 => ?_)
        · have h := h.1 c_11
          exact g_vret X hw hr h (Nat.le_refl _) (Nat.le_refl _) dX19_goesOn_281
        · have h := h.2 c_11
          refine lv_aload_n hx hb dX19_goesOn_158 rfl (lv_at hl 0 rfl) ?_
          refine lv_iconst (v := 2) hx hb dX19_goesOn_159 (by decide) ?_
          refine g_putI (v := 2) X hw in_X19 tyX19_ok nmX19 hk_8 rfl 9 rfl (by decide) q1460 (fun _ z => z) rfl rfl rfl dX19_goesOn_160 (fun H locs hw => ?_)
          refine lv_goto (tgt := 281) hx hb dX19_goesOn_163 rfl ?_
          exact g_vret X hw hr h (Nat.le_refl _) (Nat.le_refl _) dX19_goesOn_281
      · have h := h.2 c_14
        refine lv_iload_n hx hb dX19_goesOn_103 rfl (lv_at hl 1 rfl) ?_
        refine lv_bipush (v := 8) hx hb dX19_goesOn_104 (by decide) ?_
        refine lv_icmp_ge (tgt := 136) hx hb dX19_goesOn_106 rfl (fun c_13 => ?_) (fun c_13 => ?_)
        · have h := h.1 c_13
          refine lv_iinc (v := x2 + 1) (lv' := [(2, .int (x2 + 1)), (0, .ref a0)]) hx hb dX19_goesOn_136 hl (k := 1) rfl rfl (by decide) rfl (fun ls hl => ?_)
          refine lv_aload_n hx hb dX19_goesOn_139 rfl (lv_at hl 1 rfl) ?_
          refine lv_dup hx hb dX19_goesOn_140 rfl ?_
          refine g_getI X hw in_X19 hk_8 rfl 8 rfl (by decide) q1459 (fun _ z => z) dX19_goesOn_141 ?_
          refine lv_iconst (v := 1) hx hb dX19_goesOn_144 (by decide) ?_
          refine lv_iadd hx hb dX19_goesOn_145 ?_
          refine g_putI (v := (FI u 1908 a0) + 1) X hw in_X19 tyX19_ok nmX19 hk_8 rfl 8 rfl (by decide) q1459 (fun _ z => z) rfl rfl rfl dX19_goesOn_146 (fun H locs hw => ?_)
          refine lv_goto (tgt := 89) hx hb dX19_goesOn_149 rfl ?_
          exact hJ89 _ _ _ _ _ h hw (lv_sub hl [1, 0] rfl)
        · have h := h.2 c_13
          refine lv_aload_n hx hb dX19_goesOn_109 rfl (lv_at hl 0 rfl) ?_
          refine lv_ldc2 hx hb hown (hts _ q1680) dX19_goesOn_110 ?_
          refine lv_aload_n hx hb dX19_goesOn_113 rfl (lv_at hl 0 rfl) ?_
          refine g_getJ X hw in_X19 hk_8 rfl 15 rfl (by decide) q1466 (fun _ z => z) dX19_goesOn_114 ?_
          refine lv_lmul hx hb dX19_goesOn_117 ?_
          refine lv_aload_n hx hb dX19_goesOn_118 rfl (lv_at hl 0 rfl) ?_
          refine lv_aload_n hx hb dX19_goesOn_119 rfl (lv_at hl 0 rfl) ?_
          refine g_getI X hw in_X19 hk_8 rfl 8 rfl (by decide) q1459 (fun _ z => z) dX19_goesOn_120 ?_
          refine g_callio hw (g_V X hw (mX19_byteAt l G _ _ _ _ h) 1 (lw_V q1673 q1675 qs49 q143 q1676) rfl rfl ydX19_byteAt ⟨Nat.le_of_ble_eq_true rfl, Nat.le_of_ble_eq_true rfl⟩ (g_recv X hw (ci := 15) (q := (RX19, TX19, 46)) hk_8 rfl) (As := [.int (FI u 1908 a0)]) (rest := [.long (32 * (FJ u 1915 a0)), .ref a0]) rfl hl.1 rfl (Nat.le_of_ble_eq_true rfl) dX19_goesOn_123 ⟨Nat.le_refl _, Nat.le_refl _⟩) (fun r_12 H locs h hw => ?_)
          refine lv_bipush (v := 97) hx hb dX19_goesOn_126 (by decide) ?_
          refine lv_isub hx hb dX19_goesOn_128 ?_
          refine lv_iconst (v := 1) hx hb dX19_goesOn_129 (by decide) ?_
          refine lv_iadd hx hb dX19_goesOn_130 ?_
          refine lv_i2l hx hb dX19_goesOn_131 rfl ?_
          refine lv_ladd hx hb dX19_goesOn_132 ?_
          refine g_putJ (v := (32 * (FJ u 1915 a0)) + (((r_12 - 97) + 1).toInt64)) X hw in_X19 tyX19_ok nmX19 hk_8 rfl 15 rfl (by decide) q1466 (fun _ z => z) rfl rfl rfl dX19_goesOn_133 (fun H locs hw => ?_)
          refine lv_iinc (v := x2 + 1) (lv' := [(2, .int (x2 + 1)), (0, .ref a0)]) hx hb dX19_goesOn_136 hl (k := 1) rfl rfl (by decide) rfl (fun ls hl => ?_)
          refine lv_aload_n hx hb dX19_goesOn_139 rfl (lv_at hl 1 rfl) ?_
          refine lv_dup hx hb dX19_goesOn_140 rfl ?_
          refine g_getI X hw in_X19 hk_8 rfl 8 rfl (by decide) q1459 (fun _ z => z) dX19_goesOn_141 ?_
          refine lv_iconst (v := 1) hx hb dX19_goesOn_144 (by decide) ?_
          refine lv_iadd hx hb dX19_goesOn_145 ?_
          refine g_putI (v := (FI u 1908 a0) + 1) X hw in_X19 tyX19_ok nmX19 hk_8 rfl 8 rfl (by decide) q1459 (fun _ z => z) rfl rfl rfl dX19_goesOn_146 (fun H locs hw => ?_)
          refine lv_goto (tgt := 89) hx hb dX19_goesOn_149 rfl ?_
          exact hJ89 _ _ _ _ _ h hw (lv_sub hl [1, 0] rfl)
  exact key _ _ _ _ _ _ (Nat.lt_succ_self _) h0 hw hl
set_option maxHeartbeats 4000000 in
theorem wX19_goesOn_9 {G : GT} {p : Program} {l : Launch} {e : Env} {s : State} {m : MethodId} {args : Array Value} {below : List Frame} {meth : Method} {c : Code} {H : Heap} {locs : List Loc} {ls : Array Slot} {a0 : Nat} {u : Hp} {K : Hp → Prop} (X : Mc G p s m args meth c RX19 cX19_goesOn 3) (hr : meth.sig.returnType = none) (h : jl1 (bX19_goesOn_9 K a0) u) (hw : GW G u s H locs) (hl : lv_has ls 3 [(0, .ref a0)]) : W p l e (rmX19_goesOn 0 0) s m args below meth c H locs 0 0 (QV G below K args s 0 0) (F0 m 9 ls []) := by
  obtain ⟨hx, hb, hml, hown, hts, -⟩ := id X
  obtain ⟨I, μ, h0, hs⟩ := h
  have key : ∀ (n : Nat) (u : Hp) (H : Heap) (locs : List Loc) (ls : Array Slot) , μ u < n → I u → GW G u s H locs → lv_has ls 3 [(0, .ref a0)] → W p l e (rmX19_goesOn 0 0) s m args below meth c H locs 0 0 (QV G below K args s 0 0) (F0 m 9 ls []) := by
    intro n
    induction n with
    | zero =>
      intro u H locs ls hn
      exact absurd hn (Nat.not_lt_zero _)
    | succ n ih =>
      intro u H locs ls hn hI hw hl
      have h := hs u hI
      unfold bX19_goesOn_9 at h
      have hJ9 : ∀ (u' : Hp) (H : Heap) (locs : List Loc) (ls : Array Slot) , (I u' ∧ μ u' < μ u) → GW G u' s H locs → lv_has ls 3 [(0, .ref a0)] → W p l e (rmX19_goesOn 0 0) s m args below meth c H locs 0 0 (QV G below K args s 0 0) (F0 m 9 ls []) := fun u' H locs ls h hw hl => ih u' H locs ls (Nat.lt_of_lt_of_le h.2 (Nat.le_of_lt_succ hn)) h.1 hw hl
      refine lv_aload_n hx hb dX19_goesOn_9 rfl (lv_at hl 0 rfl) ?_
      refine lv_aload_n hx hb dX19_goesOn_10 rfl (lv_at hl 0 rfl) ?_
      have hk_15 : kd u a0 = 16 := h.1
      have h := h.2
      refine g_getI X hw in_X19 hk_15 rfl 8 rfl (by decide) q1459 (fun _ z => z) dX19_goesOn_11 ?_
      refine g_callio hw (g_V X hw (mX19_byteAt l G _ _ _ _ h) 1 (lw_V q1673 q1675 qs49 q143 q1676) rfl rfl ydX19_byteAt ⟨Nat.le_of_ble_eq_true rfl, Nat.le_of_ble_eq_true rfl⟩ (g_recv X hw (ci := 15) (q := (RX19, TX19, 46)) hk_15 rfl) (As := [.int (FI u 1908 a0)]) (rest := []) rfl hl.1 rfl (Nat.le_of_ble_eq_true rfl) dX19_goesOn_14 ⟨Nat.le_refl _, Nat.le_refl _⟩) (fun r_16 H locs h hw => ?_)
      refine lv_bipush (v := 32) hx hb dX19_goesOn_17 (by decide) ?_
      refine lv_icmp_ne (tgt := 35) hx hb dX19_goesOn_19 rfl (fun c_31 => ?_) (fun c_31 => ?_)
      · have h := h.2 c_31
        refine lv_aload_n hx hb dX19_goesOn_35 rfl (lv_at hl 0 rfl) ?_
        refine lv_aload_n hx hb dX19_goesOn_36 rfl (lv_at hl 0 rfl) ?_
        refine g_getI X hw in_X19 hk_15 rfl 8 rfl (by decide) q1459 (fun _ z => z) dX19_goesOn_37 ?_
        refine g_putI (v := FI u 1908 a0) X hw in_X19 tyX19_ok nmX19 hk_15 rfl 10 rfl (by decide) q1461 (fun _ z => z) rfl rfl rfl dX19_goesOn_40 (fun H locs hw => ?_)
        refine lv_aload_n hx hb dX19_goesOn_43 rfl (lv_at hl 0 rfl) ?_
        refine lv_iconst (v := 0) hx hb dX19_goesOn_44 (by decide) ?_
        refine g_putI (v := 0) X hw in_X19 tyX19_ok nmX19 hk_15 rfl 9 rfl (by decide) q1460 (fun _ z => z) rfl rfl rfl dX19_goesOn_45 (fun H locs hw => ?_)
        refine lv_aload_n hx hb dX19_goesOn_48 rfl (lv_at hl 0 rfl) ?_
        refine lv_iconst (v := 0) hx hb dX19_goesOn_49 (by decide) ?_
        refine g_putI (v := 0) X hw in_X19 tyX19_ok nmX19 hk_15 rfl 11 rfl (by decide) q1462 (fun _ z => z) rfl rfl rfl dX19_goesOn_50 (fun H locs hw => ?_)
        refine lv_aload_n hx hb dX19_goesOn_53 rfl (lv_at hl 0 rfl) ?_
        refine lv_aload_n hx hb dX19_goesOn_54 rfl (lv_at hl 0 rfl) ?_
        refine g_getI X hw in_X19 hk_15 rfl 8 rfl (by decide) q1459 (fun _ z => z) dX19_goesOn_55 ?_
        refine g_callio hw (g_V X hw (mX19_byteAt l G _ _ _ _ h) 1 (lw_V q1673 q1675 qs49 q143 q1676) rfl rfl ydX19_byteAt ⟨Nat.le_of_ble_eq_true rfl, Nat.le_of_ble_eq_true rfl⟩ (g_recv X hw (ci := 15) (q := (RX19, TX19, 46)) hk_15 rfl) (As := [.int (FI (sFI (sFI (sFI u 1910 a0 (FI u 1908 a0)) 1909 a0 0) 1911 a0 0) 1908 a0)]) (rest := []) rfl hl.1 rfl (Nat.le_of_ble_eq_true rfl) dX19_goesOn_58 ⟨Nat.le_refl _, Nat.le_refl _⟩) (fun r_17 H locs h hw => ?_)
        refine lv_istore_n (lv' := [(1, .int r_17), (0, .ref a0)]) hx hb dX19_goesOn_61 rfl hl (by decide) rfl (fun ls hl => ?_)
        refine lv_iconst (v := 0) hx hb dX19_goesOn_62 (by decide) ?_
        refine lv_istore_n (lv' := [(2, .int 0), (1, .int r_17), (0, .ref a0)]) hx hb dX19_goesOn_63 rfl hl (by decide) rfl (fun ls hl => ?_)
        refine lv_iload_n hx hb dX19_goesOn_64 rfl (lv_at hl 1 rfl) ?_
        refine lv_iconst (v := (-1)) hx hb dX19_goesOn_65 (by decide) ?_
        refine lv_icmp_ne (tgt := 77) hx hb dX19_goesOn_66 rfl (fun c_30 => ?_) (fun c_30 => ?_)
        · have h := h.2 c_30
          refine lv_iload_n hx hb dX19_goesOn_77 rfl (lv_at hl 1 rfl) ?_
          obtain ⟨u_18, e_19⟩ : ∃ v : Hp, v = (sFI (sFI (sFI u 1910 a0 (FI u 1908 a0)) 1909 a0 0) 1911 a0 0) := ⟨_, rfl⟩
          have h := h u_18 e_19
          have hw : GW G u_18 s H locs := by rw [e_19]; exact hw
          have hk_20 : kd u_18 a0 = 16 := by rw [e_19]; exact hk_15
          refine g_callio hw (g_S X hw (mX19_isLetter l G _ _ _ h) 1 (lw_S q1677 q1678 q143 q1679) rfl rfl ydX19_isLetter ⟨Nat.le_of_ble_eq_true rfl, Nat.le_of_ble_eq_true rfl⟩ (As := [.int r_17]) (rest := []) rfl hl.1 rfl (Nat.le_of_ble_eq_true rfl) dX19_goesOn_78 ⟨Nat.le_refl _, Nat.le_refl _⟩) (fun r_21 H locs h hw => ?_)
          refine lv_if_eq (tgt := 166) hx hb dX19_goesOn_81 rfl (fun c_26 => ?_) (fun c_26 => ?_)
          · have h := h.1 c_26
            refine lv_iload_n hx hb dX19_goesOn_166 rfl (lv_at hl 1 rfl) ?_
            refine g_callio hw (g_S X hw (mX19_isDigit l G _ _ _ h) 1 (lw_S q1681 q1682 q143 q1683) rfl rfl ydX19_isDigit ⟨Nat.le_of_ble_eq_true rfl, Nat.le_of_ble_eq_true rfl⟩ (As := [.int r_17]) (rest := []) rfl hl.1 rfl (Nat.le_of_ble_eq_true rfl) dX19_goesOn_167 ⟨Nat.le_refl _, Nat.le_refl _⟩) (fun r_22 H locs h hw => ?_)
            refine lv_if_eq (tgt := 249) hx hb dX19_goesOn_170 rfl (fun c_25 => ?_) (fun c_25 => ?_)
            · have h := h.1 c_25
              refine lv_iload_n hx hb dX19_goesOn_249 rfl (lv_at hl 1 rfl) ?_
              refine lv_bipush (v := 59) hx hb dX19_goesOn_250 (by decide) ?_
              refine lv_icmp_eq (tgt := 261) hx hb dX19_goesOn_252 rfl (fun c_24 => ?_) (fun c_24 => ?_)
              · have h := h.1 c_24
                refine lv_aload_n hx hb dX19_goesOn_261 rfl (lv_at hl 2 rfl) ?_
                refine lv_iconst (v := 4) hx hb dX19_goesOn_262 (by decide) ?_
                refine g_putI (v := 4) X hw in_X19 tyX19_ok nmX19 hk_20 rfl 9 rfl (by decide) q1460 (fun _ z => z) rfl rfl rfl dX19_goesOn_263 (fun H locs hw => ?_)
                refine lv_aload_n hx hb dX19_goesOn_266 rfl (lv_at hl 2 rfl) ?_
                refine lv_iload_n hx hb dX19_goesOn_267 rfl (lv_at hl 1 rfl) ?_
                refine g_putI (v := r_17) X hw in_X19 tyX19_ok nmX19 hk_20 rfl 11 rfl (by decide) q1462 (fun _ z => z) rfl rfl rfl dX19_goesOn_268 (fun H locs hw => ?_)
                refine lv_aload_n hx hb dX19_goesOn_271 rfl (lv_at hl 2 rfl) ?_
                refine lv_dup hx hb dX19_goesOn_272 rfl ?_
                refine g_getI X hw in_X19 hk_20 rfl 8 rfl (by decide) q1459 (fun _ z => z) dX19_goesOn_273 ?_
                refine lv_iconst (v := 1) hx hb dX19_goesOn_276 (by decide) ?_
                refine lv_iadd hx hb dX19_goesOn_277 ?_
                refine g_putI (v := (FI (sFI (sFI u_18 1909 a0 4) 1911 a0 r_17) 1908 a0) + 1) X hw in_X19 tyX19_ok nmX19 hk_20 rfl 8 rfl (by decide) q1459 (fun _ z => z) rfl rfl rfl dX19_goesOn_278 (fun H locs hw => ?_)
                exact g_vret X hw hr h (Nat.le_refl _) (Nat.le_refl _) dX19_goesOn_281
              · have h := h.2 c_24
                refine lv_iload_n hx hb dX19_goesOn_255 rfl (lv_at hl 1 rfl) ?_
                refine lv_bipush (v := 44) hx hb dX19_goesOn_256 (by decide) ?_
                refine lv_icmp_ne (tgt := 281) hx hb dX19_goesOn_258 rfl (fun c_23 => ?_) (fun c_23 => ?_)
                · have h := h.2 c_23
                  exact g_vret X hw hr h (Nat.le_refl _) (Nat.le_refl _) dX19_goesOn_281
                · have h := h.1 c_23
                  refine lv_aload_n hx hb dX19_goesOn_261 rfl (lv_at hl 2 rfl) ?_
                  refine lv_iconst (v := 4) hx hb dX19_goesOn_262 (by decide) ?_
                  refine g_putI (v := 4) X hw in_X19 tyX19_ok nmX19 hk_20 rfl 9 rfl (by decide) q1460 (fun _ z => z) rfl rfl rfl dX19_goesOn_263 (fun H locs hw => ?_)
                  refine lv_aload_n hx hb dX19_goesOn_266 rfl (lv_at hl 2 rfl) ?_
                  refine lv_iload_n hx hb dX19_goesOn_267 rfl (lv_at hl 1 rfl) ?_
                  refine g_putI (v := r_17) X hw in_X19 tyX19_ok nmX19 hk_20 rfl 11 rfl (by decide) q1462 (fun _ z => z) rfl rfl rfl dX19_goesOn_268 (fun H locs hw => ?_)
                  refine lv_aload_n hx hb dX19_goesOn_271 rfl (lv_at hl 2 rfl) ?_
                  refine lv_dup hx hb dX19_goesOn_272 rfl ?_
                  refine g_getI X hw in_X19 hk_20 rfl 8 rfl (by decide) q1459 (fun _ z => z) dX19_goesOn_273 ?_
                  refine lv_iconst (v := 1) hx hb dX19_goesOn_276 (by decide) ?_
                  refine lv_iadd hx hb dX19_goesOn_277 ?_
                  refine g_putI (v := (FI (sFI (sFI u_18 1909 a0 4) 1911 a0 r_17) 1908 a0) + 1) X hw in_X19 tyX19_ok nmX19 hk_20 rfl 8 rfl (by decide) q1459 (fun _ z => z) rfl rfl rfl dX19_goesOn_278 (fun H locs hw => ?_)
                  exact g_vret X hw hr h (Nat.le_refl _) (Nat.le_refl _) dX19_goesOn_281
            · have h := h.2 c_25
              refine lv_aload_n hx hb dX19_goesOn_173 rfl (lv_at hl 2 rfl) ?_
              refine lv_iconst (v := 0) hx hb dX19_goesOn_174 (by decide) ?_
              refine g_putI (v := 0) X hw in_X19 tyX19_ok nmX19 hk_20 rfl 12 rfl (by decide) q1463 (fun _ z => z) rfl rfl rfl dX19_goesOn_175 (fun H locs hw => ?_)
              exact wX19_goesOn_178 X hr  h hw (lv_sub hl [2, 0] rfl)
          · have h := h.2 c_26
            refine lv_aload_n hx hb dX19_goesOn_84 rfl (lv_at hl 2 rfl) ?_
            refine lv_lconst (v := 0) hx hb dX19_goesOn_85 (by decide) ?_
            refine g_putJ (v := 0) X hw in_X19 tyX19_ok nmX19 hk_20 rfl 15 rfl (by decide) q1466 (fun _ z => z) rfl rfl rfl dX19_goesOn_86 (fun H locs hw => ?_)
            exact wX19_goesOn_89 X hr  h hw (lv_sub hl [2, 0] rfl)
        · have h := h.1 c_30
          refine lv_aload_n hx hb dX19_goesOn_69 rfl (lv_at hl 2 rfl) ?_
          refine lv_iconst (v := 1) hx hb dX19_goesOn_70 (by decide) ?_
          obtain ⟨u_27, e_28⟩ : ∃ v : Hp, v = (sFI (sFI (sFI u 1910 a0 (FI u 1908 a0)) 1909 a0 0) 1911 a0 0) := ⟨_, rfl⟩
          have h := h u_27 e_28
          have hw : GW G u_27 s H locs := by rw [e_28]; exact hw
          have hk_29 : kd u_27 a0 = 16 := by rw [e_28]; exact hk_15
          refine g_putI (v := 1) X hw in_X19 tyX19_ok nmX19 hk_29 rfl 9 rfl (by decide) q1460 (fun _ z => z) rfl rfl rfl dX19_goesOn_71 (fun H locs hw => ?_)
          refine lv_goto (tgt := 281) hx hb dX19_goesOn_74 rfl ?_
          exact g_vret X hw hr h (Nat.le_refl _) (Nat.le_refl _) dX19_goesOn_281
      · have h := h.1 c_31
        refine lv_aload_n hx hb dX19_goesOn_22 rfl (lv_at hl 0 rfl) ?_
        refine lv_dup hx hb dX19_goesOn_23 rfl ?_
        refine g_getI X hw in_X19 hk_15 rfl 8 rfl (by decide) q1459 (fun _ z => z) dX19_goesOn_24 ?_
        refine lv_iconst (v := 1) hx hb dX19_goesOn_27 (by decide) ?_
        refine lv_iadd hx hb dX19_goesOn_28 ?_
        refine g_putI (v := (FI u 1908 a0) + 1) X hw in_X19 tyX19_ok nmX19 hk_15 rfl 8 rfl (by decide) q1459 (fun _ z => z) rfl rfl rfl dX19_goesOn_29 (fun H locs hw => ?_)
        refine lv_goto (tgt := 9) hx hb dX19_goesOn_32 rfl ?_
        exact hJ9 _ _ _ _ h hw (lv_sub hl [0] rfl)
  exact key _ _ _ _ _ (Nat.lt_succ_self _) h0 hw hl
set_option maxHeartbeats 4000000 in
theorem mX19_goesOn (l : Launch) (G : GT) (u : Hp) (a0 : Nat) (K : Hp → Prop) (h : pX19_goesOn u a0 K) : Met l yX19_goesOn (ws_ yX19_goesOn cX19_goesOn 3 none) (rmX19_goesOn 0 0) (va_Pc [.ref a0] (GB G u)) (va_Qv K (fun u t => GH G u t.heap) (GA G)) 0 0 (GA G) := by
  refine Met.ofW (cc := cX19_goesOn) (maxL := 3) (ret := none) (by decide) rfl ?_
  intro p e s m args below meth c s₁ B hml hv
  obtain ⟨rfl, hv⟩ := hv
  have X := Mc_of (own := RX19) B hml rfl hv
  have hw : GW G u s s.heap [] := ⟨hv.2.1, va_S.rf⟩
  have hr := B.returns
  obtain ⟨hx, hb, hml, hown, hts, -⟩ := id X
  have hl := lv_entry ([.ref a0]) (n := 3) (Nat.le_of_ble_eq_true rfl)
  rw [lg_entry_eq]
  generalize (lg_sl ([.ref a0]) ++ List.replicate (3 - (lg_sl ([.ref a0])).length) Slot.unset).toArray = ls at hl ⊢
  have hl : lv_has ls 3 [(0, .ref a0)] := hl
  change W p l e (rmX19_goesOn 0 0) s m _ below meth c s.heap [] 0 0 (QV G below K _ s 0 0) (F0 m 0 ls [])
  unfold pX19_goesOn at h
  refine lv_aload_n hx hb dX19_goesOn_0 rfl (lv_at hl 0 rfl) ?_
  have hk_32 : kd u a0 = 16 := h.1
  have h := h.2
  refine g_getI X hw in_X19 hk_32 rfl 9 rfl (by decide) q1460 (fun _ z => z) dX19_goesOn_1 ?_
  refine lv_iconst (v := 5) hx hb dX19_goesOn_4 (by decide) ?_
  refine lv_icmp_ne (tgt := 9) hx hb dX19_goesOn_5 rfl (fun c_33 => ?_) (fun c_33 => ?_)
  · have h := h.2 c_33
    exact wX19_goesOn_9 X hr  h hw (lv_sub hl [0] rfl)
  · have h := h.1 c_33
    exact g_vret X hw hr h (Nat.le_refl _) (Nat.le_refl _) dX19_goesOn_8

/-! FifthCardModel.wordOf(Ljava/lang/String;)J -/
theorem ydX19_wordOf : yX19_wordOf.cls = "FifthCardModel" ∧ yX19_wordOf.cls ≠ "java/lang/invoke/MethodHandle" ∧ yX19_wordOf.cls ≠ "java/lang/invoke/VarHandle" ∧ (parseMethodDescriptor yX19_wordOf.desc).map (fun d => d.parameters.length) = some 1 := by decide +kernel
def rmX19_wordOf (mc ms : Nat) : Room := { frames := 4, cells := mc, slots := ms, locals := 85 }
set_option maxHeartbeats 4000000 in
theorem wX19_wordOf_4 {G : GT} {p : Program} {l : Launch} {e : Env} {s : State} {m : MethodId} {args : Array Value} {below : List Frame} {meth : Method} {c : Code} {H : Heap} {locs : List Loc} {ls : Array Slot} {a0 : Nat} {u : Hp} {y1 : Int64} {x3 : Int32} {K : Int64 → Prop} (X : Mc G p s m args meth c RX19 cX19_wordOf 4) (hr : meth.sig.returnType = (some .long)) (h : jl2 (bX19_wordOf_4 K a0 u) y1 x3) (hw : GW G u s H locs) (hl : lv_has ls 4 [(0, .ref a0), (1, .long y1), (3, .int x3)]) : W p l e (rmX19_wordOf 0 0) s m args below meth c H locs 0 0 (QJ G below (fun r v => v = u ∧ K r) args s 0 0) (F0 m 4 ls []) := by
  obtain ⟨hx, hb, hml, hown, hts, -⟩ := id X
  obtain ⟨I, μ, h0, hs⟩ := h
  have key : ∀ (n : Nat) (y1 : Int64) (x3 : Int32) (H : Heap) (locs : List Loc) (ls : Array Slot) , μ y1 x3 < n → I y1 x3 → GW G u s H locs → lv_has ls 4 [(0, .ref a0), (1, .long y1), (3, .int x3)] → W p l e (rmX19_wordOf 0 0) s m args below meth c H locs 0 0 (QJ G below (fun r v => v = u ∧ K r) args s 0 0) (F0 m 4 ls []) := by
    intro n
    induction n with
    | zero =>
      intro y1 x3 H locs ls hn
      exact absurd hn (Nat.not_lt_zero _)
    | succ n ih =>
      intro y1 x3 H locs ls hn hI hw hl
      have h := hs y1 x3 hI
      unfold bX19_wordOf_4 at h
      have hJ4 : ∀ (y1' : Int64) (x3' : Int32) (H : Heap) (locs : List Loc) (ls : Array Slot) , (I y1' x3' ∧ μ y1' x3' < μ y1 x3) → GW G u s H locs → lv_has ls 4 [(0, .ref a0), (1, .long y1'), (3, .int x3')] → W p l e (rmX19_wordOf 0 0) s m args below meth c H locs 0 0 (QJ G below (fun r v => v = u ∧ K r) args s 0 0) (F0 m 4 ls []) := fun y1' x3' H locs ls h hw hl => ih y1' x3' H locs ls (Nat.lt_of_lt_of_le h.2 (Nat.le_of_lt_succ hn)) h.1 hw hl
      refine lv_iload_n hx hb dX19_wordOf_4 rfl (lv_at hl 2 rfl) ?_
      refine lv_aload_n hx hb dX19_wordOf_5 rfl (lv_at hl 0 rfl) ?_
      have hk_1 : kd u a0 = 21 ∨ kd u a0 = 201 := h.1
      have h := h.2
      refine g_callio hw (g_V X hw (mJ3_length l G _ _ _ h) 0 (lw_V q1700 q1701 q1702 q145 q1703) rfl rfl ydJ3_length ⟨Nat.le_of_ble_eq_true rfl, Nat.le_of_ble_eq_true rfl⟩ (g_recvS X hw hk_1) (As := []) (rest := [.int x3]) rfl hl.1 rfl (Nat.le_of_ble_eq_true rfl) dX19_wordOf_6 ⟨Nat.le_refl _, Nat.le_refl _⟩) (fun r_2 H locs h hw => ?_)
      refine lv_icmp_ge (tgt := 36) hx hb dX19_wordOf_9 rfl (fun c_6 => ?_) (fun c_6 => ?_)
      · have h := h.1 c_6
        refine lv_lload_n hx hb dX19_wordOf_36 rfl (lv_at hl 1 rfl) ?_
        exact g_lret X hw hr ⟨rfl, h⟩ (Nat.le_refl _) (Nat.le_refl _) dX19_wordOf_37
      · have h := h.2 c_6
        refine lv_ldc2 hx hb hown (hts _ q1680) dX19_wordOf_12 ?_
        refine lv_lload_n hx hb dX19_wordOf_15 rfl (lv_at hl 1 rfl) ?_
        refine lv_lmul hx hb dX19_wordOf_16 ?_
        refine lv_aload_n hx hb dX19_wordOf_17 rfl (lv_at hl 0 rfl) ?_
        refine lv_iload_n hx hb dX19_wordOf_18 rfl (lv_at hl 2 rfl) ?_
        refine g_callio hw (g_V X hw (mJ3_charAt l G _ _ _ _ h) 1 (lw_V q1708 q1709 q1710 q145 q1711) rfl rfl ydJ3_charAt ⟨Nat.le_of_ble_eq_true rfl, Nat.le_of_ble_eq_true rfl⟩ (g_recvS X hw hk_1) (As := [.int x3]) (rest := [.long (32 * y1)]) rfl hl.1 rfl (Nat.le_of_ble_eq_true rfl) dX19_wordOf_19 ⟨Nat.le_refl _, Nat.le_refl _⟩) (fun r_3 H locs h hw => ?_)
        refine lv_bipush (v := 97) hx hb dX19_wordOf_22 (by decide) ?_
        refine lv_isub hx hb dX19_wordOf_24 ?_
        refine lv_iconst (v := 1) hx hb dX19_wordOf_25 (by decide) ?_
        refine lv_iadd hx hb dX19_wordOf_26 ?_
        refine lv_i2l hx hb dX19_wordOf_27 rfl ?_
        refine lv_ladd hx hb dX19_wordOf_28 ?_
        refine lv_topl (fun x1_4 e_5 => ?_)
        have h := h x1_4 e_5
        refine lv_lstore_n (lv' := [(1, .long x1_4), (0, .ref a0), (3, .int x3)]) hx hb dX19_wordOf_29 rfl hl (by decide) rfl (fun ls hl => ?_)
        refine lv_iinc (v := x3 + 1) (lv' := [(3, .int (x3 + 1)), (1, .long x1_4), (0, .ref a0)]) hx hb dX19_wordOf_30 hl (k := 2) rfl rfl (by decide) rfl (fun ls hl => ?_)
        refine lv_goto (tgt := 4) hx hb dX19_wordOf_33 rfl ?_
        exact hJ4 _ _ _ _ _ h hw (lv_sub hl [2, 1, 0] rfl)
  exact key _ _ _ _ _ _ (Nat.lt_succ_self _) h0 hw hl
set_option maxHeartbeats 4000000 in
theorem mX19_wordOf (l : Launch) (G : GT) (u : Hp) (a0 : Nat) (K : Int64 → Prop) (h : pX19_wordOf u a0 K) : Met l yX19_wordOf (ws_ yX19_wordOf cX19_wordOf 4 (some .long)) (rmX19_wordOf 0 0) (va_Pc [.ref a0] (GB G u)) (va_Ql (fun r v => v = u ∧ K r) (fun u t => GH G u t.heap) (GA G)) 0 0 (GA G) := by
  refine Met.ofW (cc := cX19_wordOf) (maxL := 4) (ret := (some .long)) (by decide) rfl ?_
  intro p e s m args below meth c s₁ B hml hv
  obtain ⟨rfl, hv⟩ := hv
  have X := Mc_of (own := RX19) B hml rfl hv
  have hw : GW G u s s.heap [] := ⟨hv.2.1, va_S.rf⟩
  have hr := B.returns
  obtain ⟨hx, hb, hml, hown, hts, -⟩ := id X
  have hl := lv_entry ([.ref a0]) (n := 4) (Nat.le_of_ble_eq_true rfl)
  rw [lg_entry_eq]
  generalize (lg_sl ([.ref a0]) ++ List.replicate (4 - (lg_sl ([.ref a0])).length) Slot.unset).toArray = ls at hl ⊢
  have hl : lv_has ls 4 [(0, .ref a0)] := hl
  change W p l e (rmX19_wordOf 0 0) s m _ below meth c s.heap [] 0 0 (QJ G below (fun r v => v = u ∧ K r) _ s 0 0) (F0 m 0 ls [])
  unfold pX19_wordOf at h
  refine lv_lconst (v := 0) hx hb dX19_wordOf_0 (by decide) ?_
  refine lv_lstore_n (lv' := [(1, .long 0), (0, .ref a0)]) hx hb dX19_wordOf_1 rfl hl (by decide) rfl (fun ls hl => ?_)
  refine lv_iconst (v := 0) hx hb dX19_wordOf_2 (by decide) ?_
  refine lv_istore_n (lv' := [(3, .int 0), (1, .long 0), (0, .ref a0)]) hx hb dX19_wordOf_3 rfl hl (by decide) rfl (fun ls hl => ?_)
  exact wX19_wordOf_4 X hr  h hw (lv_sub hl [2, 1, 0] rfl)

/-! FifthCardModel.isWord(Ljava/lang/String;)Z -/
theorem ydX19_isWord : yX19_isWord.cls = "FifthCardModel" ∧ yX19_isWord.cls ≠ "java/lang/invoke/MethodHandle" ∧ yX19_isWord.cls ≠ "java/lang/invoke/VarHandle" ∧ (parseMethodDescriptor yX19_isWord.desc).map (fun d => d.parameters.length) = some 1 := by decide +kernel
def rmX19_isWord (mc ms : Nat) : Room := { frames := 5, cells := mc, slots := ms, locals := 108 }
set_option maxHeartbeats 4000000 in
theorem mX19_isWord (l : Launch) (G : GT) (u : Hp) (a0 : Nat) (a1 : Nat) (K : Int32 → Prop) (h : pX19_isWord u a0 a1 K) : Met l yX19_isWord (ws_ yX19_isWord cX19_isWord 2 (some .boolean)) (rmX19_isWord 0 0) (va_Pc [.ref a0, .ref a1] (GB G u)) (va_Qi (fun r v => v = u ∧ K r) (fun u t => GH G u t.heap) (GA G)) 0 0 (GA G) := by
  refine Met.ofW (cc := cX19_isWord) (maxL := 2) (ret := (some .boolean)) (by decide) rfl ?_
  intro p e s m args below meth c s₁ B hml hv
  obtain ⟨rfl, hv⟩ := hv
  have X := Mc_of (own := RX19) B hml rfl hv
  have hw : GW G u s s.heap [] := ⟨hv.2.1, va_S.rf⟩
  have hr := B.returns
  obtain ⟨hx, hb, hml, hown, hts, -⟩ := id X
  have hl := lv_entry ([.ref a0, .ref a1]) (n := 2) (Nat.le_of_ble_eq_true rfl)
  rw [lg_entry_eq]
  generalize (lg_sl ([.ref a0, .ref a1]) ++ List.replicate (2 - (lg_sl ([.ref a0, .ref a1])).length) Slot.unset).toArray = ls at hl ⊢
  have hl : lv_has ls 2 [(0, .ref a0), (1, .ref a1)] := hl
  change W p l e (rmX19_isWord 0 0) s m _ below meth c s.heap [] 0 0 (QI G below (fun r v => v = u ∧ K r) _ s 0 0) (F0 m 0 ls [])
  unfold pX19_isWord at h
  refine lv_aload_n hx hb dX19_isWord_0 rfl (lv_at hl 0 rfl) ?_
  have hk_1 : kd u a0 = 16 := h.1
  have h := h.2
  refine g_getI X hw in_X19 hk_1 rfl 9 rfl (by decide) q1460 (fun _ z => z) dX19_isWord_1 ?_
  refine lv_iconst (v := 2) hx hb dX19_isWord_4 (by decide) ?_
  refine lv_icmp_ne (tgt := 24) hx hb dX19_isWord_5 rfl (fun c_4 => ?_) (fun c_4 => ?_)
  · have h := h.2 c_4
    refine lv_iconst (v := 0) hx hb dX19_isWord_24 (by decide) ?_
    exact g_zret X hw hr rfl ⟨rfl, h⟩ (Nat.le_refl _) (Nat.le_refl _) dX19_isWord_25
  · have h := h.1 c_4
    refine lv_aload_n hx hb dX19_isWord_8 rfl (lv_at hl 0 rfl) ?_
    refine g_getJ X hw in_X19 hk_1 rfl 15 rfl (by decide) q1466 (fun _ z => z) dX19_isWord_9 ?_
    refine lv_aload_n hx hb dX19_isWord_12 rfl (lv_at hl 1 rfl) ?_
    refine g_calllo hw (g_S X hw (mX19_wordOf l G _ _ _ h) 1 (lw_S q1697 q1698 q143 q1699) rfl rfl ydX19_wordOf ⟨Nat.le_of_ble_eq_true rfl, Nat.le_of_ble_eq_true rfl⟩ (As := [.ref a1]) (rest := [.long (FJ u 1915 a0)]) rfl hl.1 rfl (Nat.le_of_ble_eq_true rfl) dX19_isWord_13 ⟨Nat.le_refl _, Nat.le_refl _⟩) (fun r_2 H locs h hw => ?_)
    refine W.lcmp hx hb dX19_isWord_16 ?_
    refine lv_if_ne (tgt := 24) hx hb dX19_isWord_17 rfl (fun c_3 => ?_) (fun c_3 => ?_)
    · have h := h.2 c_3
      refine lv_iconst (v := 0) hx hb dX19_isWord_24 (by decide) ?_
      exact g_zret X hw hr rfl ⟨rfl, h⟩ (Nat.le_refl _) (Nat.le_refl _) dX19_isWord_25
    · have h := h.1 c_3
      refine lv_iconst (v := 1) hx hb dX19_isWord_20 (by decide) ?_
      refine lv_goto (tgt := 25) hx hb dX19_isWord_21 rfl ?_
      exact g_zret X hw hr rfl ⟨rfl, h⟩ (Nat.le_refl _) (Nat.le_refl _) dX19_isWord_25

/-! FifthCardModel.flaw(I)V -/
theorem ydX19_flaw : yX19_flaw.cls = "FifthCardModel" ∧ yX19_flaw.cls ≠ "java/lang/invoke/MethodHandle" ∧ yX19_flaw.cls ≠ "java/lang/invoke/VarHandle" ∧ (parseMethodDescriptor yX19_flaw.desc).map (fun d => d.parameters.length) = some 1 := by decide +kernel
def rmX19_flaw (mc ms : Nat) : Room := { frames := 0, cells := mc, slots := ms, locals := 0 }
set_option maxHeartbeats 4000000 in
theorem mX19_flaw (l : Launch) (G : GT) (u : Hp) (a0 : Nat) (x1 : Int32) (K : Hp → Prop) (h : pX19_flaw u a0 x1 K) : Met l yX19_flaw (ws_ yX19_flaw cX19_flaw 2 none) (rmX19_flaw 0 0) (va_Pc [.ref a0, .int x1] (GB G u)) (va_Qv K (fun u t => GH G u t.heap) (GA G)) 0 0 (GA G) := by
  refine Met.ofW (cc := cX19_flaw) (maxL := 2) (ret := none) (by decide) rfl ?_
  intro p e s m args below meth c s₁ B hml hv
  obtain ⟨rfl, hv⟩ := hv
  have X := Mc_of (own := RX19) B hml rfl hv
  have hw : GW G u s s.heap [] := ⟨hv.2.1, va_S.rf⟩
  have hr := B.returns
  obtain ⟨hx, hb, hml, hown, hts, -⟩ := id X
  have hl := lv_entry ([.ref a0, .int x1]) (n := 2) (Nat.le_of_ble_eq_true rfl)
  rw [lg_entry_eq]
  generalize (lg_sl ([.ref a0, .int x1]) ++ List.replicate (2 - (lg_sl ([.ref a0, .int x1])).length) Slot.unset).toArray = ls at hl ⊢
  have hl : lv_has ls 2 [(0, .ref a0), (1, .int x1)] := hl
  change W p l e (rmX19_flaw 0 0) s m _ below meth c s.heap [] 0 0 (QV G below K _ s 0 0) (F0 m 0 ls [])
  unfold pX19_flaw at h
  refine lv_aload_n hx hb dX19_flaw_0 rfl (lv_at hl 0 rfl) ?_
  have hk_1 : kd u a0 = 16 := h.1
  have h := h.2
  refine g_getI X hw in_X19 hk_1 rfl 9 rfl (by decide) q1460 (fun _ z => z) dX19_flaw_1 ?_
  refine lv_iconst (v := 5) hx hb dX19_flaw_4 (by decide) ?_
  refine lv_icmp_ne (tgt := 9) hx hb dX19_flaw_5 rfl (fun c_2 => ?_) (fun c_2 => ?_)
  · have h := h.2 c_2
    refine lv_aload_n hx hb dX19_flaw_9 rfl (lv_at hl 0 rfl) ?_
    refine lv_iload_n hx hb dX19_flaw_10 rfl (lv_at hl 1 rfl) ?_
    refine g_putI (v := x1) X hw in_X19 tyX19_ok nmX19 hk_1 rfl 13 rfl (by decide) q1464 (fun _ z => z) rfl rfl rfl dX19_flaw_11 (fun H locs hw => ?_)
    refine lv_aload_n hx hb dX19_flaw_14 rfl (lv_at hl 0 rfl) ?_
    refine lv_aload_n hx hb dX19_flaw_15 rfl (lv_at hl 0 rfl) ?_
    refine g_getI X hw in_X19 hk_1 rfl 10 rfl (by decide) q1461 (fun _ z => z) dX19_flaw_16 ?_
    refine g_putI (v := FI (sFI u 1913 a0 x1) 1910 a0) X hw in_X19 tyX19_ok nmX19 hk_1 rfl 14 rfl (by decide) q1465 (fun _ z => z) rfl rfl rfl dX19_flaw_19 (fun H locs hw => ?_)
    refine lv_aload_n hx hb dX19_flaw_22 rfl (lv_at hl 0 rfl) ?_
    refine lv_iconst (v := 5) hx hb dX19_flaw_23 (by decide) ?_
    refine g_putI (v := 5) X hw in_X19 tyX19_ok nmX19 hk_1 rfl 9 rfl (by decide) q1460 (fun _ z => z) rfl rfl rfl dX19_flaw_24 (fun H locs hw => ?_)
    exact g_vret X hw hr h (Nat.le_refl _) (Nat.le_refl _) dX19_flaw_27
  · have h := h.1 c_2
    exact g_vret X hw hr h (Nat.le_refl _) (Nat.le_refl _) dX19_flaw_8

/-! FifthCardModel.needs(Ljava/lang/String;)V -/
theorem ydX19_needs : yX19_needs.cls = "FifthCardModel" ∧ yX19_needs.cls ≠ "java/lang/invoke/MethodHandle" ∧ yX19_needs.cls ≠ "java/lang/invoke/VarHandle" ∧ (parseMethodDescriptor yX19_needs.desc).map (fun d => d.parameters.length) = some 1 := by decide +kernel
def rmX19_needs (mc ms : Nat) : Room := { frames := 6, cells := mc, slots := ms, locals := 129 }
set_option maxHeartbeats 4000000 in
theorem mX19_needs (l : Launch) (G : GT) (u : Hp) (a0 : Nat) (a1 : Nat) (K : Hp → Prop) (h : pX19_needs u a0 a1 K) : Met l yX19_needs (ws_ yX19_needs cX19_needs 2 none) (rmX19_needs 0 0) (va_Pc [.ref a0, .ref a1] (GB G u)) (va_Qv K (fun u t => GH G u t.heap) (GA G)) 0 0 (GA G) := by
  refine Met.ofW (cc := cX19_needs) (maxL := 2) (ret := none) (by decide) rfl ?_
  intro p e s m args below meth c s₁ B hml hv
  obtain ⟨rfl, hv⟩ := hv
  have X := Mc_of (own := RX19) B hml rfl hv
  have hw : GW G u s s.heap [] := ⟨hv.2.1, va_S.rf⟩
  have hr := B.returns
  obtain ⟨hx, hb, hml, hown, hts, -⟩ := id X
  have hl := lv_entry ([.ref a0, .ref a1]) (n := 2) (Nat.le_of_ble_eq_true rfl)
  rw [lg_entry_eq]
  generalize (lg_sl ([.ref a0, .ref a1]) ++ List.replicate (2 - (lg_sl ([.ref a0, .ref a1])).length) Slot.unset).toArray = ls at hl ⊢
  have hl : lv_has ls 2 [(0, .ref a0), (1, .ref a1)] := hl
  change W p l e (rmX19_needs 0 0) s m _ below meth c s.heap [] 0 0 (QV G below K _ s 0 0) (F0 m 0 ls [])
  unfold pX19_needs at h
  refine lv_aload_n hx hb dX19_needs_0 rfl (lv_at hl 0 rfl) ?_
  refine lv_aload_n hx hb dX19_needs_1 rfl (lv_at hl 1 rfl) ?_
  have hk_1 : kd u a0 = 16 := h.1
  have h := h.2
  refine g_callio hw (g_V X hw (mX19_isWord l G _ _ _ _ h) 1 (lw_V q1693 q1695 qs52 q143 q1696) rfl rfl ydX19_isWord ⟨Nat.le_of_ble_eq_true rfl, Nat.le_of_ble_eq_true rfl⟩ (g_recv X hw (ci := 15) (q := (RX19, TX19, 46)) hk_1 rfl) (As := [.ref a1]) (rest := []) rfl hl.1 rfl (Nat.le_of_ble_eq_true rfl) dX19_needs_2 ⟨Nat.le_refl _, Nat.le_refl _⟩) (fun r_2 H locs h hw => ?_)
  refine lv_if_ne (tgt := 13) hx hb dX19_needs_5 rfl (fun c_7 => ?_) (fun c_7 => ?_)
  · have h := h.2 c_7
    refine lv_aload_n hx hb dX19_needs_13 rfl (lv_at hl 0 rfl) ?_
    refine g_callv hw (g_V X hw (mX19_goesOn l G _ _ _ h) 0 (lw_V q1669 q1671 qs48 q143 q1672) rfl rfl ydX19_goesOn ⟨Nat.le_of_ble_eq_true rfl, Nat.le_of_ble_eq_true rfl⟩ (g_recv X hw (ci := 15) (q := (RX19, TX19, 46)) hk_1 rfl) (As := []) (rest := []) rfl hl.1 rfl (Nat.le_of_ble_eq_true rfl) dX19_needs_14 ⟨Nat.le_refl _, Nat.le_refl _⟩) (fun u_3 H locs h hw => ?_)
    exact g_vret X hw hr h (Nat.le_refl _) (Nat.le_refl _) dX19_needs_17
  · have h := h.1 c_7
    refine lv_aload_n hx hb dX19_needs_8 rfl (lv_at hl 0 rfl) ?_
    refine lv_iconst (v := 1) hx hb dX19_needs_9 (by decide) ?_
    refine g_callv hw (g_V X hw (mX19_flaw l G _ _ _ _ h) 1 (lw_V q1732 q1734 qs54 q143 q1735) rfl rfl ydX19_flaw ⟨Nat.le_of_ble_eq_true rfl, Nat.le_of_ble_eq_true rfl⟩ (g_recv X hw (ci := 15) (q := (RX19, TX19, 46)) hk_1 rfl) (As := [.int 1]) (rest := []) rfl hl.1 rfl (Nat.le_of_ble_eq_true rfl) dX19_needs_10 ⟨Nat.le_refl _, Nat.le_refl _⟩) (fun u_4 H locs h hw => ?_)
    refine lv_aload_n hx hb dX19_needs_13 rfl (lv_at hl 0 rfl) ?_
    have hk_5 : kd u_4 a0 = 16 := h.1
    have h := h.2
    refine g_callv hw (g_V X hw (mX19_goesOn l G _ _ _ h) 0 (lw_V q1669 q1671 qs48 q143 q1672) rfl rfl ydX19_goesOn ⟨Nat.le_of_ble_eq_true rfl, Nat.le_of_ble_eq_true rfl⟩ (g_recv X hw (ci := 15) (q := (RX19, TX19, 46)) hk_5 rfl) (As := []) (rest := []) rfl hl.1 rfl (Nat.le_of_ble_eq_true rfl) dX19_needs_14 ⟨Nat.le_refl _, Nat.le_refl _⟩) (fun u_6 H locs h hw => ?_)
    exact g_vret X hw hr h (Nat.le_refl _) (Nat.le_refl _) dX19_needs_17

/-! FifthCardModel.in(III)Z -/
theorem ydX19_in : yX19_in.cls = "FifthCardModel" ∧ yX19_in.cls ≠ "java/lang/invoke/MethodHandle" ∧ yX19_in.cls ≠ "java/lang/invoke/VarHandle" ∧ (parseMethodDescriptor yX19_in.desc).map (fun d => d.parameters.length) = some 3 := by decide +kernel
def rmX19_in (mc ms : Nat) : Room := { frames := 0, cells := mc, slots := ms, locals := 0 }
set_option maxHeartbeats 4000000 in
theorem mX19_in (l : Launch) (G : GT) (u : Hp) (x0 : Int32) (x1 : Int32) (x2 : Int32) (K : Int32 → Prop) (h : pX19_in x0 x1 x2 K) : Met l yX19_in (ws_ yX19_in cX19_in 3 (some .boolean)) (rmX19_in 0 0) (va_Pc [.int x0, .int x1, .int x2] (GB G u)) (va_Qi (fun r v => v = u ∧ K r) (fun u t => GH G u t.heap) (GA G)) 0 0 (GA G) := by
  refine Met.ofW (cc := cX19_in) (maxL := 3) (ret := (some .boolean)) (by decide) rfl ?_
  intro p e s m args below meth c s₁ B hml hv
  obtain ⟨rfl, hv⟩ := hv
  have X := Mc_of (own := RX19) B hml rfl hv
  have hw : GW G u s s.heap [] := ⟨hv.2.1, va_S.rf⟩
  have hr := B.returns
  obtain ⟨hx, hb, hml, hown, hts, -⟩ := id X
  have hl := lv_entry ([.int x0, .int x1, .int x2]) (n := 3) (Nat.le_of_ble_eq_true rfl)
  rw [lg_entry_eq]
  generalize (lg_sl ([.int x0, .int x1, .int x2]) ++ List.replicate (3 - (lg_sl ([.int x0, .int x1, .int x2])).length) Slot.unset).toArray = ls at hl ⊢
  have hl : lv_has ls 3 [(0, .int x0), (1, .int x1), (2, .int x2)] := hl
  change W p l e (rmX19_in 0 0) s m _ below meth c s.heap [] 0 0 (QI G below (fun r v => v = u ∧ K r) _ s 0 0) (F0 m 0 ls [])
  unfold pX19_in at h
  refine lv_iload_n hx hb dX19_in_0 rfl (lv_at hl 0 rfl) ?_
  refine lv_iload_n hx hb dX19_in_1 rfl (lv_at hl 1 rfl) ?_
  refine lv_icmp_lt (tgt := 14) hx hb dX19_in_2 rfl (fun c_2 => ?_) (fun c_2 => ?_)
  · have h := h.1 c_2
    refine lv_iconst (v := 0) hx hb dX19_in_14 (by decide) ?_
    exact g_zret X hw hr rfl ⟨rfl, h⟩ (Nat.le_refl _) (Nat.le_refl _) dX19_in_15
  · have h := h.2 c_2
    refine lv_iload_n hx hb dX19_in_5 rfl (lv_at hl 0 rfl) ?_
    refine lv_iload_n hx hb dX19_in_6 rfl (lv_at hl 2 rfl) ?_
    refine lv_icmp_gt (tgt := 14) hx hb dX19_in_7 rfl (fun c_1 => ?_) (fun c_1 => ?_)
    · have h := h.1 c_1
      refine lv_iconst (v := 0) hx hb dX19_in_14 (by decide) ?_
      exact g_zret X hw hr rfl ⟨rfl, h⟩ (Nat.le_refl _) (Nat.le_refl _) dX19_in_15
    · have h := h.2 c_1
      refine lv_iconst (v := 1) hx hb dX19_in_10 (by decide) ?_
      refine lv_goto (tgt := 15) hx hb dX19_in_11 rfl ?_
      exact g_zret X hw hr rfl ⟨rfl, h⟩ (Nat.le_refl _) (Nat.le_refl _) dX19_in_15

/-! FifthCardModel.bounded(II)I -/
theorem ydX19_bounded : yX19_bounded.cls = "FifthCardModel" ∧ yX19_bounded.cls ≠ "java/lang/invoke/MethodHandle" ∧ yX19_bounded.cls ≠ "java/lang/invoke/VarHandle" ∧ (parseMethodDescriptor yX19_bounded.desc).map (fun d => d.parameters.length) = some 2 := by decide +kernel
def rmX19_bounded (mc ms : Nat) : Room := { frames := 1, cells := mc, slots := ms, locals := 22 }
set_option maxHeartbeats 4000000 in
theorem mX19_bounded (l : Launch) (G : GT) (u : Hp) (a0 : Nat) (x1 : Int32) (x2 : Int32) (K : Int32 → Hp → Prop) (h : pX19_bounded u a0 x1 x2 K) : Met l yX19_bounded (ws_ yX19_bounded cX19_bounded 3 (some .int)) (rmX19_bounded 0 0) (va_Pc [.ref a0, .int x1, .int x2] (GB G u)) (va_Qi K (fun u t => GH G u t.heap) (GA G)) 0 0 (GA G) := by
  refine Met.ofW (cc := cX19_bounded) (maxL := 3) (ret := (some .int)) (by decide) rfl ?_
  intro p e s m args below meth c s₁ B hml hv
  obtain ⟨rfl, hv⟩ := hv
  have X := Mc_of (own := RX19) B hml rfl hv
  have hw : GW G u s s.heap [] := ⟨hv.2.1, va_S.rf⟩
  have hr := B.returns
  obtain ⟨hx, hb, hml, hown, hts, -⟩ := id X
  have hl := lv_entry ([.ref a0, .int x1, .int x2]) (n := 3) (Nat.le_of_ble_eq_true rfl)
  rw [lg_entry_eq]
  generalize (lg_sl ([.ref a0, .int x1, .int x2]) ++ List.replicate (3 - (lg_sl ([.ref a0, .int x1, .int x2])).length) Slot.unset).toArray = ls at hl ⊢
  have hl : lv_has ls 3 [(0, .ref a0), (1, .int x1), (2, .int x2)] := hl
  change W p l e (rmX19_bounded 0 0) s m _ below meth c s.heap [] 0 0 (QI G below K _ s 0 0) (F0 m 0 ls [])
  unfold pX19_bounded at h
  refine lv_aload_n hx hb dX19_bounded_0 rfl (lv_at hl 0 rfl) ?_
  have hk_1 : kd u a0 = 16 := h.1
  have h := h.2
  refine g_getI X hw in_X19 hk_1 rfl 9 rfl (by decide) q1460 (fun _ z => z) dX19_bounded_1 ?_
  refine lv_iconst (v := 3) hx hb dX19_bounded_4 (by decide) ?_
  refine lv_icmp_eq (tgt := 16) hx hb dX19_bounded_5 rfl (fun c_11 => ?_) (fun c_11 => ?_)
  · have h := h.1 c_11
    refine lv_aload_n hx hb dX19_bounded_16 rfl (lv_at hl 0 rfl) ?_
    refine g_getI X hw in_X19 hk_1 rfl 12 rfl (by decide) q1463 (fun _ z => z) dX19_bounded_17 ?_
    refine lv_iload_n hx hb dX19_bounded_20 rfl (lv_at hl 1 rfl) ?_
    refine lv_iload_n hx hb dX19_bounded_21 rfl (lv_at hl 2 rfl) ?_
    refine g_callio hw (g_S X hw (mX19_in l G _ _ _ _ _ h) 3 (lw_S q1749 q1750 q143 q1751) rfl rfl ydX19_in ⟨Nat.le_of_ble_eq_true rfl, Nat.le_of_ble_eq_true rfl⟩ (As := [.int (FI u 1912 a0), .int x1, .int x2]) (rest := []) rfl hl.1 rfl (Nat.le_of_ble_eq_true rfl) dX19_bounded_22 ⟨Nat.le_refl _, Nat.le_refl _⟩) (fun r_2 H locs h hw => ?_)
    refine lv_if_ne (tgt := 33) hx hb dX19_bounded_25 rfl (fun c_7 => ?_) (fun c_7 => ?_)
    · have h := h.2 c_7
      refine lv_aload_n hx hb dX19_bounded_33 rfl (lv_at hl 0 rfl) ?_
      refine g_getI X hw in_X19 hk_1 rfl 9 rfl (by decide) q1460 (fun _ z => z) dX19_bounded_34 ?_
      refine lv_iconst (v := 5) hx hb dX19_bounded_37 (by decide) ?_
      refine lv_icmp_ne (tgt := 45) hx hb dX19_bounded_38 rfl (fun c_3 => ?_) (fun c_3 => ?_)
      · have h := h.2 c_3
        refine lv_aload_n hx hb dX19_bounded_45 rfl (lv_at hl 0 rfl) ?_
        refine g_getI X hw in_X19 hk_1 rfl 12 rfl (by decide) q1463 (fun _ z => z) dX19_bounded_46 ?_
        exact g_iret X hw hr h (Nat.le_refl _) (Nat.le_refl _) dX19_bounded_49
      · have h := h.1 c_3
        refine lv_iload_n hx hb dX19_bounded_41 rfl (lv_at hl 1 rfl) ?_
        refine lv_goto (tgt := 49) hx hb dX19_bounded_42 rfl ?_
        exact g_iret X hw hr h (Nat.le_refl _) (Nat.le_refl _) dX19_bounded_49
    · have h := h.1 c_7
      refine lv_aload_n hx hb dX19_bounded_28 rfl (lv_at hl 0 rfl) ?_
      refine lv_iconst (v := 4) hx hb dX19_bounded_29 (by decide) ?_
      refine g_callv hw (g_V X hw (mX19_flaw l G _ _ _ _ h) 1 (lw_V q1732 q1734 qs54 q143 q1735) rfl rfl ydX19_flaw ⟨Nat.le_of_ble_eq_true rfl, Nat.le_of_ble_eq_true rfl⟩ (g_recv X hw (ci := 15) (q := (RX19, TX19, 46)) hk_1 rfl) (As := [.int 4]) (rest := []) rfl hl.1 rfl (Nat.le_of_ble_eq_true rfl) dX19_bounded_30 ⟨Nat.le_refl _, Nat.le_refl _⟩) (fun u_4 H locs h hw => ?_)
      refine lv_aload_n hx hb dX19_bounded_33 rfl (lv_at hl 0 rfl) ?_
      have hk_5 : kd u_4 a0 = 16 := h.1
      have h := h.2
      refine g_getI X hw in_X19 hk_5 rfl 9 rfl (by decide) q1460 (fun _ z => z) dX19_bounded_34 ?_
      refine lv_iconst (v := 5) hx hb dX19_bounded_37 (by decide) ?_
      refine lv_icmp_ne (tgt := 45) hx hb dX19_bounded_38 rfl (fun c_6 => ?_) (fun c_6 => ?_)
      · have h := h.2 c_6
        refine lv_aload_n hx hb dX19_bounded_45 rfl (lv_at hl 0 rfl) ?_
        refine g_getI X hw in_X19 hk_5 rfl 12 rfl (by decide) q1463 (fun _ z => z) dX19_bounded_46 ?_
        exact g_iret X hw hr h (Nat.le_refl _) (Nat.le_refl _) dX19_bounded_49
      · have h := h.1 c_6
        refine lv_iload_n hx hb dX19_bounded_41 rfl (lv_at hl 1 rfl) ?_
        refine lv_goto (tgt := 49) hx hb dX19_bounded_42 rfl ?_
        exact g_iret X hw hr h (Nat.le_refl _) (Nat.le_refl _) dX19_bounded_49
  · have h := h.2 c_11
    refine lv_aload_n hx hb dX19_bounded_8 rfl (lv_at hl 0 rfl) ?_
    refine lv_iconst (v := 1) hx hb dX19_bounded_9 (by decide) ?_
    refine g_callv hw (g_V X hw (mX19_flaw l G _ _ _ _ h) 1 (lw_V q1732 q1734 qs54 q143 q1735) rfl rfl ydX19_flaw ⟨Nat.le_of_ble_eq_true rfl, Nat.le_of_ble_eq_true rfl⟩ (g_recv X hw (ci := 15) (q := (RX19, TX19, 46)) hk_1 rfl) (As := [.int 1]) (rest := []) rfl hl.1 rfl (Nat.le_of_ble_eq_true rfl) dX19_bounded_10 ⟨Nat.le_refl _, Nat.le_refl _⟩) (fun u_8 H locs h hw => ?_)
    refine lv_goto (tgt := 33) hx hb dX19_bounded_13 rfl ?_
    refine lv_aload_n hx hb dX19_bounded_33 rfl (lv_at hl 0 rfl) ?_
    have hk_9 : kd u_8 a0 = 16 := h.1
    have h := h.2
    refine g_getI X hw in_X19 hk_9 rfl 9 rfl (by decide) q1460 (fun _ z => z) dX19_bounded_34 ?_
    refine lv_iconst (v := 5) hx hb dX19_bounded_37 (by decide) ?_
    refine lv_icmp_ne (tgt := 45) hx hb dX19_bounded_38 rfl (fun c_10 => ?_) (fun c_10 => ?_)
    · have h := h.2 c_10
      refine lv_aload_n hx hb dX19_bounded_45 rfl (lv_at hl 0 rfl) ?_
      refine g_getI X hw in_X19 hk_9 rfl 12 rfl (by decide) q1463 (fun _ z => z) dX19_bounded_46 ?_
      exact g_iret X hw hr h (Nat.le_refl _) (Nat.le_refl _) dX19_bounded_49
    · have h := h.1 c_10
      refine lv_iload_n hx hb dX19_bounded_41 rfl (lv_at hl 1 rfl) ?_
      refine lv_goto (tgt := 49) hx hb dX19_bounded_42 rfl ?_
      exact g_iret X hw hr h (Nat.le_refl _) (Nat.le_refl _) dX19_bounded_49

/-! FifthCardModel.readPart(Ljava/lang/String;II)I -/
theorem ydX19_readPart : yX19_readPart.cls = "FifthCardModel" ∧ yX19_readPart.cls ≠ "java/lang/invoke/MethodHandle" ∧ yX19_readPart.cls ≠ "java/lang/invoke/VarHandle" ∧ (parseMethodDescriptor yX19_readPart.desc).map (fun d => d.parameters.length) = some 3 := by decide +kernel
def rmX19_readPart (mc ms : Nat) : Room := { frames := 7, cells := mc, slots := ms, locals := 150 }
set_option maxHeartbeats 4000000 in
theorem mX19_readPart (l : Launch) (G : GT) (u : Hp) (a0 : Nat) (a1 : Nat) (x2 : Int32) (x3 : Int32) (K : Int32 → Hp → Prop) (h : pX19_readPart u a0 a1 x2 x3 K) : Met l yX19_readPart (ws_ yX19_readPart cX19_readPart 5 (some .int)) (rmX19_readPart 0 0) (va_Pc [.ref a0, .ref a1, .int x2, .int x3] (GB G u)) (va_Qi K (fun u t => GH G u t.heap) (GA G)) 0 0 (GA G) := by
  refine Met.ofW (cc := cX19_readPart) (maxL := 5) (ret := (some .int)) (by decide) rfl ?_
  intro p e s m args below meth c s₁ B hml hv
  obtain ⟨rfl, hv⟩ := hv
  have X := Mc_of (own := RX19) B hml rfl hv
  have hw : GW G u s s.heap [] := ⟨hv.2.1, va_S.rf⟩
  have hr := B.returns
  obtain ⟨hx, hb, hml, hown, hts, -⟩ := id X
  have hl := lv_entry ([.ref a0, .ref a1, .int x2, .int x3]) (n := 5) (Nat.le_of_ble_eq_true rfl)
  rw [lg_entry_eq]
  generalize (lg_sl ([.ref a0, .ref a1, .int x2, .int x3]) ++ List.replicate (5 - (lg_sl ([.ref a0, .ref a1, .int x2, .int x3])).length) Slot.unset).toArray = ls at hl ⊢
  have hl : lv_has ls 5 [(0, .ref a0), (1, .ref a1), (2, .int x2), (3, .int x3)] := hl
  change W p l e (rmX19_readPart 0 0) s m _ below meth c s.heap [] 0 0 (QI G below K _ s 0 0) (F0 m 0 ls [])
  unfold pX19_readPart at h
  refine lv_aload_n hx hb dX19_readPart_0 rfl (lv_at hl 0 rfl) ?_
  refine lv_aload_n hx hb dX19_readPart_1 rfl (lv_at hl 1 rfl) ?_
  have hk_1 : kd u a0 = 16 := h.1
  have h := h.2
  refine g_callv hw (g_V X hw (mX19_needs l G _ _ _ _ h) 1 (lw_V q1741 q1743 qs56 q143 q1744) rfl rfl ydX19_needs ⟨Nat.le_of_ble_eq_true rfl, Nat.le_of_ble_eq_true rfl⟩ (g_recv X hw (ci := 15) (q := (RX19, TX19, 46)) hk_1 rfl) (As := [.ref a1]) (rest := []) rfl hl.1 rfl (Nat.le_of_ble_eq_true rfl) dX19_readPart_2 ⟨Nat.le_refl _, Nat.le_refl _⟩) (fun u_2 H locs h hw => ?_)
  refine lv_aload_n hx hb dX19_readPart_5 rfl (lv_at hl 0 rfl) ?_
  refine lv_iload_n hx hb dX19_readPart_6 rfl (lv_at hl 2 rfl) ?_
  refine lv_iload_n hx hb dX19_readPart_7 rfl (lv_at hl 3 rfl) ?_
  have hk_3 : kd u_2 a0 = 16 := h.1
  have h := h.2
  refine g_calli hw (g_V X hw (mX19_bounded l G _ _ _ _ _ h) 2 (lw_V q1745 q1747 qs57 q143 q1748) rfl rfl ydX19_bounded ⟨Nat.le_of_ble_eq_true rfl, Nat.le_of_ble_eq_true rfl⟩ (g_recv X hw (ci := 15) (q := (RX19, TX19, 46)) hk_3 rfl) (As := [.int x2, .int x3]) (rest := []) rfl hl.1 rfl (Nat.le_of_ble_eq_true rfl) dX19_readPart_8 ⟨Nat.le_refl _, Nat.le_refl _⟩) (fun r_4 u_5 H locs h hw => ?_)
  refine lv_istore (lv' := [(4, .int r_4), (0, .ref a0), (1, .ref a1), (2, .int x2), (3, .int x3)]) hx hb dX19_readPart_11 hl (by decide) rfl (fun ls hl => ?_)
  refine lv_aload_n hx hb dX19_readPart_13 rfl (lv_at hl 1 rfl) ?_
  have hk_6 : kd u_5 a0 = 16 := h.1
  have h := h.2
  refine g_callv hw (g_V X hw (mX19_goesOn l G _ _ _ h) 0 (lw_V q1669 q1671 qs48 q143 q1672) rfl rfl ydX19_goesOn ⟨Nat.le_of_ble_eq_true rfl, Nat.le_of_ble_eq_true rfl⟩ (g_recv X hw (ci := 15) (q := (RX19, TX19, 46)) hk_6 rfl) (As := []) (rest := []) rfl hl.1 rfl (Nat.le_of_ble_eq_true rfl) dX19_readPart_14 ⟨Nat.le_refl _, Nat.le_refl _⟩) (fun u_7 H locs h hw => ?_)
  refine lv_iload hx hb dX19_readPart_17 (lv_at hl 0 rfl) ?_
  exact g_iret X hw hr h (Nat.le_refl _) (Nat.le_refl _) dX19_readPart_19

/-! FifthCardModel.rowsOf(II)J -/
theorem ydX19_rowsOf : yX19_rowsOf.cls = "FifthCardModel" ∧ yX19_rowsOf.cls ≠ "java/lang/invoke/MethodHandle" ∧ yX19_rowsOf.cls ≠ "java/lang/invoke/VarHandle" ∧ (parseMethodDescriptor yX19_rowsOf.desc).map (fun d => d.parameters.length) = some 2 := by decide +kernel
def rmX19_rowsOf (mc ms : Nat) : Room := { frames := 0, cells := mc, slots := ms, locals := 0 }
set_option maxHeartbeats 4000000 in
theorem wX19_rowsOf_5 {G : GT} {p : Program} {l : Launch} {e : Env} {s : State} {m : MethodId} {args : Array Value} {below : List Frame} {meth : Method} {c : Code} {H : Heap} {locs : List Loc} {ls : Array Slot} {u : Hp} {x0 : Int32} {x1 : Int32} {y2 : Int64} {x4 : Int32} {K : Int64 → Prop} (X : Mc G p s m args meth c RX19 cX19_rowsOf 5) (hr : meth.sig.returnType = (some .long)) (h : jl2 (bX19_rowsOf_5 K x0 x1) y2 x4) (hw : GW G u s H locs) (hl : lv_has ls 5 [(0, .int x0), (1, .int x1), (2, .long y2), (4, .int x4)]) : W p l e (rmX19_rowsOf 0 0) s m args below meth c H locs 0 0 (QJ G below (fun r v => v = u ∧ K r) args s 0 0) (F0 m 5 ls []) := by
  obtain ⟨hx, hb, hml, hown, hts, -⟩ := id X
  obtain ⟨I, μ, h0, hs⟩ := h
  have key : ∀ (n : Nat) (y2 : Int64) (x4 : Int32) (H : Heap) (locs : List Loc) (ls : Array Slot) , μ y2 x4 < n → I y2 x4 → GW G u s H locs → lv_has ls 5 [(0, .int x0), (1, .int x1), (2, .long y2), (4, .int x4)] → W p l e (rmX19_rowsOf 0 0) s m args below meth c H locs 0 0 (QJ G below (fun r v => v = u ∧ K r) args s 0 0) (F0 m 5 ls []) := by
    intro n
    induction n with
    | zero =>
      intro y2 x4 H locs ls hn
      exact absurd hn (Nat.not_lt_zero _)
    | succ n ih =>
      intro y2 x4 H locs ls hn hI hw hl
      have h := hs y2 x4 hI
      unfold bX19_rowsOf_5 at h
      have hJ5 : ∀ (y2' : Int64) (x4' : Int32) (H : Heap) (locs : List Loc) (ls : Array Slot) , (I y2' x4' ∧ μ y2' x4' < μ y2 x4) → GW G u s H locs → lv_has ls 5 [(0, .int x0), (1, .int x1), (2, .long y2'), (4, .int x4')] → W p l e (rmX19_rowsOf 0 0) s m args below meth c H locs 0 0 (QJ G below (fun r v => v = u ∧ K r) args s 0 0) (F0 m 5 ls []) := fun y2' x4' H locs ls h hw hl => ih y2' x4' H locs ls (Nat.lt_of_lt_of_le h.2 (Nat.le_of_lt_succ hn)) h.1 hw hl
      refine lv_iload hx hb dX19_rowsOf_5 (lv_at hl 3 rfl) ?_
      refine lv_iload_n hx hb dX19_rowsOf_7 rfl (lv_at hl 1 rfl) ?_
      refine lv_icmp_ge (tgt := 25) hx hb dX19_rowsOf_8 rfl (fun c_1 => ?_) (fun c_1 => ?_)
      · have h := h.1 c_1
        refine lv_lload_n hx hb dX19_rowsOf_25 rfl (lv_at hl 2 rfl) ?_
        exact g_lret X hw hr ⟨rfl, h⟩ (Nat.le_refl _) (Nat.le_refl _) dX19_rowsOf_26
      · have h := h.2 c_1
        refine lv_lload_n hx hb dX19_rowsOf_11 rfl (lv_at hl 2 rfl) ?_
        refine lv_iload_n hx hb dX19_rowsOf_12 rfl (lv_at hl 0 rfl) ?_
        refine lv_iload hx hb dX19_rowsOf_13 (lv_at hl 3 rfl) ?_
        refine lv_isub hx hb dX19_rowsOf_15 ?_
        refine lv_i2l hx hb dX19_rowsOf_16 rfl ?_
        refine lv_lmul hx hb dX19_rowsOf_17 ?_
        refine lv_lstore_n (lv' := [(2, .long (y2 * ((x0 - x4).toInt64))), (0, .int x0), (1, .int x1), (4, .int x4)]) hx hb dX19_rowsOf_18 rfl hl (by decide) rfl (fun ls hl => ?_)
        refine lv_iinc (v := x4 + 1) (lv' := [(4, .int (x4 + 1)), (2, .long (y2 * ((x0 - x4).toInt64))), (0, .int x0), (1, .int x1)]) hx hb dX19_rowsOf_19 hl (k := 3) rfl rfl (by decide) rfl (fun ls hl => ?_)
        refine lv_goto (tgt := 5) hx hb dX19_rowsOf_22 rfl ?_
        exact hJ5 _ _ _ _ _ h hw (lv_sub hl [2, 3, 1, 0] rfl)
  exact key _ _ _ _ _ _ (Nat.lt_succ_self _) h0 hw hl
set_option maxHeartbeats 4000000 in
theorem mX19_rowsOf (l : Launch) (G : GT) (u : Hp) (x0 : Int32) (x1 : Int32) (K : Int64 → Prop) (h : pX19_rowsOf x0 x1 K) : Met l yX19_rowsOf (ws_ yX19_rowsOf cX19_rowsOf 5 (some .long)) (rmX19_rowsOf 0 0) (va_Pc [.int x0, .int x1] (GB G u)) (va_Ql (fun r v => v = u ∧ K r) (fun u t => GH G u t.heap) (GA G)) 0 0 (GA G) := by
  refine Met.ofW (cc := cX19_rowsOf) (maxL := 5) (ret := (some .long)) (by decide) rfl ?_
  intro p e s m args below meth c s₁ B hml hv
  obtain ⟨rfl, hv⟩ := hv
  have X := Mc_of (own := RX19) B hml rfl hv
  have hw : GW G u s s.heap [] := ⟨hv.2.1, va_S.rf⟩
  have hr := B.returns
  obtain ⟨hx, hb, hml, hown, hts, -⟩ := id X
  have hl := lv_entry ([.int x0, .int x1]) (n := 5) (Nat.le_of_ble_eq_true rfl)
  rw [lg_entry_eq]
  generalize (lg_sl ([.int x0, .int x1]) ++ List.replicate (5 - (lg_sl ([.int x0, .int x1])).length) Slot.unset).toArray = ls at hl ⊢
  have hl : lv_has ls 5 [(0, .int x0), (1, .int x1)] := hl
  change W p l e (rmX19_rowsOf 0 0) s m _ below meth c s.heap [] 0 0 (QJ G below (fun r v => v = u ∧ K r) _ s 0 0) (F0 m 0 ls [])
  unfold pX19_rowsOf at h
  refine lv_lconst (v := 1) hx hb dX19_rowsOf_0 (by decide) ?_
  refine lv_lstore_n (lv' := [(2, .long 1), (0, .int x0), (1, .int x1)]) hx hb dX19_rowsOf_1 rfl hl (by decide) rfl (fun ls hl => ?_)
  refine lv_iconst (v := 0) hx hb dX19_rowsOf_2 (by decide) ?_
  refine lv_istore (lv' := [(4, .int 0), (2, .long 1), (0, .int x0), (1, .int x1)]) hx hb dX19_rowsOf_3 hl (by decide) rfl (fun ls hl => ?_)
  exact wX19_rowsOf_5 X hr  h hw (lv_sub hl [2, 3, 1, 0] rfl)

/-! FifthCardModel.setsOf(II)J -/
theorem ydX19_setsOf : yX19_setsOf.cls = "FifthCardModel" ∧ yX19_setsOf.cls ≠ "java/lang/invoke/MethodHandle" ∧ yX19_setsOf.cls ≠ "java/lang/invoke/VarHandle" ∧ (parseMethodDescriptor yX19_setsOf.desc).map (fun d => d.parameters.length) = some 2 := by decide +kernel
def rmX19_setsOf (mc ms : Nat) : Room := { frames := 1, cells := mc, slots := ms, locals := 24 }
set_option maxHeartbeats 4000000 in
theorem mX19_setsOf (l : Launch) (G : GT) (u : Hp) (x0 : Int32) (x1 : Int32) (K : Int64 → Prop) (h : pX19_setsOf x0 x1 K) : Met l yX19_setsOf (ws_ yX19_setsOf cX19_setsOf 2 (some .long)) (rmX19_setsOf 0 0) (va_Pc [.int x0, .int x1] (GB G u)) (va_Ql (fun r v => v = u ∧ K r) (fun u t => GH G u t.heap) (GA G)) 0 0 (GA G) := by
  refine Met.ofW (cc := cX19_setsOf) (maxL := 2) (ret := (some .long)) (by decide) rfl ?_
  intro p e s m args below meth c s₁ B hml hv
  obtain ⟨rfl, hv⟩ := hv
  have X := Mc_of (own := RX19) B hml rfl hv
  have hw : GW G u s s.heap [] := ⟨hv.2.1, va_S.rf⟩
  have hr := B.returns
  obtain ⟨hx, hb, hml, hown, hts, -⟩ := id X
  have hl := lv_entry ([.int x0, .int x1]) (n := 2) (Nat.le_of_ble_eq_true rfl)
  rw [lg_entry_eq]
  generalize (lg_sl ([.int x0, .int x1]) ++ List.replicate (2 - (lg_sl ([.int x0, .int x1])).length) Slot.unset).toArray = ls at hl ⊢
  have hl : lv_has ls 2 [(0, .int x0), (1, .int x1)] := hl
  change W p l e (rmX19_setsOf 0 0) s m _ below meth c s.heap [] 0 0 (QJ G below (fun r v => v = u ∧ K r) _ s 0 0) (F0 m 0 ls [])
  unfold pX19_setsOf at h
  refine lv_iload_n hx hb dX19_setsOf_0 rfl (lv_at hl 0 rfl) ?_
  refine lv_iload_n hx hb dX19_setsOf_1 rfl (lv_at hl 1 rfl) ?_
  refine g_calllo hw (g_S X hw (mX19_rowsOf l G _ _ _ _ h) 2 (lw_S q1767 q1762 q143 q1763) rfl rfl ydX19_rowsOf ⟨Nat.le_of_ble_eq_true rfl, Nat.le_of_ble_eq_true rfl⟩ (As := [.int x0, .int x1]) (rest := []) rfl hl.1 rfl (Nat.le_of_ble_eq_true rfl) dX19_setsOf_2 ⟨Nat.le_refl _, Nat.le_refl _⟩) (fun r_1 H locs h hw => ?_)
  refine lv_iload_n hx hb dX19_setsOf_5 rfl (lv_at hl 1 rfl) ?_
  refine lv_iload_n hx hb dX19_setsOf_6 rfl (lv_at hl 1 rfl) ?_
  refine g_calllo hw (g_S X hw (mX19_rowsOf l G _ _ _ _ h) 2 (lw_S q1767 q1762 q143 q1763) rfl rfl ydX19_rowsOf ⟨Nat.le_of_ble_eq_true rfl, Nat.le_of_ble_eq_true rfl⟩ (As := [.int x1, .int x1]) (rest := [.long r_1]) rfl hl.1 rfl (Nat.le_of_ble_eq_true rfl) dX19_setsOf_7 ⟨Nat.le_refl _, Nat.le_refl _⟩) (fun r_2 H locs h hw => ?_)
  refine lv_ldiv hx hb dX19_setsOf_10 h.1 ?_
  have h := h.2
  exact g_lret X hw hr ⟨rfl, h⟩ (Nat.le_refl _) (Nat.le_refl _) dX19_setsOf_11

/-! FifthCardModel$Trick.handsOf(I)J -/
theorem ydX23_handsOf : yX23_handsOf.cls = "FifthCardModel$Trick" ∧ yX23_handsOf.cls ≠ "java/lang/invoke/MethodHandle" ∧ yX23_handsOf.cls ≠ "java/lang/invoke/VarHandle" ∧ (parseMethodDescriptor yX23_handsOf.desc).map (fun d => d.parameters.length) = some 1 := by decide +kernel
def rmX23_handsOf (mc ms : Nat) : Room := { frames := 2, cells := mc, slots := ms, locals := 45 }
set_option maxHeartbeats 4000000 in
theorem mX23_handsOf (l : Launch) (G : GT) (u : Hp) (a0 : Nat) (x1 : Int32) (K : Int64 → Prop) (h : pX23_handsOf u a0 x1 K) : Met l yX23_handsOf (ws_ yX23_handsOf cX23_handsOf 2 (some .long)) (rmX23_handsOf 0 0) (va_Pc [.ref a0, .int x1] (GB G u)) (va_Ql (fun r v => v = u ∧ K r) (fun u t => GH G u t.heap) (GA G)) 0 0 (GA G) := by
  refine Met.ofW (cc := cX23_handsOf) (maxL := 2) (ret := (some .long)) (by decide) rfl ?_
  intro p e s m args below meth c s₁ B hml hv
  obtain ⟨rfl, hv⟩ := hv
  have X := Mc_of (own := RX23) B hml rfl hv
  have hw : GW G u s s.heap [] := ⟨hv.2.1, va_S.rf⟩
  have hr := B.returns
  obtain ⟨hx, hb, hml, hown, hts, -⟩ := id X
  have hl := lv_entry ([.ref a0, .int x1]) (n := 2) (Nat.le_of_ble_eq_true rfl)
  rw [lg_entry_eq]
  generalize (lg_sl ([.ref a0, .int x1]) ++ List.replicate (2 - (lg_sl ([.ref a0, .int x1])).length) Slot.unset).toArray = ls at hl ⊢
  have hl : lv_has ls 2 [(0, .ref a0), (1, .int x1)] := hl
  change W p l e (rmX23_handsOf 0 0) s m _ below meth c s.heap [] 0 0 (QJ G below (fun r v => v = u ∧ K r) _ s 0 0) (F0 m 0 ls [])
  unfold pX23_handsOf at h
  refine lv_aload_n hx hb dX23_handsOf_0 rfl (lv_at hl 0 rfl) ?_
  have hk_1 : kd u a0 = 20 := h.1
  have h := h.2
  refine g_getI X hw in_X23 hk_1 rfl 7 rfl (by decide) q1622 (fun _ z => z) dX23_handsOf_1 ?_
  refine lv_if_eq (tgt := 18) hx hb dX23_handsOf_4 rfl (fun c_4 => ?_) (fun c_4 => ?_)
  · have h := h.1 c_4
    refine lv_iload_n hx hb dX23_handsOf_18 rfl (lv_at hl 1 rfl) ?_
    refine lv_aload_n hx hb dX23_handsOf_19 rfl (lv_at hl 0 rfl) ?_
    refine g_getI X hw in_X23 hk_1 rfl 2 rfl (by decide) q1615 (fun _ z => z) dX23_handsOf_20 ?_
    refine g_calllo hw (g_SN X hw (mX19_setsOf l G _ _ _ _ h) 2 q1766 q143 (List.mem_of_getElem? (i := 43) rfl) q1765 rfl rfl ydX19_setsOf ⟨Nat.le_of_ble_eq_true rfl, Nat.le_of_ble_eq_true rfl⟩ (As := [.int x1, .int (FI u 2302 a0)]) (rest := []) rfl hl.1 rfl (Nat.le_of_ble_eq_true rfl) dX23_handsOf_23 ⟨Nat.le_refl _, Nat.le_refl _⟩) (fun r_2 H locs h hw => ?_)
    exact g_lret X hw hr ⟨rfl, h⟩ (Nat.le_refl _) (Nat.le_refl _) dX23_handsOf_26
  · have h := h.2 c_4
    refine lv_iload_n hx hb dX23_handsOf_7 rfl (lv_at hl 1 rfl) ?_
    refine lv_aload_n hx hb dX23_handsOf_8 rfl (lv_at hl 0 rfl) ?_
    refine g_getI X hw in_X23 hk_1 rfl 2 rfl (by decide) q1615 (fun _ z => z) dX23_handsOf_9 ?_
    refine g_calllo hw (g_SN X hw (mX19_rowsOf l G _ _ _ _ h) 2 q1763 q143 (List.mem_of_getElem? (i := 42) rfl) q1762 rfl rfl ydX19_rowsOf ⟨Nat.le_of_ble_eq_true rfl, Nat.le_of_ble_eq_true rfl⟩ (As := [.int x1, .int (FI u 2302 a0)]) (rest := []) rfl hl.1 rfl (Nat.le_of_ble_eq_true rfl) dX23_handsOf_12 ⟨Nat.le_refl _, Nat.le_refl _⟩) (fun r_3 H locs h hw => ?_)
    refine lv_goto (tgt := 26) hx hb dX23_handsOf_15 rfl ?_
    exact g_lret X hw hr ⟨rfl, h⟩ (Nat.le_refl _) (Nat.le_refl _) dX23_handsOf_26

/-! FifthCardModel.eatsWord(Ljava/lang/String;)Z -/
theorem ydX19_eatsWord : yX19_eatsWord.cls = "FifthCardModel" ∧ yX19_eatsWord.cls ≠ "java/lang/invoke/MethodHandle" ∧ yX19_eatsWord.cls ≠ "java/lang/invoke/VarHandle" ∧ (parseMethodDescriptor yX19_eatsWord.desc).map (fun d => d.parameters.length) = some 1 := by decide +kernel
def rmX19_eatsWord (mc ms : Nat) : Room := { frames := 6, cells := mc, slots := ms, locals := 129 }
set_option maxHeartbeats 4000000 in
theorem mX19_eatsWord (l : Launch) (G : GT) (u : Hp) (a0 : Nat) (a1 : Nat) (K : Int32 → Hp → Prop) (h : pX19_eatsWord u a0 a1 K) : Met l yX19_eatsWord (ws_ yX19_eatsWord cX19_eatsWord 3 (some .boolean)) (rmX19_eatsWord 0 0) (va_Pc [.ref a0, .ref a1] (GB G u)) (va_Qi K (fun u t => GH G u t.heap) (GA G)) 0 0 (GA G) := by
  refine Met.ofW (cc := cX19_eatsWord) (maxL := 3) (ret := (some .boolean)) (by decide) rfl ?_
  intro p e s m args below meth c s₁ B hml hv
  obtain ⟨rfl, hv⟩ := hv
  have X := Mc_of (own := RX19) B hml rfl hv
  have hw : GW G u s s.heap [] := ⟨hv.2.1, va_S.rf⟩
  have hr := B.returns
  obtain ⟨hx, hb, hml, hown, hts, -⟩ := id X
  have hl := lv_entry ([.ref a0, .ref a1]) (n := 3) (Nat.le_of_ble_eq_true rfl)
  rw [lg_entry_eq]
  generalize (lg_sl ([.ref a0, .ref a1]) ++ List.replicate (3 - (lg_sl ([.ref a0, .ref a1])).length) Slot.unset).toArray = ls at hl ⊢
  have hl : lv_has ls 3 [(0, .ref a0), (1, .ref a1)] := hl
  change W p l e (rmX19_eatsWord 0 0) s m _ below meth c s.heap [] 0 0 (QI G below K _ s 0 0) (F0 m 0 ls [])
  unfold pX19_eatsWord at h
  refine lv_aload_n hx hb dX19_eatsWord_0 rfl (lv_at hl 0 rfl) ?_
  refine lv_aload_n hx hb dX19_eatsWord_1 rfl (lv_at hl 1 rfl) ?_
  have hk_1 : kd u a0 = 16 := h.1
  have h := h.2
  refine g_callio hw (g_V X hw (mX19_isWord l G _ _ _ _ h) 1 (lw_V q1693 q1695 qs52 q143 q1696) rfl rfl ydX19_isWord ⟨Nat.le_of_ble_eq_true rfl, Nat.le_of_ble_eq_true rfl⟩ (g_recv X hw (ci := 15) (q := (RX19, TX19, 46)) hk_1 rfl) (As := [.ref a1]) (rest := []) rfl hl.1 rfl (Nat.le_of_ble_eq_true rfl) dX19_eatsWord_2 ⟨Nat.le_refl _, Nat.le_refl _⟩) (fun r_2 H locs h hw => ?_)
  refine lv_istore_n (lv' := [(2, .int r_2), (0, .ref a0), (1, .ref a1)]) hx hb dX19_eatsWord_5 rfl hl (by decide) rfl (fun ls hl => ?_)
  refine lv_iload_n hx hb dX19_eatsWord_6 rfl (lv_at hl 0 rfl) ?_
  refine lv_if_eq (tgt := 14) hx hb dX19_eatsWord_7 rfl (fun c_4 => ?_) (fun c_4 => ?_)
  · have h := h.1 c_4
    refine lv_iload_n hx hb dX19_eatsWord_14 rfl (lv_at hl 0 rfl) ?_
    exact g_zret X hw hr h.1 h.2 (Nat.le_refl _) (Nat.le_refl _) dX19_eatsWord_15
  · have h := h.2 c_4
    refine lv_aload_n hx hb dX19_eatsWord_10 rfl (lv_at hl 1 rfl) ?_
    refine g_callv hw (g_V X hw (mX19_goesOn l G _ _ _ h) 0 (lw_V q1669 q1671 qs48 q143 q1672) rfl rfl ydX19_goesOn ⟨Nat.le_of_ble_eq_true rfl, Nat.le_of_ble_eq_true rfl⟩ (g_recv X hw (ci := 15) (q := (RX19, TX19, 46)) hk_1 rfl) (As := []) (rest := []) rfl hl.1 rfl (Nat.le_of_ble_eq_true rfl) dX19_eatsWord_11 ⟨Nat.le_refl _, Nat.le_refl _⟩) (fun u_3 H locs h hw => ?_)
    refine lv_iload_n hx hb dX19_eatsWord_14 rfl (lv_at hl 0 rfl) ?_
    exact g_zret X hw hr h.1 h.2 (Nat.le_refl _) (Nat.le_refl _) dX19_eatsWord_15

/-! FifthCardModel.readTrick()V -/
theorem ydX19_readTrick : yX19_readTrick.cls = "FifthCardModel" ∧ yX19_readTrick.cls ≠ "java/lang/invoke/MethodHandle" ∧ yX19_readTrick.cls ≠ "java/lang/invoke/VarHandle" ∧ (parseMethodDescriptor yX19_readTrick.desc).map (fun d => d.parameters.length) = some 0 := by decide +kernel
def rmX19_readTrick (mc ms : Nat) : Room := { frames := 8, cells := mc, slots := ms, locals := 174 }
set_option maxHeartbeats 4000000 in
theorem wX19_readTrick_199 {G : GT} {p : Program} {l : Launch} {e : Env} {s : State} {m : MethodId} {args : Array Value} {below : List Frame} {meth : Method} {c : Code} {H : Heap} {locs : List Loc} {ls : Array Slot} {a0 : Nat} {x1 : Int32} {x2 : Int32} {x3 : Int32} {x4 : Int32} {z0 : Int32} {z1 : Nat} {u : Hp} {K : Hp → Prop} (X : Mc G p s m args meth c RX19 cX19_readTrick 5) (hr : meth.sig.returnType = none) (h : bX19_readTrick_199 K (Glit G) a0 x1 x2 x3 x4 z0 z1 u) (hw : GW G u s H locs) (hl : lv_has ls 5 [(0, .ref a0), (1, .int x1), (2, .int x2), (3, .int x3), (4, .int x4)]) : W p l e (rmX19_readTrick 0 0) s m args below meth c H locs 0 0 (QV G below K args s 0 0) (F0 m 199 ls [.int z0, .ref z1]) := by
  obtain ⟨hx, hb, hml, hown, hts, -⟩ := id X
  unfold bX19_readTrick_199 at h
  have hk_1 : kd u z1 = 20 := h.1
  have h := h.2
  have ho_2 := h.1
  have h := h.2
  refine g_putNI (v := z0) X hw (host := "FifthCardModel") in_X23 tyX23_ok nmX23 hk_1 rfl 8 rfl (by decide) (List.mem_of_getElem? (i := 3) rfl) (fun _ z => z) rfl ho_2.1 ho_2.2 dX19_readTrick_199 (fun H locs hw => ?_)
  refine lv_aload_n hx hb dX19_readTrick_202 rfl (lv_at hl 0 rfl) ?_
  have hk_3 : kd u a0 = 16 := h.1
  have h := h.2
  obtain ⟨b_4, e_5, h⟩ := h
  refine g_getR X hw in_X19 hk_3 rfl 4 rfl (by decide) q1455 (fun _ z => z) e_5 dX19_readTrick_203 ?_
  refine lv_aload_n hx hb dX19_readTrick_206 rfl (lv_at hl 0 rfl) ?_
  refine va_ldcS (tx := "tilts") hx hb hown (X.2.2.2.2.2.2.1.2.2.2.2.2.2.1 39 ("FifthCardModel", 248, "tilts") rfl) dX19_readTrick_207 ?_
  refine g_calli hw (g_V X hw (mX19_eatsWord l G _ _ _ _ h) 1 (lw_V q1770 q1772 qs58 q143 q1773) rfl rfl ydX19_eatsWord ⟨Nat.le_of_ble_eq_true rfl, Nat.le_of_ble_eq_true rfl⟩ (g_recv X hw (ci := 15) (q := (RX19, TX19, 46)) hk_3 rfl) (As := [.ref (Glit G 39)]) (rest := [.ref b_4]) rfl hl.1 rfl (Nat.le_of_ble_eq_true rfl) dX19_readTrick_209 ⟨Nat.le_refl _, Nat.le_refl _⟩) (fun r_6 u_7 H locs h hw => ?_)
  have hk_8 : kd u_7 b_4 = 20 := h.1
  have h := h.2
  have ho_9 := h.1
  have h := h.2
  refine g_putNI (v := r_6) X hw (host := "FifthCardModel") in_X23 tyX23_ok nmX23 hk_8 rfl 9 rfl (by decide) (List.mem_of_getElem? (i := 4) rfl) (fun _ z => z) rfl ho_9.1 ho_9.2 dX19_readTrick_212 (fun H locs hw => ?_)
  refine lv_aload_n hx hb dX19_readTrick_215 rfl (lv_at hl 0 rfl) ?_
  have hk_10 : kd u_7 a0 = 16 := h.1
  have h := h.2
  refine g_getI X hw in_X19 hk_10 rfl 9 rfl (by decide) q1460 (fun _ z => z) dX19_readTrick_216 ?_
  refine lv_iconst (v := 5) hx hb dX19_readTrick_219 (by decide) ?_
  refine lv_icmp_ne (tgt := 224) hx hb dX19_readTrick_220 rfl (fun c_22 => ?_) (fun c_22 => ?_)
  · have h := h.2 c_22
    refine lv_aload_n hx hb dX19_readTrick_224 rfl (lv_at hl 0 rfl) ?_
    obtain ⟨b_11, e_12, h⟩ := h
    refine g_getR X hw in_X19 hk_10 rfl 4 rfl (by decide) q1455 (fun _ z => z) e_12 dX19_readTrick_225 ?_
    refine lv_iload_n hx hb dX19_readTrick_228 rfl (lv_at hl 1 rfl) ?_
    have hk_13 : kd u_7 b_11 = 20 := h.1
    have h := h.2
    refine g_putNI (v := x1) X hw (host := "FifthCardModel") in_X23 tyX23_ok nmX23 hk_13 rfl 0 rfl (by decide) (List.mem_of_getElem? (i := 0) rfl) (fun _ z => z) rfl rfl rfl dX19_readTrick_229 (fun H locs hw => ?_)
    refine lv_aload_n hx hb dX19_readTrick_232 rfl (lv_at hl 0 rfl) ?_
    refine g_getR X hw in_X19 hk_10 rfl 4 rfl (by decide) q1455 (fun _ z => z) e_12 dX19_readTrick_233 ?_
    refine lv_iload_n hx hb dX19_readTrick_236 rfl (lv_at hl 2 rfl) ?_
    refine g_putNI (v := x2) X hw (host := "FifthCardModel") in_X23 tyX23_ok nmX23 hk_13 rfl 1 rfl (by decide) (List.mem_of_getElem? (i := 5) rfl) (fun _ z => z) rfl rfl rfl dX19_readTrick_237 (fun H locs hw => ?_)
    refine lv_aload_n hx hb dX19_readTrick_240 rfl (lv_at hl 0 rfl) ?_
    refine g_getR X hw in_X19 hk_10 rfl 4 rfl (by decide) q1455 (fun _ z => z) e_12 dX19_readTrick_241 ?_
    refine lv_iload hx hb dX19_readTrick_244 (lv_at hl 4 rfl) ?_
    obtain ⟨u_14, e_15⟩ : ∃ v : Hp, v = (sFI (sFI (sFI u_7 2309 b_4 r_6) 2300 b_11 x1) 2301 b_11 x2) := ⟨_, rfl⟩
    have h := h u_14 e_15
    have hw : GW G u_14 s H locs := by rw [e_15]; exact hw
    have hk_16 : kd u_14 b_4 = 20 := by rw [e_15]; exact hk_8
    have hk_17 : kd u_14 a0 = 16 := by rw [e_15]; exact hk_10
    have hk_18 : kd u_14 b_11 = 20 := by rw [e_15]; exact hk_13
    refine g_putNI (v := x4) X hw (host := "FifthCardModel") in_X23 tyX23_ok nmX23 hk_18 rfl 3 rfl (by decide) (List.mem_of_getElem? (i := 6) rfl) (fun _ z => z) rfl rfl rfl dX19_readTrick_246 (fun H locs hw => ?_)
    refine lv_aload_n hx hb dX19_readTrick_249 rfl (lv_at hl 0 rfl) ?_
    obtain ⟨b_19, e_20, h⟩ := h
    refine g_getR X hw in_X19 hk_17 rfl 4 rfl (by decide) q1455 (fun _ z => z) e_20 dX19_readTrick_250 ?_
    refine lv_iload_n hx hb dX19_readTrick_253 rfl (lv_at hl 3 rfl) ?_
    refine lv_iload hx hb dX19_readTrick_254 (lv_at hl 4 rfl) ?_
    refine lv_isub hx hb dX19_readTrick_256 ?_
    have hk_21 : kd u_14 b_19 = 20 := h.1
    have h := h.2
    refine g_putNI (v := x3 - x4) X hw (host := "FifthCardModel") in_X23 tyX23_ok nmX23 hk_21 rfl 4 rfl (by decide) (List.mem_of_getElem? (i := 7) rfl) (fun _ z => z) rfl rfl rfl dX19_readTrick_257 (fun H locs hw => ?_)
    exact g_vret X hw hr h (Nat.le_refl _) (Nat.le_refl _) dX19_readTrick_260
  · have h := h.1 c_22
    exact g_vret X hw hr h (Nat.le_refl _) (Nat.le_refl _) dX19_readTrick_223
set_option maxHeartbeats 4000000 in
theorem wX19_readTrick_167 {G : GT} {p : Program} {l : Launch} {e : Env} {s : State} {m : MethodId} {args : Array Value} {below : List Frame} {meth : Method} {c : Code} {H : Heap} {locs : List Loc} {ls : Array Slot} {a0 : Nat} {x1 : Int32} {x2 : Int32} {x3 : Int32} {x4 : Int32} {u : Hp} {K : Hp → Prop} (X : Mc G p s m args meth c RX19 cX19_readTrick 5) (hr : meth.sig.returnType = none) (h : bX19_readTrick_167 K (Glit G) a0 x1 x2 x3 x4 u) (hw : GW G u s H locs) (hl : lv_has ls 5 [(0, .ref a0), (1, .int x1), (2, .int x2), (3, .int x3), (4, .int x4)]) : W p l e (rmX19_readTrick 0 0) s m args below meth c H locs 0 0 (QV G below K args s 0 0) (F0 m 167 ls []) := by
  obtain ⟨hx, hb, hml, hown, hts, -⟩ := id X
  unfold bX19_readTrick_167 at h
  refine lv_aload_n hx hb dX19_readTrick_167 rfl (lv_at hl 0 rfl) ?_
  have hk_23 : kd u a0 = 16 := h.1
  have h := h.2
  refine g_callv hw (g_V X hw (mX19_goesOn l G _ _ _ h) 0 (lw_V q1669 q1671 qs48 q143 q1672) rfl rfl ydX19_goesOn ⟨Nat.le_of_ble_eq_true rfl, Nat.le_of_ble_eq_true rfl⟩ (g_recv X hw (ci := 15) (q := (RX19, TX19, 46)) hk_23 rfl) (As := []) (rest := []) rfl hl.1 rfl (Nat.le_of_ble_eq_true rfl) dX19_readTrick_168 ⟨Nat.le_refl _, Nat.le_refl _⟩) (fun u_24 H locs h hw => ?_)
  refine lv_aload_n hx hb dX19_readTrick_171 rfl (lv_at hl 0 rfl) ?_
  have hk_25 : kd u_24 a0 = 16 := h.1
  have h := h.2
  obtain ⟨b_26, e_27, h⟩ := h
  refine g_getR X hw in_X19 hk_25 rfl 4 rfl (by decide) q1455 (fun _ z => z) e_27 dX19_readTrick_172 ?_
  refine lv_aload_n hx hb dX19_readTrick_175 rfl (lv_at hl 0 rfl) ?_
  refine g_getR X hw in_X19 hk_25 rfl 4 rfl (by decide) q1455 (fun _ z => z) e_27 dX19_readTrick_176 ?_
  have hk_28 : kd u_24 b_26 = 20 := h.1
  have h := h.2
  refine g_getNI X hw (host := "FifthCardModel") in_X23 hk_28 rfl 7 rfl (by decide) (List.mem_of_getElem? (i := 1) rfl) (fun _ z => z) dX19_readTrick_179 ?_
  refine lv_if_ne (tgt := 198) hx hb dX19_readTrick_182 rfl (fun c_32 => ?_) (fun c_32 => ?_)
  · have h := h.2 c_32
    refine lv_iconst (v := 0) hx hb dX19_readTrick_198 (by decide) ?_
    exact wX19_readTrick_199 X hr  h hw (lv_sub hl [0, 1, 2, 3, 4] rfl)
  · have h := h.1 c_32
    refine lv_aload_n hx hb dX19_readTrick_185 rfl (lv_at hl 0 rfl) ?_
    refine va_ldcS (tx := "held") hx hb hown (X.2.2.2.2.2.2.1.2.2.2.2.2.2.1 38 ("FifthCardModel", 240, "held") rfl) dX19_readTrick_186 ?_
    refine g_calli hw (g_V X hw (mX19_eatsWord l G _ _ _ _ h) 1 (lw_V q1770 q1772 qs58 q143 q1773) rfl rfl ydX19_eatsWord ⟨Nat.le_of_ble_eq_true rfl, Nat.le_of_ble_eq_true rfl⟩ (g_recv X hw (ci := 15) (q := (RX19, TX19, 46)) hk_25 rfl) (As := [.ref (Glit G 38)]) (rest := [.ref b_26]) rfl hl.1 rfl (Nat.le_of_ble_eq_true rfl) dX19_readTrick_188 ⟨Nat.le_refl _, Nat.le_refl _⟩) (fun r_29 u_30 H locs h hw => ?_)
    refine lv_if_eq (tgt := 198) hx hb dX19_readTrick_191 rfl (fun c_31 => ?_) (fun c_31 => ?_)
    · have h := h.1 c_31
      refine lv_iconst (v := 0) hx hb dX19_readTrick_198 (by decide) ?_
      exact wX19_readTrick_199 X hr  h hw (lv_sub hl [0, 1, 2, 3, 4] rfl)
    · have h := h.2 c_31
      refine lv_iconst (v := 1) hx hb dX19_readTrick_194 (by decide) ?_
      refine lv_goto (tgt := 199) hx hb dX19_readTrick_195 rfl ?_
      exact wX19_readTrick_199 X hr  h hw (lv_sub hl [0, 1, 2, 3, 4] rfl)
set_option maxHeartbeats 4000000 in
theorem wX19_readTrick_117 {G : GT} {p : Program} {l : Launch} {e : Env} {s : State} {m : MethodId} {args : Array Value} {below : List Frame} {meth : Method} {c : Code} {H : Heap} {locs : List Loc} {ls : Array Slot} {a0 : Nat} {x1 : Int32} {x2 : Int32} {x3 : Int32} {x4 : Int32} {u : Hp} {K : Hp → Prop} (X : Mc G p s m args meth c RX19 cX19_readTrick 5) (hr : meth.sig.returnType = none) (h : bX19_readTrick_117 K (Glit G) a0 x1 x2 x3 x4 u) (hw : GW G u s H locs) (hl : lv_has ls 5 [(0, .ref a0), (1, .int x1), (2, .int x2), (3, .int x3), (4, .int x4)]) : W p l e (rmX19_readTrick 0 0) s m args below meth c H locs 0 0 (QV G below K args s 0 0) (F0 m 117 ls []) := by
  obtain ⟨hx, hb, hml, hown, hts, -⟩ := id X
  unfold bX19_readTrick_117 at h
  refine lv_aload_n hx hb dX19_readTrick_117 rfl (lv_at hl 0 rfl) ?_
  have hk_33 : kd u a0 = 16 := h.1
  have h := h.2
  obtain ⟨b_34, e_35, h⟩ := h
  refine g_getR X hw in_X19 hk_33 rfl 4 rfl (by decide) q1455 (fun _ z => z) e_35 dX19_readTrick_118 ?_
  refine lv_aload_n hx hb dX19_readTrick_121 rfl (lv_at hl 0 rfl) ?_
  refine va_ldcS (tx := "stranger") hx hb hown (X.2.2.2.2.2.2.1.2.2.2.2.2.2.1 37 ("FifthCardModel", 226, "stranger") rfl) dX19_readTrick_122 ?_
  refine g_callio hw (g_V X hw (mX19_isWord l G _ _ _ _ h) 1 (lw_V q1693 q1695 qs52 q143 q1696) rfl rfl ydX19_isWord ⟨Nat.le_of_ble_eq_true rfl, Nat.le_of_ble_eq_true rfl⟩ (g_recv X hw (ci := 15) (q := (RX19, TX19, 46)) hk_33 rfl) (As := [.ref (Glit G 37)]) (rest := [.ref b_34]) rfl hl.1 rfl (Nat.le_of_ble_eq_true rfl) dX19_readTrick_124 ⟨Nat.le_refl _, Nat.le_refl _⟩) (fun r_36 H locs h hw => ?_)
  have hk_37 : kd u b_34 = 20 := h.1
  have h := h.2
  have ho_38 := h.1
  have h := h.2
  refine g_putNI (v := r_36) X hw (host := "FifthCardModel") in_X23 tyX23_ok nmX23 hk_37 rfl 7 rfl (by decide) (List.mem_of_getElem? (i := 1) rfl) (fun _ z => z) rfl ho_38.1 ho_38.2 dX19_readTrick_127 (fun H locs hw => ?_)
  refine lv_aload_n hx hb dX19_readTrick_130 rfl (lv_at hl 0 rfl) ?_
  refine g_getR X hw in_X19 hk_33 rfl 4 rfl (by decide) q1455 (fun _ z => z) e_35 dX19_readTrick_131 ?_
  refine lv_iload_n hx hb dX19_readTrick_134 rfl (lv_at hl 3 rfl) ?_
  refine g_putNI (v := x3) X hw (host := "FifthCardModel") in_X23 tyX23_ok nmX23 hk_37 rfl 2 rfl (by decide) (List.mem_of_getElem? (i := 2) rfl) (fun _ z => z) rfl rfl rfl dX19_readTrick_135 (fun H locs hw => ?_)
  refine lv_aload_n hx hb dX19_readTrick_138 rfl (lv_at hl 0 rfl) ?_
  refine g_getI X hw in_X19 hk_33 rfl 9 rfl (by decide) q1460 (fun _ z => z) dX19_readTrick_139 ?_
  refine lv_iconst (v := 5) hx hb dX19_readTrick_142 (by decide) ?_
  refine lv_icmp_eq (tgt := 167) hx hb dX19_readTrick_143 rfl (fun c_42 => ?_) (fun c_42 => ?_)
  · have h := h.1 c_42
    exact wX19_readTrick_167 X hr  h hw (lv_sub hl [0, 1, 2, 3, 4] rfl)
  · have h := h.2 c_42
    refine lv_aload_n hx hb dX19_readTrick_146 rfl (lv_at hl 0 rfl) ?_
    refine g_getR X hw in_X19 hk_33 rfl 4 rfl (by decide) q1455 (fun _ z => z) e_35 dX19_readTrick_147 ?_
    refine lv_iload_n hx hb dX19_readTrick_150 rfl (lv_at hl 1 rfl) ?_
    refine g_calllo hw (g_V X hw (mX23_handsOf l G _ _ _ _ h) 1 (lw_V q1757 q1758 q1759 q153 q1760) rfl rfl ydX23_handsOf ⟨Nat.le_of_ble_eq_true rfl, Nat.le_of_ble_eq_true rfl⟩ (g_recv X hw (ci := 19) (q := (RX23, TX23, 15)) hk_37 rfl) (As := [.int x1]) (rest := []) rfl hl.1 rfl (Nat.le_of_ble_eq_true rfl) dX19_readTrick_151 ⟨Nat.le_refl _, Nat.le_refl _⟩) (fun r_39 H locs h hw => ?_)
    refine lv_ldc2 hx hb hown (hts _ q1768) dX19_readTrick_154 ?_
    refine W.lcmp hx hb dX19_readTrick_157 ?_
    refine lv_if_le (tgt := 167) hx hb dX19_readTrick_158 rfl (fun c_41 => ?_) (fun c_41 => ?_)
    · have h := h.1 c_41
      exact wX19_readTrick_167 X hr  h hw (lv_sub hl [0, 1, 2, 3, 4] rfl)
    · have h := h.2 c_41
      refine lv_aload_n hx hb dX19_readTrick_161 rfl (lv_at hl 0 rfl) ?_
      refine lv_bipush (v := 7) hx hb dX19_readTrick_162 (by decide) ?_
      refine g_callv hw (g_V X hw (mX19_flaw l G _ _ _ _ h) 1 (lw_V q1732 q1734 qs54 q143 q1735) rfl rfl ydX19_flaw ⟨Nat.le_of_ble_eq_true rfl, Nat.le_of_ble_eq_true rfl⟩ (g_recv X hw (ci := 15) (q := (RX19, TX19, 46)) hk_33 rfl) (As := [.int 7]) (rest := []) rfl hl.1 rfl (Nat.le_of_ble_eq_true rfl) dX19_readTrick_164 ⟨Nat.le_refl _, Nat.le_refl _⟩) (fun u_40 H locs h hw => ?_)
      exact wX19_readTrick_167 X hr  h hw (lv_sub hl [0, 1, 2, 3, 4] rfl)
set_option maxHeartbeats 4000000 in
theorem wX19_readTrick_89 {G : GT} {p : Program} {l : Launch} {e : Env} {s : State} {m : MethodId} {args : Array Value} {below : List Frame} {meth : Method} {c : Code} {H : Heap} {locs : List Loc} {ls : Array Slot} {a0 : Nat} {x1 : Int32} {x2 : Int32} {x3 : Int32} {z0 : Int32} {z1 : Int32} {z2 : Nat} {z3 : Nat} {u : Hp} {K : Hp → Prop} (X : Mc G p s m args meth c RX19 cX19_readTrick 5) (hr : meth.sig.returnType = none) (h : bX19_readTrick_89 K (Glit G) a0 x1 x2 x3 z0 z1 z2 z3 u) (hw : GW G u s H locs) (hl : lv_has ls 5 [(0, .ref a0), (1, .int x1), (2, .int x2), (3, .int x3)]) : W p l e (rmX19_readTrick 0 0) s m args below meth c H locs 0 0 (QV G below K args s 0 0) (F0 m 89 ls [.int z0, .int z1, .ref z2, .ref z3]) := by
  obtain ⟨hx, hb, hml, hown, hts, -⟩ := id X
  unfold bX19_readTrick_89 at h
  have hk_43 : kd u z3 = 16 := h.1
  have h := h.2
  refine g_calli hw (g_V X hw (mX19_readPart l G _ _ _ _ _ _ h) 3 (lw_V q1737 q1739 qs55 q143 q1740) rfl rfl ydX19_readPart ⟨Nat.le_of_ble_eq_true rfl, Nat.le_of_ble_eq_true rfl⟩ (g_recv X hw (ci := 15) (q := (RX19, TX19, 46)) hk_43 rfl) (As := [.ref z2, .int z1, .int z0]) (rest := []) rfl hl.1 rfl (Nat.le_of_ble_eq_true rfl) dX19_readTrick_89 ⟨Nat.le_refl _, Nat.le_refl _⟩) (fun r_44 u_45 H locs h hw => ?_)
  refine lv_istore (lv' := [(4, .int r_44), (0, .ref a0), (1, .int x1), (2, .int x2), (3, .int x3)]) hx hb dX19_readTrick_92 hl (by decide) rfl (fun ls hl => ?_)
  refine lv_aload_n hx hb dX19_readTrick_94 rfl (lv_at hl 1 rfl) ?_
  refine va_ldcS (tx := "she") hx hb hown (X.2.2.2.2.2.2.1.2.2.2.2.2.2.1 36 ("FifthCardModel", 224, "she") rfl) dX19_readTrick_95 ?_
  have hk_46 : kd u_45 a0 = 16 := h.1
  have h := h.2
  refine g_callio hw (g_V X hw (mX19_isWord l G _ _ _ _ h) 1 (lw_V q1693 q1695 qs52 q143 q1696) rfl rfl ydX19_isWord ⟨Nat.le_of_ble_eq_true rfl, Nat.le_of_ble_eq_true rfl⟩ (g_recv X hw (ci := 15) (q := (RX19, TX19, 46)) hk_46 rfl) (As := [.ref (Glit G 36)]) (rest := []) rfl hl.1 rfl (Nat.le_of_ble_eq_true rfl) dX19_readTrick_97 ⟨Nat.le_refl _, Nat.le_refl _⟩) (fun r_47 H locs h hw => ?_)
  refine lv_if_ne (tgt := 117) hx hb dX19_readTrick_100 rfl (fun c_51 => ?_) (fun c_51 => ?_)
  · have h := h.2 c_51
    exact wX19_readTrick_117 X hr  h hw (lv_sub hl [1, 2, 3, 4, 0] rfl)
  · have h := h.1 c_51
    refine lv_aload_n hx hb dX19_readTrick_103 rfl (lv_at hl 1 rfl) ?_
    refine va_ldcS (tx := "stranger") hx hb hown (X.2.2.2.2.2.2.1.2.2.2.2.2.2.1 37 ("FifthCardModel", 226, "stranger") rfl) dX19_readTrick_104 ?_
    refine g_callio hw (g_V X hw (mX19_isWord l G _ _ _ _ h) 1 (lw_V q1693 q1695 qs52 q143 q1696) rfl rfl ydX19_isWord ⟨Nat.le_of_ble_eq_true rfl, Nat.le_of_ble_eq_true rfl⟩ (g_recv X hw (ci := 15) (q := (RX19, TX19, 46)) hk_46 rfl) (As := [.ref (Glit G 37)]) (rest := []) rfl hl.1 rfl (Nat.le_of_ble_eq_true rfl) dX19_readTrick_106 ⟨Nat.le_refl _, Nat.le_refl _⟩) (fun r_48 H locs h hw => ?_)
    refine lv_if_ne (tgt := 117) hx hb dX19_readTrick_109 rfl (fun c_50 => ?_) (fun c_50 => ?_)
    · have h := h.2 c_50
      exact wX19_readTrick_117 X hr  h hw (lv_sub hl [1, 2, 3, 4, 0] rfl)
    · have h := h.1 c_50
      refine lv_aload_n hx hb dX19_readTrick_112 rfl (lv_at hl 1 rfl) ?_
      refine lv_iconst (v := 1) hx hb dX19_readTrick_113 (by decide) ?_
      refine g_callv hw (g_V X hw (mX19_flaw l G _ _ _ _ h) 1 (lw_V q1732 q1734 qs54 q143 q1735) rfl rfl ydX19_flaw ⟨Nat.le_of_ble_eq_true rfl, Nat.le_of_ble_eq_true rfl⟩ (g_recv X hw (ci := 15) (q := (RX19, TX19, 46)) hk_46 rfl) (As := [.int 1]) (rest := []) rfl hl.1 rfl (Nat.le_of_ble_eq_true rfl) dX19_readTrick_114 ⟨Nat.le_refl _, Nat.le_refl _⟩) (fun u_49 H locs h hw => ?_)
      exact wX19_readTrick_117 X hr  h hw (lv_sub hl [1, 2, 3, 4, 0] rfl)
set_option maxHeartbeats 4000000 in
theorem wX19_readTrick_71 {G : GT} {p : Program} {l : Launch} {e : Env} {s : State} {m : MethodId} {args : Array Value} {below : List Frame} {meth : Method} {c : Code} {H : Heap} {locs : List Loc} {ls : Array Slot} {a0 : Nat} {x1 : Int32} {x2 : Int32} {z0 : Int32} {z1 : Int32} {z2 : Nat} {z3 : Nat} {u : Hp} {K : Hp → Prop} (X : Mc G p s m args meth c RX19 cX19_readTrick 5) (hr : meth.sig.returnType = none) (h : bX19_readTrick_71 K (Glit G) a0 x1 x2 z0 z1 z2 z3 u) (hw : GW G u s H locs) (hl : lv_has ls 5 [(0, .ref a0), (1, .int x1), (2, .int x2)]) : W p l e (rmX19_readTrick 0 0) s m args below meth c H locs 0 0 (QV G below K args s 0 0) (F0 m 71 ls [.int z0, .int z1, .ref z2, .ref z3]) := by
  obtain ⟨hx, hb, hml, hown, hts, -⟩ := id X
  unfold bX19_readTrick_71 at h
  have hk_52 : kd u z3 = 16 := h.1
  have h := h.2
  refine g_calli hw (g_V X hw (mX19_readPart l G _ _ _ _ _ _ h) 3 (lw_V q1737 q1739 qs55 q143 q1740) rfl rfl ydX19_readPart ⟨Nat.le_of_ble_eq_true rfl, Nat.le_of_ble_eq_true rfl⟩ (g_recv X hw (ci := 15) (q := (RX19, TX19, 46)) hk_52 rfl) (As := [.ref z2, .int z1, .int z0]) (rest := []) rfl hl.1 rfl (Nat.le_of_ble_eq_true rfl) dX19_readTrick_71 ⟨Nat.le_refl _, Nat.le_refl _⟩) (fun r_53 u_54 H locs h hw => ?_)
  refine lv_istore_n (lv' := [(3, .int r_53), (0, .ref a0), (1, .int x1), (2, .int x2)]) hx hb dX19_readTrick_74 rfl hl (by decide) rfl (fun ls hl => ?_)
  refine lv_aload_n hx hb dX19_readTrick_75 rfl (lv_at hl 1 rfl) ?_
  refine va_ldcS (tx := "kept") hx hb hown (X.2.2.2.2.2.2.1.2.2.2.2.2.2.1 35 ("FifthCardModel", 222, "kept") rfl) dX19_readTrick_76 ?_
  refine lv_iconst (v := 1) hx hb dX19_readTrick_78 (by decide) ?_
  refine lv_iload_n hx hb dX19_readTrick_79 rfl (lv_at hl 0 rfl) ?_
  refine lv_iconst (v := 2) hx hb dX19_readTrick_80 (by decide) ?_
  refine lv_icmp_le (tgt := 88) hx hb dX19_readTrick_81 rfl (fun c_55 => ?_) (fun c_55 => ?_)
  · have h := h.1 c_55
    refine lv_iconst (v := 1) hx hb dX19_readTrick_88 (by decide) ?_
    exact wX19_readTrick_89 X hr  h hw (lv_sub hl [1, 2, 3, 0] rfl)
  · have h := h.2 c_55
    refine lv_iconst (v := 2) hx hb dX19_readTrick_84 (by decide) ?_
    refine lv_goto (tgt := 89) hx hb dX19_readTrick_85 rfl ?_
    exact wX19_readTrick_89 X hr  h hw (lv_sub hl [1, 2, 3, 0] rfl)
set_option maxHeartbeats 4000000 in
theorem wX19_readTrick_53 {G : GT} {p : Program} {l : Launch} {e : Env} {s : State} {m : MethodId} {args : Array Value} {below : List Frame} {meth : Method} {c : Code} {H : Heap} {locs : List Loc} {ls : Array Slot} {a0 : Nat} {x1 : Int32} {x2 : Int32} {u : Hp} {K : Hp → Prop} (X : Mc G p s m args meth c RX19 cX19_readTrick 5) (hr : meth.sig.returnType = none) (h : bX19_readTrick_53 K (Glit G) a0 x1 x2 u) (hw : GW G u s H locs) (hl : lv_has ls 5 [(0, .ref a0), (1, .int x1), (2, .int x2)]) : W p l e (rmX19_readTrick 0 0) s m args below meth c H locs 0 0 (QV G below K args s 0 0) (F0 m 53 ls []) := by
  obtain ⟨hx, hb, hml, hown, hts, -⟩ := id X
  unfold bX19_readTrick_53 at h
  refine lv_aload_n hx hb dX19_readTrick_53 rfl (lv_at hl 0 rfl) ?_
  have hk_56 : kd u a0 = 16 := h.1
  have h := h.2
  refine g_callv hw (g_V X hw (mX19_goesOn l G _ _ _ h) 0 (lw_V q1669 q1671 qs48 q143 q1672) rfl rfl ydX19_goesOn ⟨Nat.le_of_ble_eq_true rfl, Nat.le_of_ble_eq_true rfl⟩ (g_recv X hw (ci := 15) (q := (RX19, TX19, 46)) hk_56 rfl) (As := []) (rest := []) rfl hl.1 rfl (Nat.le_of_ble_eq_true rfl) dX19_readTrick_54 ⟨Nat.le_refl _, Nat.le_refl _⟩) (fun u_57 H locs h hw => ?_)
  refine lv_aload_n hx hb dX19_readTrick_57 rfl (lv_at hl 0 rfl) ?_
  refine va_ldcS (tx := "hand") hx hb hown (X.2.2.2.2.2.2.1.2.2.2.2.2.2.1 34 ("FifthCardModel", 220, "hand") rfl) dX19_readTrick_58 ?_
  refine lv_iconst (v := 2) hx hb dX19_readTrick_60 (by decide) ?_
  refine lv_iload_n hx hb dX19_readTrick_61 rfl (lv_at hl 1 rfl) ?_
  refine lv_iconst (v := 5) hx hb dX19_readTrick_62 (by decide) ?_
  refine lv_icmp_ge (tgt := 70) hx hb dX19_readTrick_63 rfl (fun c_58 => ?_) (fun c_58 => ?_)
  · have h := h.1 c_58
    refine lv_iconst (v := 5) hx hb dX19_readTrick_70 (by decide) ?_
    exact wX19_readTrick_71 X hr  h hw (lv_sub hl [0, 1, 2] rfl)
  · have h := h.2 c_58
    refine lv_iload_n hx hb dX19_readTrick_66 rfl (lv_at hl 1 rfl) ?_
    refine lv_goto (tgt := 71) hx hb dX19_readTrick_67 rfl ?_
    exact wX19_readTrick_71 X hr  h hw (lv_sub hl [0, 1, 2] rfl)
set_option maxHeartbeats 4000000 in
theorem wX19_readTrick_15 {G : GT} {p : Program} {l : Launch} {e : Env} {s : State} {m : MethodId} {args : Array Value} {below : List Frame} {meth : Method} {c : Code} {H : Heap} {locs : List Loc} {ls : Array Slot} {a0 : Nat} {u : Hp} {K : Hp → Prop} (X : Mc G p s m args meth c RX19 cX19_readTrick 5) (hr : meth.sig.returnType = none) (h : bX19_readTrick_15 K (Glit G) a0 u) (hw : GW G u s H locs) (hl : lv_has ls 5 [(0, .ref a0)]) : W p l e (rmX19_readTrick 0 0) s m args below meth c H locs 0 0 (QV G below K args s 0 0) (F0 m 15 ls []) := by
  obtain ⟨hx, hb, hml, hown, hts, -⟩ := id X
  unfold bX19_readTrick_15 at h
  refine lv_aload_n hx hb dX19_readTrick_15 rfl (lv_at hl 0 rfl) ?_
  have hk_59 : kd u a0 = 16 := h.1
  have h := h.2
  refine g_callv hw (g_V X hw (mX19_goesOn l G _ _ _ h) 0 (lw_V q1669 q1671 qs48 q143 q1672) rfl rfl ydX19_goesOn ⟨Nat.le_of_ble_eq_true rfl, Nat.le_of_ble_eq_true rfl⟩ (g_recv X hw (ci := 15) (q := (RX19, TX19, 46)) hk_59 rfl) (As := []) (rest := []) rfl hl.1 rfl (Nat.le_of_ble_eq_true rfl) dX19_readTrick_16 ⟨Nat.le_refl _, Nat.le_refl _⟩) (fun u_60 H locs h hw => ?_)
  refine lv_aload_n hx hb dX19_readTrick_19 rfl (lv_at hl 0 rfl) ?_
  refine va_ldcS (tx := "cards") hx hb hown (X.2.2.2.2.2.2.1.2.2.2.2.2.2.1 32 ("FifthCardModel", 213, "cards") rfl) dX19_readTrick_20 ?_
  refine lv_iconst (v := 4) hx hb dX19_readTrick_22 (by decide) ?_
  refine lv_bipush (v := 12) hx hb dX19_readTrick_23 (by decide) ?_
  have hk_61 : kd u_60 a0 = 16 := h.1
  have h := h.2
  refine g_calli hw (g_V X hw (mX19_readPart l G _ _ _ _ _ _ h) 3 (lw_V q1737 q1739 qs55 q143 q1740) rfl rfl ydX19_readPart ⟨Nat.le_of_ble_eq_true rfl, Nat.le_of_ble_eq_true rfl⟩ (g_recv X hw (ci := 15) (q := (RX19, TX19, 46)) hk_61 rfl) (As := [.ref (Glit G 32), .int 4, .int 12]) (rest := []) rfl hl.1 rfl (Nat.le_of_ble_eq_true rfl) dX19_readTrick_25 ⟨Nat.le_refl _, Nat.le_refl _⟩) (fun r_62 u_63 H locs h hw => ?_)
  refine lv_istore_n (lv' := [(1, .int r_62), (0, .ref a0)]) hx hb dX19_readTrick_28 rfl hl (by decide) rfl (fun ls hl => ?_)
  refine lv_aload_n hx hb dX19_readTrick_29 rfl (lv_at hl 1 rfl) ?_
  refine va_ldcS (tx := "suits") hx hb hown (X.2.2.2.2.2.2.1.2.2.2.2.2.2.1 33 ("FifthCardModel", 218, "suits") rfl) dX19_readTrick_30 ?_
  have hk_64 : kd u_63 a0 = 16 := h.1
  have h := h.2
  refine g_callv hw (g_V X hw (mX19_needs l G _ _ _ _ h) 1 (lw_V q1741 q1743 qs56 q143 q1744) rfl rfl ydX19_needs ⟨Nat.le_of_ble_eq_true rfl, Nat.le_of_ble_eq_true rfl⟩ (g_recv X hw (ci := 15) (q := (RX19, TX19, 46)) hk_64 rfl) (As := [.ref (Glit G 33)]) (rest := []) rfl hl.1 rfl (Nat.le_of_ble_eq_true rfl) dX19_readTrick_32 ⟨Nat.le_refl _, Nat.le_refl _⟩) (fun u_65 H locs h hw => ?_)
  refine lv_aload_n hx hb dX19_readTrick_35 rfl (lv_at hl 1 rfl) ?_
  refine lv_iconst (v := 1) hx hb dX19_readTrick_36 (by decide) ?_
  refine lv_iconst (v := 4) hx hb dX19_readTrick_37 (by decide) ?_
  have hk_66 : kd u_65 a0 = 16 := h.1
  have h := h.2
  refine g_calli hw (g_V X hw (mX19_bounded l G _ _ _ _ _ h) 2 (lw_V q1745 q1747 qs57 q143 q1748) rfl rfl ydX19_bounded ⟨Nat.le_of_ble_eq_true rfl, Nat.le_of_ble_eq_true rfl⟩ (g_recv X hw (ci := 15) (q := (RX19, TX19, 46)) hk_66 rfl) (As := [.int 1, .int 4]) (rest := []) rfl hl.1 rfl (Nat.le_of_ble_eq_true rfl) dX19_readTrick_38 ⟨Nat.le_refl _, Nat.le_refl _⟩) (fun r_67 u_68 H locs h hw => ?_)
  refine lv_istore_n (lv' := [(2, .int r_67), (1, .int r_62), (0, .ref a0)]) hx hb dX19_readTrick_41 rfl hl (by decide) rfl (fun ls hl => ?_)
  refine lv_iload_n hx hb dX19_readTrick_42 rfl (lv_at hl 1 rfl) ?_
  refine lv_iload_n hx hb dX19_readTrick_43 rfl (lv_at hl 0 rfl) ?_
  refine lv_irem hx hb dX19_readTrick_44 h.1 ?_
  have h := h.2
  refine lv_if_eq (tgt := 53) hx hb dX19_readTrick_45 rfl (fun c_71 => ?_) (fun c_71 => ?_)
  · have h := h.1 c_71
    exact wX19_readTrick_53 X hr  h hw (lv_sub hl [2, 1, 0] rfl)
  · have h := h.2 c_71
    refine lv_aload_n hx hb dX19_readTrick_48 rfl (lv_at hl 2 rfl) ?_
    refine lv_iconst (v := 4) hx hb dX19_readTrick_49 (by decide) ?_
    have hk_69 : kd u_68 a0 = 16 := h.1
    have h := h.2
    refine g_callv hw (g_V X hw (mX19_flaw l G _ _ _ _ h) 1 (lw_V q1732 q1734 qs54 q143 q1735) rfl rfl ydX19_flaw ⟨Nat.le_of_ble_eq_true rfl, Nat.le_of_ble_eq_true rfl⟩ (g_recv X hw (ci := 15) (q := (RX19, TX19, 46)) hk_69 rfl) (As := [.int 4]) (rest := []) rfl hl.1 rfl (Nat.le_of_ble_eq_true rfl) dX19_readTrick_50 ⟨Nat.le_refl _, Nat.le_refl _⟩) (fun u_70 H locs h hw => ?_)
    exact wX19_readTrick_53 X hr  h hw (lv_sub hl [2, 1, 0] rfl)
set_option maxHeartbeats 4000000 in
theorem mX19_readTrick (l : Launch) (G : GT) (u : Hp) (a0 : Nat) (K : Hp → Prop) (h : pX19_readTrick (Glit G) u a0 K) : Met l yX19_readTrick (ws_ yX19_readTrick cX19_readTrick 5 none) (rmX19_readTrick 0 0) (va_Pc [.ref a0] (GB G u)) (va_Qv K (fun u t => GH G u t.heap) (GA G)) 0 0 (GA G) := by
  refine Met.ofW (cc := cX19_readTrick) (maxL := 5) (ret := none) (by decide) rfl ?_
  intro p e s m args below meth c s₁ B hml hv
  obtain ⟨rfl, hv⟩ := hv
  have X := Mc_of (own := RX19) B hml rfl hv
  have hw : GW G u s s.heap [] := ⟨hv.2.1, va_S.rf⟩
  have hr := B.returns
  obtain ⟨hx, hb, hml, hown, hts, -⟩ := id X
  have hl := lv_entry ([.ref a0]) (n := 5) (Nat.le_of_ble_eq_true rfl)
  rw [lg_entry_eq]
  generalize (lg_sl ([.ref a0]) ++ List.replicate (5 - (lg_sl ([.ref a0])).length) Slot.unset).toArray = ls at hl ⊢
  have hl : lv_has ls 5 [(0, .ref a0)] := hl
  change W p l e (rmX19_readTrick 0 0) s m _ below meth c s.heap [] 0 0 (QV G below K _ s 0 0) (F0 m 0 ls [])
  unfold pX19_readTrick at h
  refine lv_aload_n hx hb dX19_readTrick_0 rfl (lv_at hl 0 rfl) ?_
  have hk_72 : kd u a0 = 16 := h.1
  have h := h.2
  obtain ⟨b_73, e_74, h⟩ := h
  refine g_getR X hw in_X19 hk_72 rfl 4 rfl (by decide) q1455 (fun _ z => z) e_74 dX19_readTrick_1 ?_
  have hk_75 : kd u b_73 = 20 := h.1
  have h := h.2
  refine g_getNI X hw (host := "FifthCardModel") in_X23 hk_75 rfl 0 rfl (by decide) (List.mem_of_getElem? (i := 0) rfl) (fun _ z => z) dX19_readTrick_4 ?_
  refine lv_if_le (tgt := 15) hx hb dX19_readTrick_7 rfl (fun c_77 => ?_) (fun c_77 => ?_)
  · have h := h.1 c_77
    exact wX19_readTrick_15 X hr  h hw (lv_sub hl [0] rfl)
  · have h := h.2 c_77
    refine lv_aload_n hx hb dX19_readTrick_10 rfl (lv_at hl 0 rfl) ?_
    refine lv_iconst (v := 3) hx hb dX19_readTrick_11 (by decide) ?_
    refine g_callv hw (g_V X hw (mX19_flaw l G _ _ _ _ h) 1 (lw_V q1732 q1734 qs54 q143 q1735) rfl rfl ydX19_flaw ⟨Nat.le_of_ble_eq_true rfl, Nat.le_of_ble_eq_true rfl⟩ (g_recv X hw (ci := 15) (q := (RX19, TX19, 46)) hk_72 rfl) (As := [.int 3]) (rest := []) rfl hl.1 rfl (Nat.le_of_ble_eq_true rfl) dX19_readTrick_12 ⟨Nat.le_refl _, Nat.le_refl _⟩) (fun u_76 H locs h hw => ?_)
    exact wX19_readTrick_15 X hr  h hw (lv_sub hl [0] rfl)

/-! FifthCardModel.begins(II)V -/
theorem ydX19_begins : yX19_begins.cls = "FifthCardModel" ∧ yX19_begins.cls ≠ "java/lang/invoke/MethodHandle" ∧ yX19_begins.cls ≠ "java/lang/invoke/VarHandle" ∧ (parseMethodDescriptor yX19_begins.desc).map (fun d => d.parameters.length) = some 2 := by decide +kernel
def rmX19_begins (mc ms : Nat) : Room := { frames := 2, cells := mc, slots := ms, locals := 43 }
set_option maxHeartbeats 4000000 in
theorem wX19_begins_10 {G : GT} {p : Program} {l : Launch} {e : Env} {s : State} {m : MethodId} {args : Array Value} {below : List Frame} {meth : Method} {c : Code} {H : Heap} {locs : List Loc} {ls : Array Slot} {a0 : Nat} {u : Hp} {K : Hp → Prop} (X : Mc G p s m args meth c RX19 cX19_begins 3) (hr : meth.sig.returnType = none) (h : bX19_begins_10 K a0 u) (hw : GW G u s H locs) (hl : lv_has ls 3 [(0, .ref a0)]) : W p l e (rmX19_begins 0 0) s m args below meth c H locs 0 0 (QV G below K args s 0 0) (F0 m 10 ls []) := by
  obtain ⟨hx, hb, hml, hown, hts, -⟩ := id X
  unfold bX19_begins_10 at h
  refine lv_aload_n hx hb dX19_begins_10 rfl (lv_at hl 0 rfl) ?_
  have hk_1 : kd u a0 = 16 := h.1
  have h := h.2
  obtain ⟨b_2, e_3, h⟩ := h
  refine g_getR X hw in_X19 hk_1 rfl 4 rfl (by decide) q1455 (fun _ z => z) e_3 dX19_begins_11 ?_
  have hk_4 : kd u b_2 = 20 := h.1
  have h := h.2
  refine g_getNI X hw (host := "FifthCardModel") in_X23 hk_4 rfl 0 rfl (by decide) (List.mem_of_getElem? (i := 0) rfl) (fun _ z => z) dX19_begins_14 ?_
  refine lv_if_ne (tgt := 26) hx hb dX19_begins_17 rfl (fun c_9 => ?_) (fun c_9 => ?_)
  · have h := h.2 c_9
    refine lv_aload_n hx hb dX19_begins_26 rfl (lv_at hl 0 rfl) ?_
    refine g_callv hw (g_V X hw (mX19_goesOn l G _ _ _ h) 0 (lw_V q1669 q1671 qs48 q143 q1672) rfl rfl ydX19_goesOn ⟨Nat.le_of_ble_eq_true rfl, Nat.le_of_ble_eq_true rfl⟩ (g_recv X hw (ci := 15) (q := (RX19, TX19, 46)) hk_1 rfl) (As := []) (rest := []) rfl hl.1 rfl (Nat.le_of_ble_eq_true rfl) dX19_begins_27 ⟨Nat.le_refl _, Nat.le_refl _⟩) (fun u_5 H locs h hw => ?_)
    exact g_vret X hw hr h (Nat.le_refl _) (Nat.le_refl _) dX19_begins_30
  · have h := h.1 c_9
    refine lv_aload_n hx hb dX19_begins_20 rfl (lv_at hl 0 rfl) ?_
    refine lv_bipush (v := 6) hx hb dX19_begins_21 (by decide) ?_
    refine g_callv hw (g_V X hw (mX19_flaw l G _ _ _ _ h) 1 (lw_V q1732 q1734 qs54 q143 q1735) rfl rfl ydX19_flaw ⟨Nat.le_of_ble_eq_true rfl, Nat.le_of_ble_eq_true rfl⟩ (g_recv X hw (ci := 15) (q := (RX19, TX19, 46)) hk_1 rfl) (As := [.int 6]) (rest := []) rfl hl.1 rfl (Nat.le_of_ble_eq_true rfl) dX19_begins_23 ⟨Nat.le_refl _, Nat.le_refl _⟩) (fun u_6 H locs h hw => ?_)
    refine lv_aload_n hx hb dX19_begins_26 rfl (lv_at hl 0 rfl) ?_
    have hk_7 : kd u_6 a0 = 16 := h.1
    have h := h.2
    refine g_callv hw (g_V X hw (mX19_goesOn l G _ _ _ h) 0 (lw_V q1669 q1671 qs48 q143 q1672) rfl rfl ydX19_goesOn ⟨Nat.le_of_ble_eq_true rfl, Nat.le_of_ble_eq_true rfl⟩ (g_recv X hw (ci := 15) (q := (RX19, TX19, 46)) hk_7 rfl) (As := []) (rest := []) rfl hl.1 rfl (Nat.le_of_ble_eq_true rfl) dX19_begins_27 ⟨Nat.le_refl _, Nat.le_refl _⟩) (fun u_8 H locs h hw => ?_)
    exact g_vret X hw hr h (Nat.le_refl _) (Nat.le_refl _) dX19_begins_30
set_option maxHeartbeats 4000000 in
theorem mX19_begins (l : Launch) (G : GT) (u : Hp) (a0 : Nat) (x1 : Int32) (x2 : Int32) (K : Hp → Prop) (h : pX19_begins u a0 x1 x2 K) : Met l yX19_begins (ws_ yX19_begins cX19_begins 3 none) (rmX19_begins 0 0) (va_Pc [.ref a0, .int x1, .int x2] (GB G u)) (va_Qv K (fun u t => GH G u t.heap) (GA G)) 0 0 (GA G) := by
  refine Met.ofW (cc := cX19_begins) (maxL := 3) (ret := none) (by decide) rfl ?_
  intro p e s m args below meth c s₁ B hml hv
  obtain ⟨rfl, hv⟩ := hv
  have X := Mc_of (own := RX19) B hml rfl hv
  have hw : GW G u s s.heap [] := ⟨hv.2.1, va_S.rf⟩
  have hr := B.returns
  obtain ⟨hx, hb, hml, hown, hts, -⟩ := id X
  have hl := lv_entry ([.ref a0, .int x1, .int x2]) (n := 3) (Nat.le_of_ble_eq_true rfl)
  rw [lg_entry_eq]
  generalize (lg_sl ([.ref a0, .int x1, .int x2]) ++ List.replicate (3 - (lg_sl ([.ref a0, .int x1, .int x2])).length) Slot.unset).toArray = ls at hl ⊢
  have hl : lv_has ls 3 [(0, .ref a0), (1, .int x1), (2, .int x2)] := hl
  change W p l e (rmX19_begins 0 0) s m _ below meth c s.heap [] 0 0 (QV G below K _ s 0 0) (F0 m 0 ls [])
  unfold pX19_begins at h
  refine lv_iload_n hx hb dX19_begins_0 rfl (lv_at hl 1 rfl) ?_
  refine lv_iload_n hx hb dX19_begins_1 rfl (lv_at hl 2 rfl) ?_
  refine lv_icmp_ne (tgt := 10) hx hb dX19_begins_2 rfl (fun c_12 => ?_) (fun c_12 => ?_)
  · have h := h.2 c_12
    exact wX19_begins_10 X hr  h hw (lv_sub hl [0] rfl)
  · have h := h.1 c_12
    refine lv_aload_n hx hb dX19_begins_5 rfl (lv_at hl 0 rfl) ?_
    refine lv_iconst (v := 5) hx hb dX19_begins_6 (by decide) ?_
    have hk_10 : kd u a0 = 16 := h.1
    have h := h.2
    refine g_callv hw (g_V X hw (mX19_flaw l G _ _ _ _ h) 1 (lw_V q1732 q1734 qs54 q143 q1735) rfl rfl ydX19_flaw ⟨Nat.le_of_ble_eq_true rfl, Nat.le_of_ble_eq_true rfl⟩ (g_recv X hw (ci := 15) (q := (RX19, TX19, 46)) hk_10 rfl) (As := [.int 5]) (rest := []) rfl hl.1 rfl (Nat.le_of_ble_eq_true rfl) dX19_begins_7 ⟨Nat.le_refl _, Nat.le_refl _⟩) (fun u_11 H locs h hw => ?_)
    exact wX19_begins_10 X hr  h hw (lv_sub hl [0] rfl)

/-! FifthCardModel.isName()Z -/
theorem ydX19_isName : yX19_isName.cls = "FifthCardModel" ∧ yX19_isName.cls ≠ "java/lang/invoke/MethodHandle" ∧ yX19_isName.cls ≠ "java/lang/invoke/VarHandle" ∧ (parseMethodDescriptor yX19_isName.desc).map (fun d => d.parameters.length) = some 0 := by decide +kernel
def rmX19_isName (mc ms : Nat) : Room := { frames := 6, cells := mc, slots := ms, locals := 129 }
set_option maxHeartbeats 4000000 in
theorem mX19_isName (l : Launch) (G : GT) (u : Hp) (a0 : Nat) (K : Int32 → Prop) (h : pX19_isName (Glit G) u a0 K) : Met l yX19_isName (ws_ yX19_isName cX19_isName 1 (some .boolean)) (rmX19_isName 0 0) (va_Pc [.ref a0] (GB G u)) (va_Qi (fun r v => v = u ∧ K r) (fun u t => GH G u t.heap) (GA G)) 0 0 (GA G) := by
  refine Met.ofW (cc := cX19_isName) (maxL := 1) (ret := (some .boolean)) (by decide) rfl ?_
  intro p e s m args below meth c s₁ B hml hv
  obtain ⟨rfl, hv⟩ := hv
  have X := Mc_of (own := RX19) B hml rfl hv
  have hw : GW G u s s.heap [] := ⟨hv.2.1, va_S.rf⟩
  have hr := B.returns
  obtain ⟨hx, hb, hml, hown, hts, -⟩ := id X
  have hl := lv_entry ([.ref a0]) (n := 1) (Nat.le_of_ble_eq_true rfl)
  rw [lg_entry_eq]
  generalize (lg_sl ([.ref a0]) ++ List.replicate (1 - (lg_sl ([.ref a0])).length) Slot.unset).toArray = ls at hl ⊢
  have hl : lv_has ls 1 [(0, .ref a0)] := hl
  change W p l e (rmX19_isName 0 0) s m _ below meth c s.heap [] 0 0 (QI G below (fun r v => v = u ∧ K r) _ s 0 0) (F0 m 0 ls [])
  unfold pX19_isName at h
  refine lv_aload_n hx hb dX19_isName_0 rfl (lv_at hl 0 rfl) ?_
  have hk_1 : kd u a0 = 16 := h.1
  have h := h.2
  refine g_getI X hw in_X19 hk_1 rfl 9 rfl (by decide) q1460 (fun _ z => z) dX19_isName_1 ?_
  refine lv_iconst (v := 2) hx hb dX19_isName_4 (by decide) ?_
  refine lv_icmp_ne (tgt := 57) hx hb dX19_isName_5 rfl (fun c_12 => ?_) (fun c_12 => ?_)
  · have h := h.2 c_12
    refine lv_iconst (v := 0) hx hb dX19_isName_57 (by decide) ?_
    exact g_zret X hw hr rfl ⟨rfl, h⟩ (Nat.le_refl _) (Nat.le_refl _) dX19_isName_58
  · have h := h.1 c_12
    refine lv_aload_n hx hb dX19_isName_8 rfl (lv_at hl 0 rfl) ?_
    refine va_ldcS (tx := "trick") hx hb hown (X.2.2.2.2.2.2.1.2.2.2.2.2.2.1 27 ("FifthCardModel", 180, "trick") rfl) dX19_isName_9 ?_
    refine g_callio hw (g_V X hw (mX19_isWord l G _ _ _ _ h) 1 (lw_V q1693 q1695 qs52 q143 q1696) rfl rfl ydX19_isWord ⟨Nat.le_of_ble_eq_true rfl, Nat.le_of_ble_eq_true rfl⟩ (g_recv X hw (ci := 15) (q := (RX19, TX19, 46)) hk_1 rfl) (As := [.ref (Glit G 27)]) (rest := []) rfl hl.1 rfl (Nat.le_of_ble_eq_true rfl) dX19_isName_11 ⟨Nat.le_refl _, Nat.le_refl _⟩) (fun r_2 H locs h hw => ?_)
    refine lv_if_ne (tgt := 57) hx hb dX19_isName_14 rfl (fun c_11 => ?_) (fun c_11 => ?_)
    · have h := h.2 c_11
      refine lv_iconst (v := 0) hx hb dX19_isName_57 (by decide) ?_
      exact g_zret X hw hr rfl ⟨rfl, h⟩ (Nat.le_refl _) (Nat.le_refl _) dX19_isName_58
    · have h := h.1 c_11
      refine lv_aload_n hx hb dX19_isName_17 rfl (lv_at hl 0 rfl) ?_
      refine va_ldcS (tx := "rule") hx hb hown (X.2.2.2.2.2.2.1.2.2.2.2.2.2.1 28 ("FifthCardModel", 182, "rule") rfl) dX19_isName_18 ?_
      refine g_callio hw (g_V X hw (mX19_isWord l G _ _ _ _ h) 1 (lw_V q1693 q1695 qs52 q143 q1696) rfl rfl ydX19_isWord ⟨Nat.le_of_ble_eq_true rfl, Nat.le_of_ble_eq_true rfl⟩ (g_recv X hw (ci := 15) (q := (RX19, TX19, 46)) hk_1 rfl) (As := [.ref (Glit G 28)]) (rest := []) rfl hl.1 rfl (Nat.le_of_ble_eq_true rfl) dX19_isName_20 ⟨Nat.le_refl _, Nat.le_refl _⟩) (fun r_3 H locs h hw => ?_)
      refine lv_if_ne (tgt := 57) hx hb dX19_isName_23 rfl (fun c_10 => ?_) (fun c_10 => ?_)
      · have h := h.2 c_10
        refine lv_iconst (v := 0) hx hb dX19_isName_57 (by decide) ?_
        exact g_zret X hw hr rfl ⟨rfl, h⟩ (Nat.le_refl _) (Nat.le_refl _) dX19_isName_58
      · have h := h.1 c_10
        refine lv_aload_n hx hb dX19_isName_26 rfl (lv_at hl 0 rfl) ?_
        refine va_ldcS (tx := "evening") hx hb hown (X.2.2.2.2.2.2.1.2.2.2.2.2.2.1 29 ("FifthCardModel", 184, "evening") rfl) dX19_isName_27 ?_
        refine g_callio hw (g_V X hw (mX19_isWord l G _ _ _ _ h) 1 (lw_V q1693 q1695 qs52 q143 q1696) rfl rfl ydX19_isWord ⟨Nat.le_of_ble_eq_true rfl, Nat.le_of_ble_eq_true rfl⟩ (g_recv X hw (ci := 15) (q := (RX19, TX19, 46)) hk_1 rfl) (As := [.ref (Glit G 29)]) (rest := []) rfl hl.1 rfl (Nat.le_of_ble_eq_true rfl) dX19_isName_29 ⟨Nat.le_refl _, Nat.le_refl _⟩) (fun r_4 H locs h hw => ?_)
        refine lv_if_ne (tgt := 57) hx hb dX19_isName_32 rfl (fun c_9 => ?_) (fun c_9 => ?_)
        · have h := h.2 c_9
          refine lv_iconst (v := 0) hx hb dX19_isName_57 (by decide) ?_
          exact g_zret X hw hr rfl ⟨rfl, h⟩ (Nat.le_refl _) (Nat.le_refl _) dX19_isName_58
        · have h := h.1 c_9
          refine lv_aload_n hx hb dX19_isName_35 rfl (lv_at hl 0 rfl) ?_
          refine va_ldcS (tx := "shows") hx hb hown (X.2.2.2.2.2.2.1.2.2.2.2.2.2.1 30 ("FifthCardModel", 186, "shows") rfl) dX19_isName_36 ?_
          refine g_callio hw (g_V X hw (mX19_isWord l G _ _ _ _ h) 1 (lw_V q1693 q1695 qs52 q143 q1696) rfl rfl ydX19_isWord ⟨Nat.le_of_ble_eq_true rfl, Nat.le_of_ble_eq_true rfl⟩ (g_recv X hw (ci := 15) (q := (RX19, TX19, 46)) hk_1 rfl) (As := [.ref (Glit G 30)]) (rest := []) rfl hl.1 rfl (Nat.le_of_ble_eq_true rfl) dX19_isName_38 ⟨Nat.le_refl _, Nat.le_refl _⟩) (fun r_5 H locs h hw => ?_)
          refine lv_if_ne (tgt := 57) hx hb dX19_isName_41 rfl (fun c_8 => ?_) (fun c_8 => ?_)
          · have h := h.2 c_8
            refine lv_iconst (v := 0) hx hb dX19_isName_57 (by decide) ?_
            exact g_zret X hw hr rfl ⟨rfl, h⟩ (Nat.le_refl _) (Nat.le_refl _) dX19_isName_58
          · have h := h.1 c_8
            refine lv_aload_n hx hb dX19_isName_44 rfl (lv_at hl 0 rfl) ?_
            refine va_ldcS (tx := "tilted") hx hb hown (X.2.2.2.2.2.2.1.2.2.2.2.2.2.1 31 ("FifthCardModel", 188, "tilted") rfl) dX19_isName_45 ?_
            refine g_callio hw (g_V X hw (mX19_isWord l G _ _ _ _ h) 1 (lw_V q1693 q1695 qs52 q143 q1696) rfl rfl ydX19_isWord ⟨Nat.le_of_ble_eq_true rfl, Nat.le_of_ble_eq_true rfl⟩ (g_recv X hw (ci := 15) (q := (RX19, TX19, 46)) hk_1 rfl) (As := [.ref (Glit G 31)]) (rest := []) rfl hl.1 rfl (Nat.le_of_ble_eq_true rfl) dX19_isName_47 ⟨Nat.le_refl _, Nat.le_refl _⟩) (fun r_6 H locs h hw => ?_)
            refine lv_if_ne (tgt := 57) hx hb dX19_isName_50 rfl (fun c_7 => ?_) (fun c_7 => ?_)
            · have h := h.2 c_7
              refine lv_iconst (v := 0) hx hb dX19_isName_57 (by decide) ?_
              exact g_zret X hw hr rfl ⟨rfl, h⟩ (Nat.le_refl _) (Nat.le_refl _) dX19_isName_58
            · have h := h.1 c_7
              refine lv_iconst (v := 1) hx hb dX19_isName_53 (by decide) ?_
              refine lv_goto (tgt := 58) hx hb dX19_isName_54 rfl ?_
              exact g_zret X hw hr rfl ⟨rfl, h⟩ (Nat.le_refl _) (Nat.le_refl _) dX19_isName_58

/-! FifthCardModel.readWords()I -/
theorem ydX19_readWords : yX19_readWords.cls = "FifthCardModel" ∧ yX19_readWords.cls ≠ "java/lang/invoke/MethodHandle" ∧ yX19_readWords.cls ≠ "java/lang/invoke/VarHandle" ∧ (parseMethodDescriptor yX19_readWords.desc).map (fun d => d.parameters.length) = some 0 := by decide +kernel
def rmX19_readWords (mc ms : Nat) : Room := { frames := 7, cells := mc, slots := ms, locals := 151 }
set_option maxHeartbeats 4000000 in
theorem wX19_readWords_146 {G : GT} {p : Program} {l : Launch} {e : Env} {s : State} {m : MethodId} {args : Array Value} {below : List Frame} {meth : Method} {c : Code} {H : Heap} {locs : List Loc} {ls : Array Slot} {a0 : Nat} {x1 : Int32} {z0 : Int32} {u : Hp} {K : Int32 → Hp → Prop} (X : Mc G p s m args meth c RX19 cX19_readWords 3) (hr : meth.sig.returnType = (some .int)) (h : bX19_readWords_146 K (Glit G) a0 x1 z0 u) (hw : GW G u s H locs) (hl : lv_has ls 3 [(0, .ref a0), (1, .int x1)]) : W p l e (rmX19_readWords 0 0) s m args below meth c H locs 0 0 (QI G below K args s 0 0) (F0 m 146 ls [.int z0]) := by
  obtain ⟨hx, hb, hml, hown, hts, -⟩ := id X
  unfold bX19_readWords_146 at h
  refine lv_istore_n (lv' := [(2, .int z0), (0, .ref a0), (1, .int x1)]) hx hb dX19_readWords_146 rfl hl (by decide) rfl (fun ls hl => ?_)
  refine lv_iload_n hx hb dX19_readWords_147 rfl (lv_at hl 0 rfl) ?_
  refine lv_iconst (v := (-1)) hx hb dX19_readWords_148 (by decide) ?_
  refine lv_icmp_ne (tgt := 157) hx hb dX19_readWords_149 rfl (fun c_3 => ?_) (fun c_3 => ?_)
  · have h := h.2 c_3
    refine lv_iconst (v := 5) hx hb dX19_readWords_157 (by decide) ?_
    refine lv_iload_n hx hb dX19_readWords_158 rfl (lv_at hl 2 rfl) ?_
    refine lv_imul hx hb dX19_readWords_159 ?_
    refine lv_iload_n hx hb dX19_readWords_160 rfl (lv_at hl 0 rfl) ?_
    refine lv_iadd hx hb dX19_readWords_161 ?_
    exact g_iret X hw hr h (Nat.le_refl _) (Nat.le_refl _) dX19_readWords_162
  · have h := h.1 c_3
    refine lv_aload_n hx hb dX19_readWords_152 rfl (lv_at hl 1 rfl) ?_
    refine lv_iconst (v := 1) hx hb dX19_readWords_153 (by decide) ?_
    have hk_1 : kd u a0 = 16 := h.1
    have h := h.2
    refine g_callv hw (g_V X hw (mX19_flaw l G _ _ _ _ h) 1 (lw_V q1732 q1734 qs54 q143 q1735) rfl rfl ydX19_flaw ⟨Nat.le_of_ble_eq_true rfl, Nat.le_of_ble_eq_true rfl⟩ (g_recv X hw (ci := 15) (q := (RX19, TX19, 46)) hk_1 rfl) (As := [.int 1]) (rest := []) rfl hl.1 rfl (Nat.le_of_ble_eq_true rfl) dX19_readWords_154 ⟨Nat.le_refl _, Nat.le_refl _⟩) (fun u_2 H locs h hw => ?_)
    refine lv_iconst (v := 5) hx hb dX19_readWords_157 (by decide) ?_
    refine lv_iload_n hx hb dX19_readWords_158 rfl (lv_at hl 2 rfl) ?_
    refine lv_imul hx hb dX19_readWords_159 ?_
    refine lv_iload_n hx hb dX19_readWords_160 rfl (lv_at hl 0 rfl) ?_
    refine lv_iadd hx hb dX19_readWords_161 ?_
    exact g_iret X hw hr h (Nat.le_refl _) (Nat.le_refl _) dX19_readWords_162
set_option maxHeartbeats 4000000 in
theorem wX19_readWords_68 {G : GT} {p : Program} {l : Launch} {e : Env} {s : State} {m : MethodId} {args : Array Value} {below : List Frame} {meth : Method} {c : Code} {H : Heap} {locs : List Loc} {ls : Array Slot} {a0 : Nat} {x1 : Int32} {u : Hp} {K : Int32 → Hp → Prop} (X : Mc G p s m args meth c RX19 cX19_readWords 3) (hr : meth.sig.returnType = (some .int)) (h : bX19_readWords_68 K (Glit G) a0 x1 u) (hw : GW G u s H locs) (hl : lv_has ls 3 [(0, .ref a0), (1, .int x1)]) : W p l e (rmX19_readWords 0 0) s m args below meth c H locs 0 0 (QI G below K args s 0 0) (F0 m 68 ls []) := by
  obtain ⟨hx, hb, hml, hown, hts, -⟩ := id X
  unfold bX19_readWords_68 at h
  refine lv_aload_n hx hb dX19_readWords_68 rfl (lv_at hl 0 rfl) ?_
  refine g_ldcwS (tx := "tells") hx hb hown (X.2.2.2.2.2.2.1.2.2.2.2.2.2.1 47 ("FifthCardModel", 293, "tells") rfl) dX19_readWords_69 ?_
  have hk_4 : kd u a0 = 16 := h.1
  have h := h.2
  refine g_callv hw (g_V X hw (mX19_needs l G _ _ _ _ h) 1 (lw_V q1741 q1743 qs56 q143 q1744) rfl rfl ydX19_needs ⟨Nat.le_of_ble_eq_true rfl, Nat.le_of_ble_eq_true rfl⟩ (g_recv X hw (ci := 15) (q := (RX19, TX19, 46)) hk_4 rfl) (As := [.ref (Glit G 47)]) (rest := []) rfl hl.1 rfl (Nat.le_of_ble_eq_true rfl) dX19_readWords_72 ⟨Nat.le_refl _, Nat.le_refl _⟩) (fun u_5 H locs h hw => ?_)
  refine lv_aload_n hx hb dX19_readWords_75 rfl (lv_at hl 0 rfl) ?_
  refine g_ldcwS (tx := "place") hx hb hown (X.2.2.2.2.2.2.1.2.2.2.2.2.2.1 48 ("FifthCardModel", 295, "place") rfl) dX19_readWords_76 ?_
  have hk_6 : kd u_5 a0 = 16 := h.1
  have h := h.2
  refine g_calli hw (g_V X hw (mX19_eatsWord l G _ _ _ _ h) 1 (lw_V q1770 q1772 qs58 q143 q1773) rfl rfl ydX19_eatsWord ⟨Nat.le_of_ble_eq_true rfl, Nat.le_of_ble_eq_true rfl⟩ (g_recv X hw (ci := 15) (q := (RX19, TX19, 46)) hk_6 rfl) (As := [.ref (Glit G 48)]) (rest := []) rfl hl.1 rfl (Nat.le_of_ble_eq_true rfl) dX19_readWords_79 ⟨Nat.le_refl _, Nat.le_refl _⟩) (fun r_7 u_8 H locs h hw => ?_)
  refine lv_if_eq (tgt := 89) hx hb dX19_readWords_82 rfl (fun c_25 => ?_) (fun c_25 => ?_)
  · have h := h.1 c_25
    refine lv_aload_n hx hb dX19_readWords_89 rfl (lv_at hl 0 rfl) ?_
    refine g_ldcwS (tx := "rank") hx hb hown (X.2.2.2.2.2.2.1.2.2.2.2.2.2.1 49 ("FifthCardModel", 296, "rank") rfl) dX19_readWords_90 ?_
    have hk_9 : kd u_8 a0 = 16 := h.1
    have h := h.2
    refine g_calli hw (g_V X hw (mX19_eatsWord l G _ _ _ _ h) 1 (lw_V q1770 q1772 qs58 q143 q1773) rfl rfl ydX19_eatsWord ⟨Nat.le_of_ble_eq_true rfl, Nat.le_of_ble_eq_true rfl⟩ (g_recv X hw (ci := 15) (q := (RX19, TX19, 46)) hk_9 rfl) (As := [.ref (Glit G 49)]) (rest := []) rfl hl.1 rfl (Nat.le_of_ble_eq_true rfl) dX19_readWords_93 ⟨Nat.le_refl _, Nat.le_refl _⟩) (fun r_10 u_11 H locs h hw => ?_)
    refine lv_if_eq (tgt := 103) hx hb dX19_readWords_96 rfl (fun c_24 => ?_) (fun c_24 => ?_)
    · have h := h.1 c_24
      refine lv_aload_n hx hb dX19_readWords_103 rfl (lv_at hl 0 rfl) ?_
      refine g_ldcwS (tx := "gap") hx hb hown (X.2.2.2.2.2.2.1.2.2.2.2.2.2.1 50 ("FifthCardModel", 298, "gap") rfl) dX19_readWords_104 ?_
      have hk_12 : kd u_11 a0 = 16 := h.1
      have h := h.2
      refine g_calli hw (g_V X hw (mX19_eatsWord l G _ _ _ _ h) 1 (lw_V q1770 q1772 qs58 q143 q1773) rfl rfl ydX19_eatsWord ⟨Nat.le_of_ble_eq_true rfl, Nat.le_of_ble_eq_true rfl⟩ (g_recv X hw (ci := 15) (q := (RX19, TX19, 46)) hk_12 rfl) (As := [.ref (Glit G 50)]) (rest := []) rfl hl.1 rfl (Nat.le_of_ble_eq_true rfl) dX19_readWords_107 ⟨Nat.le_refl _, Nat.le_refl _⟩) (fun r_13 u_14 H locs h hw => ?_)
      refine lv_if_eq (tgt := 117) hx hb dX19_readWords_110 rfl (fun c_23 => ?_) (fun c_23 => ?_)
      · have h := h.1 c_23
        refine lv_aload_n hx hb dX19_readWords_117 rfl (lv_at hl 0 rfl) ?_
        refine g_ldcwS (tx := "ring") hx hb hown (X.2.2.2.2.2.2.1.2.2.2.2.2.2.1 51 ("FifthCardModel", 300, "ring") rfl) dX19_readWords_118 ?_
        have hk_15 : kd u_14 a0 = 16 := h.1
        have h := h.2
        refine g_calli hw (g_V X hw (mX19_eatsWord l G _ _ _ _ h) 1 (lw_V q1770 q1772 qs58 q143 q1773) rfl rfl ydX19_eatsWord ⟨Nat.le_of_ble_eq_true rfl, Nat.le_of_ble_eq_true rfl⟩ (g_recv X hw (ci := 15) (q := (RX19, TX19, 46)) hk_15 rfl) (As := [.ref (Glit G 51)]) (rest := []) rfl hl.1 rfl (Nat.le_of_ble_eq_true rfl) dX19_readWords_121 ⟨Nat.le_refl _, Nat.le_refl _⟩) (fun r_16 u_17 H locs h hw => ?_)
        refine lv_if_eq (tgt := 131) hx hb dX19_readWords_124 rfl (fun c_22 => ?_) (fun c_22 => ?_)
        · have h := h.1 c_22
          refine lv_aload_n hx hb dX19_readWords_131 rfl (lv_at hl 0 rfl) ?_
          refine g_ldcwS (tx := "sum") hx hb hown (X.2.2.2.2.2.2.1.2.2.2.2.2.2.1 46 ("FifthCardModel", 291, "sum") rfl) dX19_readWords_132 ?_
          have hk_18 : kd u_17 a0 = 16 := h.1
          have h := h.2
          refine g_calli hw (g_V X hw (mX19_eatsWord l G _ _ _ _ h) 1 (lw_V q1770 q1772 qs58 q143 q1773) rfl rfl ydX19_eatsWord ⟨Nat.le_of_ble_eq_true rfl, Nat.le_of_ble_eq_true rfl⟩ (g_recv X hw (ci := 15) (q := (RX19, TX19, 46)) hk_18 rfl) (As := [.ref (Glit G 46)]) (rest := []) rfl hl.1 rfl (Nat.le_of_ble_eq_true rfl) dX19_readWords_135 ⟨Nat.le_refl _, Nat.le_refl _⟩) (fun r_19 u_20 H locs h hw => ?_)
          refine lv_if_eq (tgt := 145) hx hb dX19_readWords_138 rfl (fun c_21 => ?_) (fun c_21 => ?_)
          · have h := h.1 c_21
            refine lv_iconst (v := (-1)) hx hb dX19_readWords_145 (by decide) ?_
            exact wX19_readWords_146 X hr  h hw (lv_sub hl [0, 1] rfl)
          · have h := h.2 c_21
            refine lv_iconst (v := 4) hx hb dX19_readWords_141 (by decide) ?_
            refine lv_goto (tgt := 146) hx hb dX19_readWords_142 rfl ?_
            exact wX19_readWords_146 X hr  h hw (lv_sub hl [0, 1] rfl)
        · have h := h.2 c_22
          refine lv_iconst (v := 3) hx hb dX19_readWords_127 (by decide) ?_
          refine lv_goto (tgt := 146) hx hb dX19_readWords_128 rfl ?_
          exact wX19_readWords_146 X hr  h hw (lv_sub hl [0, 1] rfl)
      · have h := h.2 c_23
        refine lv_iconst (v := 2) hx hb dX19_readWords_113 (by decide) ?_
        refine lv_goto (tgt := 146) hx hb dX19_readWords_114 rfl ?_
        exact wX19_readWords_146 X hr  h hw (lv_sub hl [0, 1] rfl)
    · have h := h.2 c_24
      refine lv_iconst (v := 1) hx hb dX19_readWords_99 (by decide) ?_
      refine lv_goto (tgt := 146) hx hb dX19_readWords_100 rfl ?_
      exact wX19_readWords_146 X hr  h hw (lv_sub hl [0, 1] rfl)
  · have h := h.2 c_25
    refine lv_iconst (v := 0) hx hb dX19_readWords_85 (by decide) ?_
    refine lv_goto (tgt := 146) hx hb dX19_readWords_86 rfl ?_
    exact wX19_readWords_146 X hr  h hw (lv_sub hl [0, 1] rfl)
set_option maxHeartbeats 4000000 in
theorem mX19_readWords (l : Launch) (G : GT) (u : Hp) (a0 : Nat) (K : Int32 → Hp → Prop) (h : pX19_readWords (Glit G) u a0 K) : Met l yX19_readWords (ws_ yX19_readWords cX19_readWords 3 (some .int)) (rmX19_readWords 0 0) (va_Pc [.ref a0] (GB G u)) (va_Qi K (fun u t => GH G u t.heap) (GA G)) 0 0 (GA G) := by
  refine Met.ofW (cc := cX19_readWords) (maxL := 3) (ret := (some .int)) (by decide) rfl ?_
  intro p e s m args below meth c s₁ B hml hv
  obtain ⟨rfl, hv⟩ := hv
  have X := Mc_of (own := RX19) B hml rfl hv
  have hw : GW G u s s.heap [] := ⟨hv.2.1, va_S.rf⟩
  have hr := B.returns
  obtain ⟨hx, hb, hml, hown, hts, -⟩ := id X
  have hl := lv_entry ([.ref a0]) (n := 3) (Nat.le_of_ble_eq_true rfl)
  rw [lg_entry_eq]
  generalize (lg_sl ([.ref a0]) ++ List.replicate (3 - (lg_sl ([.ref a0])).length) Slot.unset).toArray = ls at hl ⊢
  have hl : lv_has ls 3 [(0, .ref a0)] := hl
  change W p l e (rmX19_readWords 0 0) s m _ below meth c s.heap [] 0 0 (QI G below K _ s 0 0) (F0 m 0 ls [])
  unfold pX19_readWords at h
  refine lv_aload_n hx hb dX19_readWords_0 rfl (lv_at hl 0 rfl) ?_
  refine g_ldcwS (tx := "low") hx hb hown (X.2.2.2.2.2.2.1.2.2.2.2.2.2.1 43 ("FifthCardModel", 285, "low") rfl) dX19_readWords_1 ?_
  have hk_26 : kd u a0 = 16 := h.1
  have h := h.2
  refine g_calli hw (g_V X hw (mX19_eatsWord l G _ _ _ _ h) 1 (lw_V q1770 q1772 qs58 q143 q1773) rfl rfl ydX19_eatsWord ⟨Nat.le_of_ble_eq_true rfl, Nat.le_of_ble_eq_true rfl⟩ (g_recv X hw (ci := 15) (q := (RX19, TX19, 46)) hk_26 rfl) (As := [.ref (Glit G 43)]) (rest := []) rfl hl.1 rfl (Nat.le_of_ble_eq_true rfl) dX19_readWords_4 ⟨Nat.le_refl _, Nat.le_refl _⟩) (fun r_27 u_28 H locs h hw => ?_)
  refine lv_if_eq (tgt := 14) hx hb dX19_readWords_7 rfl (fun c_48 => ?_) (fun c_48 => ?_)
  · have h := h.1 c_48
    refine lv_aload_n hx hb dX19_readWords_14 rfl (lv_at hl 0 rfl) ?_
    refine g_ldcwS (tx := "high") hx hb hown (X.2.2.2.2.2.2.1.2.2.2.2.2.2.1 44 ("FifthCardModel", 287, "high") rfl) dX19_readWords_15 ?_
    have hk_29 : kd u_28 a0 = 16 := h.1
    have h := h.2
    refine g_calli hw (g_V X hw (mX19_eatsWord l G _ _ _ _ h) 1 (lw_V q1770 q1772 qs58 q143 q1773) rfl rfl ydX19_eatsWord ⟨Nat.le_of_ble_eq_true rfl, Nat.le_of_ble_eq_true rfl⟩ (g_recv X hw (ci := 15) (q := (RX19, TX19, 46)) hk_29 rfl) (As := [.ref (Glit G 44)]) (rest := []) rfl hl.1 rfl (Nat.le_of_ble_eq_true rfl) dX19_readWords_18 ⟨Nat.le_refl _, Nat.le_refl _⟩) (fun r_30 u_31 H locs h hw => ?_)
    refine lv_if_eq (tgt := 28) hx hb dX19_readWords_21 rfl (fun c_46 => ?_) (fun c_46 => ?_)
    · have h := h.1 c_46
      refine lv_aload_n hx hb dX19_readWords_28 rfl (lv_at hl 0 rfl) ?_
      refine g_ldcwS (tx := "mid") hx hb hown (X.2.2.2.2.2.2.1.2.2.2.2.2.2.1 45 ("FifthCardModel", 289, "mid") rfl) dX19_readWords_29 ?_
      have hk_32 : kd u_31 a0 = 16 := h.1
      have h := h.2
      refine g_calli hw (g_V X hw (mX19_eatsWord l G _ _ _ _ h) 1 (lw_V q1770 q1772 qs58 q143 q1773) rfl rfl ydX19_eatsWord ⟨Nat.le_of_ble_eq_true rfl, Nat.le_of_ble_eq_true rfl⟩ (g_recv X hw (ci := 15) (q := (RX19, TX19, 46)) hk_32 rfl) (As := [.ref (Glit G 45)]) (rest := []) rfl hl.1 rfl (Nat.le_of_ble_eq_true rfl) dX19_readWords_32 ⟨Nat.le_refl _, Nat.le_refl _⟩) (fun r_33 u_34 H locs h hw => ?_)
      refine lv_if_eq (tgt := 42) hx hb dX19_readWords_35 rfl (fun c_44 => ?_) (fun c_44 => ?_)
      · have h := h.1 c_44
        refine lv_aload_n hx hb dX19_readWords_42 rfl (lv_at hl 0 rfl) ?_
        refine g_ldcwS (tx := "sum") hx hb hown (X.2.2.2.2.2.2.1.2.2.2.2.2.2.1 46 ("FifthCardModel", 291, "sum") rfl) dX19_readWords_43 ?_
        have hk_35 : kd u_34 a0 = 16 := h.1
        have h := h.2
        refine g_calli hw (g_V X hw (mX19_eatsWord l G _ _ _ _ h) 1 (lw_V q1770 q1772 qs58 q143 q1773) rfl rfl ydX19_eatsWord ⟨Nat.le_of_ble_eq_true rfl, Nat.le_of_ble_eq_true rfl⟩ (g_recv X hw (ci := 15) (q := (RX19, TX19, 46)) hk_35 rfl) (As := [.ref (Glit G 46)]) (rest := []) rfl hl.1 rfl (Nat.le_of_ble_eq_true rfl) dX19_readWords_46 ⟨Nat.le_refl _, Nat.le_refl _⟩) (fun r_36 u_37 H locs h hw => ?_)
        refine lv_if_eq (tgt := 56) hx hb dX19_readWords_49 rfl (fun c_42 => ?_) (fun c_42 => ?_)
        · have h := h.1 c_42
          refine lv_iconst (v := (-1)) hx hb dX19_readWords_56 (by decide) ?_
          refine lv_istore_n (lv' := [(1, .int (-1)), (0, .ref a0)]) hx hb dX19_readWords_57 rfl hl (by decide) rfl (fun ls hl => ?_)
          refine lv_iload_n hx hb dX19_readWords_58 rfl (lv_at hl 0 rfl) ?_
          refine lv_iconst (v := (-1)) hx hb dX19_readWords_59 (by decide) ?_
          refine lv_icmp_ne (tgt := 68) hx hb dX19_readWords_60 rfl (fun c_40 => ?_) (fun c_40 => ?_)
          · first | exact absurd c_40 (by decide) | exact absurd (by decide) c_40
          · refine lv_aload_n hx hb dX19_readWords_63 rfl (lv_at hl 1 rfl) ?_
            refine lv_iconst (v := 1) hx hb dX19_readWords_64 (by decide) ?_
            have hk_38 : kd u_37 a0 = 16 := h.1
            have h := h.2
            refine g_callv hw (g_V X hw (mX19_flaw l G _ _ _ _ h) 1 (lw_V q1732 q1734 qs54 q143 q1735) rfl rfl ydX19_flaw ⟨Nat.le_of_ble_eq_true rfl, Nat.le_of_ble_eq_true rfl⟩ (g_recv X hw (ci := 15) (q := (RX19, TX19, 46)) hk_38 rfl) (As := [.int 1]) (rest := []) rfl hl.1 rfl (Nat.le_of_ble_eq_true rfl) dX19_readWords_65 ⟨Nat.le_refl _, Nat.le_refl _⟩) (fun u_39 H locs h hw => ?_)
            exact wX19_readWords_68 X hr  h hw (lv_sub hl [1, 0] rfl)
        · have h := h.2 c_42
          refine lv_iconst (v := 3) hx hb dX19_readWords_52 (by decide) ?_
          refine lv_goto (tgt := 57) hx hb dX19_readWords_53 rfl ?_
          refine lv_istore_n (lv' := [(1, .int 3), (0, .ref a0)]) hx hb dX19_readWords_57 rfl hl (by decide) rfl (fun ls hl => ?_)
          refine lv_iload_n hx hb dX19_readWords_58 rfl (lv_at hl 0 rfl) ?_
          refine lv_iconst (v := (-1)) hx hb dX19_readWords_59 (by decide) ?_
          refine lv_icmp_ne (tgt := 68) hx hb dX19_readWords_60 rfl (fun c_41 => ?_) (fun c_41 => ?_)
          · exact wX19_readWords_68 X hr  h hw (lv_sub hl [1, 0] rfl)
          · first | exact absurd (by decide) c_41 | exact absurd c_41 (by decide)
      · have h := h.2 c_44
        refine lv_iconst (v := 2) hx hb dX19_readWords_38 (by decide) ?_
        refine lv_goto (tgt := 57) hx hb dX19_readWords_39 rfl ?_
        refine lv_istore_n (lv' := [(1, .int 2), (0, .ref a0)]) hx hb dX19_readWords_57 rfl hl (by decide) rfl (fun ls hl => ?_)
        refine lv_iload_n hx hb dX19_readWords_58 rfl (lv_at hl 0 rfl) ?_
        refine lv_iconst (v := (-1)) hx hb dX19_readWords_59 (by decide) ?_
        refine lv_icmp_ne (tgt := 68) hx hb dX19_readWords_60 rfl (fun c_43 => ?_) (fun c_43 => ?_)
        · exact wX19_readWords_68 X hr  h hw (lv_sub hl [1, 0] rfl)
        · first | exact absurd (by decide) c_43 | exact absurd c_43 (by decide)
    · have h := h.2 c_46
      refine lv_iconst (v := 1) hx hb dX19_readWords_24 (by decide) ?_
      refine lv_goto (tgt := 57) hx hb dX19_readWords_25 rfl ?_
      refine lv_istore_n (lv' := [(1, .int 1), (0, .ref a0)]) hx hb dX19_readWords_57 rfl hl (by decide) rfl (fun ls hl => ?_)
      refine lv_iload_n hx hb dX19_readWords_58 rfl (lv_at hl 0 rfl) ?_
      refine lv_iconst (v := (-1)) hx hb dX19_readWords_59 (by decide) ?_
      refine lv_icmp_ne (tgt := 68) hx hb dX19_readWords_60 rfl (fun c_45 => ?_) (fun c_45 => ?_)
      · exact wX19_readWords_68 X hr  h hw (lv_sub hl [1, 0] rfl)
      · first | exact absurd (by decide) c_45 | exact absurd c_45 (by decide)
  · have h := h.2 c_48
    refine lv_iconst (v := 0) hx hb dX19_readWords_10 (by decide) ?_
    refine lv_goto (tgt := 57) hx hb dX19_readWords_11 rfl ?_
    refine lv_istore_n (lv' := [(1, .int 0), (0, .ref a0)]) hx hb dX19_readWords_57 rfl hl (by decide) rfl (fun ls hl => ?_)
    refine lv_iload_n hx hb dX19_readWords_58 rfl (lv_at hl 0 rfl) ?_
    refine lv_iconst (v := (-1)) hx hb dX19_readWords_59 (by decide) ?_
    refine lv_icmp_ne (tgt := 68) hx hb dX19_readWords_60 rfl (fun c_47 => ?_) (fun c_47 => ?_)
    · exact wX19_readWords_68 X hr  h hw (lv_sub hl [1, 0] rfl)
    · first | exact absurd (by decide) c_47 | exact absurd c_47 (by decide)

/-! FifthCardModel.readRule()V -/
theorem ydX19_readRule : yX19_readRule.cls = "FifthCardModel" ∧ yX19_readRule.cls ≠ "java/lang/invoke/MethodHandle" ∧ yX19_readRule.cls ≠ "java/lang/invoke/VarHandle" ∧ (parseMethodDescriptor yX19_readRule.desc).map (fun d => d.parameters.length) = some 0 := by decide +kernel
def rmX19_readRule (mc ms : Nat) : Room := { frames := 8, cells := mc, slots := ms, locals := 173 }
set_option maxHeartbeats 4000000 in
theorem wX19_readRule_141 {G : GT} {p : Program} {l : Launch} {e : Env} {s : State} {m : MethodId} {args : Array Value} {below : List Frame} {meth : Method} {c : Code} {H : Heap} {locs : List Loc} {ls : Array Slot} {a0 : Nat} {y1 : Int64} {x3 : Int32} {u : Hp} {K : Hp → Prop} (X : Mc G p s m args meth c RX19 cX19_readRule 4) (hr : meth.sig.returnType = none) (h : bX19_readRule_141 K (Glit G) a0 y1 x3 u) (hw : GW G u s H locs) (hl : lv_has ls 4 [(0, .ref a0), (1, .long y1), (3, .int x3)]) : W p l e (rmX19_readRule 0 0) s m args below meth c H locs 0 0 (QV G below K args s 0 0) (F0 m 141 ls []) := by
  obtain ⟨hx, hb, hml, hown, hts, -⟩ := id X
  unfold bX19_readRule_141 at h
  refine lv_aload_n hx hb dX19_readRule_141 rfl (lv_at hl 0 rfl) ?_
  have hk_1 : kd u a0 = 16 := h.1
  have h := h.2
  refine g_getI X hw in_X19 hk_1 rfl 9 rfl (by decide) q1460 (fun _ z => z) dX19_readRule_142 ?_
  refine lv_iconst (v := 5) hx hb dX19_readRule_145 (by decide) ?_
  refine lv_icmp_ne (tgt := 150) hx hb dX19_readRule_146 rfl (fun c_11 => ?_) (fun c_11 => ?_)
  · have h := h.2 c_11
    refine lv_aload_n hx hb dX19_readRule_150 rfl (lv_at hl 0 rfl) ?_
    obtain ⟨b_2, e_3, h⟩ := h
    refine g_getR X hw in_X19 hk_1 rfl 4 rfl (by decide) q1455 (fun _ z => z) e_3 dX19_readRule_151 ?_
    have hk_4 : kd u b_2 = 20 := h.1
    have h := h.2
    obtain ⟨b_5, e_6, h⟩ := h
    refine g_getNR X hw (host := "FifthCardModel") in_X23 hk_4 rfl 14 rfl (by decide) (List.mem_of_getElem? (i := 9) rfl) (fun _ z => z) e_6 dX19_readRule_154 ?_
    refine lv_aload_n hx hb dX19_readRule_157 rfl (lv_at hl 0 rfl) ?_
    refine g_getR X hw in_X19 hk_1 rfl 4 rfl (by decide) q1455 (fun _ z => z) e_3 dX19_readRule_158 ?_
    refine g_getNI X hw (host := "FifthCardModel") in_X23 hk_4 rfl 5 rfl (by decide) (List.mem_of_getElem? (i := 8) rfl) (fun _ z => z) dX19_readRule_161 ?_
    refine lv_lload_n hx hb dX19_readRule_164 rfl (lv_at hl 1 rfl) ?_
    have hk_7 : kd u b_5 = 105 := h.1
    have h := h.2
    refine g_last X hw hk_7 h.1 dX19_readRule_165 (fun H locs hw => ?_)
    have h := h.2
    refine lv_aload_n hx hb dX19_readRule_166 rfl (lv_at hl 0 rfl) ?_
    refine g_getR X hw in_X19 hk_1 rfl 4 rfl (by decide) q1455 (fun _ z => z) e_3 dX19_readRule_167 ?_
    obtain ⟨b_8, e_9, h⟩ := h
    refine g_getNR X hw (host := "FifthCardModel") in_X23 hk_4 rfl 10 rfl (by decide) (List.mem_of_getElem? (i := 10) rfl) (fun _ z => z) e_9 dX19_readRule_170 ?_
    refine lv_aload_n hx hb dX19_readRule_173 rfl (lv_at hl 0 rfl) ?_
    refine g_getR X hw in_X19 hk_1 rfl 4 rfl (by decide) q1455 (fun _ z => z) e_3 dX19_readRule_174 ?_
    refine g_getNI X hw (host := "FifthCardModel") in_X23 hk_4 rfl 5 rfl (by decide) (List.mem_of_getElem? (i := 8) rfl) (fun _ z => z) dX19_readRule_177 ?_
    refine lv_iload_n hx hb dX19_readRule_180 rfl (lv_at hl 2 rfl) ?_
    have hk_10 : kd u b_8 = 101 := h.1
    have h := h.2
    refine g_iast X hw hk_10 h.1 dX19_readRule_181 (fun H locs hw => ?_)
    have h := h.2
    refine lv_aload_n hx hb dX19_readRule_182 rfl (lv_at hl 0 rfl) ?_
    refine g_getR X hw in_X19 hk_1 rfl 4 rfl (by decide) q1455 (fun _ z => z) e_3 dX19_readRule_183 ?_
    refine lv_dup hx hb dX19_readRule_186 rfl ?_
    refine g_getNI X hw (host := "FifthCardModel") in_X23 hk_4 rfl 5 rfl (by decide) (List.mem_of_getElem? (i := 8) rfl) (fun _ z => z) dX19_readRule_187 ?_
    refine lv_iconst (v := 1) hx hb dX19_readRule_190 (by decide) ?_
    refine lv_iadd hx hb dX19_readRule_191 ?_
    refine g_putNI (v := (FI u 2305 b_2) + 1) X hw (host := "FifthCardModel") in_X23 tyX23_ok nmX23 hk_4 rfl 5 rfl (by decide) (List.mem_of_getElem? (i := 8) rfl) (fun _ z => z) rfl rfl rfl dX19_readRule_192 (fun H locs hw => ?_)
    exact g_vret X hw hr h (Nat.le_refl _) (Nat.le_refl _) dX19_readRule_195
  · have h := h.1 c_11
    exact g_vret X hw hr h (Nat.le_refl _) (Nat.le_refl _) dX19_readRule_149
set_option maxHeartbeats 4000000 in
theorem wX19_readRule_26 {G : GT} {p : Program} {l : Launch} {e : Env} {s : State} {m : MethodId} {args : Array Value} {below : List Frame} {meth : Method} {c : Code} {H : Heap} {locs : List Loc} {ls : Array Slot} {a0 : Nat} {x1 : Int32} {u : Hp} {K : Hp → Prop} (X : Mc G p s m args meth c RX19 cX19_readRule 4) (hr : meth.sig.returnType = none) (h : jl2 (bX19_readRule_26 K (Glit G) a0) x1 u) (hw : GW G u s H locs) (hl : lv_has ls 4 [(0, .ref a0), (1, .int x1)]) : W p l e (rmX19_readRule 0 0) s m args below meth c H locs 0 0 (QV G below K args s 0 0) (F0 m 26 ls []) := by
  obtain ⟨hx, hb, hml, hown, hts, -⟩ := id X
  obtain ⟨I, μ, h0, hs⟩ := h
  have key : ∀ (n : Nat) (x1 : Int32) (u : Hp) (H : Heap) (locs : List Loc) (ls : Array Slot) , μ x1 u < n → I x1 u → GW G u s H locs → lv_has ls 4 [(0, .ref a0), (1, .int x1)] → W p l e (rmX19_readRule 0 0) s m args below meth c H locs 0 0 (QV G below K args s 0 0) (F0 m 26 ls []) := by
    intro n
    induction n with
    | zero =>
      intro x1 u H locs ls hn
      exact absurd hn (Nat.not_lt_zero _)
    | succ n ih =>
      intro x1 u H locs ls hn hI hw hl
      have h := hs x1 u hI
      unfold bX19_readRule_26 at h
      have hJ26 : ∀ (x1' : Int32) (u' : Hp) (H : Heap) (locs : List Loc) (ls : Array Slot) , (I x1' u' ∧ μ x1' u' < μ x1 u) → GW G u' s H locs → lv_has ls 4 [(0, .ref a0), (1, .int x1')] → W p l e (rmX19_readRule 0 0) s m args below meth c H locs 0 0 (QV G below K args s 0 0) (F0 m 26 ls []) := fun x1' u' H locs ls h hw hl => ih x1' u' H locs ls (Nat.lt_of_lt_of_le h.2 (Nat.le_of_lt_succ hn)) h.1 hw hl
      refine lv_iload_n hx hb dX19_readRule_26 rfl (lv_at hl 1 rfl) ?_
      refine lv_aload_n hx hb dX19_readRule_27 rfl (lv_at hl 0 rfl) ?_
      have hk_12 : kd u a0 = 16 := h.1
      have h := h.2
      obtain ⟨b_13, e_14, h⟩ := h
      refine g_getR X hw in_X19 hk_12 rfl 4 rfl (by decide) q1455 (fun _ z => z) e_14 dX19_readRule_28 ?_
      have hk_15 : kd u b_13 = 20 := h.1
      have h := h.2
      refine g_getNI X hw (host := "FifthCardModel") in_X23 hk_15 rfl 5 rfl (by decide) (List.mem_of_getElem? (i := 8) rfl) (fun _ z => z) dX19_readRule_31 ?_
      refine lv_icmp_ge (tgt := 73) hx hb dX19_readRule_34 rfl (fun c_46 => ?_) (fun c_46 => ?_)
      · have h := h.1 c_46
        refine lv_aload_n hx hb dX19_readRule_73 rfl (lv_at hl 0 rfl) ?_
        refine g_getJ X hw in_X19 hk_12 rfl 15 rfl (by decide) q1466 (fun _ z => z) dX19_readRule_74 ?_
        refine lv_lstore_n (lv' := [(1, .long (FJ u 1915 a0)), (0, .ref a0)]) hx hb dX19_readRule_77 rfl hl (by decide) rfl (fun ls hl => ?_)
        refine lv_aload_n hx hb dX19_readRule_78 rfl (lv_at hl 1 rfl) ?_
        refine g_callv hw (g_V X hw (mX19_goesOn l G _ _ _ h) 0 (lw_V q1669 q1671 qs48 q143 q1672) rfl rfl ydX19_goesOn ⟨Nat.le_of_ble_eq_true rfl, Nat.le_of_ble_eq_true rfl⟩ (g_recv X hw (ci := 15) (q := (RX19, TX19, 46)) hk_12 rfl) (As := []) (rest := []) rfl hl.1 rfl (Nat.le_of_ble_eq_true rfl) dX19_readRule_79 ⟨Nat.le_refl _, Nat.le_refl _⟩) (fun u_16 H locs h hw => ?_)
        refine lv_aload_n hx hb dX19_readRule_82 rfl (lv_at hl 1 rfl) ?_
        refine g_ldcwS (tx := "suit") hx hb hown (X.2.2.2.2.2.2.1.2.2.2.2.2.2.1 40 ("FifthCardModel", 274, "suit") rfl) dX19_readRule_83 ?_
        have hk_17 : kd u_16 a0 = 16 := h.1
        have h := h.2
        refine g_calli hw (g_V X hw (mX19_eatsWord l G _ _ _ _ h) 1 (lw_V q1770 q1772 qs58 q143 q1773) rfl rfl ydX19_eatsWord ⟨Nat.le_of_ble_eq_true rfl, Nat.le_of_ble_eq_true rfl⟩ (g_recv X hw (ci := 15) (q := (RX19, TX19, 46)) hk_17 rfl) (As := [.ref (Glit G 40)]) (rest := []) rfl hl.1 rfl (Nat.le_of_ble_eq_true rfl) dX19_readRule_86 ⟨Nat.le_refl _, Nat.le_refl _⟩) (fun r_18 u_19 H locs h hw => ?_)
        refine lv_if_eq (tgt := 97) hx hb dX19_readRule_89 rfl (fun c_39 => ?_) (fun c_39 => ?_)
        · have h := h.1 c_39
          refine lv_aload_n hx hb dX19_readRule_97 rfl (lv_at hl 1 rfl) ?_
          refine g_ldcwS (tx := "table") hx hb hown (X.2.2.2.2.2.2.1.2.2.2.2.2.2.1 41 ("FifthCardModel", 276, "table") rfl) dX19_readRule_98 ?_
          have hk_20 : kd u_19 a0 = 16 := h.1
          have h := h.2
          refine g_calli hw (g_V X hw (mX19_eatsWord l G _ _ _ _ h) 1 (lw_V q1770 q1772 qs58 q143 q1773) rfl rfl ydX19_eatsWord ⟨Nat.le_of_ble_eq_true rfl, Nat.le_of_ble_eq_true rfl⟩ (g_recv X hw (ci := 15) (q := (RX19, TX19, 46)) hk_20 rfl) (As := [.ref (Glit G 41)]) (rest := []) rfl hl.1 rfl (Nat.le_of_ble_eq_true rfl) dX19_readRule_101 ⟨Nat.le_refl _, Nat.le_refl _⟩) (fun r_21 u_22 H locs h hw => ?_)
          refine lv_if_eq (tgt := 112) hx hb dX19_readRule_104 rfl (fun c_37 => ?_) (fun c_37 => ?_)
          · have h := h.1 c_37
            refine lv_aload_n hx hb dX19_readRule_112 rfl (lv_at hl 1 rfl) ?_
            refine g_ldcwS (tx := "keeps") hx hb hown (X.2.2.2.2.2.2.1.2.2.2.2.2.2.1 42 ("FifthCardModel", 278, "keeps") rfl) dX19_readRule_113 ?_
            have hk_23 : kd u_22 a0 = 16 := h.1
            have h := h.2
            refine g_calli hw (g_V X hw (mX19_eatsWord l G _ _ _ _ h) 1 (lw_V q1770 q1772 qs58 q143 q1773) rfl rfl ydX19_eatsWord ⟨Nat.le_of_ble_eq_true rfl, Nat.le_of_ble_eq_true rfl⟩ (g_recv X hw (ci := 15) (q := (RX19, TX19, 46)) hk_23 rfl) (As := [.ref (Glit G 42)]) (rest := []) rfl hl.1 rfl (Nat.le_of_ble_eq_true rfl) dX19_readRule_116 ⟨Nat.le_refl _, Nat.le_refl _⟩) (fun r_24 u_25 H locs h hw => ?_)
            refine lv_if_eq (tgt := 129) hx hb dX19_readRule_119 rfl (fun c_35 => ?_) (fun c_35 => ?_)
            · have h := h.1 c_35
              refine lv_iconst (v := (-1)) hx hb dX19_readRule_129 (by decide) ?_
              refine lv_istore_n (lv' := [(3, .int (-1)), (1, .long (FJ u 1915 a0)), (0, .ref a0)]) hx hb dX19_readRule_130 rfl hl (by decide) rfl (fun ls hl => ?_)
              refine lv_iload_n hx hb dX19_readRule_131 rfl (lv_at hl 0 rfl) ?_
              refine lv_iconst (v := (-1)) hx hb dX19_readRule_132 (by decide) ?_
              refine lv_icmp_ne (tgt := 141) hx hb dX19_readRule_133 rfl (fun c_28 => ?_) (fun c_28 => ?_)
              · first | exact absurd c_28 (by decide) | exact absurd (by decide) c_28
              · refine lv_aload_n hx hb dX19_readRule_136 rfl (lv_at hl 2 rfl) ?_
                refine lv_iconst (v := 1) hx hb dX19_readRule_137 (by decide) ?_
                have hk_26 : kd u_25 a0 = 16 := h.1
                have h := h.2
                refine g_callv hw (g_V X hw (mX19_flaw l G _ _ _ _ h) 1 (lw_V q1732 q1734 qs54 q143 q1735) rfl rfl ydX19_flaw ⟨Nat.le_of_ble_eq_true rfl, Nat.le_of_ble_eq_true rfl⟩ (g_recv X hw (ci := 15) (q := (RX19, TX19, 46)) hk_26 rfl) (As := [.int 1]) (rest := []) rfl hl.1 rfl (Nat.le_of_ble_eq_true rfl) dX19_readRule_138 ⟨Nat.le_refl _, Nat.le_refl _⟩) (fun u_27 H locs h hw => ?_)
                exact wX19_readRule_141 X hr  h hw (lv_sub hl [2, 1, 0] rfl)
            · have h := h.2 c_35
              refine lv_aload_n hx hb dX19_readRule_122 rfl (lv_at hl 1 rfl) ?_
              have hk_29 : kd u_25 a0 = 16 := h.1
              have h := h.2
              refine g_calli hw (g_V X hw (mX19_readWords l G _ _ _ h) 0 (lw_V q1794 q1796 qs62 q143 q1797) rfl rfl ydX19_readWords ⟨Nat.le_of_ble_eq_true rfl, Nat.le_of_ble_eq_true rfl⟩ (g_recv X hw (ci := 15) (q := (RX19, TX19, 46)) hk_29 rfl) (As := []) (rest := []) rfl hl.1 rfl (Nat.le_of_ble_eq_true rfl) dX19_readRule_123 ⟨Nat.le_refl _, Nat.le_refl _⟩) (fun r_30 u_31 H locs h hw => ?_)
              refine lv_goto (tgt := 130) hx hb dX19_readRule_126 rfl ?_
              refine lv_istore_n (lv' := [(3, .int r_30), (1, .long (FJ u 1915 a0)), (0, .ref a0)]) hx hb dX19_readRule_130 rfl hl (by decide) rfl (fun ls hl => ?_)
              refine lv_iload_n hx hb dX19_readRule_131 rfl (lv_at hl 0 rfl) ?_
              refine lv_iconst (v := (-1)) hx hb dX19_readRule_132 (by decide) ?_
              refine lv_icmp_ne (tgt := 141) hx hb dX19_readRule_133 rfl (fun c_34 => ?_) (fun c_34 => ?_)
              · have h := h.2 c_34
                exact wX19_readRule_141 X hr  h hw (lv_sub hl [2, 1, 0] rfl)
              · have h := h.1 c_34
                refine lv_aload_n hx hb dX19_readRule_136 rfl (lv_at hl 2 rfl) ?_
                refine lv_iconst (v := 1) hx hb dX19_readRule_137 (by decide) ?_
                have hk_32 : kd u_31 a0 = 16 := h.1
                have h := h.2
                refine g_callv hw (g_V X hw (mX19_flaw l G _ _ _ _ h) 1 (lw_V q1732 q1734 qs54 q143 q1735) rfl rfl ydX19_flaw ⟨Nat.le_of_ble_eq_true rfl, Nat.le_of_ble_eq_true rfl⟩ (g_recv X hw (ci := 15) (q := (RX19, TX19, 46)) hk_32 rfl) (As := [.int 1]) (rest := []) rfl hl.1 rfl (Nat.le_of_ble_eq_true rfl) dX19_readRule_138 ⟨Nat.le_refl _, Nat.le_refl _⟩) (fun u_33 H locs h hw => ?_)
                exact wX19_readRule_141 X hr  h hw (lv_sub hl [2, 1, 0] rfl)
          · have h := h.2 c_37
            refine lv_bipush (v := 21) hx hb dX19_readRule_107 (by decide) ?_
            refine lv_goto (tgt := 130) hx hb dX19_readRule_109 rfl ?_
            refine lv_istore_n (lv' := [(3, .int 21), (1, .long (FJ u 1915 a0)), (0, .ref a0)]) hx hb dX19_readRule_130 rfl hl (by decide) rfl (fun ls hl => ?_)
            refine lv_iload_n hx hb dX19_readRule_131 rfl (lv_at hl 0 rfl) ?_
            refine lv_iconst (v := (-1)) hx hb dX19_readRule_132 (by decide) ?_
            refine lv_icmp_ne (tgt := 141) hx hb dX19_readRule_133 rfl (fun c_36 => ?_) (fun c_36 => ?_)
            · exact wX19_readRule_141 X hr  h hw (lv_sub hl [2, 1, 0] rfl)
            · first | exact absurd (by decide) c_36 | exact absurd c_36 (by decide)
        · have h := h.2 c_39
          refine lv_bipush (v := 20) hx hb dX19_readRule_92 (by decide) ?_
          refine lv_goto (tgt := 130) hx hb dX19_readRule_94 rfl ?_
          refine lv_istore_n (lv' := [(3, .int 20), (1, .long (FJ u 1915 a0)), (0, .ref a0)]) hx hb dX19_readRule_130 rfl hl (by decide) rfl (fun ls hl => ?_)
          refine lv_iload_n hx hb dX19_readRule_131 rfl (lv_at hl 0 rfl) ?_
          refine lv_iconst (v := (-1)) hx hb dX19_readRule_132 (by decide) ?_
          refine lv_icmp_ne (tgt := 141) hx hb dX19_readRule_133 rfl (fun c_38 => ?_) (fun c_38 => ?_)
          · exact wX19_readRule_141 X hr  h hw (lv_sub hl [2, 1, 0] rfl)
          · first | exact absurd (by decide) c_38 | exact absurd c_38 (by decide)
      · have h := h.2 c_46
        refine lv_aload_n hx hb dX19_readRule_37 rfl (lv_at hl 0 rfl) ?_
        refine g_getI X hw in_X19 hk_12 rfl 9 rfl (by decide) q1460 (fun _ z => z) dX19_readRule_38 ?_
        refine lv_iconst (v := 5) hx hb dX19_readRule_41 (by decide) ?_
        refine lv_icmp_eq (tgt := 67) hx hb dX19_readRule_42 rfl (fun c_45 => ?_) (fun c_45 => ?_)
        · have h := h.1 c_45
          refine lv_iinc (v := x1 + 1) (lv' := [(1, .int (x1 + 1)), (0, .ref a0)]) hx hb dX19_readRule_67 hl (k := 1) rfl rfl (by decide) rfl (fun ls hl => ?_)
          refine lv_goto (tgt := 26) hx hb dX19_readRule_70 rfl ?_
          exact hJ26 _ _ _ _ _ h hw (lv_sub hl [1, 0] rfl)
        · have h := h.2 c_45
          refine lv_aload_n hx hb dX19_readRule_45 rfl (lv_at hl 0 rfl) ?_
          refine g_getR X hw in_X19 hk_12 rfl 4 rfl (by decide) q1455 (fun _ z => z) e_14 dX19_readRule_46 ?_
          obtain ⟨b_40, e_41, h⟩ := h
          refine g_getNR X hw (host := "FifthCardModel") in_X23 hk_15 rfl 14 rfl (by decide) (List.mem_of_getElem? (i := 9) rfl) (fun _ z => z) e_41 dX19_readRule_49 ?_
          refine lv_iload_n hx hb dX19_readRule_52 rfl (lv_at hl 1 rfl) ?_
          have hk_42 : kd u b_40 = 105 := h.1
          have h := h.2
          refine g_lald X hw hk_42 h.1 dX19_readRule_53 ?_
          have h := h.2
          refine lv_aload_n hx hb dX19_readRule_54 rfl (lv_at hl 0 rfl) ?_
          refine g_getJ X hw in_X19 hk_12 rfl 15 rfl (by decide) q1466 (fun _ z => z) dX19_readRule_55 ?_
          refine W.lcmp hx hb dX19_readRule_58 ?_
          refine lv_if_ne (tgt := 67) hx hb dX19_readRule_59 rfl (fun c_44 => ?_) (fun c_44 => ?_)
          · have h := h.2 c_44
            refine lv_iinc (v := x1 + 1) (lv' := [(1, .int (x1 + 1)), (0, .ref a0)]) hx hb dX19_readRule_67 hl (k := 1) rfl rfl (by decide) rfl (fun ls hl => ?_)
            refine lv_goto (tgt := 26) hx hb dX19_readRule_70 rfl ?_
            exact hJ26 _ _ _ _ _ h hw (lv_sub hl [1, 0] rfl)
          · have h := h.1 c_44
            refine lv_aload_n hx hb dX19_readRule_62 rfl (lv_at hl 0 rfl) ?_
            refine lv_iconst (v := 3) hx hb dX19_readRule_63 (by decide) ?_
            refine g_callv hw (g_V X hw (mX19_flaw l G _ _ _ _ h) 1 (lw_V q1732 q1734 qs54 q143 q1735) rfl rfl ydX19_flaw ⟨Nat.le_of_ble_eq_true rfl, Nat.le_of_ble_eq_true rfl⟩ (g_recv X hw (ci := 15) (q := (RX19, TX19, 46)) hk_12 rfl) (As := [.int 3]) (rest := []) rfl hl.1 rfl (Nat.le_of_ble_eq_true rfl) dX19_readRule_64 ⟨Nat.le_refl _, Nat.le_refl _⟩) (fun u_43 H locs h hw => ?_)
            refine lv_iinc (v := x1 + 1) (lv' := [(1, .int (x1 + 1)), (0, .ref a0)]) hx hb dX19_readRule_67 hl (k := 1) rfl rfl (by decide) rfl (fun ls hl => ?_)
            refine lv_goto (tgt := 26) hx hb dX19_readRule_70 rfl ?_
            exact hJ26 _ _ _ _ _ h hw (lv_sub hl [1, 0] rfl)
  exact key _ _ _ _ _ _ (Nat.lt_succ_self _) h0 hw hl
set_option maxHeartbeats 4000000 in
theorem mX19_readRule (l : Launch) (G : GT) (u : Hp) (a0 : Nat) (K : Hp → Prop) (h : pX19_readRule (Glit G) u a0 K) : Met l yX19_readRule (ws_ yX19_readRule cX19_readRule 4 none) (rmX19_readRule 0 0) (va_Pc [.ref a0] (GB G u)) (va_Qv K (fun u t => GH G u t.heap) (GA G)) 0 0 (GA G) := by
  refine Met.ofW (cc := cX19_readRule) (maxL := 4) (ret := none) (by decide) rfl ?_
  intro p e s m args below meth c s₁ B hml hv
  obtain ⟨rfl, hv⟩ := hv
  have X := Mc_of (own := RX19) B hml rfl hv
  have hw : GW G u s s.heap [] := ⟨hv.2.1, va_S.rf⟩
  have hr := B.returns
  obtain ⟨hx, hb, hml, hown, hts, -⟩ := id X
  have hl := lv_entry ([.ref a0]) (n := 4) (Nat.le_of_ble_eq_true rfl)
  rw [lg_entry_eq]
  generalize (lg_sl ([.ref a0]) ++ List.replicate (4 - (lg_sl ([.ref a0])).length) Slot.unset).toArray = ls at hl ⊢
  have hl : lv_has ls 4 [(0, .ref a0)] := hl
  change W p l e (rmX19_readRule 0 0) s m _ below meth c s.heap [] 0 0 (QV G below K _ s 0 0) (F0 m 0 ls [])
  unfold pX19_readRule at h
  refine lv_aload_n hx hb dX19_readRule_0 rfl (lv_at hl 0 rfl) ?_
  refine lv_aload_n hx hb dX19_readRule_1 rfl (lv_at hl 0 rfl) ?_
  have hk_47 : kd u a0 = 16 := h.1
  have h := h.2
  obtain ⟨b_48, e_49, h⟩ := h
  refine g_getR X hw in_X19 hk_47 rfl 4 rfl (by decide) q1455 (fun _ z => z) e_49 dX19_readRule_2 ?_
  have hk_50 : kd u b_48 = 20 := h.1
  have h := h.2
  refine g_getNI X hw (host := "FifthCardModel") in_X23 hk_50 rfl 5 rfl (by decide) (List.mem_of_getElem? (i := 8) rfl) (fun _ z => z) dX19_readRule_5 ?_
  refine lv_iconst (v := 4) hx hb dX19_readRule_8 (by decide) ?_
  refine g_callv hw (g_V X hw (mX19_begins l G _ _ _ _ _ h) 2 (lw_V q1780 q1782 qs60 q143 q1783) rfl rfl ydX19_begins ⟨Nat.le_of_ble_eq_true rfl, Nat.le_of_ble_eq_true rfl⟩ (g_recv X hw (ci := 15) (q := (RX19, TX19, 46)) hk_47 rfl) (As := [.int (FI u 2305 b_48), .int 4]) (rest := []) rfl hl.1 rfl (Nat.le_of_ble_eq_true rfl) dX19_readRule_9 ⟨Nat.le_refl _, Nat.le_refl _⟩) (fun u_51 H locs h hw => ?_)
  refine lv_aload_n hx hb dX19_readRule_12 rfl (lv_at hl 0 rfl) ?_
  have hk_52 : kd u_51 a0 = 16 := h.1
  have h := h.2
  refine g_callio hw (g_V X hw (mX19_isName l G _ _ _ h) 0 (lw_V q1784 q1786 qs61 q143 q1787) rfl rfl ydX19_isName ⟨Nat.le_of_ble_eq_true rfl, Nat.le_of_ble_eq_true rfl⟩ (g_recv X hw (ci := 15) (q := (RX19, TX19, 46)) hk_52 rfl) (As := []) (rest := []) rfl hl.1 rfl (Nat.le_of_ble_eq_true rfl) dX19_readRule_13 ⟨Nat.le_refl _, Nat.le_refl _⟩) (fun r_53 H locs h hw => ?_)
  refine lv_if_ne (tgt := 24) hx hb dX19_readRule_16 rfl (fun c_55 => ?_) (fun c_55 => ?_)
  · have h := h.2 c_55
    refine lv_iconst (v := 0) hx hb dX19_readRule_24 (by decide) ?_
    refine lv_istore_n (lv' := [(1, .int 0), (0, .ref a0)]) hx hb dX19_readRule_25 rfl hl (by decide) rfl (fun ls hl => ?_)
    exact wX19_readRule_26 X hr  h hw (lv_sub hl [1, 0] rfl)
  · have h := h.1 c_55
    refine lv_aload_n hx hb dX19_readRule_19 rfl (lv_at hl 0 rfl) ?_
    refine lv_iconst (v := 1) hx hb dX19_readRule_20 (by decide) ?_
    refine g_callv hw (g_V X hw (mX19_flaw l G _ _ _ _ h) 1 (lw_V q1732 q1734 qs54 q143 q1735) rfl rfl ydX19_flaw ⟨Nat.le_of_ble_eq_true rfl, Nat.le_of_ble_eq_true rfl⟩ (g_recv X hw (ci := 15) (q := (RX19, TX19, 46)) hk_52 rfl) (As := [.int 1]) (rest := []) rfl hl.1 rfl (Nat.le_of_ble_eq_true rfl) dX19_readRule_21 ⟨Nat.le_refl _, Nat.le_refl _⟩) (fun u_54 H locs h hw => ?_)
    refine lv_iconst (v := 0) hx hb dX19_readRule_24 (by decide) ?_
    refine lv_istore_n (lv' := [(1, .int 0), (0, .ref a0)]) hx hb dX19_readRule_25 rfl hl (by decide) rfl (fun ls hl => ?_)
    exact wX19_readRule_26 X hr  h hw (lv_sub hl [1, 0] rfl)

