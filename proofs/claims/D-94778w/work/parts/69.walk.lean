/-! printed by tools/genparts.py: the walks (m..): the machine runs as the predicates say -/
set_option maxRecDepth 100000
/-! FifthCard.led(II)I -/
theorem ydX1_led : yX1_led.cls = "FifthCard" ∧ yX1_led.cls ≠ "java/lang/invoke/MethodHandle" ∧ yX1_led.cls ≠ "java/lang/invoke/VarHandle" ∧ (parseMethodDescriptor yX1_led.desc).map (fun d => d.parameters.length) = some 2 := by decide +kernel
def rmX1_led (mc ms : Nat) : Room := { frames := 7, cells := mc, slots := ms, locals := 173 }
set_option maxHeartbeats 4000000 in
theorem wX1_led_5 {G : GT} {p : Program} {l : Launch} {e : Env} {s : State} {m : MethodId} {args : Array Value} {below : List Frame} {meth : Method} {c : Code} {H : Heap} {locs : List Loc} {ls : Array Slot} {cells slots : Nat} {MC MS : Nat} {a0 : Nat} {x1 : Int32} {x2 : Int32} {mc : Nat} {ms : Nat} {x3 : Int32} {x4 : Int32} {u : Hp} {K : Int32 → Hp → Prop} {E : Nat → Hp → Prop} (X : Mc G p s m args meth c RX1 cX1_led 5) (hr : meth.sig.returnType = (some .int)) (hnt : l.stackTraces = false) (ht : ∀ x ∈ c.exceptionTable.toList, False) (hc1 : cells + mc ≤ MC) (hc2 : slots + ms ≤ MS) (h : jl3 (bX1_led_5 K E a0 x1 x2 mc ms) x3 x4 u) (hw : GW G u s H locs) (hl : lv_has ls 5 [(0, .ref a0), (1, .int x1), (2, .int x2), (3, .int x3), (4, .int x4)]) : W p l e (rmX1_led MC MS) s m args below meth c H locs cells slots (TI G "java/util/NoSuchElementException" below K E args s MC MS) (F0 m 5 ls []) := by
  obtain ⟨hx, hb, hml, hown, hts, -⟩ := id X
  obtain ⟨I, μ, h0, hs⟩ := h
  have key : ∀ (n : Nat) (x3 : Int32) (x4 : Int32) (u : Hp) (H : Heap) (locs : List Loc) (ls : Array Slot) (cells slots : Nat) , cells + mc ≤ MC → slots + ms ≤ MS → μ x3 x4 u < n → I x3 x4 u → GW G u s H locs → lv_has ls 5 [(0, .ref a0), (1, .int x1), (2, .int x2), (3, .int x3), (4, .int x4)] → W p l e (rmX1_led MC MS) s m args below meth c H locs cells slots (TI G "java/util/NoSuchElementException" below K E args s MC MS) (F0 m 5 ls []) := by
    intro n
    induction n with
    | zero =>
      intro x3 x4 u H locs ls cells slots hc1 hc2 hn
      exact absurd hn (Nat.not_lt_zero _)
    | succ n ih =>
      intro x3 x4 u H locs ls cells slots hc1 hc2 hn hI hw hl
      have h := hs x3 x4 u hI
      unfold bX1_led_5 at h
      have hJ5 : ∀ (x3' : Int32) (x4' : Int32) (u' : Hp) (H : Heap) (locs : List Loc) (ls : Array Slot) (cells slots : Nat) , cells + mc ≤ MC → slots + ms ≤ MS → (I x3' x4' u' ∧ μ x3' x4' u' < μ x3 x4 u) → GW G u' s H locs → lv_has ls 5 [(0, .ref a0), (1, .int x1), (2, .int x2), (3, .int x3'), (4, .int x4')] → W p l e (rmX1_led MC MS) s m args below meth c H locs cells slots (TI G "java/util/NoSuchElementException" below K E args s MC MS) (F0 m 5 ls []) := fun x3' x4' u' H locs ls cells slots g1 g2 h hw hl => ih x3' x4' u' H locs ls cells slots g1 g2 (Nat.lt_of_lt_of_le h.2 (Nat.le_of_lt_succ hn)) h.1 hw hl
      refine lv_aload_n hx hb dX1_led_5 rfl (lv_at hl 0 rfl) ?_
      refine lv_iload_n hx hb dX1_led_6 rfl (lv_at hl 1 rfl) ?_
      have hk_1 : kd u a0 = 1 := h.1
      have h := h.2
      refine g_callio hw (g_V X hw (mX1_isRule l G _ _ _ _ h) 1 (lw_V q1074 q1076 qs28 q122 q1077) rfl rfl ydX1_isRule ⟨Nat.le_of_ble_eq_true rfl, Nat.le_of_ble_eq_true rfl⟩ (g_recv X hw (ci := 0) (q := (RX1, TX1, 16)) hk_1 rfl) (As := [.int x1]) (rest := []) rfl hl.1 rfl (Nat.le_of_ble_eq_true rfl) dX1_led_7 ⟨(by show _ ≤ MC; omega), (by show _ ≤ MS; omega)⟩) (fun r_2 H locs h hw => ?_)
      refine lv_if_eq (tgt := 54) hx hb dX1_led_10 rfl (fun c_16 => ?_) (fun c_16 => ?_)
      · have h := h.1 c_16
        obtain ⟨q1_, q2_, h⟩ := h
        exact g_thr0 X ht hnt hw h hl.1 dX1_led_54 dX1_led_57 dX1_led_58 dX1_led_61 (Nat.le_of_ble_eq_true rfl) (Nat.le_of_ble_eq_true rfl) (by show _ ≤ MC; omega) (by show _ ≤ MS; omega) (by omega) (by omega)
      · have h := h.2 c_16
        refine lv_iload hx hb dX1_led_13 (lv_at hl 4 rfl) ?_
        refine lv_aload_n hx hb dX1_led_15 rfl (lv_at hl 0 rfl) ?_
        refine g_getI X hw in_X1 hk_1 rfl 8 rfl (by decide) q481 (fun _ z => z) dX1_led_16 ?_
        refine lv_icmp_ge (tgt := 54) hx hb dX1_led_19 rfl (fun c_15 => ?_) (fun c_15 => ?_)
        · have h := h.1 c_15
          obtain ⟨q1_, q2_, h⟩ := h
          exact g_thr0 X ht hnt hw h hl.1 dX1_led_54 dX1_led_57 dX1_led_58 dX1_led_61 (Nat.le_of_ble_eq_true rfl) (Nat.le_of_ble_eq_true rfl) (by show _ ≤ MC; omega) (by show _ ≤ MS; omega) (by omega) (by omega)
        · have h := h.2 c_15
          refine lv_aload_n hx hb dX1_led_22 rfl (lv_at hl 0 rfl) ?_
          refine lv_iload_n hx hb dX1_led_23 rfl (lv_at hl 1 rfl) ?_
          refine lv_iload hx hb dX1_led_24 (lv_at hl 4 rfl) ?_
          refine g_calli hw (g_V X hw (mX1_rowOf l G _ _ _ _ _ h) 2 (lw_V q1078 q1080 qs29 q122 q1081) rfl rfl ydX1_rowOf ⟨Nat.le_of_ble_eq_true rfl, Nat.le_of_ble_eq_true rfl⟩ (g_recv X hw (ci := 0) (q := (RX1, TX1, 16)) hk_1 rfl) (As := [.int x1, .int x4]) (rest := []) rfl hl.1 rfl (Nat.le_of_ble_eq_true rfl) dX1_led_26 ⟨(by show _ ≤ MC; omega), (by show _ ≤ MS; omega)⟩) (fun r_11 u_12 H locs h hw => ?_)
          refine lv_bipush (v := (-2)) hx hb dX1_led_29 (by decide) ?_
          refine lv_icmp_eq (tgt := 37) hx hb dX1_led_31 rfl (fun c_14 => ?_) (fun c_14 => ?_)
          · have h := h.1 c_14
            refine lv_iload_n hx hb dX1_led_37 rfl (lv_at hl 3 rfl) ?_
            refine lv_iload_n hx hb dX1_led_38 rfl (lv_at hl 2 rfl) ?_
            refine lv_icmp_ne (tgt := 45) hx hb dX1_led_39 rfl (fun c_13 => ?_) (fun c_13 => ?_)
            · have h := h.2 c_13
              refine lv_iinc (v := x3 + 1) (lv' := [(3, .int (x3 + 1)), (0, .ref a0), (1, .int x1), (2, .int x2), (4, .int x4)]) hx hb dX1_led_45 hl (k := 3) rfl rfl (by decide) rfl (fun ls hl => ?_)
              refine lv_iinc (v := x4 + 1) (lv' := [(4, .int (x4 + 1)), (3, .int (x3 + 1)), (0, .ref a0), (1, .int x1), (2, .int x2)]) hx hb dX1_led_48 hl (k := 4) rfl rfl (by decide) rfl (fun ls hl => ?_)
              refine lv_goto (tgt := 5) hx hb dX1_led_51 rfl ?_
              exact hJ5 _ _ _ _ _ _ _ _ (by omega) (by omega) h hw (lv_sub hl [2, 3, 4, 1, 0] rfl)
            · have h := h.1 c_13
              refine lv_iload hx hb dX1_led_42 (lv_at hl 4 rfl) ?_
              exact vx_ret (g_iret X hw hr h (by omega) (by omega) dX1_led_44)
          · have h := h.2 c_14
            refine lv_goto (tgt := 48) hx hb dX1_led_34 rfl ?_
            refine lv_iinc (v := x4 + 1) (lv' := [(4, .int (x4 + 1)), (0, .ref a0), (1, .int x1), (2, .int x2), (3, .int x3)]) hx hb dX1_led_48 hl (k := 4) rfl rfl (by decide) rfl (fun ls hl => ?_)
            refine lv_goto (tgt := 5) hx hb dX1_led_51 rfl ?_
            exact hJ5 _ _ _ _ _ _ _ _ (by omega) (by omega) h hw (lv_sub hl [1, 2, 3, 4, 0] rfl)
  exact key _ _ _ _ _ _ _ _ _ hc1 hc2 (Nat.lt_succ_self _) h0 hw hl
set_option maxHeartbeats 4000000 in
theorem mX1_led (l : Launch) (hnt : l.stackTraces = false) (G : GT) (u : Hp) (a0 : Nat) (x1 : Int32) (x2 : Int32) (MC MS : Nat) (K : Int32 → Hp → Prop) (E : Nat → Hp → Prop) (h : pX1_led u a0 x1 x2 MC MS K E) : vx_Met l yX1_led (ws_ yX1_led cX1_led 5 (some .int)) (rmX1_led MC MS) (va_Pc [.ref a0, .int x1, .int x2] (GB G u)) (va_Qi K (fun u t => GH G u t.heap) (GA G)) (XE G "java/util/NoSuchElementException" E) MC MS (GA G) := by
  refine vx_ofW (cc := cX1_led) (maxL := 5) (ret := (some .int)) (by decide) rfl ?_
  intro p e s m args below meth c s₁ B hml ht hv
  obtain ⟨rfl, hv⟩ := hv
  have X := Mc_of (own := RX1) B hml rfl hv
  have hw : GW G u s s.heap [] := ⟨hv.2.1, va_S.rf⟩
  have hr := B.returns
  obtain ⟨hx, hb, hml, hown, hts, -⟩ := id X
  have hl := lv_entry ([.ref a0, .int x1, .int x2]) (n := 5) (Nat.le_of_ble_eq_true rfl)
  rw [lg_entry_eq]
  generalize (lg_sl ([.ref a0, .int x1, .int x2]) ++ List.replicate (5 - (lg_sl ([.ref a0, .int x1, .int x2])).length) Slot.unset).toArray = ls at hl ⊢
  have hl : lv_has ls 5 [(0, .ref a0), (1, .int x1), (2, .int x2)] := hl
  change W p l e (rmX1_led MC MS) s m _ below meth c s.heap [] 0 0 (TI G "java/util/NoSuchElementException" below K E _ s MC MS) (F0 m 0 ls [])
  unfold pX1_led at h
  have hc1 : 0 + MC ≤ MC := by omega
  have hc2 : 0 + MS ≤ MS := by omega
  refine lv_iconst (v := 0) hx hb dX1_led_0 (by decide) ?_
  refine lv_istore_n (lv' := [(3, .int 0), (0, .ref a0), (1, .int x1), (2, .int x2)]) hx hb dX1_led_1 rfl hl (by decide) rfl (fun ls hl => ?_)
  refine lv_iconst (v := 0) hx hb dX1_led_2 (by decide) ?_
  refine lv_istore (lv' := [(4, .int 0), (3, .int 0), (0, .ref a0), (1, .int x1), (2, .int x2)]) hx hb dX1_led_3 hl (by decide) rfl (fun ls hl => ?_)
  exact wX1_led_5 X hr hnt ht (by omega) (by omega) h hw (lv_sub hl [2, 3, 4, 1, 0] rfl)

/-! FifthCardLaw.led(LFifthCard;II[J)I -/
theorem ydX0_led : yX0_led.cls = "FifthCardLaw" ∧ yX0_led.cls ≠ "java/lang/invoke/MethodHandle" ∧ yX0_led.cls ≠ "java/lang/invoke/VarHandle" ∧ (parseMethodDescriptor yX0_led.desc).map (fun d => d.parameters.length) = some 4 := by decide +kernel
def rmX0_led (mc ms : Nat) : Room := { frames := 8, cells := mc, slots := ms, locals := 197 }
set_option maxHeartbeats 4000000 in
theorem mX0_led (l : Launch) (hnt : l.stackTraces = false) (G : GT) (u : Hp) (a0 : Nat) (x1 : Int32) (x2 : Int32) (a3 : Nat) (MC MS : Nat) (K : Int32 → Hp → Prop) (h : pX0_led u a0 x1 x2 a3 MC MS K) : Met l yX0_led (wsW_ yX0_led cX0_led 5 (some .int) [((0 : Nat), (10 : Nat), (13 : Nat), (13 : Nat))]) (rmX0_led MC MS) (va_Pc [.ref a0, .int x1, .int x2, .ref a3] (GB G u)) (va_Qi K (fun u t => GH G u t.heap) (GA G)) MC MS (GA G) := by
  refine Met_ofWH (cc := cX0_led) (maxL := 5) (ret := (some .int)) (hh := [((0 : Nat), (10 : Nat), (13 : Nat), (13 : Nat))]) (by decide) rfl ?_
  intro p e s m args below meth c s₁ B hml hv
  obtain ⟨rfl, hv⟩ := hv
  have X := Mc_ofW (own := RX0) B hml rfl hv
  have hw : GW G u s s.heap [] := ⟨hv.2.1, va_S.rf⟩
  have hr := B.returns
  have htab := vx_table (x := yX0_led) B (atoms_spec (ws := wsW_ yX0_led cX0_led 5 (some .int) [((0 : Nat), (10 : Nat), (13 : Nat), (13 : Nat))]) B.pre _ List.mem_cons_self)
  obtain ⟨hx, hb, hml, hown, hts, -⟩ := id X
  have hl := lv_entry ([.ref a0, .int x1, .int x2, .ref a3]) (n := 5) (Nat.le_of_ble_eq_true rfl)
  rw [lg_entry_eq]
  generalize (lg_sl ([.ref a0, .int x1, .int x2, .ref a3]) ++ List.replicate (5 - (lg_sl ([.ref a0, .int x1, .int x2, .ref a3])).length) Slot.unset).toArray = ls at hl ⊢
  have hl : lv_has ls 5 [(0, .ref a0), (1, .int x1), (2, .int x2), (3, .ref a3)] := hl
  change W p l e (rmX0_led MC MS) s m _ below meth c s.heap [] 0 0 (QI G below K _ s MC MS) (F0 m 0 ls [])
  unfold pX0_led at h
  have hc1 : 0 + MC ≤ MC := by omega
  have hc2 : 0 + MS ≤ MS := by omega
  refine lv_aload_n hx hb dX0_led_0 rfl (lv_at hl 3 rfl) ?_
  refine lv_iconst (v := 0) hx hb dX0_led_1 (by decide) ?_
  refine lv_aload_n hx hb dX0_led_2 rfl (lv_at hl 0 rfl) ?_
  refine lv_iload_n hx hb dX0_led_3 rfl (lv_at hl 1 rfl) ?_
  refine lv_iload_n hx hb dX0_led_4 rfl (lv_at hl 2 rfl) ?_
  have hk_5 : kd u a0 = 1 := h.1
  have h := h.2
  obtain ⟨q_1, q_2, hq_3, hq_4, h⟩ := h
  refine g_ccalli X htab (by decide) (by decide) q1418 (List.mem_of_getElem? (i := 1) rfl) hw (g_TV X hw (mX1_led l hnt G _ _ _ _ _ _ _ _ h) 2 (lw_V q1419 q1420 q1421 q122 q1422) rfl rfl ydX1_led ⟨Nat.le_of_ble_eq_true rfl, Nat.le_of_ble_eq_true rfl⟩ (g_recv X hw (ci := 0) (q := (RX1, TX1, 16)) hk_5 rfl) (As := [.int x1, .int x2]) (rest := [.int 0, .ref a3]) rfl hl.1 rfl (Nat.le_of_ble_eq_true rfl) dX0_led_5 ⟨(by show _ ≤ MC; omega), (by show _ ≤ MS; omega)⟩) (fun q_9 u_10 H locs h hw => ?_) (fun r_6 u_7 H locs h hw => ?_)
  · refine lv_astore (lv' := [(4, .ref q_9), (0, .ref a0), (1, .int x1), (2, .int x2), (3, .ref a3)]) hx hb dX0_led_13 hl (by decide) rfl (fun ls hl => ?_)
    refine lv_iconst (v := 1) hx hb dX0_led_15 (by decide) ?_
    exact g_iret X hw hr h (by omega) (by omega) dX0_led_16
  · refine lv_i2l hx hb dX0_led_8 rfl ?_
    have hk_8 : kd u_7 a3 = 105 := h.1
    have h := h.2
    refine g_last X hw hk_8 h.1 dX0_led_9 (fun H locs hw => ?_)
    have h := h.2
    refine lv_goto (tgt := 17) hx hb dX0_led_10 rfl ?_
    refine lv_iconst (v := 0) hx hb dX0_led_17 (by decide) ?_
    exact g_iret X hw hr h (by omega) (by omega) dX0_led_18

/-! THE LAW: FifthCardLaw.law([I)Z -/
theorem g_lt1 {x v : Int32} {lo : Int} (c : x = v) (h : ¬ v.toInt < lo) : ¬ x.toInt < lo := by rw [c]; exact h
theorem g_lt2 {x v : Int32} {hi : Int} (c : x = v) (h : ¬ hi < v.toInt) : ¬ hi < x.toInt := by rw [c]; exact h
theorem g_lt3 {x v : Int32} {lo off : Int} {offs : Array Int} (c : x = v) (h : offs[(v.toInt - lo).toNat]? = some off) : offs[(x.toInt - lo).toNat]? = some off := by rw [c]; exact h
def rmL_law (mc ms : Nat) : Room := { frames := 17, cells := mc, slots := ms, locals := 686 }
set_option maxHeartbeats 4000000 in
theorem wL_law_1552 {G : GT} {p : Program} {l : Launch} {e : Env} {s : State} {m : MethodId} {args : Array Value} {below : List Frame} {meth : Method} {c : Code} {H : Heap} {locs : List Loc} {ls : Array Slot} {cells slots : Nat} {MC MS : Nat} {a0 : Nat} {a1 : Nat} {a2 : Nat} {a3 : Nat} {x4 : Int32} {u : Hp} {mc : Nat} {ms : Nat} {K : Int32 → Hp → Prop} {J23 : Int32 → Hp → Nat → Nat → Prop} (X : Mc G p s m args meth c RX0 cL_law 7) (hr : meth.sig.returnType = (some .boolean)) (hnt : l.stackTraces = false) (hJ23 : ∀ (x4 : Int32) (u : Hp) (mc : Nat) (ms : Nat) (H : Heap) (locs : List Loc) (ls : Array Slot) (cells slots : Nat) , cells + mc ≤ MC → slots + ms ≤ MS → J23 x4 u mc ms → GW G u s H locs → lv_has ls 7 [(0, .ref a0), (1, .ref a1), (2, .ref a2), (3, .ref a3), (4, .int x4)] → W p l e (rmL_law MC MS) s m args below meth c H locs cells slots (QI G below K args s MC MS) (F0 m 23 ls [])) (hc1 : cells + mc ≤ MC) (hc2 : slots + ms ≤ MS) (h : bL_law_1552 K (Glit G) J23 a0 a1 a2 a3 x4 u mc ms) (hw : GW G u s H locs) (hl : lv_has ls 7 [(0, .ref a0), (1, .ref a1), (2, .ref a2), (3, .ref a3), (4, .int x4)]) : W p l e (rmL_law MC MS) s m args below meth c H locs cells slots (QI G below K args s MC MS) (F0 m 1552 ls []) := by
  obtain ⟨hx, hb, hml, hown, hts, -⟩ := id X
  unfold bL_law_1552 at h
  refine lv_aload_n hx hb dL_law_1552 rfl (lv_at hl 1 rfl) ?_
  have hk_1 : kd u a1 = 1 := h.1
  have h := h.2
  refine g_callio hw (g_V X hw (mX1_trouble l G _ _ _ h) 0 (lw_V q1411 q1412 q1413 q122 q1414) rfl rfl ydX1_trouble ⟨Nat.le_of_ble_eq_true rfl, Nat.le_of_ble_eq_true rfl⟩ (g_recv X hw (ci := 0) (q := (RX1, TX1, 16)) hk_1 rfl) (As := []) (rest := []) rfl hl.1 rfl (Nat.le_of_ble_eq_true rfl) dL_law_1553 ⟨(by show _ ≤ MC; omega), (by show _ ≤ MS; omega)⟩) (fun r_2 H locs h hw => ?_)
  refine lv_aload_n hx hb dL_law_1556 rfl (lv_at hl 2 rfl) ?_
  have hk_3 : kd u a2 = 16 := h.1
  have h := h.2
  refine g_calli hw (g_V X hw (mX19_trouble l G _ _ _ h) 0 (lw_V q2220 q2221 q2222 q143 q2223) rfl rfl ydX19_trouble ⟨Nat.le_of_ble_eq_true rfl, Nat.le_of_ble_eq_true rfl⟩ (g_recv X hw (ci := 15) (q := (RX19, TX19, 46)) hk_3 rfl) (As := []) (rest := [.int r_2]) rfl hl.1 rfl (Nat.le_of_ble_eq_true rfl) dL_law_1557 ⟨(by show _ ≤ MC; omega), (by show _ ≤ MS; omega)⟩) (fun r_4 u_5 H locs h hw => ?_)
  refine lv_icmp_eq (tgt := 1565) hx hb dL_law_1560 rfl (fun c_6 => ?_) (fun c_6 => ?_)
  · have h := h.1 c_6
    refine lv_iinc (v := x4 + 6) (lv' := [(4, .int (x4 + 6)), (0, .ref a0), (1, .ref a1), (2, .ref a2), (3, .ref a3)]) hx hb dL_law_1565 hl (k := 4) rfl rfl (by decide) rfl (fun ls hl => ?_)
    refine lv_goto (tgt := 23) hx hb dL_law_1568 rfl ?_
    exact hJ23 _ _ _ _ _ _ _ _ _ (by omega) (by omega) h hw (lv_sub hl [1, 2, 3, 4, 0] rfl)
  · have h := h.2 c_6
    refine lv_iconst (v := 0) hx hb dL_law_1563 (by decide) ?_
    exact g_zret X hw hr rfl h (by omega) (by omega) dL_law_1564
set_option maxHeartbeats 4000000 in
theorem wL_law_1527 {G : GT} {p : Program} {l : Launch} {e : Env} {s : State} {m : MethodId} {args : Array Value} {below : List Frame} {meth : Method} {c : Code} {H : Heap} {locs : List Loc} {ls : Array Slot} {cells slots : Nat} {MC MS : Nat} {a0 : Nat} {a1 : Nat} {a2 : Nat} {a3 : Nat} {x4 : Int32} {u : Hp} {mc : Nat} {ms : Nat} {K : Int32 → Hp → Prop} {J23 : Int32 → Hp → Nat → Nat → Prop} (X : Mc G p s m args meth c RX0 cL_law 7) (hr : meth.sig.returnType = (some .boolean)) (hnt : l.stackTraces = false) (hJ23 : ∀ (x4 : Int32) (u : Hp) (mc : Nat) (ms : Nat) (H : Heap) (locs : List Loc) (ls : Array Slot) (cells slots : Nat) , cells + mc ≤ MC → slots + ms ≤ MS → J23 x4 u mc ms → GW G u s H locs → lv_has ls 7 [(0, .ref a0), (1, .ref a1), (2, .ref a2), (3, .ref a3), (4, .int x4)] → W p l e (rmL_law MC MS) s m args below meth c H locs cells slots (QI G below K args s MC MS) (F0 m 23 ls [])) (hc1 : cells + mc ≤ MC) (hc2 : slots + ms ≤ MS) (h : bL_law_1527 K (Glit G) J23 a0 a1 a2 a3 x4 u mc ms) (hw : GW G u s H locs) (hl : lv_has ls 7 [(0, .ref a0), (1, .ref a1), (2, .ref a2), (3, .ref a3), (4, .int x4)]) : W p l e (rmL_law MC MS) s m args below meth c H locs cells slots (QI G below K args s MC MS) (F0 m 1527 ls []) := by
  obtain ⟨hx, hb, hml, hown, hts, -⟩ := id X
  unfold bL_law_1527 at h
  refine lv_aload_n hx hb dL_law_1527 rfl (lv_at hl 1 rfl) ?_
  refine lv_aload_n hx hb dL_law_1528 rfl (lv_at hl 0 rfl) ?_
  refine lv_iload hx hb dL_law_1529 (lv_at hl 4 rfl) ?_
  refine lv_iconst (v := 1) hx hb dL_law_1531 (by decide) ?_
  refine lv_iadd hx hb dL_law_1532 ?_
  have hk_7 : kd u a0 = 203 := h.1
  have h := h.2
  refine g_sald X hw hk_7 h.1 dL_law_1533 ?_
  have h := h.2
  have hk_8 : kd u a1 = 1 := h.1
  have h := h.2
  refine g_callio hw (g_V X hw (mX1_words l G _ _ _ _ h) 1 (lw_V q1395 q1396 q1397 q122 q1398) rfl rfl ydX1_words ⟨Nat.le_of_ble_eq_true rfl, Nat.le_of_ble_eq_true rfl⟩ (g_recv X hw (ci := 0) (q := (RX1, TX1, 16)) hk_8 rfl) (As := [.int (AI u a0 (tn (x4 + 1)))]) (rest := []) rfl hl.1 rfl (Nat.le_of_ble_eq_true rfl) dL_law_1534 ⟨(by show _ ≤ MC; omega), (by show _ ≤ MS; omega)⟩) (fun r_9 H locs h hw => ?_)
  refine lv_aload_n hx hb dL_law_1537 rfl (lv_at hl 2 rfl) ?_
  refine lv_aload_n hx hb dL_law_1538 rfl (lv_at hl 0 rfl) ?_
  refine lv_iload hx hb dL_law_1539 (lv_at hl 4 rfl) ?_
  refine lv_iconst (v := 1) hx hb dL_law_1541 (by decide) ?_
  refine lv_iadd hx hb dL_law_1542 ?_
  refine g_sald X hw hk_7 h.1 dL_law_1543 ?_
  have h := h.2
  have hk_10 : kd u a2 = 16 := h.1
  have h := h.2
  refine g_calli hw (g_V X hw (mX19_words l G _ _ _ _ h) 1 (lw_V q2216 q2217 q2218 q143 q2219) rfl rfl ydX19_words ⟨Nat.le_of_ble_eq_true rfl, Nat.le_of_ble_eq_true rfl⟩ (g_recv X hw (ci := 15) (q := (RX19, TX19, 46)) hk_10 rfl) (As := [.int (AI u a0 (tn (x4 + 1)))]) (rest := [.int r_9]) rfl hl.1 rfl (Nat.le_of_ble_eq_true rfl) dL_law_1544 ⟨(by show _ ≤ MC; omega), (by show _ ≤ MS; omega)⟩) (fun r_11 u_12 H locs h hw => ?_)
  refine lv_icmp_eq (tgt := 1565) hx hb dL_law_1547 rfl (fun c_13 => ?_) (fun c_13 => ?_)
  · have h := h.1 c_13
    refine lv_iinc (v := x4 + 6) (lv' := [(4, .int (x4 + 6)), (0, .ref a0), (1, .ref a1), (2, .ref a2), (3, .ref a3)]) hx hb dL_law_1565 hl (k := 4) rfl rfl (by decide) rfl (fun ls hl => ?_)
    refine lv_goto (tgt := 23) hx hb dL_law_1568 rfl ?_
    exact hJ23 _ _ _ _ _ _ _ _ _ (by omega) (by omega) h hw (lv_sub hl [1, 2, 3, 4, 0] rfl)
  · have h := h.2 c_13
    refine lv_iconst (v := 0) hx hb dL_law_1550 (by decide) ?_
    exact g_zret X hw hr rfl h (by omega) (by omega) dL_law_1551
set_option maxHeartbeats 4000000 in
theorem wL_law_1502 {G : GT} {p : Program} {l : Launch} {e : Env} {s : State} {m : MethodId} {args : Array Value} {below : List Frame} {meth : Method} {c : Code} {H : Heap} {locs : List Loc} {ls : Array Slot} {cells slots : Nat} {MC MS : Nat} {a0 : Nat} {a1 : Nat} {a2 : Nat} {a3 : Nat} {x4 : Int32} {u : Hp} {mc : Nat} {ms : Nat} {K : Int32 → Hp → Prop} {J23 : Int32 → Hp → Nat → Nat → Prop} (X : Mc G p s m args meth c RX0 cL_law 7) (hr : meth.sig.returnType = (some .boolean)) (hnt : l.stackTraces = false) (hJ23 : ∀ (x4 : Int32) (u : Hp) (mc : Nat) (ms : Nat) (H : Heap) (locs : List Loc) (ls : Array Slot) (cells slots : Nat) , cells + mc ≤ MC → slots + ms ≤ MS → J23 x4 u mc ms → GW G u s H locs → lv_has ls 7 [(0, .ref a0), (1, .ref a1), (2, .ref a2), (3, .ref a3), (4, .int x4)] → W p l e (rmL_law MC MS) s m args below meth c H locs cells slots (QI G below K args s MC MS) (F0 m 23 ls [])) (hc1 : cells + mc ≤ MC) (hc2 : slots + ms ≤ MS) (h : bL_law_1502 K (Glit G) J23 a0 a1 a2 a3 x4 u mc ms) (hw : GW G u s H locs) (hl : lv_has ls 7 [(0, .ref a0), (1, .ref a1), (2, .ref a2), (3, .ref a3), (4, .int x4)]) : W p l e (rmL_law MC MS) s m args below meth c H locs cells slots (QI G below K args s MC MS) (F0 m 1502 ls []) := by
  obtain ⟨hx, hb, hml, hown, hts, -⟩ := id X
  unfold bL_law_1502 at h
  refine lv_aload_n hx hb dL_law_1502 rfl (lv_at hl 1 rfl) ?_
  refine lv_aload_n hx hb dL_law_1503 rfl (lv_at hl 0 rfl) ?_
  refine lv_iload hx hb dL_law_1504 (lv_at hl 4 rfl) ?_
  refine lv_iconst (v := 1) hx hb dL_law_1506 (by decide) ?_
  refine lv_iadd hx hb dL_law_1507 ?_
  have hk_14 : kd u a0 = 203 := h.1
  have h := h.2
  refine g_sald X hw hk_14 h.1 dL_law_1508 ?_
  have h := h.2
  have hk_15 : kd u a1 = 1 := h.1
  have h := h.2
  refine g_callio hw (g_V X hw (mX1_size l G _ _ _ _ h) 1 (lw_V q1391 q1392 q1393 q122 q1394) rfl rfl ydX1_size ⟨Nat.le_of_ble_eq_true rfl, Nat.le_of_ble_eq_true rfl⟩ (g_recv X hw (ci := 0) (q := (RX1, TX1, 16)) hk_15 rfl) (As := [.int (AI u a0 (tn (x4 + 1)))]) (rest := []) rfl hl.1 rfl (Nat.le_of_ble_eq_true rfl) dL_law_1509 ⟨(by show _ ≤ MC; omega), (by show _ ≤ MS; omega)⟩) (fun r_16 H locs h hw => ?_)
  refine lv_aload_n hx hb dL_law_1512 rfl (lv_at hl 2 rfl) ?_
  refine lv_aload_n hx hb dL_law_1513 rfl (lv_at hl 0 rfl) ?_
  refine lv_iload hx hb dL_law_1514 (lv_at hl 4 rfl) ?_
  refine lv_iconst (v := 1) hx hb dL_law_1516 (by decide) ?_
  refine lv_iadd hx hb dL_law_1517 ?_
  refine g_sald X hw hk_14 h.1 dL_law_1518 ?_
  have h := h.2
  have hk_17 : kd u a2 = 16 := h.1
  have h := h.2
  refine g_calli hw (g_V X hw (mX19_size l G _ _ _ _ h) 1 (lw_V q2212 q2213 q2214 q143 q2215) rfl rfl ydX19_size ⟨Nat.le_of_ble_eq_true rfl, Nat.le_of_ble_eq_true rfl⟩ (g_recv X hw (ci := 15) (q := (RX19, TX19, 46)) hk_17 rfl) (As := [.int (AI u a0 (tn (x4 + 1)))]) (rest := [.int r_16]) rfl hl.1 rfl (Nat.le_of_ble_eq_true rfl) dL_law_1519 ⟨(by show _ ≤ MC; omega), (by show _ ≤ MS; omega)⟩) (fun r_18 u_19 H locs h hw => ?_)
  refine lv_icmp_eq (tgt := 1565) hx hb dL_law_1522 rfl (fun c_20 => ?_) (fun c_20 => ?_)
  · have h := h.1 c_20
    refine lv_iinc (v := x4 + 6) (lv' := [(4, .int (x4 + 6)), (0, .ref a0), (1, .ref a1), (2, .ref a2), (3, .ref a3)]) hx hb dL_law_1565 hl (k := 4) rfl rfl (by decide) rfl (fun ls hl => ?_)
    refine lv_goto (tgt := 23) hx hb dL_law_1568 rfl ?_
    exact hJ23 _ _ _ _ _ _ _ _ _ (by omega) (by omega) h hw (lv_sub hl [1, 2, 3, 4, 0] rfl)
  · have h := h.2 c_20
    refine lv_iconst (v := 0) hx hb dL_law_1525 (by decide) ?_
    exact g_zret X hw hr rfl h (by omega) (by omega) dL_law_1526
set_option maxHeartbeats 4000000 in
theorem wL_law_1434 {G : GT} {p : Program} {l : Launch} {e : Env} {s : State} {m : MethodId} {args : Array Value} {below : List Frame} {meth : Method} {c : Code} {H : Heap} {locs : List Loc} {ls : Array Slot} {cells slots : Nat} {MC MS : Nat} {a0 : Nat} {a1 : Nat} {a2 : Nat} {a3 : Nat} {x4 : Int32} {u : Hp} {mc : Nat} {ms : Nat} {K : Int32 → Hp → Prop} {J23 : Int32 → Hp → Nat → Nat → Prop} (X : Mc G p s m args meth c RX0 cL_law 7) (hr : meth.sig.returnType = (some .boolean)) (hnt : l.stackTraces = false) (hJ23 : ∀ (x4 : Int32) (u : Hp) (mc : Nat) (ms : Nat) (H : Heap) (locs : List Loc) (ls : Array Slot) (cells slots : Nat) , cells + mc ≤ MC → slots + ms ≤ MS → J23 x4 u mc ms → GW G u s H locs → lv_has ls 7 [(0, .ref a0), (1, .ref a1), (2, .ref a2), (3, .ref a3), (4, .int x4)] → W p l e (rmL_law MC MS) s m args below meth c H locs cells slots (QI G below K args s MC MS) (F0 m 23 ls [])) (hc1 : cells + mc ≤ MC) (hc2 : slots + ms ≤ MS) (h : bL_law_1434 K (Glit G) J23 a0 a1 a2 a3 x4 u mc ms) (hw : GW G u s H locs) (hl : lv_has ls 7 [(0, .ref a0), (1, .ref a1), (2, .ref a2), (3, .ref a3), (4, .int x4)]) : W p l e (rmL_law MC MS) s m args below meth c H locs cells slots (QI G below K args s MC MS) (F0 m 1434 ls []) := by
  obtain ⟨hx, hb, hml, hown, hts, -⟩ := id X
  unfold bL_law_1434 at h
  refine lv_aload_n hx hb dL_law_1434 rfl (lv_at hl 1 rfl) ?_
  refine lv_aload_n hx hb dL_law_1435 rfl (lv_at hl 0 rfl) ?_
  refine lv_iload hx hb dL_law_1436 (lv_at hl 4 rfl) ?_
  refine lv_iconst (v := 1) hx hb dL_law_1438 (by decide) ?_
  refine lv_iadd hx hb dL_law_1439 ?_
  have hk_21 : kd u a0 = 203 := h.1
  have h := h.2
  refine g_sald X hw hk_21 h.1 dL_law_1440 ?_
  have h := h.2
  refine lv_aload_n hx hb dL_law_1441 rfl (lv_at hl 0 rfl) ?_
  refine lv_iload hx hb dL_law_1442 (lv_at hl 4 rfl) ?_
  refine lv_iconst (v := 2) hx hb dL_law_1444 (by decide) ?_
  refine lv_iadd hx hb dL_law_1445 ?_
  refine g_sald X hw hk_21 h.1 dL_law_1446 ?_
  have h := h.2
  refine lv_aload_n hx hb dL_law_1447 rfl (lv_at hl 3 rfl) ?_
  obtain ⟨q_22, q_23, hq_24, hq_25, h⟩ := h
  refine g_calli hw (g_SW (C := "FifthCardLaw") X hw (mX0_led l hnt G _ _ _ _ _ _ _ _ h) 4 (lw_SW q1415 q1416 q121 q1417) rfl rfl ydX0_led ⟨Nat.le_of_ble_eq_true rfl, Nat.le_of_ble_eq_true rfl⟩ (As := [.ref a1, .int (AI u a0 (tn (x4 + 1))), .int (AI u a0 (tn (x4 + 2))), .ref a3]) (rest := []) rfl hl.1 rfl (Nat.le_of_ble_eq_true rfl) dL_law_1448 ⟨(by show _ ≤ MC; omega), (by show _ ≤ MS; omega)⟩) (fun r_26 u_27 H locs h hw => ?_)
  refine lv_istore (lv' := [(5, .int r_26), (0, .ref a0), (1, .ref a1), (2, .ref a2), (3, .ref a3), (4, .int x4)]) hx hb dL_law_1451 hl (by decide) rfl (fun ls hl => ?_)
  refine lv_aload_n hx hb dL_law_1453 rfl (lv_at hl 3 rfl) ?_
  refine lv_aload_n hx hb dL_law_1454 rfl (lv_at hl 1 rfl) ?_
  refine lv_iload hx hb dL_law_1455 (lv_at hl 5 rfl) ?_
  refine lv_iconst (v := 1) hx hb dL_law_1457 (by decide) ?_
  refine lv_iadd hx hb dL_law_1458 ?_
  have hk_28 : kd u_27 a0 = 203 := h.1
  have h := h.2
  refine g_sald X hw hk_28 h.1 dL_law_1459 ?_
  have h := h.2
  refine lv_aload_n hx hb dL_law_1460 rfl (lv_at hl 1 rfl) ?_
  refine lv_iload hx hb dL_law_1461 (lv_at hl 5 rfl) ?_
  refine lv_iconst (v := 2) hx hb dL_law_1463 (by decide) ?_
  refine lv_iadd hx hb dL_law_1464 ?_
  refine g_sald X hw hk_28 h.1 dL_law_1465 ?_
  have h := h.2
  have hk_29 : kd u_27 a2 = 16 := h.1
  have h := h.2
  refine g_calli hw (g_V X hw (mX19_led l G _ _ _ _ _ h) 2 (lw_V q2208 q2209 q2210 q143 q2211) rfl rfl ydX19_led ⟨Nat.le_of_ble_eq_true rfl, Nat.le_of_ble_eq_true rfl⟩ (g_recv X hw (ci := 15) (q := (RX19, TX19, 46)) hk_29 rfl) (As := [.int (AI u_27 a0 (tn (x4 + 1))), .int (AI u_27 a0 (tn (x4 + 2)))]) (rest := []) rfl hl.1 rfl (Nat.le_of_ble_eq_true rfl) dL_law_1466 ⟨(by show _ ≤ MC; omega), (by show _ ≤ MS; omega)⟩) (fun r_30 u_31 H locs h hw => ?_)
  refine lv_istore (lv' := [(6, .int r_30), (5, .int r_26), (0, .ref a0), (1, .ref a1), (2, .ref a2), (3, .ref a3), (4, .int x4)]) hx hb dL_law_1469 hl (by decide) rfl (fun ls hl => ?_)
  refine lv_aload_n hx hb dL_law_1471 rfl (lv_at hl 4 rfl) ?_
  have hk_32 : kd u_31 a2 = 16 := h.1
  have h := h.2
  refine g_callio hw (g_V X hw (mX19_thrown l G _ _ _ h) 0 (lw_V q1591 q1592 q1593 q143 q1594) rfl rfl ydX19_thrown ⟨Nat.le_of_ble_eq_true rfl, Nat.le_of_ble_eq_true rfl⟩ (g_recv X hw (ci := 15) (q := (RX19, TX19, 46)) hk_32 rfl) (As := []) (rest := []) rfl hl.1 rfl (Nat.le_of_ble_eq_true rfl) dL_law_1472 ⟨(by show _ ≤ MC; omega), (by show _ ≤ MS; omega)⟩) (fun r_33 H locs h hw => ?_)
  refine lv_iload hx hb dL_law_1475 (lv_at hl 1 rfl) ?_
  refine lv_icmp_eq (tgt := 1482) hx hb dL_law_1477 rfl (fun c_37 => ?_) (fun c_37 => ?_)
  · have h := h.1 c_37
    refine lv_iload hx hb dL_law_1482 (lv_at hl 1 rfl) ?_
    refine lv_if_ne (tgt := 1499) hx hb dL_law_1484 rfl (fun c_36 => ?_) (fun c_36 => ?_)
    · have h := h.2 c_36
      refine lv_goto (tgt := 1565) hx hb dL_law_1499 rfl ?_
      refine lv_iinc (v := x4 + 6) (lv' := [(4, .int (x4 + 6)), (6, .int r_30), (5, .int r_26), (0, .ref a0), (1, .ref a1), (2, .ref a2), (3, .ref a3)]) hx hb dL_law_1565 hl (k := 6) rfl rfl (by decide) rfl (fun ls hl => ?_)
      refine lv_goto (tgt := 23) hx hb dL_law_1568 rfl ?_
      exact hJ23 _ _ _ _ _ _ _ _ _ (by omega) (by omega) h hw (lv_sub hl [3, 4, 5, 6, 0] rfl)
    · have h := h.1 c_36
      refine lv_aload_n hx hb dL_law_1487 rfl (lv_at hl 5 rfl) ?_
      refine lv_iconst (v := 0) hx hb dL_law_1488 (by decide) ?_
      have hk_34 : kd u_31 a3 = 105 := h.1
      have h := h.2
      refine g_lald X hw hk_34 h.1 dL_law_1489 ?_
      have h := h.2
      refine lv_iload hx hb dL_law_1490 (lv_at hl 0 rfl) ?_
      refine lv_i2l hx hb dL_law_1492 rfl ?_
      refine W.lcmp hx hb dL_law_1493 ?_
      refine lv_if_eq (tgt := 1499) hx hb dL_law_1494 rfl (fun c_35 => ?_) (fun c_35 => ?_)
      · have h := h.1 c_35
        refine lv_goto (tgt := 1565) hx hb dL_law_1499 rfl ?_
        refine lv_iinc (v := x4 + 6) (lv' := [(4, .int (x4 + 6)), (6, .int r_30), (5, .int r_26), (0, .ref a0), (1, .ref a1), (2, .ref a2), (3, .ref a3)]) hx hb dL_law_1565 hl (k := 6) rfl rfl (by decide) rfl (fun ls hl => ?_)
        refine lv_goto (tgt := 23) hx hb dL_law_1568 rfl ?_
        exact hJ23 _ _ _ _ _ _ _ _ _ (by omega) (by omega) h hw (lv_sub hl [3, 4, 5, 6, 0] rfl)
      · have h := h.2 c_35
        refine lv_iconst (v := 0) hx hb dL_law_1497 (by decide) ?_
        exact g_zret X hw hr rfl h (by omega) (by omega) dL_law_1498
  · have h := h.2 c_37
    refine lv_iconst (v := 0) hx hb dL_law_1480 (by decide) ?_
    exact g_zret X hw hr rfl h (by omega) (by omega) dL_law_1481
set_option maxHeartbeats 4000000 in
theorem wL_law_1409 {G : GT} {p : Program} {l : Launch} {e : Env} {s : State} {m : MethodId} {args : Array Value} {below : List Frame} {meth : Method} {c : Code} {H : Heap} {locs : List Loc} {ls : Array Slot} {cells slots : Nat} {MC MS : Nat} {a0 : Nat} {a1 : Nat} {a2 : Nat} {a3 : Nat} {x4 : Int32} {u : Hp} {mc : Nat} {ms : Nat} {K : Int32 → Hp → Prop} {J23 : Int32 → Hp → Nat → Nat → Prop} (X : Mc G p s m args meth c RX0 cL_law 7) (hr : meth.sig.returnType = (some .boolean)) (hnt : l.stackTraces = false) (hJ23 : ∀ (x4 : Int32) (u : Hp) (mc : Nat) (ms : Nat) (H : Heap) (locs : List Loc) (ls : Array Slot) (cells slots : Nat) , cells + mc ≤ MC → slots + ms ≤ MS → J23 x4 u mc ms → GW G u s H locs → lv_has ls 7 [(0, .ref a0), (1, .ref a1), (2, .ref a2), (3, .ref a3), (4, .int x4)] → W p l e (rmL_law MC MS) s m args below meth c H locs cells slots (QI G below K args s MC MS) (F0 m 23 ls [])) (hc1 : cells + mc ≤ MC) (hc2 : slots + ms ≤ MS) (h : bL_law_1409 K (Glit G) J23 a0 a1 a2 a3 x4 u mc ms) (hw : GW G u s H locs) (hl : lv_has ls 7 [(0, .ref a0), (1, .ref a1), (2, .ref a2), (3, .ref a3), (4, .int x4)]) : W p l e (rmL_law MC MS) s m args below meth c H locs cells slots (QI G below K args s MC MS) (F0 m 1409 ls []) := by
  obtain ⟨hx, hb, hml, hown, hts, -⟩ := id X
  unfold bL_law_1409 at h
  refine lv_aload_n hx hb dL_law_1409 rfl (lv_at hl 1 rfl) ?_
  refine lv_aload_n hx hb dL_law_1410 rfl (lv_at hl 0 rfl) ?_
  refine lv_iload hx hb dL_law_1411 (lv_at hl 4 rfl) ?_
  refine lv_iconst (v := 1) hx hb dL_law_1413 (by decide) ?_
  refine lv_iadd hx hb dL_law_1414 ?_
  have hk_38 : kd u a0 = 203 := h.1
  have h := h.2
  refine g_sald X hw hk_38 h.1 dL_law_1415 ?_
  have h := h.2
  have hk_39 : kd u a1 = 1 := h.1
  have h := h.2
  refine g_calli hw (g_V X hw (mX1_back l G _ _ _ _ h) 1 (lw_V q1387 q1388 q1389 q122 q1390) rfl rfl ydX1_back ⟨Nat.le_of_ble_eq_true rfl, Nat.le_of_ble_eq_true rfl⟩ (g_recv X hw (ci := 0) (q := (RX1, TX1, 16)) hk_39 rfl) (As := [.int (AI u a0 (tn (x4 + 1)))]) (rest := []) rfl hl.1 rfl (Nat.le_of_ble_eq_true rfl) dL_law_1416 ⟨(by show _ ≤ MC; omega), (by show _ ≤ MS; omega)⟩) (fun r_40 u_41 H locs h hw => ?_)
  refine lv_aload_n hx hb dL_law_1419 rfl (lv_at hl 2 rfl) ?_
  refine lv_aload_n hx hb dL_law_1420 rfl (lv_at hl 0 rfl) ?_
  refine lv_iload hx hb dL_law_1421 (lv_at hl 4 rfl) ?_
  refine lv_iconst (v := 1) hx hb dL_law_1423 (by decide) ?_
  refine lv_iadd hx hb dL_law_1424 ?_
  have hk_42 : kd u_41 a0 = 203 := h.1
  have h := h.2
  refine g_sald X hw hk_42 h.1 dL_law_1425 ?_
  have h := h.2
  have hk_43 : kd u_41 a2 = 16 := h.1
  have h := h.2
  refine g_calli hw (g_V X hw (mX19_back l G _ _ _ _ h) 1 (lw_V q2204 q2205 q2206 q143 q2207) rfl rfl ydX19_back ⟨Nat.le_of_ble_eq_true rfl, Nat.le_of_ble_eq_true rfl⟩ (g_recv X hw (ci := 15) (q := (RX19, TX19, 46)) hk_43 rfl) (As := [.int (AI u_41 a0 (tn (x4 + 1)))]) (rest := [.int r_40]) rfl hl.1 rfl (Nat.le_of_ble_eq_true rfl) dL_law_1426 ⟨(by show _ ≤ MC; omega), (by show _ ≤ MS; omega)⟩) (fun r_44 u_45 H locs h hw => ?_)
  refine lv_icmp_eq (tgt := 1565) hx hb dL_law_1429 rfl (fun c_46 => ?_) (fun c_46 => ?_)
  · have h := h.1 c_46
    refine lv_iinc (v := x4 + 6) (lv' := [(4, .int (x4 + 6)), (0, .ref a0), (1, .ref a1), (2, .ref a2), (3, .ref a3)]) hx hb dL_law_1565 hl (k := 4) rfl rfl (by decide) rfl (fun ls hl => ?_)
    refine lv_goto (tgt := 23) hx hb dL_law_1568 rfl ?_
    exact hJ23 _ _ _ _ _ _ _ _ _ (by omega) (by omega) h hw (lv_sub hl [1, 2, 3, 4, 0] rfl)
  · have h := h.2 c_46
    refine lv_iconst (v := 0) hx hb dL_law_1432 (by decide) ?_
    exact g_zret X hw hr rfl h (by omega) (by omega) dL_law_1433
set_option maxHeartbeats 4000000 in
theorem wL_law_1396 {G : GT} {p : Program} {l : Launch} {e : Env} {s : State} {m : MethodId} {args : Array Value} {below : List Frame} {meth : Method} {c : Code} {H : Heap} {locs : List Loc} {ls : Array Slot} {cells slots : Nat} {MC MS : Nat} {a0 : Nat} {a1 : Nat} {a2 : Nat} {a3 : Nat} {x4 : Int32} {u : Hp} {mc : Nat} {ms : Nat} {K : Int32 → Hp → Prop} {J23 : Int32 → Hp → Nat → Nat → Prop} (X : Mc G p s m args meth c RX0 cL_law 7) (hr : meth.sig.returnType = (some .boolean)) (hnt : l.stackTraces = false) (hJ23 : ∀ (x4 : Int32) (u : Hp) (mc : Nat) (ms : Nat) (H : Heap) (locs : List Loc) (ls : Array Slot) (cells slots : Nat) , cells + mc ≤ MC → slots + ms ≤ MS → J23 x4 u mc ms → GW G u s H locs → lv_has ls 7 [(0, .ref a0), (1, .ref a1), (2, .ref a2), (3, .ref a3), (4, .int x4)] → W p l e (rmL_law MC MS) s m args below meth c H locs cells slots (QI G below K args s MC MS) (F0 m 23 ls [])) (hc1 : cells + mc ≤ MC) (hc2 : slots + ms ≤ MS) (h : bL_law_1396 K (Glit G) J23 a0 a1 a2 a3 x4 u mc ms) (hw : GW G u s H locs) (hl : lv_has ls 7 [(0, .ref a0), (1, .ref a1), (2, .ref a2), (3, .ref a3), (4, .int x4)]) : W p l e (rmL_law MC MS) s m args below meth c H locs cells slots (QI G below K args s MC MS) (F0 m 1396 ls []) := by
  obtain ⟨hx, hb, hml, hown, hts, -⟩ := id X
  unfold bL_law_1396 at h
  refine lv_aload_n hx hb dL_law_1396 rfl (lv_at hl 1 rfl) ?_
  have hk_47 : kd u a1 = 1 := h.1
  have h := h.2
  refine g_calli hw (g_V X hw (mX1_image l G _ _ _ h) 0 (lw_V q1376 q1377 q1378 q122 q1379) rfl rfl ydX1_image ⟨Nat.le_of_ble_eq_true rfl, Nat.le_of_ble_eq_true rfl⟩ (g_recv X hw (ci := 0) (q := (RX1, TX1, 16)) hk_47 rfl) (As := []) (rest := []) rfl hl.1 rfl (Nat.le_of_ble_eq_true rfl) dL_law_1397 ⟨(by show _ ≤ MC; omega), (by show _ ≤ MS; omega)⟩) (fun r_48 u_49 H locs h hw => ?_)
  refine lv_aload_n hx hb dL_law_1400 rfl (lv_at hl 2 rfl) ?_
  have hk_50 : kd u_49 a2 = 16 := h.1
  have h := h.2
  refine g_calli hw (g_V X hw (mX19_image l G _ _ _ h) 0 (lw_V q2200 q2201 q2202 q143 q2203) rfl rfl ydX19_image ⟨Nat.le_of_ble_eq_true rfl, Nat.le_of_ble_eq_true rfl⟩ (g_recv X hw (ci := 15) (q := (RX19, TX19, 46)) hk_50 rfl) (As := []) (rest := [.int r_48]) rfl hl.1 rfl (Nat.le_of_ble_eq_true rfl) dL_law_1401 ⟨(by show _ ≤ MC; omega), (by show _ ≤ MS; omega)⟩) (fun r_51 u_52 H locs h hw => ?_)
  refine lv_icmp_eq (tgt := 1565) hx hb dL_law_1404 rfl (fun c_53 => ?_) (fun c_53 => ?_)
  · have h := h.1 c_53
    refine lv_iinc (v := x4 + 6) (lv' := [(4, .int (x4 + 6)), (0, .ref a0), (1, .ref a1), (2, .ref a2), (3, .ref a3)]) hx hb dL_law_1565 hl (k := 4) rfl rfl (by decide) rfl (fun ls hl => ?_)
    refine lv_goto (tgt := 23) hx hb dL_law_1568 rfl ?_
    exact hJ23 _ _ _ _ _ _ _ _ _ (by omega) (by omega) h hw (lv_sub hl [1, 2, 3, 4, 0] rfl)
  · have h := h.2 c_53
    refine lv_iconst (v := 0) hx hb dL_law_1407 (by decide) ?_
    exact g_zret X hw hr rfl h (by omega) (by omega) dL_law_1408
set_option maxHeartbeats 4000000 in
theorem wL_law_1383 {G : GT} {p : Program} {l : Launch} {e : Env} {s : State} {m : MethodId} {args : Array Value} {below : List Frame} {meth : Method} {c : Code} {H : Heap} {locs : List Loc} {ls : Array Slot} {cells slots : Nat} {MC MS : Nat} {a0 : Nat} {a1 : Nat} {a2 : Nat} {a3 : Nat} {x4 : Int32} {u : Hp} {mc : Nat} {ms : Nat} {K : Int32 → Hp → Prop} {J23 : Int32 → Hp → Nat → Nat → Prop} (X : Mc G p s m args meth c RX0 cL_law 7) (hr : meth.sig.returnType = (some .boolean)) (hnt : l.stackTraces = false) (hJ23 : ∀ (x4 : Int32) (u : Hp) (mc : Nat) (ms : Nat) (H : Heap) (locs : List Loc) (ls : Array Slot) (cells slots : Nat) , cells + mc ≤ MC → slots + ms ≤ MS → J23 x4 u mc ms → GW G u s H locs → lv_has ls 7 [(0, .ref a0), (1, .ref a1), (2, .ref a2), (3, .ref a3), (4, .int x4)] → W p l e (rmL_law MC MS) s m args below meth c H locs cells slots (QI G below K args s MC MS) (F0 m 23 ls [])) (hc1 : cells + mc ≤ MC) (hc2 : slots + ms ≤ MS) (h : bL_law_1383 K (Glit G) J23 a0 a1 a2 a3 x4 u mc ms) (hw : GW G u s H locs) (hl : lv_has ls 7 [(0, .ref a0), (1, .ref a1), (2, .ref a2), (3, .ref a3), (4, .int x4)]) : W p l e (rmL_law MC MS) s m args below meth c H locs cells slots (QI G below K args s MC MS) (F0 m 1383 ls []) := by
  obtain ⟨hx, hb, hml, hown, hts, -⟩ := id X
  unfold bL_law_1383 at h
  refine lv_aload_n hx hb dL_law_1383 rfl (lv_at hl 1 rfl) ?_
  have hk_54 : kd u a1 = 1 := h.1
  have h := h.2
  refine g_calli hw (g_V X hw (mX1_strike l G _ _ _ h) 0 (lw_V q1372 q1373 q1374 q122 q1375) rfl rfl ydX1_strike ⟨Nat.le_of_ble_eq_true rfl, Nat.le_of_ble_eq_true rfl⟩ (g_recv X hw (ci := 0) (q := (RX1, TX1, 16)) hk_54 rfl) (As := []) (rest := []) rfl hl.1 rfl (Nat.le_of_ble_eq_true rfl) dL_law_1384 ⟨(by show _ ≤ MC; omega), (by show _ ≤ MS; omega)⟩) (fun r_55 u_56 H locs h hw => ?_)
  refine lv_aload_n hx hb dL_law_1387 rfl (lv_at hl 2 rfl) ?_
  have hk_57 : kd u_56 a2 = 16 := h.1
  have h := h.2
  refine g_calli hw (g_V X hw (mX19_strike l G _ _ _ h) 0 (lw_V q2196 q2197 q2198 q143 q2199) rfl rfl ydX19_strike ⟨Nat.le_of_ble_eq_true rfl, Nat.le_of_ble_eq_true rfl⟩ (g_recv X hw (ci := 15) (q := (RX19, TX19, 46)) hk_57 rfl) (As := []) (rest := [.int r_55]) rfl hl.1 rfl (Nat.le_of_ble_eq_true rfl) dL_law_1388 ⟨(by show _ ≤ MC; omega), (by show _ ≤ MS; omega)⟩) (fun r_58 u_59 H locs h hw => ?_)
  refine lv_icmp_eq (tgt := 1565) hx hb dL_law_1391 rfl (fun c_60 => ?_) (fun c_60 => ?_)
  · have h := h.1 c_60
    refine lv_iinc (v := x4 + 6) (lv' := [(4, .int (x4 + 6)), (0, .ref a0), (1, .ref a1), (2, .ref a2), (3, .ref a3)]) hx hb dL_law_1565 hl (k := 4) rfl rfl (by decide) rfl (fun ls hl => ?_)
    refine lv_goto (tgt := 23) hx hb dL_law_1568 rfl ?_
    exact hJ23 _ _ _ _ _ _ _ _ _ (by omega) (by omega) h hw (lv_sub hl [1, 2, 3, 4, 0] rfl)
  · have h := h.2 c_60
    refine lv_iconst (v := 0) hx hb dL_law_1394 (by decide) ?_
    exact g_zret X hw hr rfl h (by omega) (by omega) dL_law_1395
set_option maxHeartbeats 4000000 in
theorem wL_law_1370 {G : GT} {p : Program} {l : Launch} {e : Env} {s : State} {m : MethodId} {args : Array Value} {below : List Frame} {meth : Method} {c : Code} {H : Heap} {locs : List Loc} {ls : Array Slot} {cells slots : Nat} {MC MS : Nat} {a0 : Nat} {a1 : Nat} {a2 : Nat} {a3 : Nat} {x4 : Int32} {u : Hp} {mc : Nat} {ms : Nat} {K : Int32 → Hp → Prop} {J23 : Int32 → Hp → Nat → Nat → Prop} (X : Mc G p s m args meth c RX0 cL_law 7) (hr : meth.sig.returnType = (some .boolean)) (hnt : l.stackTraces = false) (hJ23 : ∀ (x4 : Int32) (u : Hp) (mc : Nat) (ms : Nat) (H : Heap) (locs : List Loc) (ls : Array Slot) (cells slots : Nat) , cells + mc ≤ MC → slots + ms ≤ MS → J23 x4 u mc ms → GW G u s H locs → lv_has ls 7 [(0, .ref a0), (1, .ref a1), (2, .ref a2), (3, .ref a3), (4, .int x4)] → W p l e (rmL_law MC MS) s m args below meth c H locs cells slots (QI G below K args s MC MS) (F0 m 23 ls [])) (hc1 : cells + mc ≤ MC) (hc2 : slots + ms ≤ MS) (h : bL_law_1370 K (Glit G) J23 a0 a1 a2 a3 x4 u mc ms) (hw : GW G u s H locs) (hl : lv_has ls 7 [(0, .ref a0), (1, .ref a1), (2, .ref a2), (3, .ref a3), (4, .int x4)]) : W p l e (rmL_law MC MS) s m args below meth c H locs cells slots (QI G below K args s MC MS) (F0 m 1370 ls []) := by
  obtain ⟨hx, hb, hml, hown, hts, -⟩ := id X
  unfold bL_law_1370 at h
  refine lv_aload_n hx hb dL_law_1370 rfl (lv_at hl 1 rfl) ?_
  have hk_61 : kd u a1 = 1 := h.1
  have h := h.2
  refine g_calli hw (g_V X hw (mX1_draw l G _ _ _ h) 0 (lw_V q1367 q1368 q1369 q122 q1370) rfl rfl ydX1_draw ⟨Nat.le_of_ble_eq_true rfl, Nat.le_of_ble_eq_true rfl⟩ (g_recv X hw (ci := 0) (q := (RX1, TX1, 16)) hk_61 rfl) (As := []) (rest := []) rfl hl.1 rfl (Nat.le_of_ble_eq_true rfl) dL_law_1371 ⟨(by show _ ≤ MC; omega), (by show _ ≤ MS; omega)⟩) (fun r_62 u_63 H locs h hw => ?_)
  refine lv_aload_n hx hb dL_law_1374 rfl (lv_at hl 2 rfl) ?_
  have hk_64 : kd u_63 a2 = 16 := h.1
  have h := h.2
  refine g_calli hw (g_V X hw (mX19_draw l G _ _ _ h) 0 (lw_V q2189 q2190 q2191 q143 q2192) rfl rfl ydX19_draw ⟨Nat.le_of_ble_eq_true rfl, Nat.le_of_ble_eq_true rfl⟩ (g_recv X hw (ci := 15) (q := (RX19, TX19, 46)) hk_64 rfl) (As := []) (rest := [.int r_62]) rfl hl.1 rfl (Nat.le_of_ble_eq_true rfl) dL_law_1375 ⟨(by show _ ≤ MC; omega), (by show _ ≤ MS; omega)⟩) (fun r_65 u_66 H locs h hw => ?_)
  refine lv_icmp_eq (tgt := 1565) hx hb dL_law_1378 rfl (fun c_67 => ?_) (fun c_67 => ?_)
  · have h := h.1 c_67
    refine lv_iinc (v := x4 + 6) (lv' := [(4, .int (x4 + 6)), (0, .ref a0), (1, .ref a1), (2, .ref a2), (3, .ref a3)]) hx hb dL_law_1565 hl (k := 4) rfl rfl (by decide) rfl (fun ls hl => ?_)
    refine lv_goto (tgt := 23) hx hb dL_law_1568 rfl ?_
    exact hJ23 _ _ _ _ _ _ _ _ _ (by omega) (by omega) h hw (lv_sub hl [1, 2, 3, 4, 0] rfl)
  · have h := h.2 c_67
    refine lv_iconst (v := 0) hx hb dL_law_1381 (by decide) ?_
    exact g_zret X hw hr rfl h (by omega) (by omega) dL_law_1382
set_option maxHeartbeats 4000000 in
theorem wL_law_1345 {G : GT} {p : Program} {l : Launch} {e : Env} {s : State} {m : MethodId} {args : Array Value} {below : List Frame} {meth : Method} {c : Code} {H : Heap} {locs : List Loc} {ls : Array Slot} {cells slots : Nat} {MC MS : Nat} {a0 : Nat} {a1 : Nat} {a2 : Nat} {a3 : Nat} {x4 : Int32} {u : Hp} {mc : Nat} {ms : Nat} {K : Int32 → Hp → Prop} {J23 : Int32 → Hp → Nat → Nat → Prop} (X : Mc G p s m args meth c RX0 cL_law 7) (hr : meth.sig.returnType = (some .boolean)) (hnt : l.stackTraces = false) (hJ23 : ∀ (x4 : Int32) (u : Hp) (mc : Nat) (ms : Nat) (H : Heap) (locs : List Loc) (ls : Array Slot) (cells slots : Nat) , cells + mc ≤ MC → slots + ms ≤ MS → J23 x4 u mc ms → GW G u s H locs → lv_has ls 7 [(0, .ref a0), (1, .ref a1), (2, .ref a2), (3, .ref a3), (4, .int x4)] → W p l e (rmL_law MC MS) s m args below meth c H locs cells slots (QI G below K args s MC MS) (F0 m 23 ls [])) (hc1 : cells + mc ≤ MC) (hc2 : slots + ms ≤ MS) (h : bL_law_1345 K (Glit G) J23 a0 a1 a2 a3 x4 u mc ms) (hw : GW G u s H locs) (hl : lv_has ls 7 [(0, .ref a0), (1, .ref a1), (2, .ref a2), (3, .ref a3), (4, .int x4)]) : W p l e (rmL_law MC MS) s m args below meth c H locs cells slots (QI G below K args s MC MS) (F0 m 1345 ls []) := by
  obtain ⟨hx, hb, hml, hown, hts, -⟩ := id X
  unfold bL_law_1345 at h
  refine lv_aload_n hx hb dL_law_1345 rfl (lv_at hl 1 rfl) ?_
  refine lv_aload_n hx hb dL_law_1346 rfl (lv_at hl 0 rfl) ?_
  refine lv_iload hx hb dL_law_1347 (lv_at hl 4 rfl) ?_
  refine lv_iconst (v := 1) hx hb dL_law_1349 (by decide) ?_
  refine lv_iadd hx hb dL_law_1350 ?_
  have hk_68 : kd u a0 = 203 := h.1
  have h := h.2
  refine g_sald X hw hk_68 h.1 dL_law_1351 ?_
  have h := h.2
  have hk_69 : kd u a1 = 1 := h.1
  have h := h.2
  refine g_calli hw (g_V X hw (mX1_seed l G _ _ _ _ h) 1 (lw_V q1358 q1359 q1360 q122 q1361) rfl rfl ydX1_seed ⟨Nat.le_of_ble_eq_true rfl, Nat.le_of_ble_eq_true rfl⟩ (g_recv X hw (ci := 0) (q := (RX1, TX1, 16)) hk_69 rfl) (As := [.int (AI u a0 (tn (x4 + 1)))]) (rest := []) rfl hl.1 rfl (Nat.le_of_ble_eq_true rfl) dL_law_1352 ⟨(by show _ ≤ MC; omega), (by show _ ≤ MS; omega)⟩) (fun r_70 u_71 H locs h hw => ?_)
  refine lv_aload_n hx hb dL_law_1355 rfl (lv_at hl 2 rfl) ?_
  refine lv_aload_n hx hb dL_law_1356 rfl (lv_at hl 0 rfl) ?_
  refine lv_iload hx hb dL_law_1357 (lv_at hl 4 rfl) ?_
  refine lv_iconst (v := 1) hx hb dL_law_1359 (by decide) ?_
  refine lv_iadd hx hb dL_law_1360 ?_
  have hk_72 : kd u_71 a0 = 203 := h.1
  have h := h.2
  refine g_sald X hw hk_72 h.1 dL_law_1361 ?_
  have h := h.2
  have hk_73 : kd u_71 a2 = 16 := h.1
  have h := h.2
  refine g_calli hw (g_V X hw (mX19_seed l G _ _ _ _ h) 1 (lw_V q2176 q2177 q2178 q143 q2179) rfl rfl ydX19_seed ⟨Nat.le_of_ble_eq_true rfl, Nat.le_of_ble_eq_true rfl⟩ (g_recv X hw (ci := 15) (q := (RX19, TX19, 46)) hk_73 rfl) (As := [.int (AI u_71 a0 (tn (x4 + 1)))]) (rest := [.int r_70]) rfl hl.1 rfl (Nat.le_of_ble_eq_true rfl) dL_law_1362 ⟨(by show _ ≤ MC; omega), (by show _ ≤ MS; omega)⟩) (fun r_74 u_75 H locs h hw => ?_)
  refine lv_icmp_eq (tgt := 1565) hx hb dL_law_1365 rfl (fun c_76 => ?_) (fun c_76 => ?_)
  · have h := h.1 c_76
    refine lv_iinc (v := x4 + 6) (lv' := [(4, .int (x4 + 6)), (0, .ref a0), (1, .ref a1), (2, .ref a2), (3, .ref a3)]) hx hb dL_law_1565 hl (k := 4) rfl rfl (by decide) rfl (fun ls hl => ?_)
    refine lv_goto (tgt := 23) hx hb dL_law_1568 rfl ?_
    exact hJ23 _ _ _ _ _ _ _ _ _ (by omega) (by omega) h hw (lv_sub hl [1, 2, 3, 4, 0] rfl)
  · have h := h.2 c_76
    refine lv_iconst (v := 0) hx hb dL_law_1368 (by decide) ?_
    exact g_zret X hw hr rfl h (by omega) (by omega) dL_law_1369
set_option maxHeartbeats 4000000 in
theorem wL_law_1308 {G : GT} {p : Program} {l : Launch} {e : Env} {s : State} {m : MethodId} {args : Array Value} {below : List Frame} {meth : Method} {c : Code} {H : Heap} {locs : List Loc} {ls : Array Slot} {cells slots : Nat} {MC MS : Nat} {a0 : Nat} {a1 : Nat} {a2 : Nat} {a3 : Nat} {x4 : Int32} {u : Hp} {mc : Nat} {ms : Nat} {K : Int32 → Hp → Prop} {J23 : Int32 → Hp → Nat → Nat → Prop} (X : Mc G p s m args meth c RX0 cL_law 7) (hr : meth.sig.returnType = (some .boolean)) (hnt : l.stackTraces = false) (hJ23 : ∀ (x4 : Int32) (u : Hp) (mc : Nat) (ms : Nat) (H : Heap) (locs : List Loc) (ls : Array Slot) (cells slots : Nat) , cells + mc ≤ MC → slots + ms ≤ MS → J23 x4 u mc ms → GW G u s H locs → lv_has ls 7 [(0, .ref a0), (1, .ref a1), (2, .ref a2), (3, .ref a3), (4, .int x4)] → W p l e (rmL_law MC MS) s m args below meth c H locs cells slots (QI G below K args s MC MS) (F0 m 23 ls [])) (hc1 : cells + mc ≤ MC) (hc2 : slots + ms ≤ MS) (h : bL_law_1308 K (Glit G) J23 a0 a1 a2 a3 x4 u mc ms) (hw : GW G u s H locs) (hl : lv_has ls 7 [(0, .ref a0), (1, .ref a1), (2, .ref a2), (3, .ref a3), (4, .int x4)]) : W p l e (rmL_law MC MS) s m args below meth c H locs cells slots (QI G below K args s MC MS) (F0 m 1308 ls []) := by
  obtain ⟨hx, hb, hml, hown, hts, -⟩ := id X
  unfold bL_law_1308 at h
  refine lv_aload_n hx hb dL_law_1308 rfl (lv_at hl 1 rfl) ?_
  refine lv_aload_n hx hb dL_law_1309 rfl (lv_at hl 0 rfl) ?_
  refine lv_iload hx hb dL_law_1310 (lv_at hl 4 rfl) ?_
  refine lv_iconst (v := 1) hx hb dL_law_1312 (by decide) ?_
  refine lv_iadd hx hb dL_law_1313 ?_
  have hk_77 : kd u a0 = 203 := h.1
  have h := h.2
  refine g_sald X hw hk_77 h.1 dL_law_1314 ?_
  have h := h.2
  refine lv_aload_n hx hb dL_law_1315 rfl (lv_at hl 0 rfl) ?_
  refine lv_iload hx hb dL_law_1316 (lv_at hl 4 rfl) ?_
  refine lv_iconst (v := 2) hx hb dL_law_1318 (by decide) ?_
  refine lv_iadd hx hb dL_law_1319 ?_
  refine g_sald X hw hk_77 h.1 dL_law_1320 ?_
  have h := h.2
  have hk_78 : kd u a1 = 1 := h.1
  have h := h.2
  refine g_calli hw (g_V X hw (mX1_shows l G _ _ _ _ _ h) 2 (lw_V q1354 q1355 q1356 q122 q1357) rfl rfl ydX1_shows ⟨Nat.le_of_ble_eq_true rfl, Nat.le_of_ble_eq_true rfl⟩ (g_recv X hw (ci := 0) (q := (RX1, TX1, 16)) hk_78 rfl) (As := [.int (AI u a0 (tn (x4 + 1))), .int (AI u a0 (tn (x4 + 2)))]) (rest := []) rfl hl.1 rfl (Nat.le_of_ble_eq_true rfl) dL_law_1321 ⟨(by show _ ≤ MC; omega), (by show _ ≤ MS; omega)⟩) (fun r_79 u_80 H locs h hw => ?_)
  refine lv_aload_n hx hb dL_law_1324 rfl (lv_at hl 2 rfl) ?_
  refine lv_aload_n hx hb dL_law_1325 rfl (lv_at hl 0 rfl) ?_
  refine lv_iload hx hb dL_law_1326 (lv_at hl 4 rfl) ?_
  refine lv_iconst (v := 1) hx hb dL_law_1328 (by decide) ?_
  refine lv_iadd hx hb dL_law_1329 ?_
  have hk_81 : kd u_80 a0 = 203 := h.1
  have h := h.2
  refine g_sald X hw hk_81 h.1 dL_law_1330 ?_
  have h := h.2
  refine lv_aload_n hx hb dL_law_1331 rfl (lv_at hl 0 rfl) ?_
  refine lv_iload hx hb dL_law_1332 (lv_at hl 4 rfl) ?_
  refine lv_iconst (v := 2) hx hb dL_law_1334 (by decide) ?_
  refine lv_iadd hx hb dL_law_1335 ?_
  refine g_sald X hw hk_81 h.1 dL_law_1336 ?_
  have h := h.2
  have hk_82 : kd u_80 a2 = 16 := h.1
  have h := h.2
  refine g_calli hw (g_V X hw (mX19_shows l G _ _ _ _ _ h) 2 (lw_V q2172 q2173 q2174 q143 q2175) rfl rfl ydX19_shows ⟨Nat.le_of_ble_eq_true rfl, Nat.le_of_ble_eq_true rfl⟩ (g_recv X hw (ci := 15) (q := (RX19, TX19, 46)) hk_82 rfl) (As := [.int (AI u_80 a0 (tn (x4 + 1))), .int (AI u_80 a0 (tn (x4 + 2)))]) (rest := [.int r_79]) rfl hl.1 rfl (Nat.le_of_ble_eq_true rfl) dL_law_1337 ⟨(by show _ ≤ MC; omega), (by show _ ≤ MS; omega)⟩) (fun r_83 u_84 H locs h hw => ?_)
  refine lv_icmp_eq (tgt := 1565) hx hb dL_law_1340 rfl (fun c_85 => ?_) (fun c_85 => ?_)
  · have h := h.1 c_85
    refine lv_iinc (v := x4 + 6) (lv' := [(4, .int (x4 + 6)), (0, .ref a0), (1, .ref a1), (2, .ref a2), (3, .ref a3)]) hx hb dL_law_1565 hl (k := 4) rfl rfl (by decide) rfl (fun ls hl => ?_)
    refine lv_goto (tgt := 23) hx hb dL_law_1568 rfl ?_
    exact hJ23 _ _ _ _ _ _ _ _ _ (by omega) (by omega) h hw (lv_sub hl [1, 2, 3, 4, 0] rfl)
  · have h := h.2 c_85
    refine lv_iconst (v := 0) hx hb dL_law_1343 (by decide) ?_
    exact g_zret X hw hr rfl h (by omega) (by omega) dL_law_1344
set_option maxHeartbeats 4000000 in
theorem wL_law_1295 {G : GT} {p : Program} {l : Launch} {e : Env} {s : State} {m : MethodId} {args : Array Value} {below : List Frame} {meth : Method} {c : Code} {H : Heap} {locs : List Loc} {ls : Array Slot} {cells slots : Nat} {MC MS : Nat} {a0 : Nat} {a1 : Nat} {a2 : Nat} {a3 : Nat} {x4 : Int32} {u : Hp} {mc : Nat} {ms : Nat} {K : Int32 → Hp → Prop} {J23 : Int32 → Hp → Nat → Nat → Prop} (X : Mc G p s m args meth c RX0 cL_law 7) (hr : meth.sig.returnType = (some .boolean)) (hnt : l.stackTraces = false) (hJ23 : ∀ (x4 : Int32) (u : Hp) (mc : Nat) (ms : Nat) (H : Heap) (locs : List Loc) (ls : Array Slot) (cells slots : Nat) , cells + mc ≤ MC → slots + ms ≤ MS → J23 x4 u mc ms → GW G u s H locs → lv_has ls 7 [(0, .ref a0), (1, .ref a1), (2, .ref a2), (3, .ref a3), (4, .int x4)] → W p l e (rmL_law MC MS) s m args below meth c H locs cells slots (QI G below K args s MC MS) (F0 m 23 ls [])) (hc1 : cells + mc ≤ MC) (hc2 : slots + ms ≤ MS) (h : bL_law_1295 K (Glit G) J23 a0 a1 a2 a3 x4 u mc ms) (hw : GW G u s H locs) (hl : lv_has ls 7 [(0, .ref a0), (1, .ref a1), (2, .ref a2), (3, .ref a3), (4, .int x4)]) : W p l e (rmL_law MC MS) s m args below meth c H locs cells slots (QI G below K args s MC MS) (F0 m 1295 ls []) := by
  obtain ⟨hx, hb, hml, hown, hts, -⟩ := id X
  unfold bL_law_1295 at h
  refine lv_aload_n hx hb dL_law_1295 rfl (lv_at hl 1 rfl) ?_
  have hk_86 : kd u a1 = 1 := h.1
  have h := h.2
  refine g_calli hw (g_V X hw (mX1_hardest l G _ _ _ h) 0 (lw_V q1345 q1346 q1347 q122 q1348) rfl rfl ydX1_hardest ⟨Nat.le_of_ble_eq_true rfl, Nat.le_of_ble_eq_true rfl⟩ (g_recv X hw (ci := 0) (q := (RX1, TX1, 16)) hk_86 rfl) (As := []) (rest := []) rfl hl.1 rfl (Nat.le_of_ble_eq_true rfl) dL_law_1296 ⟨(by show _ ≤ MC; omega), (by show _ ≤ MS; omega)⟩) (fun r_87 u_88 H locs h hw => ?_)
  refine lv_aload_n hx hb dL_law_1299 rfl (lv_at hl 2 rfl) ?_
  have hk_89 : kd u_88 a2 = 16 := h.1
  have h := h.2
  refine g_calli hw (g_V X hw (mX19_hardest l G _ _ _ h) 0 (lw_V q2168 q2169 q2170 q143 q2171) rfl rfl ydX19_hardest ⟨Nat.le_of_ble_eq_true rfl, Nat.le_of_ble_eq_true rfl⟩ (g_recv X hw (ci := 15) (q := (RX19, TX19, 46)) hk_89 rfl) (As := []) (rest := [.int r_87]) rfl hl.1 rfl (Nat.le_of_ble_eq_true rfl) dL_law_1300 ⟨(by show _ ≤ MC; omega), (by show _ ≤ MS; omega)⟩) (fun r_90 u_91 H locs h hw => ?_)
  refine lv_icmp_eq (tgt := 1565) hx hb dL_law_1303 rfl (fun c_92 => ?_) (fun c_92 => ?_)
  · have h := h.1 c_92
    refine lv_iinc (v := x4 + 6) (lv' := [(4, .int (x4 + 6)), (0, .ref a0), (1, .ref a1), (2, .ref a2), (3, .ref a3)]) hx hb dL_law_1565 hl (k := 4) rfl rfl (by decide) rfl (fun ls hl => ?_)
    refine lv_goto (tgt := 23) hx hb dL_law_1568 rfl ?_
    exact hJ23 _ _ _ _ _ _ _ _ _ (by omega) (by omega) h hw (lv_sub hl [1, 2, 3, 4, 0] rfl)
  · have h := h.2 c_92
    refine lv_iconst (v := 0) hx hb dL_law_1306 (by decide) ?_
    exact g_zret X hw hr rfl h (by omega) (by omega) dL_law_1307
set_option maxHeartbeats 4000000 in
theorem wL_law_1257 {G : GT} {p : Program} {l : Launch} {e : Env} {s : State} {m : MethodId} {args : Array Value} {below : List Frame} {meth : Method} {c : Code} {H : Heap} {locs : List Loc} {ls : Array Slot} {cells slots : Nat} {MC MS : Nat} {a0 : Nat} {a1 : Nat} {a2 : Nat} {a3 : Nat} {x4 : Int32} {z0 : Int32} {z1 : Int32} {z2 : Int32} {z3 : Nat} {u : Hp} {mc : Nat} {ms : Nat} {K : Int32 → Hp → Prop} {J23 : Int32 → Hp → Nat → Nat → Prop} (X : Mc G p s m args meth c RX0 cL_law 7) (hr : meth.sig.returnType = (some .boolean)) (hnt : l.stackTraces = false) (hJ23 : ∀ (x4 : Int32) (u : Hp) (mc : Nat) (ms : Nat) (H : Heap) (locs : List Loc) (ls : Array Slot) (cells slots : Nat) , cells + mc ≤ MC → slots + ms ≤ MS → J23 x4 u mc ms → GW G u s H locs → lv_has ls 7 [(0, .ref a0), (1, .ref a1), (2, .ref a2), (3, .ref a3), (4, .int x4)] → W p l e (rmL_law MC MS) s m args below meth c H locs cells slots (QI G below K args s MC MS) (F0 m 23 ls [])) (hc1 : cells + mc ≤ MC) (hc2 : slots + ms ≤ MS) (h : bL_law_1257 K (Glit G) J23 a0 a1 a2 a3 x4 z0 z1 z2 z3 u mc ms) (hw : GW G u s H locs) (hl : lv_has ls 7 [(0, .ref a0), (1, .ref a1), (2, .ref a2), (3, .ref a3), (4, .int x4)]) : W p l e (rmL_law MC MS) s m args below meth c H locs cells slots (QI G below K args s MC MS) (F0 m 1257 ls [.int z0, .int z1, .int z2, .ref z3]) := by
  obtain ⟨hx, hb, hml, hown, hts, -⟩ := id X
  unfold bL_law_1257 at h
  have hk_93 : kd u z3 = 1 := h.1
  have h := h.2
  refine g_calli hw (g_V X hw (mX1_mean l G _ _ _ _ _ _ h) 3 (lw_V q1338 q1339 q1340 q122 q1341) rfl rfl ydX1_mean ⟨Nat.le_of_ble_eq_true rfl, Nat.le_of_ble_eq_true rfl⟩ (g_recv X hw (ci := 0) (q := (RX1, TX1, 16)) hk_93 rfl) (As := [.int z2, .int z1, .int z0]) (rest := []) rfl hl.1 rfl (Nat.le_of_ble_eq_true rfl) dL_law_1257 ⟨(by show _ ≤ MC; omega), (by show _ ≤ MS; omega)⟩) (fun r_94 u_95 H locs h hw => ?_)
  refine lv_aload_n hx hb dL_law_1260 rfl (lv_at hl 2 rfl) ?_
  refine lv_aload_n hx hb dL_law_1261 rfl (lv_at hl 0 rfl) ?_
  refine lv_iload hx hb dL_law_1262 (lv_at hl 4 rfl) ?_
  refine lv_iconst (v := 1) hx hb dL_law_1264 (by decide) ?_
  refine lv_iadd hx hb dL_law_1265 ?_
  have hk_96 : kd u_95 a0 = 203 := h.1
  have h := h.2
  refine g_sald X hw hk_96 h.1 dL_law_1266 ?_
  have h := h.2
  refine lv_aload_n hx hb dL_law_1267 rfl (lv_at hl 0 rfl) ?_
  refine lv_iload hx hb dL_law_1268 (lv_at hl 4 rfl) ?_
  refine lv_iconst (v := 2) hx hb dL_law_1270 (by decide) ?_
  refine lv_iadd hx hb dL_law_1271 ?_
  refine g_sald X hw hk_96 h.1 dL_law_1272 ?_
  have h := h.2
  refine lv_aload_n hx hb dL_law_1273 rfl (lv_at hl 0 rfl) ?_
  refine lv_iload hx hb dL_law_1274 (lv_at hl 4 rfl) ?_
  refine lv_iconst (v := 3) hx hb dL_law_1276 (by decide) ?_
  refine lv_iadd hx hb dL_law_1277 ?_
  refine g_sald X hw hk_96 h.1 dL_law_1278 ?_
  have h := h.2
  refine lv_if_eq (tgt := 1286) hx hb dL_law_1279 rfl (fun c_105 => ?_) (fun c_105 => ?_)
  · have h := h.1 c_105
    refine lv_iconst (v := 0) hx hb dL_law_1286 (by decide) ?_
    have hk_97 : kd u_95 a2 = 16 := h.1
    have h := h.2
    refine g_calli hw (g_V X hw (mX19_mean l G _ _ _ _ _ _ h) 3 (lw_V q2161 q2162 q2163 q143 q2164) rfl rfl ydX19_mean ⟨Nat.le_of_ble_eq_true rfl, Nat.le_of_ble_eq_true rfl⟩ (g_recv X hw (ci := 15) (q := (RX19, TX19, 46)) hk_97 rfl) (As := [.int (AI u_95 a0 (tn (x4 + 1))), .int (AI u_95 a0 (tn (x4 + 2))), .int 0]) (rest := [.int r_94]) rfl hl.1 rfl (Nat.le_of_ble_eq_true rfl) dL_law_1287 ⟨(by show _ ≤ MC; omega), (by show _ ≤ MS; omega)⟩) (fun r_98 u_99 H locs h hw => ?_)
    refine lv_icmp_eq (tgt := 1565) hx hb dL_law_1290 rfl (fun c_100 => ?_) (fun c_100 => ?_)
    · have h := h.1 c_100
      refine lv_iinc (v := x4 + 6) (lv' := [(4, .int (x4 + 6)), (0, .ref a0), (1, .ref a1), (2, .ref a2), (3, .ref a3)]) hx hb dL_law_1565 hl (k := 4) rfl rfl (by decide) rfl (fun ls hl => ?_)
      refine lv_goto (tgt := 23) hx hb dL_law_1568 rfl ?_
      exact hJ23 _ _ _ _ _ _ _ _ _ (by omega) (by omega) h hw (lv_sub hl [1, 2, 3, 4, 0] rfl)
    · have h := h.2 c_100
      refine lv_iconst (v := 0) hx hb dL_law_1293 (by decide) ?_
      exact g_zret X hw hr rfl h (by omega) (by omega) dL_law_1294
  · have h := h.2 c_105
    refine lv_iconst (v := 1) hx hb dL_law_1282 (by decide) ?_
    refine lv_goto (tgt := 1287) hx hb dL_law_1283 rfl ?_
    have hk_101 : kd u_95 a2 = 16 := h.1
    have h := h.2
    refine g_calli hw (g_V X hw (mX19_mean l G _ _ _ _ _ _ h) 3 (lw_V q2161 q2162 q2163 q143 q2164) rfl rfl ydX19_mean ⟨Nat.le_of_ble_eq_true rfl, Nat.le_of_ble_eq_true rfl⟩ (g_recv X hw (ci := 15) (q := (RX19, TX19, 46)) hk_101 rfl) (As := [.int (AI u_95 a0 (tn (x4 + 1))), .int (AI u_95 a0 (tn (x4 + 2))), .int 1]) (rest := [.int r_94]) rfl hl.1 rfl (Nat.le_of_ble_eq_true rfl) dL_law_1287 ⟨(by show _ ≤ MC; omega), (by show _ ≤ MS; omega)⟩) (fun r_102 u_103 H locs h hw => ?_)
    refine lv_icmp_eq (tgt := 1565) hx hb dL_law_1290 rfl (fun c_104 => ?_) (fun c_104 => ?_)
    · have h := h.1 c_104
      refine lv_iinc (v := x4 + 6) (lv' := [(4, .int (x4 + 6)), (0, .ref a0), (1, .ref a1), (2, .ref a2), (3, .ref a3)]) hx hb dL_law_1565 hl (k := 4) rfl rfl (by decide) rfl (fun ls hl => ?_)
      refine lv_goto (tgt := 23) hx hb dL_law_1568 rfl ?_
      exact hJ23 _ _ _ _ _ _ _ _ _ (by omega) (by omega) h hw (lv_sub hl [1, 2, 3, 4, 0] rfl)
    · have h := h.2 c_104
      refine lv_iconst (v := 0) hx hb dL_law_1293 (by decide) ?_
      exact g_zret X hw hr rfl h (by omega) (by omega) dL_law_1294
set_option maxHeartbeats 4000000 in
theorem wL_law_1230 {G : GT} {p : Program} {l : Launch} {e : Env} {s : State} {m : MethodId} {args : Array Value} {below : List Frame} {meth : Method} {c : Code} {H : Heap} {locs : List Loc} {ls : Array Slot} {cells slots : Nat} {MC MS : Nat} {a0 : Nat} {a1 : Nat} {a2 : Nat} {a3 : Nat} {x4 : Int32} {u : Hp} {mc : Nat} {ms : Nat} {K : Int32 → Hp → Prop} {J23 : Int32 → Hp → Nat → Nat → Prop} (X : Mc G p s m args meth c RX0 cL_law 7) (hr : meth.sig.returnType = (some .boolean)) (hnt : l.stackTraces = false) (hJ23 : ∀ (x4 : Int32) (u : Hp) (mc : Nat) (ms : Nat) (H : Heap) (locs : List Loc) (ls : Array Slot) (cells slots : Nat) , cells + mc ≤ MC → slots + ms ≤ MS → J23 x4 u mc ms → GW G u s H locs → lv_has ls 7 [(0, .ref a0), (1, .ref a1), (2, .ref a2), (3, .ref a3), (4, .int x4)] → W p l e (rmL_law MC MS) s m args below meth c H locs cells slots (QI G below K args s MC MS) (F0 m 23 ls [])) (hc1 : cells + mc ≤ MC) (hc2 : slots + ms ≤ MS) (h : bL_law_1230 K (Glit G) J23 a0 a1 a2 a3 x4 u mc ms) (hw : GW G u s H locs) (hl : lv_has ls 7 [(0, .ref a0), (1, .ref a1), (2, .ref a2), (3, .ref a3), (4, .int x4)]) : W p l e (rmL_law MC MS) s m args below meth c H locs cells slots (QI G below K args s MC MS) (F0 m 1230 ls []) := by
  obtain ⟨hx, hb, hml, hown, hts, -⟩ := id X
  unfold bL_law_1230 at h
  refine lv_aload_n hx hb dL_law_1230 rfl (lv_at hl 1 rfl) ?_
  refine lv_aload_n hx hb dL_law_1231 rfl (lv_at hl 0 rfl) ?_
  refine lv_iload hx hb dL_law_1232 (lv_at hl 4 rfl) ?_
  refine lv_iconst (v := 1) hx hb dL_law_1234 (by decide) ?_
  refine lv_iadd hx hb dL_law_1235 ?_
  have hk_106 : kd u a0 = 203 := h.1
  have h := h.2
  refine g_sald X hw hk_106 h.1 dL_law_1236 ?_
  have h := h.2
  refine lv_aload_n hx hb dL_law_1237 rfl (lv_at hl 0 rfl) ?_
  refine lv_iload hx hb dL_law_1238 (lv_at hl 4 rfl) ?_
  refine lv_iconst (v := 2) hx hb dL_law_1240 (by decide) ?_
  refine lv_iadd hx hb dL_law_1241 ?_
  refine g_sald X hw hk_106 h.1 dL_law_1242 ?_
  have h := h.2
  refine lv_aload_n hx hb dL_law_1243 rfl (lv_at hl 0 rfl) ?_
  refine lv_iload hx hb dL_law_1244 (lv_at hl 4 rfl) ?_
  refine lv_iconst (v := 3) hx hb dL_law_1246 (by decide) ?_
  refine lv_iadd hx hb dL_law_1247 ?_
  refine g_sald X hw hk_106 h.1 dL_law_1248 ?_
  have h := h.2
  refine lv_if_eq (tgt := 1256) hx hb dL_law_1249 rfl (fun c_107 => ?_) (fun c_107 => ?_)
  · have h := h.1 c_107
    refine lv_iconst (v := 0) hx hb dL_law_1256 (by decide) ?_
    exact wL_law_1257 X hr hnt hJ23 (by omega) (by omega) h hw (lv_sub hl [0, 1, 2, 3, 4] rfl)
  · have h := h.2 c_107
    refine lv_iconst (v := 1) hx hb dL_law_1252 (by decide) ?_
    refine lv_goto (tgt := 1257) hx hb dL_law_1253 rfl ?_
    exact wL_law_1257 X hr hnt hJ23 (by omega) (by omega) h hw (lv_sub hl [0, 1, 2, 3, 4] rfl)
set_option maxHeartbeats 4000000 in
theorem wL_law_1193 {G : GT} {p : Program} {l : Launch} {e : Env} {s : State} {m : MethodId} {args : Array Value} {below : List Frame} {meth : Method} {c : Code} {H : Heap} {locs : List Loc} {ls : Array Slot} {cells slots : Nat} {MC MS : Nat} {a0 : Nat} {a1 : Nat} {a2 : Nat} {a3 : Nat} {x4 : Int32} {u : Hp} {mc : Nat} {ms : Nat} {K : Int32 → Hp → Prop} {J23 : Int32 → Hp → Nat → Nat → Prop} (X : Mc G p s m args meth c RX0 cL_law 7) (hr : meth.sig.returnType = (some .boolean)) (hnt : l.stackTraces = false) (hJ23 : ∀ (x4 : Int32) (u : Hp) (mc : Nat) (ms : Nat) (H : Heap) (locs : List Loc) (ls : Array Slot) (cells slots : Nat) , cells + mc ≤ MC → slots + ms ≤ MS → J23 x4 u mc ms → GW G u s H locs → lv_has ls 7 [(0, .ref a0), (1, .ref a1), (2, .ref a2), (3, .ref a3), (4, .int x4)] → W p l e (rmL_law MC MS) s m args below meth c H locs cells slots (QI G below K args s MC MS) (F0 m 23 ls [])) (hc1 : cells + mc ≤ MC) (hc2 : slots + ms ≤ MS) (h : bL_law_1193 K (Glit G) J23 a0 a1 a2 a3 x4 u mc ms) (hw : GW G u s H locs) (hl : lv_has ls 7 [(0, .ref a0), (1, .ref a1), (2, .ref a2), (3, .ref a3), (4, .int x4)]) : W p l e (rmL_law MC MS) s m args below meth c H locs cells slots (QI G below K args s MC MS) (F0 m 1193 ls []) := by
  obtain ⟨hx, hb, hml, hown, hts, -⟩ := id X
  unfold bL_law_1193 at h
  refine lv_aload_n hx hb dL_law_1193 rfl (lv_at hl 1 rfl) ?_
  refine lv_aload_n hx hb dL_law_1194 rfl (lv_at hl 0 rfl) ?_
  refine lv_iload hx hb dL_law_1195 (lv_at hl 4 rfl) ?_
  refine lv_iconst (v := 1) hx hb dL_law_1197 (by decide) ?_
  refine lv_iadd hx hb dL_law_1198 ?_
  have hk_108 : kd u a0 = 203 := h.1
  have h := h.2
  refine g_sald X hw hk_108 h.1 dL_law_1199 ?_
  have h := h.2
  refine lv_aload_n hx hb dL_law_1200 rfl (lv_at hl 0 rfl) ?_
  refine lv_iload hx hb dL_law_1201 (lv_at hl 4 rfl) ?_
  refine lv_iconst (v := 2) hx hb dL_law_1203 (by decide) ?_
  refine lv_iadd hx hb dL_law_1204 ?_
  refine g_sald X hw hk_108 h.1 dL_law_1205 ?_
  have h := h.2
  have hk_109 : kd u a1 = 1 := h.1
  have h := h.2
  refine g_calli hw (g_V X hw (mX1_apart l G _ _ _ _ _ h) 2 (lw_V q1326 q1327 q1328 q122 q1329) rfl rfl ydX1_apart ⟨Nat.le_of_ble_eq_true rfl, Nat.le_of_ble_eq_true rfl⟩ (g_recv X hw (ci := 0) (q := (RX1, TX1, 16)) hk_109 rfl) (As := [.int (AI u a0 (tn (x4 + 1))), .int (AI u a0 (tn (x4 + 2)))]) (rest := []) rfl hl.1 rfl (Nat.le_of_ble_eq_true rfl) dL_law_1206 ⟨(by show _ ≤ MC; omega), (by show _ ≤ MS; omega)⟩) (fun r_110 u_111 H locs h hw => ?_)
  refine lv_aload_n hx hb dL_law_1209 rfl (lv_at hl 2 rfl) ?_
  refine lv_aload_n hx hb dL_law_1210 rfl (lv_at hl 0 rfl) ?_
  refine lv_iload hx hb dL_law_1211 (lv_at hl 4 rfl) ?_
  refine lv_iconst (v := 1) hx hb dL_law_1213 (by decide) ?_
  refine lv_iadd hx hb dL_law_1214 ?_
  have hk_112 : kd u_111 a0 = 203 := h.1
  have h := h.2
  refine g_sald X hw hk_112 h.1 dL_law_1215 ?_
  have h := h.2
  refine lv_aload_n hx hb dL_law_1216 rfl (lv_at hl 0 rfl) ?_
  refine lv_iload hx hb dL_law_1217 (lv_at hl 4 rfl) ?_
  refine lv_iconst (v := 2) hx hb dL_law_1219 (by decide) ?_
  refine lv_iadd hx hb dL_law_1220 ?_
  refine g_sald X hw hk_112 h.1 dL_law_1221 ?_
  have h := h.2
  have hk_113 : kd u_111 a2 = 16 := h.1
  have h := h.2
  refine g_calli hw (g_V X hw (mX19_apart l G _ _ _ _ _ h) 2 (lw_V q2149 q2150 q2151 q143 q2152) rfl rfl ydX19_apart ⟨Nat.le_of_ble_eq_true rfl, Nat.le_of_ble_eq_true rfl⟩ (g_recv X hw (ci := 15) (q := (RX19, TX19, 46)) hk_113 rfl) (As := [.int (AI u_111 a0 (tn (x4 + 1))), .int (AI u_111 a0 (tn (x4 + 2)))]) (rest := [.int r_110]) rfl hl.1 rfl (Nat.le_of_ble_eq_true rfl) dL_law_1222 ⟨(by show _ ≤ MC; omega), (by show _ ≤ MS; omega)⟩) (fun r_114 u_115 H locs h hw => ?_)
  refine lv_icmp_eq (tgt := 1565) hx hb dL_law_1225 rfl (fun c_116 => ?_) (fun c_116 => ?_)
  · have h := h.1 c_116
    refine lv_iinc (v := x4 + 6) (lv' := [(4, .int (x4 + 6)), (0, .ref a0), (1, .ref a1), (2, .ref a2), (3, .ref a3)]) hx hb dL_law_1565 hl (k := 4) rfl rfl (by decide) rfl (fun ls hl => ?_)
    refine lv_goto (tgt := 23) hx hb dL_law_1568 rfl ?_
    exact hJ23 _ _ _ _ _ _ _ _ _ (by omega) (by omega) h hw (lv_sub hl [1, 2, 3, 4, 0] rfl)
  · have h := h.2 c_116
    refine lv_iconst (v := 0) hx hb dL_law_1228 (by decide) ?_
    exact g_zret X hw hr rfl h (by omega) (by omega) dL_law_1229
set_option maxHeartbeats 4000000 in
theorem wL_law_1180 {G : GT} {p : Program} {l : Launch} {e : Env} {s : State} {m : MethodId} {args : Array Value} {below : List Frame} {meth : Method} {c : Code} {H : Heap} {locs : List Loc} {ls : Array Slot} {cells slots : Nat} {MC MS : Nat} {a0 : Nat} {a1 : Nat} {a2 : Nat} {a3 : Nat} {x4 : Int32} {u : Hp} {mc : Nat} {ms : Nat} {K : Int32 → Hp → Prop} {J23 : Int32 → Hp → Nat → Nat → Prop} (X : Mc G p s m args meth c RX0 cL_law 7) (hr : meth.sig.returnType = (some .boolean)) (hnt : l.stackTraces = false) (hJ23 : ∀ (x4 : Int32) (u : Hp) (mc : Nat) (ms : Nat) (H : Heap) (locs : List Loc) (ls : Array Slot) (cells slots : Nat) , cells + mc ≤ MC → slots + ms ≤ MS → J23 x4 u mc ms → GW G u s H locs → lv_has ls 7 [(0, .ref a0), (1, .ref a1), (2, .ref a2), (3, .ref a3), (4, .int x4)] → W p l e (rmL_law MC MS) s m args below meth c H locs cells slots (QI G below K args s MC MS) (F0 m 23 ls [])) (hc1 : cells + mc ≤ MC) (hc2 : slots + ms ≤ MS) (h : bL_law_1180 K (Glit G) J23 a0 a1 a2 a3 x4 u mc ms) (hw : GW G u s H locs) (hl : lv_has ls 7 [(0, .ref a0), (1, .ref a1), (2, .ref a2), (3, .ref a3), (4, .int x4)]) : W p l e (rmL_law MC MS) s m args below meth c H locs cells slots (QI G below K args s MC MS) (F0 m 1180 ls []) := by
  obtain ⟨hx, hb, hml, hown, hts, -⟩ := id X
  unfold bL_law_1180 at h
  refine lv_aload_n hx hb dL_law_1180 rfl (lv_at hl 1 rfl) ?_
  have hk_117 : kd u a1 = 1 := h.1
  have h := h.2
  refine g_calli hw (g_V X hw (mX1_found l G _ _ _ h) 0 (lw_V q1322 q1323 q1324 q122 q1325) rfl rfl ydX1_found ⟨Nat.le_of_ble_eq_true rfl, Nat.le_of_ble_eq_true rfl⟩ (g_recv X hw (ci := 0) (q := (RX1, TX1, 16)) hk_117 rfl) (As := []) (rest := []) rfl hl.1 rfl (Nat.le_of_ble_eq_true rfl) dL_law_1181 ⟨(by show _ ≤ MC; omega), (by show _ ≤ MS; omega)⟩) (fun r_118 u_119 H locs h hw => ?_)
  refine lv_aload_n hx hb dL_law_1184 rfl (lv_at hl 2 rfl) ?_
  have hk_120 : kd u_119 a2 = 16 := h.1
  have h := h.2
  refine g_calli hw (g_V X hw (mX19_found l G _ _ _ h) 0 (lw_V q2145 q2146 q2147 q143 q2148) rfl rfl ydX19_found ⟨Nat.le_of_ble_eq_true rfl, Nat.le_of_ble_eq_true rfl⟩ (g_recv X hw (ci := 15) (q := (RX19, TX19, 46)) hk_120 rfl) (As := []) (rest := [.int r_118]) rfl hl.1 rfl (Nat.le_of_ble_eq_true rfl) dL_law_1185 ⟨(by show _ ≤ MC; omega), (by show _ ≤ MS; omega)⟩) (fun r_121 u_122 H locs h hw => ?_)
  refine lv_icmp_eq (tgt := 1565) hx hb dL_law_1188 rfl (fun c_123 => ?_) (fun c_123 => ?_)
  · have h := h.1 c_123
    refine lv_iinc (v := x4 + 6) (lv' := [(4, .int (x4 + 6)), (0, .ref a0), (1, .ref a1), (2, .ref a2), (3, .ref a3)]) hx hb dL_law_1565 hl (k := 4) rfl rfl (by decide) rfl (fun ls hl => ?_)
    refine lv_goto (tgt := 23) hx hb dL_law_1568 rfl ?_
    exact hJ23 _ _ _ _ _ _ _ _ _ (by omega) (by omega) h hw (lv_sub hl [1, 2, 3, 4, 0] rfl)
  · have h := h.2 c_123
    refine lv_iconst (v := 0) hx hb dL_law_1191 (by decide) ?_
    exact g_zret X hw hr rfl h (by omega) (by omega) dL_law_1192
set_option maxHeartbeats 4000000 in
theorem wL_law_1155 {G : GT} {p : Program} {l : Launch} {e : Env} {s : State} {m : MethodId} {args : Array Value} {below : List Frame} {meth : Method} {c : Code} {H : Heap} {locs : List Loc} {ls : Array Slot} {cells slots : Nat} {MC MS : Nat} {a0 : Nat} {a1 : Nat} {a2 : Nat} {a3 : Nat} {x4 : Int32} {u : Hp} {mc : Nat} {ms : Nat} {K : Int32 → Hp → Prop} {J23 : Int32 → Hp → Nat → Nat → Prop} (X : Mc G p s m args meth c RX0 cL_law 7) (hr : meth.sig.returnType = (some .boolean)) (hnt : l.stackTraces = false) (hJ23 : ∀ (x4 : Int32) (u : Hp) (mc : Nat) (ms : Nat) (H : Heap) (locs : List Loc) (ls : Array Slot) (cells slots : Nat) , cells + mc ≤ MC → slots + ms ≤ MS → J23 x4 u mc ms → GW G u s H locs → lv_has ls 7 [(0, .ref a0), (1, .ref a1), (2, .ref a2), (3, .ref a3), (4, .int x4)] → W p l e (rmL_law MC MS) s m args below meth c H locs cells slots (QI G below K args s MC MS) (F0 m 23 ls [])) (hc1 : cells + mc ≤ MC) (hc2 : slots + ms ≤ MS) (h : bL_law_1155 K (Glit G) J23 a0 a1 a2 a3 x4 u mc ms) (hw : GW G u s H locs) (hl : lv_has ls 7 [(0, .ref a0), (1, .ref a1), (2, .ref a2), (3, .ref a3), (4, .int x4)]) : W p l e (rmL_law MC MS) s m args below meth c H locs cells slots (QI G below K args s MC MS) (F0 m 1155 ls []) := by
  obtain ⟨hx, hb, hml, hown, hts, -⟩ := id X
  unfold bL_law_1155 at h
  refine lv_aload_n hx hb dL_law_1155 rfl (lv_at hl 1 rfl) ?_
  refine lv_aload_n hx hb dL_law_1156 rfl (lv_at hl 0 rfl) ?_
  refine lv_iload hx hb dL_law_1157 (lv_at hl 4 rfl) ?_
  refine lv_iconst (v := 1) hx hb dL_law_1159 (by decide) ?_
  refine lv_iadd hx hb dL_law_1160 ?_
  have hk_124 : kd u a0 = 203 := h.1
  have h := h.2
  refine g_sald X hw hk_124 h.1 dL_law_1161 ?_
  have h := h.2
  have hk_125 : kd u a1 = 1 := h.1
  have h := h.2
  refine g_calli hw (g_V X hw (mX1_wrong l G _ _ _ _ h) 1 (lw_V q1314 q1315 q1316 q122 q1317) rfl rfl ydX1_wrong ⟨Nat.le_of_ble_eq_true rfl, Nat.le_of_ble_eq_true rfl⟩ (g_recv X hw (ci := 0) (q := (RX1, TX1, 16)) hk_125 rfl) (As := [.int (AI u a0 (tn (x4 + 1)))]) (rest := []) rfl hl.1 rfl (Nat.le_of_ble_eq_true rfl) dL_law_1162 ⟨(by show _ ≤ MC; omega), (by show _ ≤ MS; omega)⟩) (fun r_126 u_127 H locs h hw => ?_)
  refine lv_aload_n hx hb dL_law_1165 rfl (lv_at hl 2 rfl) ?_
  refine lv_aload_n hx hb dL_law_1166 rfl (lv_at hl 0 rfl) ?_
  refine lv_iload hx hb dL_law_1167 (lv_at hl 4 rfl) ?_
  refine lv_iconst (v := 1) hx hb dL_law_1169 (by decide) ?_
  refine lv_iadd hx hb dL_law_1170 ?_
  have hk_128 : kd u_127 a0 = 203 := h.1
  have h := h.2
  refine g_sald X hw hk_128 h.1 dL_law_1171 ?_
  have h := h.2
  have hk_129 : kd u_127 a2 = 16 := h.1
  have h := h.2
  refine g_calli hw (g_V X hw (mX19_wrong l G _ _ _ _ h) 1 (lw_V q2137 q2138 q2139 q143 q2140) rfl rfl ydX19_wrong ⟨Nat.le_of_ble_eq_true rfl, Nat.le_of_ble_eq_true rfl⟩ (g_recv X hw (ci := 15) (q := (RX19, TX19, 46)) hk_129 rfl) (As := [.int (AI u_127 a0 (tn (x4 + 1)))]) (rest := [.int r_126]) rfl hl.1 rfl (Nat.le_of_ble_eq_true rfl) dL_law_1172 ⟨(by show _ ≤ MC; omega), (by show _ ≤ MS; omega)⟩) (fun r_130 u_131 H locs h hw => ?_)
  refine lv_icmp_eq (tgt := 1565) hx hb dL_law_1175 rfl (fun c_132 => ?_) (fun c_132 => ?_)
  · have h := h.1 c_132
    refine lv_iinc (v := x4 + 6) (lv' := [(4, .int (x4 + 6)), (0, .ref a0), (1, .ref a1), (2, .ref a2), (3, .ref a3)]) hx hb dL_law_1565 hl (k := 4) rfl rfl (by decide) rfl (fun ls hl => ?_)
    refine lv_goto (tgt := 23) hx hb dL_law_1568 rfl ?_
    exact hJ23 _ _ _ _ _ _ _ _ _ (by omega) (by omega) h hw (lv_sub hl [1, 2, 3, 4, 0] rfl)
  · have h := h.2 c_132
    refine lv_iconst (v := 0) hx hb dL_law_1178 (by decide) ?_
    exact g_zret X hw hr rfl h (by omega) (by omega) dL_law_1179
set_option maxHeartbeats 4000000 in
theorem wL_law_1130 {G : GT} {p : Program} {l : Launch} {e : Env} {s : State} {m : MethodId} {args : Array Value} {below : List Frame} {meth : Method} {c : Code} {H : Heap} {locs : List Loc} {ls : Array Slot} {cells slots : Nat} {MC MS : Nat} {a0 : Nat} {a1 : Nat} {a2 : Nat} {a3 : Nat} {x4 : Int32} {u : Hp} {mc : Nat} {ms : Nat} {K : Int32 → Hp → Prop} {J23 : Int32 → Hp → Nat → Nat → Prop} (X : Mc G p s m args meth c RX0 cL_law 7) (hr : meth.sig.returnType = (some .boolean)) (hnt : l.stackTraces = false) (hJ23 : ∀ (x4 : Int32) (u : Hp) (mc : Nat) (ms : Nat) (H : Heap) (locs : List Loc) (ls : Array Slot) (cells slots : Nat) , cells + mc ≤ MC → slots + ms ≤ MS → J23 x4 u mc ms → GW G u s H locs → lv_has ls 7 [(0, .ref a0), (1, .ref a1), (2, .ref a2), (3, .ref a3), (4, .int x4)] → W p l e (rmL_law MC MS) s m args below meth c H locs cells slots (QI G below K args s MC MS) (F0 m 23 ls [])) (hc1 : cells + mc ≤ MC) (hc2 : slots + ms ≤ MS) (h : bL_law_1130 K (Glit G) J23 a0 a1 a2 a3 x4 u mc ms) (hw : GW G u s H locs) (hl : lv_has ls 7 [(0, .ref a0), (1, .ref a1), (2, .ref a2), (3, .ref a3), (4, .int x4)]) : W p l e (rmL_law MC MS) s m args below meth c H locs cells slots (QI G below K args s MC MS) (F0 m 1130 ls []) := by
  obtain ⟨hx, hb, hml, hown, hts, -⟩ := id X
  unfold bL_law_1130 at h
  refine lv_aload_n hx hb dL_law_1130 rfl (lv_at hl 1 rfl) ?_
  refine lv_aload_n hx hb dL_law_1131 rfl (lv_at hl 0 rfl) ?_
  refine lv_iload hx hb dL_law_1132 (lv_at hl 4 rfl) ?_
  refine lv_iconst (v := 1) hx hb dL_law_1134 (by decide) ?_
  refine lv_iadd hx hb dL_law_1135 ?_
  have hk_133 : kd u a0 = 203 := h.1
  have h := h.2
  refine g_sald X hw hk_133 h.1 dL_law_1136 ?_
  have h := h.2
  have hk_134 : kd u a1 = 1 := h.1
  have h := h.2
  refine g_calli hw (g_V X hw (mX1_agrees l G _ _ _ _ h) 1 (lw_V q1306 q1307 q1308 q122 q1309) rfl rfl ydX1_agrees ⟨Nat.le_of_ble_eq_true rfl, Nat.le_of_ble_eq_true rfl⟩ (g_recv X hw (ci := 0) (q := (RX1, TX1, 16)) hk_134 rfl) (As := [.int (AI u a0 (tn (x4 + 1)))]) (rest := []) rfl hl.1 rfl (Nat.le_of_ble_eq_true rfl) dL_law_1137 ⟨(by show _ ≤ MC; omega), (by show _ ≤ MS; omega)⟩) (fun r_135 u_136 H locs h hw => ?_)
  refine lv_aload_n hx hb dL_law_1140 rfl (lv_at hl 2 rfl) ?_
  refine lv_aload_n hx hb dL_law_1141 rfl (lv_at hl 0 rfl) ?_
  refine lv_iload hx hb dL_law_1142 (lv_at hl 4 rfl) ?_
  refine lv_iconst (v := 1) hx hb dL_law_1144 (by decide) ?_
  refine lv_iadd hx hb dL_law_1145 ?_
  have hk_137 : kd u_136 a0 = 203 := h.1
  have h := h.2
  refine g_sald X hw hk_137 h.1 dL_law_1146 ?_
  have h := h.2
  have hk_138 : kd u_136 a2 = 16 := h.1
  have h := h.2
  refine g_calli hw (g_V X hw (mX19_agrees l G _ _ _ _ h) 1 (lw_V q2129 q2130 q2131 q143 q2132) rfl rfl ydX19_agrees ⟨Nat.le_of_ble_eq_true rfl, Nat.le_of_ble_eq_true rfl⟩ (g_recv X hw (ci := 15) (q := (RX19, TX19, 46)) hk_138 rfl) (As := [.int (AI u_136 a0 (tn (x4 + 1)))]) (rest := [.int r_135]) rfl hl.1 rfl (Nat.le_of_ble_eq_true rfl) dL_law_1147 ⟨(by show _ ≤ MC; omega), (by show _ ≤ MS; omega)⟩) (fun r_139 u_140 H locs h hw => ?_)
  refine lv_icmp_eq (tgt := 1565) hx hb dL_law_1150 rfl (fun c_141 => ?_) (fun c_141 => ?_)
  · have h := h.1 c_141
    refine lv_iinc (v := x4 + 6) (lv' := [(4, .int (x4 + 6)), (0, .ref a0), (1, .ref a1), (2, .ref a2), (3, .ref a3)]) hx hb dL_law_1565 hl (k := 4) rfl rfl (by decide) rfl (fun ls hl => ?_)
    refine lv_goto (tgt := 23) hx hb dL_law_1568 rfl ?_
    exact hJ23 _ _ _ _ _ _ _ _ _ (by omega) (by omega) h hw (lv_sub hl [1, 2, 3, 4, 0] rfl)
  · have h := h.2 c_141
    refine lv_iconst (v := 0) hx hb dL_law_1153 (by decide) ?_
    exact g_zret X hw hr rfl h (by omega) (by omega) dL_law_1154
set_option maxHeartbeats 4000000 in
theorem wL_law_1098 {G : GT} {p : Program} {l : Launch} {e : Env} {s : State} {m : MethodId} {args : Array Value} {below : List Frame} {meth : Method} {c : Code} {H : Heap} {locs : List Loc} {ls : Array Slot} {cells slots : Nat} {MC MS : Nat} {a0 : Nat} {a1 : Nat} {a2 : Nat} {a3 : Nat} {x4 : Int32} {z0 : Int32} {z1 : Int32} {z2 : Nat} {u : Hp} {mc : Nat} {ms : Nat} {K : Int32 → Hp → Prop} {J23 : Int32 → Hp → Nat → Nat → Prop} (X : Mc G p s m args meth c RX0 cL_law 7) (hr : meth.sig.returnType = (some .boolean)) (hnt : l.stackTraces = false) (hJ23 : ∀ (x4 : Int32) (u : Hp) (mc : Nat) (ms : Nat) (H : Heap) (locs : List Loc) (ls : Array Slot) (cells slots : Nat) , cells + mc ≤ MC → slots + ms ≤ MS → J23 x4 u mc ms → GW G u s H locs → lv_has ls 7 [(0, .ref a0), (1, .ref a1), (2, .ref a2), (3, .ref a3), (4, .int x4)] → W p l e (rmL_law MC MS) s m args below meth c H locs cells slots (QI G below K args s MC MS) (F0 m 23 ls [])) (hc1 : cells + mc ≤ MC) (hc2 : slots + ms ≤ MS) (h : bL_law_1098 K (Glit G) J23 a0 a1 a2 a3 x4 z0 z1 z2 u mc ms) (hw : GW G u s H locs) (hl : lv_has ls 7 [(0, .ref a0), (1, .ref a1), (2, .ref a2), (3, .ref a3), (4, .int x4)]) : W p l e (rmL_law MC MS) s m args below meth c H locs cells slots (QI G below K args s MC MS) (F0 m 1098 ls [.int z0, .int z1, .ref z2]) := by
  obtain ⟨hx, hb, hml, hown, hts, -⟩ := id X
  unfold bL_law_1098 at h
  have hk_142 : kd u z2 = 1 := h.1
  have h := h.2
  refine g_calli hw (g_V X hw (mX1_evening l G _ _ _ _ _ h) 2 (lw_V q1302 q1303 q1304 q122 q1305) rfl rfl ydX1_evening ⟨Nat.le_of_ble_eq_true rfl, Nat.le_of_ble_eq_true rfl⟩ (g_recv X hw (ci := 0) (q := (RX1, TX1, 16)) hk_142 rfl) (As := [.int z1, .int z0]) (rest := []) rfl hl.1 rfl (Nat.le_of_ble_eq_true rfl) dL_law_1098 ⟨(by show _ ≤ MC; omega), (by show _ ≤ MS; omega)⟩) (fun r_143 u_144 H locs h hw => ?_)
  refine lv_aload_n hx hb dL_law_1101 rfl (lv_at hl 2 rfl) ?_
  refine lv_aload_n hx hb dL_law_1102 rfl (lv_at hl 0 rfl) ?_
  refine lv_iload hx hb dL_law_1103 (lv_at hl 4 rfl) ?_
  refine lv_iconst (v := 1) hx hb dL_law_1105 (by decide) ?_
  refine lv_iadd hx hb dL_law_1106 ?_
  have hk_145 : kd u_144 a0 = 203 := h.1
  have h := h.2
  refine g_sald X hw hk_145 h.1 dL_law_1107 ?_
  have h := h.2
  refine lv_aload_n hx hb dL_law_1108 rfl (lv_at hl 0 rfl) ?_
  refine lv_iload hx hb dL_law_1109 (lv_at hl 4 rfl) ?_
  refine lv_iconst (v := 2) hx hb dL_law_1111 (by decide) ?_
  refine lv_iadd hx hb dL_law_1112 ?_
  refine g_sald X hw hk_145 h.1 dL_law_1113 ?_
  have h := h.2
  refine lv_if_eq (tgt := 1121) hx hb dL_law_1114 rfl (fun c_154 => ?_) (fun c_154 => ?_)
  · have h := h.1 c_154
    refine lv_iconst (v := 0) hx hb dL_law_1121 (by decide) ?_
    have hk_146 : kd u_144 a2 = 16 := h.1
    have h := h.2
    refine g_calli hw (g_V X hw (mX19_evening l G _ _ _ _ _ h) 2 (lw_V q2125 q2126 q2127 q143 q2128) rfl rfl ydX19_evening ⟨Nat.le_of_ble_eq_true rfl, Nat.le_of_ble_eq_true rfl⟩ (g_recv X hw (ci := 15) (q := (RX19, TX19, 46)) hk_146 rfl) (As := [.int (AI u_144 a0 (tn (x4 + 1))), .int 0]) (rest := [.int r_143]) rfl hl.1 rfl (Nat.le_of_ble_eq_true rfl) dL_law_1122 ⟨(by show _ ≤ MC; omega), (by show _ ≤ MS; omega)⟩) (fun r_147 u_148 H locs h hw => ?_)
    refine lv_icmp_eq (tgt := 1565) hx hb dL_law_1125 rfl (fun c_149 => ?_) (fun c_149 => ?_)
    · have h := h.1 c_149
      refine lv_iinc (v := x4 + 6) (lv' := [(4, .int (x4 + 6)), (0, .ref a0), (1, .ref a1), (2, .ref a2), (3, .ref a3)]) hx hb dL_law_1565 hl (k := 4) rfl rfl (by decide) rfl (fun ls hl => ?_)
      refine lv_goto (tgt := 23) hx hb dL_law_1568 rfl ?_
      exact hJ23 _ _ _ _ _ _ _ _ _ (by omega) (by omega) h hw (lv_sub hl [1, 2, 3, 4, 0] rfl)
    · have h := h.2 c_149
      refine lv_iconst (v := 0) hx hb dL_law_1128 (by decide) ?_
      exact g_zret X hw hr rfl h (by omega) (by omega) dL_law_1129
  · have h := h.2 c_154
    refine lv_iconst (v := 1) hx hb dL_law_1117 (by decide) ?_
    refine lv_goto (tgt := 1122) hx hb dL_law_1118 rfl ?_
    have hk_150 : kd u_144 a2 = 16 := h.1
    have h := h.2
    refine g_calli hw (g_V X hw (mX19_evening l G _ _ _ _ _ h) 2 (lw_V q2125 q2126 q2127 q143 q2128) rfl rfl ydX19_evening ⟨Nat.le_of_ble_eq_true rfl, Nat.le_of_ble_eq_true rfl⟩ (g_recv X hw (ci := 15) (q := (RX19, TX19, 46)) hk_150 rfl) (As := [.int (AI u_144 a0 (tn (x4 + 1))), .int 1]) (rest := [.int r_143]) rfl hl.1 rfl (Nat.le_of_ble_eq_true rfl) dL_law_1122 ⟨(by show _ ≤ MC; omega), (by show _ ≤ MS; omega)⟩) (fun r_151 u_152 H locs h hw => ?_)
    refine lv_icmp_eq (tgt := 1565) hx hb dL_law_1125 rfl (fun c_153 => ?_) (fun c_153 => ?_)
    · have h := h.1 c_153
      refine lv_iinc (v := x4 + 6) (lv' := [(4, .int (x4 + 6)), (0, .ref a0), (1, .ref a1), (2, .ref a2), (3, .ref a3)]) hx hb dL_law_1565 hl (k := 4) rfl rfl (by decide) rfl (fun ls hl => ?_)
      refine lv_goto (tgt := 23) hx hb dL_law_1568 rfl ?_
      exact hJ23 _ _ _ _ _ _ _ _ _ (by omega) (by omega) h hw (lv_sub hl [1, 2, 3, 4, 0] rfl)
    · have h := h.2 c_153
      refine lv_iconst (v := 0) hx hb dL_law_1128 (by decide) ?_
      exact g_zret X hw hr rfl h (by omega) (by omega) dL_law_1129
set_option maxHeartbeats 4000000 in
theorem wL_law_1077 {G : GT} {p : Program} {l : Launch} {e : Env} {s : State} {m : MethodId} {args : Array Value} {below : List Frame} {meth : Method} {c : Code} {H : Heap} {locs : List Loc} {ls : Array Slot} {cells slots : Nat} {MC MS : Nat} {a0 : Nat} {a1 : Nat} {a2 : Nat} {a3 : Nat} {x4 : Int32} {u : Hp} {mc : Nat} {ms : Nat} {K : Int32 → Hp → Prop} {J23 : Int32 → Hp → Nat → Nat → Prop} (X : Mc G p s m args meth c RX0 cL_law 7) (hr : meth.sig.returnType = (some .boolean)) (hnt : l.stackTraces = false) (hJ23 : ∀ (x4 : Int32) (u : Hp) (mc : Nat) (ms : Nat) (H : Heap) (locs : List Loc) (ls : Array Slot) (cells slots : Nat) , cells + mc ≤ MC → slots + ms ≤ MS → J23 x4 u mc ms → GW G u s H locs → lv_has ls 7 [(0, .ref a0), (1, .ref a1), (2, .ref a2), (3, .ref a3), (4, .int x4)] → W p l e (rmL_law MC MS) s m args below meth c H locs cells slots (QI G below K args s MC MS) (F0 m 23 ls [])) (hc1 : cells + mc ≤ MC) (hc2 : slots + ms ≤ MS) (h : bL_law_1077 K (Glit G) J23 a0 a1 a2 a3 x4 u mc ms) (hw : GW G u s H locs) (hl : lv_has ls 7 [(0, .ref a0), (1, .ref a1), (2, .ref a2), (3, .ref a3), (4, .int x4)]) : W p l e (rmL_law MC MS) s m args below meth c H locs cells slots (QI G below K args s MC MS) (F0 m 1077 ls []) := by
  obtain ⟨hx, hb, hml, hown, hts, -⟩ := id X
  unfold bL_law_1077 at h
  refine lv_aload_n hx hb dL_law_1077 rfl (lv_at hl 1 rfl) ?_
  refine lv_aload_n hx hb dL_law_1078 rfl (lv_at hl 0 rfl) ?_
  refine lv_iload hx hb dL_law_1079 (lv_at hl 4 rfl) ?_
  refine lv_iconst (v := 1) hx hb dL_law_1081 (by decide) ?_
  refine lv_iadd hx hb dL_law_1082 ?_
  have hk_155 : kd u a0 = 203 := h.1
  have h := h.2
  refine g_sald X hw hk_155 h.1 dL_law_1083 ?_
  have h := h.2
  refine lv_aload_n hx hb dL_law_1084 rfl (lv_at hl 0 rfl) ?_
  refine lv_iload hx hb dL_law_1085 (lv_at hl 4 rfl) ?_
  refine lv_iconst (v := 2) hx hb dL_law_1087 (by decide) ?_
  refine lv_iadd hx hb dL_law_1088 ?_
  refine g_sald X hw hk_155 h.1 dL_law_1089 ?_
  have h := h.2
  refine lv_if_eq (tgt := 1097) hx hb dL_law_1090 rfl (fun c_156 => ?_) (fun c_156 => ?_)
  · have h := h.1 c_156
    refine lv_iconst (v := 0) hx hb dL_law_1097 (by decide) ?_
    exact wL_law_1098 X hr hnt hJ23 (by omega) (by omega) h hw (lv_sub hl [0, 1, 2, 3, 4] rfl)
  · have h := h.2 c_156
    refine lv_iconst (v := 1) hx hb dL_law_1093 (by decide) ?_
    refine lv_goto (tgt := 1098) hx hb dL_law_1094 rfl ?_
    exact wL_law_1098 X hr hnt hJ23 (by omega) (by omega) h hw (lv_sub hl [0, 1, 2, 3, 4] rfl)
set_option maxHeartbeats 4000000 in
theorem wL_law_1052 {G : GT} {p : Program} {l : Launch} {e : Env} {s : State} {m : MethodId} {args : Array Value} {below : List Frame} {meth : Method} {c : Code} {H : Heap} {locs : List Loc} {ls : Array Slot} {cells slots : Nat} {MC MS : Nat} {a0 : Nat} {a1 : Nat} {a2 : Nat} {a3 : Nat} {x4 : Int32} {u : Hp} {mc : Nat} {ms : Nat} {K : Int32 → Hp → Prop} {J23 : Int32 → Hp → Nat → Nat → Prop} (X : Mc G p s m args meth c RX0 cL_law 7) (hr : meth.sig.returnType = (some .boolean)) (hnt : l.stackTraces = false) (hJ23 : ∀ (x4 : Int32) (u : Hp) (mc : Nat) (ms : Nat) (H : Heap) (locs : List Loc) (ls : Array Slot) (cells slots : Nat) , cells + mc ≤ MC → slots + ms ≤ MS → J23 x4 u mc ms → GW G u s H locs → lv_has ls 7 [(0, .ref a0), (1, .ref a1), (2, .ref a2), (3, .ref a3), (4, .int x4)] → W p l e (rmL_law MC MS) s m args below meth c H locs cells slots (QI G below K args s MC MS) (F0 m 23 ls [])) (hc1 : cells + mc ≤ MC) (hc2 : slots + ms ≤ MS) (h : bL_law_1052 K (Glit G) J23 a0 a1 a2 a3 x4 u mc ms) (hw : GW G u s H locs) (hl : lv_has ls 7 [(0, .ref a0), (1, .ref a1), (2, .ref a2), (3, .ref a3), (4, .int x4)]) : W p l e (rmL_law MC MS) s m args below meth c H locs cells slots (QI G below K args s MC MS) (F0 m 1052 ls []) := by
  obtain ⟨hx, hb, hml, hown, hts, -⟩ := id X
  unfold bL_law_1052 at h
  refine lv_aload_n hx hb dL_law_1052 rfl (lv_at hl 1 rfl) ?_
  refine lv_aload_n hx hb dL_law_1053 rfl (lv_at hl 0 rfl) ?_
  refine lv_iload hx hb dL_law_1054 (lv_at hl 4 rfl) ?_
  refine lv_iconst (v := 1) hx hb dL_law_1056 (by decide) ?_
  refine lv_iadd hx hb dL_law_1057 ?_
  have hk_157 : kd u a0 = 203 := h.1
  have h := h.2
  refine g_sald X hw hk_157 h.1 dL_law_1058 ?_
  have h := h.2
  have hk_158 : kd u a1 = 1 := h.1
  have h := h.2
  refine g_calli hw (g_V X hw (mX1_judge l G _ _ _ _ h) 1 (lw_V q1294 q1295 q1296 q122 q1297) rfl rfl ydX1_judge ⟨Nat.le_of_ble_eq_true rfl, Nat.le_of_ble_eq_true rfl⟩ (g_recv X hw (ci := 0) (q := (RX1, TX1, 16)) hk_158 rfl) (As := [.int (AI u a0 (tn (x4 + 1)))]) (rest := []) rfl hl.1 rfl (Nat.le_of_ble_eq_true rfl) dL_law_1059 ⟨(by show _ ≤ MC; omega), (by show _ ≤ MS; omega)⟩) (fun r_159 u_160 H locs h hw => ?_)
  refine lv_aload_n hx hb dL_law_1062 rfl (lv_at hl 2 rfl) ?_
  refine lv_aload_n hx hb dL_law_1063 rfl (lv_at hl 0 rfl) ?_
  refine lv_iload hx hb dL_law_1064 (lv_at hl 4 rfl) ?_
  refine lv_iconst (v := 1) hx hb dL_law_1066 (by decide) ?_
  refine lv_iadd hx hb dL_law_1067 ?_
  have hk_161 : kd u_160 a0 = 203 := h.1
  have h := h.2
  refine g_sald X hw hk_161 h.1 dL_law_1068 ?_
  have h := h.2
  have hk_162 : kd u_160 a2 = 16 := h.1
  have h := h.2
  refine g_calli hw (g_V X hw (mX19_judge l G _ _ _ _ h) 1 (lw_V q2117 q2118 q2119 q143 q2120) rfl rfl ydX19_judge ⟨Nat.le_of_ble_eq_true rfl, Nat.le_of_ble_eq_true rfl⟩ (g_recv X hw (ci := 15) (q := (RX19, TX19, 46)) hk_162 rfl) (As := [.int (AI u_160 a0 (tn (x4 + 1)))]) (rest := [.int r_159]) rfl hl.1 rfl (Nat.le_of_ble_eq_true rfl) dL_law_1069 ⟨(by show _ ≤ MC; omega), (by show _ ≤ MS; omega)⟩) (fun r_163 u_164 H locs h hw => ?_)
  refine lv_icmp_eq (tgt := 1565) hx hb dL_law_1072 rfl (fun c_165 => ?_) (fun c_165 => ?_)
  · have h := h.1 c_165
    refine lv_iinc (v := x4 + 6) (lv' := [(4, .int (x4 + 6)), (0, .ref a0), (1, .ref a1), (2, .ref a2), (3, .ref a3)]) hx hb dL_law_1565 hl (k := 4) rfl rfl (by decide) rfl (fun ls hl => ?_)
    refine lv_goto (tgt := 23) hx hb dL_law_1568 rfl ?_
    exact hJ23 _ _ _ _ _ _ _ _ _ (by omega) (by omega) h hw (lv_sub hl [1, 2, 3, 4, 0] rfl)
  · have h := h.2 c_165
    refine lv_iconst (v := 0) hx hb dL_law_1075 (by decide) ?_
    exact g_zret X hw hr rfl h (by omega) (by omega) dL_law_1076
set_option maxHeartbeats 4000000 in
theorem wL_law_1039 {G : GT} {p : Program} {l : Launch} {e : Env} {s : State} {m : MethodId} {args : Array Value} {below : List Frame} {meth : Method} {c : Code} {H : Heap} {locs : List Loc} {ls : Array Slot} {cells slots : Nat} {MC MS : Nat} {a0 : Nat} {a1 : Nat} {a2 : Nat} {a3 : Nat} {x4 : Int32} {u : Hp} {mc : Nat} {ms : Nat} {K : Int32 → Hp → Prop} {J23 : Int32 → Hp → Nat → Nat → Prop} (X : Mc G p s m args meth c RX0 cL_law 7) (hr : meth.sig.returnType = (some .boolean)) (hnt : l.stackTraces = false) (hJ23 : ∀ (x4 : Int32) (u : Hp) (mc : Nat) (ms : Nat) (H : Heap) (locs : List Loc) (ls : Array Slot) (cells slots : Nat) , cells + mc ≤ MC → slots + ms ≤ MS → J23 x4 u mc ms → GW G u s H locs → lv_has ls 7 [(0, .ref a0), (1, .ref a1), (2, .ref a2), (3, .ref a3), (4, .int x4)] → W p l e (rmL_law MC MS) s m args below meth c H locs cells slots (QI G below K args s MC MS) (F0 m 23 ls [])) (hc1 : cells + mc ≤ MC) (hc2 : slots + ms ≤ MS) (h : bL_law_1039 K (Glit G) J23 a0 a1 a2 a3 x4 u mc ms) (hw : GW G u s H locs) (hl : lv_has ls 7 [(0, .ref a0), (1, .ref a1), (2, .ref a2), (3, .ref a3), (4, .int x4)]) : W p l e (rmL_law MC MS) s m args below meth c H locs cells slots (QI G below K args s MC MS) (F0 m 1039 ls []) := by
  obtain ⟨hx, hb, hml, hown, hts, -⟩ := id X
  unfold bL_law_1039 at h
  refine lv_aload_n hx hb dL_law_1039 rfl (lv_at hl 1 rfl) ?_
  have hk_166 : kd u a1 = 1 := h.1
  have h := h.2
  refine g_calli hw (g_V X hw (mX1_most l G _ _ _ h) 0 (lw_V q1290 q1291 q1292 q122 q1293) rfl rfl ydX1_most ⟨Nat.le_of_ble_eq_true rfl, Nat.le_of_ble_eq_true rfl⟩ (g_recv X hw (ci := 0) (q := (RX1, TX1, 16)) hk_166 rfl) (As := []) (rest := []) rfl hl.1 rfl (Nat.le_of_ble_eq_true rfl) dL_law_1040 ⟨(by show _ ≤ MC; omega), (by show _ ≤ MS; omega)⟩) (fun r_167 u_168 H locs h hw => ?_)
  refine lv_aload_n hx hb dL_law_1043 rfl (lv_at hl 2 rfl) ?_
  have hk_169 : kd u_168 a2 = 16 := h.1
  have h := h.2
  refine g_calli hw (g_V X hw (mX19_most l G _ _ _ h) 0 (lw_V q2113 q2114 q2115 q143 q2116) rfl rfl ydX19_most ⟨Nat.le_of_ble_eq_true rfl, Nat.le_of_ble_eq_true rfl⟩ (g_recv X hw (ci := 15) (q := (RX19, TX19, 46)) hk_169 rfl) (As := []) (rest := [.int r_167]) rfl hl.1 rfl (Nat.le_of_ble_eq_true rfl) dL_law_1044 ⟨(by show _ ≤ MC; omega), (by show _ ≤ MS; omega)⟩) (fun r_170 u_171 H locs h hw => ?_)
  refine lv_icmp_eq (tgt := 1565) hx hb dL_law_1047 rfl (fun c_172 => ?_) (fun c_172 => ?_)
  · have h := h.1 c_172
    refine lv_iinc (v := x4 + 6) (lv' := [(4, .int (x4 + 6)), (0, .ref a0), (1, .ref a1), (2, .ref a2), (3, .ref a3)]) hx hb dL_law_1565 hl (k := 4) rfl rfl (by decide) rfl (fun ls hl => ?_)
    refine lv_goto (tgt := 23) hx hb dL_law_1568 rfl ?_
    exact hJ23 _ _ _ _ _ _ _ _ _ (by omega) (by omega) h hw (lv_sub hl [1, 2, 3, 4, 0] rfl)
  · have h := h.2 c_172
    refine lv_iconst (v := 0) hx hb dL_law_1050 (by decide) ?_
    exact g_zret X hw hr rfl h (by omega) (by omega) dL_law_1051
set_option maxHeartbeats 4000000 in
theorem wL_law_1006 {G : GT} {p : Program} {l : Launch} {e : Env} {s : State} {m : MethodId} {args : Array Value} {below : List Frame} {meth : Method} {c : Code} {H : Heap} {locs : List Loc} {ls : Array Slot} {cells slots : Nat} {MC MS : Nat} {a0 : Nat} {a1 : Nat} {a2 : Nat} {a3 : Nat} {x4 : Int32} {z0 : Int32} {z1 : Int32} {z2 : Nat} {u : Hp} {mc : Nat} {ms : Nat} {K : Int32 → Hp → Prop} {J23 : Int32 → Hp → Nat → Nat → Prop} (X : Mc G p s m args meth c RX0 cL_law 7) (hr : meth.sig.returnType = (some .boolean)) (hnt : l.stackTraces = false) (hJ23 : ∀ (x4 : Int32) (u : Hp) (mc : Nat) (ms : Nat) (H : Heap) (locs : List Loc) (ls : Array Slot) (cells slots : Nat) , cells + mc ≤ MC → slots + ms ≤ MS → J23 x4 u mc ms → GW G u s H locs → lv_has ls 7 [(0, .ref a0), (1, .ref a1), (2, .ref a2), (3, .ref a3), (4, .int x4)] → W p l e (rmL_law MC MS) s m args below meth c H locs cells slots (QI G below K args s MC MS) (F0 m 23 ls [])) (hc1 : cells + mc ≤ MC) (hc2 : slots + ms ≤ MS) (h : bL_law_1006 K (Glit G) J23 a0 a1 a2 a3 x4 z0 z1 z2 u mc ms) (hw : GW G u s H locs) (hl : lv_has ls 7 [(0, .ref a0), (1, .ref a1), (2, .ref a2), (3, .ref a3), (4, .int x4)]) : W p l e (rmL_law MC MS) s m args below meth c H locs cells slots (QI G below K args s MC MS) (F0 m 1006 ls [.int z0, .int z1, .ref z2]) := by
  obtain ⟨hx, hb, hml, hown, hts, -⟩ := id X
  unfold bL_law_1006 at h
  have hk_173 : kd u z2 = 1 := h.1
  have h := h.2
  refine g_calll hw (g_V X hw (mX1_count l G _ _ _ _ _ h) 2 (lw_V q1281 q1282 q1283 q122 q1284) rfl rfl ydX1_count ⟨Nat.le_of_ble_eq_true rfl, Nat.le_of_ble_eq_true rfl⟩ (g_recv X hw (ci := 0) (q := (RX1, TX1, 16)) hk_173 rfl) (As := [.int z1, .int z0]) (rest := []) rfl hl.1 rfl (Nat.le_of_ble_eq_true rfl) dL_law_1006 ⟨(by show _ ≤ MC; omega), (by show _ ≤ MS; omega)⟩) (fun r_174 u_175 H locs h hw => ?_)
  refine lv_aload_n hx hb dL_law_1009 rfl (lv_at hl 2 rfl) ?_
  refine lv_aload_n hx hb dL_law_1010 rfl (lv_at hl 0 rfl) ?_
  refine lv_iload hx hb dL_law_1011 (lv_at hl 4 rfl) ?_
  refine lv_iconst (v := 1) hx hb dL_law_1013 (by decide) ?_
  refine lv_iadd hx hb dL_law_1014 ?_
  have hk_176 : kd u_175 a0 = 203 := h.1
  have h := h.2
  refine g_sald X hw hk_176 h.1 dL_law_1015 ?_
  have h := h.2
  refine lv_aload_n hx hb dL_law_1016 rfl (lv_at hl 0 rfl) ?_
  refine lv_iload hx hb dL_law_1017 (lv_at hl 4 rfl) ?_
  refine lv_iconst (v := 2) hx hb dL_law_1019 (by decide) ?_
  refine lv_iadd hx hb dL_law_1020 ?_
  refine g_sald X hw hk_176 h.1 dL_law_1021 ?_
  have h := h.2
  refine lv_if_eq (tgt := 1029) hx hb dL_law_1022 rfl (fun c_185 => ?_) (fun c_185 => ?_)
  · have h := h.1 c_185
    refine lv_iconst (v := 0) hx hb dL_law_1029 (by decide) ?_
    have hk_177 : kd u_175 a2 = 16 := h.1
    have h := h.2
    refine g_calll hw (g_V X hw (mX19_count l G _ _ _ _ _ h) 2 (lw_V q2105 q2106 q2107 q143 q2108) rfl rfl ydX19_count ⟨Nat.le_of_ble_eq_true rfl, Nat.le_of_ble_eq_true rfl⟩ (g_recv X hw (ci := 15) (q := (RX19, TX19, 46)) hk_177 rfl) (As := [.int (AI u_175 a0 (tn (x4 + 1))), .int 0]) (rest := [.long r_174]) rfl hl.1 rfl (Nat.le_of_ble_eq_true rfl) dL_law_1030 ⟨(by show _ ≤ MC; omega), (by show _ ≤ MS; omega)⟩) (fun r_178 u_179 H locs h hw => ?_)
    refine W.lcmp hx hb dL_law_1033 ?_
    refine lv_if_eq (tgt := 1565) hx hb dL_law_1034 rfl (fun c_180 => ?_) (fun c_180 => ?_)
    · have h := h.1 c_180
      refine lv_iinc (v := x4 + 6) (lv' := [(4, .int (x4 + 6)), (0, .ref a0), (1, .ref a1), (2, .ref a2), (3, .ref a3)]) hx hb dL_law_1565 hl (k := 4) rfl rfl (by decide) rfl (fun ls hl => ?_)
      refine lv_goto (tgt := 23) hx hb dL_law_1568 rfl ?_
      exact hJ23 _ _ _ _ _ _ _ _ _ (by omega) (by omega) h hw (lv_sub hl [1, 2, 3, 4, 0] rfl)
    · have h := h.2 c_180
      refine lv_iconst (v := 0) hx hb dL_law_1037 (by decide) ?_
      exact g_zret X hw hr rfl h (by omega) (by omega) dL_law_1038
  · have h := h.2 c_185
    refine lv_iconst (v := 1) hx hb dL_law_1025 (by decide) ?_
    refine lv_goto (tgt := 1030) hx hb dL_law_1026 rfl ?_
    have hk_181 : kd u_175 a2 = 16 := h.1
    have h := h.2
    refine g_calll hw (g_V X hw (mX19_count l G _ _ _ _ _ h) 2 (lw_V q2105 q2106 q2107 q143 q2108) rfl rfl ydX19_count ⟨Nat.le_of_ble_eq_true rfl, Nat.le_of_ble_eq_true rfl⟩ (g_recv X hw (ci := 15) (q := (RX19, TX19, 46)) hk_181 rfl) (As := [.int (AI u_175 a0 (tn (x4 + 1))), .int 1]) (rest := [.long r_174]) rfl hl.1 rfl (Nat.le_of_ble_eq_true rfl) dL_law_1030 ⟨(by show _ ≤ MC; omega), (by show _ ≤ MS; omega)⟩) (fun r_182 u_183 H locs h hw => ?_)
    refine W.lcmp hx hb dL_law_1033 ?_
    refine lv_if_eq (tgt := 1565) hx hb dL_law_1034 rfl (fun c_184 => ?_) (fun c_184 => ?_)
    · have h := h.1 c_184
      refine lv_iinc (v := x4 + 6) (lv' := [(4, .int (x4 + 6)), (0, .ref a0), (1, .ref a1), (2, .ref a2), (3, .ref a3)]) hx hb dL_law_1565 hl (k := 4) rfl rfl (by decide) rfl (fun ls hl => ?_)
      refine lv_goto (tgt := 23) hx hb dL_law_1568 rfl ?_
      exact hJ23 _ _ _ _ _ _ _ _ _ (by omega) (by omega) h hw (lv_sub hl [1, 2, 3, 4, 0] rfl)
    · have h := h.2 c_184
      refine lv_iconst (v := 0) hx hb dL_law_1037 (by decide) ?_
      exact g_zret X hw hr rfl h (by omega) (by omega) dL_law_1038
set_option maxHeartbeats 4000000 in
theorem wL_law_985 {G : GT} {p : Program} {l : Launch} {e : Env} {s : State} {m : MethodId} {args : Array Value} {below : List Frame} {meth : Method} {c : Code} {H : Heap} {locs : List Loc} {ls : Array Slot} {cells slots : Nat} {MC MS : Nat} {a0 : Nat} {a1 : Nat} {a2 : Nat} {a3 : Nat} {x4 : Int32} {u : Hp} {mc : Nat} {ms : Nat} {K : Int32 → Hp → Prop} {J23 : Int32 → Hp → Nat → Nat → Prop} (X : Mc G p s m args meth c RX0 cL_law 7) (hr : meth.sig.returnType = (some .boolean)) (hnt : l.stackTraces = false) (hJ23 : ∀ (x4 : Int32) (u : Hp) (mc : Nat) (ms : Nat) (H : Heap) (locs : List Loc) (ls : Array Slot) (cells slots : Nat) , cells + mc ≤ MC → slots + ms ≤ MS → J23 x4 u mc ms → GW G u s H locs → lv_has ls 7 [(0, .ref a0), (1, .ref a1), (2, .ref a2), (3, .ref a3), (4, .int x4)] → W p l e (rmL_law MC MS) s m args below meth c H locs cells slots (QI G below K args s MC MS) (F0 m 23 ls [])) (hc1 : cells + mc ≤ MC) (hc2 : slots + ms ≤ MS) (h : bL_law_985 K (Glit G) J23 a0 a1 a2 a3 x4 u mc ms) (hw : GW G u s H locs) (hl : lv_has ls 7 [(0, .ref a0), (1, .ref a1), (2, .ref a2), (3, .ref a3), (4, .int x4)]) : W p l e (rmL_law MC MS) s m args below meth c H locs cells slots (QI G below K args s MC MS) (F0 m 985 ls []) := by
  obtain ⟨hx, hb, hml, hown, hts, -⟩ := id X
  unfold bL_law_985 at h
  refine lv_aload_n hx hb dL_law_985 rfl (lv_at hl 1 rfl) ?_
  refine lv_aload_n hx hb dL_law_986 rfl (lv_at hl 0 rfl) ?_
  refine lv_iload hx hb dL_law_987 (lv_at hl 4 rfl) ?_
  refine lv_iconst (v := 1) hx hb dL_law_989 (by decide) ?_
  refine lv_iadd hx hb dL_law_990 ?_
  have hk_186 : kd u a0 = 203 := h.1
  have h := h.2
  refine g_sald X hw hk_186 h.1 dL_law_991 ?_
  have h := h.2
  refine lv_aload_n hx hb dL_law_992 rfl (lv_at hl 0 rfl) ?_
  refine lv_iload hx hb dL_law_993 (lv_at hl 4 rfl) ?_
  refine lv_iconst (v := 2) hx hb dL_law_995 (by decide) ?_
  refine lv_iadd hx hb dL_law_996 ?_
  refine g_sald X hw hk_186 h.1 dL_law_997 ?_
  have h := h.2
  refine lv_if_eq (tgt := 1005) hx hb dL_law_998 rfl (fun c_187 => ?_) (fun c_187 => ?_)
  · have h := h.1 c_187
    refine lv_iconst (v := 0) hx hb dL_law_1005 (by decide) ?_
    exact wL_law_1006 X hr hnt hJ23 (by omega) (by omega) h hw (lv_sub hl [0, 1, 2, 3, 4] rfl)
  · have h := h.2 c_187
    refine lv_iconst (v := 1) hx hb dL_law_1001 (by decide) ?_
    refine lv_goto (tgt := 1006) hx hb dL_law_1002 rfl ?_
    exact wL_law_1006 X hr hnt hJ23 (by omega) (by omega) h hw (lv_sub hl [0, 1, 2, 3, 4] rfl)
set_option maxHeartbeats 4000000 in
theorem wL_law_960 {G : GT} {p : Program} {l : Launch} {e : Env} {s : State} {m : MethodId} {args : Array Value} {below : List Frame} {meth : Method} {c : Code} {H : Heap} {locs : List Loc} {ls : Array Slot} {cells slots : Nat} {MC MS : Nat} {a0 : Nat} {a1 : Nat} {a2 : Nat} {a3 : Nat} {x4 : Int32} {u : Hp} {mc : Nat} {ms : Nat} {K : Int32 → Hp → Prop} {J23 : Int32 → Hp → Nat → Nat → Prop} (X : Mc G p s m args meth c RX0 cL_law 7) (hr : meth.sig.returnType = (some .boolean)) (hnt : l.stackTraces = false) (hJ23 : ∀ (x4 : Int32) (u : Hp) (mc : Nat) (ms : Nat) (H : Heap) (locs : List Loc) (ls : Array Slot) (cells slots : Nat) , cells + mc ≤ MC → slots + ms ≤ MS → J23 x4 u mc ms → GW G u s H locs → lv_has ls 7 [(0, .ref a0), (1, .ref a1), (2, .ref a2), (3, .ref a3), (4, .int x4)] → W p l e (rmL_law MC MS) s m args below meth c H locs cells slots (QI G below K args s MC MS) (F0 m 23 ls [])) (hc1 : cells + mc ≤ MC) (hc2 : slots + ms ≤ MS) (h : bL_law_960 K (Glit G) J23 a0 a1 a2 a3 x4 u mc ms) (hw : GW G u s H locs) (hl : lv_has ls 7 [(0, .ref a0), (1, .ref a1), (2, .ref a2), (3, .ref a3), (4, .int x4)]) : W p l e (rmL_law MC MS) s m args below meth c H locs cells slots (QI G below K args s MC MS) (F0 m 960 ls []) := by
  obtain ⟨hx, hb, hml, hown, hts, -⟩ := id X
  unfold bL_law_960 at h
  refine lv_aload_n hx hb dL_law_960 rfl (lv_at hl 1 rfl) ?_
  refine lv_aload_n hx hb dL_law_961 rfl (lv_at hl 0 rfl) ?_
  refine lv_iload hx hb dL_law_962 (lv_at hl 4 rfl) ?_
  refine lv_iconst (v := 1) hx hb dL_law_964 (by decide) ?_
  refine lv_iadd hx hb dL_law_965 ?_
  have hk_188 : kd u a0 = 203 := h.1
  have h := h.2
  refine g_sald X hw hk_188 h.1 dL_law_966 ?_
  have h := h.2
  have hk_189 : kd u a1 = 1 := h.1
  have h := h.2
  refine g_calli hw (g_V X hw (mX1_table l G _ _ _ _ h) 1 (lw_V q1277 q1278 q1279 q122 q1280) rfl rfl ydX1_table ⟨Nat.le_of_ble_eq_true rfl, Nat.le_of_ble_eq_true rfl⟩ (g_recv X hw (ci := 0) (q := (RX1, TX1, 16)) hk_189 rfl) (As := [.int (AI u a0 (tn (x4 + 1)))]) (rest := []) rfl hl.1 rfl (Nat.le_of_ble_eq_true rfl) dL_law_967 ⟨(by show _ ≤ MC; omega), (by show _ ≤ MS; omega)⟩) (fun r_190 u_191 H locs h hw => ?_)
  refine lv_aload_n hx hb dL_law_970 rfl (lv_at hl 2 rfl) ?_
  refine lv_aload_n hx hb dL_law_971 rfl (lv_at hl 0 rfl) ?_
  refine lv_iload hx hb dL_law_972 (lv_at hl 4 rfl) ?_
  refine lv_iconst (v := 1) hx hb dL_law_974 (by decide) ?_
  refine lv_iadd hx hb dL_law_975 ?_
  have hk_192 : kd u_191 a0 = 203 := h.1
  have h := h.2
  refine g_sald X hw hk_192 h.1 dL_law_976 ?_
  have h := h.2
  have hk_193 : kd u_191 a2 = 16 := h.1
  have h := h.2
  refine g_calli hw (g_V X hw (mX19_table l G _ _ _ _ h) 1 (lw_V q2101 q2102 q2103 q143 q2104) rfl rfl ydX19_table ⟨Nat.le_of_ble_eq_true rfl, Nat.le_of_ble_eq_true rfl⟩ (g_recv X hw (ci := 15) (q := (RX19, TX19, 46)) hk_193 rfl) (As := [.int (AI u_191 a0 (tn (x4 + 1)))]) (rest := [.int r_190]) rfl hl.1 rfl (Nat.le_of_ble_eq_true rfl) dL_law_977 ⟨(by show _ ≤ MC; omega), (by show _ ≤ MS; omega)⟩) (fun r_194 u_195 H locs h hw => ?_)
  refine lv_icmp_eq (tgt := 1565) hx hb dL_law_980 rfl (fun c_196 => ?_) (fun c_196 => ?_)
  · have h := h.1 c_196
    refine lv_iinc (v := x4 + 6) (lv' := [(4, .int (x4 + 6)), (0, .ref a0), (1, .ref a1), (2, .ref a2), (3, .ref a3)]) hx hb dL_law_1565 hl (k := 4) rfl rfl (by decide) rfl (fun ls hl => ?_)
    refine lv_goto (tgt := 23) hx hb dL_law_1568 rfl ?_
    exact hJ23 _ _ _ _ _ _ _ _ _ (by omega) (by omega) h hw (lv_sub hl [1, 2, 3, 4, 0] rfl)
  · have h := h.2 c_196
    refine lv_iconst (v := 0) hx hb dL_law_983 (by decide) ?_
    exact g_zret X hw hr rfl h (by omega) (by omega) dL_law_984
set_option maxHeartbeats 4000000 in
theorem wL_law_947 {G : GT} {p : Program} {l : Launch} {e : Env} {s : State} {m : MethodId} {args : Array Value} {below : List Frame} {meth : Method} {c : Code} {H : Heap} {locs : List Loc} {ls : Array Slot} {cells slots : Nat} {MC MS : Nat} {a0 : Nat} {a1 : Nat} {a2 : Nat} {a3 : Nat} {x4 : Int32} {u : Hp} {mc : Nat} {ms : Nat} {K : Int32 → Hp → Prop} {J23 : Int32 → Hp → Nat → Nat → Prop} (X : Mc G p s m args meth c RX0 cL_law 7) (hr : meth.sig.returnType = (some .boolean)) (hnt : l.stackTraces = false) (hJ23 : ∀ (x4 : Int32) (u : Hp) (mc : Nat) (ms : Nat) (H : Heap) (locs : List Loc) (ls : Array Slot) (cells slots : Nat) , cells + mc ≤ MC → slots + ms ≤ MS → J23 x4 u mc ms → GW G u s H locs → lv_has ls 7 [(0, .ref a0), (1, .ref a1), (2, .ref a2), (3, .ref a3), (4, .int x4)] → W p l e (rmL_law MC MS) s m args below meth c H locs cells slots (QI G below K args s MC MS) (F0 m 23 ls [])) (hc1 : cells + mc ≤ MC) (hc2 : slots + ms ≤ MS) (h : bL_law_947 K (Glit G) J23 a0 a1 a2 a3 x4 u mc ms) (hw : GW G u s H locs) (hl : lv_has ls 7 [(0, .ref a0), (1, .ref a1), (2, .ref a2), (3, .ref a3), (4, .int x4)]) : W p l e (rmL_law MC MS) s m args below meth c H locs cells slots (QI G below K args s MC MS) (F0 m 947 ls []) := by
  obtain ⟨hx, hb, hml, hown, hts, -⟩ := id X
  unfold bL_law_947 at h
  refine lv_aload_n hx hb dL_law_947 rfl (lv_at hl 1 rfl) ?_
  have hk_197 : kd u a1 = 1 := h.1
  have h := h.2
  refine g_calli hw (g_V X hw (mX1_pairs l G _ _ _ h) 0 (lw_V q1272 q1273 q1274 q122 q1275) rfl rfl ydX1_pairs ⟨Nat.le_of_ble_eq_true rfl, Nat.le_of_ble_eq_true rfl⟩ (g_recv X hw (ci := 0) (q := (RX1, TX1, 16)) hk_197 rfl) (As := []) (rest := []) rfl hl.1 rfl (Nat.le_of_ble_eq_true rfl) dL_law_948 ⟨(by show _ ≤ MC; omega), (by show _ ≤ MS; omega)⟩) (fun r_198 u_199 H locs h hw => ?_)
  refine lv_aload_n hx hb dL_law_951 rfl (lv_at hl 2 rfl) ?_
  have hk_200 : kd u_199 a2 = 16 := h.1
  have h := h.2
  refine g_calli hw (g_V X hw (mX19_pairs l G _ _ _ h) 0 (lw_V q2097 q2098 q2099 q143 q2100) rfl rfl ydX19_pairs ⟨Nat.le_of_ble_eq_true rfl, Nat.le_of_ble_eq_true rfl⟩ (g_recv X hw (ci := 15) (q := (RX19, TX19, 46)) hk_200 rfl) (As := []) (rest := [.int r_198]) rfl hl.1 rfl (Nat.le_of_ble_eq_true rfl) dL_law_952 ⟨(by show _ ≤ MC; omega), (by show _ ≤ MS; omega)⟩) (fun r_201 u_202 H locs h hw => ?_)
  refine lv_icmp_eq (tgt := 1565) hx hb dL_law_955 rfl (fun c_203 => ?_) (fun c_203 => ?_)
  · have h := h.1 c_203
    refine lv_iinc (v := x4 + 6) (lv' := [(4, .int (x4 + 6)), (0, .ref a0), (1, .ref a1), (2, .ref a2), (3, .ref a3)]) hx hb dL_law_1565 hl (k := 4) rfl rfl (by decide) rfl (fun ls hl => ?_)
    refine lv_goto (tgt := 23) hx hb dL_law_1568 rfl ?_
    exact hJ23 _ _ _ _ _ _ _ _ _ (by omega) (by omega) h hw (lv_sub hl [1, 2, 3, 4, 0] rfl)
  · have h := h.2 c_203
    refine lv_iconst (v := 0) hx hb dL_law_958 (by decide) ?_
    exact g_zret X hw hr rfl h (by omega) (by omega) dL_law_959
set_option maxHeartbeats 4000000 in
theorem wL_law_934 {G : GT} {p : Program} {l : Launch} {e : Env} {s : State} {m : MethodId} {args : Array Value} {below : List Frame} {meth : Method} {c : Code} {H : Heap} {locs : List Loc} {ls : Array Slot} {cells slots : Nat} {MC MS : Nat} {a0 : Nat} {a1 : Nat} {a2 : Nat} {a3 : Nat} {x4 : Int32} {u : Hp} {mc : Nat} {ms : Nat} {K : Int32 → Hp → Prop} {J23 : Int32 → Hp → Nat → Nat → Prop} (X : Mc G p s m args meth c RX0 cL_law 7) (hr : meth.sig.returnType = (some .boolean)) (hnt : l.stackTraces = false) (hJ23 : ∀ (x4 : Int32) (u : Hp) (mc : Nat) (ms : Nat) (H : Heap) (locs : List Loc) (ls : Array Slot) (cells slots : Nat) , cells + mc ≤ MC → slots + ms ≤ MS → J23 x4 u mc ms → GW G u s H locs → lv_has ls 7 [(0, .ref a0), (1, .ref a1), (2, .ref a2), (3, .ref a3), (4, .int x4)] → W p l e (rmL_law MC MS) s m args below meth c H locs cells slots (QI G below K args s MC MS) (F0 m 23 ls [])) (hc1 : cells + mc ≤ MC) (hc2 : slots + ms ≤ MS) (h : bL_law_934 K (Glit G) J23 a0 a1 a2 a3 x4 u mc ms) (hw : GW G u s H locs) (hl : lv_has ls 7 [(0, .ref a0), (1, .ref a1), (2, .ref a2), (3, .ref a3), (4, .int x4)]) : W p l e (rmL_law MC MS) s m args below meth c H locs cells slots (QI G below K args s MC MS) (F0 m 934 ls []) := by
  obtain ⟨hx, hb, hml, hown, hts, -⟩ := id X
  unfold bL_law_934 at h
  refine lv_aload_n hx hb dL_law_934 rfl (lv_at hl 1 rfl) ?_
  have hk_204 : kd u a1 = 1 := h.1
  have h := h.2
  refine g_calli hw (g_V X hw (mX1_shortest l G _ _ _ h) 0 (lw_V q1268 q1269 q1270 q122 q1271) rfl rfl ydX1_shortest ⟨Nat.le_of_ble_eq_true rfl, Nat.le_of_ble_eq_true rfl⟩ (g_recv X hw (ci := 0) (q := (RX1, TX1, 16)) hk_204 rfl) (As := []) (rest := []) rfl hl.1 rfl (Nat.le_of_ble_eq_true rfl) dL_law_935 ⟨(by show _ ≤ MC; omega), (by show _ ≤ MS; omega)⟩) (fun r_205 u_206 H locs h hw => ?_)
  refine lv_aload_n hx hb dL_law_938 rfl (lv_at hl 2 rfl) ?_
  have hk_207 : kd u_206 a2 = 16 := h.1
  have h := h.2
  refine g_calli hw (g_V X hw (mX19_shortest l G _ _ _ h) 0 (lw_V q2093 q2094 q2095 q143 q2096) rfl rfl ydX19_shortest ⟨Nat.le_of_ble_eq_true rfl, Nat.le_of_ble_eq_true rfl⟩ (g_recv X hw (ci := 15) (q := (RX19, TX19, 46)) hk_207 rfl) (As := []) (rest := [.int r_205]) rfl hl.1 rfl (Nat.le_of_ble_eq_true rfl) dL_law_939 ⟨(by show _ ≤ MC; omega), (by show _ ≤ MS; omega)⟩) (fun r_208 u_209 H locs h hw => ?_)
  refine lv_icmp_eq (tgt := 1565) hx hb dL_law_942 rfl (fun c_210 => ?_) (fun c_210 => ?_)
  · have h := h.1 c_210
    refine lv_iinc (v := x4 + 6) (lv' := [(4, .int (x4 + 6)), (0, .ref a0), (1, .ref a1), (2, .ref a2), (3, .ref a3)]) hx hb dL_law_1565 hl (k := 4) rfl rfl (by decide) rfl (fun ls hl => ?_)
    refine lv_goto (tgt := 23) hx hb dL_law_1568 rfl ?_
    exact hJ23 _ _ _ _ _ _ _ _ _ (by omega) (by omega) h hw (lv_sub hl [1, 2, 3, 4, 0] rfl)
  · have h := h.2 c_210
    refine lv_iconst (v := 0) hx hb dL_law_945 (by decide) ?_
    exact g_zret X hw hr rfl h (by omega) (by omega) dL_law_946
set_option maxHeartbeats 4000000 in
theorem wL_law_909 {G : GT} {p : Program} {l : Launch} {e : Env} {s : State} {m : MethodId} {args : Array Value} {below : List Frame} {meth : Method} {c : Code} {H : Heap} {locs : List Loc} {ls : Array Slot} {cells slots : Nat} {MC MS : Nat} {a0 : Nat} {a1 : Nat} {a2 : Nat} {a3 : Nat} {x4 : Int32} {u : Hp} {mc : Nat} {ms : Nat} {K : Int32 → Hp → Prop} {J23 : Int32 → Hp → Nat → Nat → Prop} (X : Mc G p s m args meth c RX0 cL_law 7) (hr : meth.sig.returnType = (some .boolean)) (hnt : l.stackTraces = false) (hJ23 : ∀ (x4 : Int32) (u : Hp) (mc : Nat) (ms : Nat) (H : Heap) (locs : List Loc) (ls : Array Slot) (cells slots : Nat) , cells + mc ≤ MC → slots + ms ≤ MS → J23 x4 u mc ms → GW G u s H locs → lv_has ls 7 [(0, .ref a0), (1, .ref a1), (2, .ref a2), (3, .ref a3), (4, .int x4)] → W p l e (rmL_law MC MS) s m args below meth c H locs cells slots (QI G below K args s MC MS) (F0 m 23 ls [])) (hc1 : cells + mc ≤ MC) (hc2 : slots + ms ≤ MS) (h : bL_law_909 K (Glit G) J23 a0 a1 a2 a3 x4 u mc ms) (hw : GW G u s H locs) (hl : lv_has ls 7 [(0, .ref a0), (1, .ref a1), (2, .ref a2), (3, .ref a3), (4, .int x4)]) : W p l e (rmL_law MC MS) s m args below meth c H locs cells slots (QI G below K args s MC MS) (F0 m 909 ls []) := by
  obtain ⟨hx, hb, hml, hown, hts, -⟩ := id X
  unfold bL_law_909 at h
  refine lv_aload_n hx hb dL_law_909 rfl (lv_at hl 1 rfl) ?_
  refine lv_aload_n hx hb dL_law_910 rfl (lv_at hl 0 rfl) ?_
  refine lv_iload hx hb dL_law_911 (lv_at hl 4 rfl) ?_
  refine lv_iconst (v := 1) hx hb dL_law_913 (by decide) ?_
  refine lv_iadd hx hb dL_law_914 ?_
  have hk_211 : kd u a0 = 203 := h.1
  have h := h.2
  refine g_sald X hw hk_211 h.1 dL_law_915 ?_
  have h := h.2
  have hk_212 : kd u a1 = 1 := h.1
  have h := h.2
  refine g_calli hw (g_V X hw (mX1_wordsWork l G _ _ _ _ h) 1 (lw_V q1264 q1265 q1266 q122 q1267) rfl rfl ydX1_wordsWork ⟨Nat.le_of_ble_eq_true rfl, Nat.le_of_ble_eq_true rfl⟩ (g_recv X hw (ci := 0) (q := (RX1, TX1, 16)) hk_212 rfl) (As := [.int (AI u a0 (tn (x4 + 1)))]) (rest := []) rfl hl.1 rfl (Nat.le_of_ble_eq_true rfl) dL_law_916 ⟨(by show _ ≤ MC; omega), (by show _ ≤ MS; omega)⟩) (fun r_213 u_214 H locs h hw => ?_)
  refine lv_aload_n hx hb dL_law_919 rfl (lv_at hl 2 rfl) ?_
  refine lv_aload_n hx hb dL_law_920 rfl (lv_at hl 0 rfl) ?_
  refine lv_iload hx hb dL_law_921 (lv_at hl 4 rfl) ?_
  refine lv_iconst (v := 1) hx hb dL_law_923 (by decide) ?_
  refine lv_iadd hx hb dL_law_924 ?_
  have hk_215 : kd u_214 a0 = 203 := h.1
  have h := h.2
  refine g_sald X hw hk_215 h.1 dL_law_925 ?_
  have h := h.2
  have hk_216 : kd u_214 a2 = 16 := h.1
  have h := h.2
  refine g_calli hw (g_V X hw (mX19_wordsWork l G _ _ _ _ h) 1 (lw_V q2085 q2086 q2087 q143 q2088) rfl rfl ydX19_wordsWork ⟨Nat.le_of_ble_eq_true rfl, Nat.le_of_ble_eq_true rfl⟩ (g_recv X hw (ci := 15) (q := (RX19, TX19, 46)) hk_216 rfl) (As := [.int (AI u_214 a0 (tn (x4 + 1)))]) (rest := [.int r_213]) rfl hl.1 rfl (Nat.le_of_ble_eq_true rfl) dL_law_926 ⟨(by show _ ≤ MC; omega), (by show _ ≤ MS; omega)⟩) (fun r_217 u_218 H locs h hw => ?_)
  refine lv_icmp_eq (tgt := 1565) hx hb dL_law_929 rfl (fun c_219 => ?_) (fun c_219 => ?_)
  · have h := h.1 c_219
    refine lv_iinc (v := x4 + 6) (lv' := [(4, .int (x4 + 6)), (0, .ref a0), (1, .ref a1), (2, .ref a2), (3, .ref a3)]) hx hb dL_law_1565 hl (k := 4) rfl rfl (by decide) rfl (fun ls hl => ?_)
    refine lv_goto (tgt := 23) hx hb dL_law_1568 rfl ?_
    exact hJ23 _ _ _ _ _ _ _ _ _ (by omega) (by omega) h hw (lv_sub hl [1, 2, 3, 4, 0] rfl)
  · have h := h.2 c_219
    refine lv_iconst (v := 0) hx hb dL_law_932 (by decide) ?_
    exact g_zret X hw hr rfl h (by omega) (by omega) dL_law_933
set_option maxHeartbeats 4000000 in
theorem wL_law_884 {G : GT} {p : Program} {l : Launch} {e : Env} {s : State} {m : MethodId} {args : Array Value} {below : List Frame} {meth : Method} {c : Code} {H : Heap} {locs : List Loc} {ls : Array Slot} {cells slots : Nat} {MC MS : Nat} {a0 : Nat} {a1 : Nat} {a2 : Nat} {a3 : Nat} {x4 : Int32} {u : Hp} {mc : Nat} {ms : Nat} {K : Int32 → Hp → Prop} {J23 : Int32 → Hp → Nat → Nat → Prop} (X : Mc G p s m args meth c RX0 cL_law 7) (hr : meth.sig.returnType = (some .boolean)) (hnt : l.stackTraces = false) (hJ23 : ∀ (x4 : Int32) (u : Hp) (mc : Nat) (ms : Nat) (H : Heap) (locs : List Loc) (ls : Array Slot) (cells slots : Nat) , cells + mc ≤ MC → slots + ms ≤ MS → J23 x4 u mc ms → GW G u s H locs → lv_has ls 7 [(0, .ref a0), (1, .ref a1), (2, .ref a2), (3, .ref a3), (4, .int x4)] → W p l e (rmL_law MC MS) s m args below meth c H locs cells slots (QI G below K args s MC MS) (F0 m 23 ls [])) (hc1 : cells + mc ≤ MC) (hc2 : slots + ms ≤ MS) (h : bL_law_884 K (Glit G) J23 a0 a1 a2 a3 x4 u mc ms) (hw : GW G u s H locs) (hl : lv_has ls 7 [(0, .ref a0), (1, .ref a1), (2, .ref a2), (3, .ref a3), (4, .int x4)]) : W p l e (rmL_law MC MS) s m args below meth c H locs cells slots (QI G below K args s MC MS) (F0 m 884 ls []) := by
  obtain ⟨hx, hb, hml, hown, hts, -⟩ := id X
  unfold bL_law_884 at h
  refine lv_aload_n hx hb dL_law_884 rfl (lv_at hl 1 rfl) ?_
  refine lv_aload_n hx hb dL_law_885 rfl (lv_at hl 0 rfl) ?_
  refine lv_iload hx hb dL_law_886 (lv_at hl 4 rfl) ?_
  refine lv_iconst (v := 1) hx hb dL_law_888 (by decide) ?_
  refine lv_iadd hx hb dL_law_889 ?_
  have hk_220 : kd u a0 = 203 := h.1
  have h := h.2
  refine g_sald X hw hk_220 h.1 dL_law_890 ?_
  have h := h.2
  have hk_221 : kd u a1 = 1 := h.1
  have h := h.2
  refine g_calli hw (g_V X hw (mX1_borne l G _ _ _ _ h) 1 (lw_V q1260 q1261 q1262 q122 q1263) rfl rfl ydX1_borne ⟨Nat.le_of_ble_eq_true rfl, Nat.le_of_ble_eq_true rfl⟩ (g_recv X hw (ci := 0) (q := (RX1, TX1, 16)) hk_221 rfl) (As := [.int (AI u a0 (tn (x4 + 1)))]) (rest := []) rfl hl.1 rfl (Nat.le_of_ble_eq_true rfl) dL_law_891 ⟨(by show _ ≤ MC; omega), (by show _ ≤ MS; omega)⟩) (fun r_222 u_223 H locs h hw => ?_)
  refine lv_aload_n hx hb dL_law_894 rfl (lv_at hl 2 rfl) ?_
  refine lv_aload_n hx hb dL_law_895 rfl (lv_at hl 0 rfl) ?_
  refine lv_iload hx hb dL_law_896 (lv_at hl 4 rfl) ?_
  refine lv_iconst (v := 1) hx hb dL_law_898 (by decide) ?_
  refine lv_iadd hx hb dL_law_899 ?_
  have hk_224 : kd u_223 a0 = 203 := h.1
  have h := h.2
  refine g_sald X hw hk_224 h.1 dL_law_900 ?_
  have h := h.2
  have hk_225 : kd u_223 a2 = 16 := h.1
  have h := h.2
  refine g_calli hw (g_V X hw (mX19_borne l G _ _ _ _ h) 1 (lw_V q2077 q2078 q2079 q143 q2080) rfl rfl ydX19_borne ⟨Nat.le_of_ble_eq_true rfl, Nat.le_of_ble_eq_true rfl⟩ (g_recv X hw (ci := 15) (q := (RX19, TX19, 46)) hk_225 rfl) (As := [.int (AI u_223 a0 (tn (x4 + 1)))]) (rest := [.int r_222]) rfl hl.1 rfl (Nat.le_of_ble_eq_true rfl) dL_law_901 ⟨(by show _ ≤ MC; omega), (by show _ ≤ MS; omega)⟩) (fun r_226 u_227 H locs h hw => ?_)
  refine lv_icmp_eq (tgt := 1565) hx hb dL_law_904 rfl (fun c_228 => ?_) (fun c_228 => ?_)
  · have h := h.1 c_228
    refine lv_iinc (v := x4 + 6) (lv' := [(4, .int (x4 + 6)), (0, .ref a0), (1, .ref a1), (2, .ref a2), (3, .ref a3)]) hx hb dL_law_1565 hl (k := 4) rfl rfl (by decide) rfl (fun ls hl => ?_)
    refine lv_goto (tgt := 23) hx hb dL_law_1568 rfl ?_
    exact hJ23 _ _ _ _ _ _ _ _ _ (by omega) (by omega) h hw (lv_sub hl [1, 2, 3, 4, 0] rfl)
  · have h := h.2 c_228
    refine lv_iconst (v := 0) hx hb dL_law_907 (by decide) ?_
    exact g_zret X hw hr rfl h (by omega) (by omega) dL_law_908
set_option maxHeartbeats 4000000 in
theorem wL_law_859 {G : GT} {p : Program} {l : Launch} {e : Env} {s : State} {m : MethodId} {args : Array Value} {below : List Frame} {meth : Method} {c : Code} {H : Heap} {locs : List Loc} {ls : Array Slot} {cells slots : Nat} {MC MS : Nat} {a0 : Nat} {a1 : Nat} {a2 : Nat} {a3 : Nat} {x4 : Int32} {u : Hp} {mc : Nat} {ms : Nat} {K : Int32 → Hp → Prop} {J23 : Int32 → Hp → Nat → Nat → Prop} (X : Mc G p s m args meth c RX0 cL_law 7) (hr : meth.sig.returnType = (some .boolean)) (hnt : l.stackTraces = false) (hJ23 : ∀ (x4 : Int32) (u : Hp) (mc : Nat) (ms : Nat) (H : Heap) (locs : List Loc) (ls : Array Slot) (cells slots : Nat) , cells + mc ≤ MC → slots + ms ≤ MS → J23 x4 u mc ms → GW G u s H locs → lv_has ls 7 [(0, .ref a0), (1, .ref a1), (2, .ref a2), (3, .ref a3), (4, .int x4)] → W p l e (rmL_law MC MS) s m args below meth c H locs cells slots (QI G below K args s MC MS) (F0 m 23 ls [])) (hc1 : cells + mc ≤ MC) (hc2 : slots + ms ≤ MS) (h : bL_law_859 K (Glit G) J23 a0 a1 a2 a3 x4 u mc ms) (hw : GW G u s H locs) (hl : lv_has ls 7 [(0, .ref a0), (1, .ref a1), (2, .ref a2), (3, .ref a3), (4, .int x4)]) : W p l e (rmL_law MC MS) s m args below meth c H locs cells slots (QI G below K args s MC MS) (F0 m 859 ls []) := by
  obtain ⟨hx, hb, hml, hown, hts, -⟩ := id X
  unfold bL_law_859 at h
  refine lv_aload_n hx hb dL_law_859 rfl (lv_at hl 1 rfl) ?_
  refine lv_aload_n hx hb dL_law_860 rfl (lv_at hl 0 rfl) ?_
  refine lv_iload hx hb dL_law_861 (lv_at hl 4 rfl) ?_
  refine lv_iconst (v := 1) hx hb dL_law_863 (by decide) ?_
  refine lv_iadd hx hb dL_law_864 ?_
  have hk_229 : kd u a0 = 203 := h.1
  have h := h.2
  refine g_sald X hw hk_229 h.1 dL_law_865 ?_
  have h := h.2
  have hk_230 : kd u a1 = 1 := h.1
  have h := h.2
  refine g_calli hw (g_V X hw (mX1_seen l G _ _ _ _ h) 1 (lw_V q1243 q1244 q1245 q122 q1246) rfl rfl ydX1_seen ⟨Nat.le_of_ble_eq_true rfl, Nat.le_of_ble_eq_true rfl⟩ (g_recv X hw (ci := 0) (q := (RX1, TX1, 16)) hk_230 rfl) (As := [.int (AI u a0 (tn (x4 + 1)))]) (rest := []) rfl hl.1 rfl (Nat.le_of_ble_eq_true rfl) dL_law_866 ⟨(by show _ ≤ MC; omega), (by show _ ≤ MS; omega)⟩) (fun r_231 u_232 H locs h hw => ?_)
  refine lv_aload_n hx hb dL_law_869 rfl (lv_at hl 2 rfl) ?_
  refine lv_aload_n hx hb dL_law_870 rfl (lv_at hl 0 rfl) ?_
  refine lv_iload hx hb dL_law_871 (lv_at hl 4 rfl) ?_
  refine lv_iconst (v := 1) hx hb dL_law_873 (by decide) ?_
  refine lv_iadd hx hb dL_law_874 ?_
  have hk_233 : kd u_232 a0 = 203 := h.1
  have h := h.2
  refine g_sald X hw hk_233 h.1 dL_law_875 ?_
  have h := h.2
  have hk_234 : kd u_232 a2 = 16 := h.1
  have h := h.2
  refine g_calli hw (g_V X hw (mX19_seen l G _ _ _ _ h) 1 (lw_V q2057 q2058 q2059 q143 q2060) rfl rfl ydX19_seen ⟨Nat.le_of_ble_eq_true rfl, Nat.le_of_ble_eq_true rfl⟩ (g_recv X hw (ci := 15) (q := (RX19, TX19, 46)) hk_234 rfl) (As := [.int (AI u_232 a0 (tn (x4 + 1)))]) (rest := [.int r_231]) rfl hl.1 rfl (Nat.le_of_ble_eq_true rfl) dL_law_876 ⟨(by show _ ≤ MC; omega), (by show _ ≤ MS; omega)⟩) (fun r_235 u_236 H locs h hw => ?_)
  refine lv_icmp_eq (tgt := 1565) hx hb dL_law_879 rfl (fun c_237 => ?_) (fun c_237 => ?_)
  · have h := h.1 c_237
    refine lv_iinc (v := x4 + 6) (lv' := [(4, .int (x4 + 6)), (0, .ref a0), (1, .ref a1), (2, .ref a2), (3, .ref a3)]) hx hb dL_law_1565 hl (k := 4) rfl rfl (by decide) rfl (fun ls hl => ?_)
    refine lv_goto (tgt := 23) hx hb dL_law_1568 rfl ?_
    exact hJ23 _ _ _ _ _ _ _ _ _ (by omega) (by omega) h hw (lv_sub hl [1, 2, 3, 4, 0] rfl)
  · have h := h.2 c_237
    refine lv_iconst (v := 0) hx hb dL_law_882 (by decide) ?_
    exact g_zret X hw hr rfl h (by omega) (by omega) dL_law_883
set_option maxHeartbeats 4000000 in
theorem wL_law_834 {G : GT} {p : Program} {l : Launch} {e : Env} {s : State} {m : MethodId} {args : Array Value} {below : List Frame} {meth : Method} {c : Code} {H : Heap} {locs : List Loc} {ls : Array Slot} {cells slots : Nat} {MC MS : Nat} {a0 : Nat} {a1 : Nat} {a2 : Nat} {a3 : Nat} {x4 : Int32} {u : Hp} {mc : Nat} {ms : Nat} {K : Int32 → Hp → Prop} {J23 : Int32 → Hp → Nat → Nat → Prop} (X : Mc G p s m args meth c RX0 cL_law 7) (hr : meth.sig.returnType = (some .boolean)) (hnt : l.stackTraces = false) (hJ23 : ∀ (x4 : Int32) (u : Hp) (mc : Nat) (ms : Nat) (H : Heap) (locs : List Loc) (ls : Array Slot) (cells slots : Nat) , cells + mc ≤ MC → slots + ms ≤ MS → J23 x4 u mc ms → GW G u s H locs → lv_has ls 7 [(0, .ref a0), (1, .ref a1), (2, .ref a2), (3, .ref a3), (4, .int x4)] → W p l e (rmL_law MC MS) s m args below meth c H locs cells slots (QI G below K args s MC MS) (F0 m 23 ls [])) (hc1 : cells + mc ≤ MC) (hc2 : slots + ms ≤ MS) (h : bL_law_834 K (Glit G) J23 a0 a1 a2 a3 x4 u mc ms) (hw : GW G u s H locs) (hl : lv_has ls 7 [(0, .ref a0), (1, .ref a1), (2, .ref a2), (3, .ref a3), (4, .int x4)]) : W p l e (rmL_law MC MS) s m args below meth c H locs cells slots (QI G below K args s MC MS) (F0 m 834 ls []) := by
  obtain ⟨hx, hb, hml, hown, hts, -⟩ := id X
  unfold bL_law_834 at h
  refine lv_aload_n hx hb dL_law_834 rfl (lv_at hl 1 rfl) ?_
  refine lv_aload_n hx hb dL_law_835 rfl (lv_at hl 0 rfl) ?_
  refine lv_iload hx hb dL_law_836 (lv_at hl 4 rfl) ?_
  refine lv_iconst (v := 1) hx hb dL_law_838 (by decide) ?_
  refine lv_iadd hx hb dL_law_839 ?_
  have hk_238 : kd u a0 = 203 := h.1
  have h := h.2
  refine g_sald X hw hk_238 h.1 dL_law_840 ?_
  have h := h.2
  have hk_239 : kd u a1 = 1 := h.1
  have h := h.2
  refine g_calli hw (g_V X hw (mX1_fails l G _ _ _ _ h) 1 (lw_V q1239 q1240 q1241 q122 q1242) rfl rfl ydX1_fails ⟨Nat.le_of_ble_eq_true rfl, Nat.le_of_ble_eq_true rfl⟩ (g_recv X hw (ci := 0) (q := (RX1, TX1, 16)) hk_239 rfl) (As := [.int (AI u a0 (tn (x4 + 1)))]) (rest := []) rfl hl.1 rfl (Nat.le_of_ble_eq_true rfl) dL_law_841 ⟨(by show _ ≤ MC; omega), (by show _ ≤ MS; omega)⟩) (fun r_240 u_241 H locs h hw => ?_)
  refine lv_aload_n hx hb dL_law_844 rfl (lv_at hl 2 rfl) ?_
  refine lv_aload_n hx hb dL_law_845 rfl (lv_at hl 0 rfl) ?_
  refine lv_iload hx hb dL_law_846 (lv_at hl 4 rfl) ?_
  refine lv_iconst (v := 1) hx hb dL_law_848 (by decide) ?_
  refine lv_iadd hx hb dL_law_849 ?_
  have hk_242 : kd u_241 a0 = 203 := h.1
  have h := h.2
  refine g_sald X hw hk_242 h.1 dL_law_850 ?_
  have h := h.2
  have hk_243 : kd u_241 a2 = 16 := h.1
  have h := h.2
  refine g_calli hw (g_V X hw (mX19_fails l G _ _ _ _ h) 1 (lw_V q2053 q2054 q2055 q143 q2056) rfl rfl ydX19_fails ⟨Nat.le_of_ble_eq_true rfl, Nat.le_of_ble_eq_true rfl⟩ (g_recv X hw (ci := 15) (q := (RX19, TX19, 46)) hk_243 rfl) (As := [.int (AI u_241 a0 (tn (x4 + 1)))]) (rest := [.int r_240]) rfl hl.1 rfl (Nat.le_of_ble_eq_true rfl) dL_law_851 ⟨(by show _ ≤ MC; omega), (by show _ ≤ MS; omega)⟩) (fun r_244 u_245 H locs h hw => ?_)
  refine lv_icmp_eq (tgt := 1565) hx hb dL_law_854 rfl (fun c_246 => ?_) (fun c_246 => ?_)
  · have h := h.1 c_246
    refine lv_iinc (v := x4 + 6) (lv' := [(4, .int (x4 + 6)), (0, .ref a0), (1, .ref a1), (2, .ref a2), (3, .ref a3)]) hx hb dL_law_1565 hl (k := 4) rfl rfl (by decide) rfl (fun ls hl => ?_)
    refine lv_goto (tgt := 23) hx hb dL_law_1568 rfl ?_
    exact hJ23 _ _ _ _ _ _ _ _ _ (by omega) (by omega) h hw (lv_sub hl [1, 2, 3, 4, 0] rfl)
  · have h := h.2 c_246
    refine lv_iconst (v := 0) hx hb dL_law_857 (by decide) ?_
    exact g_zret X hw hr rfl h (by omega) (by omega) dL_law_858
set_option maxHeartbeats 4000000 in
theorem wL_law_809 {G : GT} {p : Program} {l : Launch} {e : Env} {s : State} {m : MethodId} {args : Array Value} {below : List Frame} {meth : Method} {c : Code} {H : Heap} {locs : List Loc} {ls : Array Slot} {cells slots : Nat} {MC MS : Nat} {a0 : Nat} {a1 : Nat} {a2 : Nat} {a3 : Nat} {x4 : Int32} {u : Hp} {mc : Nat} {ms : Nat} {K : Int32 → Hp → Prop} {J23 : Int32 → Hp → Nat → Nat → Prop} (X : Mc G p s m args meth c RX0 cL_law 7) (hr : meth.sig.returnType = (some .boolean)) (hnt : l.stackTraces = false) (hJ23 : ∀ (x4 : Int32) (u : Hp) (mc : Nat) (ms : Nat) (H : Heap) (locs : List Loc) (ls : Array Slot) (cells slots : Nat) , cells + mc ≤ MC → slots + ms ≤ MS → J23 x4 u mc ms → GW G u s H locs → lv_has ls 7 [(0, .ref a0), (1, .ref a1), (2, .ref a2), (3, .ref a3), (4, .int x4)] → W p l e (rmL_law MC MS) s m args below meth c H locs cells slots (QI G below K args s MC MS) (F0 m 23 ls [])) (hc1 : cells + mc ≤ MC) (hc2 : slots + ms ≤ MS) (h : bL_law_809 K (Glit G) J23 a0 a1 a2 a3 x4 u mc ms) (hw : GW G u s H locs) (hl : lv_has ls 7 [(0, .ref a0), (1, .ref a1), (2, .ref a2), (3, .ref a3), (4, .int x4)]) : W p l e (rmL_law MC MS) s m args below meth c H locs cells slots (QI G below K args s MC MS) (F0 m 809 ls []) := by
  obtain ⟨hx, hb, hml, hown, hts, -⟩ := id X
  unfold bL_law_809 at h
  refine lv_aload_n hx hb dL_law_809 rfl (lv_at hl 1 rfl) ?_
  refine lv_aload_n hx hb dL_law_810 rfl (lv_at hl 0 rfl) ?_
  refine lv_iload hx hb dL_law_811 (lv_at hl 4 rfl) ?_
  refine lv_iconst (v := 1) hx hb dL_law_813 (by decide) ?_
  refine lv_iadd hx hb dL_law_814 ?_
  have hk_247 : kd u a0 = 203 := h.1
  have h := h.2
  refine g_sald X hw hk_247 h.1 dL_law_815 ?_
  have h := h.2
  have hk_248 : kd u a1 = 1 := h.1
  have h := h.2
  refine g_calli hw (g_V X hw (mX1_laid l G _ _ _ _ h) 1 (lw_V q1235 q1236 q1237 q122 q1238) rfl rfl ydX1_laid ⟨Nat.le_of_ble_eq_true rfl, Nat.le_of_ble_eq_true rfl⟩ (g_recv X hw (ci := 0) (q := (RX1, TX1, 16)) hk_248 rfl) (As := [.int (AI u a0 (tn (x4 + 1)))]) (rest := []) rfl hl.1 rfl (Nat.le_of_ble_eq_true rfl) dL_law_816 ⟨(by show _ ≤ MC; omega), (by show _ ≤ MS; omega)⟩) (fun r_249 u_250 H locs h hw => ?_)
  refine lv_aload_n hx hb dL_law_819 rfl (lv_at hl 2 rfl) ?_
  refine lv_aload_n hx hb dL_law_820 rfl (lv_at hl 0 rfl) ?_
  refine lv_iload hx hb dL_law_821 (lv_at hl 4 rfl) ?_
  refine lv_iconst (v := 1) hx hb dL_law_823 (by decide) ?_
  refine lv_iadd hx hb dL_law_824 ?_
  have hk_251 : kd u_250 a0 = 203 := h.1
  have h := h.2
  refine g_sald X hw hk_251 h.1 dL_law_825 ?_
  have h := h.2
  have hk_252 : kd u_250 a2 = 16 := h.1
  have h := h.2
  refine g_calli hw (g_V X hw (mX19_laid l G _ _ _ _ h) 1 (lw_V q2049 q2050 q2051 q143 q2052) rfl rfl ydX19_laid ⟨Nat.le_of_ble_eq_true rfl, Nat.le_of_ble_eq_true rfl⟩ (g_recv X hw (ci := 15) (q := (RX19, TX19, 46)) hk_252 rfl) (As := [.int (AI u_250 a0 (tn (x4 + 1)))]) (rest := [.int r_249]) rfl hl.1 rfl (Nat.le_of_ble_eq_true rfl) dL_law_826 ⟨(by show _ ≤ MC; omega), (by show _ ≤ MS; omega)⟩) (fun r_253 u_254 H locs h hw => ?_)
  refine lv_icmp_eq (tgt := 1565) hx hb dL_law_829 rfl (fun c_255 => ?_) (fun c_255 => ?_)
  · have h := h.1 c_255
    refine lv_iinc (v := x4 + 6) (lv' := [(4, .int (x4 + 6)), (0, .ref a0), (1, .ref a1), (2, .ref a2), (3, .ref a3)]) hx hb dL_law_1565 hl (k := 4) rfl rfl (by decide) rfl (fun ls hl => ?_)
    refine lv_goto (tgt := 23) hx hb dL_law_1568 rfl ?_
    exact hJ23 _ _ _ _ _ _ _ _ _ (by omega) (by omega) h hw (lv_sub hl [1, 2, 3, 4, 0] rfl)
  · have h := h.2 c_255
    refine lv_iconst (v := 0) hx hb dL_law_832 (by decide) ?_
    exact g_zret X hw hr rfl h (by omega) (by omega) dL_law_833
set_option maxHeartbeats 4000000 in
theorem wL_law_777 {G : GT} {p : Program} {l : Launch} {e : Env} {s : State} {m : MethodId} {args : Array Value} {below : List Frame} {meth : Method} {c : Code} {H : Heap} {locs : List Loc} {ls : Array Slot} {cells slots : Nat} {MC MS : Nat} {a0 : Nat} {a1 : Nat} {a2 : Nat} {a3 : Nat} {x4 : Int32} {z0 : Int32} {z1 : Int32} {z2 : Nat} {u : Hp} {mc : Nat} {ms : Nat} {K : Int32 → Hp → Prop} {J23 : Int32 → Hp → Nat → Nat → Prop} (X : Mc G p s m args meth c RX0 cL_law 7) (hr : meth.sig.returnType = (some .boolean)) (hnt : l.stackTraces = false) (hJ23 : ∀ (x4 : Int32) (u : Hp) (mc : Nat) (ms : Nat) (H : Heap) (locs : List Loc) (ls : Array Slot) (cells slots : Nat) , cells + mc ≤ MC → slots + ms ≤ MS → J23 x4 u mc ms → GW G u s H locs → lv_has ls 7 [(0, .ref a0), (1, .ref a1), (2, .ref a2), (3, .ref a3), (4, .int x4)] → W p l e (rmL_law MC MS) s m args below meth c H locs cells slots (QI G below K args s MC MS) (F0 m 23 ls [])) (hc1 : cells + mc ≤ MC) (hc2 : slots + ms ≤ MS) (h : bL_law_777 K (Glit G) J23 a0 a1 a2 a3 x4 z0 z1 z2 u mc ms) (hw : GW G u s H locs) (hl : lv_has ls 7 [(0, .ref a0), (1, .ref a1), (2, .ref a2), (3, .ref a3), (4, .int x4)]) : W p l e (rmL_law MC MS) s m args below meth c H locs cells slots (QI G below K args s MC MS) (F0 m 777 ls [.int z0, .int z1, .ref z2]) := by
  obtain ⟨hx, hb, hml, hown, hts, -⟩ := id X
  unfold bL_law_777 at h
  have hk_256 : kd u z2 = 1 := h.1
  have h := h.2
  refine g_calli hw (g_V X hw (mX1_clash l G _ _ _ _ _ h) 2 (lw_V q1227 q1228 q1229 q122 q1230) rfl rfl ydX1_clash ⟨Nat.le_of_ble_eq_true rfl, Nat.le_of_ble_eq_true rfl⟩ (g_recv X hw (ci := 0) (q := (RX1, TX1, 16)) hk_256 rfl) (As := [.int z1, .int z0]) (rest := []) rfl hl.1 rfl (Nat.le_of_ble_eq_true rfl) dL_law_777 ⟨(by show _ ≤ MC; omega), (by show _ ≤ MS; omega)⟩) (fun r_257 u_258 H locs h hw => ?_)
  refine lv_aload_n hx hb dL_law_780 rfl (lv_at hl 2 rfl) ?_
  refine lv_aload_n hx hb dL_law_781 rfl (lv_at hl 0 rfl) ?_
  refine lv_iload hx hb dL_law_782 (lv_at hl 4 rfl) ?_
  refine lv_iconst (v := 1) hx hb dL_law_784 (by decide) ?_
  refine lv_iadd hx hb dL_law_785 ?_
  have hk_259 : kd u_258 a0 = 203 := h.1
  have h := h.2
  refine g_sald X hw hk_259 h.1 dL_law_786 ?_
  have h := h.2
  refine lv_aload_n hx hb dL_law_787 rfl (lv_at hl 0 rfl) ?_
  refine lv_iload hx hb dL_law_788 (lv_at hl 4 rfl) ?_
  refine lv_iconst (v := 2) hx hb dL_law_790 (by decide) ?_
  refine lv_iadd hx hb dL_law_791 ?_
  refine g_sald X hw hk_259 h.1 dL_law_792 ?_
  have h := h.2
  refine lv_if_eq (tgt := 800) hx hb dL_law_793 rfl (fun c_268 => ?_) (fun c_268 => ?_)
  · have h := h.1 c_268
    refine lv_iconst (v := 0) hx hb dL_law_800 (by decide) ?_
    have hk_260 : kd u_258 a2 = 16 := h.1
    have h := h.2
    refine g_calli hw (g_V X hw (mX19_clash l G _ _ _ _ _ h) 2 (lw_V q2045 q2046 q2047 q143 q2048) rfl rfl ydX19_clash ⟨Nat.le_of_ble_eq_true rfl, Nat.le_of_ble_eq_true rfl⟩ (g_recv X hw (ci := 15) (q := (RX19, TX19, 46)) hk_260 rfl) (As := [.int (AI u_258 a0 (tn (x4 + 1))), .int 0]) (rest := [.int r_257]) rfl hl.1 rfl (Nat.le_of_ble_eq_true rfl) dL_law_801 ⟨(by show _ ≤ MC; omega), (by show _ ≤ MS; omega)⟩) (fun r_261 u_262 H locs h hw => ?_)
    refine lv_icmp_eq (tgt := 1565) hx hb dL_law_804 rfl (fun c_263 => ?_) (fun c_263 => ?_)
    · have h := h.1 c_263
      refine lv_iinc (v := x4 + 6) (lv' := [(4, .int (x4 + 6)), (0, .ref a0), (1, .ref a1), (2, .ref a2), (3, .ref a3)]) hx hb dL_law_1565 hl (k := 4) rfl rfl (by decide) rfl (fun ls hl => ?_)
      refine lv_goto (tgt := 23) hx hb dL_law_1568 rfl ?_
      exact hJ23 _ _ _ _ _ _ _ _ _ (by omega) (by omega) h hw (lv_sub hl [1, 2, 3, 4, 0] rfl)
    · have h := h.2 c_263
      refine lv_iconst (v := 0) hx hb dL_law_807 (by decide) ?_
      exact g_zret X hw hr rfl h (by omega) (by omega) dL_law_808
  · have h := h.2 c_268
    refine lv_iconst (v := 1) hx hb dL_law_796 (by decide) ?_
    refine lv_goto (tgt := 801) hx hb dL_law_797 rfl ?_
    have hk_264 : kd u_258 a2 = 16 := h.1
    have h := h.2
    refine g_calli hw (g_V X hw (mX19_clash l G _ _ _ _ _ h) 2 (lw_V q2045 q2046 q2047 q143 q2048) rfl rfl ydX19_clash ⟨Nat.le_of_ble_eq_true rfl, Nat.le_of_ble_eq_true rfl⟩ (g_recv X hw (ci := 15) (q := (RX19, TX19, 46)) hk_264 rfl) (As := [.int (AI u_258 a0 (tn (x4 + 1))), .int 1]) (rest := [.int r_257]) rfl hl.1 rfl (Nat.le_of_ble_eq_true rfl) dL_law_801 ⟨(by show _ ≤ MC; omega), (by show _ ≤ MS; omega)⟩) (fun r_265 u_266 H locs h hw => ?_)
    refine lv_icmp_eq (tgt := 1565) hx hb dL_law_804 rfl (fun c_267 => ?_) (fun c_267 => ?_)
    · have h := h.1 c_267
      refine lv_iinc (v := x4 + 6) (lv' := [(4, .int (x4 + 6)), (0, .ref a0), (1, .ref a1), (2, .ref a2), (3, .ref a3)]) hx hb dL_law_1565 hl (k := 4) rfl rfl (by decide) rfl (fun ls hl => ?_)
      refine lv_goto (tgt := 23) hx hb dL_law_1568 rfl ?_
      exact hJ23 _ _ _ _ _ _ _ _ _ (by omega) (by omega) h hw (lv_sub hl [1, 2, 3, 4, 0] rfl)
    · have h := h.2 c_267
      refine lv_iconst (v := 0) hx hb dL_law_807 (by decide) ?_
      exact g_zret X hw hr rfl h (by omega) (by omega) dL_law_808
set_option maxHeartbeats 4000000 in
theorem wL_law_756 {G : GT} {p : Program} {l : Launch} {e : Env} {s : State} {m : MethodId} {args : Array Value} {below : List Frame} {meth : Method} {c : Code} {H : Heap} {locs : List Loc} {ls : Array Slot} {cells slots : Nat} {MC MS : Nat} {a0 : Nat} {a1 : Nat} {a2 : Nat} {a3 : Nat} {x4 : Int32} {u : Hp} {mc : Nat} {ms : Nat} {K : Int32 → Hp → Prop} {J23 : Int32 → Hp → Nat → Nat → Prop} (X : Mc G p s m args meth c RX0 cL_law 7) (hr : meth.sig.returnType = (some .boolean)) (hnt : l.stackTraces = false) (hJ23 : ∀ (x4 : Int32) (u : Hp) (mc : Nat) (ms : Nat) (H : Heap) (locs : List Loc) (ls : Array Slot) (cells slots : Nat) , cells + mc ≤ MC → slots + ms ≤ MS → J23 x4 u mc ms → GW G u s H locs → lv_has ls 7 [(0, .ref a0), (1, .ref a1), (2, .ref a2), (3, .ref a3), (4, .int x4)] → W p l e (rmL_law MC MS) s m args below meth c H locs cells slots (QI G below K args s MC MS) (F0 m 23 ls [])) (hc1 : cells + mc ≤ MC) (hc2 : slots + ms ≤ MS) (h : bL_law_756 K (Glit G) J23 a0 a1 a2 a3 x4 u mc ms) (hw : GW G u s H locs) (hl : lv_has ls 7 [(0, .ref a0), (1, .ref a1), (2, .ref a2), (3, .ref a3), (4, .int x4)]) : W p l e (rmL_law MC MS) s m args below meth c H locs cells slots (QI G below K args s MC MS) (F0 m 756 ls []) := by
  obtain ⟨hx, hb, hml, hown, hts, -⟩ := id X
  unfold bL_law_756 at h
  refine lv_aload_n hx hb dL_law_756 rfl (lv_at hl 1 rfl) ?_
  refine lv_aload_n hx hb dL_law_757 rfl (lv_at hl 0 rfl) ?_
  refine lv_iload hx hb dL_law_758 (lv_at hl 4 rfl) ?_
  refine lv_iconst (v := 1) hx hb dL_law_760 (by decide) ?_
  refine lv_iadd hx hb dL_law_761 ?_
  have hk_269 : kd u a0 = 203 := h.1
  have h := h.2
  refine g_sald X hw hk_269 h.1 dL_law_762 ?_
  have h := h.2
  refine lv_aload_n hx hb dL_law_763 rfl (lv_at hl 0 rfl) ?_
  refine lv_iload hx hb dL_law_764 (lv_at hl 4 rfl) ?_
  refine lv_iconst (v := 2) hx hb dL_law_766 (by decide) ?_
  refine lv_iadd hx hb dL_law_767 ?_
  refine g_sald X hw hk_269 h.1 dL_law_768 ?_
  have h := h.2
  refine lv_if_eq (tgt := 776) hx hb dL_law_769 rfl (fun c_270 => ?_) (fun c_270 => ?_)
  · have h := h.1 c_270
    refine lv_iconst (v := 0) hx hb dL_law_776 (by decide) ?_
    exact wL_law_777 X hr hnt hJ23 (by omega) (by omega) h hw (lv_sub hl [0, 1, 2, 3, 4] rfl)
  · have h := h.2 c_270
    refine lv_iconst (v := 1) hx hb dL_law_772 (by decide) ?_
    refine lv_goto (tgt := 777) hx hb dL_law_773 rfl ?_
    exact wL_law_777 X hr hnt hJ23 (by omega) (by omega) h hw (lv_sub hl [0, 1, 2, 3, 4] rfl)
set_option maxHeartbeats 4000000 in
theorem wL_law_731 {G : GT} {p : Program} {l : Launch} {e : Env} {s : State} {m : MethodId} {args : Array Value} {below : List Frame} {meth : Method} {c : Code} {H : Heap} {locs : List Loc} {ls : Array Slot} {cells slots : Nat} {MC MS : Nat} {a0 : Nat} {a1 : Nat} {a2 : Nat} {a3 : Nat} {x4 : Int32} {u : Hp} {mc : Nat} {ms : Nat} {K : Int32 → Hp → Prop} {J23 : Int32 → Hp → Nat → Nat → Prop} (X : Mc G p s m args meth c RX0 cL_law 7) (hr : meth.sig.returnType = (some .boolean)) (hnt : l.stackTraces = false) (hJ23 : ∀ (x4 : Int32) (u : Hp) (mc : Nat) (ms : Nat) (H : Heap) (locs : List Loc) (ls : Array Slot) (cells slots : Nat) , cells + mc ≤ MC → slots + ms ≤ MS → J23 x4 u mc ms → GW G u s H locs → lv_has ls 7 [(0, .ref a0), (1, .ref a1), (2, .ref a2), (3, .ref a3), (4, .int x4)] → W p l e (rmL_law MC MS) s m args below meth c H locs cells slots (QI G below K args s MC MS) (F0 m 23 ls [])) (hc1 : cells + mc ≤ MC) (hc2 : slots + ms ≤ MS) (h : bL_law_731 K (Glit G) J23 a0 a1 a2 a3 x4 u mc ms) (hw : GW G u s H locs) (hl : lv_has ls 7 [(0, .ref a0), (1, .ref a1), (2, .ref a2), (3, .ref a3), (4, .int x4)]) : W p l e (rmL_law MC MS) s m args below meth c H locs cells slots (QI G below K args s MC MS) (F0 m 731 ls []) := by
  obtain ⟨hx, hb, hml, hown, hts, -⟩ := id X
  unfold bL_law_731 at h
  refine lv_aload_n hx hb dL_law_731 rfl (lv_at hl 1 rfl) ?_
  refine lv_aload_n hx hb dL_law_732 rfl (lv_at hl 0 rfl) ?_
  refine lv_iload hx hb dL_law_733 (lv_at hl 4 rfl) ?_
  refine lv_iconst (v := 1) hx hb dL_law_735 (by decide) ?_
  refine lv_iadd hx hb dL_law_736 ?_
  have hk_271 : kd u a0 = 203 := h.1
  have h := h.2
  refine g_sald X hw hk_271 h.1 dL_law_737 ?_
  have h := h.2
  have hk_272 : kd u a1 = 1 := h.1
  have h := h.2
  refine g_calli hw (g_V X hw (mX1_works l G _ _ _ _ h) 1 (lw_V q1199 q1200 q1201 q122 q1202) rfl rfl ydX1_works ⟨Nat.le_of_ble_eq_true rfl, Nat.le_of_ble_eq_true rfl⟩ (g_recv X hw (ci := 0) (q := (RX1, TX1, 16)) hk_272 rfl) (As := [.int (AI u a0 (tn (x4 + 1)))]) (rest := []) rfl hl.1 rfl (Nat.le_of_ble_eq_true rfl) dL_law_738 ⟨(by show _ ≤ MC; omega), (by show _ ≤ MS; omega)⟩) (fun r_273 u_274 H locs h hw => ?_)
  refine lv_aload_n hx hb dL_law_741 rfl (lv_at hl 2 rfl) ?_
  refine lv_aload_n hx hb dL_law_742 rfl (lv_at hl 0 rfl) ?_
  refine lv_iload hx hb dL_law_743 (lv_at hl 4 rfl) ?_
  refine lv_iconst (v := 1) hx hb dL_law_745 (by decide) ?_
  refine lv_iadd hx hb dL_law_746 ?_
  have hk_275 : kd u_274 a0 = 203 := h.1
  have h := h.2
  refine g_sald X hw hk_275 h.1 dL_law_747 ?_
  have h := h.2
  have hk_276 : kd u_274 a2 = 16 := h.1
  have h := h.2
  refine g_calli hw (g_V X hw (mX19_works l G _ _ _ _ h) 1 (lw_V q2033 q2034 q2035 q143 q2036) rfl rfl ydX19_works ⟨Nat.le_of_ble_eq_true rfl, Nat.le_of_ble_eq_true rfl⟩ (g_recv X hw (ci := 15) (q := (RX19, TX19, 46)) hk_276 rfl) (As := [.int (AI u_274 a0 (tn (x4 + 1)))]) (rest := [.int r_273]) rfl hl.1 rfl (Nat.le_of_ble_eq_true rfl) dL_law_748 ⟨(by show _ ≤ MC; omega), (by show _ ≤ MS; omega)⟩) (fun r_277 u_278 H locs h hw => ?_)
  refine lv_icmp_eq (tgt := 1565) hx hb dL_law_751 rfl (fun c_279 => ?_) (fun c_279 => ?_)
  · have h := h.1 c_279
    refine lv_iinc (v := x4 + 6) (lv' := [(4, .int (x4 + 6)), (0, .ref a0), (1, .ref a1), (2, .ref a2), (3, .ref a3)]) hx hb dL_law_1565 hl (k := 4) rfl rfl (by decide) rfl (fun ls hl => ?_)
    refine lv_goto (tgt := 23) hx hb dL_law_1568 rfl ?_
    exact hJ23 _ _ _ _ _ _ _ _ _ (by omega) (by omega) h hw (lv_sub hl [1, 2, 3, 4, 0] rfl)
  · have h := h.2 c_279
    refine lv_iconst (v := 0) hx hb dL_law_754 (by decide) ?_
    exact g_zret X hw hr rfl h (by omega) (by omega) dL_law_755
set_option maxHeartbeats 4000000 in
theorem wL_law_694 {G : GT} {p : Program} {l : Launch} {e : Env} {s : State} {m : MethodId} {args : Array Value} {below : List Frame} {meth : Method} {c : Code} {H : Heap} {locs : List Loc} {ls : Array Slot} {cells slots : Nat} {MC MS : Nat} {a0 : Nat} {a1 : Nat} {a2 : Nat} {a3 : Nat} {x4 : Int32} {u : Hp} {mc : Nat} {ms : Nat} {K : Int32 → Hp → Prop} {J23 : Int32 → Hp → Nat → Nat → Prop} (X : Mc G p s m args meth c RX0 cL_law 7) (hr : meth.sig.returnType = (some .boolean)) (hnt : l.stackTraces = false) (hJ23 : ∀ (x4 : Int32) (u : Hp) (mc : Nat) (ms : Nat) (H : Heap) (locs : List Loc) (ls : Array Slot) (cells slots : Nat) , cells + mc ≤ MC → slots + ms ≤ MS → J23 x4 u mc ms → GW G u s H locs → lv_has ls 7 [(0, .ref a0), (1, .ref a1), (2, .ref a2), (3, .ref a3), (4, .int x4)] → W p l e (rmL_law MC MS) s m args below meth c H locs cells slots (QI G below K args s MC MS) (F0 m 23 ls [])) (hc1 : cells + mc ≤ MC) (hc2 : slots + ms ≤ MS) (h : bL_law_694 K (Glit G) J23 a0 a1 a2 a3 x4 u mc ms) (hw : GW G u s H locs) (hl : lv_has ls 7 [(0, .ref a0), (1, .ref a1), (2, .ref a2), (3, .ref a3), (4, .int x4)]) : W p l e (rmL_law MC MS) s m args below meth c H locs cells slots (QI G below K args s MC MS) (F0 m 694 ls []) := by
  obtain ⟨hx, hb, hml, hown, hts, -⟩ := id X
  unfold bL_law_694 at h
  refine lv_aload_n hx hb dL_law_694 rfl (lv_at hl 1 rfl) ?_
  refine lv_aload_n hx hb dL_law_695 rfl (lv_at hl 0 rfl) ?_
  refine lv_iload hx hb dL_law_696 (lv_at hl 4 rfl) ?_
  refine lv_iconst (v := 1) hx hb dL_law_698 (by decide) ?_
  refine lv_iadd hx hb dL_law_699 ?_
  have hk_280 : kd u a0 = 203 := h.1
  have h := h.2
  refine g_sald X hw hk_280 h.1 dL_law_700 ?_
  have h := h.2
  refine lv_aload_n hx hb dL_law_701 rfl (lv_at hl 0 rfl) ?_
  refine lv_iload hx hb dL_law_702 (lv_at hl 4 rfl) ?_
  refine lv_iconst (v := 2) hx hb dL_law_704 (by decide) ?_
  refine lv_iadd hx hb dL_law_705 ?_
  refine g_sald X hw hk_280 h.1 dL_law_706 ?_
  have h := h.2
  have hk_281 : kd u a1 = 1 := h.1
  have h := h.2
  refine g_calli hw (g_V X hw (mX1_says l G _ _ _ _ _ h) 2 (lw_V q1195 q1196 q1197 q122 q1198) rfl rfl ydX1_says ⟨Nat.le_of_ble_eq_true rfl, Nat.le_of_ble_eq_true rfl⟩ (g_recv X hw (ci := 0) (q := (RX1, TX1, 16)) hk_281 rfl) (As := [.int (AI u a0 (tn (x4 + 1))), .int (AI u a0 (tn (x4 + 2)))]) (rest := []) rfl hl.1 rfl (Nat.le_of_ble_eq_true rfl) dL_law_707 ⟨(by show _ ≤ MC; omega), (by show _ ≤ MS; omega)⟩) (fun r_282 u_283 H locs h hw => ?_)
  refine lv_aload_n hx hb dL_law_710 rfl (lv_at hl 2 rfl) ?_
  refine lv_aload_n hx hb dL_law_711 rfl (lv_at hl 0 rfl) ?_
  refine lv_iload hx hb dL_law_712 (lv_at hl 4 rfl) ?_
  refine lv_iconst (v := 1) hx hb dL_law_714 (by decide) ?_
  refine lv_iadd hx hb dL_law_715 ?_
  have hk_284 : kd u_283 a0 = 203 := h.1
  have h := h.2
  refine g_sald X hw hk_284 h.1 dL_law_716 ?_
  have h := h.2
  refine lv_aload_n hx hb dL_law_717 rfl (lv_at hl 0 rfl) ?_
  refine lv_iload hx hb dL_law_718 (lv_at hl 4 rfl) ?_
  refine lv_iconst (v := 2) hx hb dL_law_720 (by decide) ?_
  refine lv_iadd hx hb dL_law_721 ?_
  refine g_sald X hw hk_284 h.1 dL_law_722 ?_
  have h := h.2
  have hk_285 : kd u_283 a2 = 16 := h.1
  have h := h.2
  refine g_calli hw (g_V X hw (mX19_says l G _ _ _ _ _ h) 2 (lw_V q2021 q2022 q2023 q143 q2024) rfl rfl ydX19_says ⟨Nat.le_of_ble_eq_true rfl, Nat.le_of_ble_eq_true rfl⟩ (g_recv X hw (ci := 15) (q := (RX19, TX19, 46)) hk_285 rfl) (As := [.int (AI u_283 a0 (tn (x4 + 1))), .int (AI u_283 a0 (tn (x4 + 2)))]) (rest := [.int r_282]) rfl hl.1 rfl (Nat.le_of_ble_eq_true rfl) dL_law_723 ⟨(by show _ ≤ MC; omega), (by show _ ≤ MS; omega)⟩) (fun r_286 u_287 H locs h hw => ?_)
  refine lv_icmp_eq (tgt := 1565) hx hb dL_law_726 rfl (fun c_288 => ?_) (fun c_288 => ?_)
  · have h := h.1 c_288
    refine lv_iinc (v := x4 + 6) (lv' := [(4, .int (x4 + 6)), (0, .ref a0), (1, .ref a1), (2, .ref a2), (3, .ref a3)]) hx hb dL_law_1565 hl (k := 4) rfl rfl (by decide) rfl (fun ls hl => ?_)
    refine lv_goto (tgt := 23) hx hb dL_law_1568 rfl ?_
    exact hJ23 _ _ _ _ _ _ _ _ _ (by omega) (by omega) h hw (lv_sub hl [1, 2, 3, 4, 0] rfl)
  · have h := h.2 c_288
    refine lv_iconst (v := 0) hx hb dL_law_729 (by decide) ?_
    exact g_zret X hw hr rfl h (by omega) (by omega) dL_law_730
set_option maxHeartbeats 4000000 in
theorem wL_law_645 {G : GT} {p : Program} {l : Launch} {e : Env} {s : State} {m : MethodId} {args : Array Value} {below : List Frame} {meth : Method} {c : Code} {H : Heap} {locs : List Loc} {ls : Array Slot} {cells slots : Nat} {MC MS : Nat} {a0 : Nat} {a1 : Nat} {a2 : Nat} {a3 : Nat} {x4 : Int32} {u : Hp} {mc : Nat} {ms : Nat} {K : Int32 → Hp → Prop} {J23 : Int32 → Hp → Nat → Nat → Prop} (X : Mc G p s m args meth c RX0 cL_law 7) (hr : meth.sig.returnType = (some .boolean)) (hnt : l.stackTraces = false) (hJ23 : ∀ (x4 : Int32) (u : Hp) (mc : Nat) (ms : Nat) (H : Heap) (locs : List Loc) (ls : Array Slot) (cells slots : Nat) , cells + mc ≤ MC → slots + ms ≤ MS → J23 x4 u mc ms → GW G u s H locs → lv_has ls 7 [(0, .ref a0), (1, .ref a1), (2, .ref a2), (3, .ref a3), (4, .int x4)] → W p l e (rmL_law MC MS) s m args below meth c H locs cells slots (QI G below K args s MC MS) (F0 m 23 ls [])) (hc1 : cells + mc ≤ MC) (hc2 : slots + ms ≤ MS) (h : bL_law_645 K (Glit G) J23 a0 a1 a2 a3 x4 u mc ms) (hw : GW G u s H locs) (hl : lv_has ls 7 [(0, .ref a0), (1, .ref a1), (2, .ref a2), (3, .ref a3), (4, .int x4)]) : W p l e (rmL_law MC MS) s m args below meth c H locs cells slots (QI G below K args s MC MS) (F0 m 645 ls []) := by
  obtain ⟨hx, hb, hml, hown, hts, -⟩ := id X
  unfold bL_law_645 at h
  refine lv_aload_n hx hb dL_law_645 rfl (lv_at hl 1 rfl) ?_
  refine lv_aload_n hx hb dL_law_646 rfl (lv_at hl 0 rfl) ?_
  refine lv_iload hx hb dL_law_647 (lv_at hl 4 rfl) ?_
  refine lv_iconst (v := 1) hx hb dL_law_649 (by decide) ?_
  refine lv_iadd hx hb dL_law_650 ?_
  have hk_289 : kd u a0 = 203 := h.1
  have h := h.2
  refine g_sald X hw hk_289 h.1 dL_law_651 ?_
  have h := h.2
  refine lv_aload_n hx hb dL_law_652 rfl (lv_at hl 0 rfl) ?_
  refine lv_iload hx hb dL_law_653 (lv_at hl 4 rfl) ?_
  refine lv_iconst (v := 2) hx hb dL_law_655 (by decide) ?_
  refine lv_iadd hx hb dL_law_656 ?_
  refine g_sald X hw hk_289 h.1 dL_law_657 ?_
  have h := h.2
  refine lv_aload_n hx hb dL_law_658 rfl (lv_at hl 0 rfl) ?_
  refine lv_iload hx hb dL_law_659 (lv_at hl 4 rfl) ?_
  refine lv_iconst (v := 3) hx hb dL_law_661 (by decide) ?_
  refine lv_iadd hx hb dL_law_662 ?_
  refine g_sald X hw hk_289 h.1 dL_law_663 ?_
  have h := h.2
  have hk_290 : kd u a1 = 1 := h.1
  have h := h.2
  refine g_calli hw (g_V X hw (mX1_kept l G _ _ _ _ _ _ h) 3 (lw_V q1189 q1190 q1191 q122 q1192) rfl rfl ydX1_kept ⟨Nat.le_of_ble_eq_true rfl, Nat.le_of_ble_eq_true rfl⟩ (g_recv X hw (ci := 0) (q := (RX1, TX1, 16)) hk_290 rfl) (As := [.int (AI u a0 (tn (x4 + 1))), .int (AI u a0 (tn (x4 + 2))), .int (AI u a0 (tn (x4 + 3)))]) (rest := []) rfl hl.1 rfl (Nat.le_of_ble_eq_true rfl) dL_law_664 ⟨(by show _ ≤ MC; omega), (by show _ ≤ MS; omega)⟩) (fun r_291 u_292 H locs h hw => ?_)
  refine lv_aload_n hx hb dL_law_667 rfl (lv_at hl 2 rfl) ?_
  refine lv_aload_n hx hb dL_law_668 rfl (lv_at hl 0 rfl) ?_
  refine lv_iload hx hb dL_law_669 (lv_at hl 4 rfl) ?_
  refine lv_iconst (v := 1) hx hb dL_law_671 (by decide) ?_
  refine lv_iadd hx hb dL_law_672 ?_
  have hk_293 : kd u_292 a0 = 203 := h.1
  have h := h.2
  refine g_sald X hw hk_293 h.1 dL_law_673 ?_
  have h := h.2
  refine lv_aload_n hx hb dL_law_674 rfl (lv_at hl 0 rfl) ?_
  refine lv_iload hx hb dL_law_675 (lv_at hl 4 rfl) ?_
  refine lv_iconst (v := 2) hx hb dL_law_677 (by decide) ?_
  refine lv_iadd hx hb dL_law_678 ?_
  refine g_sald X hw hk_293 h.1 dL_law_679 ?_
  have h := h.2
  refine lv_aload_n hx hb dL_law_680 rfl (lv_at hl 0 rfl) ?_
  refine lv_iload hx hb dL_law_681 (lv_at hl 4 rfl) ?_
  refine lv_iconst (v := 3) hx hb dL_law_683 (by decide) ?_
  refine lv_iadd hx hb dL_law_684 ?_
  refine g_sald X hw hk_293 h.1 dL_law_685 ?_
  have h := h.2
  have hk_294 : kd u_292 a2 = 16 := h.1
  have h := h.2
  refine g_calli hw (g_V X hw (mX19_kept l G _ _ _ _ _ _ h) 3 (lw_V q2017 q2018 q2019 q143 q2020) rfl rfl ydX19_kept ⟨Nat.le_of_ble_eq_true rfl, Nat.le_of_ble_eq_true rfl⟩ (g_recv X hw (ci := 15) (q := (RX19, TX19, 46)) hk_294 rfl) (As := [.int (AI u_292 a0 (tn (x4 + 1))), .int (AI u_292 a0 (tn (x4 + 2))), .int (AI u_292 a0 (tn (x4 + 3)))]) (rest := [.int r_291]) rfl hl.1 rfl (Nat.le_of_ble_eq_true rfl) dL_law_686 ⟨(by show _ ≤ MC; omega), (by show _ ≤ MS; omega)⟩) (fun r_295 u_296 H locs h hw => ?_)
  refine lv_icmp_eq (tgt := 1565) hx hb dL_law_689 rfl (fun c_297 => ?_) (fun c_297 => ?_)
  · have h := h.1 c_297
    refine lv_iinc (v := x4 + 6) (lv' := [(4, .int (x4 + 6)), (0, .ref a0), (1, .ref a1), (2, .ref a2), (3, .ref a3)]) hx hb dL_law_1565 hl (k := 4) rfl rfl (by decide) rfl (fun ls hl => ?_)
    refine lv_goto (tgt := 23) hx hb dL_law_1568 rfl ?_
    exact hJ23 _ _ _ _ _ _ _ _ _ (by omega) (by omega) h hw (lv_sub hl [1, 2, 3, 4, 0] rfl)
  · have h := h.2 c_297
    refine lv_iconst (v := 0) hx hb dL_law_692 (by decide) ?_
    exact g_zret X hw hr rfl h (by omega) (by omega) dL_law_693
set_option maxHeartbeats 4000000 in
theorem wL_law_608 {G : GT} {p : Program} {l : Launch} {e : Env} {s : State} {m : MethodId} {args : Array Value} {below : List Frame} {meth : Method} {c : Code} {H : Heap} {locs : List Loc} {ls : Array Slot} {cells slots : Nat} {MC MS : Nat} {a0 : Nat} {a1 : Nat} {a2 : Nat} {a3 : Nat} {x4 : Int32} {u : Hp} {mc : Nat} {ms : Nat} {K : Int32 → Hp → Prop} {J23 : Int32 → Hp → Nat → Nat → Prop} (X : Mc G p s m args meth c RX0 cL_law 7) (hr : meth.sig.returnType = (some .boolean)) (hnt : l.stackTraces = false) (hJ23 : ∀ (x4 : Int32) (u : Hp) (mc : Nat) (ms : Nat) (H : Heap) (locs : List Loc) (ls : Array Slot) (cells slots : Nat) , cells + mc ≤ MC → slots + ms ≤ MS → J23 x4 u mc ms → GW G u s H locs → lv_has ls 7 [(0, .ref a0), (1, .ref a1), (2, .ref a2), (3, .ref a3), (4, .int x4)] → W p l e (rmL_law MC MS) s m args below meth c H locs cells slots (QI G below K args s MC MS) (F0 m 23 ls [])) (hc1 : cells + mc ≤ MC) (hc2 : slots + ms ≤ MS) (h : bL_law_608 K (Glit G) J23 a0 a1 a2 a3 x4 u mc ms) (hw : GW G u s H locs) (hl : lv_has ls 7 [(0, .ref a0), (1, .ref a1), (2, .ref a2), (3, .ref a3), (4, .int x4)]) : W p l e (rmL_law MC MS) s m args below meth c H locs cells slots (QI G below K args s MC MS) (F0 m 608 ls []) := by
  obtain ⟨hx, hb, hml, hown, hts, -⟩ := id X
  unfold bL_law_608 at h
  refine lv_aload_n hx hb dL_law_608 rfl (lv_at hl 1 rfl) ?_
  refine lv_aload_n hx hb dL_law_609 rfl (lv_at hl 0 rfl) ?_
  refine lv_iload hx hb dL_law_610 (lv_at hl 4 rfl) ?_
  refine lv_iconst (v := 1) hx hb dL_law_612 (by decide) ?_
  refine lv_iadd hx hb dL_law_613 ?_
  have hk_298 : kd u a0 = 203 := h.1
  have h := h.2
  refine g_sald X hw hk_298 h.1 dL_law_614 ?_
  have h := h.2
  refine lv_aload_n hx hb dL_law_615 rfl (lv_at hl 0 rfl) ?_
  refine lv_iload hx hb dL_law_616 (lv_at hl 4 rfl) ?_
  refine lv_iconst (v := 2) hx hb dL_law_618 (by decide) ?_
  refine lv_iadd hx hb dL_law_619 ?_
  refine g_sald X hw hk_298 h.1 dL_law_620 ?_
  have h := h.2
  have hk_299 : kd u a1 = 1 := h.1
  have h := h.2
  refine g_calli hw (g_V X hw (mX1_lays l G _ _ _ _ _ h) 2 (lw_V q1070 q1071 q1072 q122 q1073) rfl rfl ydX1_lays ⟨Nat.le_of_ble_eq_true rfl, Nat.le_of_ble_eq_true rfl⟩ (g_recv X hw (ci := 0) (q := (RX1, TX1, 16)) hk_299 rfl) (As := [.int (AI u a0 (tn (x4 + 1))), .int (AI u a0 (tn (x4 + 2)))]) (rest := []) rfl hl.1 rfl (Nat.le_of_ble_eq_true rfl) dL_law_621 ⟨(by show _ ≤ MC; omega), (by show _ ≤ MS; omega)⟩) (fun r_300 u_301 H locs h hw => ?_)
  refine lv_aload_n hx hb dL_law_624 rfl (lv_at hl 2 rfl) ?_
  refine lv_aload_n hx hb dL_law_625 rfl (lv_at hl 0 rfl) ?_
  refine lv_iload hx hb dL_law_626 (lv_at hl 4 rfl) ?_
  refine lv_iconst (v := 1) hx hb dL_law_628 (by decide) ?_
  refine lv_iadd hx hb dL_law_629 ?_
  have hk_302 : kd u_301 a0 = 203 := h.1
  have h := h.2
  refine g_sald X hw hk_302 h.1 dL_law_630 ?_
  have h := h.2
  refine lv_aload_n hx hb dL_law_631 rfl (lv_at hl 0 rfl) ?_
  refine lv_iload hx hb dL_law_632 (lv_at hl 4 rfl) ?_
  refine lv_iconst (v := 2) hx hb dL_law_634 (by decide) ?_
  refine lv_iadd hx hb dL_law_635 ?_
  refine g_sald X hw hk_302 h.1 dL_law_636 ?_
  have h := h.2
  have hk_303 : kd u_301 a2 = 16 := h.1
  have h := h.2
  refine g_calli hw (g_V X hw (mX19_lays l G _ _ _ _ _ h) 2 (lw_V q1936 q1937 q1938 q143 q1939) rfl rfl ydX19_lays ⟨Nat.le_of_ble_eq_true rfl, Nat.le_of_ble_eq_true rfl⟩ (g_recv X hw (ci := 15) (q := (RX19, TX19, 46)) hk_303 rfl) (As := [.int (AI u_301 a0 (tn (x4 + 1))), .int (AI u_301 a0 (tn (x4 + 2)))]) (rest := [.int r_300]) rfl hl.1 rfl (Nat.le_of_ble_eq_true rfl) dL_law_637 ⟨(by show _ ≤ MC; omega), (by show _ ≤ MS; omega)⟩) (fun r_304 u_305 H locs h hw => ?_)
  refine lv_icmp_eq (tgt := 1565) hx hb dL_law_640 rfl (fun c_306 => ?_) (fun c_306 => ?_)
  · have h := h.1 c_306
    refine lv_iinc (v := x4 + 6) (lv' := [(4, .int (x4 + 6)), (0, .ref a0), (1, .ref a1), (2, .ref a2), (3, .ref a3)]) hx hb dL_law_1565 hl (k := 4) rfl rfl (by decide) rfl (fun ls hl => ?_)
    refine lv_goto (tgt := 23) hx hb dL_law_1568 rfl ?_
    exact hJ23 _ _ _ _ _ _ _ _ _ (by omega) (by omega) h hw (lv_sub hl [1, 2, 3, 4, 0] rfl)
  · have h := h.2 c_306
    refine lv_iconst (v := 0) hx hb dL_law_643 (by decide) ?_
    exact g_zret X hw hr rfl h (by omega) (by omega) dL_law_644
set_option maxHeartbeats 4000000 in
theorem wL_law_595 {G : GT} {p : Program} {l : Launch} {e : Env} {s : State} {m : MethodId} {args : Array Value} {below : List Frame} {meth : Method} {c : Code} {H : Heap} {locs : List Loc} {ls : Array Slot} {cells slots : Nat} {MC MS : Nat} {a0 : Nat} {a1 : Nat} {a2 : Nat} {a3 : Nat} {x4 : Int32} {u : Hp} {mc : Nat} {ms : Nat} {K : Int32 → Hp → Prop} {J23 : Int32 → Hp → Nat → Nat → Prop} (X : Mc G p s m args meth c RX0 cL_law 7) (hr : meth.sig.returnType = (some .boolean)) (hnt : l.stackTraces = false) (hJ23 : ∀ (x4 : Int32) (u : Hp) (mc : Nat) (ms : Nat) (H : Heap) (locs : List Loc) (ls : Array Slot) (cells slots : Nat) , cells + mc ≤ MC → slots + ms ≤ MS → J23 x4 u mc ms → GW G u s H locs → lv_has ls 7 [(0, .ref a0), (1, .ref a1), (2, .ref a2), (3, .ref a3), (4, .int x4)] → W p l e (rmL_law MC MS) s m args below meth c H locs cells slots (QI G below K args s MC MS) (F0 m 23 ls [])) (hc1 : cells + mc ≤ MC) (hc2 : slots + ms ≤ MS) (h : bL_law_595 K (Glit G) J23 a0 a1 a2 a3 x4 u mc ms) (hw : GW G u s H locs) (hl : lv_has ls 7 [(0, .ref a0), (1, .ref a1), (2, .ref a2), (3, .ref a3), (4, .int x4)]) : W p l e (rmL_law MC MS) s m args below meth c H locs cells slots (QI G below K args s MC MS) (F0 m 595 ls []) := by
  obtain ⟨hx, hb, hml, hown, hts, -⟩ := id X
  unfold bL_law_595 at h
  refine lv_aload_n hx hb dL_law_595 rfl (lv_at hl 1 rfl) ?_
  have hk_307 : kd u a1 = 1 := h.1
  have h := h.2
  refine g_calli hw (g_V X hw (mX1_fitting l G _ _ _ h) 0 (lw_V q1062 q1063 q1064 q122 q1065) rfl rfl ydX1_fitting ⟨Nat.le_of_ble_eq_true rfl, Nat.le_of_ble_eq_true rfl⟩ (g_recv X hw (ci := 0) (q := (RX1, TX1, 16)) hk_307 rfl) (As := []) (rest := []) rfl hl.1 rfl (Nat.le_of_ble_eq_true rfl) dL_law_596 ⟨(by show _ ≤ MC; omega), (by show _ ≤ MS; omega)⟩) (fun r_308 u_309 H locs h hw => ?_)
  refine lv_aload_n hx hb dL_law_599 rfl (lv_at hl 2 rfl) ?_
  have hk_310 : kd u_309 a2 = 16 := h.1
  have h := h.2
  refine g_calli hw (g_V X hw (mX19_fitting l G _ _ _ h) 0 (lw_V q1927 q1928 q1929 q143 q1930) rfl rfl ydX19_fitting ⟨Nat.le_of_ble_eq_true rfl, Nat.le_of_ble_eq_true rfl⟩ (g_recv X hw (ci := 15) (q := (RX19, TX19, 46)) hk_310 rfl) (As := []) (rest := [.int r_308]) rfl hl.1 rfl (Nat.le_of_ble_eq_true rfl) dL_law_600 ⟨(by show _ ≤ MC; omega), (by show _ ≤ MS; omega)⟩) (fun r_311 u_312 H locs h hw => ?_)
  refine lv_icmp_eq (tgt := 1565) hx hb dL_law_603 rfl (fun c_313 => ?_) (fun c_313 => ?_)
  · have h := h.1 c_313
    refine lv_iinc (v := x4 + 6) (lv' := [(4, .int (x4 + 6)), (0, .ref a0), (1, .ref a1), (2, .ref a2), (3, .ref a3)]) hx hb dL_law_1565 hl (k := 4) rfl rfl (by decide) rfl (fun ls hl => ?_)
    refine lv_goto (tgt := 23) hx hb dL_law_1568 rfl ?_
    exact hJ23 _ _ _ _ _ _ _ _ _ (by omega) (by omega) h hw (lv_sub hl [1, 2, 3, 4, 0] rfl)
  · have h := h.2 c_313
    refine lv_iconst (v := 0) hx hb dL_law_606 (by decide) ?_
    exact g_zret X hw hr rfl h (by omega) (by omega) dL_law_607
set_option maxHeartbeats 4000000 in
theorem wL_law_558 {G : GT} {p : Program} {l : Launch} {e : Env} {s : State} {m : MethodId} {args : Array Value} {below : List Frame} {meth : Method} {c : Code} {H : Heap} {locs : List Loc} {ls : Array Slot} {cells slots : Nat} {MC MS : Nat} {a0 : Nat} {a1 : Nat} {a2 : Nat} {a3 : Nat} {x4 : Int32} {u : Hp} {mc : Nat} {ms : Nat} {K : Int32 → Hp → Prop} {J23 : Int32 → Hp → Nat → Nat → Prop} (X : Mc G p s m args meth c RX0 cL_law 7) (hr : meth.sig.returnType = (some .boolean)) (hnt : l.stackTraces = false) (hJ23 : ∀ (x4 : Int32) (u : Hp) (mc : Nat) (ms : Nat) (H : Heap) (locs : List Loc) (ls : Array Slot) (cells slots : Nat) , cells + mc ≤ MC → slots + ms ≤ MS → J23 x4 u mc ms → GW G u s H locs → lv_has ls 7 [(0, .ref a0), (1, .ref a1), (2, .ref a2), (3, .ref a3), (4, .int x4)] → W p l e (rmL_law MC MS) s m args below meth c H locs cells slots (QI G below K args s MC MS) (F0 m 23 ls [])) (hc1 : cells + mc ≤ MC) (hc2 : slots + ms ≤ MS) (h : bL_law_558 K (Glit G) J23 a0 a1 a2 a3 x4 u mc ms) (hw : GW G u s H locs) (hl : lv_has ls 7 [(0, .ref a0), (1, .ref a1), (2, .ref a2), (3, .ref a3), (4, .int x4)]) : W p l e (rmL_law MC MS) s m args below meth c H locs cells slots (QI G below K args s MC MS) (F0 m 558 ls []) := by
  obtain ⟨hx, hb, hml, hown, hts, -⟩ := id X
  unfold bL_law_558 at h
  refine lv_aload_n hx hb dL_law_558 rfl (lv_at hl 1 rfl) ?_
  refine lv_aload_n hx hb dL_law_559 rfl (lv_at hl 0 rfl) ?_
  refine lv_iload hx hb dL_law_560 (lv_at hl 4 rfl) ?_
  refine lv_iconst (v := 1) hx hb dL_law_562 (by decide) ?_
  refine lv_iadd hx hb dL_law_563 ?_
  have hk_314 : kd u a0 = 203 := h.1
  have h := h.2
  refine g_sald X hw hk_314 h.1 dL_law_564 ?_
  have h := h.2
  refine lv_aload_n hx hb dL_law_565 rfl (lv_at hl 0 rfl) ?_
  refine lv_iload hx hb dL_law_566 (lv_at hl 4 rfl) ?_
  refine lv_iconst (v := 2) hx hb dL_law_568 (by decide) ?_
  refine lv_iadd hx hb dL_law_569 ?_
  refine g_sald X hw hk_314 h.1 dL_law_570 ?_
  have h := h.2
  have hk_315 : kd u a1 = 1 := h.1
  have h := h.2
  refine g_calli hw (g_V X hw (mX1_fits l G _ _ _ _ _ h) 2 (lw_V q1054 q1055 q1056 q122 q1057) rfl rfl ydX1_fits ⟨Nat.le_of_ble_eq_true rfl, Nat.le_of_ble_eq_true rfl⟩ (g_recv X hw (ci := 0) (q := (RX1, TX1, 16)) hk_315 rfl) (As := [.int (AI u a0 (tn (x4 + 1))), .int (AI u a0 (tn (x4 + 2)))]) (rest := []) rfl hl.1 rfl (Nat.le_of_ble_eq_true rfl) dL_law_571 ⟨(by show _ ≤ MC; omega), (by show _ ≤ MS; omega)⟩) (fun r_316 u_317 H locs h hw => ?_)
  refine lv_aload_n hx hb dL_law_574 rfl (lv_at hl 2 rfl) ?_
  refine lv_aload_n hx hb dL_law_575 rfl (lv_at hl 0 rfl) ?_
  refine lv_iload hx hb dL_law_576 (lv_at hl 4 rfl) ?_
  refine lv_iconst (v := 1) hx hb dL_law_578 (by decide) ?_
  refine lv_iadd hx hb dL_law_579 ?_
  have hk_318 : kd u_317 a0 = 203 := h.1
  have h := h.2
  refine g_sald X hw hk_318 h.1 dL_law_580 ?_
  have h := h.2
  refine lv_aload_n hx hb dL_law_581 rfl (lv_at hl 0 rfl) ?_
  refine lv_iload hx hb dL_law_582 (lv_at hl 4 rfl) ?_
  refine lv_iconst (v := 2) hx hb dL_law_584 (by decide) ?_
  refine lv_iadd hx hb dL_law_585 ?_
  refine g_sald X hw hk_318 h.1 dL_law_586 ?_
  have h := h.2
  have hk_319 : kd u_317 a2 = 16 := h.1
  have h := h.2
  refine g_calli hw (g_V X hw (mX19_fits l G _ _ _ _ _ h) 2 (lw_V q1919 q1920 q1921 q143 q1922) rfl rfl ydX19_fits ⟨Nat.le_of_ble_eq_true rfl, Nat.le_of_ble_eq_true rfl⟩ (g_recv X hw (ci := 15) (q := (RX19, TX19, 46)) hk_319 rfl) (As := [.int (AI u_317 a0 (tn (x4 + 1))), .int (AI u_317 a0 (tn (x4 + 2)))]) (rest := [.int r_316]) rfl hl.1 rfl (Nat.le_of_ble_eq_true rfl) dL_law_587 ⟨(by show _ ≤ MC; omega), (by show _ ≤ MS; omega)⟩) (fun r_320 u_321 H locs h hw => ?_)
  refine lv_icmp_eq (tgt := 1565) hx hb dL_law_590 rfl (fun c_322 => ?_) (fun c_322 => ?_)
  · have h := h.1 c_322
    refine lv_iinc (v := x4 + 6) (lv' := [(4, .int (x4 + 6)), (0, .ref a0), (1, .ref a1), (2, .ref a2), (3, .ref a3)]) hx hb dL_law_1565 hl (k := 4) rfl rfl (by decide) rfl (fun ls hl => ?_)
    refine lv_goto (tgt := 23) hx hb dL_law_1568 rfl ?_
    exact hJ23 _ _ _ _ _ _ _ _ _ (by omega) (by omega) h hw (lv_sub hl [1, 2, 3, 4, 0] rfl)
  · have h := h.2 c_322
    refine lv_iconst (v := 0) hx hb dL_law_593 (by decide) ?_
    exact g_zret X hw hr rfl h (by omega) (by omega) dL_law_594
set_option maxHeartbeats 4000000 in
theorem wL_law_533 {G : GT} {p : Program} {l : Launch} {e : Env} {s : State} {m : MethodId} {args : Array Value} {below : List Frame} {meth : Method} {c : Code} {H : Heap} {locs : List Loc} {ls : Array Slot} {cells slots : Nat} {MC MS : Nat} {a0 : Nat} {a1 : Nat} {a2 : Nat} {a3 : Nat} {x4 : Int32} {u : Hp} {mc : Nat} {ms : Nat} {K : Int32 → Hp → Prop} {J23 : Int32 → Hp → Nat → Nat → Prop} (X : Mc G p s m args meth c RX0 cL_law 7) (hr : meth.sig.returnType = (some .boolean)) (hnt : l.stackTraces = false) (hJ23 : ∀ (x4 : Int32) (u : Hp) (mc : Nat) (ms : Nat) (H : Heap) (locs : List Loc) (ls : Array Slot) (cells slots : Nat) , cells + mc ≤ MC → slots + ms ≤ MS → J23 x4 u mc ms → GW G u s H locs → lv_has ls 7 [(0, .ref a0), (1, .ref a1), (2, .ref a2), (3, .ref a3), (4, .int x4)] → W p l e (rmL_law MC MS) s m args below meth c H locs cells slots (QI G below K args s MC MS) (F0 m 23 ls [])) (hc1 : cells + mc ≤ MC) (hc2 : slots + ms ≤ MS) (h : bL_law_533 K (Glit G) J23 a0 a1 a2 a3 x4 u mc ms) (hw : GW G u s H locs) (hl : lv_has ls 7 [(0, .ref a0), (1, .ref a1), (2, .ref a2), (3, .ref a3), (4, .int x4)]) : W p l e (rmL_law MC MS) s m args below meth c H locs cells slots (QI G below K args s MC MS) (F0 m 533 ls []) := by
  obtain ⟨hx, hb, hml, hown, hts, -⟩ := id X
  unfold bL_law_533 at h
  refine lv_aload_n hx hb dL_law_533 rfl (lv_at hl 1 rfl) ?_
  refine lv_aload_n hx hb dL_law_534 rfl (lv_at hl 0 rfl) ?_
  refine lv_iload hx hb dL_law_535 (lv_at hl 4 rfl) ?_
  refine lv_iconst (v := 1) hx hb dL_law_537 (by decide) ?_
  refine lv_iadd hx hb dL_law_538 ?_
  have hk_323 : kd u a0 = 203 := h.1
  have h := h.2
  refine g_sald X hw hk_323 h.1 dL_law_539 ?_
  have h := h.2
  have hk_324 : kd u a1 = 1 := h.1
  have h := h.2
  refine g_calli hw (g_V X hw (mX1_tilted l G _ _ _ _ h) 1 (lw_V q1050 q1051 q1052 q122 q1053) rfl rfl ydX1_tilted ⟨Nat.le_of_ble_eq_true rfl, Nat.le_of_ble_eq_true rfl⟩ (g_recv X hw (ci := 0) (q := (RX1, TX1, 16)) hk_324 rfl) (As := [.int (AI u a0 (tn (x4 + 1)))]) (rest := []) rfl hl.1 rfl (Nat.le_of_ble_eq_true rfl) dL_law_540 ⟨(by show _ ≤ MC; omega), (by show _ ≤ MS; omega)⟩) (fun r_325 u_326 H locs h hw => ?_)
  refine lv_aload_n hx hb dL_law_543 rfl (lv_at hl 2 rfl) ?_
  refine lv_aload_n hx hb dL_law_544 rfl (lv_at hl 0 rfl) ?_
  refine lv_iload hx hb dL_law_545 (lv_at hl 4 rfl) ?_
  refine lv_iconst (v := 1) hx hb dL_law_547 (by decide) ?_
  refine lv_iadd hx hb dL_law_548 ?_
  have hk_327 : kd u_326 a0 = 203 := h.1
  have h := h.2
  refine g_sald X hw hk_327 h.1 dL_law_549 ?_
  have h := h.2
  have hk_328 : kd u_326 a2 = 16 := h.1
  have h := h.2
  refine g_calli hw (g_V X hw (mX19_tilted l G _ _ _ _ h) 1 (lw_V q1915 q1916 q1917 q143 q1918) rfl rfl ydX19_tilted ⟨Nat.le_of_ble_eq_true rfl, Nat.le_of_ble_eq_true rfl⟩ (g_recv X hw (ci := 15) (q := (RX19, TX19, 46)) hk_328 rfl) (As := [.int (AI u_326 a0 (tn (x4 + 1)))]) (rest := [.int r_325]) rfl hl.1 rfl (Nat.le_of_ble_eq_true rfl) dL_law_550 ⟨(by show _ ≤ MC; omega), (by show _ ≤ MS; omega)⟩) (fun r_329 u_330 H locs h hw => ?_)
  refine lv_icmp_eq (tgt := 1565) hx hb dL_law_553 rfl (fun c_331 => ?_) (fun c_331 => ?_)
  · have h := h.1 c_331
    refine lv_iinc (v := x4 + 6) (lv' := [(4, .int (x4 + 6)), (0, .ref a0), (1, .ref a1), (2, .ref a2), (3, .ref a3)]) hx hb dL_law_1565 hl (k := 4) rfl rfl (by decide) rfl (fun ls hl => ?_)
    refine lv_goto (tgt := 23) hx hb dL_law_1568 rfl ?_
    exact hJ23 _ _ _ _ _ _ _ _ _ (by omega) (by omega) h hw (lv_sub hl [1, 2, 3, 4, 0] rfl)
  · have h := h.2 c_331
    refine lv_iconst (v := 0) hx hb dL_law_556 (by decide) ?_
    exact g_zret X hw hr rfl h (by omega) (by omega) dL_law_557
set_option maxHeartbeats 4000000 in
theorem wL_law_496 {G : GT} {p : Program} {l : Launch} {e : Env} {s : State} {m : MethodId} {args : Array Value} {below : List Frame} {meth : Method} {c : Code} {H : Heap} {locs : List Loc} {ls : Array Slot} {cells slots : Nat} {MC MS : Nat} {a0 : Nat} {a1 : Nat} {a2 : Nat} {a3 : Nat} {x4 : Int32} {u : Hp} {mc : Nat} {ms : Nat} {K : Int32 → Hp → Prop} {J23 : Int32 → Hp → Nat → Nat → Prop} (X : Mc G p s m args meth c RX0 cL_law 7) (hr : meth.sig.returnType = (some .boolean)) (hnt : l.stackTraces = false) (hJ23 : ∀ (x4 : Int32) (u : Hp) (mc : Nat) (ms : Nat) (H : Heap) (locs : List Loc) (ls : Array Slot) (cells slots : Nat) , cells + mc ≤ MC → slots + ms ≤ MS → J23 x4 u mc ms → GW G u s H locs → lv_has ls 7 [(0, .ref a0), (1, .ref a1), (2, .ref a2), (3, .ref a3), (4, .int x4)] → W p l e (rmL_law MC MS) s m args below meth c H locs cells slots (QI G below K args s MC MS) (F0 m 23 ls [])) (hc1 : cells + mc ≤ MC) (hc2 : slots + ms ≤ MS) (h : bL_law_496 K (Glit G) J23 a0 a1 a2 a3 x4 u mc ms) (hw : GW G u s H locs) (hl : lv_has ls 7 [(0, .ref a0), (1, .ref a1), (2, .ref a2), (3, .ref a3), (4, .int x4)]) : W p l e (rmL_law MC MS) s m args below meth c H locs cells slots (QI G below K args s MC MS) (F0 m 496 ls []) := by
  obtain ⟨hx, hb, hml, hown, hts, -⟩ := id X
  unfold bL_law_496 at h
  refine lv_aload_n hx hb dL_law_496 rfl (lv_at hl 1 rfl) ?_
  refine lv_aload_n hx hb dL_law_497 rfl (lv_at hl 0 rfl) ?_
  refine lv_iload hx hb dL_law_498 (lv_at hl 4 rfl) ?_
  refine lv_iconst (v := 1) hx hb dL_law_500 (by decide) ?_
  refine lv_iadd hx hb dL_law_501 ?_
  have hk_332 : kd u a0 = 203 := h.1
  have h := h.2
  refine g_sald X hw hk_332 h.1 dL_law_502 ?_
  have h := h.2
  refine lv_aload_n hx hb dL_law_503 rfl (lv_at hl 0 rfl) ?_
  refine lv_iload hx hb dL_law_504 (lv_at hl 4 rfl) ?_
  refine lv_iconst (v := 2) hx hb dL_law_506 (by decide) ?_
  refine lv_iadd hx hb dL_law_507 ?_
  refine g_sald X hw hk_332 h.1 dL_law_508 ?_
  have h := h.2
  have hk_333 : kd u a1 = 1 := h.1
  have h := h.2
  refine g_calli hw (g_V X hw (mX1_row l G _ _ _ _ _ h) 2 (lw_V q1041 q1042 q1043 q122 q1044) rfl rfl ydX1_row ⟨Nat.le_of_ble_eq_true rfl, Nat.le_of_ble_eq_true rfl⟩ (g_recv X hw (ci := 0) (q := (RX1, TX1, 16)) hk_333 rfl) (As := [.int (AI u a0 (tn (x4 + 1))), .int (AI u a0 (tn (x4 + 2)))]) (rest := []) rfl hl.1 rfl (Nat.le_of_ble_eq_true rfl) dL_law_509 ⟨(by show _ ≤ MC; omega), (by show _ ≤ MS; omega)⟩) (fun r_334 u_335 H locs h hw => ?_)
  refine lv_aload_n hx hb dL_law_512 rfl (lv_at hl 2 rfl) ?_
  refine lv_aload_n hx hb dL_law_513 rfl (lv_at hl 0 rfl) ?_
  refine lv_iload hx hb dL_law_514 (lv_at hl 4 rfl) ?_
  refine lv_iconst (v := 1) hx hb dL_law_516 (by decide) ?_
  refine lv_iadd hx hb dL_law_517 ?_
  have hk_336 : kd u_335 a0 = 203 := h.1
  have h := h.2
  refine g_sald X hw hk_336 h.1 dL_law_518 ?_
  have h := h.2
  refine lv_aload_n hx hb dL_law_519 rfl (lv_at hl 0 rfl) ?_
  refine lv_iload hx hb dL_law_520 (lv_at hl 4 rfl) ?_
  refine lv_iconst (v := 2) hx hb dL_law_522 (by decide) ?_
  refine lv_iadd hx hb dL_law_523 ?_
  refine g_sald X hw hk_336 h.1 dL_law_524 ?_
  have h := h.2
  have hk_337 : kd u_335 a2 = 16 := h.1
  have h := h.2
  refine g_calli hw (g_V X hw (mX19_row l G _ _ _ _ _ h) 2 (lw_V q1903 q1904 q1905 q143 q1906) rfl rfl ydX19_row ⟨Nat.le_of_ble_eq_true rfl, Nat.le_of_ble_eq_true rfl⟩ (g_recv X hw (ci := 15) (q := (RX19, TX19, 46)) hk_337 rfl) (As := [.int (AI u_335 a0 (tn (x4 + 1))), .int (AI u_335 a0 (tn (x4 + 2)))]) (rest := [.int r_334]) rfl hl.1 rfl (Nat.le_of_ble_eq_true rfl) dL_law_525 ⟨(by show _ ≤ MC; omega), (by show _ ≤ MS; omega)⟩) (fun r_338 u_339 H locs h hw => ?_)
  refine lv_icmp_eq (tgt := 1565) hx hb dL_law_528 rfl (fun c_340 => ?_) (fun c_340 => ?_)
  · have h := h.1 c_340
    refine lv_iinc (v := x4 + 6) (lv' := [(4, .int (x4 + 6)), (0, .ref a0), (1, .ref a1), (2, .ref a2), (3, .ref a3)]) hx hb dL_law_1565 hl (k := 4) rfl rfl (by decide) rfl (fun ls hl => ?_)
    refine lv_goto (tgt := 23) hx hb dL_law_1568 rfl ?_
    exact hJ23 _ _ _ _ _ _ _ _ _ (by omega) (by omega) h hw (lv_sub hl [1, 2, 3, 4, 0] rfl)
  · have h := h.2 c_340
    refine lv_iconst (v := 0) hx hb dL_law_531 (by decide) ?_
    exact g_zret X hw hr rfl h (by omega) (by omega) dL_law_532
set_option maxHeartbeats 4000000 in
theorem wL_law_423 {G : GT} {p : Program} {l : Launch} {e : Env} {s : State} {m : MethodId} {args : Array Value} {below : List Frame} {meth : Method} {c : Code} {H : Heap} {locs : List Loc} {ls : Array Slot} {cells slots : Nat} {MC MS : Nat} {a0 : Nat} {a1 : Nat} {a2 : Nat} {a3 : Nat} {x4 : Int32} {u : Hp} {mc : Nat} {ms : Nat} {K : Int32 → Hp → Prop} {J23 : Int32 → Hp → Nat → Nat → Prop} (X : Mc G p s m args meth c RX0 cL_law 7) (hr : meth.sig.returnType = (some .boolean)) (hnt : l.stackTraces = false) (hJ23 : ∀ (x4 : Int32) (u : Hp) (mc : Nat) (ms : Nat) (H : Heap) (locs : List Loc) (ls : Array Slot) (cells slots : Nat) , cells + mc ≤ MC → slots + ms ≤ MS → J23 x4 u mc ms → GW G u s H locs → lv_has ls 7 [(0, .ref a0), (1, .ref a1), (2, .ref a2), (3, .ref a3), (4, .int x4)] → W p l e (rmL_law MC MS) s m args below meth c H locs cells slots (QI G below K args s MC MS) (F0 m 23 ls [])) (hc1 : cells + mc ≤ MC) (hc2 : slots + ms ≤ MS) (h : bL_law_423 K (Glit G) J23 a0 a1 a2 a3 x4 u mc ms) (hw : GW G u s H locs) (hl : lv_has ls 7 [(0, .ref a0), (1, .ref a1), (2, .ref a2), (3, .ref a3), (4, .int x4)]) : W p l e (rmL_law MC MS) s m args below meth c H locs cells slots (QI G below K args s MC MS) (F0 m 423 ls []) := by
  obtain ⟨hx, hb, hml, hown, hts, -⟩ := id X
  unfold bL_law_423 at h
  refine lv_aload_n hx hb dL_law_423 rfl (lv_at hl 1 rfl) ?_
  refine lv_aload_n hx hb dL_law_424 rfl (lv_at hl 0 rfl) ?_
  refine lv_iload hx hb dL_law_425 (lv_at hl 4 rfl) ?_
  refine lv_iconst (v := 1) hx hb dL_law_427 (by decide) ?_
  refine lv_iadd hx hb dL_law_428 ?_
  have hk_341 : kd u a0 = 203 := h.1
  have h := h.2
  refine g_sald X hw hk_341 h.1 dL_law_429 ?_
  have h := h.2
  refine lv_aload_n hx hb dL_law_430 rfl (lv_at hl 0 rfl) ?_
  refine lv_iload hx hb dL_law_431 (lv_at hl 4 rfl) ?_
  refine lv_iconst (v := 2) hx hb dL_law_433 (by decide) ?_
  refine lv_iadd hx hb dL_law_434 ?_
  refine g_sald X hw hk_341 h.1 dL_law_435 ?_
  have h := h.2
  refine lv_aload_n hx hb dL_law_436 rfl (lv_at hl 0 rfl) ?_
  refine lv_iload hx hb dL_law_437 (lv_at hl 4 rfl) ?_
  refine lv_iconst (v := 3) hx hb dL_law_439 (by decide) ?_
  refine lv_iadd hx hb dL_law_440 ?_
  refine g_sald X hw hk_341 h.1 dL_law_441 ?_
  have h := h.2
  refine lv_aload_n hx hb dL_law_442 rfl (lv_at hl 0 rfl) ?_
  refine lv_iload hx hb dL_law_443 (lv_at hl 4 rfl) ?_
  refine lv_iconst (v := 4) hx hb dL_law_445 (by decide) ?_
  refine lv_iadd hx hb dL_law_446 ?_
  refine g_sald X hw hk_341 h.1 dL_law_447 ?_
  have h := h.2
  refine lv_aload_n hx hb dL_law_448 rfl (lv_at hl 0 rfl) ?_
  refine lv_iload hx hb dL_law_449 (lv_at hl 4 rfl) ?_
  refine lv_iconst (v := 5) hx hb dL_law_451 (by decide) ?_
  refine lv_iadd hx hb dL_law_452 ?_
  refine g_sald X hw hk_341 h.1 dL_law_453 ?_
  have h := h.2
  have hk_342 : kd u a1 = 1 := h.1
  have h := h.2
  refine g_calli hw (g_V X hw (mX1_handOf l G _ _ _ _ _ _ _ _ h) 5 (lw_V q1024 q1025 q1026 q122 q1027) rfl rfl ydX1_handOf ⟨Nat.le_of_ble_eq_true rfl, Nat.le_of_ble_eq_true rfl⟩ (g_recv X hw (ci := 0) (q := (RX1, TX1, 16)) hk_342 rfl) (As := [.int (AI u a0 (tn (x4 + 1))), .int (AI u a0 (tn (x4 + 2))), .int (AI u a0 (tn (x4 + 3))), .int (AI u a0 (tn (x4 + 4))), .int (AI u a0 (tn (x4 + 5)))]) (rest := []) rfl hl.1 rfl (Nat.le_of_ble_eq_true rfl) dL_law_454 ⟨(by show _ ≤ MC; omega), (by show _ ≤ MS; omega)⟩) (fun r_343 u_344 H locs h hw => ?_)
  refine lv_aload_n hx hb dL_law_457 rfl (lv_at hl 2 rfl) ?_
  refine lv_aload_n hx hb dL_law_458 rfl (lv_at hl 0 rfl) ?_
  refine lv_iload hx hb dL_law_459 (lv_at hl 4 rfl) ?_
  refine lv_iconst (v := 1) hx hb dL_law_461 (by decide) ?_
  refine lv_iadd hx hb dL_law_462 ?_
  have hk_345 : kd u_344 a0 = 203 := h.1
  have h := h.2
  refine g_sald X hw hk_345 h.1 dL_law_463 ?_
  have h := h.2
  refine lv_aload_n hx hb dL_law_464 rfl (lv_at hl 0 rfl) ?_
  refine lv_iload hx hb dL_law_465 (lv_at hl 4 rfl) ?_
  refine lv_iconst (v := 2) hx hb dL_law_467 (by decide) ?_
  refine lv_iadd hx hb dL_law_468 ?_
  refine g_sald X hw hk_345 h.1 dL_law_469 ?_
  have h := h.2
  refine lv_aload_n hx hb dL_law_470 rfl (lv_at hl 0 rfl) ?_
  refine lv_iload hx hb dL_law_471 (lv_at hl 4 rfl) ?_
  refine lv_iconst (v := 3) hx hb dL_law_473 (by decide) ?_
  refine lv_iadd hx hb dL_law_474 ?_
  refine g_sald X hw hk_345 h.1 dL_law_475 ?_
  have h := h.2
  refine lv_aload_n hx hb dL_law_476 rfl (lv_at hl 0 rfl) ?_
  refine lv_iload hx hb dL_law_477 (lv_at hl 4 rfl) ?_
  refine lv_iconst (v := 4) hx hb dL_law_479 (by decide) ?_
  refine lv_iadd hx hb dL_law_480 ?_
  refine g_sald X hw hk_345 h.1 dL_law_481 ?_
  have h := h.2
  refine lv_aload_n hx hb dL_law_482 rfl (lv_at hl 0 rfl) ?_
  refine lv_iload hx hb dL_law_483 (lv_at hl 4 rfl) ?_
  refine lv_iconst (v := 5) hx hb dL_law_485 (by decide) ?_
  refine lv_iadd hx hb dL_law_486 ?_
  refine g_sald X hw hk_345 h.1 dL_law_487 ?_
  have h := h.2
  have hk_346 : kd u_344 a2 = 16 := h.1
  have h := h.2
  refine g_calli hw (g_V X hw (mX19_handOf l G _ _ _ _ _ _ _ _ h) 5 (lw_V q1899 q1900 q1901 q143 q1902) rfl rfl ydX19_handOf ⟨Nat.le_of_ble_eq_true rfl, Nat.le_of_ble_eq_true rfl⟩ (g_recv X hw (ci := 15) (q := (RX19, TX19, 46)) hk_346 rfl) (As := [.int (AI u_344 a0 (tn (x4 + 1))), .int (AI u_344 a0 (tn (x4 + 2))), .int (AI u_344 a0 (tn (x4 + 3))), .int (AI u_344 a0 (tn (x4 + 4))), .int (AI u_344 a0 (tn (x4 + 5)))]) (rest := [.int r_343]) rfl hl.1 rfl (Nat.le_of_ble_eq_true rfl) dL_law_488 ⟨(by show _ ≤ MC; omega), (by show _ ≤ MS; omega)⟩) (fun r_347 u_348 H locs h hw => ?_)
  refine lv_icmp_eq (tgt := 1565) hx hb dL_law_491 rfl (fun c_349 => ?_) (fun c_349 => ?_)
  · have h := h.1 c_349
    refine lv_iinc (v := x4 + 6) (lv' := [(4, .int (x4 + 6)), (0, .ref a0), (1, .ref a1), (2, .ref a2), (3, .ref a3)]) hx hb dL_law_1565 hl (k := 4) rfl rfl (by decide) rfl (fun ls hl => ?_)
    refine lv_goto (tgt := 23) hx hb dL_law_1568 rfl ?_
    exact hJ23 _ _ _ _ _ _ _ _ _ (by omega) (by omega) h hw (lv_sub hl [1, 2, 3, 4, 0] rfl)
  · have h := h.2 c_349
    refine lv_iconst (v := 0) hx hb dL_law_494 (by decide) ?_
    exact g_zret X hw hr rfl h (by omega) (by omega) dL_law_495
set_option maxHeartbeats 4000000 in
theorem wL_law_386 {G : GT} {p : Program} {l : Launch} {e : Env} {s : State} {m : MethodId} {args : Array Value} {below : List Frame} {meth : Method} {c : Code} {H : Heap} {locs : List Loc} {ls : Array Slot} {cells slots : Nat} {MC MS : Nat} {a0 : Nat} {a1 : Nat} {a2 : Nat} {a3 : Nat} {x4 : Int32} {u : Hp} {mc : Nat} {ms : Nat} {K : Int32 → Hp → Prop} {J23 : Int32 → Hp → Nat → Nat → Prop} (X : Mc G p s m args meth c RX0 cL_law 7) (hr : meth.sig.returnType = (some .boolean)) (hnt : l.stackTraces = false) (hJ23 : ∀ (x4 : Int32) (u : Hp) (mc : Nat) (ms : Nat) (H : Heap) (locs : List Loc) (ls : Array Slot) (cells slots : Nat) , cells + mc ≤ MC → slots + ms ≤ MS → J23 x4 u mc ms → GW G u s H locs → lv_has ls 7 [(0, .ref a0), (1, .ref a1), (2, .ref a2), (3, .ref a3), (4, .int x4)] → W p l e (rmL_law MC MS) s m args below meth c H locs cells slots (QI G below K args s MC MS) (F0 m 23 ls [])) (hc1 : cells + mc ≤ MC) (hc2 : slots + ms ≤ MS) (h : bL_law_386 K (Glit G) J23 a0 a1 a2 a3 x4 u mc ms) (hw : GW G u s H locs) (hl : lv_has ls 7 [(0, .ref a0), (1, .ref a1), (2, .ref a2), (3, .ref a3), (4, .int x4)]) : W p l e (rmL_law MC MS) s m args below meth c H locs cells slots (QI G below K args s MC MS) (F0 m 386 ls []) := by
  obtain ⟨hx, hb, hml, hown, hts, -⟩ := id X
  unfold bL_law_386 at h
  refine lv_aload_n hx hb dL_law_386 rfl (lv_at hl 1 rfl) ?_
  refine lv_aload_n hx hb dL_law_387 rfl (lv_at hl 0 rfl) ?_
  refine lv_iload hx hb dL_law_388 (lv_at hl 4 rfl) ?_
  refine lv_iconst (v := 1) hx hb dL_law_390 (by decide) ?_
  refine lv_iadd hx hb dL_law_391 ?_
  have hk_350 : kd u a0 = 203 := h.1
  have h := h.2
  refine g_sald X hw hk_350 h.1 dL_law_392 ?_
  have h := h.2
  refine lv_aload_n hx hb dL_law_393 rfl (lv_at hl 0 rfl) ?_
  refine lv_iload hx hb dL_law_394 (lv_at hl 4 rfl) ?_
  refine lv_iconst (v := 2) hx hb dL_law_396 (by decide) ?_
  refine lv_iadd hx hb dL_law_397 ?_
  refine g_sald X hw hk_350 h.1 dL_law_398 ?_
  have h := h.2
  have hk_351 : kd u a1 = 1 := h.1
  have h := h.2
  refine g_calli hw (g_V X hw (mX1_hand l G _ _ _ _ _ h) 2 (lw_V q1015 q1016 q1017 q122 q1018) rfl rfl ydX1_hand ⟨Nat.le_of_ble_eq_true rfl, Nat.le_of_ble_eq_true rfl⟩ (g_recv X hw (ci := 0) (q := (RX1, TX1, 16)) hk_351 rfl) (As := [.int (AI u a0 (tn (x4 + 1))), .int (AI u a0 (tn (x4 + 2)))]) (rest := []) rfl hl.1 rfl (Nat.le_of_ble_eq_true rfl) dL_law_399 ⟨(by show _ ≤ MC; omega), (by show _ ≤ MS; omega)⟩) (fun r_352 u_353 H locs h hw => ?_)
  refine lv_aload_n hx hb dL_law_402 rfl (lv_at hl 2 rfl) ?_
  refine lv_aload_n hx hb dL_law_403 rfl (lv_at hl 0 rfl) ?_
  refine lv_iload hx hb dL_law_404 (lv_at hl 4 rfl) ?_
  refine lv_iconst (v := 1) hx hb dL_law_406 (by decide) ?_
  refine lv_iadd hx hb dL_law_407 ?_
  have hk_354 : kd u_353 a0 = 203 := h.1
  have h := h.2
  refine g_sald X hw hk_354 h.1 dL_law_408 ?_
  have h := h.2
  refine lv_aload_n hx hb dL_law_409 rfl (lv_at hl 0 rfl) ?_
  refine lv_iload hx hb dL_law_410 (lv_at hl 4 rfl) ?_
  refine lv_iconst (v := 2) hx hb dL_law_412 (by decide) ?_
  refine lv_iadd hx hb dL_law_413 ?_
  refine g_sald X hw hk_354 h.1 dL_law_414 ?_
  have h := h.2
  have hk_355 : kd u_353 a2 = 16 := h.1
  have h := h.2
  refine g_calli hw (g_V X hw (mX19_hand l G _ _ _ _ _ h) 2 (lw_V q1891 q1892 q1893 q143 q1894) rfl rfl ydX19_hand ⟨Nat.le_of_ble_eq_true rfl, Nat.le_of_ble_eq_true rfl⟩ (g_recv X hw (ci := 15) (q := (RX19, TX19, 46)) hk_355 rfl) (As := [.int (AI u_353 a0 (tn (x4 + 1))), .int (AI u_353 a0 (tn (x4 + 2)))]) (rest := [.int r_352]) rfl hl.1 rfl (Nat.le_of_ble_eq_true rfl) dL_law_415 ⟨(by show _ ≤ MC; omega), (by show _ ≤ MS; omega)⟩) (fun r_356 u_357 H locs h hw => ?_)
  refine lv_icmp_eq (tgt := 1565) hx hb dL_law_418 rfl (fun c_358 => ?_) (fun c_358 => ?_)
  · have h := h.1 c_358
    refine lv_iinc (v := x4 + 6) (lv' := [(4, .int (x4 + 6)), (0, .ref a0), (1, .ref a1), (2, .ref a2), (3, .ref a3)]) hx hb dL_law_1565 hl (k := 4) rfl rfl (by decide) rfl (fun ls hl => ?_)
    refine lv_goto (tgt := 23) hx hb dL_law_1568 rfl ?_
    exact hJ23 _ _ _ _ _ _ _ _ _ (by omega) (by omega) h hw (lv_sub hl [1, 2, 3, 4, 0] rfl)
  · have h := h.2 c_358
    refine lv_iconst (v := 0) hx hb dL_law_421 (by decide) ?_
    exact g_zret X hw hr rfl h (by omega) (by omega) dL_law_422
set_option maxHeartbeats 4000000 in
theorem wL_law_373 {G : GT} {p : Program} {l : Launch} {e : Env} {s : State} {m : MethodId} {args : Array Value} {below : List Frame} {meth : Method} {c : Code} {H : Heap} {locs : List Loc} {ls : Array Slot} {cells slots : Nat} {MC MS : Nat} {a0 : Nat} {a1 : Nat} {a2 : Nat} {a3 : Nat} {x4 : Int32} {u : Hp} {mc : Nat} {ms : Nat} {K : Int32 → Hp → Prop} {J23 : Int32 → Hp → Nat → Nat → Prop} (X : Mc G p s m args meth c RX0 cL_law 7) (hr : meth.sig.returnType = (some .boolean)) (hnt : l.stackTraces = false) (hJ23 : ∀ (x4 : Int32) (u : Hp) (mc : Nat) (ms : Nat) (H : Heap) (locs : List Loc) (ls : Array Slot) (cells slots : Nat) , cells + mc ≤ MC → slots + ms ≤ MS → J23 x4 u mc ms → GW G u s H locs → lv_has ls 7 [(0, .ref a0), (1, .ref a1), (2, .ref a2), (3, .ref a3), (4, .int x4)] → W p l e (rmL_law MC MS) s m args below meth c H locs cells slots (QI G below K args s MC MS) (F0 m 23 ls [])) (hc1 : cells + mc ≤ MC) (hc2 : slots + ms ≤ MS) (h : bL_law_373 K (Glit G) J23 a0 a1 a2 a3 x4 u mc ms) (hw : GW G u s H locs) (hl : lv_has ls 7 [(0, .ref a0), (1, .ref a1), (2, .ref a2), (3, .ref a3), (4, .int x4)]) : W p l e (rmL_law MC MS) s m args below meth c H locs cells slots (QI G below K args s MC MS) (F0 m 373 ls []) := by
  obtain ⟨hx, hb, hml, hown, hts, -⟩ := id X
  unfold bL_law_373 at h
  refine lv_aload_n hx hb dL_law_373 rfl (lv_at hl 1 rfl) ?_
  have hk_359 : kd u a1 = 1 := h.1
  have h := h.2
  refine g_calli hw (g_V X hw (mX1_rows l G _ _ _ h) 0 (lw_V q1005 q1006 q1007 q122 q1008) rfl rfl ydX1_rows ⟨Nat.le_of_ble_eq_true rfl, Nat.le_of_ble_eq_true rfl⟩ (g_recv X hw (ci := 0) (q := (RX1, TX1, 16)) hk_359 rfl) (As := []) (rest := []) rfl hl.1 rfl (Nat.le_of_ble_eq_true rfl) dL_law_374 ⟨(by show _ ≤ MC; omega), (by show _ ≤ MS; omega)⟩) (fun r_360 u_361 H locs h hw => ?_)
  refine lv_aload_n hx hb dL_law_377 rfl (lv_at hl 2 rfl) ?_
  have hk_362 : kd u_361 a2 = 16 := h.1
  have h := h.2
  refine g_calli hw (g_V X hw (mX19_rows l G _ _ _ h) 0 (lw_V q1883 q1884 q1885 q143 q1886) rfl rfl ydX19_rows ⟨Nat.le_of_ble_eq_true rfl, Nat.le_of_ble_eq_true rfl⟩ (g_recv X hw (ci := 15) (q := (RX19, TX19, 46)) hk_362 rfl) (As := []) (rest := [.int r_360]) rfl hl.1 rfl (Nat.le_of_ble_eq_true rfl) dL_law_378 ⟨(by show _ ≤ MC; omega), (by show _ ≤ MS; omega)⟩) (fun r_363 u_364 H locs h hw => ?_)
  refine lv_icmp_eq (tgt := 1565) hx hb dL_law_381 rfl (fun c_365 => ?_) (fun c_365 => ?_)
  · have h := h.1 c_365
    refine lv_iinc (v := x4 + 6) (lv' := [(4, .int (x4 + 6)), (0, .ref a0), (1, .ref a1), (2, .ref a2), (3, .ref a3)]) hx hb dL_law_1565 hl (k := 4) rfl rfl (by decide) rfl (fun ls hl => ?_)
    refine lv_goto (tgt := 23) hx hb dL_law_1568 rfl ?_
    exact hJ23 _ _ _ _ _ _ _ _ _ (by omega) (by omega) h hw (lv_sub hl [1, 2, 3, 4, 0] rfl)
  · have h := h.2 c_365
    refine lv_iconst (v := 0) hx hb dL_law_384 (by decide) ?_
    exact g_zret X hw hr rfl h (by omega) (by omega) dL_law_385
set_option maxHeartbeats 4000000 in
theorem wL_law_360 {G : GT} {p : Program} {l : Launch} {e : Env} {s : State} {m : MethodId} {args : Array Value} {below : List Frame} {meth : Method} {c : Code} {H : Heap} {locs : List Loc} {ls : Array Slot} {cells slots : Nat} {MC MS : Nat} {a0 : Nat} {a1 : Nat} {a2 : Nat} {a3 : Nat} {x4 : Int32} {u : Hp} {mc : Nat} {ms : Nat} {K : Int32 → Hp → Prop} {J23 : Int32 → Hp → Nat → Nat → Prop} (X : Mc G p s m args meth c RX0 cL_law 7) (hr : meth.sig.returnType = (some .boolean)) (hnt : l.stackTraces = false) (hJ23 : ∀ (x4 : Int32) (u : Hp) (mc : Nat) (ms : Nat) (H : Heap) (locs : List Loc) (ls : Array Slot) (cells slots : Nat) , cells + mc ≤ MC → slots + ms ≤ MS → J23 x4 u mc ms → GW G u s H locs → lv_has ls 7 [(0, .ref a0), (1, .ref a1), (2, .ref a2), (3, .ref a3), (4, .int x4)] → W p l e (rmL_law MC MS) s m args below meth c H locs cells slots (QI G below K args s MC MS) (F0 m 23 ls [])) (hc1 : cells + mc ≤ MC) (hc2 : slots + ms ≤ MS) (h : bL_law_360 K (Glit G) J23 a0 a1 a2 a3 x4 u mc ms) (hw : GW G u s H locs) (hl : lv_has ls 7 [(0, .ref a0), (1, .ref a1), (2, .ref a2), (3, .ref a3), (4, .int x4)]) : W p l e (rmL_law MC MS) s m args below meth c H locs cells slots (QI G below K args s MC MS) (F0 m 360 ls []) := by
  obtain ⟨hx, hb, hml, hown, hts, -⟩ := id X
  unfold bL_law_360 at h
  refine lv_aload_n hx hb dL_law_360 rfl (lv_at hl 1 rfl) ?_
  have hk_366 : kd u a1 = 1 := h.1
  have h := h.2
  refine g_calli hw (g_V X hw (mX1_hands l G _ _ _ h) 0 (lw_V q1001 q1002 q1003 q122 q1004) rfl rfl ydX1_hands ⟨Nat.le_of_ble_eq_true rfl, Nat.le_of_ble_eq_true rfl⟩ (g_recv X hw (ci := 0) (q := (RX1, TX1, 16)) hk_366 rfl) (As := []) (rest := []) rfl hl.1 rfl (Nat.le_of_ble_eq_true rfl) dL_law_361 ⟨(by show _ ≤ MC; omega), (by show _ ≤ MS; omega)⟩) (fun r_367 u_368 H locs h hw => ?_)
  refine lv_aload_n hx hb dL_law_364 rfl (lv_at hl 2 rfl) ?_
  have hk_369 : kd u_368 a2 = 16 := h.1
  have h := h.2
  refine g_calli hw (g_V X hw (mX19_hands l G _ _ _ h) 0 (lw_V q1879 q1880 q1881 q143 q1882) rfl rfl ydX19_hands ⟨Nat.le_of_ble_eq_true rfl, Nat.le_of_ble_eq_true rfl⟩ (g_recv X hw (ci := 15) (q := (RX19, TX19, 46)) hk_369 rfl) (As := []) (rest := [.int r_367]) rfl hl.1 rfl (Nat.le_of_ble_eq_true rfl) dL_law_365 ⟨(by show _ ≤ MC; omega), (by show _ ≤ MS; omega)⟩) (fun r_370 u_371 H locs h hw => ?_)
  refine lv_icmp_eq (tgt := 1565) hx hb dL_law_368 rfl (fun c_372 => ?_) (fun c_372 => ?_)
  · have h := h.1 c_372
    refine lv_iinc (v := x4 + 6) (lv' := [(4, .int (x4 + 6)), (0, .ref a0), (1, .ref a1), (2, .ref a2), (3, .ref a3)]) hx hb dL_law_1565 hl (k := 4) rfl rfl (by decide) rfl (fun ls hl => ?_)
    refine lv_goto (tgt := 23) hx hb dL_law_1568 rfl ?_
    exact hJ23 _ _ _ _ _ _ _ _ _ (by omega) (by omega) h hw (lv_sub hl [1, 2, 3, 4, 0] rfl)
  · have h := h.2 c_372
    refine lv_iconst (v := 0) hx hb dL_law_371 (by decide) ?_
    exact g_zret X hw hr rfl h (by omega) (by omega) dL_law_372
set_option maxHeartbeats 4000000 in
theorem wL_law_347 {G : GT} {p : Program} {l : Launch} {e : Env} {s : State} {m : MethodId} {args : Array Value} {below : List Frame} {meth : Method} {c : Code} {H : Heap} {locs : List Loc} {ls : Array Slot} {cells slots : Nat} {MC MS : Nat} {a0 : Nat} {a1 : Nat} {a2 : Nat} {a3 : Nat} {x4 : Int32} {u : Hp} {mc : Nat} {ms : Nat} {K : Int32 → Hp → Prop} {J23 : Int32 → Hp → Nat → Nat → Prop} (X : Mc G p s m args meth c RX0 cL_law 7) (hr : meth.sig.returnType = (some .boolean)) (hnt : l.stackTraces = false) (hJ23 : ∀ (x4 : Int32) (u : Hp) (mc : Nat) (ms : Nat) (H : Heap) (locs : List Loc) (ls : Array Slot) (cells slots : Nat) , cells + mc ≤ MC → slots + ms ≤ MS → J23 x4 u mc ms → GW G u s H locs → lv_has ls 7 [(0, .ref a0), (1, .ref a1), (2, .ref a2), (3, .ref a3), (4, .int x4)] → W p l e (rmL_law MC MS) s m args below meth c H locs cells slots (QI G below K args s MC MS) (F0 m 23 ls [])) (hc1 : cells + mc ≤ MC) (hc2 : slots + ms ≤ MS) (h : bL_law_347 K (Glit G) J23 a0 a1 a2 a3 x4 u mc ms) (hw : GW G u s H locs) (hl : lv_has ls 7 [(0, .ref a0), (1, .ref a1), (2, .ref a2), (3, .ref a3), (4, .int x4)]) : W p l e (rmL_law MC MS) s m args below meth c H locs cells slots (QI G below K args s MC MS) (F0 m 347 ls []) := by
  obtain ⟨hx, hb, hml, hown, hts, -⟩ := id X
  unfold bL_law_347 at h
  refine lv_aload_n hx hb dL_law_347 rfl (lv_at hl 1 rfl) ?_
  have hk_373 : kd u a1 = 1 := h.1
  have h := h.2
  refine g_callio hw (g_V X hw (mX1_where l G _ _ _ h) 0 (lw_V q997 q998 q999 q122 q1000) rfl rfl ydX1_where ⟨Nat.le_of_ble_eq_true rfl, Nat.le_of_ble_eq_true rfl⟩ (g_recv X hw (ci := 0) (q := (RX1, TX1, 16)) hk_373 rfl) (As := []) (rest := []) rfl hl.1 rfl (Nat.le_of_ble_eq_true rfl) dL_law_348 ⟨(by show _ ≤ MC; omega), (by show _ ≤ MS; omega)⟩) (fun r_374 H locs h hw => ?_)
  refine lv_aload_n hx hb dL_law_351 rfl (lv_at hl 2 rfl) ?_
  have hk_375 : kd u a2 = 16 := h.1
  have h := h.2
  refine g_calli hw (g_V X hw (mX19_where l G _ _ _ h) 0 (lw_V q1875 q1876 q1877 q143 q1878) rfl rfl ydX19_where ⟨Nat.le_of_ble_eq_true rfl, Nat.le_of_ble_eq_true rfl⟩ (g_recv X hw (ci := 15) (q := (RX19, TX19, 46)) hk_375 rfl) (As := []) (rest := [.int r_374]) rfl hl.1 rfl (Nat.le_of_ble_eq_true rfl) dL_law_352 ⟨(by show _ ≤ MC; omega), (by show _ ≤ MS; omega)⟩) (fun r_376 u_377 H locs h hw => ?_)
  refine lv_icmp_eq (tgt := 1565) hx hb dL_law_355 rfl (fun c_378 => ?_) (fun c_378 => ?_)
  · have h := h.1 c_378
    refine lv_iinc (v := x4 + 6) (lv' := [(4, .int (x4 + 6)), (0, .ref a0), (1, .ref a1), (2, .ref a2), (3, .ref a3)]) hx hb dL_law_1565 hl (k := 4) rfl rfl (by decide) rfl (fun ls hl => ?_)
    refine lv_goto (tgt := 23) hx hb dL_law_1568 rfl ?_
    exact hJ23 _ _ _ _ _ _ _ _ _ (by omega) (by omega) h hw (lv_sub hl [1, 2, 3, 4, 0] rfl)
  · have h := h.2 c_378
    refine lv_iconst (v := 0) hx hb dL_law_358 (by decide) ?_
    exact g_zret X hw hr rfl h (by omega) (by omega) dL_law_359
set_option maxHeartbeats 4000000 in
theorem wL_law_334 {G : GT} {p : Program} {l : Launch} {e : Env} {s : State} {m : MethodId} {args : Array Value} {below : List Frame} {meth : Method} {c : Code} {H : Heap} {locs : List Loc} {ls : Array Slot} {cells slots : Nat} {MC MS : Nat} {a0 : Nat} {a1 : Nat} {a2 : Nat} {a3 : Nat} {x4 : Int32} {u : Hp} {mc : Nat} {ms : Nat} {K : Int32 → Hp → Prop} {J23 : Int32 → Hp → Nat → Nat → Prop} (X : Mc G p s m args meth c RX0 cL_law 7) (hr : meth.sig.returnType = (some .boolean)) (hnt : l.stackTraces = false) (hJ23 : ∀ (x4 : Int32) (u : Hp) (mc : Nat) (ms : Nat) (H : Heap) (locs : List Loc) (ls : Array Slot) (cells slots : Nat) , cells + mc ≤ MC → slots + ms ≤ MS → J23 x4 u mc ms → GW G u s H locs → lv_has ls 7 [(0, .ref a0), (1, .ref a1), (2, .ref a2), (3, .ref a3), (4, .int x4)] → W p l e (rmL_law MC MS) s m args below meth c H locs cells slots (QI G below K args s MC MS) (F0 m 23 ls [])) (hc1 : cells + mc ≤ MC) (hc2 : slots + ms ≤ MS) (h : bL_law_334 K (Glit G) J23 a0 a1 a2 a3 x4 u mc ms) (hw : GW G u s H locs) (hl : lv_has ls 7 [(0, .ref a0), (1, .ref a1), (2, .ref a2), (3, .ref a3), (4, .int x4)]) : W p l e (rmL_law MC MS) s m args below meth c H locs cells slots (QI G below K args s MC MS) (F0 m 334 ls []) := by
  obtain ⟨hx, hb, hml, hown, hts, -⟩ := id X
  unfold bL_law_334 at h
  refine lv_aload_n hx hb dL_law_334 rfl (lv_at hl 1 rfl) ?_
  have hk_379 : kd u a1 = 1 := h.1
  have h := h.2
  refine g_callio hw (g_V X hw (mX1_fault l G _ _ _ h) 0 (lw_V q993 q994 q995 q122 q996) rfl rfl ydX1_fault ⟨Nat.le_of_ble_eq_true rfl, Nat.le_of_ble_eq_true rfl⟩ (g_recv X hw (ci := 0) (q := (RX1, TX1, 16)) hk_379 rfl) (As := []) (rest := []) rfl hl.1 rfl (Nat.le_of_ble_eq_true rfl) dL_law_335 ⟨(by show _ ≤ MC; omega), (by show _ ≤ MS; omega)⟩) (fun r_380 H locs h hw => ?_)
  refine lv_aload_n hx hb dL_law_338 rfl (lv_at hl 2 rfl) ?_
  have hk_381 : kd u a2 = 16 := h.1
  have h := h.2
  refine g_calli hw (g_V X hw (mX19_fault l G _ _ _ h) 0 (lw_V q1871 q1872 q1873 q143 q1874) rfl rfl ydX19_fault ⟨Nat.le_of_ble_eq_true rfl, Nat.le_of_ble_eq_true rfl⟩ (g_recv X hw (ci := 15) (q := (RX19, TX19, 46)) hk_381 rfl) (As := []) (rest := [.int r_380]) rfl hl.1 rfl (Nat.le_of_ble_eq_true rfl) dL_law_339 ⟨(by show _ ≤ MC; omega), (by show _ ≤ MS; omega)⟩) (fun r_382 u_383 H locs h hw => ?_)
  refine lv_icmp_eq (tgt := 1565) hx hb dL_law_342 rfl (fun c_384 => ?_) (fun c_384 => ?_)
  · have h := h.1 c_384
    refine lv_iinc (v := x4 + 6) (lv' := [(4, .int (x4 + 6)), (0, .ref a0), (1, .ref a1), (2, .ref a2), (3, .ref a3)]) hx hb dL_law_1565 hl (k := 4) rfl rfl (by decide) rfl (fun ls hl => ?_)
    refine lv_goto (tgt := 23) hx hb dL_law_1568 rfl ?_
    exact hJ23 _ _ _ _ _ _ _ _ _ (by omega) (by omega) h hw (lv_sub hl [1, 2, 3, 4, 0] rfl)
  · have h := h.2 c_384
    refine lv_iconst (v := 0) hx hb dL_law_345 (by decide) ?_
    exact g_zret X hw hr rfl h (by omega) (by omega) dL_law_346
set_option maxHeartbeats 4000000 in
theorem wL_law_309 {G : GT} {p : Program} {l : Launch} {e : Env} {s : State} {m : MethodId} {args : Array Value} {below : List Frame} {meth : Method} {c : Code} {H : Heap} {locs : List Loc} {ls : Array Slot} {cells slots : Nat} {MC MS : Nat} {a0 : Nat} {a1 : Nat} {a2 : Nat} {a3 : Nat} {x4 : Int32} {u : Hp} {mc : Nat} {ms : Nat} {K : Int32 → Hp → Prop} {J23 : Int32 → Hp → Nat → Nat → Prop} (X : Mc G p s m args meth c RX0 cL_law 7) (hr : meth.sig.returnType = (some .boolean)) (hnt : l.stackTraces = false) (hJ23 : ∀ (x4 : Int32) (u : Hp) (mc : Nat) (ms : Nat) (H : Heap) (locs : List Loc) (ls : Array Slot) (cells slots : Nat) , cells + mc ≤ MC → slots + ms ≤ MS → J23 x4 u mc ms → GW G u s H locs → lv_has ls 7 [(0, .ref a0), (1, .ref a1), (2, .ref a2), (3, .ref a3), (4, .int x4)] → W p l e (rmL_law MC MS) s m args below meth c H locs cells slots (QI G below K args s MC MS) (F0 m 23 ls [])) (hc1 : cells + mc ≤ MC) (hc2 : slots + ms ≤ MS) (h : bL_law_309 K (Glit G) J23 a0 a1 a2 a3 x4 u mc ms) (hw : GW G u s H locs) (hl : lv_has ls 7 [(0, .ref a0), (1, .ref a1), (2, .ref a2), (3, .ref a3), (4, .int x4)]) : W p l e (rmL_law MC MS) s m args below meth c H locs cells slots (QI G below K args s MC MS) (F0 m 309 ls []) := by
  obtain ⟨hx, hb, hml, hown, hts, -⟩ := id X
  unfold bL_law_309 at h
  refine lv_aload_n hx hb dL_law_309 rfl (lv_at hl 1 rfl) ?_
  refine lv_aload_n hx hb dL_law_310 rfl (lv_at hl 0 rfl) ?_
  refine lv_iload hx hb dL_law_311 (lv_at hl 4 rfl) ?_
  refine lv_iconst (v := 1) hx hb dL_law_313 (by decide) ?_
  refine lv_iadd hx hb dL_law_314 ?_
  have hk_385 : kd u a0 = 203 := h.1
  have h := h.2
  refine g_sald X hw hk_385 h.1 dL_law_315 ?_
  have h := h.2
  have hk_390 : kd u a1 = 1 := h.1
  have h := h.2
  obtain ⟨q_386, q_387, hq_388, hq_389, h⟩ := h
  refine g_calli hw (g_VW X hw (mX1_trick l G _ _ _ _ _ _ h) 1 (lw_VW q530 q531 q532 q122 q533) rfl rfl ydX1_trick ⟨Nat.le_of_ble_eq_true rfl, Nat.le_of_ble_eq_true rfl⟩ (g_recv X hw (ci := 0) (q := (RX1, TX1, 16)) hk_390 rfl) (As := [.int (AI u a0 (tn (x4 + 1)))]) (rest := []) rfl hl.1 rfl (Nat.le_of_ble_eq_true rfl) dL_law_316 ⟨(by show _ ≤ MC; omega), (by show _ ≤ MS; omega)⟩) (fun r_391 u_392 H locs h hw => ?_)
  refine lv_aload_n hx hb dL_law_319 rfl (lv_at hl 2 rfl) ?_
  refine lv_aload_n hx hb dL_law_320 rfl (lv_at hl 0 rfl) ?_
  refine lv_iload hx hb dL_law_321 (lv_at hl 4 rfl) ?_
  refine lv_iconst (v := 1) hx hb dL_law_323 (by decide) ?_
  refine lv_iadd hx hb dL_law_324 ?_
  have hk_393 : kd u_392 a0 = 203 := h.1
  have h := h.2
  refine g_sald X hw hk_393 h.1 dL_law_325 ?_
  have h := h.2
  have hk_398 : kd u_392 a2 = 16 := h.1
  have h := h.2
  obtain ⟨q_394, q_395, hq_396, hq_397, h⟩ := h
  refine g_calli hw (g_V X hw (mX19_trick l G _ _ _ _ _ _ h) 1 (lw_V q1599 q1600 q1601 q143 q1602) rfl rfl ydX19_trick ⟨Nat.le_of_ble_eq_true rfl, Nat.le_of_ble_eq_true rfl⟩ (g_recv X hw (ci := 15) (q := (RX19, TX19, 46)) hk_398 rfl) (As := [.int (AI u_392 a0 (tn (x4 + 1)))]) (rest := [.int r_391]) rfl hl.1 rfl (Nat.le_of_ble_eq_true rfl) dL_law_326 ⟨(by show _ ≤ MC; omega), (by show _ ≤ MS; omega)⟩) (fun r_399 u_400 H locs h hw => ?_)
  refine lv_icmp_eq (tgt := 1565) hx hb dL_law_329 rfl (fun c_401 => ?_) (fun c_401 => ?_)
  · have h := h.1 c_401
    refine lv_iinc (v := x4 + 6) (lv' := [(4, .int (x4 + 6)), (0, .ref a0), (1, .ref a1), (2, .ref a2), (3, .ref a3)]) hx hb dL_law_1565 hl (k := 4) rfl rfl (by decide) rfl (fun ls hl => ?_)
    refine lv_goto (tgt := 23) hx hb dL_law_1568 rfl ?_
    exact hJ23 _ _ _ _ _ _ _ _ _ (by omega) (by omega) h hw (lv_sub hl [1, 2, 3, 4, 0] rfl)
  · have h := h.2 c_401
    refine lv_iconst (v := 0) hx hb dL_law_332 (by decide) ?_
    exact g_zret X hw hr rfl h (by omega) (by omega) dL_law_333
set_option maxHeartbeats 4000000 in
theorem wL_law_236 {G : GT} {p : Program} {l : Launch} {e : Env} {s : State} {m : MethodId} {args : Array Value} {below : List Frame} {meth : Method} {c : Code} {H : Heap} {locs : List Loc} {ls : Array Slot} {cells slots : Nat} {MC MS : Nat} {a0 : Nat} {a1 : Nat} {a2 : Nat} {a3 : Nat} {x4 : Int32} {u : Hp} {mc : Nat} {ms : Nat} {K : Int32 → Hp → Prop} {J23 : Int32 → Hp → Nat → Nat → Prop} (X : Mc G p s m args meth c RX0 cL_law 7) (hr : meth.sig.returnType = (some .boolean)) (hnt : l.stackTraces = false) (hJ23 : ∀ (x4 : Int32) (u : Hp) (mc : Nat) (ms : Nat) (H : Heap) (locs : List Loc) (ls : Array Slot) (cells slots : Nat) , cells + mc ≤ MC → slots + ms ≤ MS → J23 x4 u mc ms → GW G u s H locs → lv_has ls 7 [(0, .ref a0), (1, .ref a1), (2, .ref a2), (3, .ref a3), (4, .int x4)] → W p l e (rmL_law MC MS) s m args below meth c H locs cells slots (QI G below K args s MC MS) (F0 m 23 ls [])) (hc1 : cells + mc ≤ MC) (hc2 : slots + ms ≤ MS) (h : bL_law_236 K (Glit G) J23 a0 a1 a2 a3 x4 u mc ms) (hw : GW G u s H locs) (hl : lv_has ls 7 [(0, .ref a0), (1, .ref a1), (2, .ref a2), (3, .ref a3), (4, .int x4)]) : W p l e (rmL_law MC MS) s m args below meth c H locs cells slots (QI G below K args s MC MS) (F0 m 236 ls []) := by
  obtain ⟨hx, hb, hml, hown, hts, -⟩ := id X
  unfold bL_law_236 at h
  refine lv_aload_n hx hb dL_law_236 rfl (lv_at hl 1 rfl) ?_
  refine lv_aload_n hx hb dL_law_237 rfl (lv_at hl 0 rfl) ?_
  refine lv_iload hx hb dL_law_238 (lv_at hl 4 rfl) ?_
  refine lv_iconst (v := 1) hx hb dL_law_240 (by decide) ?_
  refine lv_iadd hx hb dL_law_241 ?_
  have hk_402 : kd u a0 = 203 := h.1
  have h := h.2
  refine g_sald X hw hk_402 h.1 dL_law_242 ?_
  have h := h.2
  refine lv_aload_n hx hb dL_law_243 rfl (lv_at hl 0 rfl) ?_
  refine lv_iload hx hb dL_law_244 (lv_at hl 4 rfl) ?_
  refine lv_iconst (v := 2) hx hb dL_law_246 (by decide) ?_
  refine lv_iadd hx hb dL_law_247 ?_
  refine g_sald X hw hk_402 h.1 dL_law_248 ?_
  have h := h.2
  refine lv_aload_n hx hb dL_law_249 rfl (lv_at hl 0 rfl) ?_
  refine lv_iload hx hb dL_law_250 (lv_at hl 4 rfl) ?_
  refine lv_iconst (v := 3) hx hb dL_law_252 (by decide) ?_
  refine lv_iadd hx hb dL_law_253 ?_
  refine g_sald X hw hk_402 h.1 dL_law_254 ?_
  have h := h.2
  refine lv_aload_n hx hb dL_law_255 rfl (lv_at hl 0 rfl) ?_
  refine lv_iload hx hb dL_law_256 (lv_at hl 4 rfl) ?_
  refine lv_iconst (v := 4) hx hb dL_law_258 (by decide) ?_
  refine lv_iadd hx hb dL_law_259 ?_
  refine g_sald X hw hk_402 h.1 dL_law_260 ?_
  have h := h.2
  refine lv_aload_n hx hb dL_law_261 rfl (lv_at hl 0 rfl) ?_
  refine lv_iload hx hb dL_law_262 (lv_at hl 4 rfl) ?_
  refine lv_iconst (v := 5) hx hb dL_law_264 (by decide) ?_
  refine lv_iadd hx hb dL_law_265 ?_
  refine g_sald X hw hk_402 h.1 dL_law_266 ?_
  have h := h.2
  have hk_403 : kd u a1 = 1 := h.1
  have h := h.2
  refine g_calli hw (g_V X hw (mX1_feed l G _ _ _ _ _ _ _ _ h) 5 (lw_V q522 q523 q524 q122 q525) rfl rfl ydX1_feed ⟨Nat.le_of_ble_eq_true rfl, Nat.le_of_ble_eq_true rfl⟩ (g_recv X hw (ci := 0) (q := (RX1, TX1, 16)) hk_403 rfl) (As := [.int (AI u a0 (tn (x4 + 1))), .int (AI u a0 (tn (x4 + 2))), .int (AI u a0 (tn (x4 + 3))), .int (AI u a0 (tn (x4 + 4))), .int (AI u a0 (tn (x4 + 5)))]) (rest := []) rfl hl.1 rfl (Nat.le_of_ble_eq_true rfl) dL_law_267 ⟨(by show _ ≤ MC; omega), (by show _ ≤ MS; omega)⟩) (fun r_404 u_405 H locs h hw => ?_)
  refine lv_aload_n hx hb dL_law_270 rfl (lv_at hl 2 rfl) ?_
  refine lv_aload_n hx hb dL_law_271 rfl (lv_at hl 0 rfl) ?_
  refine lv_iload hx hb dL_law_272 (lv_at hl 4 rfl) ?_
  refine lv_iconst (v := 1) hx hb dL_law_274 (by decide) ?_
  refine lv_iadd hx hb dL_law_275 ?_
  have hk_406 : kd u_405 a0 = 203 := h.1
  have h := h.2
  refine g_sald X hw hk_406 h.1 dL_law_276 ?_
  have h := h.2
  refine lv_aload_n hx hb dL_law_277 rfl (lv_at hl 0 rfl) ?_
  refine lv_iload hx hb dL_law_278 (lv_at hl 4 rfl) ?_
  refine lv_iconst (v := 2) hx hb dL_law_280 (by decide) ?_
  refine lv_iadd hx hb dL_law_281 ?_
  refine g_sald X hw hk_406 h.1 dL_law_282 ?_
  have h := h.2
  refine lv_aload_n hx hb dL_law_283 rfl (lv_at hl 0 rfl) ?_
  refine lv_iload hx hb dL_law_284 (lv_at hl 4 rfl) ?_
  refine lv_iconst (v := 3) hx hb dL_law_286 (by decide) ?_
  refine lv_iadd hx hb dL_law_287 ?_
  refine g_sald X hw hk_406 h.1 dL_law_288 ?_
  have h := h.2
  refine lv_aload_n hx hb dL_law_289 rfl (lv_at hl 0 rfl) ?_
  refine lv_iload hx hb dL_law_290 (lv_at hl 4 rfl) ?_
  refine lv_iconst (v := 4) hx hb dL_law_292 (by decide) ?_
  refine lv_iadd hx hb dL_law_293 ?_
  refine g_sald X hw hk_406 h.1 dL_law_294 ?_
  have h := h.2
  refine lv_aload_n hx hb dL_law_295 rfl (lv_at hl 0 rfl) ?_
  refine lv_iload hx hb dL_law_296 (lv_at hl 4 rfl) ?_
  refine lv_iconst (v := 5) hx hb dL_law_298 (by decide) ?_
  refine lv_iadd hx hb dL_law_299 ?_
  refine g_sald X hw hk_406 h.1 dL_law_300 ?_
  have h := h.2
  have hk_407 : kd u_405 a2 = 16 := h.1
  have h := h.2
  refine g_calli hw (g_V X hw (mX19_feed l G _ _ _ _ _ _ _ _ h) 5 (lw_V q1595 q1596 q1597 q143 q1598) rfl rfl ydX19_feed ⟨Nat.le_of_ble_eq_true rfl, Nat.le_of_ble_eq_true rfl⟩ (g_recv X hw (ci := 15) (q := (RX19, TX19, 46)) hk_407 rfl) (As := [.int (AI u_405 a0 (tn (x4 + 1))), .int (AI u_405 a0 (tn (x4 + 2))), .int (AI u_405 a0 (tn (x4 + 3))), .int (AI u_405 a0 (tn (x4 + 4))), .int (AI u_405 a0 (tn (x4 + 5)))]) (rest := [.int r_404]) rfl hl.1 rfl (Nat.le_of_ble_eq_true rfl) dL_law_301 ⟨(by show _ ≤ MC; omega), (by show _ ≤ MS; omega)⟩) (fun r_408 u_409 H locs h hw => ?_)
  refine lv_icmp_eq (tgt := 1565) hx hb dL_law_304 rfl (fun c_410 => ?_) (fun c_410 => ?_)
  · have h := h.1 c_410
    refine lv_iinc (v := x4 + 6) (lv' := [(4, .int (x4 + 6)), (0, .ref a0), (1, .ref a1), (2, .ref a2), (3, .ref a3)]) hx hb dL_law_1565 hl (k := 4) rfl rfl (by decide) rfl (fun ls hl => ?_)
    refine lv_goto (tgt := 23) hx hb dL_law_1568 rfl ?_
    exact hJ23 _ _ _ _ _ _ _ _ _ (by omega) (by omega) h hw (lv_sub hl [1, 2, 3, 4, 0] rfl)
  · have h := h.2 c_410
    refine lv_iconst (v := 0) hx hb dL_law_307 (by decide) ?_
    exact g_zret X hw hr rfl h (by omega) (by omega) dL_law_308
set_option maxHeartbeats 4000000 in
theorem wL_law_23 {G : GT} {p : Program} {l : Launch} {e : Env} {s : State} {m : MethodId} {args : Array Value} {below : List Frame} {meth : Method} {c : Code} {H : Heap} {locs : List Loc} {ls : Array Slot} {cells slots : Nat} {MC MS : Nat} {a0 : Nat} {a1 : Nat} {a2 : Nat} {a3 : Nat} {x4 : Int32} {u : Hp} {mc : Nat} {ms : Nat} {K : Int32 → Hp → Prop} (X : Mc G p s m args meth c RX0 cL_law 7) (hr : meth.sig.returnType = (some .boolean)) (hnt : l.stackTraces = false) (hc1 : cells + mc ≤ MC) (hc2 : slots + ms ≤ MS) (h : jl4 (bL_law_23 K (Glit G) a0 a1 a2 a3) x4 u mc ms) (hw : GW G u s H locs) (hl : lv_has ls 7 [(0, .ref a0), (1, .ref a1), (2, .ref a2), (3, .ref a3), (4, .int x4)]) : W p l e (rmL_law MC MS) s m args below meth c H locs cells slots (QI G below K args s MC MS) (F0 m 23 ls []) := by
  obtain ⟨hx, hb, hml, hown, hts, -⟩ := id X
  obtain ⟨I, μ, h0, hs⟩ := h
  have key : ∀ (n : Nat) (x4 : Int32) (u : Hp) (mc : Nat) (ms : Nat) (H : Heap) (locs : List Loc) (ls : Array Slot) (cells slots : Nat) , cells + mc ≤ MC → slots + ms ≤ MS → μ x4 u mc ms < n → I x4 u mc ms → GW G u s H locs → lv_has ls 7 [(0, .ref a0), (1, .ref a1), (2, .ref a2), (3, .ref a3), (4, .int x4)] → W p l e (rmL_law MC MS) s m args below meth c H locs cells slots (QI G below K args s MC MS) (F0 m 23 ls []) := by
    intro n
    induction n with
    | zero =>
      intro x4 u mc ms H locs ls cells slots hc1 hc2 hn
      exact absurd hn (Nat.not_lt_zero _)
    | succ n ih =>
      intro x4 u mc ms H locs ls cells slots hc1 hc2 hn hI hw hl
      have h := hs x4 u mc ms hI
      unfold bL_law_23 at h
      have hJ23 : ∀ (x4' : Int32) (u' : Hp) (mc' : Nat) (ms' : Nat) (H : Heap) (locs : List Loc) (ls : Array Slot) (cells slots : Nat) , cells + mc' ≤ MC → slots + ms' ≤ MS → (I x4' u' mc' ms' ∧ μ x4' u' mc' ms' < μ x4 u mc ms) → GW G u' s H locs → lv_has ls 7 [(0, .ref a0), (1, .ref a1), (2, .ref a2), (3, .ref a3), (4, .int x4')] → W p l e (rmL_law MC MS) s m args below meth c H locs cells slots (QI G below K args s MC MS) (F0 m 23 ls []) := fun x4' u' mc' ms' H locs ls cells slots g1 g2 h hw hl => ih x4' u' mc' ms' H locs ls cells slots g1 g2 (Nat.lt_of_lt_of_le h.2 (Nat.le_of_lt_succ hn)) h.1 hw hl
      refine lv_iload hx hb dL_law_23 (lv_at hl 4 rfl) ?_
      refine lv_aload_n hx hb dL_law_25 rfl (lv_at hl 0 rfl) ?_
      have hk_411 : kd u a0 = 203 := h.1
      have h := h.2
      refine g_slen X hw hk_411 dL_law_26 ?_
      refine lv_bipush (v := 6) hx hb dL_law_27 (by decide) ?_
      refine lv_isub hx hb dL_law_29 ?_
      refine lv_icmp_gt (tgt := 1571) hx hb dL_law_30 rfl (fun c_457 => ?_) (fun c_457 => ?_)
      · have h := h.1 c_457
        refine lv_iconst (v := 1) hx hb dL_law_1571 (by decide) ?_
        exact g_zret X hw hr rfl h (by omega) (by omega) dL_law_1572
      · have h := h.2 c_457
        refine lv_aload_n hx hb dL_law_33 rfl (lv_at hl 0 rfl) ?_
        refine lv_iload hx hb dL_law_34 (lv_at hl 4 rfl) ?_
        refine g_sald X hw hk_411 h.1 dL_law_36 ?_
        have h := h.2
        refine lv_bipush (v := 63) hx hb dL_law_37 (by decide) ?_
        refine lv_iand hx hb dL_law_39 ?_
        by_cases c_412 : (AI u a0 (tn x4)) &&& 63 = 0
        · refine lv_tableIn (tgt := 236) (off := 196) hx hb dL_law_40 (g_lt1 c_412 (by decide)) (g_lt2 c_412 (by decide)) (g_lt3 c_412 (by decide +kernel)) rfl ?_
          have h := h.1 c_412
          exact wL_law_236 X hr hnt hJ23 (by omega) (by omega) h hw (lv_sub hl [0, 1, 2, 3, 4] rfl)
        have h := h.2
        by_cases c_413 : (AI u a0 (tn x4)) &&& 63 = 1
        · refine lv_tableIn (tgt := 309) (off := 269) hx hb dL_law_40 (g_lt1 c_413 (by decide)) (g_lt2 c_413 (by decide)) (g_lt3 c_413 (by decide +kernel)) rfl ?_
          have h := h.1 c_413
          exact wL_law_309 X hr hnt hJ23 (by omega) (by omega) h hw (lv_sub hl [0, 1, 2, 3, 4] rfl)
        have h := h.2
        by_cases c_414 : (AI u a0 (tn x4)) &&& 63 = 2
        · refine lv_tableIn (tgt := 334) (off := 294) hx hb dL_law_40 (g_lt1 c_414 (by decide)) (g_lt2 c_414 (by decide)) (g_lt3 c_414 (by decide +kernel)) rfl ?_
          have h := h.1 c_414
          exact wL_law_334 X hr hnt hJ23 (by omega) (by omega) h hw (lv_sub hl [0, 1, 2, 3, 4] rfl)
        have h := h.2
        by_cases c_415 : (AI u a0 (tn x4)) &&& 63 = 3
        · refine lv_tableIn (tgt := 347) (off := 307) hx hb dL_law_40 (g_lt1 c_415 (by decide)) (g_lt2 c_415 (by decide)) (g_lt3 c_415 (by decide +kernel)) rfl ?_
          have h := h.1 c_415
          exact wL_law_347 X hr hnt hJ23 (by omega) (by omega) h hw (lv_sub hl [0, 1, 2, 3, 4] rfl)
        have h := h.2
        by_cases c_416 : (AI u a0 (tn x4)) &&& 63 = 4
        · refine lv_tableIn (tgt := 360) (off := 320) hx hb dL_law_40 (g_lt1 c_416 (by decide)) (g_lt2 c_416 (by decide)) (g_lt3 c_416 (by decide +kernel)) rfl ?_
          have h := h.1 c_416
          exact wL_law_360 X hr hnt hJ23 (by omega) (by omega) h hw (lv_sub hl [0, 1, 2, 3, 4] rfl)
        have h := h.2
        by_cases c_417 : (AI u a0 (tn x4)) &&& 63 = 5
        · refine lv_tableIn (tgt := 373) (off := 333) hx hb dL_law_40 (g_lt1 c_417 (by decide)) (g_lt2 c_417 (by decide)) (g_lt3 c_417 (by decide +kernel)) rfl ?_
          have h := h.1 c_417
          exact wL_law_373 X hr hnt hJ23 (by omega) (by omega) h hw (lv_sub hl [0, 1, 2, 3, 4] rfl)
        have h := h.2
        by_cases c_418 : (AI u a0 (tn x4)) &&& 63 = 6
        · refine lv_tableIn (tgt := 386) (off := 346) hx hb dL_law_40 (g_lt1 c_418 (by decide)) (g_lt2 c_418 (by decide)) (g_lt3 c_418 (by decide +kernel)) rfl ?_
          have h := h.1 c_418
          exact wL_law_386 X hr hnt hJ23 (by omega) (by omega) h hw (lv_sub hl [0, 1, 2, 3, 4] rfl)
        have h := h.2
        by_cases c_419 : (AI u a0 (tn x4)) &&& 63 = 7
        · refine lv_tableIn (tgt := 423) (off := 383) hx hb dL_law_40 (g_lt1 c_419 (by decide)) (g_lt2 c_419 (by decide)) (g_lt3 c_419 (by decide +kernel)) rfl ?_
          have h := h.1 c_419
          exact wL_law_423 X hr hnt hJ23 (by omega) (by omega) h hw (lv_sub hl [0, 1, 2, 3, 4] rfl)
        have h := h.2
        by_cases c_420 : (AI u a0 (tn x4)) &&& 63 = 8
        · refine lv_tableIn (tgt := 496) (off := 456) hx hb dL_law_40 (g_lt1 c_420 (by decide)) (g_lt2 c_420 (by decide)) (g_lt3 c_420 (by decide +kernel)) rfl ?_
          have h := h.1 c_420
          exact wL_law_496 X hr hnt hJ23 (by omega) (by omega) h hw (lv_sub hl [0, 1, 2, 3, 4] rfl)
        have h := h.2
        by_cases c_421 : (AI u a0 (tn x4)) &&& 63 = 9
        · refine lv_tableIn (tgt := 533) (off := 493) hx hb dL_law_40 (g_lt1 c_421 (by decide)) (g_lt2 c_421 (by decide)) (g_lt3 c_421 (by decide +kernel)) rfl ?_
          have h := h.1 c_421
          exact wL_law_533 X hr hnt hJ23 (by omega) (by omega) h hw (lv_sub hl [0, 1, 2, 3, 4] rfl)
        have h := h.2
        by_cases c_422 : (AI u a0 (tn x4)) &&& 63 = 10
        · refine lv_tableIn (tgt := 558) (off := 518) hx hb dL_law_40 (g_lt1 c_422 (by decide)) (g_lt2 c_422 (by decide)) (g_lt3 c_422 (by decide +kernel)) rfl ?_
          have h := h.1 c_422
          exact wL_law_558 X hr hnt hJ23 (by omega) (by omega) h hw (lv_sub hl [0, 1, 2, 3, 4] rfl)
        have h := h.2
        by_cases c_423 : (AI u a0 (tn x4)) &&& 63 = 11
        · refine lv_tableIn (tgt := 595) (off := 555) hx hb dL_law_40 (g_lt1 c_423 (by decide)) (g_lt2 c_423 (by decide)) (g_lt3 c_423 (by decide +kernel)) rfl ?_
          have h := h.1 c_423
          exact wL_law_595 X hr hnt hJ23 (by omega) (by omega) h hw (lv_sub hl [0, 1, 2, 3, 4] rfl)
        have h := h.2
        by_cases c_424 : (AI u a0 (tn x4)) &&& 63 = 12
        · refine lv_tableIn (tgt := 608) (off := 568) hx hb dL_law_40 (g_lt1 c_424 (by decide)) (g_lt2 c_424 (by decide)) (g_lt3 c_424 (by decide +kernel)) rfl ?_
          have h := h.1 c_424
          exact wL_law_608 X hr hnt hJ23 (by omega) (by omega) h hw (lv_sub hl [0, 1, 2, 3, 4] rfl)
        have h := h.2
        by_cases c_425 : (AI u a0 (tn x4)) &&& 63 = 13
        · refine lv_tableIn (tgt := 645) (off := 605) hx hb dL_law_40 (g_lt1 c_425 (by decide)) (g_lt2 c_425 (by decide)) (g_lt3 c_425 (by decide +kernel)) rfl ?_
          have h := h.1 c_425
          exact wL_law_645 X hr hnt hJ23 (by omega) (by omega) h hw (lv_sub hl [0, 1, 2, 3, 4] rfl)
        have h := h.2
        by_cases c_426 : (AI u a0 (tn x4)) &&& 63 = 14
        · refine lv_tableIn (tgt := 694) (off := 654) hx hb dL_law_40 (g_lt1 c_426 (by decide)) (g_lt2 c_426 (by decide)) (g_lt3 c_426 (by decide +kernel)) rfl ?_
          have h := h.1 c_426
          exact wL_law_694 X hr hnt hJ23 (by omega) (by omega) h hw (lv_sub hl [0, 1, 2, 3, 4] rfl)
        have h := h.2
        by_cases c_427 : (AI u a0 (tn x4)) &&& 63 = 15
        · refine lv_tableIn (tgt := 731) (off := 691) hx hb dL_law_40 (g_lt1 c_427 (by decide)) (g_lt2 c_427 (by decide)) (g_lt3 c_427 (by decide +kernel)) rfl ?_
          have h := h.1 c_427
          exact wL_law_731 X hr hnt hJ23 (by omega) (by omega) h hw (lv_sub hl [0, 1, 2, 3, 4] rfl)
        have h := h.2
        by_cases c_428 : (AI u a0 (tn x4)) &&& 63 = 16
        · refine lv_tableIn (tgt := 756) (off := 716) hx hb dL_law_40 (g_lt1 c_428 (by decide)) (g_lt2 c_428 (by decide)) (g_lt3 c_428 (by decide +kernel)) rfl ?_
          have h := h.1 c_428
          exact wL_law_756 X hr hnt hJ23 (by omega) (by omega) h hw (lv_sub hl [0, 1, 2, 3, 4] rfl)
        have h := h.2
        by_cases c_429 : (AI u a0 (tn x4)) &&& 63 = 17
        · refine lv_tableIn (tgt := 809) (off := 769) hx hb dL_law_40 (g_lt1 c_429 (by decide)) (g_lt2 c_429 (by decide)) (g_lt3 c_429 (by decide +kernel)) rfl ?_
          have h := h.1 c_429
          exact wL_law_809 X hr hnt hJ23 (by omega) (by omega) h hw (lv_sub hl [0, 1, 2, 3, 4] rfl)
        have h := h.2
        by_cases c_430 : (AI u a0 (tn x4)) &&& 63 = 18
        · refine lv_tableIn (tgt := 834) (off := 794) hx hb dL_law_40 (g_lt1 c_430 (by decide)) (g_lt2 c_430 (by decide)) (g_lt3 c_430 (by decide +kernel)) rfl ?_
          have h := h.1 c_430
          exact wL_law_834 X hr hnt hJ23 (by omega) (by omega) h hw (lv_sub hl [0, 1, 2, 3, 4] rfl)
        have h := h.2
        by_cases c_431 : (AI u a0 (tn x4)) &&& 63 = 19
        · refine lv_tableIn (tgt := 859) (off := 819) hx hb dL_law_40 (g_lt1 c_431 (by decide)) (g_lt2 c_431 (by decide)) (g_lt3 c_431 (by decide +kernel)) rfl ?_
          have h := h.1 c_431
          exact wL_law_859 X hr hnt hJ23 (by omega) (by omega) h hw (lv_sub hl [0, 1, 2, 3, 4] rfl)
        have h := h.2
        by_cases c_432 : (AI u a0 (tn x4)) &&& 63 = 20
        · refine lv_tableIn (tgt := 884) (off := 844) hx hb dL_law_40 (g_lt1 c_432 (by decide)) (g_lt2 c_432 (by decide)) (g_lt3 c_432 (by decide +kernel)) rfl ?_
          have h := h.1 c_432
          exact wL_law_884 X hr hnt hJ23 (by omega) (by omega) h hw (lv_sub hl [0, 1, 2, 3, 4] rfl)
        have h := h.2
        by_cases c_433 : (AI u a0 (tn x4)) &&& 63 = 21
        · refine lv_tableIn (tgt := 909) (off := 869) hx hb dL_law_40 (g_lt1 c_433 (by decide)) (g_lt2 c_433 (by decide)) (g_lt3 c_433 (by decide +kernel)) rfl ?_
          have h := h.1 c_433
          exact wL_law_909 X hr hnt hJ23 (by omega) (by omega) h hw (lv_sub hl [0, 1, 2, 3, 4] rfl)
        have h := h.2
        by_cases c_434 : (AI u a0 (tn x4)) &&& 63 = 22
        · refine lv_tableIn (tgt := 934) (off := 894) hx hb dL_law_40 (g_lt1 c_434 (by decide)) (g_lt2 c_434 (by decide)) (g_lt3 c_434 (by decide +kernel)) rfl ?_
          have h := h.1 c_434
          exact wL_law_934 X hr hnt hJ23 (by omega) (by omega) h hw (lv_sub hl [0, 1, 2, 3, 4] rfl)
        have h := h.2
        by_cases c_435 : (AI u a0 (tn x4)) &&& 63 = 23
        · refine lv_tableIn (tgt := 947) (off := 907) hx hb dL_law_40 (g_lt1 c_435 (by decide)) (g_lt2 c_435 (by decide)) (g_lt3 c_435 (by decide +kernel)) rfl ?_
          have h := h.1 c_435
          exact wL_law_947 X hr hnt hJ23 (by omega) (by omega) h hw (lv_sub hl [0, 1, 2, 3, 4] rfl)
        have h := h.2
        by_cases c_436 : (AI u a0 (tn x4)) &&& 63 = 24
        · refine lv_tableIn (tgt := 960) (off := 920) hx hb dL_law_40 (g_lt1 c_436 (by decide)) (g_lt2 c_436 (by decide)) (g_lt3 c_436 (by decide +kernel)) rfl ?_
          have h := h.1 c_436
          exact wL_law_960 X hr hnt hJ23 (by omega) (by omega) h hw (lv_sub hl [0, 1, 2, 3, 4] rfl)
        have h := h.2
        by_cases c_437 : (AI u a0 (tn x4)) &&& 63 = 25
        · refine lv_tableIn (tgt := 985) (off := 945) hx hb dL_law_40 (g_lt1 c_437 (by decide)) (g_lt2 c_437 (by decide)) (g_lt3 c_437 (by decide +kernel)) rfl ?_
          have h := h.1 c_437
          exact wL_law_985 X hr hnt hJ23 (by omega) (by omega) h hw (lv_sub hl [0, 1, 2, 3, 4] rfl)
        have h := h.2
        by_cases c_438 : (AI u a0 (tn x4)) &&& 63 = 26
        · refine lv_tableIn (tgt := 1039) (off := 999) hx hb dL_law_40 (g_lt1 c_438 (by decide)) (g_lt2 c_438 (by decide)) (g_lt3 c_438 (by decide +kernel)) rfl ?_
          have h := h.1 c_438
          exact wL_law_1039 X hr hnt hJ23 (by omega) (by omega) h hw (lv_sub hl [0, 1, 2, 3, 4] rfl)
        have h := h.2
        by_cases c_439 : (AI u a0 (tn x4)) &&& 63 = 27
        · refine lv_tableIn (tgt := 1052) (off := 1012) hx hb dL_law_40 (g_lt1 c_439 (by decide)) (g_lt2 c_439 (by decide)) (g_lt3 c_439 (by decide +kernel)) rfl ?_
          have h := h.1 c_439
          exact wL_law_1052 X hr hnt hJ23 (by omega) (by omega) h hw (lv_sub hl [0, 1, 2, 3, 4] rfl)
        have h := h.2
        by_cases c_440 : (AI u a0 (tn x4)) &&& 63 = 28
        · refine lv_tableIn (tgt := 1077) (off := 1037) hx hb dL_law_40 (g_lt1 c_440 (by decide)) (g_lt2 c_440 (by decide)) (g_lt3 c_440 (by decide +kernel)) rfl ?_
          have h := h.1 c_440
          exact wL_law_1077 X hr hnt hJ23 (by omega) (by omega) h hw (lv_sub hl [0, 1, 2, 3, 4] rfl)
        have h := h.2
        by_cases c_441 : (AI u a0 (tn x4)) &&& 63 = 29
        · refine lv_tableIn (tgt := 1130) (off := 1090) hx hb dL_law_40 (g_lt1 c_441 (by decide)) (g_lt2 c_441 (by decide)) (g_lt3 c_441 (by decide +kernel)) rfl ?_
          have h := h.1 c_441
          exact wL_law_1130 X hr hnt hJ23 (by omega) (by omega) h hw (lv_sub hl [0, 1, 2, 3, 4] rfl)
        have h := h.2
        by_cases c_442 : (AI u a0 (tn x4)) &&& 63 = 30
        · refine lv_tableIn (tgt := 1155) (off := 1115) hx hb dL_law_40 (g_lt1 c_442 (by decide)) (g_lt2 c_442 (by decide)) (g_lt3 c_442 (by decide +kernel)) rfl ?_
          have h := h.1 c_442
          exact wL_law_1155 X hr hnt hJ23 (by omega) (by omega) h hw (lv_sub hl [0, 1, 2, 3, 4] rfl)
        have h := h.2
        by_cases c_443 : (AI u a0 (tn x4)) &&& 63 = 31
        · refine lv_tableIn (tgt := 1180) (off := 1140) hx hb dL_law_40 (g_lt1 c_443 (by decide)) (g_lt2 c_443 (by decide)) (g_lt3 c_443 (by decide +kernel)) rfl ?_
          have h := h.1 c_443
          exact wL_law_1180 X hr hnt hJ23 (by omega) (by omega) h hw (lv_sub hl [0, 1, 2, 3, 4] rfl)
        have h := h.2
        by_cases c_444 : (AI u a0 (tn x4)) &&& 63 = 32
        · refine lv_tableIn (tgt := 1193) (off := 1153) hx hb dL_law_40 (g_lt1 c_444 (by decide)) (g_lt2 c_444 (by decide)) (g_lt3 c_444 (by decide +kernel)) rfl ?_
          have h := h.1 c_444
          exact wL_law_1193 X hr hnt hJ23 (by omega) (by omega) h hw (lv_sub hl [0, 1, 2, 3, 4] rfl)
        have h := h.2
        by_cases c_445 : (AI u a0 (tn x4)) &&& 63 = 33
        · refine lv_tableIn (tgt := 1230) (off := 1190) hx hb dL_law_40 (g_lt1 c_445 (by decide)) (g_lt2 c_445 (by decide)) (g_lt3 c_445 (by decide +kernel)) rfl ?_
          have h := h.1 c_445
          exact wL_law_1230 X hr hnt hJ23 (by omega) (by omega) h hw (lv_sub hl [0, 1, 2, 3, 4] rfl)
        have h := h.2
        by_cases c_446 : (AI u a0 (tn x4)) &&& 63 = 34
        · refine lv_tableIn (tgt := 1295) (off := 1255) hx hb dL_law_40 (g_lt1 c_446 (by decide)) (g_lt2 c_446 (by decide)) (g_lt3 c_446 (by decide +kernel)) rfl ?_
          have h := h.1 c_446
          exact wL_law_1295 X hr hnt hJ23 (by omega) (by omega) h hw (lv_sub hl [0, 1, 2, 3, 4] rfl)
        have h := h.2
        by_cases c_447 : (AI u a0 (tn x4)) &&& 63 = 35
        · refine lv_tableIn (tgt := 1308) (off := 1268) hx hb dL_law_40 (g_lt1 c_447 (by decide)) (g_lt2 c_447 (by decide)) (g_lt3 c_447 (by decide +kernel)) rfl ?_
          have h := h.1 c_447
          exact wL_law_1308 X hr hnt hJ23 (by omega) (by omega) h hw (lv_sub hl [0, 1, 2, 3, 4] rfl)
        have h := h.2
        by_cases c_448 : (AI u a0 (tn x4)) &&& 63 = 36
        · refine lv_tableIn (tgt := 1345) (off := 1305) hx hb dL_law_40 (g_lt1 c_448 (by decide)) (g_lt2 c_448 (by decide)) (g_lt3 c_448 (by decide +kernel)) rfl ?_
          have h := h.1 c_448
          exact wL_law_1345 X hr hnt hJ23 (by omega) (by omega) h hw (lv_sub hl [0, 1, 2, 3, 4] rfl)
        have h := h.2
        by_cases c_449 : (AI u a0 (tn x4)) &&& 63 = 37
        · refine lv_tableIn (tgt := 1370) (off := 1330) hx hb dL_law_40 (g_lt1 c_449 (by decide)) (g_lt2 c_449 (by decide)) (g_lt3 c_449 (by decide +kernel)) rfl ?_
          have h := h.1 c_449
          exact wL_law_1370 X hr hnt hJ23 (by omega) (by omega) h hw (lv_sub hl [0, 1, 2, 3, 4] rfl)
        have h := h.2
        by_cases c_450 : (AI u a0 (tn x4)) &&& 63 = 38
        · refine lv_tableIn (tgt := 1383) (off := 1343) hx hb dL_law_40 (g_lt1 c_450 (by decide)) (g_lt2 c_450 (by decide)) (g_lt3 c_450 (by decide +kernel)) rfl ?_
          have h := h.1 c_450
          exact wL_law_1383 X hr hnt hJ23 (by omega) (by omega) h hw (lv_sub hl [0, 1, 2, 3, 4] rfl)
        have h := h.2
        by_cases c_451 : (AI u a0 (tn x4)) &&& 63 = 39
        · refine lv_tableIn (tgt := 1396) (off := 1356) hx hb dL_law_40 (g_lt1 c_451 (by decide)) (g_lt2 c_451 (by decide)) (g_lt3 c_451 (by decide +kernel)) rfl ?_
          have h := h.1 c_451
          exact wL_law_1396 X hr hnt hJ23 (by omega) (by omega) h hw (lv_sub hl [0, 1, 2, 3, 4] rfl)
        have h := h.2
        by_cases c_452 : (AI u a0 (tn x4)) &&& 63 = 40
        · refine lv_tableIn (tgt := 1409) (off := 1369) hx hb dL_law_40 (g_lt1 c_452 (by decide)) (g_lt2 c_452 (by decide)) (g_lt3 c_452 (by decide +kernel)) rfl ?_
          have h := h.1 c_452
          exact wL_law_1409 X hr hnt hJ23 (by omega) (by omega) h hw (lv_sub hl [0, 1, 2, 3, 4] rfl)
        have h := h.2
        by_cases c_453 : (AI u a0 (tn x4)) &&& 63 = 41
        · refine lv_tableIn (tgt := 1434) (off := 1394) hx hb dL_law_40 (g_lt1 c_453 (by decide)) (g_lt2 c_453 (by decide)) (g_lt3 c_453 (by decide +kernel)) rfl ?_
          have h := h.1 c_453
          exact wL_law_1434 X hr hnt hJ23 (by omega) (by omega) h hw (lv_sub hl [0, 1, 2, 3, 4] rfl)
        have h := h.2
        by_cases c_454 : (AI u a0 (tn x4)) &&& 63 = 42
        · refine lv_tableIn (tgt := 1502) (off := 1462) hx hb dL_law_40 (g_lt1 c_454 (by decide)) (g_lt2 c_454 (by decide)) (g_lt3 c_454 (by decide +kernel)) rfl ?_
          have h := h.1 c_454
          exact wL_law_1502 X hr hnt hJ23 (by omega) (by omega) h hw (lv_sub hl [0, 1, 2, 3, 4] rfl)
        have h := h.2
        by_cases c_455 : (AI u a0 (tn x4)) &&& 63 = 43
        · refine lv_tableIn (tgt := 1527) (off := 1487) hx hb dL_law_40 (g_lt1 c_455 (by decide)) (g_lt2 c_455 (by decide)) (g_lt3 c_455 (by decide +kernel)) rfl ?_
          have h := h.1 c_455
          exact wL_law_1527 X hr hnt hJ23 (by omega) (by omega) h hw (lv_sub hl [0, 1, 2, 3, 4] rfl)
        have h := h.2
        by_cases c_456 : (AI u a0 (tn x4)) &&& 63 = 44
        · refine lv_tableIn (tgt := 1552) (off := 1512) hx hb dL_law_40 (g_lt1 c_456 (by decide)) (g_lt2 c_456 (by decide)) (g_lt3 c_456 (by decide +kernel)) rfl ?_
          have h := h.1 c_456
          exact wL_law_1552 X hr hnt hJ23 (by omega) (by omega) h hw (lv_sub hl [0, 1, 2, 3, 4] rfl)
        have h := h.2
        have h := h ⟨c_412, c_413, c_414, c_415, c_416, c_417, c_418, c_419, c_420, c_421, c_422, c_423, c_424, c_425, c_426, c_427, c_428, c_429, c_430, c_431, c_432, c_433, c_434, c_435, c_436, c_437, c_438, c_439, c_440, c_441, c_442, c_443, c_444, c_445, c_446, c_447, c_448, c_449, c_450, c_451, c_452, c_453, c_454, c_455, c_456⟩
        refine lv_tableOut (tgt := 1565) hx hb dL_law_40 (tbl_out 0 45 (by decide) (by decide) (fun i hi => by match i, hi with | 0, _ => exact c_412 | 1, _ => exact c_413 | 2, _ => exact c_414 | 3, _ => exact c_415 | 4, _ => exact c_416 | 5, _ => exact c_417 | 6, _ => exact c_418 | 7, _ => exact c_419 | 8, _ => exact c_420 | 9, _ => exact c_421 | 10, _ => exact c_422 | 11, _ => exact c_423 | 12, _ => exact c_424 | 13, _ => exact c_425 | 14, _ => exact c_426 | 15, _ => exact c_427 | 16, _ => exact c_428 | 17, _ => exact c_429 | 18, _ => exact c_430 | 19, _ => exact c_431 | 20, _ => exact c_432 | 21, _ => exact c_433 | 22, _ => exact c_434 | 23, _ => exact c_435 | 24, _ => exact c_436 | 25, _ => exact c_437 | 26, _ => exact c_438 | 27, _ => exact c_439 | 28, _ => exact c_440 | 29, _ => exact c_441 | 30, _ => exact c_442 | 31, _ => exact c_443 | 32, _ => exact c_444 | 33, _ => exact c_445 | 34, _ => exact c_446 | 35, _ => exact c_447 | 36, _ => exact c_448 | 37, _ => exact c_449 | 38, _ => exact c_450 | 39, _ => exact c_451 | 40, _ => exact c_452 | 41, _ => exact c_453 | 42, _ => exact c_454 | 43, _ => exact c_455 | 44, _ => exact c_456 | n + 45, hi => exact absurd hi (by omega))) rfl ?_
        refine lv_iinc (v := x4 + 6) (lv' := [(4, .int (x4 + 6)), (0, .ref a0), (1, .ref a1), (2, .ref a2), (3, .ref a3)]) hx hb dL_law_1565 hl (k := 4) rfl rfl (by decide) rfl (fun ls hl => ?_)
        refine lv_goto (tgt := 23) hx hb dL_law_1568 rfl ?_
        exact hJ23 _ _ _ _ _ _ _ _ _ (by omega) (by omega) h hw (lv_sub hl [1, 2, 3, 4, 0] rfl)
  exact key _ _ _ _ _ _ _ _ _ _ hc1 hc2 (Nat.lt_succ_self _) h0 hw hl
set_option maxHeartbeats 4000000 in
theorem wL_law_0 {G : GT} {p : Program} {l : Launch} {e : Env} {s : State} {m : MethodId} {args : Array Value} {below : List Frame} {meth : Method} {c : Code} {H : Heap} {locs : List Loc} {ls : Array Slot} {cells slots : Nat} {MC MS : Nat} {a0 : Nat} {u : Hp} {mc : Nat} {ms : Nat} {K : Int32 → Hp → Prop} (X : Mc G p s m args meth c RX0 cL_law 7) (hr : meth.sig.returnType = (some .boolean)) (hnt : l.stackTraces = false) (hc1 : cells + mc ≤ MC) (hc2 : slots + ms ≤ MS) (h : bL_law_0 K (Glit G) a0 u mc ms) (hw : GW G u s H locs) (hl : lv_has ls 7 [(0, .ref a0)]) : W p l e (rmL_law MC MS) s m args below meth c H locs cells slots (QI G below K args s MC MS) (F0 m 0 ls []) := by
  obtain ⟨hx, hb, hml, hown, hts, -⟩ := id X
  unfold bL_law_0 at h
  obtain ⟨hm_460, hm_461, h⟩ := h
  refine g_new X hw (T := TX1) (N := 16) in_X1 tyX1_ok (ci := 0) rfl df_X1 q156 q157 q122 (by show _ ≤ MC; omega) (by show _ ≤ MS; omega) dL_law_0 (fun q_458 H hq_459 hw => ?_)
  have h := h q_458 hq_459
  have hk_462 : kd (mkC u q_458 1 0) q_458 = 1 := hu1_eq
  refine lv_dup hx hb dL_law_3 rfl ?_
  obtain ⟨q_463, q_464, hq_465, hq_466, h⟩ := h
  refine g_callv hw (g_I X hw (mX1_init l G _ _ _ _ _ h) 0 q160 q122 q158 q159 rfl rfl rfl ydX1_init ⟨Nat.le_of_ble_eq_true rfl, Nat.le_of_ble_eq_true rfl⟩ (As := []) (rest := [.ref q_458]) rfl hl.1 rfl (Nat.le_of_ble_eq_true rfl) dL_law_4 ⟨(by show _ ≤ MC; omega), (by show _ ≤ MS; omega)⟩) (fun u_467 H locs h hw => ?_)
  refine lv_astore_n (lv' := [(1, .ref q_458), (0, .ref a0)]) hx hb dL_law_7 rfl hl (by decide) rfl (fun ls hl => ?_)
  obtain ⟨hm_470, hm_471, h⟩ := h
  refine g_new X hw (T := TX19) (N := 46) in_X19 tyX19_ok (ci := 15) rfl df_X19 q1444 q1445 q143 (by show _ ≤ MC; omega) (by show _ ≤ MS; omega) dL_law_8 (fun q_468 H hq_469 hw => ?_)
  have h := h q_468 hq_469
  have hk_472 : kd (mkC u_467 q_468 16 0) q_468 = 16 := hu1_eq
  refine lv_dup hx hb dL_law_11 rfl ?_
  obtain ⟨q_473, q_474, hq_475, hq_476, h⟩ := h
  refine g_callv hw (g_I X hw (mX19_init l G _ _ _ _ _ h) 0 q1448 q143 q1446 q1447 rfl rfl rfl ydX19_init ⟨Nat.le_of_ble_eq_true rfl, Nat.le_of_ble_eq_true rfl⟩ (As := []) (rest := [.ref q_468]) rfl hl.1 rfl (Nat.le_of_ble_eq_true rfl) dL_law_12 ⟨(by show _ ≤ MC; omega), (by show _ ≤ MS; omega)⟩) (fun u_477 H locs h hw => ?_)
  refine lv_astore_n (lv' := [(2, .ref q_468), (1, .ref q_458), (0, .ref a0)]) hx hb dL_law_15 rfl hl (by decide) rfl (fun ls hl => ?_)
  refine lv_iconst (v := 1) hx hb dL_law_16 (by decide) ?_
  obtain ⟨hm_480, hm_481, h⟩ := h
  refine g_newJ X hw q1668 (N' := 1) (by decide) (by decide) (by decide) (by show _ ≤ MC; omega) (by show _ ≤ MS; omega) dL_law_17 (fun q_478 H hq_479 hw => ?_)
  have h := h q_478 hq_479
  have hk_482 : kd (mkC u_477 q_478 105 1) q_478 = 105 := hu1_eq
  refine lv_astore_n (lv' := [(3, .ref q_478), (2, .ref q_468), (1, .ref q_458), (0, .ref a0)]) hx hb dL_law_19 rfl hl (by decide) rfl (fun ls hl => ?_)
  refine lv_iconst (v := 0) hx hb dL_law_20 (by decide) ?_
  refine lv_istore (lv' := [(4, .int 0), (3, .ref q_478), (2, .ref q_468), (1, .ref q_458), (0, .ref a0)]) hx hb dL_law_21 hl (by decide) rfl (fun ls hl => ?_)
  exact wL_law_23 X hr hnt (by omega) (by omega) h hw (lv_sub hl [4, 3, 2, 1, 0] rfl)

