/-! printed by tools/genparts.py: the walks (m..): the machine runs as the predicates say -/
set_option maxRecDepth 100000
/-! FifthCardModel.needsSign(I)V -/
theorem ydX19_needsSign : yX19_needsSign.cls = "FifthCardModel" ∧ yX19_needsSign.cls ≠ "java/lang/invoke/MethodHandle" ∧ yX19_needsSign.cls ≠ "java/lang/invoke/VarHandle" ∧ (parseMethodDescriptor yX19_needsSign.desc).map (fun d => d.parameters.length) = some 1 := by decide +kernel
def rmX19_needsSign (mc ms : Nat) : Room := { frames := 2, cells := mc, slots := ms, locals := 43 }
set_option maxHeartbeats 4000000 in
theorem wX19_needsSign_16 {G : GT} {p : Program} {l : Launch} {e : Env} {s : State} {m : MethodId} {args : Array Value} {below : List Frame} {meth : Method} {c : Code} {H : Heap} {locs : List Loc} {ls : Array Slot} {a0 : Nat} {u : Hp} {K : Hp → Prop} (X : Mc G p s m args meth c RX19 cX19_needsSign 2) (hr : meth.sig.returnType = none) (h : bX19_needsSign_16 K a0 u) (hw : GW G u s H locs) (hl : lv_has ls 2 [(0, .ref a0)]) : W p l e (rmX19_needsSign 0 0) s m args below meth c H locs 0 0 (QV G below K args s 0 0) (F0 m 16 ls []) := by
  obtain ⟨hx, hb, hml, hown, hts, -⟩ := id X
  unfold bX19_needsSign_16 at h
  refine lv_aload_n hx hb dX19_needsSign_16 rfl (lv_at hl 0 rfl) ?_
  refine lv_iconst (v := 1) hx hb dX19_needsSign_17 (by decide) ?_
  have hk_1 : kd u a0 = 16 := h.1
  have h := h.2
  refine g_callv hw (g_V X hw (mX19_flaw l G _ _ _ _ h) 1 (lw_V q1732 q1734 qs54 q143 q1735) rfl rfl ydX19_flaw ⟨Nat.le_of_ble_eq_true rfl, Nat.le_of_ble_eq_true rfl⟩ (g_recv X hw (ci := 15) (q := (RX19, TX19, 46)) hk_1 rfl) (As := [.int 1]) (rest := []) rfl hl.1 rfl (Nat.le_of_ble_eq_true rfl) dX19_needsSign_18 ⟨Nat.le_refl _, Nat.le_refl _⟩) (fun u_2 H locs h hw => ?_)
  refine lv_aload_n hx hb dX19_needsSign_21 rfl (lv_at hl 0 rfl) ?_
  have hk_3 : kd u_2 a0 = 16 := h.1
  have h := h.2
  refine g_callv hw (g_V X hw (mX19_goesOn l G _ _ _ h) 0 (lw_V q1669 q1671 qs48 q143 q1672) rfl rfl ydX19_goesOn ⟨Nat.le_of_ble_eq_true rfl, Nat.le_of_ble_eq_true rfl⟩ (g_recv X hw (ci := 15) (q := (RX19, TX19, 46)) hk_3 rfl) (As := []) (rest := []) rfl hl.1 rfl (Nat.le_of_ble_eq_true rfl) dX19_needsSign_22 ⟨Nat.le_refl _, Nat.le_refl _⟩) (fun u_4 H locs h hw => ?_)
  exact g_vret X hw hr h (Nat.le_refl _) (Nat.le_refl _) dX19_needsSign_25
set_option maxHeartbeats 4000000 in
theorem mX19_needsSign (l : Launch) (G : GT) (u : Hp) (a0 : Nat) (x1 : Int32) (K : Hp → Prop) (h : pX19_needsSign u a0 x1 K) : Met l yX19_needsSign (ws_ yX19_needsSign cX19_needsSign 2 none) (rmX19_needsSign 0 0) (va_Pc [.ref a0, .int x1] (GB G u)) (va_Qv K (fun u t => GH G u t.heap) (GA G)) 0 0 (GA G) := by
  refine Met.ofW (cc := cX19_needsSign) (maxL := 2) (ret := none) (by decide) rfl ?_
  intro p e s m args below meth c s₁ B hml hv
  obtain ⟨rfl, hv⟩ := hv
  have X := Mc_of (own := RX19) B hml rfl hv
  have hw : GW G u s s.heap [] := ⟨hv.2.1, va_S.rf⟩
  have hr := B.returns
  obtain ⟨hx, hb, hml, hown, hts, -⟩ := id X
  have hl := lv_entry ([.ref a0, .int x1]) (n := 2) (Nat.le_of_ble_eq_true rfl)
  rw [lg_entry_eq]
  generalize (lg_sl ([.ref a0, .int x1]) ++ List.replicate (2 - (lg_sl ([.ref a0, .int x1])).length) Slot.unset).toArray = ls at hl ⊢
  have hl : lv_has ls 2 [(0, .ref a0), (1, .int x1)] := hl
  change W p l e (rmX19_needsSign 0 0) s m _ below meth c s.heap [] 0 0 (QV G below K _ s 0 0) (F0 m 0 ls [])
  unfold pX19_needsSign at h
  refine lv_aload_n hx hb dX19_needsSign_0 rfl (lv_at hl 0 rfl) ?_
  have hk_5 : kd u a0 = 16 := h.1
  have h := h.2
  refine g_getI X hw in_X19 hk_5 rfl 9 rfl (by decide) q1460 (fun _ z => z) dX19_needsSign_1 ?_
  refine lv_iconst (v := 4) hx hb dX19_needsSign_4 (by decide) ?_
  refine lv_icmp_ne (tgt := 16) hx hb dX19_needsSign_5 rfl (fun c_8 => ?_) (fun c_8 => ?_)
  · have h := h.2 c_8
    exact wX19_needsSign_16 X hr  h hw (lv_sub hl [0] rfl)
  · have h := h.1 c_8
    refine lv_aload_n hx hb dX19_needsSign_8 rfl (lv_at hl 0 rfl) ?_
    refine g_getI X hw in_X19 hk_5 rfl 11 rfl (by decide) q1462 (fun _ z => z) dX19_needsSign_9 ?_
    refine lv_iload_n hx hb dX19_needsSign_12 rfl (lv_at hl 1 rfl) ?_
    refine lv_icmp_eq (tgt := 21) hx hb dX19_needsSign_13 rfl (fun c_7 => ?_) (fun c_7 => ?_)
    · have h := h.1 c_7
      refine lv_aload_n hx hb dX19_needsSign_21 rfl (lv_at hl 0 rfl) ?_
      refine g_callv hw (g_V X hw (mX19_goesOn l G _ _ _ h) 0 (lw_V q1669 q1671 qs48 q143 q1672) rfl rfl ydX19_goesOn ⟨Nat.le_of_ble_eq_true rfl, Nat.le_of_ble_eq_true rfl⟩ (g_recv X hw (ci := 15) (q := (RX19, TX19, 46)) hk_5 rfl) (As := []) (rest := []) rfl hl.1 rfl (Nat.le_of_ble_eq_true rfl) dX19_needsSign_22 ⟨Nat.le_refl _, Nat.le_refl _⟩) (fun u_6 H locs h hw => ?_)
      exact g_vret X hw hr h (Nat.le_refl _) (Nat.le_refl _) dX19_needsSign_25
    · have h := h.2 c_7
      exact wX19_needsSign_16 X hr  h hw (lv_sub hl [0] rfl)

/-! FifthCardModel.readUnlike([IIII)V -/
theorem ydX19_readUnlike : yX19_readUnlike.cls = "FifthCardModel" ∧ yX19_readUnlike.cls ≠ "java/lang/invoke/MethodHandle" ∧ yX19_readUnlike.cls ≠ "java/lang/invoke/VarHandle" ∧ (parseMethodDescriptor yX19_readUnlike.desc).map (fun d => d.parameters.length) = some 4 := by decide +kernel
def rmX19_readUnlike (mc ms : Nat) : Room := { frames := 3, cells := mc, slots := ms, locals := 64 }
set_option maxHeartbeats 4000000 in
theorem wX19_readUnlike_58 {G : GT} {p : Program} {l : Launch} {e : Env} {s : State} {m : MethodId} {args : Array Value} {below : List Frame} {meth : Method} {c : Code} {H : Heap} {locs : List Loc} {ls : Array Slot} {a0 : Nat} {a1 : Nat} {x2 : Int32} {x3 : Int32} {x4 : Int32} {x5 : Int32} {x6 : Int32} {x7 : Int32} {u : Hp} {K : Hp → Prop} {J6 : Int32 → Int32 → Hp → Prop} (X : Mc G p s m args meth c RX19 cX19_readUnlike 8) (hr : meth.sig.returnType = none) (hJ6 : ∀ (x5 : Int32) (x6 : Int32) (u : Hp) (H : Heap) (locs : List Loc) (ls : Array Slot) , J6 x5 x6 u → GW G u s H locs → lv_has ls 8 [(0, .ref a0), (1, .ref a1), (2, .int x2), (3, .int x3), (4, .int x4), (5, .int x5), (6, .int x6)] → W p l e (rmX19_readUnlike 0 0) s m args below meth c H locs 0 0 (QV G below K args s 0 0) (F0 m 6 ls [])) (h : bX19_readUnlike_58 K J6 a0 a1 x2 x3 x4 x5 x6 x7 u) (hw : GW G u s H locs) (hl : lv_has ls 8 [(0, .ref a0), (1, .ref a1), (2, .int x2), (3, .int x3), (4, .int x4), (5, .int x5), (6, .int x6), (7, .int x7)]) : W p l e (rmX19_readUnlike 0 0) s m args below meth c H locs 0 0 (QV G below K args s 0 0) (F0 m 58 ls []) := by
  obtain ⟨hx, hb, hml, hown, hts, -⟩ := id X
  unfold bX19_readUnlike_58 at h
  refine lv_aload_n hx hb dX19_readUnlike_58 rfl (lv_at hl 0 rfl) ?_
  have hk_1 : kd u a0 = 16 := h.1
  have h := h.2
  refine g_callv hw (g_V X hw (mX19_goesOn l G _ _ _ h) 0 (lw_V q1669 q1671 qs48 q143 q1672) rfl rfl ydX19_goesOn ⟨Nat.le_of_ble_eq_true rfl, Nat.le_of_ble_eq_true rfl⟩ (g_recv X hw (ci := 15) (q := (RX19, TX19, 46)) hk_1 rfl) (As := []) (rest := []) rfl hl.1 rfl (Nat.le_of_ble_eq_true rfl) dX19_readUnlike_59 ⟨Nat.le_refl _, Nat.le_refl _⟩) (fun u_2 H locs h hw => ?_)
  refine lv_iload hx hb dX19_readUnlike_62 (lv_at hl 5 rfl) ?_
  refine lv_iconst (v := 1) hx hb dX19_readUnlike_64 (by decide) ?_
  refine lv_iload hx hb dX19_readUnlike_65 (lv_at hl 7 rfl) ?_
  refine lv_ishl hx hb dX19_readUnlike_67 ?_
  refine lv_ior hx hb dX19_readUnlike_68 ?_
  refine lv_istore (lv' := [(5, .int (x5 ||| (jshl 1 x7))), (0, .ref a0), (1, .ref a1), (2, .int x2), (3, .int x3), (4, .int x4), (6, .int x6), (7, .int x7)]) hx hb dX19_readUnlike_69 hl (by decide) rfl (fun ls hl => ?_)
  refine lv_aload_n hx hb dX19_readUnlike_71 rfl (lv_at hl 2 rfl) ?_
  refine lv_iload_n hx hb dX19_readUnlike_72 rfl (lv_at hl 3 rfl) ?_
  refine lv_iload hx hb dX19_readUnlike_73 (lv_at hl 6 rfl) ?_
  refine lv_iadd hx hb dX19_readUnlike_75 ?_
  refine lv_iload hx hb dX19_readUnlike_76 (lv_at hl 7 rfl) ?_
  have hk_3 : kd u_2 a1 = 101 := h.1
  have h := h.2
  refine g_iast X hw hk_3 h.1 dX19_readUnlike_78 (fun H locs hw => ?_)
  have h := h.2
  refine lv_iinc (v := x6 + 1) (lv' := [(6, .int (x6 + 1)), (5, .int (x5 ||| (jshl 1 x7))), (0, .ref a0), (1, .ref a1), (2, .int x2), (3, .int x3), (4, .int x4), (7, .int x7)]) hx hb dX19_readUnlike_79 hl (k := 6) rfl rfl (by decide) rfl (fun ls hl => ?_)
  refine lv_goto (tgt := 6) hx hb dX19_readUnlike_82 rfl ?_
  exact hJ6 _ _ _ _ _ _ h hw (lv_sub hl [2, 3, 4, 5, 6, 1, 0] rfl)
set_option maxHeartbeats 4000000 in
theorem wX19_readUnlike_31 {G : GT} {p : Program} {l : Launch} {e : Env} {s : State} {m : MethodId} {args : Array Value} {below : List Frame} {meth : Method} {c : Code} {H : Heap} {locs : List Loc} {ls : Array Slot} {a0 : Nat} {a1 : Nat} {x2 : Int32} {x3 : Int32} {x4 : Int32} {x5 : Int32} {x6 : Int32} {u : Hp} {K : Hp → Prop} {J6 : Int32 → Int32 → Hp → Prop} (X : Mc G p s m args meth c RX19 cX19_readUnlike 8) (hr : meth.sig.returnType = none) (hJ6 : ∀ (x5 : Int32) (x6 : Int32) (u : Hp) (H : Heap) (locs : List Loc) (ls : Array Slot) , J6 x5 x6 u → GW G u s H locs → lv_has ls 8 [(0, .ref a0), (1, .ref a1), (2, .int x2), (3, .int x3), (4, .int x4), (5, .int x5), (6, .int x6)] → W p l e (rmX19_readUnlike 0 0) s m args below meth c H locs 0 0 (QV G below K args s 0 0) (F0 m 6 ls [])) (h : bX19_readUnlike_31 K J6 a0 a1 x2 x3 x4 x5 x6 u) (hw : GW G u s H locs) (hl : lv_has ls 8 [(0, .ref a0), (1, .ref a1), (2, .int x2), (3, .int x3), (4, .int x4), (5, .int x5), (6, .int x6)]) : W p l e (rmX19_readUnlike 0 0) s m args below meth c H locs 0 0 (QV G below K args s 0 0) (F0 m 31 ls []) := by
  obtain ⟨hx, hb, hml, hown, hts, -⟩ := id X
  unfold bX19_readUnlike_31 at h
  refine lv_aload_n hx hb dX19_readUnlike_31 rfl (lv_at hl 0 rfl) ?_
  refine lv_iconst (v := 0) hx hb dX19_readUnlike_32 (by decide) ?_
  refine lv_iload hx hb dX19_readUnlike_33 (lv_at hl 4 rfl) ?_
  refine lv_iconst (v := 1) hx hb dX19_readUnlike_35 (by decide) ?_
  refine lv_isub hx hb dX19_readUnlike_36 ?_
  have hk_4 : kd u a0 = 16 := h.1
  have h := h.2
  refine g_calli hw (g_V X hw (mX19_bounded l G _ _ _ _ _ h) 2 (lw_V q1745 q1747 qs57 q143 q1748) rfl rfl ydX19_bounded ⟨Nat.le_of_ble_eq_true rfl, Nat.le_of_ble_eq_true rfl⟩ (g_recv X hw (ci := 15) (q := (RX19, TX19, 46)) hk_4 rfl) (As := [.int 0, .int (x4 - 1)]) (rest := []) rfl hl.1 rfl (Nat.le_of_ble_eq_true rfl) dX19_readUnlike_37 ⟨Nat.le_refl _, Nat.le_refl _⟩) (fun r_5 u_6 H locs h hw => ?_)
  refine lv_istore (lv' := [(7, .int r_5), (0, .ref a0), (1, .ref a1), (2, .int x2), (3, .int x3), (4, .int x4), (5, .int x5), (6, .int x6)]) hx hb dX19_readUnlike_40 hl (by decide) rfl (fun ls hl => ?_)
  refine lv_iload hx hb dX19_readUnlike_42 (lv_at hl 6 rfl) ?_
  refine lv_iload hx hb dX19_readUnlike_44 (lv_at hl 0 rfl) ?_
  refine lv_ishr hx hb dX19_readUnlike_46 ?_
  refine lv_iconst (v := 1) hx hb dX19_readUnlike_47 (by decide) ?_
  refine lv_iand hx hb dX19_readUnlike_48 ?_
  refine lv_iconst (v := 1) hx hb dX19_readUnlike_49 (by decide) ?_
  refine lv_icmp_ne (tgt := 58) hx hb dX19_readUnlike_50 rfl (fun c_9 => ?_) (fun c_9 => ?_)
  · have h := h.2 c_9
    exact wX19_readUnlike_58 X hr hJ6  h hw (lv_sub hl [1, 2, 3, 4, 5, 6, 7, 0] rfl)
  · have h := h.1 c_9
    refine lv_aload_n hx hb dX19_readUnlike_53 rfl (lv_at hl 1 rfl) ?_
    refine lv_iconst (v := 3) hx hb dX19_readUnlike_54 (by decide) ?_
    have hk_7 : kd u_6 a0 = 16 := h.1
    have h := h.2
    refine g_callv hw (g_V X hw (mX19_flaw l G _ _ _ _ h) 1 (lw_V q1732 q1734 qs54 q143 q1735) rfl rfl ydX19_flaw ⟨Nat.le_of_ble_eq_true rfl, Nat.le_of_ble_eq_true rfl⟩ (g_recv X hw (ci := 15) (q := (RX19, TX19, 46)) hk_7 rfl) (As := [.int 3]) (rest := []) rfl hl.1 rfl (Nat.le_of_ble_eq_true rfl) dX19_readUnlike_55 ⟨Nat.le_refl _, Nat.le_refl _⟩) (fun u_8 H locs h hw => ?_)
    exact wX19_readUnlike_58 X hr hJ6  h hw (lv_sub hl [1, 2, 3, 4, 5, 6, 7, 0] rfl)
set_option maxHeartbeats 4000000 in
theorem wX19_readUnlike_6 {G : GT} {p : Program} {l : Launch} {e : Env} {s : State} {m : MethodId} {args : Array Value} {below : List Frame} {meth : Method} {c : Code} {H : Heap} {locs : List Loc} {ls : Array Slot} {a0 : Nat} {a1 : Nat} {x2 : Int32} {x3 : Int32} {x4 : Int32} {x5 : Int32} {x6 : Int32} {u : Hp} {K : Hp → Prop} (X : Mc G p s m args meth c RX19 cX19_readUnlike 8) (hr : meth.sig.returnType = none) (h : jl3 (bX19_readUnlike_6 K a0 a1 x2 x3 x4) x5 x6 u) (hw : GW G u s H locs) (hl : lv_has ls 8 [(0, .ref a0), (1, .ref a1), (2, .int x2), (3, .int x3), (4, .int x4), (5, .int x5), (6, .int x6)]) : W p l e (rmX19_readUnlike 0 0) s m args below meth c H locs 0 0 (QV G below K args s 0 0) (F0 m 6 ls []) := by
  obtain ⟨hx, hb, hml, hown, hts, -⟩ := id X
  obtain ⟨I, μ, h0, hs⟩ := h
  have key : ∀ (n : Nat) (x5 : Int32) (x6 : Int32) (u : Hp) (H : Heap) (locs : List Loc) (ls : Array Slot) , μ x5 x6 u < n → I x5 x6 u → GW G u s H locs → lv_has ls 8 [(0, .ref a0), (1, .ref a1), (2, .int x2), (3, .int x3), (4, .int x4), (5, .int x5), (6, .int x6)] → W p l e (rmX19_readUnlike 0 0) s m args below meth c H locs 0 0 (QV G below K args s 0 0) (F0 m 6 ls []) := by
    intro n
    induction n with
    | zero =>
      intro x5 x6 u H locs ls hn
      exact absurd hn (Nat.not_lt_zero _)
    | succ n ih =>
      intro x5 x6 u H locs ls hn hI hw hl
      have h := hs x5 x6 u hI
      unfold bX19_readUnlike_6 at h
      have hJ6 : ∀ (x5' : Int32) (x6' : Int32) (u' : Hp) (H : Heap) (locs : List Loc) (ls : Array Slot) , (I x5' x6' u' ∧ μ x5' x6' u' < μ x5 x6 u) → GW G u' s H locs → lv_has ls 8 [(0, .ref a0), (1, .ref a1), (2, .int x2), (3, .int x3), (4, .int x4), (5, .int x5'), (6, .int x6')] → W p l e (rmX19_readUnlike 0 0) s m args below meth c H locs 0 0 (QV G below K args s 0 0) (F0 m 6 ls []) := fun x5' x6' u' H locs ls h hw hl => ih x5' x6' u' H locs ls (Nat.lt_of_lt_of_le h.2 (Nat.le_of_lt_succ hn)) h.1 hw hl
      refine lv_iload hx hb dX19_readUnlike_6 (lv_at hl 6 rfl) ?_
      refine lv_iload_n hx hb dX19_readUnlike_8 rfl (lv_at hl 3 rfl) ?_
      refine lv_icmp_ge (tgt := 85) hx hb dX19_readUnlike_9 rfl (fun c_14 => ?_) (fun c_14 => ?_)
      · have h := h.1 c_14
        exact g_vret X hw hr h (Nat.le_refl _) (Nat.le_refl _) dX19_readUnlike_85
      · have h := h.2 c_14
        refine lv_aload_n hx hb dX19_readUnlike_12 rfl (lv_at hl 0 rfl) ?_
        have hk_10 : kd u a0 = 16 := h.1
        have h := h.2
        refine g_getI X hw in_X19 hk_10 rfl 9 rfl (by decide) q1460 (fun _ z => z) dX19_readUnlike_13 ?_
        refine lv_iconst (v := 5) hx hb dX19_readUnlike_16 (by decide) ?_
        refine lv_icmp_eq (tgt := 85) hx hb dX19_readUnlike_17 rfl (fun c_13 => ?_) (fun c_13 => ?_)
        · have h := h.1 c_13
          exact g_vret X hw hr h (Nat.le_refl _) (Nat.le_refl _) dX19_readUnlike_85
        · have h := h.2 c_13
          refine lv_iload hx hb dX19_readUnlike_20 (lv_at hl 6 rfl) ?_
          refine lv_if_le (tgt := 31) hx hb dX19_readUnlike_22 rfl (fun c_12 => ?_) (fun c_12 => ?_)
          · have h := h.1 c_12
            exact wX19_readUnlike_31 X hr hJ6  h hw (lv_sub hl [0, 1, 2, 3, 4, 5, 6] rfl)
          · have h := h.2 c_12
            refine lv_aload_n hx hb dX19_readUnlike_25 rfl (lv_at hl 0 rfl) ?_
            refine lv_bipush (v := 44) hx hb dX19_readUnlike_26 (by decide) ?_
            refine g_callv hw (g_V X hw (mX19_needsSign l G _ _ _ _ h) 1 (lw_V q1815 q1817 qs65 q143 q1818) rfl rfl ydX19_needsSign ⟨Nat.le_of_ble_eq_true rfl, Nat.le_of_ble_eq_true rfl⟩ (g_recv X hw (ci := 15) (q := (RX19, TX19, 46)) hk_10 rfl) (As := [.int 44]) (rest := []) rfl hl.1 rfl (Nat.le_of_ble_eq_true rfl) dX19_readUnlike_28 ⟨Nat.le_refl _, Nat.le_refl _⟩) (fun u_11 H locs h hw => ?_)
            exact wX19_readUnlike_31 X hr hJ6  h hw (lv_sub hl [0, 1, 2, 3, 4, 5, 6] rfl)
  exact key _ _ _ _ _ _ _ (Nat.lt_succ_self _) h0 hw hl
set_option maxHeartbeats 4000000 in
theorem mX19_readUnlike (l : Launch) (G : GT) (u : Hp) (a0 : Nat) (a1 : Nat) (x2 : Int32) (x3 : Int32) (x4 : Int32) (K : Hp → Prop) (h : pX19_readUnlike u a0 a1 x2 x3 x4 K) : Met l yX19_readUnlike (ws_ yX19_readUnlike cX19_readUnlike 8 none) (rmX19_readUnlike 0 0) (va_Pc [.ref a0, .ref a1, .int x2, .int x3, .int x4] (GB G u)) (va_Qv K (fun u t => GH G u t.heap) (GA G)) 0 0 (GA G) := by
  refine Met.ofW (cc := cX19_readUnlike) (maxL := 8) (ret := none) (by decide) rfl ?_
  intro p e s m args below meth c s₁ B hml hv
  obtain ⟨rfl, hv⟩ := hv
  have X := Mc_of (own := RX19) B hml rfl hv
  have hw : GW G u s s.heap [] := ⟨hv.2.1, va_S.rf⟩
  have hr := B.returns
  obtain ⟨hx, hb, hml, hown, hts, -⟩ := id X
  have hl := lv_entry ([.ref a0, .ref a1, .int x2, .int x3, .int x4]) (n := 8) (Nat.le_of_ble_eq_true rfl)
  rw [lg_entry_eq]
  generalize (lg_sl ([.ref a0, .ref a1, .int x2, .int x3, .int x4]) ++ List.replicate (8 - (lg_sl ([.ref a0, .ref a1, .int x2, .int x3, .int x4])).length) Slot.unset).toArray = ls at hl ⊢
  have hl : lv_has ls 8 [(0, .ref a0), (1, .ref a1), (2, .int x2), (3, .int x3), (4, .int x4)] := hl
  change W p l e (rmX19_readUnlike 0 0) s m _ below meth c s.heap [] 0 0 (QV G below K _ s 0 0) (F0 m 0 ls [])
  unfold pX19_readUnlike at h
  refine lv_iconst (v := 0) hx hb dX19_readUnlike_0 (by decide) ?_
  refine lv_istore (lv' := [(5, .int 0), (0, .ref a0), (1, .ref a1), (2, .int x2), (3, .int x3), (4, .int x4)]) hx hb dX19_readUnlike_1 hl (by decide) rfl (fun ls hl => ?_)
  refine lv_iconst (v := 0) hx hb dX19_readUnlike_3 (by decide) ?_
  refine lv_istore (lv' := [(6, .int 0), (5, .int 0), (0, .ref a0), (1, .ref a1), (2, .int x2), (3, .int x3), (4, .int x4)]) hx hb dX19_readUnlike_4 hl (by decide) rfl (fun ls hl => ?_)
  exact wX19_readUnlike_6 X hr  h hw (lv_sub hl [2, 3, 4, 5, 6, 1, 0] rfl)

/-! FifthCardModel.eatsSign(I)Z -/
theorem ydX19_eatsSign : yX19_eatsSign.cls = "FifthCardModel" ∧ yX19_eatsSign.cls ≠ "java/lang/invoke/MethodHandle" ∧ yX19_eatsSign.cls ≠ "java/lang/invoke/VarHandle" ∧ (parseMethodDescriptor yX19_eatsSign.desc).map (fun d => d.parameters.length) = some 1 := by decide +kernel
def rmX19_eatsSign (mc ms : Nat) : Room := { frames := 2, cells := mc, slots := ms, locals := 43 }
set_option maxHeartbeats 4000000 in
theorem wX19_eatsSign_20 {G : GT} {p : Program} {l : Launch} {e : Env} {s : State} {m : MethodId} {args : Array Value} {below : List Frame} {meth : Method} {c : Code} {H : Heap} {locs : List Loc} {ls : Array Slot} {a0 : Nat} {u : Hp} {K : Int32 → Hp → Prop} (X : Mc G p s m args meth c RX19 cX19_eatsSign 3) (hr : meth.sig.returnType = (some .boolean)) (h : bX19_eatsSign_20 K a0 u) (hw : GW G u s H locs) (hl : lv_has ls 3 [(0, .ref a0)]) : W p l e (rmX19_eatsSign 0 0) s m args below meth c H locs 0 0 (QI G below K args s 0 0) (F0 m 20 ls []) := by
  obtain ⟨hx, hb, hml, hown, hts, -⟩ := id X
  unfold bX19_eatsSign_20 at h
  refine lv_iconst (v := 0) hx hb dX19_eatsSign_20 (by decide) ?_
  refine lv_istore_n (lv' := [(2, .int 0), (0, .ref a0)]) hx hb dX19_eatsSign_21 rfl hl (by decide) rfl (fun ls hl => ?_)
  refine lv_iload_n hx hb dX19_eatsSign_22 rfl (lv_at hl 0 rfl) ?_
  refine lv_if_eq (tgt := 30) hx hb dX19_eatsSign_23 rfl (fun c_1 => ?_) (fun c_1 => ?_)
  · refine lv_iload_n hx hb dX19_eatsSign_30 rfl (lv_at hl 0 rfl) ?_
    exact g_zret X hw hr rfl h (Nat.le_refl _) (Nat.le_refl _) dX19_eatsSign_31
  · first | exact absurd (by decide) c_1 | exact absurd c_1 (by decide)
set_option maxHeartbeats 4000000 in
theorem mX19_eatsSign (l : Launch) (G : GT) (u : Hp) (a0 : Nat) (x1 : Int32) (K : Int32 → Hp → Prop) (h : pX19_eatsSign u a0 x1 K) : Met l yX19_eatsSign (ws_ yX19_eatsSign cX19_eatsSign 3 (some .boolean)) (rmX19_eatsSign 0 0) (va_Pc [.ref a0, .int x1] (GB G u)) (va_Qi K (fun u t => GH G u t.heap) (GA G)) 0 0 (GA G) := by
  refine Met.ofW (cc := cX19_eatsSign) (maxL := 3) (ret := (some .boolean)) (by decide) rfl ?_
  intro p e s m args below meth c s₁ B hml hv
  obtain ⟨rfl, hv⟩ := hv
  have X := Mc_of (own := RX19) B hml rfl hv
  have hw : GW G u s s.heap [] := ⟨hv.2.1, va_S.rf⟩
  have hr := B.returns
  obtain ⟨hx, hb, hml, hown, hts, -⟩ := id X
  have hl := lv_entry ([.ref a0, .int x1]) (n := 3) (Nat.le_of_ble_eq_true rfl)
  rw [lg_entry_eq]
  generalize (lg_sl ([.ref a0, .int x1]) ++ List.replicate (3 - (lg_sl ([.ref a0, .int x1])).length) Slot.unset).toArray = ls at hl ⊢
  have hl : lv_has ls 3 [(0, .ref a0), (1, .int x1)] := hl
  change W p l e (rmX19_eatsSign 0 0) s m _ below meth c s.heap [] 0 0 (QI G below K _ s 0 0) (F0 m 0 ls [])
  unfold pX19_eatsSign at h
  refine lv_aload_n hx hb dX19_eatsSign_0 rfl (lv_at hl 0 rfl) ?_
  have hk_2 : kd u a0 = 16 := h.1
  have h := h.2
  refine g_getI X hw in_X19 hk_2 rfl 9 rfl (by decide) q1460 (fun _ z => z) dX19_eatsSign_1 ?_
  refine lv_iconst (v := 4) hx hb dX19_eatsSign_4 (by decide) ?_
  refine lv_icmp_ne (tgt := 20) hx hb dX19_eatsSign_5 rfl (fun c_6 => ?_) (fun c_6 => ?_)
  · have h := h.2 c_6
    exact wX19_eatsSign_20 X hr  h hw (lv_sub hl [0] rfl)
  · have h := h.1 c_6
    refine lv_aload_n hx hb dX19_eatsSign_8 rfl (lv_at hl 0 rfl) ?_
    refine g_getI X hw in_X19 hk_2 rfl 11 rfl (by decide) q1462 (fun _ z => z) dX19_eatsSign_9 ?_
    refine lv_iload_n hx hb dX19_eatsSign_12 rfl (lv_at hl 1 rfl) ?_
    refine lv_icmp_ne (tgt := 20) hx hb dX19_eatsSign_13 rfl (fun c_5 => ?_) (fun c_5 => ?_)
    · have h := h.2 c_5
      exact wX19_eatsSign_20 X hr  h hw (lv_sub hl [0] rfl)
    · have h := h.1 c_5
      refine lv_iconst (v := 1) hx hb dX19_eatsSign_16 (by decide) ?_
      refine lv_goto (tgt := 21) hx hb dX19_eatsSign_17 rfl ?_
      refine lv_istore_n (lv' := [(2, .int 1), (0, .ref a0), (1, .int x1)]) hx hb dX19_eatsSign_21 rfl hl (by decide) rfl (fun ls hl => ?_)
      refine lv_iload_n hx hb dX19_eatsSign_22 rfl (lv_at hl 0 rfl) ?_
      refine lv_if_eq (tgt := 30) hx hb dX19_eatsSign_23 rfl (fun c_4 => ?_) (fun c_4 => ?_)
      · first | exact absurd c_4 (by decide) | exact absurd (by decide) c_4
      · refine lv_aload_n hx hb dX19_eatsSign_26 rfl (lv_at hl 1 rfl) ?_
        refine g_callv hw (g_V X hw (mX19_goesOn l G _ _ _ h) 0 (lw_V q1669 q1671 qs48 q143 q1672) rfl rfl ydX19_goesOn ⟨Nat.le_of_ble_eq_true rfl, Nat.le_of_ble_eq_true rfl⟩ (g_recv X hw (ci := 15) (q := (RX19, TX19, 46)) hk_2 rfl) (As := []) (rest := []) rfl hl.1 rfl (Nat.le_of_ble_eq_true rfl) dX19_eatsSign_27 ⟨Nat.le_refl _, Nat.le_refl _⟩) (fun u_3 H locs h hw => ?_)
        refine lv_iload_n hx hb dX19_eatsSign_30 rfl (lv_at hl 0 rfl) ?_
        exact g_zret X hw hr rfl h (Nat.le_refl _) (Nat.le_refl _) dX19_eatsSign_31

/-! FifthCardModel.readPlaces()I -/
theorem ydX19_readPlaces : yX19_readPlaces.cls = "FifthCardModel" ∧ yX19_readPlaces.cls ≠ "java/lang/invoke/MethodHandle" ∧ yX19_readPlaces.cls ≠ "java/lang/invoke/VarHandle" ∧ (parseMethodDescriptor yX19_readPlaces.desc).map (fun d => d.parameters.length) = some 0 := by decide +kernel
def rmX19_readPlaces (mc ms : Nat) : Room := { frames := 3, cells := mc, slots := ms, locals := 65 }
set_option maxHeartbeats 4000000 in
theorem wX19_readPlaces_45 {G : GT} {p : Program} {l : Launch} {e : Env} {s : State} {m : MethodId} {args : Array Value} {below : List Frame} {meth : Method} {c : Code} {H : Heap} {locs : List Loc} {ls : Array Slot} {a0 : Nat} {x1 : Int32} {x3 : Int32} {u : Hp} {K : Int32 → Hp → Prop} {J4 : Int32 → Int32 → Hp → Prop} (X : Mc G p s m args meth c RX19 cX19_readPlaces 4) (hr : meth.sig.returnType = (some .int)) (hJ4 : ∀ (x1 : Int32) (x2 : Int32) (u : Hp) (H : Heap) (locs : List Loc) (ls : Array Slot) , J4 x1 x2 u → GW G u s H locs → lv_has ls 4 [(0, .ref a0), (1, .int x1), (2, .int x2)] → W p l e (rmX19_readPlaces 0 0) s m args below meth c H locs 0 0 (QI G below K args s 0 0) (F0 m 4 ls [])) (h : bX19_readPlaces_45 K J4 a0 x1 x3 u) (hw : GW G u s H locs) (hl : lv_has ls 4 [(0, .ref a0), (1, .int x1), (3, .int x3)]) : W p l e (rmX19_readPlaces 0 0) s m args below meth c H locs 0 0 (QI G below K args s 0 0) (F0 m 45 ls []) := by
  obtain ⟨hx, hb, hml, hown, hts, -⟩ := id X
  unfold bX19_readPlaces_45 at h
  refine lv_aload_n hx hb dX19_readPlaces_45 rfl (lv_at hl 0 rfl) ?_
  have hk_1 : kd u a0 = 16 := h.1
  have h := h.2
  refine g_callv hw (g_V X hw (mX19_goesOn l G _ _ _ h) 0 (lw_V q1669 q1671 qs48 q143 q1672) rfl rfl ydX19_goesOn ⟨Nat.le_of_ble_eq_true rfl, Nat.le_of_ble_eq_true rfl⟩ (g_recv X hw (ci := 15) (q := (RX19, TX19, 46)) hk_1 rfl) (As := []) (rest := []) rfl hl.1 rfl (Nat.le_of_ble_eq_true rfl) dX19_readPlaces_46 ⟨Nat.le_refl _, Nat.le_refl _⟩) (fun u_2 H locs h hw => ?_)
  refine lv_iload_n hx hb dX19_readPlaces_49 rfl (lv_at hl 1 rfl) ?_
  refine lv_iconst (v := 1) hx hb dX19_readPlaces_50 (by decide) ?_
  refine lv_iload_n hx hb dX19_readPlaces_51 rfl (lv_at hl 2 rfl) ?_
  refine lv_ishl hx hb dX19_readPlaces_52 ?_
  refine lv_ior hx hb dX19_readPlaces_53 ?_
  refine lv_istore_n (lv' := [(1, .int (x1 ||| (jshl 1 x3))), (0, .ref a0), (3, .int x3)]) hx hb dX19_readPlaces_54 rfl hl (by decide) rfl (fun ls hl => ?_)
  refine lv_aload_n hx hb dX19_readPlaces_55 rfl (lv_at hl 1 rfl) ?_
  refine lv_bipush (v := 44) hx hb dX19_readPlaces_56 (by decide) ?_
  have hk_3 : kd u_2 a0 = 16 := h.1
  have h := h.2
  refine g_calli hw (g_V X hw (mX19_eatsSign l G _ _ _ _ h) 1 (lw_V q1823 q1825 qs67 q143 q1826) rfl rfl ydX19_eatsSign ⟨Nat.le_of_ble_eq_true rfl, Nat.le_of_ble_eq_true rfl⟩ (g_recv X hw (ci := 15) (q := (RX19, TX19, 46)) hk_3 rfl) (As := [.int 44]) (rest := []) rfl hl.1 rfl (Nat.le_of_ble_eq_true rfl) dX19_readPlaces_58 ⟨Nat.le_refl _, Nat.le_refl _⟩) (fun r_4 u_5 H locs h hw => ?_)
  refine lv_istore_n (lv' := [(2, .int r_4), (1, .int (x1 ||| (jshl 1 x3))), (0, .ref a0), (3, .int x3)]) hx hb dX19_readPlaces_61 rfl hl (by decide) rfl (fun ls hl => ?_)
  refine lv_goto (tgt := 4) hx hb dX19_readPlaces_62 rfl ?_
  exact hJ4 _ _ _ _ _ _ h hw (lv_sub hl [2, 1, 0] rfl)
set_option maxHeartbeats 4000000 in
theorem wX19_readPlaces_4 {G : GT} {p : Program} {l : Launch} {e : Env} {s : State} {m : MethodId} {args : Array Value} {below : List Frame} {meth : Method} {c : Code} {H : Heap} {locs : List Loc} {ls : Array Slot} {a0 : Nat} {x1 : Int32} {x2 : Int32} {u : Hp} {K : Int32 → Hp → Prop} (X : Mc G p s m args meth c RX19 cX19_readPlaces 4) (hr : meth.sig.returnType = (some .int)) (h : jl3 (bX19_readPlaces_4 K a0) x1 x2 u) (hw : GW G u s H locs) (hl : lv_has ls 4 [(0, .ref a0), (1, .int x1), (2, .int x2)]) : W p l e (rmX19_readPlaces 0 0) s m args below meth c H locs 0 0 (QI G below K args s 0 0) (F0 m 4 ls []) := by
  obtain ⟨hx, hb, hml, hown, hts, -⟩ := id X
  obtain ⟨I, μ, h0, hs⟩ := h
  have key : ∀ (n : Nat) (x1 : Int32) (x2 : Int32) (u : Hp) (H : Heap) (locs : List Loc) (ls : Array Slot) , μ x1 x2 u < n → I x1 x2 u → GW G u s H locs → lv_has ls 4 [(0, .ref a0), (1, .int x1), (2, .int x2)] → W p l e (rmX19_readPlaces 0 0) s m args below meth c H locs 0 0 (QI G below K args s 0 0) (F0 m 4 ls []) := by
    intro n
    induction n with
    | zero =>
      intro x1 x2 u H locs ls hn
      exact absurd hn (Nat.not_lt_zero _)
    | succ n ih =>
      intro x1 x2 u H locs ls hn hI hw hl
      have h := hs x1 x2 u hI
      unfold bX19_readPlaces_4 at h
      have hJ4 : ∀ (x1' : Int32) (x2' : Int32) (u' : Hp) (H : Heap) (locs : List Loc) (ls : Array Slot) , (I x1' x2' u' ∧ μ x1' x2' u' < μ x1 x2 u) → GW G u' s H locs → lv_has ls 4 [(0, .ref a0), (1, .int x1'), (2, .int x2')] → W p l e (rmX19_readPlaces 0 0) s m args below meth c H locs 0 0 (QI G below K args s 0 0) (F0 m 4 ls []) := fun x1' x2' u' H locs ls h hw hl => ih x1' x2' u' H locs ls (Nat.lt_of_lt_of_le h.2 (Nat.le_of_lt_succ hn)) h.1 hw hl
      refine lv_iload_n hx hb dX19_readPlaces_4 rfl (lv_at hl 2 rfl) ?_
      refine lv_if_eq (tgt := 65) hx hb dX19_readPlaces_5 rfl (fun c_16 => ?_) (fun c_16 => ?_)
      · have h := h.1 c_16
        refine lv_iload_n hx hb dX19_readPlaces_65 rfl (lv_at hl 1 rfl) ?_
        exact g_iret X hw hr h (Nat.le_refl _) (Nat.le_refl _) dX19_readPlaces_66
      · have h := h.2 c_16
        refine lv_aload_n hx hb dX19_readPlaces_8 rfl (lv_at hl 0 rfl) ?_
        have hk_6 : kd u a0 = 16 := h.1
        have h := h.2
        refine g_getI X hw in_X19 hk_6 rfl 9 rfl (by decide) q1460 (fun _ z => z) dX19_readPlaces_9 ?_
        refine lv_iconst (v := 5) hx hb dX19_readPlaces_12 (by decide) ?_
        refine lv_icmp_eq (tgt := 65) hx hb dX19_readPlaces_13 rfl (fun c_15 => ?_) (fun c_15 => ?_)
        · have h := h.1 c_15
          refine lv_iload_n hx hb dX19_readPlaces_65 rfl (lv_at hl 1 rfl) ?_
          exact g_iret X hw hr h (Nat.le_refl _) (Nat.le_refl _) dX19_readPlaces_66
        · have h := h.2 c_15
          refine lv_aload_n hx hb dX19_readPlaces_16 rfl (lv_at hl 0 rfl) ?_
          refine lv_iconst (v := 0) hx hb dX19_readPlaces_17 (by decide) ?_
          refine lv_aload_n hx hb dX19_readPlaces_18 rfl (lv_at hl 0 rfl) ?_
          obtain ⟨b_7, e_8, h⟩ := h
          refine g_getR X hw in_X19 hk_6 rfl 4 rfl (by decide) q1455 (fun _ z => z) e_8 dX19_readPlaces_19 ?_
          have hk_9 : kd u b_7 = 20 := h.1
          have h := h.2
          refine g_getNI X hw (host := "FifthCardModel") in_X23 hk_9 rfl 4 rfl (by decide) (List.mem_of_getElem? (i := 7) rfl) (fun _ z => z) dX19_readPlaces_22 ?_
          refine lv_iconst (v := 1) hx hb dX19_readPlaces_25 (by decide) ?_
          refine lv_isub hx hb dX19_readPlaces_26 ?_
          refine g_calli hw (g_V X hw (mX19_bounded l G _ _ _ _ _ h) 2 (lw_V q1745 q1747 qs57 q143 q1748) rfl rfl ydX19_bounded ⟨Nat.le_of_ble_eq_true rfl, Nat.le_of_ble_eq_true rfl⟩ (g_recv X hw (ci := 15) (q := (RX19, TX19, 46)) hk_6 rfl) (As := [.int 0, .int ((FI u 2304 b_7) - 1)]) (rest := []) rfl hl.1 rfl (Nat.le_of_ble_eq_true rfl) dX19_readPlaces_27 ⟨Nat.le_refl _, Nat.le_refl _⟩) (fun r_10 u_11 H locs h hw => ?_)
          refine lv_istore_n (lv' := [(3, .int r_10), (0, .ref a0), (1, .int x1), (2, .int x2)]) hx hb dX19_readPlaces_30 rfl hl (by decide) rfl (fun ls hl => ?_)
          refine lv_iload_n hx hb dX19_readPlaces_31 rfl (lv_at hl 2 rfl) ?_
          refine lv_iload_n hx hb dX19_readPlaces_32 rfl (lv_at hl 0 rfl) ?_
          refine lv_ishr hx hb dX19_readPlaces_33 ?_
          refine lv_iconst (v := 1) hx hb dX19_readPlaces_34 (by decide) ?_
          refine lv_iand hx hb dX19_readPlaces_35 ?_
          refine lv_iconst (v := 1) hx hb dX19_readPlaces_36 (by decide) ?_
          refine lv_icmp_ne (tgt := 45) hx hb dX19_readPlaces_37 rfl (fun c_14 => ?_) (fun c_14 => ?_)
          · have h := h.2 c_14
            exact wX19_readPlaces_45 X hr hJ4  h hw (lv_sub hl [1, 2, 0] rfl)
          · have h := h.1 c_14
            refine lv_aload_n hx hb dX19_readPlaces_40 rfl (lv_at hl 1 rfl) ?_
            refine lv_iconst (v := 3) hx hb dX19_readPlaces_41 (by decide) ?_
            have hk_12 : kd u_11 a0 = 16 := h.1
            have h := h.2
            refine g_callv hw (g_V X hw (mX19_flaw l G _ _ _ _ h) 1 (lw_V q1732 q1734 qs54 q143 q1735) rfl rfl ydX19_flaw ⟨Nat.le_of_ble_eq_true rfl, Nat.le_of_ble_eq_true rfl⟩ (g_recv X hw (ci := 15) (q := (RX19, TX19, 46)) hk_12 rfl) (As := [.int 3]) (rest := []) rfl hl.1 rfl (Nat.le_of_ble_eq_true rfl) dX19_readPlaces_42 ⟨Nat.le_refl _, Nat.le_refl _⟩) (fun u_13 H locs h hw => ?_)
            exact wX19_readPlaces_45 X hr hJ4  h hw (lv_sub hl [1, 2, 0] rfl)
  exact key _ _ _ _ _ _ _ (Nat.lt_succ_self _) h0 hw hl
set_option maxHeartbeats 4000000 in
theorem mX19_readPlaces (l : Launch) (G : GT) (u : Hp) (a0 : Nat) (K : Int32 → Hp → Prop) (h : pX19_readPlaces u a0 K) : Met l yX19_readPlaces (ws_ yX19_readPlaces cX19_readPlaces 4 (some .int)) (rmX19_readPlaces 0 0) (va_Pc [.ref a0] (GB G u)) (va_Qi K (fun u t => GH G u t.heap) (GA G)) 0 0 (GA G) := by
  refine Met.ofW (cc := cX19_readPlaces) (maxL := 4) (ret := (some .int)) (by decide) rfl ?_
  intro p e s m args below meth c s₁ B hml hv
  obtain ⟨rfl, hv⟩ := hv
  have X := Mc_of (own := RX19) B hml rfl hv
  have hw : GW G u s s.heap [] := ⟨hv.2.1, va_S.rf⟩
  have hr := B.returns
  obtain ⟨hx, hb, hml, hown, hts, -⟩ := id X
  have hl := lv_entry ([.ref a0]) (n := 4) (Nat.le_of_ble_eq_true rfl)
  rw [lg_entry_eq]
  generalize (lg_sl ([.ref a0]) ++ List.replicate (4 - (lg_sl ([.ref a0])).length) Slot.unset).toArray = ls at hl ⊢
  have hl : lv_has ls 4 [(0, .ref a0)] := hl
  change W p l e (rmX19_readPlaces 0 0) s m _ below meth c s.heap [] 0 0 (QI G below K _ s 0 0) (F0 m 0 ls [])
  unfold pX19_readPlaces at h
  refine lv_iconst (v := 0) hx hb dX19_readPlaces_0 (by decide) ?_
  refine lv_istore_n (lv' := [(1, .int 0), (0, .ref a0)]) hx hb dX19_readPlaces_1 rfl hl (by decide) rfl (fun ls hl => ?_)
  refine lv_iconst (v := 1) hx hb dX19_readPlaces_2 (by decide) ?_
  refine lv_istore_n (lv' := [(2, .int 1), (1, .int 0), (0, .ref a0)]) hx hb dX19_readPlaces_3 rfl hl (by decide) rfl (fun ls hl => ?_)
  exact wX19_readPlaces_4 X hr  h hw (lv_sub hl [2, 1, 0] rfl)

/-! FifthCardModel.readEvening()V -/
theorem ydX19_readEvening : yX19_readEvening.cls = "FifthCardModel" ∧ yX19_readEvening.cls ≠ "java/lang/invoke/MethodHandle" ∧ yX19_readEvening.cls ≠ "java/lang/invoke/VarHandle" ∧ (parseMethodDescriptor yX19_readEvening.desc).map (fun d => d.parameters.length) = some 0 := by decide +kernel
def rmX19_readEvening (mc ms : Nat) : Room := { frames := 7, cells := mc, slots := ms, locals := 151 }
set_option maxHeartbeats 4000000 in
theorem wX19_readEvening_117 {G : GT} {p : Program} {l : Launch} {e : Env} {s : State} {m : MethodId} {args : Array Value} {below : List Frame} {meth : Method} {c : Code} {H : Heap} {locs : List Loc} {ls : Array Slot} {a0 : Nat} {z0 : Int32} {u : Hp} {K : Hp → Prop} (X : Mc G p s m args meth c RX19 cX19_readEvening 3) (hr : meth.sig.returnType = none) (h : bX19_readEvening_117 K (Glit G) a0 z0 u) (hw : GW G u s H locs) (hl : lv_has ls 3 [(0, .ref a0)]) : W p l e (rmX19_readEvening 0 0) s m args below meth c H locs 0 0 (QV G below K args s 0 0) (F0 m 117 ls [.int z0]) := by
  obtain ⟨hx, hb, hml, hown, hts, -⟩ := id X
  unfold bX19_readEvening_117 at h
  refine lv_istore_n (lv' := [(2, .int z0), (0, .ref a0)]) hx hb dX19_readEvening_117 rfl hl (by decide) rfl (fun ls hl => ?_)
  refine lv_aload_n hx hb dX19_readEvening_118 rfl (lv_at hl 1 rfl) ?_
  have hk_1 : kd u a0 = 16 := h.1
  have h := h.2
  refine g_getI X hw in_X19 hk_1 rfl 9 rfl (by decide) q1460 (fun _ z => z) dX19_readEvening_119 ?_
  refine lv_iconst (v := 5) hx hb dX19_readEvening_122 (by decide) ?_
  refine lv_icmp_ne (tgt := 127) hx hb dX19_readEvening_123 rfl (fun c_8 => ?_) (fun c_8 => ?_)
  · have h := h.2 c_8
    refine lv_aload_n hx hb dX19_readEvening_127 rfl (lv_at hl 1 rfl) ?_
    obtain ⟨b_2, e_3, h⟩ := h
    refine g_getR X hw in_X19 hk_1 rfl 4 rfl (by decide) q1455 (fun _ z => z) e_3 dX19_readEvening_128 ?_
    have hk_4 : kd u b_2 = 20 := h.1
    have h := h.2
    obtain ⟨b_5, e_6, h⟩ := h
    refine g_getNR X hw (host := "FifthCardModel") in_X23 hk_4 rfl 13 rfl (by decide) (List.mem_of_getElem? (i := 14) rfl) (fun _ z => z) e_6 dX19_readEvening_131 ?_
    refine lv_aload_n hx hb dX19_readEvening_134 rfl (lv_at hl 1 rfl) ?_
    refine g_getR X hw in_X19 hk_1 rfl 4 rfl (by decide) q1455 (fun _ z => z) e_3 dX19_readEvening_135 ?_
    refine g_getNI X hw (host := "FifthCardModel") in_X23 hk_4 rfl 6 rfl (by decide) (List.mem_of_getElem? (i := 11) rfl) (fun _ z => z) dX19_readEvening_138 ?_
    refine lv_iload_n hx hb dX19_readEvening_141 rfl (lv_at hl 0 rfl) ?_
    have hk_7 : kd u b_5 = 101 := h.1
    have h := h.2
    refine g_iast X hw hk_7 h.1 dX19_readEvening_142 (fun H locs hw => ?_)
    have h := h.2
    refine lv_aload_n hx hb dX19_readEvening_143 rfl (lv_at hl 1 rfl) ?_
    refine g_getR X hw in_X19 hk_1 rfl 4 rfl (by decide) q1455 (fun _ z => z) e_3 dX19_readEvening_144 ?_
    refine lv_dup hx hb dX19_readEvening_147 rfl ?_
    refine g_getNI X hw (host := "FifthCardModel") in_X23 hk_4 rfl 6 rfl (by decide) (List.mem_of_getElem? (i := 11) rfl) (fun _ z => z) dX19_readEvening_148 ?_
    refine lv_iconst (v := 1) hx hb dX19_readEvening_151 (by decide) ?_
    refine lv_iadd hx hb dX19_readEvening_152 ?_
    refine g_putNI (v := (FI u 2306 b_2) + 1) X hw (host := "FifthCardModel") in_X23 tyX23_ok nmX23 hk_4 rfl 6 rfl (by decide) (List.mem_of_getElem? (i := 11) rfl) (fun _ z => z) rfl rfl rfl dX19_readEvening_153 (fun H locs hw => ?_)
    exact g_vret X hw hr h (Nat.le_refl _) (Nat.le_refl _) dX19_readEvening_156
  · have h := h.1 c_8
    exact g_vret X hw hr h (Nat.le_refl _) (Nat.le_refl _) dX19_readEvening_126
set_option maxHeartbeats 4000000 in
theorem mX19_readEvening (l : Launch) (G : GT) (u : Hp) (a0 : Nat) (K : Hp → Prop) (h : pX19_readEvening (Glit G) u a0 K) : Met l yX19_readEvening (ws_ yX19_readEvening cX19_readEvening 3 none) (rmX19_readEvening 0 0) (va_Pc [.ref a0] (GB G u)) (va_Qv K (fun u t => GH G u t.heap) (GA G)) 0 0 (GA G) := by
  refine Met.ofW (cc := cX19_readEvening) (maxL := 3) (ret := none) (by decide) rfl ?_
  intro p e s m args below meth c s₁ B hml hv
  obtain ⟨rfl, hv⟩ := hv
  have X := Mc_of (own := RX19) B hml rfl hv
  have hw : GW G u s s.heap [] := ⟨hv.2.1, va_S.rf⟩
  have hr := B.returns
  obtain ⟨hx, hb, hml, hown, hts, -⟩ := id X
  have hl := lv_entry ([.ref a0]) (n := 3) (Nat.le_of_ble_eq_true rfl)
  rw [lg_entry_eq]
  generalize (lg_sl ([.ref a0]) ++ List.replicate (3 - (lg_sl ([.ref a0])).length) Slot.unset).toArray = ls at hl ⊢
  have hl : lv_has ls 3 [(0, .ref a0)] := hl
  change W p l e (rmX19_readEvening 0 0) s m _ below meth c s.heap [] 0 0 (QV G below K _ s 0 0) (F0 m 0 ls [])
  unfold pX19_readEvening at h
  refine lv_aload_n hx hb dX19_readEvening_0 rfl (lv_at hl 0 rfl) ?_
  refine lv_aload_n hx hb dX19_readEvening_1 rfl (lv_at hl 0 rfl) ?_
  have hk_9 : kd u a0 = 16 := h.1
  have h := h.2
  obtain ⟨b_10, e_11, h⟩ := h
  refine g_getR X hw in_X19 hk_9 rfl 4 rfl (by decide) q1455 (fun _ z => z) e_11 dX19_readEvening_2 ?_
  have hk_12 : kd u b_10 = 20 := h.1
  have h := h.2
  refine g_getNI X hw (host := "FifthCardModel") in_X23 hk_12 rfl 6 rfl (by decide) (List.mem_of_getElem? (i := 11) rfl) (fun _ z => z) dX19_readEvening_5 ?_
  refine lv_bipush (v := 9) hx hb dX19_readEvening_8 (by decide) ?_
  refine g_callv hw (g_V X hw (mX19_begins l G _ _ _ _ _ h) 2 (lw_V q1780 q1782 qs60 q143 q1783) rfl rfl ydX19_begins ⟨Nat.le_of_ble_eq_true rfl, Nat.le_of_ble_eq_true rfl⟩ (g_recv X hw (ci := 15) (q := (RX19, TX19, 46)) hk_9 rfl) (As := [.int (FI u 2306 b_10), .int 9]) (rest := []) rfl hl.1 rfl (Nat.le_of_ble_eq_true rfl) dX19_readEvening_10 ⟨Nat.le_refl _, Nat.le_refl _⟩) (fun u_13 H locs h hw => ?_)
  refine lv_aload_n hx hb dX19_readEvening_13 rfl (lv_at hl 0 rfl) ?_
  have hk_14 : kd u_13 a0 = 16 := h.1
  have h := h.2
  refine g_getI X hw in_X19 hk_14 rfl 9 rfl (by decide) q1460 (fun _ z => z) dX19_readEvening_14 ?_
  refine lv_iconst (v := 5) hx hb dX19_readEvening_17 (by decide) ?_
  refine lv_icmp_ne (tgt := 22) hx hb dX19_readEvening_18 rfl (fun c_41 => ?_) (fun c_41 => ?_)
  · have h := h.2 c_41
    refine lv_iconst (v := 5) hx hb dX19_readEvening_22 (by decide) ?_
    refine lv_aload_n hx hb dX19_readEvening_23 rfl (lv_at hl 0 rfl) ?_
    obtain ⟨b_15, e_16, h⟩ := h
    refine g_getR X hw in_X19 hk_14 rfl 4 rfl (by decide) q1455 (fun _ z => z) e_16 dX19_readEvening_24 ?_
    have hk_17 : kd u_13 b_15 = 20 := h.1
    have h := h.2
    refine g_getNI X hw (host := "FifthCardModel") in_X23 hk_17 rfl 6 rfl (by decide) (List.mem_of_getElem? (i := 11) rfl) (fun _ z => z) dX19_readEvening_27 ?_
    refine lv_imul hx hb dX19_readEvening_30 ?_
    refine lv_istore_n (lv' := [(1, .int (5 * (FI u_13 2306 b_15))), (0, .ref a0)]) hx hb dX19_readEvening_31 rfl hl (by decide) rfl (fun ls hl => ?_)
    refine lv_aload_n hx hb dX19_readEvening_32 rfl (lv_at hl 1 rfl) ?_
    refine lv_aload_n hx hb dX19_readEvening_33 rfl (lv_at hl 1 rfl) ?_
    refine g_getR X hw in_X19 hk_14 rfl 4 rfl (by decide) q1455 (fun _ z => z) e_16 dX19_readEvening_34 ?_
    obtain ⟨b_18, e_19, h⟩ := h
    refine g_getNR X hw (host := "FifthCardModel") in_X23 hk_17 rfl 11 rfl (by decide) (List.mem_of_getElem? (i := 12) rfl) (fun _ z => z) e_19 dX19_readEvening_37 ?_
    refine lv_iload_n hx hb dX19_readEvening_40 rfl (lv_at hl 0 rfl) ?_
    refine lv_aload_n hx hb dX19_readEvening_41 rfl (lv_at hl 1 rfl) ?_
    refine g_getR X hw in_X19 hk_14 rfl 4 rfl (by decide) q1455 (fun _ z => z) e_16 dX19_readEvening_42 ?_
    refine g_getNI X hw (host := "FifthCardModel") in_X23 hk_17 rfl 2 rfl (by decide) (List.mem_of_getElem? (i := 2) rfl) (fun _ z => z) dX19_readEvening_45 ?_
    refine lv_aload_n hx hb dX19_readEvening_48 rfl (lv_at hl 1 rfl) ?_
    refine g_getR X hw in_X19 hk_14 rfl 4 rfl (by decide) q1455 (fun _ z => z) e_16 dX19_readEvening_49 ?_
    refine g_getNI X hw (host := "FifthCardModel") in_X23 hk_17 rfl 0 rfl (by decide) (List.mem_of_getElem? (i := 0) rfl) (fun _ z => z) dX19_readEvening_52 ?_
    refine g_callv hw (g_V X hw (mX19_readUnlike l G _ _ _ _ _ _ _ h) 4 (lw_V q1811 q1813 qs64 q143 q1814) rfl rfl ydX19_readUnlike ⟨Nat.le_of_ble_eq_true rfl, Nat.le_of_ble_eq_true rfl⟩ (g_recv X hw (ci := 15) (q := (RX19, TX19, 46)) hk_14 rfl) (As := [.ref b_18, .int (5 * (FI u_13 2306 b_15)), .int (FI u_13 2302 b_15), .int (FI u_13 2300 b_15)]) (rest := []) rfl hl.1 rfl (Nat.le_of_ble_eq_true rfl) dX19_readEvening_55 ⟨Nat.le_refl _, Nat.le_refl _⟩) (fun u_20 H locs h hw => ?_)
    refine lv_aload_n hx hb dX19_readEvening_58 rfl (lv_at hl 1 rfl) ?_
    refine va_ldcS (tx := "shows") hx hb hown (X.2.2.2.2.2.2.1.2.2.2.2.2.2.1 30 ("FifthCardModel", 186, "shows") rfl) dX19_readEvening_59 ?_
    have hk_21 : kd u_20 a0 = 16 := h.1
    have h := h.2
    refine g_callv hw (g_V X hw (mX19_needs l G _ _ _ _ h) 1 (lw_V q1741 q1743 qs56 q143 q1744) rfl rfl ydX19_needs ⟨Nat.le_of_ble_eq_true rfl, Nat.le_of_ble_eq_true rfl⟩ (g_recv X hw (ci := 15) (q := (RX19, TX19, 46)) hk_21 rfl) (As := [.ref (Glit G 30)]) (rest := []) rfl hl.1 rfl (Nat.le_of_ble_eq_true rfl) dX19_readEvening_61 ⟨Nat.le_refl _, Nat.le_refl _⟩) (fun u_22 H locs h hw => ?_)
    refine lv_aload_n hx hb dX19_readEvening_64 rfl (lv_at hl 1 rfl) ?_
    refine lv_aload_n hx hb dX19_readEvening_65 rfl (lv_at hl 1 rfl) ?_
    have hk_23 : kd u_22 a0 = 16 := h.1
    have h := h.2
    obtain ⟨b_24, e_25, h⟩ := h
    refine g_getR X hw in_X19 hk_23 rfl 4 rfl (by decide) q1455 (fun _ z => z) e_25 dX19_readEvening_66 ?_
    have hk_26 : kd u_22 b_24 = 20 := h.1
    have h := h.2
    obtain ⟨b_27, e_28, h⟩ := h
    refine g_getNR X hw (host := "FifthCardModel") in_X23 hk_26 rfl 12 rfl (by decide) (List.mem_of_getElem? (i := 13) rfl) (fun _ z => z) e_28 dX19_readEvening_69 ?_
    refine lv_iload_n hx hb dX19_readEvening_72 rfl (lv_at hl 0 rfl) ?_
    refine lv_aload_n hx hb dX19_readEvening_73 rfl (lv_at hl 1 rfl) ?_
    refine g_getR X hw in_X19 hk_23 rfl 4 rfl (by decide) q1455 (fun _ z => z) e_25 dX19_readEvening_74 ?_
    refine g_getNI X hw (host := "FifthCardModel") in_X23 hk_26 rfl 4 rfl (by decide) (List.mem_of_getElem? (i := 7) rfl) (fun _ z => z) dX19_readEvening_77 ?_
    refine lv_aload_n hx hb dX19_readEvening_80 rfl (lv_at hl 1 rfl) ?_
    refine g_getR X hw in_X19 hk_23 rfl 4 rfl (by decide) q1455 (fun _ z => z) e_25 dX19_readEvening_81 ?_
    refine g_getNI X hw (host := "FifthCardModel") in_X23 hk_26 rfl 0 rfl (by decide) (List.mem_of_getElem? (i := 0) rfl) (fun _ z => z) dX19_readEvening_84 ?_
    refine g_callv hw (g_V X hw (mX19_readUnlike l G _ _ _ _ _ _ _ h) 4 (lw_V q1811 q1813 qs64 q143 q1814) rfl rfl ydX19_readUnlike ⟨Nat.le_of_ble_eq_true rfl, Nat.le_of_ble_eq_true rfl⟩ (g_recv X hw (ci := 15) (q := (RX19, TX19, 46)) hk_23 rfl) (As := [.ref b_27, .int (5 * (FI u_13 2306 b_15)), .int (FI u_22 2304 b_24), .int (FI u_22 2300 b_24)]) (rest := []) rfl hl.1 rfl (Nat.le_of_ble_eq_true rfl) dX19_readEvening_87 ⟨Nat.le_refl _, Nat.le_refl _⟩) (fun u_29 H locs h hw => ?_)
    refine lv_aload_n hx hb dX19_readEvening_90 rfl (lv_at hl 1 rfl) ?_
    have hk_30 : kd u_29 a0 = 16 := h.1
    have h := h.2
    obtain ⟨b_31, e_32, h⟩ := h
    refine g_getR X hw in_X19 hk_30 rfl 4 rfl (by decide) q1455 (fun _ z => z) e_32 dX19_readEvening_91 ?_
    have hk_33 : kd u_29 b_31 = 20 := h.1
    have h := h.2
    refine g_getNI X hw (host := "FifthCardModel") in_X23 hk_33 rfl 9 rfl (by decide) (List.mem_of_getElem? (i := 4) rfl) (fun _ z => z) dX19_readEvening_94 ?_
    refine lv_if_eq (tgt := 116) hx hb dX19_readEvening_97 rfl (fun c_40 => ?_) (fun c_40 => ?_)
    · have h := h.1 c_40
      refine lv_iconst (v := 0) hx hb dX19_readEvening_116 (by decide) ?_
      exact wX19_readEvening_117 X hr  h hw (lv_sub hl [1] rfl)
    · have h := h.2 c_40
      refine lv_aload_n hx hb dX19_readEvening_100 rfl (lv_at hl 1 rfl) ?_
      refine va_ldcS (tx := "tilted") hx hb hown (X.2.2.2.2.2.2.1.2.2.2.2.2.2.1 31 ("FifthCardModel", 188, "tilted") rfl) dX19_readEvening_101 ?_
      refine g_calli hw (g_V X hw (mX19_eatsWord l G _ _ _ _ h) 1 (lw_V q1770 q1772 qs58 q143 q1773) rfl rfl ydX19_eatsWord ⟨Nat.le_of_ble_eq_true rfl, Nat.le_of_ble_eq_true rfl⟩ (g_recv X hw (ci := 15) (q := (RX19, TX19, 46)) hk_30 rfl) (As := [.ref (Glit G 31)]) (rest := []) rfl hl.1 rfl (Nat.le_of_ble_eq_true rfl) dX19_readEvening_103 ⟨Nat.le_refl _, Nat.le_refl _⟩) (fun r_34 u_35 H locs h hw => ?_)
      refine lv_if_eq (tgt := 116) hx hb dX19_readEvening_106 rfl (fun c_39 => ?_) (fun c_39 => ?_)
      · have h := h.1 c_39
        refine lv_iconst (v := 0) hx hb dX19_readEvening_116 (by decide) ?_
        exact wX19_readEvening_117 X hr  h hw (lv_sub hl [1] rfl)
      · have h := h.2 c_39
        refine lv_aload_n hx hb dX19_readEvening_109 rfl (lv_at hl 1 rfl) ?_
        have hk_36 : kd u_35 a0 = 16 := h.1
        have h := h.2
        refine g_calli hw (g_V X hw (mX19_readPlaces l G _ _ _ h) 0 (lw_V q1819 q1821 qs66 q143 q1822) rfl rfl ydX19_readPlaces ⟨Nat.le_of_ble_eq_true rfl, Nat.le_of_ble_eq_true rfl⟩ (g_recv X hw (ci := 15) (q := (RX19, TX19, 46)) hk_36 rfl) (As := []) (rest := []) rfl hl.1 rfl (Nat.le_of_ble_eq_true rfl) dX19_readEvening_110 ⟨Nat.le_refl _, Nat.le_refl _⟩) (fun r_37 u_38 H locs h hw => ?_)
        refine lv_goto (tgt := 117) hx hb dX19_readEvening_113 rfl ?_
        exact wX19_readEvening_117 X hr  h hw (lv_sub hl [1] rfl)
  · have h := h.1 c_41
    exact g_vret X hw hr h (Nat.le_refl _) (Nat.le_refl _) dX19_readEvening_21

/-! FifthCardModel.readLine()V -/
theorem ydX19_readLine : yX19_readLine.cls = "FifthCardModel" ∧ yX19_readLine.cls ≠ "java/lang/invoke/MethodHandle" ∧ yX19_readLine.cls ≠ "java/lang/invoke/VarHandle" ∧ (parseMethodDescriptor yX19_readLine.desc).map (fun d => d.parameters.length) = some 0 := by decide +kernel
def rmX19_readLine (mc ms : Nat) : Room := { frames := 9, cells := mc, slots := ms, locals := 198 }
set_option maxHeartbeats 4000000 in
theorem mX19_readLine (l : Launch) (G : GT) (u : Hp) (a0 : Nat) (K : Hp → Prop) (h : pX19_readLine (Glit G) u a0 K) : Met l yX19_readLine (ws_ yX19_readLine cX19_readLine 1 none) (rmX19_readLine 0 0) (va_Pc [.ref a0] (GB G u)) (va_Qv K (fun u t => GH G u t.heap) (GA G)) 0 0 (GA G) := by
  refine Met.ofW (cc := cX19_readLine) (maxL := 1) (ret := none) (by decide) rfl ?_
  intro p e s m args below meth c s₁ B hml hv
  obtain ⟨rfl, hv⟩ := hv
  have X := Mc_of (own := RX19) B hml rfl hv
  have hw : GW G u s s.heap [] := ⟨hv.2.1, va_S.rf⟩
  have hr := B.returns
  obtain ⟨hx, hb, hml, hown, hts, -⟩ := id X
  have hl := lv_entry ([.ref a0]) (n := 1) (Nat.le_of_ble_eq_true rfl)
  rw [lg_entry_eq]
  generalize (lg_sl ([.ref a0]) ++ List.replicate (1 - (lg_sl ([.ref a0])).length) Slot.unset).toArray = ls at hl ⊢
  have hl : lv_has ls 1 [(0, .ref a0)] := hl
  change W p l e (rmX19_readLine 0 0) s m _ below meth c s.heap [] 0 0 (QV G below K _ s 0 0) (F0 m 0 ls [])
  unfold pX19_readLine at h
  refine lv_aload_n hx hb dX19_readLine_0 rfl (lv_at hl 0 rfl) ?_
  refine va_ldcS (tx := "trick") hx hb hown (X.2.2.2.2.2.2.1.2.2.2.2.2.2.1 27 ("FifthCardModel", 180, "trick") rfl) dX19_readLine_1 ?_
  have hk_1 : kd u a0 = 16 := h.1
  have h := h.2
  refine g_callio hw (g_V X hw (mX19_isWord l G _ _ _ _ h) 1 (lw_V q1693 q1695 qs52 q143 q1696) rfl rfl ydX19_isWord ⟨Nat.le_of_ble_eq_true rfl, Nat.le_of_ble_eq_true rfl⟩ (g_recv X hw (ci := 15) (q := (RX19, TX19, 46)) hk_1 rfl) (As := [.ref (Glit G 27)]) (rest := []) rfl hl.1 rfl (Nat.le_of_ble_eq_true rfl) dX19_readLine_3 ⟨Nat.le_refl _, Nat.le_refl _⟩) (fun r_2 H locs h hw => ?_)
  refine lv_if_eq (tgt := 16) hx hb dX19_readLine_6 rfl (fun c_11 => ?_) (fun c_11 => ?_)
  · have h := h.1 c_11
    refine lv_aload_n hx hb dX19_readLine_16 rfl (lv_at hl 0 rfl) ?_
    refine va_ldcS (tx := "rule") hx hb hown (X.2.2.2.2.2.2.1.2.2.2.2.2.2.1 28 ("FifthCardModel", 182, "rule") rfl) dX19_readLine_17 ?_
    refine g_callio hw (g_V X hw (mX19_isWord l G _ _ _ _ h) 1 (lw_V q1693 q1695 qs52 q143 q1696) rfl rfl ydX19_isWord ⟨Nat.le_of_ble_eq_true rfl, Nat.le_of_ble_eq_true rfl⟩ (g_recv X hw (ci := 15) (q := (RX19, TX19, 46)) hk_1 rfl) (As := [.ref (Glit G 28)]) (rest := []) rfl hl.1 rfl (Nat.le_of_ble_eq_true rfl) dX19_readLine_19 ⟨Nat.le_refl _, Nat.le_refl _⟩) (fun r_3 H locs h hw => ?_)
    refine lv_if_eq (tgt := 32) hx hb dX19_readLine_22 rfl (fun c_9 => ?_) (fun c_9 => ?_)
    · have h := h.1 c_9
      refine lv_aload_n hx hb dX19_readLine_32 rfl (lv_at hl 0 rfl) ?_
      refine va_ldcS (tx := "evening") hx hb hown (X.2.2.2.2.2.2.1.2.2.2.2.2.2.1 29 ("FifthCardModel", 184, "evening") rfl) dX19_readLine_33 ?_
      refine g_callio hw (g_V X hw (mX19_isWord l G _ _ _ _ h) 1 (lw_V q1693 q1695 qs52 q143 q1696) rfl rfl ydX19_isWord ⟨Nat.le_of_ble_eq_true rfl, Nat.le_of_ble_eq_true rfl⟩ (g_recv X hw (ci := 15) (q := (RX19, TX19, 46)) hk_1 rfl) (As := [.ref (Glit G 29)]) (rest := []) rfl hl.1 rfl (Nat.le_of_ble_eq_true rfl) dX19_readLine_35 ⟨Nat.le_refl _, Nat.le_refl _⟩) (fun r_4 H locs h hw => ?_)
      refine lv_if_eq (tgt := 48) hx hb dX19_readLine_38 rfl (fun c_7 => ?_) (fun c_7 => ?_)
      · have h := h.1 c_7
        refine lv_aload_n hx hb dX19_readLine_48 rfl (lv_at hl 0 rfl) ?_
        refine lv_iconst (v := 1) hx hb dX19_readLine_49 (by decide) ?_
        refine g_callv hw (g_V X hw (mX19_flaw l G _ _ _ _ h) 1 (lw_V q1732 q1734 qs54 q143 q1735) rfl rfl ydX19_flaw ⟨Nat.le_of_ble_eq_true rfl, Nat.le_of_ble_eq_true rfl⟩ (g_recv X hw (ci := 15) (q := (RX19, TX19, 46)) hk_1 rfl) (As := [.int 1]) (rest := []) rfl hl.1 rfl (Nat.le_of_ble_eq_true rfl) dX19_readLine_50 ⟨Nat.le_refl _, Nat.le_refl _⟩) (fun u_5 H locs h hw => ?_)
        exact g_vret X hw hr h (Nat.le_refl _) (Nat.le_refl _) dX19_readLine_53
      · have h := h.2 c_7
        refine lv_aload_n hx hb dX19_readLine_41 rfl (lv_at hl 0 rfl) ?_
        refine g_callv hw (g_V X hw (mX19_readEvening l G _ _ _ h) 0 (lw_V q1807 q1809 qs63 q143 q1810) rfl rfl ydX19_readEvening ⟨Nat.le_of_ble_eq_true rfl, Nat.le_of_ble_eq_true rfl⟩ (g_recv X hw (ci := 15) (q := (RX19, TX19, 46)) hk_1 rfl) (As := []) (rest := []) rfl hl.1 rfl (Nat.le_of_ble_eq_true rfl) dX19_readLine_42 ⟨Nat.le_refl _, Nat.le_refl _⟩) (fun u_6 H locs h hw => ?_)
        refine lv_goto (tgt := 53) hx hb dX19_readLine_45 rfl ?_
        exact g_vret X hw hr h (Nat.le_refl _) (Nat.le_refl _) dX19_readLine_53
    · have h := h.2 c_9
      refine lv_aload_n hx hb dX19_readLine_25 rfl (lv_at hl 0 rfl) ?_
      refine g_callv hw (g_V X hw (mX19_readRule l G _ _ _ h) 0 (lw_V q1776 q1778 qs59 q143 q1779) rfl rfl ydX19_readRule ⟨Nat.le_of_ble_eq_true rfl, Nat.le_of_ble_eq_true rfl⟩ (g_recv X hw (ci := 15) (q := (RX19, TX19, 46)) hk_1 rfl) (As := []) (rest := []) rfl hl.1 rfl (Nat.le_of_ble_eq_true rfl) dX19_readLine_26 ⟨Nat.le_refl _, Nat.le_refl _⟩) (fun u_8 H locs h hw => ?_)
      refine lv_goto (tgt := 53) hx hb dX19_readLine_29 rfl ?_
      exact g_vret X hw hr h (Nat.le_refl _) (Nat.le_refl _) dX19_readLine_53
  · have h := h.2 c_11
    refine lv_aload_n hx hb dX19_readLine_9 rfl (lv_at hl 0 rfl) ?_
    refine g_callv hw (g_V X hw (mX19_readTrick l G _ _ _ h) 0 (lw_V q1728 q1730 qs53 q143 q1731) rfl rfl ydX19_readTrick ⟨Nat.le_of_ble_eq_true rfl, Nat.le_of_ble_eq_true rfl⟩ (g_recv X hw (ci := 15) (q := (RX19, TX19, 46)) hk_1 rfl) (As := []) (rest := []) rfl hl.1 rfl (Nat.le_of_ble_eq_true rfl) dX19_readLine_10 ⟨Nat.le_refl _, Nat.le_refl _⟩) (fun u_10 H locs h hw => ?_)
    refine lv_goto (tgt := 53) hx hb dX19_readLine_13 rfl ?_
    exact g_vret X hw hr h (Nat.le_refl _) (Nat.le_refl _) dX19_readLine_53

/-! FifthCardModel.readAll()V -/
theorem ydX19_readAll : yX19_readAll.cls = "FifthCardModel" ∧ yX19_readAll.cls ≠ "java/lang/invoke/MethodHandle" ∧ yX19_readAll.cls ≠ "java/lang/invoke/VarHandle" ∧ (parseMethodDescriptor yX19_readAll.desc).map (fun d => d.parameters.length) = some 0 := by decide +kernel
def rmX19_readAll (mc ms : Nat) : Room := { frames := 10, cells := mc, slots := ms, locals := 218 }
set_option maxHeartbeats 4000000 in
theorem wX19_readAll_2 {G : GT} {p : Program} {l : Launch} {e : Env} {s : State} {m : MethodId} {args : Array Value} {below : List Frame} {meth : Method} {c : Code} {H : Heap} {locs : List Loc} {ls : Array Slot} {a0 : Nat} {x1 : Int32} {u : Hp} {K : Hp → Prop} (X : Mc G p s m args meth c RX19 cX19_readAll 2) (hr : meth.sig.returnType = none) (h : jl2 (bX19_readAll_2 K (Glit G) a0) x1 u) (hw : GW G u s H locs) (hl : lv_has ls 2 [(0, .ref a0), (1, .int x1)]) : W p l e (rmX19_readAll 0 0) s m args below meth c H locs 0 0 (QV G below K args s 0 0) (F0 m 2 ls []) := by
  obtain ⟨hx, hb, hml, hown, hts, -⟩ := id X
  obtain ⟨I, μ, h0, hs⟩ := h
  have key : ∀ (n : Nat) (x1 : Int32) (u : Hp) (H : Heap) (locs : List Loc) (ls : Array Slot) , μ x1 u < n → I x1 u → GW G u s H locs → lv_has ls 2 [(0, .ref a0), (1, .int x1)] → W p l e (rmX19_readAll 0 0) s m args below meth c H locs 0 0 (QV G below K args s 0 0) (F0 m 2 ls []) := by
    intro n
    induction n with
    | zero =>
      intro x1 u H locs ls hn
      exact absurd hn (Nat.not_lt_zero _)
    | succ n ih =>
      intro x1 u H locs ls hn hI hw hl
      have h := hs x1 u hI
      unfold bX19_readAll_2 at h
      have hJ2 : ∀ (x1' : Int32) (u' : Hp) (H : Heap) (locs : List Loc) (ls : Array Slot) , (I x1' u' ∧ μ x1' u' < μ x1 u) → GW G u' s H locs → lv_has ls 2 [(0, .ref a0), (1, .int x1')] → W p l e (rmX19_readAll 0 0) s m args below meth c H locs 0 0 (QV G below K args s 0 0) (F0 m 2 ls []) := fun x1' u' H locs ls h hw hl => ih x1' u' H locs ls (Nat.lt_of_lt_of_le h.2 (Nat.le_of_lt_succ hn)) h.1 hw hl
      refine lv_iload_n hx hb dX19_readAll_2 rfl (lv_at hl 1 rfl) ?_
      refine lv_if_eq (tgt := 20) hx hb dX19_readAll_3 rfl (fun c_9 => ?_) (fun c_9 => ?_)
      · have h := h.1 c_9
        refine lv_aload_n hx hb dX19_readAll_20 rfl (lv_at hl 0 rfl) ?_
        have hk_1 : kd u a0 = 16 := h.1
        have h := h.2
        refine g_getI X hw in_X19 hk_1 rfl 9 rfl (by decide) q1460 (fun _ z => z) dX19_readAll_21 ?_
        refine lv_iconst (v := 1) hx hb dX19_readAll_24 (by decide) ?_
        refine lv_icmp_eq (tgt := 33) hx hb dX19_readAll_25 rfl (fun c_3 => ?_) (fun c_3 => ?_)
        · have h := h.1 c_3
          exact g_vret X hw hr h (Nat.le_refl _) (Nat.le_refl _) dX19_readAll_33
        · have h := h.2 c_3
          refine lv_aload_n hx hb dX19_readAll_28 rfl (lv_at hl 0 rfl) ?_
          refine lv_iconst (v := 1) hx hb dX19_readAll_29 (by decide) ?_
          refine g_callv hw (g_V X hw (mX19_flaw l G _ _ _ _ h) 1 (lw_V q1732 q1734 qs54 q143 q1735) rfl rfl ydX19_flaw ⟨Nat.le_of_ble_eq_true rfl, Nat.le_of_ble_eq_true rfl⟩ (g_recv X hw (ci := 15) (q := (RX19, TX19, 46)) hk_1 rfl) (As := [.int 1]) (rest := []) rfl hl.1 rfl (Nat.le_of_ble_eq_true rfl) dX19_readAll_30 ⟨Nat.le_refl _, Nat.le_refl _⟩) (fun u_2 H locs h hw => ?_)
          exact g_vret X hw hr h (Nat.le_refl _) (Nat.le_refl _) dX19_readAll_33
      · have h := h.2 c_9
        refine lv_aload_n hx hb dX19_readAll_6 rfl (lv_at hl 0 rfl) ?_
        have hk_4 : kd u a0 = 16 := h.1
        have h := h.2
        refine g_callv hw (g_V X hw (mX19_readLine l G _ _ _ h) 0 (lw_V q1688 q1690 qs51 q143 q1691) rfl rfl ydX19_readLine ⟨Nat.le_of_ble_eq_true rfl, Nat.le_of_ble_eq_true rfl⟩ (g_recv X hw (ci := 15) (q := (RX19, TX19, 46)) hk_4 rfl) (As := []) (rest := []) rfl hl.1 rfl (Nat.le_of_ble_eq_true rfl) dX19_readAll_7 ⟨Nat.le_refl _, Nat.le_refl _⟩) (fun u_5 H locs h hw => ?_)
        refine lv_aload_n hx hb dX19_readAll_10 rfl (lv_at hl 0 rfl) ?_
        refine lv_bipush (v := 59) hx hb dX19_readAll_11 (by decide) ?_
        have hk_6 : kd u_5 a0 = 16 := h.1
        have h := h.2
        refine g_calli hw (g_V X hw (mX19_eatsSign l G _ _ _ _ h) 1 (lw_V q1823 q1825 qs67 q143 q1826) rfl rfl ydX19_eatsSign ⟨Nat.le_of_ble_eq_true rfl, Nat.le_of_ble_eq_true rfl⟩ (g_recv X hw (ci := 15) (q := (RX19, TX19, 46)) hk_6 rfl) (As := [.int 59]) (rest := []) rfl hl.1 rfl (Nat.le_of_ble_eq_true rfl) dX19_readAll_13 ⟨Nat.le_refl _, Nat.le_refl _⟩) (fun r_7 u_8 H locs h hw => ?_)
        refine lv_istore_n (lv' := [(1, .int r_7), (0, .ref a0)]) hx hb dX19_readAll_16 rfl hl (by decide) rfl (fun ls hl => ?_)
        refine lv_goto (tgt := 2) hx hb dX19_readAll_17 rfl ?_
        exact hJ2 _ _ _ _ _ h hw (lv_sub hl [1, 0] rfl)
  exact key _ _ _ _ _ _ (Nat.lt_succ_self _) h0 hw hl
set_option maxHeartbeats 4000000 in
theorem mX19_readAll (l : Launch) (G : GT) (u : Hp) (a0 : Nat) (K : Hp → Prop) (h : pX19_readAll (Glit G) u a0 K) : Met l yX19_readAll (ws_ yX19_readAll cX19_readAll 2 none) (rmX19_readAll 0 0) (va_Pc [.ref a0] (GB G u)) (va_Qv K (fun u t => GH G u t.heap) (GA G)) 0 0 (GA G) := by
  refine Met.ofW (cc := cX19_readAll) (maxL := 2) (ret := none) (by decide) rfl ?_
  intro p e s m args below meth c s₁ B hml hv
  obtain ⟨rfl, hv⟩ := hv
  have X := Mc_of (own := RX19) B hml rfl hv
  have hw : GW G u s s.heap [] := ⟨hv.2.1, va_S.rf⟩
  have hr := B.returns
  obtain ⟨hx, hb, hml, hown, hts, -⟩ := id X
  have hl := lv_entry ([.ref a0]) (n := 2) (Nat.le_of_ble_eq_true rfl)
  rw [lg_entry_eq]
  generalize (lg_sl ([.ref a0]) ++ List.replicate (2 - (lg_sl ([.ref a0])).length) Slot.unset).toArray = ls at hl ⊢
  have hl : lv_has ls 2 [(0, .ref a0)] := hl
  change W p l e (rmX19_readAll 0 0) s m _ below meth c s.heap [] 0 0 (QV G below K _ s 0 0) (F0 m 0 ls [])
  unfold pX19_readAll at h
  refine lv_iconst (v := 1) hx hb dX19_readAll_0 (by decide) ?_
  refine lv_istore_n (lv' := [(1, .int 1), (0, .ref a0)]) hx hb dX19_readAll_1 rfl hl (by decide) rfl (fun ls hl => ?_)
  exact wX19_readAll_2 X hr  h hw (lv_sub hl [1, 0] rfl)

/-! FifthCardModel.isPicked(II)Z -/
theorem ydX19_isPicked : yX19_isPicked.cls = "FifthCardModel" ∧ yX19_isPicked.cls ≠ "java/lang/invoke/MethodHandle" ∧ yX19_isPicked.cls ≠ "java/lang/invoke/VarHandle" ∧ (parseMethodDescriptor yX19_isPicked.desc).map (fun d => d.parameters.length) = some 2 := by decide +kernel
def rmX19_isPicked (mc ms : Nat) : Room := { frames := 0, cells := mc, slots := ms, locals := 0 }
set_option maxHeartbeats 4000000 in
theorem wX19_isPicked_2 {G : GT} {p : Program} {l : Launch} {e : Env} {s : State} {m : MethodId} {args : Array Value} {below : List Frame} {meth : Method} {c : Code} {H : Heap} {locs : List Loc} {ls : Array Slot} {a0 : Nat} {x1 : Int32} {x2 : Int32} {u : Hp} {x3 : Int32} {K : Int32 → Prop} (X : Mc G p s m args meth c RX19 cX19_isPicked 4) (hr : meth.sig.returnType = (some .boolean)) (h : jl1 (bX19_isPicked_2 K a0 x1 x2 u) x3) (hw : GW G u s H locs) (hl : lv_has ls 4 [(0, .ref a0), (1, .int x1), (2, .int x2), (3, .int x3)]) : W p l e (rmX19_isPicked 0 0) s m args below meth c H locs 0 0 (QI G below (fun r v => v = u ∧ K r) args s 0 0) (F0 m 2 ls []) := by
  obtain ⟨hx, hb, hml, hown, hts, -⟩ := id X
  obtain ⟨I, μ, h0, hs⟩ := h
  have key : ∀ (n : Nat) (x3 : Int32) (H : Heap) (locs : List Loc) (ls : Array Slot) , μ x3 < n → I x3 → GW G u s H locs → lv_has ls 4 [(0, .ref a0), (1, .int x1), (2, .int x2), (3, .int x3)] → W p l e (rmX19_isPicked 0 0) s m args below meth c H locs 0 0 (QI G below (fun r v => v = u ∧ K r) args s 0 0) (F0 m 2 ls []) := by
    intro n
    induction n with
    | zero =>
      intro x3 H locs ls hn
      exact absurd hn (Nat.not_lt_zero _)
    | succ n ih =>
      intro x3 H locs ls hn hI hw hl
      have h := hs x3 hI
      unfold bX19_isPicked_2 at h
      have hJ2 : ∀ (x3' : Int32) (H : Heap) (locs : List Loc) (ls : Array Slot) , (I x3' ∧ μ x3' < μ x3) → GW G u s H locs → lv_has ls 4 [(0, .ref a0), (1, .int x1), (2, .int x2), (3, .int x3')] → W p l e (rmX19_isPicked 0 0) s m args below meth c H locs 0 0 (QI G below (fun r v => v = u ∧ K r) args s 0 0) (F0 m 2 ls []) := fun x3' H locs ls h hw hl => ih x3' H locs ls (Nat.lt_of_lt_of_le h.2 (Nat.le_of_lt_succ hn)) h.1 hw hl
      refine lv_iload_n hx hb dX19_isPicked_2 rfl (lv_at hl 3 rfl) ?_
      refine lv_iload_n hx hb dX19_isPicked_3 rfl (lv_at hl 2 rfl) ?_
      refine lv_icmp_ge (tgt := 25) hx hb dX19_isPicked_4 rfl (fun c_6 => ?_) (fun c_6 => ?_)
      · have h := h.1 c_6
        refine lv_iconst (v := 0) hx hb dX19_isPicked_25 (by decide) ?_
        exact g_zret X hw hr rfl ⟨rfl, h⟩ (Nat.le_refl _) (Nat.le_refl _) dX19_isPicked_26
      · have h := h.2 c_6
        refine lv_aload_n hx hb dX19_isPicked_7 rfl (lv_at hl 0 rfl) ?_
        have hk_1 : kd u a0 = 16 := h.1
        have h := h.2
        obtain ⟨b_2, e_3, h⟩ := h
        refine g_getR X hw in_X19 hk_1 rfl 18 rfl (by decide) q1469 (fun _ z => z) e_3 dX19_isPicked_8 ?_
        refine lv_iload_n hx hb dX19_isPicked_11 rfl (lv_at hl 3 rfl) ?_
        have hk_4 : kd u b_2 = 101 := h.1
        have h := h.2
        refine g_iald X hw hk_4 h.1 dX19_isPicked_12 ?_
        have h := h.2
        refine lv_iload_n hx hb dX19_isPicked_13 rfl (lv_at hl 1 rfl) ?_
        refine lv_icmp_ne (tgt := 19) hx hb dX19_isPicked_14 rfl (fun c_5 => ?_) (fun c_5 => ?_)
        · have h := h.2 c_5
          refine lv_iinc (v := x3 + 1) (lv' := [(3, .int (x3 + 1)), (0, .ref a0), (1, .int x1), (2, .int x2)]) hx hb dX19_isPicked_19 hl (k := 3) rfl rfl (by decide) rfl (fun ls hl => ?_)
          refine lv_goto (tgt := 2) hx hb dX19_isPicked_22 rfl ?_
          exact hJ2 _ _ _ _ h hw (lv_sub hl [1, 2, 3, 0] rfl)
        · have h := h.1 c_5
          refine lv_iconst (v := 1) hx hb dX19_isPicked_17 (by decide) ?_
          exact g_zret X hw hr rfl ⟨rfl, h⟩ (Nat.le_refl _) (Nat.le_refl _) dX19_isPicked_18
  exact key _ _ _ _ _ (Nat.lt_succ_self _) h0 hw hl
set_option maxHeartbeats 4000000 in
theorem mX19_isPicked (l : Launch) (G : GT) (u : Hp) (a0 : Nat) (x1 : Int32) (x2 : Int32) (K : Int32 → Prop) (h : pX19_isPicked u a0 x1 x2 K) : Met l yX19_isPicked (ws_ yX19_isPicked cX19_isPicked 4 (some .boolean)) (rmX19_isPicked 0 0) (va_Pc [.ref a0, .int x1, .int x2] (GB G u)) (va_Qi (fun r v => v = u ∧ K r) (fun u t => GH G u t.heap) (GA G)) 0 0 (GA G) := by
  refine Met.ofW (cc := cX19_isPicked) (maxL := 4) (ret := (some .boolean)) (by decide) rfl ?_
  intro p e s m args below meth c s₁ B hml hv
  obtain ⟨rfl, hv⟩ := hv
  have X := Mc_of (own := RX19) B hml rfl hv
  have hw : GW G u s s.heap [] := ⟨hv.2.1, va_S.rf⟩
  have hr := B.returns
  obtain ⟨hx, hb, hml, hown, hts, -⟩ := id X
  have hl := lv_entry ([.ref a0, .int x1, .int x2]) (n := 4) (Nat.le_of_ble_eq_true rfl)
  rw [lg_entry_eq]
  generalize (lg_sl ([.ref a0, .int x1, .int x2]) ++ List.replicate (4 - (lg_sl ([.ref a0, .int x1, .int x2])).length) Slot.unset).toArray = ls at hl ⊢
  have hl : lv_has ls 4 [(0, .ref a0), (1, .int x1), (2, .int x2)] := hl
  change W p l e (rmX19_isPicked 0 0) s m _ below meth c s.heap [] 0 0 (QI G below (fun r v => v = u ∧ K r) _ s 0 0) (F0 m 0 ls [])
  unfold pX19_isPicked at h
  refine lv_iconst (v := 0) hx hb dX19_isPicked_0 (by decide) ?_
  refine lv_istore_n (lv' := [(3, .int 0), (0, .ref a0), (1, .int x1), (2, .int x2)]) hx hb dX19_isPicked_1 rfl hl (by decide) rfl (fun ls hl => ?_)
  exact wX19_isPicked_2 X hr  h hw (lv_sub hl [1, 2, 3, 0] rfl)

/-! FifthCardModel.next(I)I -/
theorem ydX19_next : yX19_next.cls = "FifthCardModel" ∧ yX19_next.cls ≠ "java/lang/invoke/MethodHandle" ∧ yX19_next.cls ≠ "java/lang/invoke/VarHandle" ∧ (parseMethodDescriptor yX19_next.desc).map (fun d => d.parameters.length) = some 1 := by decide +kernel
def rmX19_next (mc ms : Nat) : Room := { frames := 1, cells := mc, slots := ms, locals := 23 }
set_option maxHeartbeats 4000000 in
theorem wX19_next_46 {G : GT} {p : Program} {l : Launch} {e : Env} {s : State} {m : MethodId} {args : Array Value} {below : List Frame} {meth : Method} {c : Code} {H : Heap} {locs : List Loc} {ls : Array Slot} {a0 : Nat} {x1 : Int32} {u : Hp} {x2 : Int32} {K : Int32 → Prop} (X : Mc G p s m args meth c RX19 cX19_next 3) (hr : meth.sig.returnType = (some .int)) (h : jl1 (bX19_next_46 K a0 x1 u) x2) (hw : GW G u s H locs) (hl : lv_has ls 3 [(0, .ref a0), (1, .int x1), (2, .int x2)]) : W p l e (rmX19_next 0 0) s m args below meth c H locs 0 0 (QI G below (fun r v => v = u ∧ K r) args s 0 0) (F0 m 46 ls []) := by
  obtain ⟨hx, hb, hml, hown, hts, -⟩ := id X
  obtain ⟨I, μ, h0, hs⟩ := h
  have key : ∀ (n : Nat) (x2 : Int32) (H : Heap) (locs : List Loc) (ls : Array Slot) , μ x2 < n → I x2 → GW G u s H locs → lv_has ls 3 [(0, .ref a0), (1, .int x1), (2, .int x2)] → W p l e (rmX19_next 0 0) s m args below meth c H locs 0 0 (QI G below (fun r v => v = u ∧ K r) args s 0 0) (F0 m 46 ls []) := by
    intro n
    induction n with
    | zero =>
      intro x2 H locs ls hn
      exact absurd hn (Nat.not_lt_zero _)
    | succ n ih =>
      intro x2 H locs ls hn hI hw hl
      have h := hs x2 hI
      unfold bX19_next_46 at h
      have hJ46 : ∀ (x2' : Int32) (H : Heap) (locs : List Loc) (ls : Array Slot) , (I x2' ∧ μ x2' < μ x2) → GW G u s H locs → lv_has ls 3 [(0, .ref a0), (1, .int x1), (2, .int x2')] → W p l e (rmX19_next 0 0) s m args below meth c H locs 0 0 (QI G below (fun r v => v = u ∧ K r) args s 0 0) (F0 m 46 ls []) := fun x2' H locs ls h hw hl => ih x2' H locs ls (Nat.lt_of_lt_of_le h.2 (Nat.le_of_lt_succ hn)) h.1 hw hl
      refine lv_iload_n hx hb dX19_next_46 rfl (lv_at hl 2 rfl) ?_
      refine lv_aload_n hx hb dX19_next_47 rfl (lv_at hl 0 rfl) ?_
      have hk_1 : kd u a0 = 16 := h.1
      have h := h.2
      obtain ⟨b_2, e_3, h⟩ := h
      refine g_getR X hw in_X19 hk_1 rfl 3 rfl (by decide) q1454 (fun _ z => z) e_3 dX19_next_48 ?_
      have hk_4 : kd u b_2 = 20 := h.1
      have h := h.2
      refine g_getNI X hw (host := "FifthCardModel") in_X23 hk_4 rfl 0 rfl (by decide) (List.mem_of_getElem? (i := 0) rfl) (fun _ z => z) dX19_next_51 ?_
      refine lv_icmp_ge (tgt := 72) hx hb dX19_next_54 rfl (fun c_9 => ?_) (fun c_9 => ?_)
      · have h := h.1 c_9
        refine lv_iload_n hx hb dX19_next_72 rfl (lv_at hl 2 rfl) ?_
        refine lv_aload_n hx hb dX19_next_73 rfl (lv_at hl 0 rfl) ?_
        refine g_getR X hw in_X19 hk_1 rfl 3 rfl (by decide) q1454 (fun _ z => z) e_3 dX19_next_74 ?_
        refine g_getNI X hw (host := "FifthCardModel") in_X23 hk_4 rfl 0 rfl (by decide) (List.mem_of_getElem? (i := 0) rfl) (fun _ z => z) dX19_next_77 ?_
        refine lv_icmp_ge (tgt := 87) hx hb dX19_next_80 rfl (fun c_5 => ?_) (fun c_5 => ?_)
        · have h := h.1 c_5
          refine lv_aload_n hx hb dX19_next_87 rfl (lv_at hl 0 rfl) ?_
          refine g_getR X hw in_X19 hk_1 rfl 3 rfl (by decide) q1454 (fun _ z => z) e_3 dX19_next_88 ?_
          refine g_getNI X hw (host := "FifthCardModel") in_X23 hk_4 rfl 0 rfl (by decide) (List.mem_of_getElem? (i := 0) rfl) (fun _ z => z) dX19_next_91 ?_
          exact g_iret X hw hr ⟨rfl, h⟩ (Nat.le_refl _) (Nat.le_refl _) dX19_next_94
        · have h := h.2 c_5
          refine lv_iload_n hx hb dX19_next_83 rfl (lv_at hl 2 rfl) ?_
          refine lv_goto (tgt := 94) hx hb dX19_next_84 rfl ?_
          exact g_iret X hw hr ⟨rfl, h⟩ (Nat.le_refl _) (Nat.le_refl _) dX19_next_94
      · have h := h.2 c_9
        refine lv_aload_n hx hb dX19_next_57 rfl (lv_at hl 0 rfl) ?_
        refine lv_iload_n hx hb dX19_next_58 rfl (lv_at hl 2 rfl) ?_
        refine lv_iload_n hx hb dX19_next_59 rfl (lv_at hl 1 rfl) ?_
        refine g_callio hw (g_V X hw (mX19_isPicked l G _ _ _ _ _ h) 2 (lw_V q1835 q1837 qs70 q143 q1838) rfl rfl ydX19_isPicked ⟨Nat.le_of_ble_eq_true rfl, Nat.le_of_ble_eq_true rfl⟩ (g_recv X hw (ci := 15) (q := (RX19, TX19, 46)) hk_1 rfl) (As := [.int x2, .int x1]) (rest := []) rfl hl.1 rfl (Nat.le_of_ble_eq_true rfl) dX19_next_60 ⟨Nat.le_refl _, Nat.le_refl _⟩) (fun r_6 H locs h hw => ?_)
        refine lv_if_eq (tgt := 72) hx hb dX19_next_63 rfl (fun c_8 => ?_) (fun c_8 => ?_)
        · have h := h.1 c_8
          refine lv_iload_n hx hb dX19_next_72 rfl (lv_at hl 2 rfl) ?_
          refine lv_aload_n hx hb dX19_next_73 rfl (lv_at hl 0 rfl) ?_
          refine g_getR X hw in_X19 hk_1 rfl 3 rfl (by decide) q1454 (fun _ z => z) e_3 dX19_next_74 ?_
          refine g_getNI X hw (host := "FifthCardModel") in_X23 hk_4 rfl 0 rfl (by decide) (List.mem_of_getElem? (i := 0) rfl) (fun _ z => z) dX19_next_77 ?_
          refine lv_icmp_ge (tgt := 87) hx hb dX19_next_80 rfl (fun c_7 => ?_) (fun c_7 => ?_)
          · have h := h.1 c_7
            refine lv_aload_n hx hb dX19_next_87 rfl (lv_at hl 0 rfl) ?_
            refine g_getR X hw in_X19 hk_1 rfl 3 rfl (by decide) q1454 (fun _ z => z) e_3 dX19_next_88 ?_
            refine g_getNI X hw (host := "FifthCardModel") in_X23 hk_4 rfl 0 rfl (by decide) (List.mem_of_getElem? (i := 0) rfl) (fun _ z => z) dX19_next_91 ?_
            exact g_iret X hw hr ⟨rfl, h⟩ (Nat.le_refl _) (Nat.le_refl _) dX19_next_94
          · have h := h.2 c_7
            refine lv_iload_n hx hb dX19_next_83 rfl (lv_at hl 2 rfl) ?_
            refine lv_goto (tgt := 94) hx hb dX19_next_84 rfl ?_
            exact g_iret X hw hr ⟨rfl, h⟩ (Nat.le_refl _) (Nat.le_refl _) dX19_next_94
        · have h := h.2 c_8
          refine lv_iinc (v := x2 + 1) (lv' := [(2, .int (x2 + 1)), (0, .ref a0), (1, .int x1)]) hx hb dX19_next_66 hl (k := 2) rfl rfl (by decide) rfl (fun ls hl => ?_)
          refine lv_goto (tgt := 46) hx hb dX19_next_69 rfl ?_
          exact hJ46 _ _ _ _ h hw (lv_sub hl [1, 2, 0] rfl)
  exact key _ _ _ _ _ (Nat.lt_succ_self _) h0 hw hl
set_option maxHeartbeats 4000000 in
theorem mX19_next (l : Launch) (G : GT) (u : Hp) (a0 : Nat) (x1 : Int32) (K : Int32 → Prop) (h : pX19_next u a0 x1 K) : Met l yX19_next (ws_ yX19_next cX19_next 3 (some .int)) (rmX19_next 0 0) (va_Pc [.ref a0, .int x1] (GB G u)) (va_Qi (fun r v => v = u ∧ K r) (fun u t => GH G u t.heap) (GA G)) 0 0 (GA G) := by
  refine Met.ofW (cc := cX19_next) (maxL := 3) (ret := (some .int)) (by decide) rfl ?_
  intro p e s m args below meth c s₁ B hml hv
  obtain ⟨rfl, hv⟩ := hv
  have X := Mc_of (own := RX19) B hml rfl hv
  have hw : GW G u s s.heap [] := ⟨hv.2.1, va_S.rf⟩
  have hr := B.returns
  obtain ⟨hx, hb, hml, hown, hts, -⟩ := id X
  have hl := lv_entry ([.ref a0, .int x1]) (n := 3) (Nat.le_of_ble_eq_true rfl)
  rw [lg_entry_eq]
  generalize (lg_sl ([.ref a0, .int x1]) ++ List.replicate (3 - (lg_sl ([.ref a0, .int x1])).length) Slot.unset).toArray = ls at hl ⊢
  have hl : lv_has ls 3 [(0, .ref a0), (1, .int x1)] := hl
  change W p l e (rmX19_next 0 0) s m _ below meth c s.heap [] 0 0 (QI G below (fun r v => v = u ∧ K r) _ s 0 0) (F0 m 0 ls [])
  unfold pX19_next at h
  refine lv_aload_n hx hb dX19_next_0 rfl (lv_at hl 0 rfl) ?_
  have hk_10 : kd u a0 = 16 := h.1
  have h := h.2
  obtain ⟨b_11, e_12, h⟩ := h
  refine g_getR X hw in_X19 hk_10 rfl 18 rfl (by decide) q1469 (fun _ z => z) e_12 dX19_next_1 ?_
  refine lv_iload_n hx hb dX19_next_4 rfl (lv_at hl 1 rfl) ?_
  have hk_13 : kd u b_11 = 101 := h.1
  have h := h.2
  refine g_iald X hw hk_13 h.1 dX19_next_5 ?_
  have h := h.2
  refine lv_iconst (v := 1) hx hb dX19_next_6 (by decide) ?_
  refine lv_iadd hx hb dX19_next_7 ?_
  refine lv_istore_n (lv' := [(2, .int ((AI u b_11 (tn x1)) + 1)), (0, .ref a0), (1, .int x1)]) hx hb dX19_next_8 rfl hl (by decide) rfl (fun ls hl => ?_)
  refine lv_aload_n hx hb dX19_next_9 rfl (lv_at hl 1 rfl) ?_
  obtain ⟨b_14, e_15, h⟩ := h
  refine g_getR X hw in_X19 hk_10 rfl 3 rfl (by decide) q1454 (fun _ z => z) e_15 dX19_next_10 ?_
  have hk_16 : kd u b_14 = 20 := h.1
  have h := h.2
  refine g_getNI X hw (host := "FifthCardModel") in_X23 hk_16 rfl 7 rfl (by decide) (List.mem_of_getElem? (i := 1) rfl) (fun _ z => z) dX19_next_13 ?_
  refine lv_if_ne (tgt := 46) hx hb dX19_next_16 rfl (fun c_19 => ?_) (fun c_19 => ?_)
  · have h := h.2 c_19
    exact wX19_next_46 X hr  h hw (lv_sub hl [1, 2, 0] rfl)
  · have h := h.1 c_19
    refine lv_iload_n hx hb dX19_next_19 rfl (lv_at hl 2 rfl) ?_
    refine lv_if_le (tgt := 46) hx hb dX19_next_20 rfl (fun c_18 => ?_) (fun c_18 => ?_)
    · have h := h.1 c_18
      exact wX19_next_46 X hr  h hw (lv_sub hl [1, 2, 0] rfl)
    · have h := h.2 c_18
      refine lv_iload_n hx hb dX19_next_23 rfl (lv_at hl 0 rfl) ?_
      refine lv_aload_n hx hb dX19_next_24 rfl (lv_at hl 1 rfl) ?_
      refine g_getR X hw in_X19 hk_10 rfl 18 rfl (by decide) q1469 (fun _ z => z) e_12 dX19_next_25 ?_
      refine lv_iload_n hx hb dX19_next_28 rfl (lv_at hl 2 rfl) ?_
      refine lv_iconst (v := 1) hx hb dX19_next_29 (by decide) ?_
      refine lv_isub hx hb dX19_next_30 ?_
      refine g_iald X hw hk_13 h.1 dX19_next_31 ?_
      have h := h.2
      refine lv_icmp_gt (tgt := 46) hx hb dX19_next_32 rfl (fun c_17 => ?_) (fun c_17 => ?_)
      · have h := h.1 c_17
        exact wX19_next_46 X hr  h hw (lv_sub hl [1, 2, 0] rfl)
      · have h := h.2 c_17
        refine lv_aload_n hx hb dX19_next_35 rfl (lv_at hl 1 rfl) ?_
        refine g_getR X hw in_X19 hk_10 rfl 18 rfl (by decide) q1469 (fun _ z => z) e_12 dX19_next_36 ?_
        refine lv_iload_n hx hb dX19_next_39 rfl (lv_at hl 2 rfl) ?_
        refine lv_iconst (v := 1) hx hb dX19_next_40 (by decide) ?_
        refine lv_isub hx hb dX19_next_41 ?_
        refine g_iald X hw hk_13 h.1 dX19_next_42 ?_
        have h := h.2
        refine lv_iconst (v := 1) hx hb dX19_next_43 (by decide) ?_
        refine lv_iadd hx hb dX19_next_44 ?_
        refine lv_istore_n (lv' := [(2, .int ((AI u b_11 (tn (x1 - 1))) + 1)), (0, .ref a0), (1, .int x1)]) hx hb dX19_next_45 rfl hl (by decide) rfl (fun ls hl => ?_)
        exact wX19_next_46 X hr  h hw (lv_sub hl [1, 2, 0] rfl)

/-! FifthCardModel.deals()V -/
theorem ydX19_deals : yX19_deals.cls = "FifthCardModel" ∧ yX19_deals.cls ≠ "java/lang/invoke/MethodHandle" ∧ yX19_deals.cls ≠ "java/lang/invoke/VarHandle" ∧ (parseMethodDescriptor yX19_deals.desc).map (fun d => d.parameters.length) = some 0 := by decide +kernel
def rmX19_deals (mc ms : Nat) : Room := { frames := 2, cells := mc, slots := ms, locals := 45 }
set_option maxHeartbeats 4000000 in
theorem wX19_deals_86 {G : GT} {p : Program} {l : Launch} {e : Env} {s : State} {m : MethodId} {args : Array Value} {below : List Frame} {meth : Method} {c : Code} {H : Heap} {locs : List Loc} {ls : Array Slot} {a0 : Nat} {x1 : Int32} {x2 : Int32} {u : Hp} {K : Hp → Prop} {J27 : Int32 → Hp → Prop} (X : Mc G p s m args meth c RX19 cX19_deals 3) (hr : meth.sig.returnType = none) (hJ27 : ∀ (x1 : Int32) (u : Hp) (H : Heap) (locs : List Loc) (ls : Array Slot) , J27 x1 u → GW G u s H locs → lv_has ls 3 [(0, .ref a0), (1, .int x1)] → W p l e (rmX19_deals 0 0) s m args below meth c H locs 0 0 (QV G below K args s 0 0) (F0 m 27 ls [])) (h : jl2 (bX19_deals_86 K J27 a0 x1) x2 u) (hw : GW G u s H locs) (hl : lv_has ls 3 [(0, .ref a0), (1, .int x1), (2, .int x2)]) : W p l e (rmX19_deals 0 0) s m args below meth c H locs 0 0 (QV G below K args s 0 0) (F0 m 86 ls []) := by
  obtain ⟨hx, hb, hml, hown, hts, -⟩ := id X
  obtain ⟨I, μ, h0, hs⟩ := h
  have key : ∀ (n : Nat) (x2 : Int32) (u : Hp) (H : Heap) (locs : List Loc) (ls : Array Slot) , μ x2 u < n → I x2 u → GW G u s H locs → lv_has ls 3 [(0, .ref a0), (1, .int x1), (2, .int x2)] → W p l e (rmX19_deals 0 0) s m args below meth c H locs 0 0 (QV G below K args s 0 0) (F0 m 86 ls []) := by
    intro n
    induction n with
    | zero =>
      intro x2 u H locs ls hn
      exact absurd hn (Nat.not_lt_zero _)
    | succ n ih =>
      intro x2 u H locs ls hn hI hw hl
      have h := hs x2 u hI
      unfold bX19_deals_86 at h
      have hJ86 : ∀ (x2' : Int32) (u' : Hp) (H : Heap) (locs : List Loc) (ls : Array Slot) , (I x2' u' ∧ μ x2' u' < μ x2 u) → GW G u' s H locs → lv_has ls 3 [(0, .ref a0), (1, .int x1), (2, .int x2')] → W p l e (rmX19_deals 0 0) s m args below meth c H locs 0 0 (QV G below K args s 0 0) (F0 m 86 ls []) := fun x2' u' H locs ls h hw hl => ih x2' u' H locs ls (Nat.lt_of_lt_of_le h.2 (Nat.le_of_lt_succ hn)) h.1 hw hl
      refine lv_iload_n hx hb dX19_deals_86 rfl (lv_at hl 2 rfl) ?_
      refine lv_aload_n hx hb dX19_deals_87 rfl (lv_at hl 0 rfl) ?_
      have hk_1 : kd u a0 = 16 := h.1
      have h := h.2
      obtain ⟨b_2, e_3, h⟩ := h
      refine g_getR X hw in_X19 hk_1 rfl 3 rfl (by decide) q1454 (fun _ z => z) e_3 dX19_deals_88 ?_
      have hk_4 : kd u b_2 = 20 := h.1
      have h := h.2
      refine g_getNI X hw (host := "FifthCardModel") in_X23 hk_4 rfl 2 rfl (by decide) (List.mem_of_getElem? (i := 2) rfl) (fun _ z => z) dX19_deals_91 ?_
      refine lv_icmp_ge (tgt := 123) hx hb dX19_deals_94 rfl (fun c_11 => ?_) (fun c_11 => ?_)
      · have h := h.1 c_11
        refine lv_aload_n hx hb dX19_deals_123 rfl (lv_at hl 0 rfl) ?_
        refine lv_dup hx hb dX19_deals_124 rfl ?_
        refine g_getI X hw in_X19 hk_1 rfl 17 rfl (by decide) q1468 (fun _ z => z) dX19_deals_125 ?_
        refine lv_iconst (v := 1) hx hb dX19_deals_128 (by decide) ?_
        refine lv_iadd hx hb dX19_deals_129 ?_
        refine g_putI (v := (FI u 1917 a0) + 1) X hw in_X19 tyX19_ok nmX19 hk_1 rfl 17 rfl (by decide) q1468 (fun _ z => z) rfl rfl rfl dX19_deals_130 (fun H locs hw => ?_)
        refine lv_goto (tgt := 27) hx hb dX19_deals_133 rfl ?_
        exact hJ27 _ _ _ _ _ h hw (lv_sub hl [0, 1] rfl)
      · have h := h.2 c_11
        refine lv_aload_n hx hb dX19_deals_97 rfl (lv_at hl 0 rfl) ?_
        obtain ⟨b_5, e_6, h⟩ := h
        refine g_getR X hw in_X19 hk_1 rfl 16 rfl (by decide) q1467 (fun _ z => z) e_6 dX19_deals_98 ?_
        refine lv_iconst (v := 5) hx hb dX19_deals_101 (by decide) ?_
        refine lv_aload_n hx hb dX19_deals_102 rfl (lv_at hl 0 rfl) ?_
        refine g_getI X hw in_X19 hk_1 rfl 17 rfl (by decide) q1468 (fun _ z => z) dX19_deals_103 ?_
        refine lv_imul hx hb dX19_deals_106 ?_
        refine lv_iload_n hx hb dX19_deals_107 rfl (lv_at hl 2 rfl) ?_
        refine lv_iadd hx hb dX19_deals_108 ?_
        refine lv_aload_n hx hb dX19_deals_109 rfl (lv_at hl 0 rfl) ?_
        obtain ⟨b_7, e_8, h⟩ := h
        refine g_getR X hw in_X19 hk_1 rfl 18 rfl (by decide) q1469 (fun _ z => z) e_8 dX19_deals_110 ?_
        refine lv_iload_n hx hb dX19_deals_113 rfl (lv_at hl 2 rfl) ?_
        have hk_9 : kd u b_7 = 101 := h.1
        have h := h.2
        refine g_iald X hw hk_9 h.1 dX19_deals_114 ?_
        have h := h.2
        refine lv_i2b hx hb dX19_deals_115 rfl ?_
        have hk_10 : kd u b_5 = 102 := h.1
        have h := h.2
        refine g_bast X hw hk_10 h.1 dX19_deals_116 (fun H locs hw => ?_)
        have h := h.2
        refine lv_iinc (v := x2 + 1) (lv' := [(2, .int (x2 + 1)), (0, .ref a0), (1, .int x1)]) hx hb dX19_deals_117 hl (k := 2) rfl rfl (by decide) rfl (fun ls hl => ?_)
        refine lv_goto (tgt := 86) hx hb dX19_deals_120 rfl ?_
        exact hJ86 _ _ _ _ _ h hw (lv_sub hl [1, 2, 0] rfl)
  exact key _ _ _ _ _ _ (Nat.lt_succ_self _) h0 hw hl
set_option maxHeartbeats 4000000 in
theorem wX19_deals_27 {G : GT} {p : Program} {l : Launch} {e : Env} {s : State} {m : MethodId} {args : Array Value} {below : List Frame} {meth : Method} {c : Code} {H : Heap} {locs : List Loc} {ls : Array Slot} {a0 : Nat} {x1 : Int32} {u : Hp} {K : Hp → Prop} (X : Mc G p s m args meth c RX19 cX19_deals 3) (hr : meth.sig.returnType = none) (h : jl2 (bX19_deals_27 K a0) x1 u) (hw : GW G u s H locs) (hl : lv_has ls 3 [(0, .ref a0), (1, .int x1)]) : W p l e (rmX19_deals 0 0) s m args below meth c H locs 0 0 (QV G below K args s 0 0) (F0 m 27 ls []) := by
  obtain ⟨hx, hb, hml, hown, hts, -⟩ := id X
  obtain ⟨I, μ, h0, hs⟩ := h
  have key : ∀ (n : Nat) (x1 : Int32) (u : Hp) (H : Heap) (locs : List Loc) (ls : Array Slot) , μ x1 u < n → I x1 u → GW G u s H locs → lv_has ls 3 [(0, .ref a0), (1, .int x1)] → W p l e (rmX19_deals 0 0) s m args below meth c H locs 0 0 (QV G below K args s 0 0) (F0 m 27 ls []) := by
    intro n
    induction n with
    | zero =>
      intro x1 u H locs ls hn
      exact absurd hn (Nat.not_lt_zero _)
    | succ n ih =>
      intro x1 u H locs ls hn hI hw hl
      have h := hs x1 u hI
      unfold bX19_deals_27 at h
      have hJ27 : ∀ (x1' : Int32) (u' : Hp) (H : Heap) (locs : List Loc) (ls : Array Slot) , (I x1' u' ∧ μ x1' u' < μ x1 u) → GW G u' s H locs → lv_has ls 3 [(0, .ref a0), (1, .int x1')] → W p l e (rmX19_deals 0 0) s m args below meth c H locs 0 0 (QV G below K args s 0 0) (F0 m 27 ls []) := fun x1' u' H locs ls h hw hl => ih x1' u' H locs ls (Nat.lt_of_lt_of_le h.2 (Nat.le_of_lt_succ hn)) h.1 hw hl
      refine lv_iload_n hx hb dX19_deals_27 rfl (lv_at hl 1 rfl) ?_
      refine lv_if_lt (tgt := 142) hx hb dX19_deals_28 rfl (fun c_22 => ?_) (fun c_22 => ?_)
      · have h := h.1 c_22
        exact g_vret X hw hr h (Nat.le_refl _) (Nat.le_refl _) dX19_deals_142
      · have h := h.2 c_22
        refine lv_aload_n hx hb dX19_deals_31 rfl (lv_at hl 0 rfl) ?_
        have hk_12 : kd u a0 = 16 := h.1
        have h := h.2
        obtain ⟨b_13, e_14, h⟩ := h
        refine g_getR X hw in_X19 hk_12 rfl 18 rfl (by decide) q1469 (fun _ z => z) e_14 dX19_deals_32 ?_
        refine lv_iload_n hx hb dX19_deals_35 rfl (lv_at hl 1 rfl) ?_
        refine lv_aload_n hx hb dX19_deals_36 rfl (lv_at hl 0 rfl) ?_
        refine lv_iload_n hx hb dX19_deals_37 rfl (lv_at hl 1 rfl) ?_
        refine g_callio hw (g_V X hw (mX19_next l G _ _ _ _ h) 1 (lw_V q1831 q1833 qs69 q143 q1834) rfl rfl ydX19_next ⟨Nat.le_of_ble_eq_true rfl, Nat.le_of_ble_eq_true rfl⟩ (g_recv X hw (ci := 15) (q := (RX19, TX19, 46)) hk_12 rfl) (As := [.int x1]) (rest := [.int x1, .ref b_13]) rfl hl.1 rfl (Nat.le_of_ble_eq_true rfl) dX19_deals_38 ⟨Nat.le_refl _, Nat.le_refl _⟩) (fun r_15 H locs h hw => ?_)
        have hk_16 : kd u b_13 = 101 := h.1
        have h := h.2
        refine g_iast X hw hk_16 h.1 dX19_deals_41 (fun H locs hw => ?_)
        have h := h.2
        refine lv_aload_n hx hb dX19_deals_42 rfl (lv_at hl 0 rfl) ?_
        refine g_getR X hw in_X19 hk_12 rfl 18 rfl (by decide) q1469 (fun _ z => z) e_14 dX19_deals_43 ?_
        refine lv_iload_n hx hb dX19_deals_46 rfl (lv_at hl 1 rfl) ?_
        refine g_iald X hw hk_16 h.1 dX19_deals_47 ?_
        have h := h.2
        refine lv_aload_n hx hb dX19_deals_48 rfl (lv_at hl 0 rfl) ?_
        obtain ⟨b_17, e_18, h⟩ := h
        refine g_getR X hw in_X19 hk_12 rfl 3 rfl (by decide) q1454 (fun _ z => z) e_18 dX19_deals_49 ?_
        have hk_19 : kd u b_17 = 20 := h.1
        have h := h.2
        refine g_getNI X hw (host := "FifthCardModel") in_X23 hk_19 rfl 0 rfl (by decide) (List.mem_of_getElem? (i := 0) rfl) (fun _ z => z) dX19_deals_52 ?_
        refine lv_icmp_ne (tgt := 71) hx hb dX19_deals_55 rfl (fun c_21 => ?_) (fun c_21 => ?_)
        · have h := h.2 c_21
          refine lv_iload_n hx hb dX19_deals_71 rfl (lv_at hl 1 rfl) ?_
          refine lv_aload_n hx hb dX19_deals_72 rfl (lv_at hl 0 rfl) ?_
          refine g_getR X hw in_X19 hk_12 rfl 3 rfl (by decide) q1454 (fun _ z => z) e_18 dX19_deals_73 ?_
          refine g_getNI X hw (host := "FifthCardModel") in_X23 hk_19 rfl 2 rfl (by decide) (List.mem_of_getElem? (i := 2) rfl) (fun _ z => z) dX19_deals_76 ?_
          refine lv_iconst (v := 1) hx hb dX19_deals_79 (by decide) ?_
          refine lv_isub hx hb dX19_deals_80 ?_
          refine lv_icmp_ne (tgt := 136) hx hb dX19_deals_81 rfl (fun c_20 => ?_) (fun c_20 => ?_)
          · have h := h.2 c_20
            refine lv_iinc (v := x1 + 1) (lv' := [(1, .int (x1 + 1)), (0, .ref a0)]) hx hb dX19_deals_136 hl (k := 1) rfl rfl (by decide) rfl (fun ls hl => ?_)
            refine lv_goto (tgt := 27) hx hb dX19_deals_139 rfl ?_
            exact hJ27 _ _ _ _ _ h hw (lv_sub hl [1, 0] rfl)
          · have h := h.1 c_20
            refine lv_iconst (v := 0) hx hb dX19_deals_84 (by decide) ?_
            refine lv_istore_n (lv' := [(2, .int 0), (0, .ref a0), (1, .int x1)]) hx hb dX19_deals_85 rfl hl (by decide) rfl (fun ls hl => ?_)
            exact wX19_deals_86 X hr hJ27  h hw (lv_sub hl [1, 2, 0] rfl)
        · have h := h.1 c_21
          refine lv_aload_n hx hb dX19_deals_58 rfl (lv_at hl 0 rfl) ?_
          refine g_getR X hw in_X19 hk_12 rfl 18 rfl (by decide) q1469 (fun _ z => z) e_14 dX19_deals_59 ?_
          refine lv_iload_n hx hb dX19_deals_62 rfl (lv_at hl 1 rfl) ?_
          refine lv_iconst (v := (-1)) hx hb dX19_deals_63 (by decide) ?_
          refine g_iast X hw hk_16 h.1 dX19_deals_64 (fun H locs hw => ?_)
          have h := h.2
          refine lv_iinc (v := x1 + (-1)) (lv' := [(1, .int (x1 + (-1))), (0, .ref a0)]) hx hb dX19_deals_65 hl (k := 1) rfl rfl (by decide) rfl (fun ls hl => ?_)
          refine lv_goto (tgt := 27) hx hb dX19_deals_68 rfl ?_
          exact hJ27 _ _ _ _ _ h hw (lv_sub hl [1, 0] rfl)
  exact key _ _ _ _ _ _ (Nat.lt_succ_self _) h0 hw hl
set_option maxHeartbeats 4000000 in
theorem wX19_deals_7 {G : GT} {p : Program} {l : Launch} {e : Env} {s : State} {m : MethodId} {args : Array Value} {below : List Frame} {meth : Method} {c : Code} {H : Heap} {locs : List Loc} {ls : Array Slot} {a0 : Nat} {x1 : Int32} {u : Hp} {K : Hp → Prop} (X : Mc G p s m args meth c RX19 cX19_deals 3) (hr : meth.sig.returnType = none) (h : jl2 (bX19_deals_7 K a0) x1 u) (hw : GW G u s H locs) (hl : lv_has ls 3 [(0, .ref a0), (1, .int x1)]) : W p l e (rmX19_deals 0 0) s m args below meth c H locs 0 0 (QV G below K args s 0 0) (F0 m 7 ls []) := by
  obtain ⟨hx, hb, hml, hown, hts, -⟩ := id X
  obtain ⟨I, μ, h0, hs⟩ := h
  have key : ∀ (n : Nat) (x1 : Int32) (u : Hp) (H : Heap) (locs : List Loc) (ls : Array Slot) , μ x1 u < n → I x1 u → GW G u s H locs → lv_has ls 3 [(0, .ref a0), (1, .int x1)] → W p l e (rmX19_deals 0 0) s m args below meth c H locs 0 0 (QV G below K args s 0 0) (F0 m 7 ls []) := by
    intro n
    induction n with
    | zero =>
      intro x1 u H locs ls hn
      exact absurd hn (Nat.not_lt_zero _)
    | succ n ih =>
      intro x1 u H locs ls hn hI hw hl
      have h := hs x1 u hI
      unfold bX19_deals_7 at h
      have hJ7 : ∀ (x1' : Int32) (u' : Hp) (H : Heap) (locs : List Loc) (ls : Array Slot) , (I x1' u' ∧ μ x1' u' < μ x1 u) → GW G u' s H locs → lv_has ls 3 [(0, .ref a0), (1, .int x1')] → W p l e (rmX19_deals 0 0) s m args below meth c H locs 0 0 (QV G below K args s 0 0) (F0 m 7 ls []) := fun x1' u' H locs ls h hw hl => ih x1' u' H locs ls (Nat.lt_of_lt_of_le h.2 (Nat.le_of_lt_succ hn)) h.1 hw hl
      refine lv_iload_n hx hb dX19_deals_7 rfl (lv_at hl 1 rfl) ?_
      refine lv_iconst (v := 5) hx hb dX19_deals_8 (by decide) ?_
      refine lv_icmp_ge (tgt := 25) hx hb dX19_deals_9 rfl (fun c_27 => ?_) (fun c_27 => ?_)
      · have h := h.1 c_27
        refine lv_iconst (v := 0) hx hb dX19_deals_25 (by decide) ?_
        refine lv_istore_n (lv' := [(1, .int 0), (0, .ref a0)]) hx hb dX19_deals_26 rfl hl (by decide) rfl (fun ls hl => ?_)
        exact wX19_deals_27 X hr  h hw (lv_sub hl [1, 0] rfl)
      · have h := h.2 c_27
        refine lv_aload_n hx hb dX19_deals_12 rfl (lv_at hl 0 rfl) ?_
        have hk_23 : kd u a0 = 16 := h.1
        have h := h.2
        obtain ⟨b_24, e_25, h⟩ := h
        refine g_getR X hw in_X19 hk_23 rfl 18 rfl (by decide) q1469 (fun _ z => z) e_25 dX19_deals_13 ?_
        refine lv_iload_n hx hb dX19_deals_16 rfl (lv_at hl 1 rfl) ?_
        refine lv_iconst (v := (-1)) hx hb dX19_deals_17 (by decide) ?_
        have hk_26 : kd u b_24 = 101 := h.1
        have h := h.2
        refine g_iast X hw hk_26 h.1 dX19_deals_18 (fun H locs hw => ?_)
        have h := h.2
        refine lv_iinc (v := x1 + 1) (lv' := [(1, .int (x1 + 1)), (0, .ref a0)]) hx hb dX19_deals_19 hl (k := 1) rfl rfl (by decide) rfl (fun ls hl => ?_)
        refine lv_goto (tgt := 7) hx hb dX19_deals_22 rfl ?_
        exact hJ7 _ _ _ _ _ h hw (lv_sub hl [1, 0] rfl)
  exact key _ _ _ _ _ _ (Nat.lt_succ_self _) h0 hw hl
set_option maxHeartbeats 4000000 in
theorem mX19_deals (l : Launch) (G : GT) (u : Hp) (a0 : Nat) (K : Hp → Prop) (h : pX19_deals u a0 K) : Met l yX19_deals (ws_ yX19_deals cX19_deals 3 none) (rmX19_deals 0 0) (va_Pc [.ref a0] (GB G u)) (va_Qv K (fun u t => GH G u t.heap) (GA G)) 0 0 (GA G) := by
  refine Met.ofW (cc := cX19_deals) (maxL := 3) (ret := none) (by decide) rfl ?_
  intro p e s m args below meth c s₁ B hml hv
  obtain ⟨rfl, hv⟩ := hv
  have X := Mc_of (own := RX19) B hml rfl hv
  have hw : GW G u s s.heap [] := ⟨hv.2.1, va_S.rf⟩
  have hr := B.returns
  obtain ⟨hx, hb, hml, hown, hts, -⟩ := id X
  have hl := lv_entry ([.ref a0]) (n := 3) (Nat.le_of_ble_eq_true rfl)
  rw [lg_entry_eq]
  generalize (lg_sl ([.ref a0]) ++ List.replicate (3 - (lg_sl ([.ref a0])).length) Slot.unset).toArray = ls at hl ⊢
  have hl : lv_has ls 3 [(0, .ref a0)] := hl
  change W p l e (rmX19_deals 0 0) s m _ below meth c s.heap [] 0 0 (QV G below K _ s 0 0) (F0 m 0 ls [])
  unfold pX19_deals at h
  refine lv_aload_n hx hb dX19_deals_0 rfl (lv_at hl 0 rfl) ?_
  refine lv_iconst (v := 0) hx hb dX19_deals_1 (by decide) ?_
  have hk_28 : kd u a0 = 16 := h.1
  have h := h.2
  refine g_putI (v := 0) X hw in_X19 tyX19_ok nmX19 hk_28 rfl 17 rfl (by decide) q1468 (fun _ z => z) rfl rfl rfl dX19_deals_2 (fun H locs hw => ?_)
  refine lv_iconst (v := 0) hx hb dX19_deals_5 (by decide) ?_
  refine lv_istore_n (lv' := [(1, .int 0), (0, .ref a0)]) hx hb dX19_deals_6 rfl hl (by decide) rfl (fun ls hl => ?_)
  exact wX19_deals_7 X hr  h hw (lv_sub hl [1, 0] rfl)

/-! FifthCardModel.isOneOrder()Z -/
theorem ydX19_isOneOrder : yX19_isOneOrder.cls = "FifthCardModel" ∧ yX19_isOneOrder.cls ≠ "java/lang/invoke/MethodHandle" ∧ yX19_isOneOrder.cls ≠ "java/lang/invoke/VarHandle" ∧ (parseMethodDescriptor yX19_isOneOrder.desc).map (fun d => d.parameters.length) = some 0 := by decide +kernel
def rmX19_isOneOrder (mc ms : Nat) : Room := { frames := 0, cells := mc, slots := ms, locals := 0 }
set_option maxHeartbeats 4000000 in
theorem mX19_isOneOrder (l : Launch) (G : GT) (u : Hp) (a0 : Nat) (K : Int32 → Prop) (h : pX19_isOneOrder u a0 K) : Met l yX19_isOneOrder (ws_ yX19_isOneOrder cX19_isOneOrder 1 (some .boolean)) (rmX19_isOneOrder 0 0) (va_Pc [.ref a0] (GB G u)) (va_Qi (fun r v => v = u ∧ K r) (fun u t => GH G u t.heap) (GA G)) 0 0 (GA G) := by
  refine Met.ofW (cc := cX19_isOneOrder) (maxL := 1) (ret := (some .boolean)) (by decide) rfl ?_
  intro p e s m args below meth c s₁ B hml hv
  obtain ⟨rfl, hv⟩ := hv
  have X := Mc_of (own := RX19) B hml rfl hv
  have hw : GW G u s s.heap [] := ⟨hv.2.1, va_S.rf⟩
  have hr := B.returns
  obtain ⟨hx, hb, hml, hown, hts, -⟩ := id X
  have hl := lv_entry ([.ref a0]) (n := 1) (Nat.le_of_ble_eq_true rfl)
  rw [lg_entry_eq]
  generalize (lg_sl ([.ref a0]) ++ List.replicate (1 - (lg_sl ([.ref a0])).length) Slot.unset).toArray = ls at hl ⊢
  have hl : lv_has ls 1 [(0, .ref a0)] := hl
  change W p l e (rmX19_isOneOrder 0 0) s m _ below meth c s.heap [] 0 0 (QI G below (fun r v => v = u ∧ K r) _ s 0 0) (F0 m 0 ls [])
  unfold pX19_isOneOrder at h
  refine lv_aload_n hx hb dX19_isOneOrder_0 rfl (lv_at hl 0 rfl) ?_
  have hk_1 : kd u a0 = 16 := h.1
  have h := h.2
  obtain ⟨b_2, e_3, h⟩ := h
  refine g_getR X hw in_X19 hk_1 rfl 3 rfl (by decide) q1454 (fun _ z => z) e_3 dX19_isOneOrder_1 ?_
  have hk_4 : kd u b_2 = 20 := h.1
  have h := h.2
  refine g_getNI X hw (host := "FifthCardModel") in_X23 hk_4 rfl 8 rfl (by decide) (List.mem_of_getElem? (i := 3) rfl) (fun _ z => z) dX19_isOneOrder_4 ?_
  refine lv_if_ne (tgt := 20) hx hb dX19_isOneOrder_7 rfl (fun c_6 => ?_) (fun c_6 => ?_)
  · have h := h.2 c_6
    refine lv_iconst (v := 1) hx hb dX19_isOneOrder_20 (by decide) ?_
    refine lv_goto (tgt := 25) hx hb dX19_isOneOrder_21 rfl ?_
    exact g_zret X hw hr rfl ⟨rfl, h⟩ (Nat.le_refl _) (Nat.le_refl _) dX19_isOneOrder_25
  · have h := h.1 c_6
    refine lv_aload_n hx hb dX19_isOneOrder_10 rfl (lv_at hl 0 rfl) ?_
    refine g_getR X hw in_X19 hk_1 rfl 3 rfl (by decide) q1454 (fun _ z => z) e_3 dX19_isOneOrder_11 ?_
    refine g_getNI X hw (host := "FifthCardModel") in_X23 hk_4 rfl 7 rfl (by decide) (List.mem_of_getElem? (i := 1) rfl) (fun _ z => z) dX19_isOneOrder_14 ?_
    refine lv_if_eq (tgt := 24) hx hb dX19_isOneOrder_17 rfl (fun c_5 => ?_) (fun c_5 => ?_)
    · have h := h.1 c_5
      refine lv_iconst (v := 0) hx hb dX19_isOneOrder_24 (by decide) ?_
      exact g_zret X hw hr rfl ⟨rfl, h⟩ (Nat.le_refl _) (Nat.le_refl _) dX19_isOneOrder_25
    · have h := h.2 c_5
      refine lv_iconst (v := 1) hx hb dX19_isOneOrder_20 (by decide) ?_
      refine lv_goto (tgt := 25) hx hb dX19_isOneOrder_21 rfl ?_
      exact g_zret X hw hr rfl ⟨rfl, h⟩ (Nat.le_refl _) (Nat.le_refl _) dX19_isOneOrder_25

/-! FifthCardModel.laysCodes()V -/
theorem ydX19_laysCodes : yX19_laysCodes.cls = "FifthCardModel" ∧ yX19_laysCodes.cls ≠ "java/lang/invoke/MethodHandle" ∧ yX19_laysCodes.cls ≠ "java/lang/invoke/VarHandle" ∧ (parseMethodDescriptor yX19_laysCodes.desc).map (fun d => d.parameters.length) = some 0 := by decide +kernel
def rmX19_laysCodes (mc ms : Nat) : Room := { frames := 1, cells := mc, slots := ms, locals := 20 }
set_option maxHeartbeats 4000000 in
theorem wX19_laysCodes_121 {G : GT} {p : Program} {l : Launch} {e : Env} {s : State} {m : MethodId} {args : Array Value} {below : List Frame} {meth : Method} {c : Code} {H : Heap} {locs : List Loc} {ls : Array Slot} {a0 : Nat} {x1 : Int32} {x3 : Int32} {u : Hp} {K : Hp → Prop} {J7 : Int32 → Hp → Prop} (X : Mc G p s m args meth c RX19 cX19_laysCodes 6) (hr : meth.sig.returnType = none) (hJ7 : ∀ (x1 : Int32) (u : Hp) (H : Heap) (locs : List Loc) (ls : Array Slot) , J7 x1 u → GW G u s H locs → lv_has ls 6 [(0, .ref a0), (1, .int x1)] → W p l e (rmX19_laysCodes 0 0) s m args below meth c H locs 0 0 (QV G below K args s 0 0) (F0 m 7 ls [])) (h : bX19_laysCodes_121 K J7 a0 x1 x3 u) (hw : GW G u s H locs) (hl : lv_has ls 6 [(0, .ref a0), (1, .int x1), (3, .int x3)]) : W p l e (rmX19_laysCodes 0 0) s m args below meth c H locs 0 0 (QV G below K args s 0 0) (F0 m 121 ls []) := by
  obtain ⟨hx, hb, hml, hown, hts, -⟩ := id X
  unfold bX19_laysCodes_121 at h
  refine lv_iload_n hx hb dX19_laysCodes_121 rfl (lv_at hl 2 rfl) ?_
  refine lv_if_ne (tgt := 128) hx hb dX19_laysCodes_122 rfl (fun c_5 => ?_) (fun c_5 => ?_)
  · have h := h.2 c_5
    refine lv_aload_n hx hb dX19_laysCodes_128 rfl (lv_at hl 0 rfl) ?_
    have hk_1 : kd u a0 = 16 := h.1
    have h := h.2
    obtain ⟨b_2, e_3, h⟩ := h
    refine g_getR X hw in_X19 hk_1 rfl 23 rfl (by decide) q1474 (fun _ z => z) e_3 dX19_laysCodes_129 ?_
    refine lv_aload_n hx hb dX19_laysCodes_132 rfl (lv_at hl 0 rfl) ?_
    refine g_getI X hw in_X19 hk_1 rfl 24 rfl (by decide) q1475 (fun _ z => z) dX19_laysCodes_133 ?_
    refine lv_iload_n hx hb dX19_laysCodes_136 rfl (lv_at hl 1 rfl) ?_
    have hk_4 : kd u b_2 = 101 := h.1
    have h := h.2
    refine g_iast X hw hk_4 h.1 dX19_laysCodes_137 (fun H locs hw => ?_)
    have h := h.2
    refine lv_aload_n hx hb dX19_laysCodes_138 rfl (lv_at hl 0 rfl) ?_
    refine lv_dup hx hb dX19_laysCodes_139 rfl ?_
    refine g_getI X hw in_X19 hk_1 rfl 24 rfl (by decide) q1475 (fun _ z => z) dX19_laysCodes_140 ?_
    refine lv_iconst (v := 1) hx hb dX19_laysCodes_143 (by decide) ?_
    refine lv_iadd hx hb dX19_laysCodes_144 ?_
    refine g_putI (v := (FI u 1924 a0) + 1) X hw in_X19 tyX19_ok nmX19 hk_1 rfl 24 rfl (by decide) q1475 (fun _ z => z) rfl rfl rfl dX19_laysCodes_145 (fun H locs hw => ?_)
    refine lv_iinc (v := x1 + 1) (lv' := [(1, .int (x1 + 1)), (0, .ref a0), (3, .int x3)]) hx hb dX19_laysCodes_148 hl (k := 1) rfl rfl (by decide) rfl (fun ls hl => ?_)
    refine lv_goto (tgt := 7) hx hb dX19_laysCodes_151 rfl ?_
    exact hJ7 _ _ _ _ _ h hw (lv_sub hl [1, 0] rfl)
  · have h := h.1 c_5
    refine lv_goto (tgt := 148) hx hb dX19_laysCodes_125 rfl ?_
    refine lv_iinc (v := x1 + 1) (lv' := [(1, .int (x1 + 1)), (0, .ref a0), (3, .int x3)]) hx hb dX19_laysCodes_148 hl (k := 1) rfl rfl (by decide) rfl (fun ls hl => ?_)
    refine lv_goto (tgt := 7) hx hb dX19_laysCodes_151 rfl ?_
    exact hJ7 _ _ _ _ _ h hw (lv_sub hl [1, 0] rfl)
set_option maxHeartbeats 4000000 in
theorem wX19_laysCodes_29 {G : GT} {p : Program} {l : Launch} {e : Env} {s : State} {m : MethodId} {args : Array Value} {below : List Frame} {meth : Method} {c : Code} {H : Heap} {locs : List Loc} {ls : Array Slot} {a0 : Nat} {x1 : Int32} {u : Hp} {x2 : Int32} {x3 : Int32} {x4 : Int32} {K : Hp → Prop} {J7 : Int32 → Hp → Prop} (X : Mc G p s m args meth c RX19 cX19_laysCodes 6) (hr : meth.sig.returnType = none) (hJ7 : ∀ (x1 : Int32) (u : Hp) (H : Heap) (locs : List Loc) (ls : Array Slot) , J7 x1 u → GW G u s H locs → lv_has ls 6 [(0, .ref a0), (1, .int x1)] → W p l e (rmX19_laysCodes 0 0) s m args below meth c H locs 0 0 (QV G below K args s 0 0) (F0 m 7 ls [])) (h : jl3 (bX19_laysCodes_29 K J7 a0 x1 u) x2 x3 x4) (hw : GW G u s H locs) (hl : lv_has ls 6 [(0, .ref a0), (1, .int x1), (2, .int x2), (3, .int x3), (4, .int x4)]) : W p l e (rmX19_laysCodes 0 0) s m args below meth c H locs 0 0 (QV G below K args s 0 0) (F0 m 29 ls []) := by
  obtain ⟨hx, hb, hml, hown, hts, -⟩ := id X
  obtain ⟨I, μ, h0, hs⟩ := h
  have key : ∀ (n : Nat) (x2 : Int32) (x3 : Int32) (x4 : Int32) (H : Heap) (locs : List Loc) (ls : Array Slot) , μ x2 x3 x4 < n → I x2 x3 x4 → GW G u s H locs → lv_has ls 6 [(0, .ref a0), (1, .int x1), (2, .int x2), (3, .int x3), (4, .int x4)] → W p l e (rmX19_laysCodes 0 0) s m args below meth c H locs 0 0 (QV G below K args s 0 0) (F0 m 29 ls []) := by
    intro n
    induction n with
    | zero =>
      intro x2 x3 x4 H locs ls hn
      exact absurd hn (Nat.not_lt_zero _)
    | succ n ih =>
      intro x2 x3 x4 H locs ls hn hI hw hl
      have h := hs x2 x3 x4 hI
      unfold bX19_laysCodes_29 at h
      have hJ29 : ∀ (x2' : Int32) (x3' : Int32) (x4' : Int32) (H : Heap) (locs : List Loc) (ls : Array Slot) , (I x2' x3' x4' ∧ μ x2' x3' x4' < μ x2 x3 x4) → GW G u s H locs → lv_has ls 6 [(0, .ref a0), (1, .int x1), (2, .int x2'), (3, .int x3'), (4, .int x4')] → W p l e (rmX19_laysCodes 0 0) s m args below meth c H locs 0 0 (QV G below K args s 0 0) (F0 m 29 ls []) := fun x2' x3' x4' H locs ls h hw hl => ih x2' x3' x4' H locs ls (Nat.lt_of_lt_of_le h.2 (Nat.le_of_lt_succ hn)) h.1 hw hl
      refine lv_iload hx hb dX19_laysCodes_29 (lv_at hl 4 rfl) ?_
      refine lv_aload_n hx hb dX19_laysCodes_31 rfl (lv_at hl 0 rfl) ?_
      have hk_6 : kd u a0 = 16 := h.1
      have h := h.2
      obtain ⟨b_7, e_8, h⟩ := h
      refine g_getR X hw in_X19 hk_6 rfl 3 rfl (by decide) q1454 (fun _ z => z) e_8 dX19_laysCodes_32 ?_
      have hk_9 : kd u b_7 = 20 := h.1
      have h := h.2
      refine g_getNI X hw (host := "FifthCardModel") in_X23 hk_9 rfl 4 rfl (by decide) (List.mem_of_getElem? (i := 7) rfl) (fun _ z => z) dX19_laysCodes_35 ?_
      refine lv_icmp_ge (tgt := 121) hx hb dX19_laysCodes_38 rfl (fun c_18 => ?_) (fun c_18 => ?_)
      · have h := h.1 c_18
        exact wX19_laysCodes_121 X hr hJ7  h hw (lv_sub hl [0, 1, 3] rfl)
      · have h := h.2 c_18
        refine lv_iload_n hx hb dX19_laysCodes_41 rfl (lv_at hl 3 rfl) ?_
        refine lv_if_eq (tgt := 121) hx hb dX19_laysCodes_42 rfl (fun c_17 => ?_) (fun c_17 => ?_)
        · have h := h.1 c_17
          exact wX19_laysCodes_121 X hr hJ7  h hw (lv_sub hl [0, 1, 3] rfl)
        · have h := h.2 c_17
          refine lv_iload_n hx hb dX19_laysCodes_45 rfl (lv_at hl 1 rfl) ?_
          refine lv_iconst (v := 3) hx hb dX19_laysCodes_46 (by decide) ?_
          refine lv_aload_n hx hb dX19_laysCodes_47 rfl (lv_at hl 0 rfl) ?_
          refine g_getR X hw in_X19 hk_6 rfl 3 rfl (by decide) q1454 (fun _ z => z) e_8 dX19_laysCodes_48 ?_
          refine g_getNI X hw (host := "FifthCardModel") in_X23 hk_9 rfl 4 rfl (by decide) (List.mem_of_getElem? (i := 7) rfl) (fun _ z => z) dX19_laysCodes_51 ?_
          refine lv_iconst (v := 1) hx hb dX19_laysCodes_54 (by decide) ?_
          refine lv_isub hx hb dX19_laysCodes_55 ?_
          refine lv_iload hx hb dX19_laysCodes_56 (lv_at hl 4 rfl) ?_
          refine lv_isub hx hb dX19_laysCodes_58 ?_
          refine lv_imul hx hb dX19_laysCodes_59 ?_
          refine lv_ishr hx hb dX19_laysCodes_60 ?_
          refine lv_bipush (v := 7) hx hb dX19_laysCodes_61 (by decide) ?_
          refine lv_iand hx hb dX19_laysCodes_63 ?_
          refine lv_topi (fun x5_10 e_11 => ?_)
          have h := h x5_10 e_11
          refine lv_istore (lv' := [(5, .int x5_10), (0, .ref a0), (1, .int x1), (2, .int x2), (3, .int x3), (4, .int x4)]) hx hb dX19_laysCodes_64 hl (by decide) rfl (fun ls hl => ?_)
          refine lv_iload hx hb dX19_laysCodes_66 (lv_at hl 0 rfl) ?_
          refine lv_aload_n hx hb dX19_laysCodes_68 rfl (lv_at hl 1 rfl) ?_
          refine g_getR X hw in_X19 hk_6 rfl 3 rfl (by decide) q1454 (fun _ z => z) e_8 dX19_laysCodes_69 ?_
          refine g_getNI X hw (host := "FifthCardModel") in_X23 hk_9 rfl 2 rfl (by decide) (List.mem_of_getElem? (i := 2) rfl) (fun _ z => z) dX19_laysCodes_72 ?_
          refine lv_icmp_ge (tgt := 106) hx hb dX19_laysCodes_75 rfl (fun c_16 => ?_) (fun c_16 => ?_)
          · have h := h.1 c_16
            refine lv_iconst (v := 0) hx hb dX19_laysCodes_106 (by decide) ?_
            refine lv_istore_n (lv' := [(3, .int 0), (5, .int x5_10), (0, .ref a0), (1, .int x1), (2, .int x2), (4, .int x4)]) hx hb dX19_laysCodes_107 rfl hl (by decide) rfl (fun ls hl => ?_)
            refine lv_iload_n hx hb dX19_laysCodes_108 rfl (lv_at hl 4 rfl) ?_
            refine lv_iconst (v := 1) hx hb dX19_laysCodes_109 (by decide) ?_
            refine lv_iload hx hb dX19_laysCodes_110 (lv_at hl 1 rfl) ?_
            refine lv_ishl hx hb dX19_laysCodes_112 ?_
            refine lv_ior hx hb dX19_laysCodes_113 ?_
            refine lv_istore_n (lv' := [(2, .int (x2 ||| (jshl 1 x5_10))), (3, .int 0), (5, .int x5_10), (0, .ref a0), (1, .int x1), (4, .int x4)]) hx hb dX19_laysCodes_114 rfl hl (by decide) rfl (fun ls hl => ?_)
            refine lv_iinc (v := x4 + 1) (lv' := [(4, .int (x4 + 1)), (2, .int (x2 ||| (jshl 1 x5_10))), (3, .int 0), (5, .int x5_10), (0, .ref a0), (1, .int x1)]) hx hb dX19_laysCodes_115 hl (k := 5) rfl rfl (by decide) rfl (fun ls hl => ?_)
            refine lv_goto (tgt := 29) hx hb dX19_laysCodes_118 rfl ?_
            exact hJ29 _ _ _ _ _ _ h hw (lv_sub hl [4, 5, 1, 2, 0] rfl)
          · have h := h.2 c_16
            refine lv_iload_n hx hb dX19_laysCodes_78 rfl (lv_at hl 3 rfl) ?_
            refine lv_iload hx hb dX19_laysCodes_79 (lv_at hl 0 rfl) ?_
            refine lv_ishr hx hb dX19_laysCodes_81 ?_
            refine lv_iconst (v := 1) hx hb dX19_laysCodes_82 (by decide) ?_
            refine lv_iand hx hb dX19_laysCodes_83 ?_
            refine lv_if_ne (tgt := 106) hx hb dX19_laysCodes_84 rfl (fun c_15 => ?_) (fun c_15 => ?_)
            · have h := h.2 c_15
              refine lv_iconst (v := 0) hx hb dX19_laysCodes_106 (by decide) ?_
              refine lv_istore_n (lv' := [(3, .int 0), (5, .int x5_10), (0, .ref a0), (1, .int x1), (2, .int x2), (4, .int x4)]) hx hb dX19_laysCodes_107 rfl hl (by decide) rfl (fun ls hl => ?_)
              refine lv_iload_n hx hb dX19_laysCodes_108 rfl (lv_at hl 4 rfl) ?_
              refine lv_iconst (v := 1) hx hb dX19_laysCodes_109 (by decide) ?_
              refine lv_iload hx hb dX19_laysCodes_110 (lv_at hl 1 rfl) ?_
              refine lv_ishl hx hb dX19_laysCodes_112 ?_
              refine lv_ior hx hb dX19_laysCodes_113 ?_
              refine lv_istore_n (lv' := [(2, .int (x2 ||| (jshl 1 x5_10))), (3, .int 0), (5, .int x5_10), (0, .ref a0), (1, .int x1), (4, .int x4)]) hx hb dX19_laysCodes_114 rfl hl (by decide) rfl (fun ls hl => ?_)
              refine lv_iinc (v := x4 + 1) (lv' := [(4, .int (x4 + 1)), (2, .int (x2 ||| (jshl 1 x5_10))), (3, .int 0), (5, .int x5_10), (0, .ref a0), (1, .int x1)]) hx hb dX19_laysCodes_115 hl (k := 5) rfl rfl (by decide) rfl (fun ls hl => ?_)
              refine lv_goto (tgt := 29) hx hb dX19_laysCodes_118 rfl ?_
              exact hJ29 _ _ _ _ _ _ h hw (lv_sub hl [4, 5, 1, 2, 0] rfl)
            · have h := h.1 c_15
              refine lv_aload_n hx hb dX19_laysCodes_87 rfl (lv_at hl 1 rfl) ?_
              refine g_callio hw (g_V X hw (mX19_isOneOrder l G _ _ _ h) 0 (lw_V q1843 q1845 qs72 q143 q1846) rfl rfl ydX19_isOneOrder ⟨Nat.le_of_ble_eq_true rfl, Nat.le_of_ble_eq_true rfl⟩ (g_recv X hw (ci := 15) (q := (RX19, TX19, 46)) hk_6 rfl) (As := []) (rest := []) rfl hl.1 rfl (Nat.le_of_ble_eq_true rfl) dX19_laysCodes_88 ⟨Nat.le_refl _, Nat.le_refl _⟩) (fun r_12 H locs h hw => ?_)
              refine lv_if_eq (tgt := 102) hx hb dX19_laysCodes_91 rfl (fun c_14 => ?_) (fun c_14 => ?_)
              · have h := h.1 c_14
                refine lv_iconst (v := 1) hx hb dX19_laysCodes_102 (by decide) ?_
                refine lv_goto (tgt := 107) hx hb dX19_laysCodes_103 rfl ?_
                refine lv_istore_n (lv' := [(3, .int 1), (5, .int x5_10), (0, .ref a0), (1, .int x1), (2, .int x2), (4, .int x4)]) hx hb dX19_laysCodes_107 rfl hl (by decide) rfl (fun ls hl => ?_)
                refine lv_iload_n hx hb dX19_laysCodes_108 rfl (lv_at hl 4 rfl) ?_
                refine lv_iconst (v := 1) hx hb dX19_laysCodes_109 (by decide) ?_
                refine lv_iload hx hb dX19_laysCodes_110 (lv_at hl 1 rfl) ?_
                refine lv_ishl hx hb dX19_laysCodes_112 ?_
                refine lv_ior hx hb dX19_laysCodes_113 ?_
                refine lv_istore_n (lv' := [(2, .int (x2 ||| (jshl 1 x5_10))), (3, .int 1), (5, .int x5_10), (0, .ref a0), (1, .int x1), (4, .int x4)]) hx hb dX19_laysCodes_114 rfl hl (by decide) rfl (fun ls hl => ?_)
                refine lv_iinc (v := x4 + 1) (lv' := [(4, .int (x4 + 1)), (2, .int (x2 ||| (jshl 1 x5_10))), (3, .int 1), (5, .int x5_10), (0, .ref a0), (1, .int x1)]) hx hb dX19_laysCodes_115 hl (k := 5) rfl rfl (by decide) rfl (fun ls hl => ?_)
                refine lv_goto (tgt := 29) hx hb dX19_laysCodes_118 rfl ?_
                exact hJ29 _ _ _ _ _ _ h hw (lv_sub hl [4, 5, 1, 2, 0] rfl)
              · have h := h.2 c_14
                refine lv_iload_n hx hb dX19_laysCodes_94 rfl (lv_at hl 3 rfl) ?_
                refine lv_iconst (v := 1) hx hb dX19_laysCodes_95 (by decide) ?_
                refine lv_iload hx hb dX19_laysCodes_96 (lv_at hl 0 rfl) ?_
                refine lv_ishl hx hb dX19_laysCodes_98 ?_
                refine lv_icmp_ge (tgt := 106) hx hb dX19_laysCodes_99 rfl (fun c_13 => ?_) (fun c_13 => ?_)
                · have h := h.1 c_13
                  refine lv_iconst (v := 0) hx hb dX19_laysCodes_106 (by decide) ?_
                  refine lv_istore_n (lv' := [(3, .int 0), (5, .int x5_10), (0, .ref a0), (1, .int x1), (2, .int x2), (4, .int x4)]) hx hb dX19_laysCodes_107 rfl hl (by decide) rfl (fun ls hl => ?_)
                  refine lv_iload_n hx hb dX19_laysCodes_108 rfl (lv_at hl 4 rfl) ?_
                  refine lv_iconst (v := 1) hx hb dX19_laysCodes_109 (by decide) ?_
                  refine lv_iload hx hb dX19_laysCodes_110 (lv_at hl 1 rfl) ?_
                  refine lv_ishl hx hb dX19_laysCodes_112 ?_
                  refine lv_ior hx hb dX19_laysCodes_113 ?_
                  refine lv_istore_n (lv' := [(2, .int (x2 ||| (jshl 1 x5_10))), (3, .int 0), (5, .int x5_10), (0, .ref a0), (1, .int x1), (4, .int x4)]) hx hb dX19_laysCodes_114 rfl hl (by decide) rfl (fun ls hl => ?_)
                  refine lv_iinc (v := x4 + 1) (lv' := [(4, .int (x4 + 1)), (2, .int (x2 ||| (jshl 1 x5_10))), (3, .int 0), (5, .int x5_10), (0, .ref a0), (1, .int x1)]) hx hb dX19_laysCodes_115 hl (k := 5) rfl rfl (by decide) rfl (fun ls hl => ?_)
                  refine lv_goto (tgt := 29) hx hb dX19_laysCodes_118 rfl ?_
                  exact hJ29 _ _ _ _ _ _ h hw (lv_sub hl [4, 5, 1, 2, 0] rfl)
                · have h := h.2 c_13
                  refine lv_iconst (v := 1) hx hb dX19_laysCodes_102 (by decide) ?_
                  refine lv_goto (tgt := 107) hx hb dX19_laysCodes_103 rfl ?_
                  refine lv_istore_n (lv' := [(3, .int 1), (5, .int x5_10), (0, .ref a0), (1, .int x1), (2, .int x2), (4, .int x4)]) hx hb dX19_laysCodes_107 rfl hl (by decide) rfl (fun ls hl => ?_)
                  refine lv_iload_n hx hb dX19_laysCodes_108 rfl (lv_at hl 4 rfl) ?_
                  refine lv_iconst (v := 1) hx hb dX19_laysCodes_109 (by decide) ?_
                  refine lv_iload hx hb dX19_laysCodes_110 (lv_at hl 1 rfl) ?_
                  refine lv_ishl hx hb dX19_laysCodes_112 ?_
                  refine lv_ior hx hb dX19_laysCodes_113 ?_
                  refine lv_istore_n (lv' := [(2, .int (x2 ||| (jshl 1 x5_10))), (3, .int 1), (5, .int x5_10), (0, .ref a0), (1, .int x1), (4, .int x4)]) hx hb dX19_laysCodes_114 rfl hl (by decide) rfl (fun ls hl => ?_)
                  refine lv_iinc (v := x4 + 1) (lv' := [(4, .int (x4 + 1)), (2, .int (x2 ||| (jshl 1 x5_10))), (3, .int 1), (5, .int x5_10), (0, .ref a0), (1, .int x1)]) hx hb dX19_laysCodes_115 hl (k := 5) rfl rfl (by decide) rfl (fun ls hl => ?_)
                  refine lv_goto (tgt := 29) hx hb dX19_laysCodes_118 rfl ?_
                  exact hJ29 _ _ _ _ _ _ h hw (lv_sub hl [4, 5, 1, 2, 0] rfl)
  exact key _ _ _ _ _ _ _ (Nat.lt_succ_self _) h0 hw hl
set_option maxHeartbeats 4000000 in
theorem wX19_laysCodes_7 {G : GT} {p : Program} {l : Launch} {e : Env} {s : State} {m : MethodId} {args : Array Value} {below : List Frame} {meth : Method} {c : Code} {H : Heap} {locs : List Loc} {ls : Array Slot} {a0 : Nat} {x1 : Int32} {u : Hp} {K : Hp → Prop} (X : Mc G p s m args meth c RX19 cX19_laysCodes 6) (hr : meth.sig.returnType = none) (h : jl2 (bX19_laysCodes_7 K a0) x1 u) (hw : GW G u s H locs) (hl : lv_has ls 6 [(0, .ref a0), (1, .int x1)]) : W p l e (rmX19_laysCodes 0 0) s m args below meth c H locs 0 0 (QV G below K args s 0 0) (F0 m 7 ls []) := by
  obtain ⟨hx, hb, hml, hown, hts, -⟩ := id X
  obtain ⟨I, μ, h0, hs⟩ := h
  have key : ∀ (n : Nat) (x1 : Int32) (u : Hp) (H : Heap) (locs : List Loc) (ls : Array Slot) , μ x1 u < n → I x1 u → GW G u s H locs → lv_has ls 6 [(0, .ref a0), (1, .int x1)] → W p l e (rmX19_laysCodes 0 0) s m args below meth c H locs 0 0 (QV G below K args s 0 0) (F0 m 7 ls []) := by
    intro n
    induction n with
    | zero =>
      intro x1 u H locs ls hn
      exact absurd hn (Nat.not_lt_zero _)
    | succ n ih =>
      intro x1 u H locs ls hn hI hw hl
      have h := hs x1 u hI
      unfold bX19_laysCodes_7 at h
      have hJ7 : ∀ (x1' : Int32) (u' : Hp) (H : Heap) (locs : List Loc) (ls : Array Slot) , (I x1' u' ∧ μ x1' u' < μ x1 u) → GW G u' s H locs → lv_has ls 6 [(0, .ref a0), (1, .int x1')] → W p l e (rmX19_laysCodes 0 0) s m args below meth c H locs 0 0 (QV G below K args s 0 0) (F0 m 7 ls []) := fun x1' u' H locs ls h hw hl => ih x1' u' H locs ls (Nat.lt_of_lt_of_le h.2 (Nat.le_of_lt_succ hn)) h.1 hw hl
      refine lv_iload_n hx hb dX19_laysCodes_7 rfl (lv_at hl 1 rfl) ?_
      refine lv_iconst (v := 1) hx hb dX19_laysCodes_8 (by decide) ?_
      refine lv_iconst (v := 3) hx hb dX19_laysCodes_9 (by decide) ?_
      refine lv_aload_n hx hb dX19_laysCodes_10 rfl (lv_at hl 0 rfl) ?_
      have hk_19 : kd u a0 = 16 := h.1
      have h := h.2
      obtain ⟨b_20, e_21, h⟩ := h
      refine g_getR X hw in_X19 hk_19 rfl 3 rfl (by decide) q1454 (fun _ z => z) e_21 dX19_laysCodes_11 ?_
      have hk_22 : kd u b_20 = 20 := h.1
      have h := h.2
      refine g_getNI X hw (host := "FifthCardModel") in_X23 hk_22 rfl 4 rfl (by decide) (List.mem_of_getElem? (i := 7) rfl) (fun _ z => z) dX19_laysCodes_14 ?_
      refine lv_imul hx hb dX19_laysCodes_17 ?_
      refine lv_ishl hx hb dX19_laysCodes_18 ?_
      refine lv_icmp_ge (tgt := 154) hx hb dX19_laysCodes_19 rfl (fun c_23 => ?_) (fun c_23 => ?_)
      · have h := h.1 c_23
        exact g_vret X hw hr h (Nat.le_refl _) (Nat.le_refl _) dX19_laysCodes_154
      · have h := h.2 c_23
        refine lv_iconst (v := 0) hx hb dX19_laysCodes_22 (by decide) ?_
        refine lv_istore_n (lv' := [(2, .int 0), (0, .ref a0), (1, .int x1)]) hx hb dX19_laysCodes_23 rfl hl (by decide) rfl (fun ls hl => ?_)
        refine lv_iconst (v := 1) hx hb dX19_laysCodes_24 (by decide) ?_
        refine lv_istore_n (lv' := [(3, .int 1), (2, .int 0), (0, .ref a0), (1, .int x1)]) hx hb dX19_laysCodes_25 rfl hl (by decide) rfl (fun ls hl => ?_)
        refine lv_iconst (v := 0) hx hb dX19_laysCodes_26 (by decide) ?_
        refine lv_istore (lv' := [(4, .int 0), (3, .int 1), (2, .int 0), (0, .ref a0), (1, .int x1)]) hx hb dX19_laysCodes_27 hl (by decide) rfl (fun ls hl => ?_)
        exact wX19_laysCodes_29 X hr hJ7  h hw (lv_sub hl [3, 4, 2, 1, 0] rfl)
  exact key _ _ _ _ _ _ (Nat.lt_succ_self _) h0 hw hl
set_option maxHeartbeats 4000000 in
theorem mX19_laysCodes (l : Launch) (G : GT) (u : Hp) (a0 : Nat) (K : Hp → Prop) (h : pX19_laysCodes u a0 K) : Met l yX19_laysCodes (ws_ yX19_laysCodes cX19_laysCodes 6 none) (rmX19_laysCodes 0 0) (va_Pc [.ref a0] (GB G u)) (va_Qv K (fun u t => GH G u t.heap) (GA G)) 0 0 (GA G) := by
  refine Met.ofW (cc := cX19_laysCodes) (maxL := 6) (ret := none) (by decide) rfl ?_
  intro p e s m args below meth c s₁ B hml hv
  obtain ⟨rfl, hv⟩ := hv
  have X := Mc_of (own := RX19) B hml rfl hv
  have hw : GW G u s s.heap [] := ⟨hv.2.1, va_S.rf⟩
  have hr := B.returns
  obtain ⟨hx, hb, hml, hown, hts, -⟩ := id X
  have hl := lv_entry ([.ref a0]) (n := 6) (Nat.le_of_ble_eq_true rfl)
  rw [lg_entry_eq]
  generalize (lg_sl ([.ref a0]) ++ List.replicate (6 - (lg_sl ([.ref a0])).length) Slot.unset).toArray = ls at hl ⊢
  have hl : lv_has ls 6 [(0, .ref a0)] := hl
  change W p l e (rmX19_laysCodes 0 0) s m _ below meth c s.heap [] 0 0 (QV G below K _ s 0 0) (F0 m 0 ls [])
  unfold pX19_laysCodes at h
  refine lv_aload_n hx hb dX19_laysCodes_0 rfl (lv_at hl 0 rfl) ?_
  refine lv_iconst (v := 0) hx hb dX19_laysCodes_1 (by decide) ?_
  have hk_24 : kd u a0 = 16 := h.1
  have h := h.2
  refine g_putI (v := 0) X hw in_X19 tyX19_ok nmX19 hk_24 rfl 24 rfl (by decide) q1475 (fun _ z => z) rfl rfl rfl dX19_laysCodes_2 (fun H locs hw => ?_)
  refine lv_iconst (v := 0) hx hb dX19_laysCodes_5 (by decide) ?_
  refine lv_istore_n (lv' := [(1, .int 0), (0, .ref a0)]) hx hb dX19_laysCodes_6 rfl hl (by decide) rfl (fun ls hl => ?_)
  exact wX19_laysCodes_7 X hr  h hw (lv_sub hl [1, 0] rfl)

/-! FifthCardModel.cardOf(II)I -/
theorem ydX19_cardOf : yX19_cardOf.cls = "FifthCardModel" ∧ yX19_cardOf.cls ≠ "java/lang/invoke/MethodHandle" ∧ yX19_cardOf.cls ≠ "java/lang/invoke/VarHandle" ∧ (parseMethodDescriptor yX19_cardOf.desc).map (fun d => d.parameters.length) = some 2 := by decide +kernel
def rmX19_cardOf (mc ms : Nat) : Room := { frames := 0, cells := mc, slots := ms, locals := 0 }
set_option maxHeartbeats 4000000 in
theorem mX19_cardOf (l : Launch) (G : GT) (u : Hp) (a0 : Nat) (x1 : Int32) (x2 : Int32) (K : Int32 → Prop) (h : pX19_cardOf u a0 x1 x2 K) : Met l yX19_cardOf (ws_ yX19_cardOf cX19_cardOf 3 (some .int)) (rmX19_cardOf 0 0) (va_Pc [.ref a0, .int x1, .int x2] (GB G u)) (va_Qi (fun r v => v = u ∧ K r) (fun u t => GH G u t.heap) (GA G)) 0 0 (GA G) := by
  refine Met.ofW (cc := cX19_cardOf) (maxL := 3) (ret := (some .int)) (by decide) rfl ?_
  intro p e s m args below meth c s₁ B hml hv
  obtain ⟨rfl, hv⟩ := hv
  have X := Mc_of (own := RX19) B hml rfl hv
  have hw : GW G u s s.heap [] := ⟨hv.2.1, va_S.rf⟩
  have hr := B.returns
  obtain ⟨hx, hb, hml, hown, hts, -⟩ := id X
  have hl := lv_entry ([.ref a0, .int x1, .int x2]) (n := 3) (Nat.le_of_ble_eq_true rfl)
  rw [lg_entry_eq]
  generalize (lg_sl ([.ref a0, .int x1, .int x2]) ++ List.replicate (3 - (lg_sl ([.ref a0, .int x1, .int x2])).length) Slot.unset).toArray = ls at hl ⊢
  have hl : lv_has ls 3 [(0, .ref a0), (1, .int x1), (2, .int x2)] := hl
  change W p l e (rmX19_cardOf 0 0) s m _ below meth c s.heap [] 0 0 (QI G below (fun r v => v = u ∧ K r) _ s 0 0) (F0 m 0 ls [])
  unfold pX19_cardOf at h
  refine lv_aload_n hx hb dX19_cardOf_0 rfl (lv_at hl 0 rfl) ?_
  have hk_1 : kd u a0 = 16 := h.1
  have h := h.2
  obtain ⟨b_2, e_3, h⟩ := h
  refine g_getR X hw in_X19 hk_1 rfl 16 rfl (by decide) q1467 (fun _ z => z) e_3 dX19_cardOf_1 ?_
  refine lv_iconst (v := 5) hx hb dX19_cardOf_4 (by decide) ?_
  refine lv_iload_n hx hb dX19_cardOf_5 rfl (lv_at hl 1 rfl) ?_
  refine lv_imul hx hb dX19_cardOf_6 ?_
  refine lv_iload_n hx hb dX19_cardOf_7 rfl (lv_at hl 2 rfl) ?_
  refine lv_iadd hx hb dX19_cardOf_8 ?_
  have hk_4 : kd u b_2 = 102 ∨ kd u b_2 = 202 := h.1
  have h := h.2
  refine g_bald X hw hk_4 h.1 dX19_cardOf_9 ?_
  have h := h.2
  exact g_iret X hw hr ⟨rfl, h⟩ (Nat.le_refl _) (Nat.le_refl _) dX19_cardOf_10

/-! FifthCardModel.has(II)Z -/
theorem ydX19_has : yX19_has.cls = "FifthCardModel" ∧ yX19_has.cls ≠ "java/lang/invoke/MethodHandle" ∧ yX19_has.cls ≠ "java/lang/invoke/VarHandle" ∧ (parseMethodDescriptor yX19_has.desc).map (fun d => d.parameters.length) = some 2 := by decide +kernel
def rmX19_has (mc ms : Nat) : Room := { frames := 1, cells := mc, slots := ms, locals := 22 }
set_option maxHeartbeats 4000000 in
theorem wX19_has_2 {G : GT} {p : Program} {l : Launch} {e : Env} {s : State} {m : MethodId} {args : Array Value} {below : List Frame} {meth : Method} {c : Code} {H : Heap} {locs : List Loc} {ls : Array Slot} {a0 : Nat} {x1 : Int32} {x2 : Int32} {u : Hp} {x3 : Int32} {K : Int32 → Prop} (X : Mc G p s m args meth c RX19 cX19_has 4) (hr : meth.sig.returnType = (some .boolean)) (h : jl1 (bX19_has_2 K a0 x1 x2 u) x3) (hw : GW G u s H locs) (hl : lv_has ls 4 [(0, .ref a0), (1, .int x1), (2, .int x2), (3, .int x3)]) : W p l e (rmX19_has 0 0) s m args below meth c H locs 0 0 (QI G below (fun r v => v = u ∧ K r) args s 0 0) (F0 m 2 ls []) := by
  obtain ⟨hx, hb, hml, hown, hts, -⟩ := id X
  obtain ⟨I, μ, h0, hs⟩ := h
  have key : ∀ (n : Nat) (x3 : Int32) (H : Heap) (locs : List Loc) (ls : Array Slot) , μ x3 < n → I x3 → GW G u s H locs → lv_has ls 4 [(0, .ref a0), (1, .int x1), (2, .int x2), (3, .int x3)] → W p l e (rmX19_has 0 0) s m args below meth c H locs 0 0 (QI G below (fun r v => v = u ∧ K r) args s 0 0) (F0 m 2 ls []) := by
    intro n
    induction n with
    | zero =>
      intro x3 H locs ls hn
      exact absurd hn (Nat.not_lt_zero _)
    | succ n ih =>
      intro x3 H locs ls hn hI hw hl
      have h := hs x3 hI
      unfold bX19_has_2 at h
      have hJ2 : ∀ (x3' : Int32) (H : Heap) (locs : List Loc) (ls : Array Slot) , (I x3' ∧ μ x3' < μ x3) → GW G u s H locs → lv_has ls 4 [(0, .ref a0), (1, .int x1), (2, .int x2), (3, .int x3')] → W p l e (rmX19_has 0 0) s m args below meth c H locs 0 0 (QI G below (fun r v => v = u ∧ K r) args s 0 0) (F0 m 2 ls []) := fun x3' H locs ls h hw hl => ih x3' H locs ls (Nat.lt_of_lt_of_le h.2 (Nat.le_of_lt_succ hn)) h.1 hw hl
      refine lv_iload_n hx hb dX19_has_2 rfl (lv_at hl 3 rfl) ?_
      refine lv_aload_n hx hb dX19_has_3 rfl (lv_at hl 0 rfl) ?_
      have hk_1 : kd u a0 = 16 := h.1
      have h := h.2
      obtain ⟨b_2, e_3, h⟩ := h
      refine g_getR X hw in_X19 hk_1 rfl 3 rfl (by decide) q1454 (fun _ z => z) e_3 dX19_has_4 ?_
      have hk_4 : kd u b_2 = 20 := h.1
      have h := h.2
      refine g_getNI X hw (host := "FifthCardModel") in_X23 hk_4 rfl 2 rfl (by decide) (List.mem_of_getElem? (i := 2) rfl) (fun _ z => z) dX19_has_7 ?_
      refine lv_icmp_ge (tgt := 31) hx hb dX19_has_10 rfl (fun c_7 => ?_) (fun c_7 => ?_)
      · have h := h.1 c_7
        refine lv_iconst (v := 0) hx hb dX19_has_31 (by decide) ?_
        exact g_zret X hw hr rfl ⟨rfl, h⟩ (Nat.le_refl _) (Nat.le_refl _) dX19_has_32
      · have h := h.2 c_7
        refine lv_aload_n hx hb dX19_has_13 rfl (lv_at hl 0 rfl) ?_
        refine lv_iload_n hx hb dX19_has_14 rfl (lv_at hl 1 rfl) ?_
        refine lv_iload_n hx hb dX19_has_15 rfl (lv_at hl 3 rfl) ?_
        refine g_callio hw (g_V X hw (mX19_cardOf l G _ _ _ _ _ h) 2 (lw_V q1851 q1853 qs74 q143 q1854) rfl rfl ydX19_cardOf ⟨Nat.le_of_ble_eq_true rfl, Nat.le_of_ble_eq_true rfl⟩ (g_recv X hw (ci := 15) (q := (RX19, TX19, 46)) hk_1 rfl) (As := [.int x1, .int x3]) (rest := []) rfl hl.1 rfl (Nat.le_of_ble_eq_true rfl) dX19_has_16 ⟨Nat.le_refl _, Nat.le_refl _⟩) (fun r_5 H locs h hw => ?_)
        refine lv_iload_n hx hb dX19_has_19 rfl (lv_at hl 2 rfl) ?_
        refine lv_icmp_ne (tgt := 25) hx hb dX19_has_20 rfl (fun c_6 => ?_) (fun c_6 => ?_)
        · have h := h.2 c_6
          refine lv_iinc (v := x3 + 1) (lv' := [(3, .int (x3 + 1)), (0, .ref a0), (1, .int x1), (2, .int x2)]) hx hb dX19_has_25 hl (k := 3) rfl rfl (by decide) rfl (fun ls hl => ?_)
          refine lv_goto (tgt := 2) hx hb dX19_has_28 rfl ?_
          exact hJ2 _ _ _ _ h hw (lv_sub hl [1, 2, 3, 0] rfl)
        · have h := h.1 c_6
          refine lv_iconst (v := 1) hx hb dX19_has_23 (by decide) ?_
          exact g_zret X hw hr rfl ⟨rfl, h⟩ (Nat.le_refl _) (Nat.le_refl _) dX19_has_24
  exact key _ _ _ _ _ (Nat.lt_succ_self _) h0 hw hl
set_option maxHeartbeats 4000000 in
theorem mX19_has (l : Launch) (G : GT) (u : Hp) (a0 : Nat) (x1 : Int32) (x2 : Int32) (K : Int32 → Prop) (h : pX19_has u a0 x1 x2 K) : Met l yX19_has (ws_ yX19_has cX19_has 4 (some .boolean)) (rmX19_has 0 0) (va_Pc [.ref a0, .int x1, .int x2] (GB G u)) (va_Qi (fun r v => v = u ∧ K r) (fun u t => GH G u t.heap) (GA G)) 0 0 (GA G) := by
  refine Met.ofW (cc := cX19_has) (maxL := 4) (ret := (some .boolean)) (by decide) rfl ?_
  intro p e s m args below meth c s₁ B hml hv
  obtain ⟨rfl, hv⟩ := hv
  have X := Mc_of (own := RX19) B hml rfl hv
  have hw : GW G u s s.heap [] := ⟨hv.2.1, va_S.rf⟩
  have hr := B.returns
  obtain ⟨hx, hb, hml, hown, hts, -⟩ := id X
  have hl := lv_entry ([.ref a0, .int x1, .int x2]) (n := 4) (Nat.le_of_ble_eq_true rfl)
  rw [lg_entry_eq]
  generalize (lg_sl ([.ref a0, .int x1, .int x2]) ++ List.replicate (4 - (lg_sl ([.ref a0, .int x1, .int x2])).length) Slot.unset).toArray = ls at hl ⊢
  have hl : lv_has ls 4 [(0, .ref a0), (1, .int x1), (2, .int x2)] := hl
  change W p l e (rmX19_has 0 0) s m _ below meth c s.heap [] 0 0 (QI G below (fun r v => v = u ∧ K r) _ s 0 0) (F0 m 0 ls [])
  unfold pX19_has at h
  refine lv_iconst (v := 0) hx hb dX19_has_0 (by decide) ?_
  refine lv_istore_n (lv' := [(3, .int 0), (0, .ref a0), (1, .int x1), (2, .int x2)]) hx hb dX19_has_1 rfl hl (by decide) rfl (fun ls hl => ?_)
  exact wX19_has_2 X hr  h hw (lv_sub hl [1, 2, 3, 0] rfl)

/-! FifthCardModel.handNumber([II)I -/
theorem ydX19_handNumber : yX19_handNumber.cls = "FifthCardModel" ∧ yX19_handNumber.cls ≠ "java/lang/invoke/MethodHandle" ∧ yX19_handNumber.cls ≠ "java/lang/invoke/VarHandle" ∧ (parseMethodDescriptor yX19_handNumber.desc).map (fun d => d.parameters.length) = some 2 := by decide +kernel
def rmX19_handNumber (mc ms : Nat) : Room := { frames := 2, cells := mc, slots := ms, locals := 45 }
set_option maxHeartbeats 4000000 in
theorem wX19_handNumber_16 {G : GT} {p : Program} {l : Launch} {e : Env} {s : State} {m : MethodId} {args : Array Value} {below : List Frame} {meth : Method} {c : Code} {H : Heap} {locs : List Loc} {ls : Array Slot} {a0 : Nat} {a1 : Nat} {x2 : Int32} {x3 : Int32} {u : Hp} {x4 : Int32} {x5 : Int32} {K : Int32 → Prop} {J2 : Int32 → Prop} (X : Mc G p s m args meth c RX19 cX19_handNumber 6) (hr : meth.sig.returnType = (some .int)) (hJ2 : ∀ (x3 : Int32) (H : Heap) (locs : List Loc) (ls : Array Slot) , J2 x3 → GW G u s H locs → lv_has ls 6 [(0, .ref a0), (1, .ref a1), (2, .int x2), (3, .int x3)] → W p l e (rmX19_handNumber 0 0) s m args below meth c H locs 0 0 (QI G below (fun r v => v = u ∧ K r) args s 0 0) (F0 m 2 ls [])) (h : jl2 (bX19_handNumber_16 K J2 a0 a1 x2 x3 u) x4 x5) (hw : GW G u s H locs) (hl : lv_has ls 6 [(0, .ref a0), (1, .ref a1), (2, .int x2), (3, .int x3), (4, .int x4), (5, .int x5)]) : W p l e (rmX19_handNumber 0 0) s m args below meth c H locs 0 0 (QI G below (fun r v => v = u ∧ K r) args s 0 0) (F0 m 16 ls []) := by
  obtain ⟨hx, hb, hml, hown, hts, -⟩ := id X
  obtain ⟨I, μ, h0, hs⟩ := h
  have key : ∀ (n : Nat) (x4 : Int32) (x5 : Int32) (H : Heap) (locs : List Loc) (ls : Array Slot) , μ x4 x5 < n → I x4 x5 → GW G u s H locs → lv_has ls 6 [(0, .ref a0), (1, .ref a1), (2, .int x2), (3, .int x3), (4, .int x4), (5, .int x5)] → W p l e (rmX19_handNumber 0 0) s m args below meth c H locs 0 0 (QI G below (fun r v => v = u ∧ K r) args s 0 0) (F0 m 16 ls []) := by
    intro n
    induction n with
    | zero =>
      intro x4 x5 H locs ls hn
      exact absurd hn (Nat.not_lt_zero _)
    | succ n ih =>
      intro x4 x5 H locs ls hn hI hw hl
      have h := hs x4 x5 hI
      unfold bX19_handNumber_16 at h
      have hJ16 : ∀ (x4' : Int32) (x5' : Int32) (H : Heap) (locs : List Loc) (ls : Array Slot) , (I x4' x5' ∧ μ x4' x5' < μ x4 x5) → GW G u s H locs → lv_has ls 6 [(0, .ref a0), (1, .ref a1), (2, .int x2), (3, .int x3), (4, .int x4'), (5, .int x5')] → W p l e (rmX19_handNumber 0 0) s m args below meth c H locs 0 0 (QI G below (fun r v => v = u ∧ K r) args s 0 0) (F0 m 16 ls []) := fun x4' x5' H locs ls h hw hl => ih x4' x5' H locs ls (Nat.lt_of_lt_of_le h.2 (Nat.le_of_lt_succ hn)) h.1 hw hl
      refine lv_iload hx hb dX19_handNumber_16 (lv_at hl 5 rfl) ?_
      refine lv_aload_n hx hb dX19_handNumber_18 rfl (lv_at hl 0 rfl) ?_
      have hk_1 : kd u a0 = 16 := h.1
      have h := h.2
      obtain ⟨b_2, e_3, h⟩ := h
      refine g_getR X hw in_X19 hk_1 rfl 3 rfl (by decide) q1454 (fun _ z => z) e_3 dX19_handNumber_19 ?_
      have hk_4 : kd u b_2 = 20 := h.1
      have h := h.2
      refine g_getNI X hw (host := "FifthCardModel") in_X23 hk_4 rfl 2 rfl (by decide) (List.mem_of_getElem? (i := 2) rfl) (fun _ z => z) dX19_handNumber_22 ?_
      refine lv_icmp_ge (tgt := 89) hx hb dX19_handNumber_25 rfl (fun c_14 => ?_) (fun c_14 => ?_)
      · have h := h.1 c_14
        refine lv_iload hx hb dX19_handNumber_89 (lv_at hl 4 rfl) ?_
        refine lv_if_eq (tgt := 96) hx hb dX19_handNumber_91 rfl (fun c_5 => ?_) (fun c_5 => ?_)
        · have h := h.1 c_5
          refine lv_iinc (v := x3 + 1) (lv' := [(3, .int (x3 + 1)), (0, .ref a0), (1, .ref a1), (2, .int x2), (4, .int x4), (5, .int x5)]) hx hb dX19_handNumber_96 hl (k := 3) rfl rfl (by decide) rfl (fun ls hl => ?_)
          refine lv_goto (tgt := 2) hx hb dX19_handNumber_99 rfl ?_
          exact hJ2 _ _ _ _ h hw (lv_sub hl [1, 2, 3, 0] rfl)
        · have h := h.2 c_5
          refine lv_iload_n hx hb dX19_handNumber_94 rfl (lv_at hl 3 rfl) ?_
          exact g_iret X hw hr ⟨rfl, h⟩ (Nat.le_refl _) (Nat.le_refl _) dX19_handNumber_95
      · have h := h.2 c_14
        refine lv_iload hx hb dX19_handNumber_28 (lv_at hl 4 rfl) ?_
        refine lv_if_eq (tgt := 80) hx hb dX19_handNumber_30 rfl (fun c_13 => ?_) (fun c_13 => ?_)
        · have h := h.1 c_13
          refine lv_iconst (v := 0) hx hb dX19_handNumber_80 (by decide) ?_
          refine lv_istore (lv' := [(4, .int 0), (0, .ref a0), (1, .ref a1), (2, .int x2), (3, .int x3), (5, .int x5)]) hx hb dX19_handNumber_81 hl (by decide) rfl (fun ls hl => ?_)
          refine lv_iinc (v := x5 + 1) (lv' := [(5, .int (x5 + 1)), (4, .int 0), (0, .ref a0), (1, .ref a1), (2, .int x2), (3, .int x3)]) hx hb dX19_handNumber_83 hl (k := 5) rfl rfl (by decide) rfl (fun ls hl => ?_)
          refine lv_goto (tgt := 16) hx hb dX19_handNumber_86 rfl ?_
          exact hJ16 _ _ _ _ _ h hw (lv_sub hl [2, 3, 4, 5, 1, 0] rfl)
        · have h := h.2 c_13
          refine lv_aload_n hx hb dX19_handNumber_33 rfl (lv_at hl 0 rfl) ?_
          refine g_getR X hw in_X19 hk_1 rfl 3 rfl (by decide) q1454 (fun _ z => z) e_3 dX19_handNumber_34 ?_
          refine g_getNI X hw (host := "FifthCardModel") in_X23 hk_4 rfl 7 rfl (by decide) (List.mem_of_getElem? (i := 1) rfl) (fun _ z => z) dX19_handNumber_37 ?_
          refine lv_if_eq (tgt := 62) hx hb dX19_handNumber_40 rfl (fun c_12 => ?_) (fun c_12 => ?_)
          · have h := h.1 c_12
            refine lv_aload_n hx hb dX19_handNumber_62 rfl (lv_at hl 0 rfl) ?_
            refine lv_iload_n hx hb dX19_handNumber_63 rfl (lv_at hl 3 rfl) ?_
            refine lv_aload_n hx hb dX19_handNumber_64 rfl (lv_at hl 1 rfl) ?_
            refine lv_iload_n hx hb dX19_handNumber_65 rfl (lv_at hl 2 rfl) ?_
            refine lv_iload hx hb dX19_handNumber_66 (lv_at hl 5 rfl) ?_
            refine lv_iadd hx hb dX19_handNumber_68 ?_
            have hk_6 : kd u a1 = 101 := h.1
            have h := h.2
            refine g_iald X hw hk_6 h.1 dX19_handNumber_69 ?_
            have h := h.2
            refine g_callio hw (g_V X hw (mX19_has l G _ _ _ _ _ h) 2 (lw_V q1855 q1857 qs75 q143 q1858) rfl rfl ydX19_has ⟨Nat.le_of_ble_eq_true rfl, Nat.le_of_ble_eq_true rfl⟩ (g_recv X hw (ci := 15) (q := (RX19, TX19, 46)) hk_1 rfl) (As := [.int x3, .int (AI u a1 (tn (x2 + x5)))]) (rest := []) rfl hl.1 rfl (Nat.le_of_ble_eq_true rfl) dX19_handNumber_70 ⟨Nat.le_refl _, Nat.le_refl _⟩) (fun r_7 H locs h hw => ?_)
            refine lv_if_eq (tgt := 80) hx hb dX19_handNumber_73 rfl (fun c_8 => ?_) (fun c_8 => ?_)
            · have h := h.1 c_8
              refine lv_iconst (v := 0) hx hb dX19_handNumber_80 (by decide) ?_
              refine lv_istore (lv' := [(4, .int 0), (0, .ref a0), (1, .ref a1), (2, .int x2), (3, .int x3), (5, .int x5)]) hx hb dX19_handNumber_81 hl (by decide) rfl (fun ls hl => ?_)
              refine lv_iinc (v := x5 + 1) (lv' := [(5, .int (x5 + 1)), (4, .int 0), (0, .ref a0), (1, .ref a1), (2, .int x2), (3, .int x3)]) hx hb dX19_handNumber_83 hl (k := 5) rfl rfl (by decide) rfl (fun ls hl => ?_)
              refine lv_goto (tgt := 16) hx hb dX19_handNumber_86 rfl ?_
              exact hJ16 _ _ _ _ _ h hw (lv_sub hl [2, 3, 4, 5, 1, 0] rfl)
            · have h := h.2 c_8
              refine lv_iconst (v := 1) hx hb dX19_handNumber_76 (by decide) ?_
              refine lv_goto (tgt := 81) hx hb dX19_handNumber_77 rfl ?_
              refine lv_istore (lv' := [(4, .int 1), (0, .ref a0), (1, .ref a1), (2, .int x2), (3, .int x3), (5, .int x5)]) hx hb dX19_handNumber_81 hl (by decide) rfl (fun ls hl => ?_)
              refine lv_iinc (v := x5 + 1) (lv' := [(5, .int (x5 + 1)), (4, .int 1), (0, .ref a0), (1, .ref a1), (2, .int x2), (3, .int x3)]) hx hb dX19_handNumber_83 hl (k := 5) rfl rfl (by decide) rfl (fun ls hl => ?_)
              refine lv_goto (tgt := 16) hx hb dX19_handNumber_86 rfl ?_
              exact hJ16 _ _ _ _ _ h hw (lv_sub hl [2, 3, 4, 5, 1, 0] rfl)
          · have h := h.2 c_12
            refine lv_aload_n hx hb dX19_handNumber_43 rfl (lv_at hl 0 rfl) ?_
            refine lv_iload_n hx hb dX19_handNumber_44 rfl (lv_at hl 3 rfl) ?_
            refine lv_iload hx hb dX19_handNumber_45 (lv_at hl 5 rfl) ?_
            refine g_callio hw (g_V X hw (mX19_cardOf l G _ _ _ _ _ h) 2 (lw_V q1851 q1853 qs74 q143 q1854) rfl rfl ydX19_cardOf ⟨Nat.le_of_ble_eq_true rfl, Nat.le_of_ble_eq_true rfl⟩ (g_recv X hw (ci := 15) (q := (RX19, TX19, 46)) hk_1 rfl) (As := [.int x3, .int x5]) (rest := []) rfl hl.1 rfl (Nat.le_of_ble_eq_true rfl) dX19_handNumber_47 ⟨Nat.le_refl _, Nat.le_refl _⟩) (fun r_9 H locs h hw => ?_)
            refine lv_aload_n hx hb dX19_handNumber_50 rfl (lv_at hl 1 rfl) ?_
            refine lv_iload_n hx hb dX19_handNumber_51 rfl (lv_at hl 2 rfl) ?_
            refine lv_iload hx hb dX19_handNumber_52 (lv_at hl 5 rfl) ?_
            refine lv_iadd hx hb dX19_handNumber_54 ?_
            have hk_10 : kd u a1 = 101 := h.1
            have h := h.2
            refine g_iald X hw hk_10 h.1 dX19_handNumber_55 ?_
            have h := h.2
            refine lv_icmp_ne (tgt := 80) hx hb dX19_handNumber_56 rfl (fun c_11 => ?_) (fun c_11 => ?_)
            · have h := h.2 c_11
              refine lv_iconst (v := 0) hx hb dX19_handNumber_80 (by decide) ?_
              refine lv_istore (lv' := [(4, .int 0), (0, .ref a0), (1, .ref a1), (2, .int x2), (3, .int x3), (5, .int x5)]) hx hb dX19_handNumber_81 hl (by decide) rfl (fun ls hl => ?_)
              refine lv_iinc (v := x5 + 1) (lv' := [(5, .int (x5 + 1)), (4, .int 0), (0, .ref a0), (1, .ref a1), (2, .int x2), (3, .int x3)]) hx hb dX19_handNumber_83 hl (k := 5) rfl rfl (by decide) rfl (fun ls hl => ?_)
              refine lv_goto (tgt := 16) hx hb dX19_handNumber_86 rfl ?_
              exact hJ16 _ _ _ _ _ h hw (lv_sub hl [2, 3, 4, 5, 1, 0] rfl)
            · have h := h.1 c_11
              refine lv_goto (tgt := 76) hx hb dX19_handNumber_59 rfl ?_
              refine lv_iconst (v := 1) hx hb dX19_handNumber_76 (by decide) ?_
              refine lv_goto (tgt := 81) hx hb dX19_handNumber_77 rfl ?_
              refine lv_istore (lv' := [(4, .int 1), (0, .ref a0), (1, .ref a1), (2, .int x2), (3, .int x3), (5, .int x5)]) hx hb dX19_handNumber_81 hl (by decide) rfl (fun ls hl => ?_)
              refine lv_iinc (v := x5 + 1) (lv' := [(5, .int (x5 + 1)), (4, .int 1), (0, .ref a0), (1, .ref a1), (2, .int x2), (3, .int x3)]) hx hb dX19_handNumber_83 hl (k := 5) rfl rfl (by decide) rfl (fun ls hl => ?_)
              refine lv_goto (tgt := 16) hx hb dX19_handNumber_86 rfl ?_
              exact hJ16 _ _ _ _ _ h hw (lv_sub hl [2, 3, 4, 5, 1, 0] rfl)
  exact key _ _ _ _ _ _ (Nat.lt_succ_self _) h0 hw hl
set_option maxHeartbeats 4000000 in
theorem wX19_handNumber_2 {G : GT} {p : Program} {l : Launch} {e : Env} {s : State} {m : MethodId} {args : Array Value} {below : List Frame} {meth : Method} {c : Code} {H : Heap} {locs : List Loc} {ls : Array Slot} {a0 : Nat} {a1 : Nat} {x2 : Int32} {u : Hp} {x3 : Int32} {K : Int32 → Prop} (X : Mc G p s m args meth c RX19 cX19_handNumber 6) (hr : meth.sig.returnType = (some .int)) (h : jl1 (bX19_handNumber_2 K a0 a1 x2 u) x3) (hw : GW G u s H locs) (hl : lv_has ls 6 [(0, .ref a0), (1, .ref a1), (2, .int x2), (3, .int x3)]) : W p l e (rmX19_handNumber 0 0) s m args below meth c H locs 0 0 (QI G below (fun r v => v = u ∧ K r) args s 0 0) (F0 m 2 ls []) := by
  obtain ⟨hx, hb, hml, hown, hts, -⟩ := id X
  obtain ⟨I, μ, h0, hs⟩ := h
  have key : ∀ (n : Nat) (x3 : Int32) (H : Heap) (locs : List Loc) (ls : Array Slot) , μ x3 < n → I x3 → GW G u s H locs → lv_has ls 6 [(0, .ref a0), (1, .ref a1), (2, .int x2), (3, .int x3)] → W p l e (rmX19_handNumber 0 0) s m args below meth c H locs 0 0 (QI G below (fun r v => v = u ∧ K r) args s 0 0) (F0 m 2 ls []) := by
    intro n
    induction n with
    | zero =>
      intro x3 H locs ls hn
      exact absurd hn (Nat.not_lt_zero _)
    | succ n ih =>
      intro x3 H locs ls hn hI hw hl
      have h := hs x3 hI
      unfold bX19_handNumber_2 at h
      have hJ2 : ∀ (x3' : Int32) (H : Heap) (locs : List Loc) (ls : Array Slot) , (I x3' ∧ μ x3' < μ x3) → GW G u s H locs → lv_has ls 6 [(0, .ref a0), (1, .ref a1), (2, .int x2), (3, .int x3')] → W p l e (rmX19_handNumber 0 0) s m args below meth c H locs 0 0 (QI G below (fun r v => v = u ∧ K r) args s 0 0) (F0 m 2 ls []) := fun x3' H locs ls h hw hl => ih x3' H locs ls (Nat.lt_of_lt_of_le h.2 (Nat.le_of_lt_succ hn)) h.1 hw hl
      refine lv_iload_n hx hb dX19_handNumber_2 rfl (lv_at hl 3 rfl) ?_
      refine lv_aload_n hx hb dX19_handNumber_3 rfl (lv_at hl 0 rfl) ?_
      have hk_15 : kd u a0 = 16 := h.1
      have h := h.2
      refine g_getI X hw in_X19 hk_15 rfl 17 rfl (by decide) q1468 (fun _ z => z) dX19_handNumber_4 ?_
      refine lv_icmp_ge (tgt := 102) hx hb dX19_handNumber_7 rfl (fun c_16 => ?_) (fun c_16 => ?_)
      · have h := h.1 c_16
        refine lv_iconst (v := (-1)) hx hb dX19_handNumber_102 (by decide) ?_
        exact g_iret X hw hr ⟨rfl, h⟩ (Nat.le_refl _) (Nat.le_refl _) dX19_handNumber_103
      · have h := h.2 c_16
        refine lv_iconst (v := 1) hx hb dX19_handNumber_10 (by decide) ?_
        refine lv_istore (lv' := [(4, .int 1), (0, .ref a0), (1, .ref a1), (2, .int x2), (3, .int x3)]) hx hb dX19_handNumber_11 hl (by decide) rfl (fun ls hl => ?_)
        refine lv_iconst (v := 0) hx hb dX19_handNumber_13 (by decide) ?_
        refine lv_istore (lv' := [(5, .int 0), (4, .int 1), (0, .ref a0), (1, .ref a1), (2, .int x2), (3, .int x3)]) hx hb dX19_handNumber_14 hl (by decide) rfl (fun ls hl => ?_)
        exact wX19_handNumber_16 X hr hJ2  h hw (lv_sub hl [2, 3, 4, 5, 1, 0] rfl)
  exact key _ _ _ _ _ (Nat.lt_succ_self _) h0 hw hl
set_option maxHeartbeats 4000000 in
theorem mX19_handNumber (l : Launch) (G : GT) (u : Hp) (a0 : Nat) (a1 : Nat) (x2 : Int32) (K : Int32 → Prop) (h : pX19_handNumber u a0 a1 x2 K) : Met l yX19_handNumber (ws_ yX19_handNumber cX19_handNumber 6 (some .int)) (rmX19_handNumber 0 0) (va_Pc [.ref a0, .ref a1, .int x2] (GB G u)) (va_Qi (fun r v => v = u ∧ K r) (fun u t => GH G u t.heap) (GA G)) 0 0 (GA G) := by
  refine Met.ofW (cc := cX19_handNumber) (maxL := 6) (ret := (some .int)) (by decide) rfl ?_
  intro p e s m args below meth c s₁ B hml hv
  obtain ⟨rfl, hv⟩ := hv
  have X := Mc_of (own := RX19) B hml rfl hv
  have hw : GW G u s s.heap [] := ⟨hv.2.1, va_S.rf⟩
  have hr := B.returns
  obtain ⟨hx, hb, hml, hown, hts, -⟩ := id X
  have hl := lv_entry ([.ref a0, .ref a1, .int x2]) (n := 6) (Nat.le_of_ble_eq_true rfl)
  rw [lg_entry_eq]
  generalize (lg_sl ([.ref a0, .ref a1, .int x2]) ++ List.replicate (6 - (lg_sl ([.ref a0, .ref a1, .int x2])).length) Slot.unset).toArray = ls at hl ⊢
  have hl : lv_has ls 6 [(0, .ref a0), (1, .ref a1), (2, .int x2)] := hl
  change W p l e (rmX19_handNumber 0 0) s m _ below meth c s.heap [] 0 0 (QI G below (fun r v => v = u ∧ K r) _ s 0 0) (F0 m 0 ls [])
  unfold pX19_handNumber at h
  refine lv_iconst (v := 0) hx hb dX19_handNumber_0 (by decide) ?_
  refine lv_istore_n (lv' := [(3, .int 0), (0, .ref a0), (1, .ref a1), (2, .int x2)]) hx hb dX19_handNumber_1 rfl hl (by decide) rfl (fun ls hl => ?_)
  exact wX19_handNumber_2 X hr  h hw (lv_sub hl [1, 2, 3, 0] rfl)

/-! FifthCardModel.rowNumber([II)I -/
theorem ydX19_rowNumber : yX19_rowNumber.cls = "FifthCardModel" ∧ yX19_rowNumber.cls ≠ "java/lang/invoke/MethodHandle" ∧ yX19_rowNumber.cls ≠ "java/lang/invoke/VarHandle" ∧ (parseMethodDescriptor yX19_rowNumber.desc).map (fun d => d.parameters.length) = some 2 := by decide +kernel
def rmX19_rowNumber (mc ms : Nat) : Room := { frames := 0, cells := mc, slots := ms, locals := 0 }
set_option maxHeartbeats 4000000 in
theorem wX19_rowNumber_28 {G : GT} {p : Program} {l : Launch} {e : Env} {s : State} {m : MethodId} {args : Array Value} {below : List Frame} {meth : Method} {c : Code} {H : Heap} {locs : List Loc} {ls : Array Slot} {a0 : Nat} {a1 : Nat} {x2 : Int32} {x3 : Int32} {x4 : Int32} {u : Hp} {x5 : Int32} {x6 : Int32} {K : Int32 → Prop} {J5 : Int32 → Int32 → Prop} (X : Mc G p s m args meth c RX19 cX19_rowNumber 7) (hr : meth.sig.returnType = (some .int)) (hJ5 : ∀ (x3 : Int32) (x4 : Int32) (H : Heap) (locs : List Loc) (ls : Array Slot) , J5 x3 x4 → GW G u s H locs → lv_has ls 7 [(0, .ref a0), (1, .ref a1), (2, .int x2), (3, .int x3), (4, .int x4)] → W p l e (rmX19_rowNumber 0 0) s m args below meth c H locs 0 0 (QI G below (fun r v => v = u ∧ K r) args s 0 0) (F0 m 5 ls [])) (h : jl2 (bX19_rowNumber_28 K J5 a0 a1 x2 x3 x4 u) x5 x6) (hw : GW G u s H locs) (hl : lv_has ls 7 [(0, .ref a0), (1, .ref a1), (2, .int x2), (3, .int x3), (4, .int x4), (5, .int x5), (6, .int x6)]) : W p l e (rmX19_rowNumber 0 0) s m args below meth c H locs 0 0 (QI G below (fun r v => v = u ∧ K r) args s 0 0) (F0 m 28 ls []) := by
  obtain ⟨hx, hb, hml, hown, hts, -⟩ := id X
  obtain ⟨I, μ, h0, hs⟩ := h
  have key : ∀ (n : Nat) (x5 : Int32) (x6 : Int32) (H : Heap) (locs : List Loc) (ls : Array Slot) , μ x5 x6 < n → I x5 x6 → GW G u s H locs → lv_has ls 7 [(0, .ref a0), (1, .ref a1), (2, .int x2), (3, .int x3), (4, .int x4), (5, .int x5), (6, .int x6)] → W p l e (rmX19_rowNumber 0 0) s m args below meth c H locs 0 0 (QI G below (fun r v => v = u ∧ K r) args s 0 0) (F0 m 28 ls []) := by
    intro n
    induction n with
    | zero =>
      intro x5 x6 H locs ls hn
      exact absurd hn (Nat.not_lt_zero _)
    | succ n ih =>
      intro x5 x6 H locs ls hn hI hw hl
      have h := hs x5 x6 hI
      unfold bX19_rowNumber_28 at h
      have hJ28 : ∀ (x5' : Int32) (x6' : Int32) (H : Heap) (locs : List Loc) (ls : Array Slot) , (I x5' x6' ∧ μ x5' x6' < μ x5 x6) → GW G u s H locs → lv_has ls 7 [(0, .ref a0), (1, .ref a1), (2, .int x2), (3, .int x3), (4, .int x4), (5, .int x5'), (6, .int x6')] → W p l e (rmX19_rowNumber 0 0) s m args below meth c H locs 0 0 (QI G below (fun r v => v = u ∧ K r) args s 0 0) (F0 m 28 ls []) := fun x5' x6' H locs ls h hw hl => ih x5' x6' H locs ls (Nat.lt_of_lt_of_le h.2 (Nat.le_of_lt_succ hn)) h.1 hw hl
      refine lv_iload hx hb dX19_rowNumber_28 (lv_at hl 6 rfl) ?_
      refine lv_iload hx hb dX19_rowNumber_30 (lv_at hl 4 rfl) ?_
      refine lv_icmp_ge (tgt := 66) hx hb dX19_rowNumber_32 rfl (fun c_9 => ?_) (fun c_9 => ?_)
      · have h := h.1 c_9
        refine lv_iload_n hx hb dX19_rowNumber_66 rfl (lv_at hl 3 rfl) ?_
        refine lv_aload_n hx hb dX19_rowNumber_67 rfl (lv_at hl 0 rfl) ?_
        have hk_1 : kd u a0 = 16 := h.1
        have h := h.2
        obtain ⟨b_2, e_3, h⟩ := h
        refine g_getR X hw in_X19 hk_1 rfl 3 rfl (by decide) q1454 (fun _ z => z) e_3 dX19_rowNumber_68 ?_
        have hk_4 : kd u b_2 = 20 := h.1
        have h := h.2
        refine g_getNI X hw (host := "FifthCardModel") in_X23 hk_4 rfl 0 rfl (by decide) (List.mem_of_getElem? (i := 0) rfl) (fun _ z => z) dX19_rowNumber_71 ?_
        refine lv_iload hx hb dX19_rowNumber_74 (lv_at hl 4 rfl) ?_
        refine lv_isub hx hb dX19_rowNumber_76 ?_
        refine lv_imul hx hb dX19_rowNumber_77 ?_
        refine lv_iload hx hb dX19_rowNumber_78 (lv_at hl 5 rfl) ?_
        refine lv_iadd hx hb dX19_rowNumber_80 ?_
        refine lv_topi (fun x3_5 e_6 => ?_)
        have h := h x3_5 e_6
        refine lv_istore_n (lv' := [(3, .int x3_5), (0, .ref a0), (1, .ref a1), (2, .int x2), (4, .int x4), (5, .int x5), (6, .int x6)]) hx hb dX19_rowNumber_81 rfl hl (by decide) rfl (fun ls hl => ?_)
        refine lv_iinc (v := x4 + 1) (lv' := [(4, .int (x4 + 1)), (3, .int x3_5), (0, .ref a0), (1, .ref a1), (2, .int x2), (5, .int x5), (6, .int x6)]) hx hb dX19_rowNumber_82 hl (k := 4) rfl rfl (by decide) rfl (fun ls hl => ?_)
        refine lv_goto (tgt := 5) hx hb dX19_rowNumber_85 rfl ?_
        exact hJ5 _ _ _ _ _ h hw (lv_sub hl [2, 3, 4, 1, 0] rfl)
      · have h := h.2 c_9
        refine lv_iload hx hb dX19_rowNumber_35 (lv_at hl 5 rfl) ?_
        refine lv_aload_n hx hb dX19_rowNumber_37 rfl (lv_at hl 1 rfl) ?_
        refine lv_iload_n hx hb dX19_rowNumber_38 rfl (lv_at hl 2 rfl) ?_
        refine lv_iload hx hb dX19_rowNumber_39 (lv_at hl 6 rfl) ?_
        refine lv_iadd hx hb dX19_rowNumber_41 ?_
        have hk_7 : kd u a1 = 101 := h.1
        have h := h.2
        refine g_iald X hw hk_7 h.1 dX19_rowNumber_42 ?_
        have h := h.2
        refine lv_aload_n hx hb dX19_rowNumber_43 rfl (lv_at hl 1 rfl) ?_
        refine lv_iload_n hx hb dX19_rowNumber_44 rfl (lv_at hl 2 rfl) ?_
        refine lv_iload hx hb dX19_rowNumber_45 (lv_at hl 4 rfl) ?_
        refine lv_iadd hx hb dX19_rowNumber_47 ?_
        refine g_iald X hw hk_7 h.1 dX19_rowNumber_48 ?_
        have h := h.2
        refine lv_icmp_ge (tgt := 56) hx hb dX19_rowNumber_49 rfl (fun c_8 => ?_) (fun c_8 => ?_)
        · have h := h.1 c_8
          refine lv_iconst (v := 0) hx hb dX19_rowNumber_56 (by decide) ?_
          refine lv_isub hx hb dX19_rowNumber_57 ?_
          refine lv_istore (lv' := [(5, .int (x5 - 0)), (0, .ref a0), (1, .ref a1), (2, .int x2), (3, .int x3), (4, .int x4), (6, .int x6)]) hx hb dX19_rowNumber_58 hl (by decide) rfl (fun ls hl => ?_)
          refine lv_iinc (v := x6 + 1) (lv' := [(6, .int (x6 + 1)), (5, .int (x5 - 0)), (0, .ref a0), (1, .ref a1), (2, .int x2), (3, .int x3), (4, .int x4)]) hx hb dX19_rowNumber_60 hl (k := 6) rfl rfl (by decide) rfl (fun ls hl => ?_)
          refine lv_goto (tgt := 28) hx hb dX19_rowNumber_63 rfl ?_
          exact hJ28 _ _ _ _ _ h hw (lv_sub hl [2, 3, 4, 5, 6, 1, 0] rfl)
        · have h := h.2 c_8
          refine lv_iconst (v := 1) hx hb dX19_rowNumber_52 (by decide) ?_
          refine lv_goto (tgt := 57) hx hb dX19_rowNumber_53 rfl ?_
          refine lv_isub hx hb dX19_rowNumber_57 ?_
          refine lv_istore (lv' := [(5, .int (x5 - 1)), (0, .ref a0), (1, .ref a1), (2, .int x2), (3, .int x3), (4, .int x4), (6, .int x6)]) hx hb dX19_rowNumber_58 hl (by decide) rfl (fun ls hl => ?_)
          refine lv_iinc (v := x6 + 1) (lv' := [(6, .int (x6 + 1)), (5, .int (x5 - 1)), (0, .ref a0), (1, .ref a1), (2, .int x2), (3, .int x3), (4, .int x4)]) hx hb dX19_rowNumber_60 hl (k := 6) rfl rfl (by decide) rfl (fun ls hl => ?_)
          refine lv_goto (tgt := 28) hx hb dX19_rowNumber_63 rfl ?_
          exact hJ28 _ _ _ _ _ h hw (lv_sub hl [2, 3, 4, 5, 6, 1, 0] rfl)
  exact key _ _ _ _ _ _ (Nat.lt_succ_self _) h0 hw hl
set_option maxHeartbeats 4000000 in
theorem wX19_rowNumber_5 {G : GT} {p : Program} {l : Launch} {e : Env} {s : State} {m : MethodId} {args : Array Value} {below : List Frame} {meth : Method} {c : Code} {H : Heap} {locs : List Loc} {ls : Array Slot} {a0 : Nat} {a1 : Nat} {x2 : Int32} {u : Hp} {x3 : Int32} {x4 : Int32} {K : Int32 → Prop} (X : Mc G p s m args meth c RX19 cX19_rowNumber 7) (hr : meth.sig.returnType = (some .int)) (h : jl2 (bX19_rowNumber_5 K a0 a1 x2 u) x3 x4) (hw : GW G u s H locs) (hl : lv_has ls 7 [(0, .ref a0), (1, .ref a1), (2, .int x2), (3, .int x3), (4, .int x4)]) : W p l e (rmX19_rowNumber 0 0) s m args below meth c H locs 0 0 (QI G below (fun r v => v = u ∧ K r) args s 0 0) (F0 m 5 ls []) := by
  obtain ⟨hx, hb, hml, hown, hts, -⟩ := id X
  obtain ⟨I, μ, h0, hs⟩ := h
  have key : ∀ (n : Nat) (x3 : Int32) (x4 : Int32) (H : Heap) (locs : List Loc) (ls : Array Slot) , μ x3 x4 < n → I x3 x4 → GW G u s H locs → lv_has ls 7 [(0, .ref a0), (1, .ref a1), (2, .int x2), (3, .int x3), (4, .int x4)] → W p l e (rmX19_rowNumber 0 0) s m args below meth c H locs 0 0 (QI G below (fun r v => v = u ∧ K r) args s 0 0) (F0 m 5 ls []) := by
    intro n
    induction n with
    | zero =>
      intro x3 x4 H locs ls hn
      exact absurd hn (Nat.not_lt_zero _)
    | succ n ih =>
      intro x3 x4 H locs ls hn hI hw hl
      have h := hs x3 x4 hI
      unfold bX19_rowNumber_5 at h
      have hJ5 : ∀ (x3' : Int32) (x4' : Int32) (H : Heap) (locs : List Loc) (ls : Array Slot) , (I x3' x4' ∧ μ x3' x4' < μ x3 x4) → GW G u s H locs → lv_has ls 7 [(0, .ref a0), (1, .ref a1), (2, .int x2), (3, .int x3'), (4, .int x4')] → W p l e (rmX19_rowNumber 0 0) s m args below meth c H locs 0 0 (QI G below (fun r v => v = u ∧ K r) args s 0 0) (F0 m 5 ls []) := fun x3' x4' H locs ls h hw hl => ih x3' x4' H locs ls (Nat.lt_of_lt_of_le h.2 (Nat.le_of_lt_succ hn)) h.1 hw hl
      refine lv_iload hx hb dX19_rowNumber_5 (lv_at hl 4 rfl) ?_
      refine lv_aload_n hx hb dX19_rowNumber_7 rfl (lv_at hl 0 rfl) ?_
      have hk_10 : kd u a0 = 16 := h.1
      have h := h.2
      obtain ⟨b_11, e_12, h⟩ := h
      refine g_getR X hw in_X19 hk_10 rfl 3 rfl (by decide) q1454 (fun _ z => z) e_12 dX19_rowNumber_8 ?_
      have hk_13 : kd u b_11 = 20 := h.1
      have h := h.2
      refine g_getNI X hw (host := "FifthCardModel") in_X23 hk_13 rfl 4 rfl (by decide) (List.mem_of_getElem? (i := 7) rfl) (fun _ z => z) dX19_rowNumber_11 ?_
      refine lv_icmp_ge (tgt := 88) hx hb dX19_rowNumber_14 rfl (fun c_15 => ?_) (fun c_15 => ?_)
      · have h := h.1 c_15
        refine lv_iload_n hx hb dX19_rowNumber_88 rfl (lv_at hl 3 rfl) ?_
        exact g_iret X hw hr ⟨rfl, h⟩ (Nat.le_refl _) (Nat.le_refl _) dX19_rowNumber_89
      · have h := h.2 c_15
        refine lv_aload_n hx hb dX19_rowNumber_17 rfl (lv_at hl 1 rfl) ?_
        refine lv_iload_n hx hb dX19_rowNumber_18 rfl (lv_at hl 2 rfl) ?_
        refine lv_iload hx hb dX19_rowNumber_19 (lv_at hl 4 rfl) ?_
        refine lv_iadd hx hb dX19_rowNumber_21 ?_
        have hk_14 : kd u a1 = 101 := h.1
        have h := h.2
        refine g_iald X hw hk_14 h.1 dX19_rowNumber_22 ?_
        have h := h.2
        refine lv_istore (lv' := [(5, .int (AI u a1 (tn (x2 + x4)))), (0, .ref a0), (1, .ref a1), (2, .int x2), (3, .int x3), (4, .int x4)]) hx hb dX19_rowNumber_23 hl (by decide) rfl (fun ls hl => ?_)
        refine lv_iconst (v := 0) hx hb dX19_rowNumber_25 (by decide) ?_
        refine lv_istore (lv' := [(6, .int 0), (5, .int (AI u a1 (tn (x2 + x4)))), (0, .ref a0), (1, .ref a1), (2, .int x2), (3, .int x3), (4, .int x4)]) hx hb dX19_rowNumber_26 hl (by decide) rfl (fun ls hl => ?_)
        exact wX19_rowNumber_28 X hr hJ5  h hw (lv_sub hl [2, 3, 4, 5, 6, 1, 0] rfl)
  exact key _ _ _ _ _ _ (Nat.lt_succ_self _) h0 hw hl
set_option maxHeartbeats 4000000 in
theorem mX19_rowNumber (l : Launch) (G : GT) (u : Hp) (a0 : Nat) (a1 : Nat) (x2 : Int32) (K : Int32 → Prop) (h : pX19_rowNumber u a0 a1 x2 K) : Met l yX19_rowNumber (ws_ yX19_rowNumber cX19_rowNumber 7 (some .int)) (rmX19_rowNumber 0 0) (va_Pc [.ref a0, .ref a1, .int x2] (GB G u)) (va_Qi (fun r v => v = u ∧ K r) (fun u t => GH G u t.heap) (GA G)) 0 0 (GA G) := by
  refine Met.ofW (cc := cX19_rowNumber) (maxL := 7) (ret := (some .int)) (by decide) rfl ?_
  intro p e s m args below meth c s₁ B hml hv
  obtain ⟨rfl, hv⟩ := hv
  have X := Mc_of (own := RX19) B hml rfl hv
  have hw : GW G u s s.heap [] := ⟨hv.2.1, va_S.rf⟩
  have hr := B.returns
  obtain ⟨hx, hb, hml, hown, hts, -⟩ := id X
  have hl := lv_entry ([.ref a0, .ref a1, .int x2]) (n := 7) (Nat.le_of_ble_eq_true rfl)
  rw [lg_entry_eq]
  generalize (lg_sl ([.ref a0, .ref a1, .int x2]) ++ List.replicate (7 - (lg_sl ([.ref a0, .ref a1, .int x2])).length) Slot.unset).toArray = ls at hl ⊢
  have hl : lv_has ls 7 [(0, .ref a0), (1, .ref a1), (2, .int x2)] := hl
  change W p l e (rmX19_rowNumber 0 0) s m _ below meth c s.heap [] 0 0 (QI G below (fun r v => v = u ∧ K r) _ s 0 0) (F0 m 0 ls [])
  unfold pX19_rowNumber at h
  refine lv_iconst (v := 0) hx hb dX19_rowNumber_0 (by decide) ?_
  refine lv_istore_n (lv' := [(3, .int 0), (0, .ref a0), (1, .ref a1), (2, .int x2)]) hx hb dX19_rowNumber_1 rfl hl (by decide) rfl (fun ls hl => ?_)
  refine lv_iconst (v := 0) hx hb dX19_rowNumber_2 (by decide) ?_
  refine lv_istore (lv' := [(4, .int 0), (3, .int 0), (0, .ref a0), (1, .ref a1), (2, .int x2)]) hx hb dX19_rowNumber_3 hl (by decide) rfl (fun ls hl => ?_)
  exact wX19_rowNumber_5 X hr  h hw (lv_sub hl [2, 3, 4, 1, 0] rfl)

/-! FifthCardModel$Trick.tilts()I -/
theorem ydX23_tilts : yX23_tilts.cls = "FifthCardModel$Trick" ∧ yX23_tilts.cls ≠ "java/lang/invoke/MethodHandle" ∧ yX23_tilts.cls ≠ "java/lang/invoke/VarHandle" ∧ (parseMethodDescriptor yX23_tilts.desc).map (fun d => d.parameters.length) = some 0 := by decide +kernel
def rmX23_tilts (mc ms : Nat) : Room := { frames := 0, cells := mc, slots := ms, locals := 0 }
set_option maxHeartbeats 4000000 in
theorem mX23_tilts (l : Launch) (G : GT) (u : Hp) (a0 : Nat) (K : Int32 → Prop) (h : pX23_tilts u a0 K) : Met l yX23_tilts (ws_ yX23_tilts cX23_tilts 1 (some .int)) (rmX23_tilts 0 0) (va_Pc [.ref a0] (GB G u)) (va_Qi (fun r v => v = u ∧ K r) (fun u t => GH G u t.heap) (GA G)) 0 0 (GA G) := by
  refine Met.ofW (cc := cX23_tilts) (maxL := 1) (ret := (some .int)) (by decide) rfl ?_
  intro p e s m args below meth c s₁ B hml hv
  obtain ⟨rfl, hv⟩ := hv
  have X := Mc_of (own := RX23) B hml rfl hv
  have hw : GW G u s s.heap [] := ⟨hv.2.1, va_S.rf⟩
  have hr := B.returns
  obtain ⟨hx, hb, hml, hown, hts, -⟩ := id X
  have hl := lv_entry ([.ref a0]) (n := 1) (Nat.le_of_ble_eq_true rfl)
  rw [lg_entry_eq]
  generalize (lg_sl ([.ref a0]) ++ List.replicate (1 - (lg_sl ([.ref a0])).length) Slot.unset).toArray = ls at hl ⊢
  have hl : lv_has ls 1 [(0, .ref a0)] := hl
  change W p l e (rmX23_tilts 0 0) s m _ below meth c s.heap [] 0 0 (QI G below (fun r v => v = u ∧ K r) _ s 0 0) (F0 m 0 ls [])
  unfold pX23_tilts at h
  refine lv_aload_n hx hb dX23_tilts_0 rfl (lv_at hl 0 rfl) ?_
  have hk_1 : kd u a0 = 20 := h.1
  have h := h.2
  refine g_getI X hw in_X23 hk_1 rfl 9 rfl (by decide) q1625 (fun _ z => z) dX23_tilts_1 ?_
  refine lv_if_eq (tgt := 16) hx hb dX23_tilts_4 rfl (fun c_2 => ?_) (fun c_2 => ?_)
  · have h := h.1 c_2
    refine lv_iconst (v := 1) hx hb dX23_tilts_16 (by decide) ?_
    exact g_iret X hw hr ⟨rfl, h⟩ (Nat.le_refl _) (Nat.le_refl _) dX23_tilts_17
  · have h := h.2 c_2
    refine lv_iconst (v := 1) hx hb dX23_tilts_7 (by decide) ?_
    refine lv_aload_n hx hb dX23_tilts_8 rfl (lv_at hl 0 rfl) ?_
    refine g_getI X hw in_X23 hk_1 rfl 4 rfl (by decide) q1618 (fun _ z => z) dX23_tilts_9 ?_
    refine lv_ishl hx hb dX23_tilts_12 ?_
    refine lv_goto (tgt := 17) hx hb dX23_tilts_13 rfl ?_
    exact g_iret X hw hr ⟨rfl, h⟩ (Nat.le_refl _) (Nat.le_refl _) dX23_tilts_17

/-! FifthCardModel.good(I)I -/
theorem ydX19_good : yX19_good.cls = "FifthCardModel" ∧ yX19_good.cls ≠ "java/lang/invoke/MethodHandle" ∧ yX19_good.cls ≠ "java/lang/invoke/VarHandle" ∧ (parseMethodDescriptor yX19_good.desc).map (fun d => d.parameters.length) = some 1 := by decide +kernel
def rmX19_good (mc ms : Nat) : Room := { frames := 0, cells := mc, slots := ms, locals := 0 }
set_option maxHeartbeats 4000000 in
theorem mX19_good (l : Launch) (G : GT) (u : Hp) (a0 : Nat) (x1 : Int32) (K : Int32 → Hp → Prop) (h : pX19_good u a0 x1 K) : Met l yX19_good (ws_ yX19_good cX19_good 2 (some .int)) (rmX19_good 0 0) (va_Pc [.ref a0, .int x1] (GB G u)) (va_Qi K (fun u t => GH G u t.heap) (GA G)) 0 0 (GA G) := by
  refine Met.ofW (cc := cX19_good) (maxL := 2) (ret := (some .int)) (by decide) rfl ?_
  intro p e s m args below meth c s₁ B hml hv
  obtain ⟨rfl, hv⟩ := hv
  have X := Mc_of (own := RX19) B hml rfl hv
  have hw : GW G u s s.heap [] := ⟨hv.2.1, va_S.rf⟩
  have hr := B.returns
  obtain ⟨hx, hb, hml, hown, hts, -⟩ := id X
  have hl := lv_entry ([.ref a0, .int x1]) (n := 2) (Nat.le_of_ble_eq_true rfl)
  rw [lg_entry_eq]
  generalize (lg_sl ([.ref a0, .int x1]) ++ List.replicate (2 - (lg_sl ([.ref a0, .int x1])).length) Slot.unset).toArray = ls at hl ⊢
  have hl : lv_has ls 2 [(0, .ref a0), (1, .int x1)] := hl
  change W p l e (rmX19_good 0 0) s m _ below meth c s.heap [] 0 0 (QI G below K _ s 0 0) (F0 m 0 ls [])
  unfold pX19_good at h
  refine lv_aload_n hx hb dX19_good_0 rfl (lv_at hl 0 rfl) ?_
  refine lv_iconst (v := 0) hx hb dX19_good_1 (by decide) ?_
  have hk_1 : kd u a0 = 16 := h.1
  have h := h.2
  refine g_putI (v := 0) X hw in_X19 tyX19_ok nmX19 hk_1 rfl 1 rfl (by decide) q1452 (fun _ z => z) rfl rfl rfl dX19_good_2 (fun H locs hw => ?_)
  refine lv_aload_n hx hb dX19_good_5 rfl (lv_at hl 0 rfl) ?_
  refine lv_iconst (v := (-1)) hx hb dX19_good_6 (by decide) ?_
  refine g_putI (v := (-1)) X hw in_X19 tyX19_ok nmX19 hk_1 rfl 2 rfl (by decide) q1453 (fun _ z => z) rfl rfl rfl dX19_good_7 (fun H locs hw => ?_)
  refine lv_iload_n hx hb dX19_good_10 rfl (lv_at hl 1 rfl) ?_
  exact g_iret X hw hr h (Nat.le_refl _) (Nat.le_refl _) dX19_good_11

/-! FifthCardModel.trick(I)I -/
theorem ydX19_trick : yX19_trick.cls = "FifthCardModel" ∧ yX19_trick.cls ≠ "java/lang/invoke/MethodHandle" ∧ yX19_trick.cls ≠ "java/lang/invoke/VarHandle" ∧ (parseMethodDescriptor yX19_trick.desc).map (fun d => d.parameters.length) = some 1 := by decide +kernel
def rmX19_trick (mc ms : Nat) : Room := { frames := 11, cells := mc, slots := ms, locals := 239 }
set_option maxHeartbeats 4000000 in
theorem wX19_trick_133 {G : GT} {p : Program} {l : Launch} {e : Env} {s : State} {m : MethodId} {args : Array Value} {below : List Frame} {meth : Method} {c : Code} {H : Heap} {locs : List Loc} {ls : Array Slot} {cells slots : Nat} {MC MS : Nat} {a0 : Nat} {mc : Nat} {ms : Nat} {x2 : Int32} {u : Hp} {K : Int32 → Hp → Prop} (X : Mc G p s m args meth c RX19 cX19_trick 3) (hr : meth.sig.returnType = (some .int)) (hc1 : cells + mc ≤ MC) (hc2 : slots + ms ≤ MS) (h : jl2 (bX19_trick_133 K (Glit G) a0 mc ms) x2 u) (hw : GW G u s H locs) (hl : lv_has ls 3 [(0, .ref a0), (2, .int x2)]) : W p l e (rmX19_trick MC MS) s m args below meth c H locs cells slots (QI G below K args s MC MS) (F0 m 133 ls []) := by
  obtain ⟨hx, hb, hml, hown, hts, -⟩ := id X
  obtain ⟨I, μ, h0, hs⟩ := h
  have key : ∀ (n : Nat) (x2 : Int32) (u : Hp) (H : Heap) (locs : List Loc) (ls : Array Slot) (cells slots : Nat) , cells + mc ≤ MC → slots + ms ≤ MS → μ x2 u < n → I x2 u → GW G u s H locs → lv_has ls 3 [(0, .ref a0), (2, .int x2)] → W p l e (rmX19_trick MC MS) s m args below meth c H locs cells slots (QI G below K args s MC MS) (F0 m 133 ls []) := by
    intro n
    induction n with
    | zero =>
      intro x2 u H locs ls cells slots hc1 hc2 hn
      exact absurd hn (Nat.not_lt_zero _)
    | succ n ih =>
      intro x2 u H locs ls cells slots hc1 hc2 hn hI hw hl
      have h := hs x2 u hI
      unfold bX19_trick_133 at h
      have hJ133 : ∀ (x2' : Int32) (u' : Hp) (H : Heap) (locs : List Loc) (ls : Array Slot) (cells slots : Nat) , cells + mc ≤ MC → slots + ms ≤ MS → (I x2' u' ∧ μ x2' u' < μ x2 u) → GW G u' s H locs → lv_has ls 3 [(0, .ref a0), (2, .int x2')] → W p l e (rmX19_trick MC MS) s m args below meth c H locs cells slots (QI G below K args s MC MS) (F0 m 133 ls []) := fun x2' u' H locs ls cells slots g1 g2 h hw hl => ih x2' u' H locs ls cells slots g1 g2 (Nat.lt_of_lt_of_le h.2 (Nat.le_of_lt_succ hn)) h.1 hw hl
      refine lv_iload_n hx hb dX19_trick_133 rfl (lv_at hl 1 rfl) ?_
      refine lv_aload_n hx hb dX19_trick_134 rfl (lv_at hl 0 rfl) ?_
      have hk_1 : kd u a0 = 16 := h.1
      have h := h.2
      refine g_getI X hw in_X19 hk_1 rfl 43 rfl (by decide) q1494 (fun _ z => z) dX19_trick_135 ?_
      refine lv_icmp_ge (tgt := 205) hx hb dX19_trick_138 rfl (fun c_26 => ?_) (fun c_26 => ?_)
      · have h := h.1 c_26
        refine lv_aload_n hx hb dX19_trick_205 rfl (lv_at hl 0 rfl) ?_
        refine lv_aload_n hx hb dX19_trick_206 rfl (lv_at hl 0 rfl) ?_
        obtain ⟨b_2, e_3, h⟩ := h
        refine g_getR X hw in_X19 hk_1 rfl 3 rfl (by decide) q1454 (fun _ z => z) e_3 dX19_trick_207 ?_
        have hk_4 : kd u b_2 = 20 := h.1
        have h := h.2
        refine g_getNI X hw (host := "FifthCardModel") in_X23 hk_4 rfl 5 rfl (by decide) (List.mem_of_getElem? (i := 8) rfl) (fun _ z => z) dX19_trick_210 ?_
        refine g_calli hw (g_V X hw (mX19_good l G _ _ _ _ h) 1 (lw_V q1867 q1869 qs77 q143 q1870) rfl rfl ydX19_good ⟨Nat.le_of_ble_eq_true rfl, Nat.le_of_ble_eq_true rfl⟩ (g_recv X hw (ci := 15) (q := (RX19, TX19, 46)) hk_1 rfl) (As := [.int (FI u 2305 b_2)]) (rest := []) rfl hl.1 rfl (Nat.le_of_ble_eq_true rfl) dX19_trick_213 ⟨(by show _ ≤ MC; omega), (by show _ ≤ MS; omega)⟩) (fun r_5 u_6 H locs h hw => ?_)
        exact g_iret X hw hr h (by omega) (by omega) dX19_trick_216
      · have h := h.2 c_26
        refine lv_aload_n hx hb dX19_trick_141 rfl (lv_at hl 0 rfl) ?_
        obtain ⟨b_7, e_8, h⟩ := h
        refine g_getR X hw in_X19 hk_1 rfl 37 rfl (by decide) q1488 (fun _ z => z) e_8 dX19_trick_142 ?_
        refine lv_iload_n hx hb dX19_trick_145 rfl (lv_at hl 1 rfl) ?_
        refine lv_aload_n hx hb dX19_trick_146 rfl (lv_at hl 0 rfl) ?_
        refine lv_aload_n hx hb dX19_trick_147 rfl (lv_at hl 0 rfl) ?_
        obtain ⟨b_9, e_10, h⟩ := h
        refine g_getR X hw in_X19 hk_1 rfl 3 rfl (by decide) q1454 (fun _ z => z) e_10 dX19_trick_148 ?_
        have hk_11 : kd u b_9 = 20 := h.1
        have h := h.2
        obtain ⟨b_12, e_13, h⟩ := h
        refine g_getNR X hw (host := "FifthCardModel") in_X23 hk_11 rfl 11 rfl (by decide) (List.mem_of_getElem? (i := 12) rfl) (fun _ z => z) e_13 dX19_trick_151 ?_
        refine lv_iconst (v := 5) hx hb dX19_trick_154 (by decide) ?_
        refine lv_iload_n hx hb dX19_trick_155 rfl (lv_at hl 1 rfl) ?_
        refine lv_imul hx hb dX19_trick_156 ?_
        refine g_callio hw (g_V X hw (mX19_handNumber l G _ _ _ _ _ h) 2 (lw_V q1847 q1849 qs73 q143 q1850) rfl rfl ydX19_handNumber ⟨Nat.le_of_ble_eq_true rfl, Nat.le_of_ble_eq_true rfl⟩ (g_recv X hw (ci := 15) (q := (RX19, TX19, 46)) hk_1 rfl) (As := [.ref b_12, .int (5 * x2)]) (rest := [.int x2, .ref b_7]) rfl hl.1 rfl (Nat.le_of_ble_eq_true rfl) dX19_trick_157 ⟨(by show _ ≤ MC; omega), (by show _ ≤ MS; omega)⟩) (fun r_14 H locs h hw => ?_)
        have hk_15 : kd u b_7 = 101 := h.1
        have h := h.2
        refine g_iast X hw hk_15 h.1 dX19_trick_160 (fun H locs hw => ?_)
        have h := h.2
        refine lv_aload_n hx hb dX19_trick_161 rfl (lv_at hl 0 rfl) ?_
        obtain ⟨b_16, e_17, h⟩ := h
        refine g_getR X hw in_X19 hk_1 rfl 38 rfl (by decide) q1489 (fun _ z => z) e_17 dX19_trick_162 ?_
        refine lv_iload_n hx hb dX19_trick_165 rfl (lv_at hl 1 rfl) ?_
        refine lv_aload_n hx hb dX19_trick_166 rfl (lv_at hl 0 rfl) ?_
        refine lv_aload_n hx hb dX19_trick_167 rfl (lv_at hl 0 rfl) ?_
        refine g_getR X hw in_X19 hk_1 rfl 3 rfl (by decide) q1454 (fun _ z => z) e_10 dX19_trick_168 ?_
        obtain ⟨b_18, e_19, h⟩ := h
        refine g_getNR X hw (host := "FifthCardModel") in_X23 hk_11 rfl 12 rfl (by decide) (List.mem_of_getElem? (i := 13) rfl) (fun _ z => z) e_19 dX19_trick_171 ?_
        refine lv_iconst (v := 5) hx hb dX19_trick_174 (by decide) ?_
        refine lv_iload_n hx hb dX19_trick_175 rfl (lv_at hl 1 rfl) ?_
        refine lv_imul hx hb dX19_trick_176 ?_
        refine g_callio hw (g_V X hw (mX19_rowNumber l G _ _ _ _ _ h) 2 (lw_V q1859 q1861 qs76 q143 q1862) rfl rfl ydX19_rowNumber ⟨Nat.le_of_ble_eq_true rfl, Nat.le_of_ble_eq_true rfl⟩ (g_recv X hw (ci := 15) (q := (RX19, TX19, 46)) hk_1 rfl) (As := [.ref b_18, .int (5 * x2)]) (rest := [.int x2, .ref b_16]) rfl hl.1 rfl (Nat.le_of_ble_eq_true rfl) dX19_trick_177 ⟨(by show _ ≤ MC; omega), (by show _ ≤ MS; omega)⟩) (fun r_20 H locs h hw => ?_)
        refine lv_aload_n hx hb dX19_trick_180 rfl (lv_at hl 0 rfl) ?_
        refine g_getR X hw in_X19 hk_1 rfl 3 rfl (by decide) q1454 (fun _ z => z) e_10 dX19_trick_181 ?_
        refine g_callio hw (g_V X hw (mX23_tilts l G _ _ _ h) 0 (lw_V q1863 q1864 q1865 q153 q1866) rfl rfl ydX23_tilts ⟨Nat.le_of_ble_eq_true rfl, Nat.le_of_ble_eq_true rfl⟩ (g_recv X hw (ci := 19) (q := (RX23, TX23, 15)) hk_11 rfl) (As := []) (rest := [.int r_20, .int x2, .ref b_16]) rfl hl.1 rfl (Nat.le_of_ble_eq_true rfl) dX19_trick_184 ⟨(by show _ ≤ MC; omega), (by show _ ≤ MS; omega)⟩) (fun r_21 H locs h hw => ?_)
        refine lv_imul hx hb dX19_trick_187 ?_
        refine lv_aload_n hx hb dX19_trick_188 rfl (lv_at hl 0 rfl) ?_
        refine g_getR X hw in_X19 hk_1 rfl 3 rfl (by decide) q1454 (fun _ z => z) e_10 dX19_trick_189 ?_
        obtain ⟨b_22, e_23, h⟩ := h
        refine g_getNR X hw (host := "FifthCardModel") in_X23 hk_11 rfl 13 rfl (by decide) (List.mem_of_getElem? (i := 14) rfl) (fun _ z => z) e_23 dX19_trick_192 ?_
        refine lv_iload_n hx hb dX19_trick_195 rfl (lv_at hl 1 rfl) ?_
        have hk_24 : kd u b_22 = 101 := h.1
        have h := h.2
        refine g_iald X hw hk_24 h.1 dX19_trick_196 ?_
        have h := h.2
        refine lv_iadd hx hb dX19_trick_197 ?_
        have hk_25 : kd u b_16 = 101 := h.1
        have h := h.2
        refine g_iast X hw hk_25 h.1 dX19_trick_198 (fun H locs hw => ?_)
        have h := h.2
        refine lv_iinc (v := x2 + 1) (lv' := [(2, .int (x2 + 1)), (0, .ref a0)]) hx hb dX19_trick_199 hl (k := 1) rfl rfl (by decide) rfl (fun ls hl => ?_)
        refine lv_goto (tgt := 133) hx hb dX19_trick_202 rfl ?_
        exact hJ133 _ _ _ _ _ _ _ (by omega) (by omega) h hw (lv_sub hl [1, 0] rfl)
  exact key _ _ _ _ _ _ _ _ hc1 hc2 (Nat.lt_succ_self _) h0 hw hl
set_option maxHeartbeats 4000000 in
theorem mX19_trick (l : Launch) (G : GT) (u : Hp) (a0 : Nat) (x1 : Int32) (MC MS : Nat) (K : Int32 → Hp → Prop) (h : pX19_trick (Glit G) u a0 x1 MC MS K) : Met l yX19_trick (ws_ yX19_trick cX19_trick 3 (some .int)) (rmX19_trick MC MS) (va_Pc [.ref a0, .int x1] (GB G u)) (va_Qi K (fun u t => GH G u t.heap) (GA G)) MC MS (GA G) := by
  refine Met.ofW (cc := cX19_trick) (maxL := 3) (ret := (some .int)) (by decide) rfl ?_
  intro p e s m args below meth c s₁ B hml hv
  obtain ⟨rfl, hv⟩ := hv
  have X := Mc_of (own := RX19) B hml rfl hv
  have hw : GW G u s s.heap [] := ⟨hv.2.1, va_S.rf⟩
  have hr := B.returns
  obtain ⟨hx, hb, hml, hown, hts, -⟩ := id X
  have hl := lv_entry ([.ref a0, .int x1]) (n := 3) (Nat.le_of_ble_eq_true rfl)
  rw [lg_entry_eq]
  generalize (lg_sl ([.ref a0, .int x1]) ++ List.replicate (3 - (lg_sl ([.ref a0, .int x1])).length) Slot.unset).toArray = ls at hl ⊢
  have hl : lv_has ls 3 [(0, .ref a0), (1, .int x1)] := hl
  change W p l e (rmX19_trick MC MS) s m _ below meth c s.heap [] 0 0 (QI G below K _ s MC MS) (F0 m 0 ls [])
  unfold pX19_trick at h
  have hc1 : 0 + MC ≤ MC := by omega
  have hc2 : 0 + MS ≤ MS := by omega
  refine lv_aload_n hx hb dX19_trick_0 rfl (lv_at hl 0 rfl) ?_
  refine lv_iconst (v := 0) hx hb dX19_trick_1 (by decide) ?_
  have hk_27 : kd u a0 = 16 := h.1
  have h := h.2
  refine g_putI (v := 0) X hw in_X19 tyX19_ok nmX19 hk_27 rfl 0 rfl (by decide) q1451 (fun _ z => z) rfl rfl rfl dX19_trick_2 (fun H locs hw => ?_)
  refine lv_iload_n hx hb dX19_trick_5 rfl (lv_at hl 1 rfl) ?_
  refine lv_if_lt (tgt := 17) hx hb dX19_trick_6 rfl (fun c_62 => ?_) (fun c_62 => ?_)
  · have h := h.1 c_62
    refine lv_aload_n hx hb dX19_trick_17 rfl (lv_at hl 0 rfl) ?_
    refine lv_iconst (v := 2) hx hb dX19_trick_18 (by decide) ?_
    refine g_calli hw (g_V X hw (mX19_refused l G _ _ _ _ h) 1 (lw_V q1603 q1605 qs47 q143 q1606) rfl rfl ydX19_refused ⟨Nat.le_of_ble_eq_true rfl, Nat.le_of_ble_eq_true rfl⟩ (g_recv X hw (ci := 15) (q := (RX19, TX19, 46)) hk_27 rfl) (As := [.int 2]) (rest := []) rfl hl.1 rfl (Nat.le_of_ble_eq_true rfl) dX19_trick_19 ⟨(by show _ ≤ MC; omega), (by show _ ≤ MS; omega)⟩) (fun r_28 u_29 H locs h hw => ?_)
    exact g_iret X hw hr h (by omega) (by omega) dX19_trick_22
  · have h := h.2 c_62
    refine lv_iload_n hx hb dX19_trick_9 rfl (lv_at hl 1 rfl) ?_
    refine lv_aload_n hx hb dX19_trick_10 rfl (lv_at hl 0 rfl) ?_
    refine g_getI X hw in_X19 hk_27 rfl 6 rfl (by decide) q1457 (fun _ z => z) dX19_trick_11 ?_
    refine lv_icmp_le (tgt := 23) hx hb dX19_trick_14 rfl (fun c_61 => ?_) (fun c_61 => ?_)
    · have h := h.1 c_61
      refine lv_aload_n hx hb dX19_trick_23 rfl (lv_at hl 0 rfl) ?_
      refine lv_iload_n hx hb dX19_trick_24 rfl (lv_at hl 1 rfl) ?_
      refine g_putI (v := x1) X hw in_X19 tyX19_ok nmX19 hk_27 rfl 7 rfl (by decide) q1458 (fun _ z => z) rfl rfl rfl dX19_trick_25 (fun H locs hw => ?_)
      refine lv_aload_n hx hb dX19_trick_28 rfl (lv_at hl 0 rfl) ?_
      refine lv_iconst (v := 0) hx hb dX19_trick_29 (by decide) ?_
      refine g_putI (v := 0) X hw in_X19 tyX19_ok nmX19 hk_27 rfl 6 rfl (by decide) q1457 (fun _ z => z) rfl rfl rfl dX19_trick_30 (fun H locs hw => ?_)
      refine lv_aload_n hx hb dX19_trick_33 rfl (lv_at hl 0 rfl) ?_
      refine lv_iconst (v := 0) hx hb dX19_trick_34 (by decide) ?_
      obtain ⟨u_30, e_31⟩ : ∃ v : Hp, v = (sFI (sFI (sFI u 1900 a0 0) 1907 a0 x1) 1906 a0 0) := ⟨_, rfl⟩
      have h := h u_30 e_31
      have hw : GW G u_30 s H locs := by rw [e_31]; exact hw
      have hk_32 : kd u_30 a0 = 16 := by rw [e_31]; exact hk_27
      refine g_putI (v := 0) X hw in_X19 tyX19_ok nmX19 hk_32 rfl 8 rfl (by decide) q1459 (fun _ z => z) rfl rfl rfl dX19_trick_35 (fun H locs hw => ?_)
      refine lv_aload_n hx hb dX19_trick_38 rfl (lv_at hl 0 rfl) ?_
      refine lv_iconst (v := 0) hx hb dX19_trick_39 (by decide) ?_
      refine g_putI (v := 0) X hw in_X19 tyX19_ok nmX19 hk_32 rfl 13 rfl (by decide) q1464 (fun _ z => z) rfl rfl rfl dX19_trick_40 (fun H locs hw => ?_)
      refine lv_aload_n hx hb dX19_trick_43 rfl (lv_at hl 0 rfl) ?_
      obtain ⟨hm_35, hm_36, h⟩ := h
      refine g_new X hw (T := TX23) (N := 15) in_X23 tyX23_ok (ci := 19) rfl df_X23 q1607 q1608 q153 (by show _ ≤ MC; omega) (by show _ ≤ MS; omega) dX19_trick_44 (fun q_33 H hq_34 hw => ?_)
      have h := h q_33 hq_34
      have hk_37 : kd (mkC (sFI (sFI u_30 1908 a0 0) 1913 a0 0) q_33 20 0) a0 = 16 := kd_mkC hk_32 hq_34 (by decide)
      have hk_38 : kd (mkC (sFI (sFI u_30 1908 a0 0) 1913 a0 0) q_33 20 0) q_33 = 20 := hu1_eq
      refine lv_dup hx hb dX19_trick_47 rfl ?_
      obtain ⟨q_39, q_40, hq_41, hq_42, h⟩ := h
      refine g_callv hw (g_IN X hw (mX23_init l G _ _ _ _ _ h) 0 q1611 q153 (List.mem_of_getElem? (i := 41) rfl) q1610 rfl rfl rfl ydX23_init ⟨Nat.le_of_ble_eq_true rfl, Nat.le_of_ble_eq_true rfl⟩ (As := []) (rest := [.ref q_33, .ref a0]) rfl hl.1 rfl (Nat.le_of_ble_eq_true rfl) dX19_trick_48 ⟨(by show _ ≤ MC; omega), (by show _ ≤ MS; omega)⟩) (fun u_43 H locs h hw => ?_)
      have hk_44 : kd u_43 a0 = 16 := h.1
      have h := h.2
      refine g_putO (v := (some q_33)) X hw in_X19 tyX19_ok nmX19 hk_44 rfl 4 rfl (by decide) q1455 (fun _ z => z) rfl rfl rfl dX19_trick_51 (fun H locs hw => ?_)
      refine lv_aload_n hx hb dX19_trick_54 rfl (lv_at hl 0 rfl) ?_
      refine lv_iconst (v := 0) hx hb dX19_trick_55 (by decide) ?_
      refine g_putI (v := 0) X hw in_X19 tyX19_ok nmX19 hk_44 rfl 9 rfl (by decide) q1460 (fun _ z => z) rfl rfl rfl dX19_trick_56 (fun H locs hw => ?_)
      refine lv_aload_n hx hb dX19_trick_59 rfl (lv_at hl 0 rfl) ?_
      refine g_callv hw (g_V X hw (mX19_goesOn l G _ _ _ h) 0 (lw_V q1669 q1671 qs48 q143 q1672) rfl rfl ydX19_goesOn ⟨Nat.le_of_ble_eq_true rfl, Nat.le_of_ble_eq_true rfl⟩ (g_recv X hw (ci := 15) (q := (RX19, TX19, 46)) hk_44 rfl) (As := []) (rest := []) rfl hl.1 rfl (Nat.le_of_ble_eq_true rfl) dX19_trick_60 ⟨(by show _ ≤ MC; omega), (by show _ ≤ MS; omega)⟩) (fun u_45 H locs h hw => ?_)
      refine lv_aload_n hx hb dX19_trick_63 rfl (lv_at hl 0 rfl) ?_
      have hk_46 : kd u_45 a0 = 16 := h.1
      have h := h.2
      refine g_callv hw (g_V X hw (mX19_readAll l G _ _ _ h) 0 (lw_V q1684 q1686 qs50 q143 q1687) rfl rfl ydX19_readAll ⟨Nat.le_of_ble_eq_true rfl, Nat.le_of_ble_eq_true rfl⟩ (g_recv X hw (ci := 15) (q := (RX19, TX19, 46)) hk_46 rfl) (As := []) (rest := []) rfl hl.1 rfl (Nat.le_of_ble_eq_true rfl) dX19_trick_64 ⟨(by show _ ≤ MC; omega), (by show _ ≤ MS; omega)⟩) (fun u_47 H locs h hw => ?_)
      refine lv_aload_n hx hb dX19_trick_67 rfl (lv_at hl 0 rfl) ?_
      have hk_48 : kd u_47 a0 = 16 := h.1
      have h := h.2
      refine g_getI X hw in_X19 hk_48 rfl 13 rfl (by decide) q1464 (fun _ z => z) dX19_trick_68 ?_
      refine lv_if_le (tgt := 89) hx hb dX19_trick_71 rfl (fun c_58 => ?_) (fun c_58 => ?_)
      · have h := h.1 c_58
        refine lv_aload_n hx hb dX19_trick_89 rfl (lv_at hl 0 rfl) ?_
        refine lv_aload_n hx hb dX19_trick_90 rfl (lv_at hl 0 rfl) ?_
        obtain ⟨b_49, e_50, h⟩ := h
        refine g_getR X hw in_X19 hk_48 rfl 4 rfl (by decide) q1455 (fun _ z => z) e_50 dX19_trick_91 ?_
        refine g_putO (v := (some b_49)) X hw in_X19 tyX19_ok nmX19 hk_48 rfl 3 rfl (by decide) q1454 (fun _ z => z) rfl rfl rfl dX19_trick_94 (fun H locs hw => ?_)
        refine lv_aload_n hx hb dX19_trick_97 rfl (lv_at hl 0 rfl) ?_
        refine lv_iconst (v := 0) hx hb dX19_trick_98 (by decide) ?_
        refine g_putI (v := 0) X hw in_X19 tyX19_ok nmX19 hk_48 rfl 45 rfl (by decide) q1496 (fun _ z => z) rfl rfl rfl dX19_trick_99 (fun H locs hw => ?_)
        refine lv_aload_n hx hb dX19_trick_102 rfl (lv_at hl 0 rfl) ?_
        refine lv_iconst (v := 0) hx hb dX19_trick_103 (by decide) ?_
        refine g_putI (v := 0) X hw in_X19 tyX19_ok nmX19 hk_48 rfl 44 rfl (by decide) q1495 (fun _ z => z) rfl rfl rfl dX19_trick_104 (fun H locs hw => ?_)
        refine lv_aload_n hx hb dX19_trick_107 rfl (lv_at hl 0 rfl) ?_
        refine g_callv hw (g_V X hw (mX19_deals l G _ _ _ h) 0 (lw_V q1827 q1829 qs68 q143 q1830) rfl rfl ydX19_deals ⟨Nat.le_of_ble_eq_true rfl, Nat.le_of_ble_eq_true rfl⟩ (g_recv X hw (ci := 15) (q := (RX19, TX19, 46)) hk_48 rfl) (As := []) (rest := []) rfl hl.1 rfl (Nat.le_of_ble_eq_true rfl) dX19_trick_108 ⟨(by show _ ≤ MC; omega), (by show _ ≤ MS; omega)⟩) (fun u_51 H locs h hw => ?_)
        refine lv_aload_n hx hb dX19_trick_111 rfl (lv_at hl 0 rfl) ?_
        have hk_52 : kd u_51 a0 = 16 := h.1
        have h := h.2
        refine g_callv hw (g_V X hw (mX19_laysCodes l G _ _ _ h) 0 (lw_V q1839 q1841 qs71 q143 q1842) rfl rfl ydX19_laysCodes ⟨Nat.le_of_ble_eq_true rfl, Nat.le_of_ble_eq_true rfl⟩ (g_recv X hw (ci := 15) (q := (RX19, TX19, 46)) hk_52 rfl) (As := []) (rest := []) rfl hl.1 rfl (Nat.le_of_ble_eq_true rfl) dX19_trick_112 ⟨(by show _ ≤ MC; omega), (by show _ ≤ MS; omega)⟩) (fun u_53 H locs h hw => ?_)
        refine lv_aload_n hx hb dX19_trick_115 rfl (lv_at hl 0 rfl) ?_
        refine lv_iconst (v := 0) hx hb dX19_trick_116 (by decide) ?_
        have hk_54 : kd u_53 a0 = 16 := h.1
        have h := h.2
        refine g_putI (v := 0) X hw in_X19 tyX19_ok nmX19 hk_54 rfl 35 rfl (by decide) q1486 (fun _ z => z) rfl rfl rfl dX19_trick_117 (fun H locs hw => ?_)
        refine lv_aload_n hx hb dX19_trick_120 rfl (lv_at hl 0 rfl) ?_
        refine lv_aload_n hx hb dX19_trick_121 rfl (lv_at hl 0 rfl) ?_
        obtain ⟨b_55, e_56, h⟩ := h
        refine g_getR X hw in_X19 hk_54 rfl 3 rfl (by decide) q1454 (fun _ z => z) e_56 dX19_trick_122 ?_
        have hk_57 : kd u_53 b_55 = 20 := h.1
        have h := h.2
        refine g_getNI X hw (host := "FifthCardModel") in_X23 hk_57 rfl 6 rfl (by decide) (List.mem_of_getElem? (i := 11) rfl) (fun _ z => z) dX19_trick_125 ?_
        refine g_putI (v := FI (sFI u_53 1935 a0 0) 2306 b_55) X hw in_X19 tyX19_ok nmX19 hk_54 rfl 43 rfl (by decide) q1494 (fun _ z => z) rfl rfl rfl dX19_trick_128 (fun H locs hw => ?_)
        refine lv_iconst (v := 0) hx hb dX19_trick_131 (by decide) ?_
        refine lv_istore_n (lv' := [(2, .int 0), (0, .ref a0), (1, .int x1)]) hx hb dX19_trick_132 rfl hl (by decide) rfl (fun ls hl => ?_)
        exact wX19_trick_133 X hr (by omega) (by omega) h hw (lv_sub hl [1, 0] rfl)
      · have h := h.2 c_58
        refine lv_aload_n hx hb dX19_trick_74 rfl (lv_at hl 0 rfl) ?_
        refine lv_iconst (v := 4) hx hb dX19_trick_75 (by decide) ?_
        refine g_putI (v := 4) X hw in_X19 tyX19_ok nmX19 hk_48 rfl 1 rfl (by decide) q1452 (fun _ z => z) rfl rfl rfl dX19_trick_76 (fun H locs hw => ?_)
        refine lv_aload_n hx hb dX19_trick_79 rfl (lv_at hl 0 rfl) ?_
        refine lv_aload_n hx hb dX19_trick_80 rfl (lv_at hl 0 rfl) ?_
        refine g_getI X hw in_X19 hk_48 rfl 14 rfl (by decide) q1465 (fun _ z => z) dX19_trick_81 ?_
        refine g_putI (v := FI (sFI u_47 1901 a0 4) 1914 a0) X hw in_X19 tyX19_ok nmX19 hk_48 rfl 2 rfl (by decide) q1453 (fun _ z => z) rfl rfl rfl dX19_trick_84 (fun H locs hw => ?_)
        refine lv_iconst (v := (-1)) hx hb dX19_trick_87 (by decide) ?_
        exact g_iret X hw hr h (by omega) (by omega) dX19_trick_88
    · have h := h.2 c_61
      refine lv_aload_n hx hb dX19_trick_17 rfl (lv_at hl 0 rfl) ?_
      refine lv_iconst (v := 2) hx hb dX19_trick_18 (by decide) ?_
      refine g_calli hw (g_V X hw (mX19_refused l G _ _ _ _ h) 1 (lw_V q1603 q1605 qs47 q143 q1606) rfl rfl ydX19_refused ⟨Nat.le_of_ble_eq_true rfl, Nat.le_of_ble_eq_true rfl⟩ (g_recv X hw (ci := 15) (q := (RX19, TX19, 46)) hk_27 rfl) (As := [.int 2]) (rest := []) rfl hl.1 rfl (Nat.le_of_ble_eq_true rfl) dX19_trick_19 ⟨(by show _ ≤ MC; omega), (by show _ ≤ MS; omega)⟩) (fun r_59 u_60 H locs h hw => ?_)
      exact g_iret X hw hr h (by omega) (by omega) dX19_trick_22

/-! FifthCard.fault()I -/
theorem ydX1_fault : yX1_fault.cls = "FifthCard" ∧ yX1_fault.cls ≠ "java/lang/invoke/MethodHandle" ∧ yX1_fault.cls ≠ "java/lang/invoke/VarHandle" ∧ (parseMethodDescriptor yX1_fault.desc).map (fun d => d.parameters.length) = some 0 := by decide +kernel
def rmX1_fault (mc ms : Nat) : Room := { frames := 0, cells := mc, slots := ms, locals := 0 }
set_option maxHeartbeats 4000000 in
theorem mX1_fault (l : Launch) (G : GT) (u : Hp) (a0 : Nat) (K : Int32 → Prop) (h : pX1_fault u a0 K) : Met l yX1_fault (ws_ yX1_fault cX1_fault 1 (some .int)) (rmX1_fault 0 0) (va_Pc [.ref a0] (GB G u)) (va_Qi (fun r v => v = u ∧ K r) (fun u t => GH G u t.heap) (GA G)) 0 0 (GA G) := by
  refine Met.ofW (cc := cX1_fault) (maxL := 1) (ret := (some .int)) (by decide) rfl ?_
  intro p e s m args below meth c s₁ B hml hv
  obtain ⟨rfl, hv⟩ := hv
  have X := Mc_of (own := RX1) B hml rfl hv
  have hw : GW G u s s.heap [] := ⟨hv.2.1, va_S.rf⟩
  have hr := B.returns
  obtain ⟨hx, hb, hml, hown, hts, -⟩ := id X
  have hl := lv_entry ([.ref a0]) (n := 1) (Nat.le_of_ble_eq_true rfl)
  rw [lg_entry_eq]
  generalize (lg_sl ([.ref a0]) ++ List.replicate (1 - (lg_sl ([.ref a0])).length) Slot.unset).toArray = ls at hl ⊢
  have hl : lv_has ls 1 [(0, .ref a0)] := hl
  change W p l e (rmX1_fault 0 0) s m _ below meth c s.heap [] 0 0 (QI G below (fun r v => v = u ∧ K r) _ s 0 0) (F0 m 0 ls [])
  unfold pX1_fault at h
  refine lv_aload_n hx hb dX1_fault_0 rfl (lv_at hl 0 rfl) ?_
  have hk_1 : kd u a0 = 1 := h.1
  have h := h.2
  refine g_getI X hw in_X1 hk_1 rfl 5 rfl (by decide) q478 (fun _ z => z) dX1_fault_1 ?_
  exact g_iret X hw hr ⟨rfl, h⟩ (Nat.le_refl _) (Nat.le_refl _) dX1_fault_4

/-! FifthCardModel.fault()I -/
theorem ydX19_fault : yX19_fault.cls = "FifthCardModel" ∧ yX19_fault.cls ≠ "java/lang/invoke/MethodHandle" ∧ yX19_fault.cls ≠ "java/lang/invoke/VarHandle" ∧ (parseMethodDescriptor yX19_fault.desc).map (fun d => d.parameters.length) = some 0 := by decide +kernel
def rmX19_fault (mc ms : Nat) : Room := { frames := 0, cells := mc, slots := ms, locals := 0 }
set_option maxHeartbeats 4000000 in
theorem mX19_fault (l : Launch) (G : GT) (u : Hp) (a0 : Nat) (K : Int32 → Hp → Prop) (h : pX19_fault u a0 K) : Met l yX19_fault (ws_ yX19_fault cX19_fault 1 (some .int)) (rmX19_fault 0 0) (va_Pc [.ref a0] (GB G u)) (va_Qi K (fun u t => GH G u t.heap) (GA G)) 0 0 (GA G) := by
  refine Met.ofW (cc := cX19_fault) (maxL := 1) (ret := (some .int)) (by decide) rfl ?_
  intro p e s m args below meth c s₁ B hml hv
  obtain ⟨rfl, hv⟩ := hv
  have X := Mc_of (own := RX19) B hml rfl hv
  have hw : GW G u s s.heap [] := ⟨hv.2.1, va_S.rf⟩
  have hr := B.returns
  obtain ⟨hx, hb, hml, hown, hts, -⟩ := id X
  have hl := lv_entry ([.ref a0]) (n := 1) (Nat.le_of_ble_eq_true rfl)
  rw [lg_entry_eq]
  generalize (lg_sl ([.ref a0]) ++ List.replicate (1 - (lg_sl ([.ref a0])).length) Slot.unset).toArray = ls at hl ⊢
  have hl : lv_has ls 1 [(0, .ref a0)] := hl
  change W p l e (rmX19_fault 0 0) s m _ below meth c s.heap [] 0 0 (QI G below K _ s 0 0) (F0 m 0 ls [])
  unfold pX19_fault at h
  refine lv_aload_n hx hb dX19_fault_0 rfl (lv_at hl 0 rfl) ?_
  refine lv_iconst (v := 0) hx hb dX19_fault_1 (by decide) ?_
  have hk_1 : kd u a0 = 16 := h.1
  have h := h.2
  refine g_putI (v := 0) X hw in_X19 tyX19_ok nmX19 hk_1 rfl 0 rfl (by decide) q1451 (fun _ z => z) rfl rfl rfl dX19_fault_2 (fun H locs hw => ?_)
  refine lv_aload_n hx hb dX19_fault_5 rfl (lv_at hl 0 rfl) ?_
  refine g_getI X hw in_X19 hk_1 rfl 13 rfl (by decide) q1464 (fun _ z => z) dX19_fault_6 ?_
  exact g_iret X hw hr h (Nat.le_refl _) (Nat.le_refl _) dX19_fault_9

/-! FifthCard.where()I -/
theorem ydX1_where : yX1_where.cls = "FifthCard" ∧ yX1_where.cls ≠ "java/lang/invoke/MethodHandle" ∧ yX1_where.cls ≠ "java/lang/invoke/VarHandle" ∧ (parseMethodDescriptor yX1_where.desc).map (fun d => d.parameters.length) = some 0 := by decide +kernel
def rmX1_where (mc ms : Nat) : Room := { frames := 0, cells := mc, slots := ms, locals := 0 }
set_option maxHeartbeats 4000000 in
theorem mX1_where (l : Launch) (G : GT) (u : Hp) (a0 : Nat) (K : Int32 → Prop) (h : pX1_where u a0 K) : Met l yX1_where (ws_ yX1_where cX1_where 1 (some .int)) (rmX1_where 0 0) (va_Pc [.ref a0] (GB G u)) (va_Qi (fun r v => v = u ∧ K r) (fun u t => GH G u t.heap) (GA G)) 0 0 (GA G) := by
  refine Met.ofW (cc := cX1_where) (maxL := 1) (ret := (some .int)) (by decide) rfl ?_
  intro p e s m args below meth c s₁ B hml hv
  obtain ⟨rfl, hv⟩ := hv
  have X := Mc_of (own := RX1) B hml rfl hv
  have hw : GW G u s s.heap [] := ⟨hv.2.1, va_S.rf⟩
  have hr := B.returns
  obtain ⟨hx, hb, hml, hown, hts, -⟩ := id X
  have hl := lv_entry ([.ref a0]) (n := 1) (Nat.le_of_ble_eq_true rfl)
  rw [lg_entry_eq]
  generalize (lg_sl ([.ref a0]) ++ List.replicate (1 - (lg_sl ([.ref a0])).length) Slot.unset).toArray = ls at hl ⊢
  have hl : lv_has ls 1 [(0, .ref a0)] := hl
  change W p l e (rmX1_where 0 0) s m _ below meth c s.heap [] 0 0 (QI G below (fun r v => v = u ∧ K r) _ s 0 0) (F0 m 0 ls [])
  unfold pX1_where at h
  refine lv_aload_n hx hb dX1_where_0 rfl (lv_at hl 0 rfl) ?_
  have hk_1 : kd u a0 = 1 := h.1
  have h := h.2
  refine g_getI X hw in_X1 hk_1 rfl 4 rfl (by decide) q477 (fun _ z => z) dX1_where_1 ?_
  refine lv_iconst (v := 4) hx hb dX1_where_4 (by decide) ?_
  refine lv_icmp_ne (tgt := 15) hx hb dX1_where_5 rfl (fun c_2 => ?_) (fun c_2 => ?_)
  · have h := h.2 c_2
    refine lv_iconst (v := (-1)) hx hb dX1_where_15 (by decide) ?_
    exact g_iret X hw hr ⟨rfl, h⟩ (Nat.le_refl _) (Nat.le_refl _) dX1_where_16
  · have h := h.1 c_2
    refine lv_aload_n hx hb dX1_where_8 rfl (lv_at hl 0 rfl) ?_
    refine g_getI X hw in_X1 hk_1 rfl 6 rfl (by decide) q479 (fun _ z => z) dX1_where_9 ?_
    refine lv_goto (tgt := 16) hx hb dX1_where_12 rfl ?_
    exact g_iret X hw hr ⟨rfl, h⟩ (Nat.le_refl _) (Nat.le_refl _) dX1_where_16

/-! FifthCardModel.where()I -/
theorem ydX19_where : yX19_where.cls = "FifthCardModel" ∧ yX19_where.cls ≠ "java/lang/invoke/MethodHandle" ∧ yX19_where.cls ≠ "java/lang/invoke/VarHandle" ∧ (parseMethodDescriptor yX19_where.desc).map (fun d => d.parameters.length) = some 0 := by decide +kernel
def rmX19_where (mc ms : Nat) : Room := { frames := 0, cells := mc, slots := ms, locals := 0 }
set_option maxHeartbeats 4000000 in
theorem mX19_where (l : Launch) (G : GT) (u : Hp) (a0 : Nat) (K : Int32 → Hp → Prop) (h : pX19_where u a0 K) : Met l yX19_where (ws_ yX19_where cX19_where 1 (some .int)) (rmX19_where 0 0) (va_Pc [.ref a0] (GB G u)) (va_Qi K (fun u t => GH G u t.heap) (GA G)) 0 0 (GA G) := by
  refine Met.ofW (cc := cX19_where) (maxL := 1) (ret := (some .int)) (by decide) rfl ?_
  intro p e s m args below meth c s₁ B hml hv
  obtain ⟨rfl, hv⟩ := hv
  have X := Mc_of (own := RX19) B hml rfl hv
  have hw : GW G u s s.heap [] := ⟨hv.2.1, va_S.rf⟩
  have hr := B.returns
  obtain ⟨hx, hb, hml, hown, hts, -⟩ := id X
  have hl := lv_entry ([.ref a0]) (n := 1) (Nat.le_of_ble_eq_true rfl)
  rw [lg_entry_eq]
  generalize (lg_sl ([.ref a0]) ++ List.replicate (1 - (lg_sl ([.ref a0])).length) Slot.unset).toArray = ls at hl ⊢
  have hl : lv_has ls 1 [(0, .ref a0)] := hl
  change W p l e (rmX19_where 0 0) s m _ below meth c s.heap [] 0 0 (QI G below K _ s 0 0) (F0 m 0 ls [])
  unfold pX19_where at h
  refine lv_aload_n hx hb dX19_where_0 rfl (lv_at hl 0 rfl) ?_
  refine lv_iconst (v := 0) hx hb dX19_where_1 (by decide) ?_
  have hk_1 : kd u a0 = 16 := h.1
  have h := h.2
  refine g_putI (v := 0) X hw in_X19 tyX19_ok nmX19 hk_1 rfl 0 rfl (by decide) q1451 (fun _ z => z) rfl rfl rfl dX19_where_2 (fun H locs hw => ?_)
  refine lv_aload_n hx hb dX19_where_5 rfl (lv_at hl 0 rfl) ?_
  refine g_getI X hw in_X19 hk_1 rfl 2 rfl (by decide) q1453 (fun _ z => z) dX19_where_6 ?_
  exact g_iret X hw hr h (Nat.le_refl _) (Nat.le_refl _) dX19_where_9

/-! FifthCard.hands()I -/
theorem ydX1_hands : yX1_hands.cls = "FifthCard" ∧ yX1_hands.cls ≠ "java/lang/invoke/MethodHandle" ∧ yX1_hands.cls ≠ "java/lang/invoke/VarHandle" ∧ (parseMethodDescriptor yX1_hands.desc).map (fun d => d.parameters.length) = some 0 := by decide +kernel
def rmX1_hands (mc ms : Nat) : Room := { frames := 1, cells := mc, slots := ms, locals := 21 }
set_option maxHeartbeats 4000000 in
theorem mX1_hands (l : Launch) (G : GT) (u : Hp) (a0 : Nat) (K : Int32 → Hp → Prop) (h : pX1_hands u a0 K) : Met l yX1_hands (ws_ yX1_hands cX1_hands 1 (some .int)) (rmX1_hands 0 0) (va_Pc [.ref a0] (GB G u)) (va_Qi K (fun u t => GH G u t.heap) (GA G)) 0 0 (GA G) := by
  refine Met.ofW (cc := cX1_hands) (maxL := 1) (ret := (some .int)) (by decide) rfl ?_
  intro p e s m args below meth c s₁ B hml hv
  obtain ⟨rfl, hv⟩ := hv
  have X := Mc_of (own := RX1) B hml rfl hv
  have hw : GW G u s s.heap [] := ⟨hv.2.1, va_S.rf⟩
  have hr := B.returns
  obtain ⟨hx, hb, hml, hown, hts, -⟩ := id X
  have hl := lv_entry ([.ref a0]) (n := 1) (Nat.le_of_ble_eq_true rfl)
  rw [lg_entry_eq]
  generalize (lg_sl ([.ref a0]) ++ List.replicate (1 - (lg_sl ([.ref a0])).length) Slot.unset).toArray = ls at hl ⊢
  have hl : lv_has ls 1 [(0, .ref a0)] := hl
  change W p l e (rmX1_hands 0 0) s m _ below meth c s.heap [] 0 0 (QI G below K _ s 0 0) (F0 m 0 ls [])
  unfold pX1_hands at h
  refine lv_aload_n hx hb dX1_hands_0 rfl (lv_at hl 0 rfl) ?_
  have hk_1 : kd u a0 = 1 := h.1
  have h := h.2
  refine g_callv hw (g_V X hw (mX1_anew l G _ _ _ h) 0 (lw_V q535 q537 qs2 q122 q538) rfl rfl ydX1_anew ⟨Nat.le_of_ble_eq_true rfl, Nat.le_of_ble_eq_true rfl⟩ (g_recv X hw (ci := 0) (q := (RX1, TX1, 16)) hk_1 rfl) (As := []) (rest := []) rfl hl.1 rfl (Nat.le_of_ble_eq_true rfl) dX1_hands_1 ⟨Nat.le_refl _, Nat.le_refl _⟩) (fun u_2 H locs h hw => ?_)
  refine lv_aload_n hx hb dX1_hands_4 rfl (lv_at hl 0 rfl) ?_
  have hk_3 : kd u_2 a0 = 1 := h.1
  have h := h.2
  refine g_getO X hw in_X1 hk_3 rfl 3 rfl (by decide) q476 (fun _ z => z) dX1_hands_5 ?_
  refine g_ifnonnull X (tgt := 19) dX1_hands_8 rfl (fun b_4 e_5 => ?_) (fun e_5 => ?_)
  · have h := h.2 b_4 e_5
    refine lv_aload_n hx hb dX1_hands_19 rfl (lv_at hl 0 rfl) ?_
    refine g_getI X hw in_X1 hk_3 rfl 8 rfl (by decide) q481 (fun _ z => z) dX1_hands_20 ?_
    exact g_iret X hw hr h (Nat.le_refl _) (Nat.le_refl _) dX1_hands_23
  · have h := h.1 e_5
    refine lv_aload_n hx hb dX1_hands_11 rfl (lv_at hl 0 rfl) ?_
    refine lv_iconst (v := 1) hx hb dX1_hands_12 (by decide) ?_
    refine g_calli hw (g_V X hw (mX1_no l G _ _ _ _ h) 1 (lw_V q542 q544 qs3 q122 q545) rfl rfl ydX1_no ⟨Nat.le_of_ble_eq_true rfl, Nat.le_of_ble_eq_true rfl⟩ (g_recv X hw (ci := 0) (q := (RX1, TX1, 16)) hk_3 rfl) (As := [.int 1]) (rest := []) rfl hl.1 rfl (Nat.le_of_ble_eq_true rfl) dX1_hands_13 ⟨Nat.le_refl _, Nat.le_refl _⟩) (fun r_6 u_7 H locs h hw => ?_)
    refine lv_goto (tgt := 23) hx hb dX1_hands_16 rfl ?_
    exact g_iret X hw hr h (Nat.le_refl _) (Nat.le_refl _) dX1_hands_23

/-! FifthCardModel.hands()I -/
theorem ydX19_hands : yX19_hands.cls = "FifthCardModel" ∧ yX19_hands.cls ≠ "java/lang/invoke/MethodHandle" ∧ yX19_hands.cls ≠ "java/lang/invoke/VarHandle" ∧ (parseMethodDescriptor yX19_hands.desc).map (fun d => d.parameters.length) = some 0 := by decide +kernel
def rmX19_hands (mc ms : Nat) : Room := { frames := 1, cells := mc, slots := ms, locals := 21 }
set_option maxHeartbeats 4000000 in
theorem mX19_hands (l : Launch) (G : GT) (u : Hp) (a0 : Nat) (K : Int32 → Hp → Prop) (h : pX19_hands u a0 K) : Met l yX19_hands (ws_ yX19_hands cX19_hands 1 (some .int)) (rmX19_hands 0 0) (va_Pc [.ref a0] (GB G u)) (va_Qi K (fun u t => GH G u t.heap) (GA G)) 0 0 (GA G) := by
  refine Met.ofW (cc := cX19_hands) (maxL := 1) (ret := (some .int)) (by decide) rfl ?_
  intro p e s m args below meth c s₁ B hml hv
  obtain ⟨rfl, hv⟩ := hv
  have X := Mc_of (own := RX19) B hml rfl hv
  have hw : GW G u s s.heap [] := ⟨hv.2.1, va_S.rf⟩
  have hr := B.returns
  obtain ⟨hx, hb, hml, hown, hts, -⟩ := id X
  have hl := lv_entry ([.ref a0]) (n := 1) (Nat.le_of_ble_eq_true rfl)
  rw [lg_entry_eq]
  generalize (lg_sl ([.ref a0]) ++ List.replicate (1 - (lg_sl ([.ref a0])).length) Slot.unset).toArray = ls at hl ⊢
  have hl : lv_has ls 1 [(0, .ref a0)] := hl
  change W p l e (rmX19_hands 0 0) s m _ below meth c s.heap [] 0 0 (QI G below K _ s 0 0) (F0 m 0 ls [])
  unfold pX19_hands at h
  refine lv_aload_n hx hb dX19_hands_0 rfl (lv_at hl 0 rfl) ?_
  refine lv_iconst (v := 0) hx hb dX19_hands_1 (by decide) ?_
  have hk_1 : kd u a0 = 16 := h.1
  have h := h.2
  refine g_putI (v := 0) X hw in_X19 tyX19_ok nmX19 hk_1 rfl 0 rfl (by decide) q1451 (fun _ z => z) rfl rfl rfl dX19_hands_2 (fun H locs hw => ?_)
  refine lv_aload_n hx hb dX19_hands_5 rfl (lv_at hl 0 rfl) ?_
  refine g_getO X hw in_X19 hk_1 rfl 3 rfl (by decide) q1454 (fun _ z => z) dX19_hands_6 ?_
  refine g_ifnonnull X (tgt := 20) dX19_hands_9 rfl (fun b_2 e_3 => ?_) (fun e_3 => ?_)
  · have h := h.2 b_2 e_3
    refine lv_aload_n hx hb dX19_hands_20 rfl (lv_at hl 0 rfl) ?_
    refine lv_aload_n hx hb dX19_hands_21 rfl (lv_at hl 0 rfl) ?_
    refine g_getI X hw in_X19 hk_1 rfl 17 rfl (by decide) q1468 (fun _ z => z) dX19_hands_22 ?_
    refine g_calli hw (g_V X hw (mX19_good l G _ _ _ _ h) 1 (lw_V q1867 q1869 qs77 q143 q1870) rfl rfl ydX19_good ⟨Nat.le_of_ble_eq_true rfl, Nat.le_of_ble_eq_true rfl⟩ (g_recv X hw (ci := 15) (q := (RX19, TX19, 46)) hk_1 rfl) (As := [.int (FI (sFI u 1900 a0 0) 1917 a0)]) (rest := []) rfl hl.1 rfl (Nat.le_of_ble_eq_true rfl) dX19_hands_25 ⟨Nat.le_refl _, Nat.le_refl _⟩) (fun r_6 u_7 H locs h hw => ?_)
    exact g_iret X hw hr h (Nat.le_refl _) (Nat.le_refl _) dX19_hands_28
  · have h := h.1 e_3
    refine lv_aload_n hx hb dX19_hands_12 rfl (lv_at hl 0 rfl) ?_
    refine lv_iconst (v := 1) hx hb dX19_hands_13 (by decide) ?_
    refine g_calli hw (g_V X hw (mX19_refused l G _ _ _ _ h) 1 (lw_V q1603 q1605 qs47 q143 q1606) rfl rfl ydX19_refused ⟨Nat.le_of_ble_eq_true rfl, Nat.le_of_ble_eq_true rfl⟩ (g_recv X hw (ci := 15) (q := (RX19, TX19, 46)) hk_1 rfl) (As := [.int 1]) (rest := []) rfl hl.1 rfl (Nat.le_of_ble_eq_true rfl) dX19_hands_14 ⟨Nat.le_refl _, Nat.le_refl _⟩) (fun r_4 u_5 H locs h hw => ?_)
    refine lv_goto (tgt := 28) hx hb dX19_hands_17 rfl ?_
    exact g_iret X hw hr h (Nat.le_refl _) (Nat.le_refl _) dX19_hands_28

/-! FifthCard.rowMany()I -/
theorem ydX1_rowMany : yX1_rowMany.cls = "FifthCard" ∧ yX1_rowMany.cls ≠ "java/lang/invoke/MethodHandle" ∧ yX1_rowMany.cls ≠ "java/lang/invoke/VarHandle" ∧ (parseMethodDescriptor yX1_rowMany.desc).map (fun d => d.parameters.length) = some 0 := by decide +kernel
def rmX1_rowMany (mc ms : Nat) : Room := { frames := 2, cells := mc, slots := ms, locals := 40 }
set_option maxHeartbeats 4000000 in
theorem mX1_rowMany (l : Launch) (G : GT) (u : Hp) (a0 : Nat) (K : Int32 → Prop) (h : pX1_rowMany u a0 K) : Met l yX1_rowMany (ws_ yX1_rowMany cX1_rowMany 1 (some .int)) (rmX1_rowMany 0 0) (va_Pc [.ref a0] (GB G u)) (va_Qi (fun r v => v = u ∧ K r) (fun u t => GH G u t.heap) (GA G)) 0 0 (GA G) := by
  refine Met.ofW (cc := cX1_rowMany) (maxL := 1) (ret := (some .int)) (by decide) rfl ?_
  intro p e s m args below meth c s₁ B hml hv
  obtain ⟨rfl, hv⟩ := hv
  have X := Mc_of (own := RX1) B hml rfl hv
  have hw : GW G u s s.heap [] := ⟨hv.2.1, va_S.rf⟩
  have hr := B.returns
  obtain ⟨hx, hb, hml, hown, hts, -⟩ := id X
  have hl := lv_entry ([.ref a0]) (n := 1) (Nat.le_of_ble_eq_true rfl)
  rw [lg_entry_eq]
  generalize (lg_sl ([.ref a0]) ++ List.replicate (1 - (lg_sl ([.ref a0])).length) Slot.unset).toArray = ls at hl ⊢
  have hl : lv_has ls 1 [(0, .ref a0)] := hl
  change W p l e (rmX1_rowMany 0 0) s m _ below meth c s.heap [] 0 0 (QI G below (fun r v => v = u ∧ K r) _ s 0 0) (F0 m 0 ls [])
  unfold pX1_rowMany at h
  refine lv_aload_n hx hb dX1_rowMany_0 rfl (lv_at hl 0 rfl) ?_
  have hk_1 : kd u a0 = 1 := h.1
  have h := h.2
  obtain ⟨b_2, e_3, h⟩ := h
  refine g_getR X hw in_X1 hk_1 rfl 3 rfl (by decide) q476 (fun _ z => z) e_3 dX1_rowMany_1 ?_
  have hk_4 : kd u b_2 = 17 := h.1
  have h := h.2
  refine g_getI X hw in_X20 hk_4 rfl 3 rfl (by decide) q572 (fun _ z => z) dX1_rowMany_4 ?_
  refine lv_aload_n hx hb dX1_rowMany_7 rfl (lv_at hl 0 rfl) ?_
  refine g_getR X hw in_X1 hk_1 rfl 3 rfl (by decide) q476 (fun _ z => z) e_3 dX1_rowMany_8 ?_
  refine g_callio hw (g_V X hw (mX20_rows l G _ _ _ h) 0 (lw_V q1013 q950 q951 q144 q952) rfl rfl ydX20_rows ⟨Nat.le_of_ble_eq_true rfl, Nat.le_of_ble_eq_true rfl⟩ (g_recv X hw (ci := 16) (q := (RX20, TX20, 13)) hk_4 rfl) (As := []) (rest := [.int (FI u 2003 b_2)]) rfl hl.1 rfl (Nat.le_of_ble_eq_true rfl) dX1_rowMany_11 ⟨Nat.le_refl _, Nat.le_refl _⟩) (fun r_5 H locs h hw => ?_)
  refine g_calllo hw (g_S X hw (mX1_falling l G _ _ _ _ h) 2 (lw_S q853 q848 q122 q849) rfl rfl ydX1_falling ⟨Nat.le_of_ble_eq_true rfl, Nat.le_of_ble_eq_true rfl⟩ (As := [.int (FI u 2003 b_2), .int r_5]) (rest := []) rfl hl.1 rfl (Nat.le_of_ble_eq_true rfl) dX1_rowMany_14 ⟨Nat.le_refl _, Nat.le_refl _⟩) (fun r_6 H locs h hw => ?_)
  refine lv_l2i hx hb dX1_rowMany_17 rfl ?_
  refine lv_aload_n hx hb dX1_rowMany_18 rfl (lv_at hl 0 rfl) ?_
  refine g_getR X hw in_X1 hk_1 rfl 3 rfl (by decide) q476 (fun _ z => z) e_3 dX1_rowMany_19 ?_
  refine g_callio hw (g_V X hw (mX20_tiltings l G _ _ _ h) 0 (lw_V q1014 q954 q955 q144 q956) rfl rfl ydX20_tiltings ⟨Nat.le_of_ble_eq_true rfl, Nat.le_of_ble_eq_true rfl⟩ (g_recv X hw (ci := 16) (q := (RX20, TX20, 13)) hk_4 rfl) (As := []) (rest := [.int (r_6.toInt32)]) rfl hl.1 rfl (Nat.le_of_ble_eq_true rfl) dX1_rowMany_22 ⟨Nat.le_refl _, Nat.le_refl _⟩) (fun r_7 H locs h hw => ?_)
  refine lv_imul hx hb dX1_rowMany_25 ?_
  exact g_iret X hw hr ⟨rfl, h⟩ (Nat.le_refl _) (Nat.le_refl _) dX1_rowMany_26

/-! FifthCard.rows()I -/
theorem ydX1_rows : yX1_rows.cls = "FifthCard" ∧ yX1_rows.cls ≠ "java/lang/invoke/MethodHandle" ∧ yX1_rows.cls ≠ "java/lang/invoke/VarHandle" ∧ (parseMethodDescriptor yX1_rows.desc).map (fun d => d.parameters.length) = some 0 := by decide +kernel
def rmX1_rows (mc ms : Nat) : Room := { frames := 3, cells := mc, slots := ms, locals := 60 }
set_option maxHeartbeats 4000000 in
theorem mX1_rows (l : Launch) (G : GT) (u : Hp) (a0 : Nat) (K : Int32 → Hp → Prop) (h : pX1_rows u a0 K) : Met l yX1_rows (ws_ yX1_rows cX1_rows 1 (some .int)) (rmX1_rows 0 0) (va_Pc [.ref a0] (GB G u)) (va_Qi K (fun u t => GH G u t.heap) (GA G)) 0 0 (GA G) := by
  refine Met.ofW (cc := cX1_rows) (maxL := 1) (ret := (some .int)) (by decide) rfl ?_
  intro p e s m args below meth c s₁ B hml hv
  obtain ⟨rfl, hv⟩ := hv
  have X := Mc_of (own := RX1) B hml rfl hv
  have hw : GW G u s s.heap [] := ⟨hv.2.1, va_S.rf⟩
  have hr := B.returns
  obtain ⟨hx, hb, hml, hown, hts, -⟩ := id X
  have hl := lv_entry ([.ref a0]) (n := 1) (Nat.le_of_ble_eq_true rfl)
  rw [lg_entry_eq]
  generalize (lg_sl ([.ref a0]) ++ List.replicate (1 - (lg_sl ([.ref a0])).length) Slot.unset).toArray = ls at hl ⊢
  have hl : lv_has ls 1 [(0, .ref a0)] := hl
  change W p l e (rmX1_rows 0 0) s m _ below meth c s.heap [] 0 0 (QI G below K _ s 0 0) (F0 m 0 ls [])
  unfold pX1_rows at h
  refine lv_aload_n hx hb dX1_rows_0 rfl (lv_at hl 0 rfl) ?_
  have hk_1 : kd u a0 = 1 := h.1
  have h := h.2
  refine g_callv hw (g_V X hw (mX1_anew l G _ _ _ h) 0 (lw_V q535 q537 qs2 q122 q538) rfl rfl ydX1_anew ⟨Nat.le_of_ble_eq_true rfl, Nat.le_of_ble_eq_true rfl⟩ (g_recv X hw (ci := 0) (q := (RX1, TX1, 16)) hk_1 rfl) (As := []) (rest := []) rfl hl.1 rfl (Nat.le_of_ble_eq_true rfl) dX1_rows_1 ⟨Nat.le_refl _, Nat.le_refl _⟩) (fun u_2 H locs h hw => ?_)
  refine lv_aload_n hx hb dX1_rows_4 rfl (lv_at hl 0 rfl) ?_
  have hk_3 : kd u_2 a0 = 1 := h.1
  have h := h.2
  refine g_getO X hw in_X1 hk_3 rfl 3 rfl (by decide) q476 (fun _ z => z) dX1_rows_5 ?_
  refine g_ifnonnull X (tgt := 19) dX1_rows_8 rfl (fun b_4 e_5 => ?_) (fun e_5 => ?_)
  · have h := h.2 b_4 e_5
    refine lv_aload_n hx hb dX1_rows_19 rfl (lv_at hl 0 rfl) ?_
    refine g_callio hw (g_V X hw (mX1_rowMany l G _ _ _ h) 0 (lw_V q1009 q1011 qs24 q122 q1012) rfl rfl ydX1_rowMany ⟨Nat.le_of_ble_eq_true rfl, Nat.le_of_ble_eq_true rfl⟩ (g_recv X hw (ci := 0) (q := (RX1, TX1, 16)) hk_3 rfl) (As := []) (rest := []) rfl hl.1 rfl (Nat.le_of_ble_eq_true rfl) dX1_rows_20 ⟨Nat.le_refl _, Nat.le_refl _⟩) (fun r_8 H locs h hw => ?_)
    exact g_iret X hw hr h (Nat.le_refl _) (Nat.le_refl _) dX1_rows_23
  · have h := h.1 e_5
    refine lv_aload_n hx hb dX1_rows_11 rfl (lv_at hl 0 rfl) ?_
    refine lv_iconst (v := 1) hx hb dX1_rows_12 (by decide) ?_
    refine g_calli hw (g_V X hw (mX1_no l G _ _ _ _ h) 1 (lw_V q542 q544 qs3 q122 q545) rfl rfl ydX1_no ⟨Nat.le_of_ble_eq_true rfl, Nat.le_of_ble_eq_true rfl⟩ (g_recv X hw (ci := 0) (q := (RX1, TX1, 16)) hk_3 rfl) (As := [.int 1]) (rest := []) rfl hl.1 rfl (Nat.le_of_ble_eq_true rfl) dX1_rows_13 ⟨Nat.le_refl _, Nat.le_refl _⟩) (fun r_6 u_7 H locs h hw => ?_)
    refine lv_goto (tgt := 23) hx hb dX1_rows_16 rfl ?_
    exact g_iret X hw hr h (Nat.le_refl _) (Nat.le_refl _) dX1_rows_23

/-! FifthCardModel.rowMany()I -/
theorem ydX19_rowMany : yX19_rowMany.cls = "FifthCardModel" ∧ yX19_rowMany.cls ≠ "java/lang/invoke/MethodHandle" ∧ yX19_rowMany.cls ≠ "java/lang/invoke/VarHandle" ∧ (parseMethodDescriptor yX19_rowMany.desc).map (fun d => d.parameters.length) = some 0 := by decide +kernel
def rmX19_rowMany (mc ms : Nat) : Room := { frames := 1, cells := mc, slots := ms, locals := 24 }
set_option maxHeartbeats 4000000 in
theorem mX19_rowMany (l : Launch) (G : GT) (u : Hp) (a0 : Nat) (K : Int32 → Prop) (h : pX19_rowMany u a0 K) : Met l yX19_rowMany (ws_ yX19_rowMany cX19_rowMany 1 (some .int)) (rmX19_rowMany 0 0) (va_Pc [.ref a0] (GB G u)) (va_Qi (fun r v => v = u ∧ K r) (fun u t => GH G u t.heap) (GA G)) 0 0 (GA G) := by
  refine Met.ofW (cc := cX19_rowMany) (maxL := 1) (ret := (some .int)) (by decide) rfl ?_
  intro p e s m args below meth c s₁ B hml hv
  obtain ⟨rfl, hv⟩ := hv
  have X := Mc_of (own := RX19) B hml rfl hv
  have hw : GW G u s s.heap [] := ⟨hv.2.1, va_S.rf⟩
  have hr := B.returns
  obtain ⟨hx, hb, hml, hown, hts, -⟩ := id X
  have hl := lv_entry ([.ref a0]) (n := 1) (Nat.le_of_ble_eq_true rfl)
  rw [lg_entry_eq]
  generalize (lg_sl ([.ref a0]) ++ List.replicate (1 - (lg_sl ([.ref a0])).length) Slot.unset).toArray = ls at hl ⊢
  have hl : lv_has ls 1 [(0, .ref a0)] := hl
  change W p l e (rmX19_rowMany 0 0) s m _ below meth c s.heap [] 0 0 (QI G below (fun r v => v = u ∧ K r) _ s 0 0) (F0 m 0 ls [])
  unfold pX19_rowMany at h
  refine lv_aload_n hx hb dX19_rowMany_0 rfl (lv_at hl 0 rfl) ?_
  have hk_1 : kd u a0 = 16 := h.1
  have h := h.2
  obtain ⟨b_2, e_3, h⟩ := h
  refine g_getR X hw in_X19 hk_1 rfl 3 rfl (by decide) q1454 (fun _ z => z) e_3 dX19_rowMany_1 ?_
  have hk_4 : kd u b_2 = 20 := h.1
  have h := h.2
  refine g_getNI X hw (host := "FifthCardModel") in_X23 hk_4 rfl 0 rfl (by decide) (List.mem_of_getElem? (i := 0) rfl) (fun _ z => z) dX19_rowMany_4 ?_
  refine lv_aload_n hx hb dX19_rowMany_7 rfl (lv_at hl 0 rfl) ?_
  refine g_getR X hw in_X19 hk_1 rfl 3 rfl (by decide) q1454 (fun _ z => z) e_3 dX19_rowMany_8 ?_
  refine g_getNI X hw (host := "FifthCardModel") in_X23 hk_4 rfl 4 rfl (by decide) (List.mem_of_getElem? (i := 7) rfl) (fun _ z => z) dX19_rowMany_11 ?_
  refine g_calllo hw (g_S X hw (mX19_rowsOf l G _ _ _ _ h) 2 (lw_S q1767 q1762 q143 q1763) rfl rfl ydX19_rowsOf ⟨Nat.le_of_ble_eq_true rfl, Nat.le_of_ble_eq_true rfl⟩ (As := [.int (FI u 2300 b_2), .int (FI u 2304 b_2)]) (rest := []) rfl hl.1 rfl (Nat.le_of_ble_eq_true rfl) dX19_rowMany_14 ⟨Nat.le_refl _, Nat.le_refl _⟩) (fun r_5 H locs h hw => ?_)
  refine lv_l2i hx hb dX19_rowMany_17 rfl ?_
  refine lv_aload_n hx hb dX19_rowMany_18 rfl (lv_at hl 0 rfl) ?_
  refine g_getR X hw in_X19 hk_1 rfl 3 rfl (by decide) q1454 (fun _ z => z) e_3 dX19_rowMany_19 ?_
  refine g_callio hw (g_V X hw (mX23_tilts l G _ _ _ h) 0 (lw_V q1863 q1864 q1865 q153 q1866) rfl rfl ydX23_tilts ⟨Nat.le_of_ble_eq_true rfl, Nat.le_of_ble_eq_true rfl⟩ (g_recv X hw (ci := 19) (q := (RX23, TX23, 15)) hk_4 rfl) (As := []) (rest := [.int (r_5.toInt32)]) rfl hl.1 rfl (Nat.le_of_ble_eq_true rfl) dX19_rowMany_22 ⟨Nat.le_refl _, Nat.le_refl _⟩) (fun r_6 H locs h hw => ?_)
  refine lv_imul hx hb dX19_rowMany_25 ?_
  exact g_iret X hw hr ⟨rfl, h⟩ (Nat.le_refl _) (Nat.le_refl _) dX19_rowMany_26

/-! FifthCardModel.rows()I -/
theorem ydX19_rows : yX19_rows.cls = "FifthCardModel" ∧ yX19_rows.cls ≠ "java/lang/invoke/MethodHandle" ∧ yX19_rows.cls ≠ "java/lang/invoke/VarHandle" ∧ (parseMethodDescriptor yX19_rows.desc).map (fun d => d.parameters.length) = some 0 := by decide +kernel
def rmX19_rows (mc ms : Nat) : Room := { frames := 2, cells := mc, slots := ms, locals := 44 }
set_option maxHeartbeats 4000000 in
theorem mX19_rows (l : Launch) (G : GT) (u : Hp) (a0 : Nat) (K : Int32 → Hp → Prop) (h : pX19_rows u a0 K) : Met l yX19_rows (ws_ yX19_rows cX19_rows 1 (some .int)) (rmX19_rows 0 0) (va_Pc [.ref a0] (GB G u)) (va_Qi K (fun u t => GH G u t.heap) (GA G)) 0 0 (GA G) := by
  refine Met.ofW (cc := cX19_rows) (maxL := 1) (ret := (some .int)) (by decide) rfl ?_
  intro p e s m args below meth c s₁ B hml hv
  obtain ⟨rfl, hv⟩ := hv
  have X := Mc_of (own := RX19) B hml rfl hv
  have hw : GW G u s s.heap [] := ⟨hv.2.1, va_S.rf⟩
  have hr := B.returns
  obtain ⟨hx, hb, hml, hown, hts, -⟩ := id X
  have hl := lv_entry ([.ref a0]) (n := 1) (Nat.le_of_ble_eq_true rfl)
  rw [lg_entry_eq]
  generalize (lg_sl ([.ref a0]) ++ List.replicate (1 - (lg_sl ([.ref a0])).length) Slot.unset).toArray = ls at hl ⊢
  have hl : lv_has ls 1 [(0, .ref a0)] := hl
  change W p l e (rmX19_rows 0 0) s m _ below meth c s.heap [] 0 0 (QI G below K _ s 0 0) (F0 m 0 ls [])
  unfold pX19_rows at h
  refine lv_aload_n hx hb dX19_rows_0 rfl (lv_at hl 0 rfl) ?_
  refine lv_iconst (v := 0) hx hb dX19_rows_1 (by decide) ?_
  have hk_1 : kd u a0 = 16 := h.1
  have h := h.2
  refine g_putI (v := 0) X hw in_X19 tyX19_ok nmX19 hk_1 rfl 0 rfl (by decide) q1451 (fun _ z => z) rfl rfl rfl dX19_rows_2 (fun H locs hw => ?_)
  refine lv_aload_n hx hb dX19_rows_5 rfl (lv_at hl 0 rfl) ?_
  refine g_getO X hw in_X19 hk_1 rfl 3 rfl (by decide) q1454 (fun _ z => z) dX19_rows_6 ?_
  refine g_ifnonnull X (tgt := 20) dX19_rows_9 rfl (fun b_2 e_3 => ?_) (fun e_3 => ?_)
  · have h := h.2 b_2 e_3
    refine lv_aload_n hx hb dX19_rows_20 rfl (lv_at hl 0 rfl) ?_
    refine lv_aload_n hx hb dX19_rows_21 rfl (lv_at hl 0 rfl) ?_
    refine g_callio hw (g_V X hw (mX19_rowMany l G _ _ _ h) 0 (lw_V q1887 q1889 qs78 q143 q1890) rfl rfl ydX19_rowMany ⟨Nat.le_of_ble_eq_true rfl, Nat.le_of_ble_eq_true rfl⟩ (g_recv X hw (ci := 15) (q := (RX19, TX19, 46)) hk_1 rfl) (As := []) (rest := [.ref a0]) rfl hl.1 rfl (Nat.le_of_ble_eq_true rfl) dX19_rows_22 ⟨Nat.le_refl _, Nat.le_refl _⟩) (fun r_6 H locs h hw => ?_)
    refine g_calli hw (g_V X hw (mX19_good l G _ _ _ _ h) 1 (lw_V q1867 q1869 qs77 q143 q1870) rfl rfl ydX19_good ⟨Nat.le_of_ble_eq_true rfl, Nat.le_of_ble_eq_true rfl⟩ (g_recv X hw (ci := 15) (q := (RX19, TX19, 46)) hk_1 rfl) (As := [.int r_6]) (rest := []) rfl hl.1 rfl (Nat.le_of_ble_eq_true rfl) dX19_rows_25 ⟨Nat.le_refl _, Nat.le_refl _⟩) (fun r_7 u_8 H locs h hw => ?_)
    exact g_iret X hw hr h (Nat.le_refl _) (Nat.le_refl _) dX19_rows_28
  · have h := h.1 e_3
    refine lv_aload_n hx hb dX19_rows_12 rfl (lv_at hl 0 rfl) ?_
    refine lv_iconst (v := 1) hx hb dX19_rows_13 (by decide) ?_
    refine g_calli hw (g_V X hw (mX19_refused l G _ _ _ _ h) 1 (lw_V q1603 q1605 qs47 q143 q1606) rfl rfl ydX19_refused ⟨Nat.le_of_ble_eq_true rfl, Nat.le_of_ble_eq_true rfl⟩ (g_recv X hw (ci := 15) (q := (RX19, TX19, 46)) hk_1 rfl) (As := [.int 1]) (rest := []) rfl hl.1 rfl (Nat.le_of_ble_eq_true rfl) dX19_rows_14 ⟨Nat.le_refl _, Nat.le_refl _⟩) (fun r_4 u_5 H locs h hw => ?_)
    refine lv_goto (tgt := 28) hx hb dX19_rows_17 rfl ?_
    exact g_iret X hw hr h (Nat.le_refl _) (Nat.le_refl _) dX19_rows_28

/-! FifthCard.isHand(I)Z -/
theorem ydX1_isHand : yX1_isHand.cls = "FifthCard" ∧ yX1_isHand.cls ≠ "java/lang/invoke/MethodHandle" ∧ yX1_isHand.cls ≠ "java/lang/invoke/VarHandle" ∧ (parseMethodDescriptor yX1_isHand.desc).map (fun d => d.parameters.length) = some 1 := by decide +kernel
def rmX1_isHand (mc ms : Nat) : Room := { frames := 1, cells := mc, slots := ms, locals := 22 }
set_option maxHeartbeats 4000000 in
theorem mX1_isHand (l : Launch) (G : GT) (u : Hp) (a0 : Nat) (x1 : Int32) (K : Int32 → Prop) (h : pX1_isHand u a0 x1 K) : Met l yX1_isHand (ws_ yX1_isHand cX1_isHand 2 (some .boolean)) (rmX1_isHand 0 0) (va_Pc [.ref a0, .int x1] (GB G u)) (va_Qi (fun r v => v = u ∧ K r) (fun u t => GH G u t.heap) (GA G)) 0 0 (GA G) := by
  refine Met.ofW (cc := cX1_isHand) (maxL := 2) (ret := (some .boolean)) (by decide) rfl ?_
  intro p e s m args below meth c s₁ B hml hv
  obtain ⟨rfl, hv⟩ := hv
  have X := Mc_of (own := RX1) B hml rfl hv
  have hw : GW G u s s.heap [] := ⟨hv.2.1, va_S.rf⟩
  have hr := B.returns
  obtain ⟨hx, hb, hml, hown, hts, -⟩ := id X
  have hl := lv_entry ([.ref a0, .int x1]) (n := 2) (Nat.le_of_ble_eq_true rfl)
  rw [lg_entry_eq]
  generalize (lg_sl ([.ref a0, .int x1]) ++ List.replicate (2 - (lg_sl ([.ref a0, .int x1])).length) Slot.unset).toArray = ls at hl ⊢
  have hl : lv_has ls 2 [(0, .ref a0), (1, .int x1)] := hl
  change W p l e (rmX1_isHand 0 0) s m _ below meth c s.heap [] 0 0 (QI G below (fun r v => v = u ∧ K r) _ s 0 0) (F0 m 0 ls [])
  unfold pX1_isHand at h
  refine lv_aload_n hx hb dX1_isHand_0 rfl (lv_at hl 0 rfl) ?_
  have hk_1 : kd u a0 = 1 := h.1
  have h := h.2
  refine g_getO X hw in_X1 hk_1 rfl 3 rfl (by decide) q476 (fun _ z => z) dX1_isHand_1 ?_
  refine g_ifnull X dX1_isHand_4 rfl (fun e_3 => ?_) (fun b_2 e_3 => ?_)
  · have h := h.1 e_3
    refine lv_iconst (v := 0) hx hb dX1_isHand_25 (by decide) ?_
    exact g_zret X hw hr rfl ⟨rfl, h⟩ (Nat.le_refl _) (Nat.le_refl _) dX1_isHand_26
  · have h := h.2 b_2 e_3
    refine lv_iload_n hx hb dX1_isHand_7 rfl (lv_at hl 1 rfl) ?_
    refine lv_iconst (v := 0) hx hb dX1_isHand_8 (by decide) ?_
    refine lv_aload_n hx hb dX1_isHand_9 rfl (lv_at hl 0 rfl) ?_
    refine g_getI X hw in_X1 hk_1 rfl 8 rfl (by decide) q481 (fun _ z => z) dX1_isHand_10 ?_
    refine lv_iconst (v := 1) hx hb dX1_isHand_13 (by decide) ?_
    refine lv_isub hx hb dX1_isHand_14 ?_
    refine g_callio hw (g_S X hw (mX1_in l G _ _ _ _ _ h) 3 (lw_S q539 q540 q122 q541) rfl rfl ydX1_in ⟨Nat.le_of_ble_eq_true rfl, Nat.le_of_ble_eq_true rfl⟩ (As := [.int x1, .int 0, .int ((FI u 108 a0) - 1)]) (rest := []) rfl hl.1 rfl (Nat.le_of_ble_eq_true rfl) dX1_isHand_15 ⟨Nat.le_refl _, Nat.le_refl _⟩) (fun r_4 H locs h hw => ?_)
    refine lv_if_eq (tgt := 25) hx hb dX1_isHand_18 rfl (fun c_5 => ?_) (fun c_5 => ?_)
    · have h := h.1 c_5
      refine lv_iconst (v := 0) hx hb dX1_isHand_25 (by decide) ?_
      exact g_zret X hw hr rfl ⟨rfl, h⟩ (Nat.le_refl _) (Nat.le_refl _) dX1_isHand_26
    · have h := h.2 c_5
      refine lv_iconst (v := 1) hx hb dX1_isHand_21 (by decide) ?_
      refine lv_goto (tgt := 26) hx hb dX1_isHand_22 rfl ?_
      exact g_zret X hw hr rfl ⟨rfl, h⟩ (Nat.le_refl _) (Nat.le_refl _) dX1_isHand_26

/-! FifthCard.hand(II)I -/
theorem ydX1_hand : yX1_hand.cls = "FifthCard" ∧ yX1_hand.cls ≠ "java/lang/invoke/MethodHandle" ∧ yX1_hand.cls ≠ "java/lang/invoke/VarHandle" ∧ (parseMethodDescriptor yX1_hand.desc).map (fun d => d.parameters.length) = some 2 := by decide +kernel
def rmX1_hand (mc ms : Nat) : Room := { frames := 3, cells := mc, slots := ms, locals := 76 }
set_option maxHeartbeats 4000000 in
theorem mX1_hand (l : Launch) (G : GT) (u : Hp) (a0 : Nat) (x1 : Int32) (x2 : Int32) (K : Int32 → Hp → Prop) (h : pX1_hand u a0 x1 x2 K) : Met l yX1_hand (ws_ yX1_hand cX1_hand 3 (some .int)) (rmX1_hand 0 0) (va_Pc [.ref a0, .int x1, .int x2] (GB G u)) (va_Qi K (fun u t => GH G u t.heap) (GA G)) 0 0 (GA G) := by
  refine Met.ofW (cc := cX1_hand) (maxL := 3) (ret := (some .int)) (by decide) rfl ?_
  intro p e s m args below meth c s₁ B hml hv
  obtain ⟨rfl, hv⟩ := hv
  have X := Mc_of (own := RX1) B hml rfl hv
  have hw : GW G u s s.heap [] := ⟨hv.2.1, va_S.rf⟩
  have hr := B.returns
  obtain ⟨hx, hb, hml, hown, hts, -⟩ := id X
  have hl := lv_entry ([.ref a0, .int x1, .int x2]) (n := 3) (Nat.le_of_ble_eq_true rfl)
  rw [lg_entry_eq]
  generalize (lg_sl ([.ref a0, .int x1, .int x2]) ++ List.replicate (3 - (lg_sl ([.ref a0, .int x1, .int x2])).length) Slot.unset).toArray = ls at hl ⊢
  have hl : lv_has ls 3 [(0, .ref a0), (1, .int x1), (2, .int x2)] := hl
  change W p l e (rmX1_hand 0 0) s m _ below meth c s.heap [] 0 0 (QI G below K _ s 0 0) (F0 m 0 ls [])
  unfold pX1_hand at h
  refine lv_aload_n hx hb dX1_hand_0 rfl (lv_at hl 0 rfl) ?_
  have hk_1 : kd u a0 = 1 := h.1
  have h := h.2
  refine g_callv hw (g_V X hw (mX1_anew l G _ _ _ h) 0 (lw_V q535 q537 qs2 q122 q538) rfl rfl ydX1_anew ⟨Nat.le_of_ble_eq_true rfl, Nat.le_of_ble_eq_true rfl⟩ (g_recv X hw (ci := 0) (q := (RX1, TX1, 16)) hk_1 rfl) (As := []) (rest := []) rfl hl.1 rfl (Nat.le_of_ble_eq_true rfl) dX1_hand_1 ⟨Nat.le_refl _, Nat.le_refl _⟩) (fun u_2 H locs h hw => ?_)
  refine lv_aload_n hx hb dX1_hand_4 rfl (lv_at hl 0 rfl) ?_
  refine lv_iload_n hx hb dX1_hand_5 rfl (lv_at hl 1 rfl) ?_
  have hk_3 : kd u_2 a0 = 1 := h.1
  have h := h.2
  refine g_callio hw (g_V X hw (mX1_isHand l G _ _ _ _ h) 1 (lw_V q1019 q1021 qs25 q122 q1022) rfl rfl ydX1_isHand ⟨Nat.le_of_ble_eq_true rfl, Nat.le_of_ble_eq_true rfl⟩ (g_recv X hw (ci := 0) (q := (RX1, TX1, 16)) hk_3 rfl) (As := [.int x1]) (rest := []) rfl hl.1 rfl (Nat.le_of_ble_eq_true rfl) dX1_hand_6 ⟨Nat.le_refl _, Nat.le_refl _⟩) (fun r_4 H locs h hw => ?_)
  refine lv_if_eq (tgt := 29) hx hb dX1_hand_9 rfl (fun c_21 => ?_) (fun c_21 => ?_)
  · have h := h.1 c_21
    refine lv_aload_n hx hb dX1_hand_29 rfl (lv_at hl 0 rfl) ?_
    refine lv_iconst (v := 1) hx hb dX1_hand_30 (by decide) ?_
    refine g_calli hw (g_V X hw (mX1_no l G _ _ _ _ h) 1 (lw_V q542 q544 qs3 q122 q545) rfl rfl ydX1_no ⟨Nat.le_of_ble_eq_true rfl, Nat.le_of_ble_eq_true rfl⟩ (g_recv X hw (ci := 0) (q := (RX1, TX1, 16)) hk_3 rfl) (As := [.int 1]) (rest := []) rfl hl.1 rfl (Nat.le_of_ble_eq_true rfl) dX1_hand_31 ⟨Nat.le_refl _, Nat.le_refl _⟩) (fun r_5 u_6 H locs h hw => ?_)
    exact g_iret X hw hr h (Nat.le_refl _) (Nat.le_refl _) dX1_hand_34
  · have h := h.2 c_21
    refine lv_iload_n hx hb dX1_hand_12 rfl (lv_at hl 2 rfl) ?_
    refine lv_iconst (v := 0) hx hb dX1_hand_13 (by decide) ?_
    refine lv_aload_n hx hb dX1_hand_14 rfl (lv_at hl 0 rfl) ?_
    obtain ⟨b_7, e_8, h⟩ := h
    refine g_getR X hw in_X1 hk_3 rfl 3 rfl (by decide) q476 (fun _ z => z) e_8 dX1_hand_15 ?_
    have hk_9 : kd u_2 b_7 = 17 := h.1
    have h := h.2
    refine g_getI X hw in_X20 hk_9 rfl 5 rfl (by decide) q585 (fun _ z => z) dX1_hand_18 ?_
    refine lv_iconst (v := 1) hx hb dX1_hand_21 (by decide) ?_
    refine lv_isub hx hb dX1_hand_22 ?_
    refine g_callio hw (g_S X hw (mX1_in l G _ _ _ _ _ h) 3 (lw_S q539 q540 q122 q541) rfl rfl ydX1_in ⟨Nat.le_of_ble_eq_true rfl, Nat.le_of_ble_eq_true rfl⟩ (As := [.int x2, .int 0, .int ((FI u_2 2005 b_7) - 1)]) (rest := []) rfl hl.1 rfl (Nat.le_of_ble_eq_true rfl) dX1_hand_23 ⟨Nat.le_refl _, Nat.le_refl _⟩) (fun r_10 H locs h hw => ?_)
    refine lv_if_ne (tgt := 35) hx hb dX1_hand_26 rfl (fun c_20 => ?_) (fun c_20 => ?_)
    · have h := h.2 c_20
      refine lv_aload_n hx hb dX1_hand_35 rfl (lv_at hl 0 rfl) ?_
      refine g_getR X hw in_X1 hk_3 rfl 3 rfl (by decide) q476 (fun _ z => z) e_8 dX1_hand_36 ?_
      refine lv_iload_n hx hb dX1_hand_39 rfl (lv_at hl 1 rfl) ?_
      refine lv_aload_n hx hb dX1_hand_40 rfl (lv_at hl 0 rfl) ?_
      obtain ⟨b_11, e_12, h⟩ := h
      refine g_getR X hw in_X1 hk_3 rfl 13 rfl (by decide) q486 (fun _ z => z) e_12 dX1_hand_41 ?_
      refine g_callv hw (g_V X hw (mX20_layHand l G _ _ _ _ _ h) 2 (lw_V q1023 q969 q970 q144 q971) rfl rfl ydX20_layHand ⟨Nat.le_of_ble_eq_true rfl, Nat.le_of_ble_eq_true rfl⟩ (g_recv X hw (ci := 16) (q := (RX20, TX20, 13)) hk_9 rfl) (As := [.int x1, .ref b_11]) (rest := []) rfl hl.1 rfl (Nat.le_of_ble_eq_true rfl) dX1_hand_44 ⟨Nat.le_refl _, Nat.le_refl _⟩) (fun u_13 H locs h hw => ?_)
      refine lv_aload_n hx hb dX1_hand_47 rfl (lv_at hl 0 rfl) ?_
      have hk_14 : kd u_13 a0 = 1 := h.1
      have h := h.2
      obtain ⟨b_15, e_16, h⟩ := h
      refine g_getR X hw in_X1 hk_14 rfl 13 rfl (by decide) q486 (fun _ z => z) e_16 dX1_hand_48 ?_
      refine lv_iload_n hx hb dX1_hand_51 rfl (lv_at hl 2 rfl) ?_
      have hk_17 : kd u_13 b_15 = 101 := h.1
      have h := h.2
      refine g_iald X hw hk_17 h.1 dX1_hand_52 ?_
      have h := h.2
      exact g_iret X hw hr h (Nat.le_refl _) (Nat.le_refl _) dX1_hand_53
    · have h := h.1 c_20
      refine lv_aload_n hx hb dX1_hand_29 rfl (lv_at hl 0 rfl) ?_
      refine lv_iconst (v := 1) hx hb dX1_hand_30 (by decide) ?_
      refine g_calli hw (g_V X hw (mX1_no l G _ _ _ _ h) 1 (lw_V q542 q544 qs3 q122 q545) rfl rfl ydX1_no ⟨Nat.le_of_ble_eq_true rfl, Nat.le_of_ble_eq_true rfl⟩ (g_recv X hw (ci := 0) (q := (RX1, TX1, 16)) hk_3 rfl) (As := [.int 1]) (rest := []) rfl hl.1 rfl (Nat.le_of_ble_eq_true rfl) dX1_hand_31 ⟨Nat.le_refl _, Nat.le_refl _⟩) (fun r_18 u_19 H locs h hw => ?_)
      exact g_iret X hw hr h (Nat.le_refl _) (Nat.le_refl _) dX1_hand_34

/-! FifthCardModel.isHand(I)Z -/
theorem ydX19_isHand : yX19_isHand.cls = "FifthCardModel" ∧ yX19_isHand.cls ≠ "java/lang/invoke/MethodHandle" ∧ yX19_isHand.cls ≠ "java/lang/invoke/VarHandle" ∧ (parseMethodDescriptor yX19_isHand.desc).map (fun d => d.parameters.length) = some 1 := by decide +kernel
def rmX19_isHand (mc ms : Nat) : Room := { frames := 0, cells := mc, slots := ms, locals := 0 }
set_option maxHeartbeats 4000000 in
theorem mX19_isHand (l : Launch) (G : GT) (u : Hp) (a0 : Nat) (x1 : Int32) (K : Int32 → Prop) (h : pX19_isHand u a0 x1 K) : Met l yX19_isHand (ws_ yX19_isHand cX19_isHand 2 (some .boolean)) (rmX19_isHand 0 0) (va_Pc [.ref a0, .int x1] (GB G u)) (va_Qi (fun r v => v = u ∧ K r) (fun u t => GH G u t.heap) (GA G)) 0 0 (GA G) := by
  refine Met.ofW (cc := cX19_isHand) (maxL := 2) (ret := (some .boolean)) (by decide) rfl ?_
  intro p e s m args below meth c s₁ B hml hv
  obtain ⟨rfl, hv⟩ := hv
  have X := Mc_of (own := RX19) B hml rfl hv
  have hw : GW G u s s.heap [] := ⟨hv.2.1, va_S.rf⟩
  have hr := B.returns
  obtain ⟨hx, hb, hml, hown, hts, -⟩ := id X
  have hl := lv_entry ([.ref a0, .int x1]) (n := 2) (Nat.le_of_ble_eq_true rfl)
  rw [lg_entry_eq]
  generalize (lg_sl ([.ref a0, .int x1]) ++ List.replicate (2 - (lg_sl ([.ref a0, .int x1])).length) Slot.unset).toArray = ls at hl ⊢
  have hl : lv_has ls 2 [(0, .ref a0), (1, .int x1)] := hl
  change W p l e (rmX19_isHand 0 0) s m _ below meth c s.heap [] 0 0 (QI G below (fun r v => v = u ∧ K r) _ s 0 0) (F0 m 0 ls [])
  unfold pX19_isHand at h
  refine lv_aload_n hx hb dX19_isHand_0 rfl (lv_at hl 0 rfl) ?_
  have hk_1 : kd u a0 = 16 := h.1
  have h := h.2
  refine g_getO X hw in_X19 hk_1 rfl 3 rfl (by decide) q1454 (fun _ z => z) dX19_isHand_1 ?_
  refine g_ifnull X dX19_isHand_4 rfl (fun e_3 => ?_) (fun b_2 e_3 => ?_)
  · have h := h.1 e_3
    refine lv_iconst (v := 0) hx hb dX19_isHand_23 (by decide) ?_
    exact g_zret X hw hr rfl ⟨rfl, h⟩ (Nat.le_refl _) (Nat.le_refl _) dX19_isHand_24
  · have h := h.2 b_2 e_3
    refine lv_iload_n hx hb dX19_isHand_7 rfl (lv_at hl 1 rfl) ?_
    refine lv_if_lt (tgt := 23) hx hb dX19_isHand_8 rfl (fun c_5 => ?_) (fun c_5 => ?_)
    · have h := h.1 c_5
      refine lv_iconst (v := 0) hx hb dX19_isHand_23 (by decide) ?_
      exact g_zret X hw hr rfl ⟨rfl, h⟩ (Nat.le_refl _) (Nat.le_refl _) dX19_isHand_24
    · have h := h.2 c_5
      refine lv_iload_n hx hb dX19_isHand_11 rfl (lv_at hl 1 rfl) ?_
      refine lv_aload_n hx hb dX19_isHand_12 rfl (lv_at hl 0 rfl) ?_
      refine g_getI X hw in_X19 hk_1 rfl 17 rfl (by decide) q1468 (fun _ z => z) dX19_isHand_13 ?_
      refine lv_icmp_ge (tgt := 23) hx hb dX19_isHand_16 rfl (fun c_4 => ?_) (fun c_4 => ?_)
      · have h := h.1 c_4
        refine lv_iconst (v := 0) hx hb dX19_isHand_23 (by decide) ?_
        exact g_zret X hw hr rfl ⟨rfl, h⟩ (Nat.le_refl _) (Nat.le_refl _) dX19_isHand_24
      · have h := h.2 c_4
        refine lv_iconst (v := 1) hx hb dX19_isHand_19 (by decide) ?_
        refine lv_goto (tgt := 24) hx hb dX19_isHand_20 rfl ?_
        exact g_zret X hw hr rfl ⟨rfl, h⟩ (Nat.le_refl _) (Nat.le_refl _) dX19_isHand_24

/-! FifthCardModel.hand(II)I -/
theorem ydX19_hand : yX19_hand.cls = "FifthCardModel" ∧ yX19_hand.cls ≠ "java/lang/invoke/MethodHandle" ∧ yX19_hand.cls ≠ "java/lang/invoke/VarHandle" ∧ (parseMethodDescriptor yX19_hand.desc).map (fun d => d.parameters.length) = some 2 := by decide +kernel
def rmX19_hand (mc ms : Nat) : Room := { frames := 1, cells := mc, slots := ms, locals := 22 }
set_option maxHeartbeats 4000000 in
theorem mX19_hand (l : Launch) (G : GT) (u : Hp) (a0 : Nat) (x1 : Int32) (x2 : Int32) (K : Int32 → Hp → Prop) (h : pX19_hand u a0 x1 x2 K) : Met l yX19_hand (ws_ yX19_hand cX19_hand 3 (some .int)) (rmX19_hand 0 0) (va_Pc [.ref a0, .int x1, .int x2] (GB G u)) (va_Qi K (fun u t => GH G u t.heap) (GA G)) 0 0 (GA G) := by
  refine Met.ofW (cc := cX19_hand) (maxL := 3) (ret := (some .int)) (by decide) rfl ?_
  intro p e s m args below meth c s₁ B hml hv
  obtain ⟨rfl, hv⟩ := hv
  have X := Mc_of (own := RX19) B hml rfl hv
  have hw : GW G u s s.heap [] := ⟨hv.2.1, va_S.rf⟩
  have hr := B.returns
  obtain ⟨hx, hb, hml, hown, hts, -⟩ := id X
  have hl := lv_entry ([.ref a0, .int x1, .int x2]) (n := 3) (Nat.le_of_ble_eq_true rfl)
  rw [lg_entry_eq]
  generalize (lg_sl ([.ref a0, .int x1, .int x2]) ++ List.replicate (3 - (lg_sl ([.ref a0, .int x1, .int x2])).length) Slot.unset).toArray = ls at hl ⊢
  have hl : lv_has ls 3 [(0, .ref a0), (1, .int x1), (2, .int x2)] := hl
  change W p l e (rmX19_hand 0 0) s m _ below meth c s.heap [] 0 0 (QI G below K _ s 0 0) (F0 m 0 ls [])
  unfold pX19_hand at h
  refine lv_aload_n hx hb dX19_hand_0 rfl (lv_at hl 0 rfl) ?_
  refine lv_iconst (v := 0) hx hb dX19_hand_1 (by decide) ?_
  have hk_1 : kd u a0 = 16 := h.1
  have h := h.2
  refine g_putI (v := 0) X hw in_X19 tyX19_ok nmX19 hk_1 rfl 0 rfl (by decide) q1451 (fun _ z => z) rfl rfl rfl dX19_hand_2 (fun H locs hw => ?_)
  refine lv_aload_n hx hb dX19_hand_5 rfl (lv_at hl 0 rfl) ?_
  refine lv_iload_n hx hb dX19_hand_6 rfl (lv_at hl 1 rfl) ?_
  refine g_callio hw (g_V X hw (mX19_isHand l G _ _ _ _ h) 1 (lw_V q1895 q1897 qs79 q143 q1898) rfl rfl ydX19_isHand ⟨Nat.le_of_ble_eq_true rfl, Nat.le_of_ble_eq_true rfl⟩ (g_recv X hw (ci := 15) (q := (RX19, TX19, 46)) hk_1 rfl) (As := [.int x1]) (rest := []) rfl hl.1 rfl (Nat.le_of_ble_eq_true rfl) dX19_hand_7 ⟨Nat.le_refl _, Nat.le_refl _⟩) (fun r_2 H locs h hw => ?_)
  refine lv_if_eq (tgt := 43) hx hb dX19_hand_10 rfl (fun c_15 => ?_) (fun c_15 => ?_)
  · have h := h.1 c_15
    refine lv_aload_n hx hb dX19_hand_43 rfl (lv_at hl 0 rfl) ?_
    refine lv_iconst (v := 1) hx hb dX19_hand_44 (by decide) ?_
    refine g_calli hw (g_V X hw (mX19_refused l G _ _ _ _ h) 1 (lw_V q1603 q1605 qs47 q143 q1606) rfl rfl ydX19_refused ⟨Nat.le_of_ble_eq_true rfl, Nat.le_of_ble_eq_true rfl⟩ (g_recv X hw (ci := 15) (q := (RX19, TX19, 46)) hk_1 rfl) (As := [.int 1]) (rest := []) rfl hl.1 rfl (Nat.le_of_ble_eq_true rfl) dX19_hand_45 ⟨Nat.le_refl _, Nat.le_refl _⟩) (fun r_3 u_4 H locs h hw => ?_)
    exact g_iret X hw hr h (Nat.le_refl _) (Nat.le_refl _) dX19_hand_48
  · have h := h.2 c_15
    refine lv_iload_n hx hb dX19_hand_13 rfl (lv_at hl 2 rfl) ?_
    refine lv_iconst (v := 0) hx hb dX19_hand_14 (by decide) ?_
    refine lv_aload_n hx hb dX19_hand_15 rfl (lv_at hl 0 rfl) ?_
    obtain ⟨b_5, e_6, h⟩ := h
    refine g_getR X hw in_X19 hk_1 rfl 3 rfl (by decide) q1454 (fun _ z => z) e_6 dX19_hand_16 ?_
    have hk_7 : kd u b_5 = 20 := h.1
    have h := h.2
    refine g_getNI X hw (host := "FifthCardModel") in_X23 hk_7 rfl 2 rfl (by decide) (List.mem_of_getElem? (i := 2) rfl) (fun _ z => z) dX19_hand_19 ?_
    refine lv_iconst (v := 1) hx hb dX19_hand_22 (by decide) ?_
    refine lv_isub hx hb dX19_hand_23 ?_
    refine g_callio hw (g_S X hw (mX19_in l G _ _ _ _ _ h) 3 (lw_S q1749 q1750 q143 q1751) rfl rfl ydX19_in ⟨Nat.le_of_ble_eq_true rfl, Nat.le_of_ble_eq_true rfl⟩ (As := [.int x2, .int 0, .int ((FI (sFI u 1900 a0 0) 2302 b_5) - 1)]) (rest := []) rfl hl.1 rfl (Nat.le_of_ble_eq_true rfl) dX19_hand_24 ⟨Nat.le_refl _, Nat.le_refl _⟩) (fun r_8 H locs h hw => ?_)
    refine lv_if_eq (tgt := 43) hx hb dX19_hand_27 rfl (fun c_14 => ?_) (fun c_14 => ?_)
    · have h := h.1 c_14
      refine lv_aload_n hx hb dX19_hand_43 rfl (lv_at hl 0 rfl) ?_
      refine lv_iconst (v := 1) hx hb dX19_hand_44 (by decide) ?_
      refine g_calli hw (g_V X hw (mX19_refused l G _ _ _ _ h) 1 (lw_V q1603 q1605 qs47 q143 q1606) rfl rfl ydX19_refused ⟨Nat.le_of_ble_eq_true rfl, Nat.le_of_ble_eq_true rfl⟩ (g_recv X hw (ci := 15) (q := (RX19, TX19, 46)) hk_1 rfl) (As := [.int 1]) (rest := []) rfl hl.1 rfl (Nat.le_of_ble_eq_true rfl) dX19_hand_45 ⟨Nat.le_refl _, Nat.le_refl _⟩) (fun r_9 u_10 H locs h hw => ?_)
      exact g_iret X hw hr h (Nat.le_refl _) (Nat.le_refl _) dX19_hand_48
    · have h := h.2 c_14
      refine lv_aload_n hx hb dX19_hand_30 rfl (lv_at hl 0 rfl) ?_
      refine lv_aload_n hx hb dX19_hand_31 rfl (lv_at hl 0 rfl) ?_
      refine lv_iload_n hx hb dX19_hand_32 rfl (lv_at hl 1 rfl) ?_
      refine lv_iload_n hx hb dX19_hand_33 rfl (lv_at hl 2 rfl) ?_
      refine g_callio hw (g_V X hw (mX19_cardOf l G _ _ _ _ _ h) 2 (lw_V q1851 q1853 qs74 q143 q1854) rfl rfl ydX19_cardOf ⟨Nat.le_of_ble_eq_true rfl, Nat.le_of_ble_eq_true rfl⟩ (g_recv X hw (ci := 15) (q := (RX19, TX19, 46)) hk_1 rfl) (As := [.int x1, .int x2]) (rest := [.ref a0]) rfl hl.1 rfl (Nat.le_of_ble_eq_true rfl) dX19_hand_34 ⟨Nat.le_refl _, Nat.le_refl _⟩) (fun r_11 H locs h hw => ?_)
      refine g_calli hw (g_V X hw (mX19_good l G _ _ _ _ h) 1 (lw_V q1867 q1869 qs77 q143 q1870) rfl rfl ydX19_good ⟨Nat.le_of_ble_eq_true rfl, Nat.le_of_ble_eq_true rfl⟩ (g_recv X hw (ci := 15) (q := (RX19, TX19, 46)) hk_1 rfl) (As := [.int r_11]) (rest := []) rfl hl.1 rfl (Nat.le_of_ble_eq_true rfl) dX19_hand_37 ⟨Nat.le_refl _, Nat.le_refl _⟩) (fun r_12 u_13 H locs h hw => ?_)
      refine lv_goto (tgt := 48) hx hb dX19_hand_40 rfl ?_
      exact g_iret X hw hr h (Nat.le_refl _) (Nat.le_refl _) dX19_hand_48

/-! FifthCard.puts(II)Z -/
theorem ydX1_puts : yX1_puts.cls = "FifthCard" ∧ yX1_puts.cls ≠ "java/lang/invoke/MethodHandle" ∧ yX1_puts.cls ≠ "java/lang/invoke/VarHandle" ∧ (parseMethodDescriptor yX1_puts.desc).map (fun d => d.parameters.length) = some 2 := by decide +kernel
def rmX1_puts (mc ms : Nat) : Room := { frames := 1, cells := mc, slots := ms, locals := 22 }
set_option maxHeartbeats 4000000 in
theorem wX1_puts_47 {G : GT} {p : Program} {l : Launch} {e : Env} {s : State} {m : MethodId} {args : Array Value} {below : List Frame} {meth : Method} {c : Code} {H : Heap} {locs : List Loc} {ls : Array Slot} {a0 : Nat} {x1 : Int32} {x2 : Int32} {u : Hp} {x3 : Int32} {x4 : Int32} {K : Int32 → Hp → Prop} (X : Mc G p s m args meth c RX1 cX1_puts 5) (hr : meth.sig.returnType = (some .boolean)) (h : jl2 (bX1_puts_47 K a0 x1 x2 u) x3 x4) (hw : GW G u s H locs) (hl : lv_has ls 5 [(0, .ref a0), (1, .int x1), (2, .int x2), (3, .int x3), (4, .int x4)]) : W p l e (rmX1_puts 0 0) s m args below meth c H locs 0 0 (QI G below K args s 0 0) (F0 m 47 ls []) := by
  obtain ⟨hx, hb, hml, hown, hts, -⟩ := id X
  obtain ⟨I, μ, h0, hs⟩ := h
  have key : ∀ (n : Nat) (x3 : Int32) (x4 : Int32) (H : Heap) (locs : List Loc) (ls : Array Slot) , μ x3 x4 < n → I x3 x4 → GW G u s H locs → lv_has ls 5 [(0, .ref a0), (1, .int x1), (2, .int x2), (3, .int x3), (4, .int x4)] → W p l e (rmX1_puts 0 0) s m args below meth c H locs 0 0 (QI G below K args s 0 0) (F0 m 47 ls []) := by
    intro n
    induction n with
    | zero =>
      intro x3 x4 H locs ls hn
      exact absurd hn (Nat.not_lt_zero _)
    | succ n ih =>
      intro x3 x4 H locs ls hn hI hw hl
      have h := hs x3 x4 hI
      unfold bX1_puts_47 at h
      have hJ47 : ∀ (x3' : Int32) (x4' : Int32) (H : Heap) (locs : List Loc) (ls : Array Slot) , (I x3' x4' ∧ μ x3' x4' < μ x3 x4) → GW G u s H locs → lv_has ls 5 [(0, .ref a0), (1, .int x1), (2, .int x2), (3, .int x3'), (4, .int x4')] → W p l e (rmX1_puts 0 0) s m args below meth c H locs 0 0 (QI G below K args s 0 0) (F0 m 47 ls []) := fun x3' x4' H locs ls h hw hl => ih x3' x4' H locs ls (Nat.lt_of_lt_of_le h.2 (Nat.le_of_lt_succ hn)) h.1 hw hl
      refine lv_iload hx hb dX1_puts_47 (lv_at hl 4 rfl) ?_
      refine lv_iload_n hx hb dX1_puts_49 rfl (lv_at hl 1 rfl) ?_
      refine lv_icmp_ge (tgt := 80) hx hb dX1_puts_50 rfl (fun c_7 => ?_) (fun c_7 => ?_)
      · have h := h.1 c_7
        refine lv_iload_n hx hb dX1_puts_80 rfl (lv_at hl 3 rfl) ?_
        exact g_zret X hw hr h.1 h.2 (Nat.le_refl _) (Nat.le_refl _) dX1_puts_81
      · have h := h.2 c_7
        refine lv_iload_n hx hb dX1_puts_53 rfl (lv_at hl 3 rfl) ?_
        refine lv_if_eq (tgt := 80) hx hb dX1_puts_54 rfl (fun c_6 => ?_) (fun c_6 => ?_)
        · have h := h.1 c_6
          refine lv_iload_n hx hb dX1_puts_80 rfl (lv_at hl 3 rfl) ?_
          exact g_zret X hw hr h.1 h.2 (Nat.le_refl _) (Nat.le_refl _) dX1_puts_81
        · have h := h.2 c_6
          refine lv_aload_n hx hb dX1_puts_57 rfl (lv_at hl 0 rfl) ?_
          have hk_1 : kd u a0 = 1 := h.1
          have h := h.2
          obtain ⟨b_2, e_3, h⟩ := h
          refine g_getR X hw in_X1 hk_1 rfl 13 rfl (by decide) q486 (fun _ z => z) e_3 dX1_puts_58 ?_
          refine lv_iload hx hb dX1_puts_61 (lv_at hl 4 rfl) ?_
          have hk_4 : kd u b_2 = 101 := h.1
          have h := h.2
          refine g_iald X hw hk_4 h.1 dX1_puts_63 ?_
          have h := h.2
          refine lv_iload_n hx hb dX1_puts_64 rfl (lv_at hl 2 rfl) ?_
          refine lv_icmp_eq (tgt := 72) hx hb dX1_puts_65 rfl (fun c_5 => ?_) (fun c_5 => ?_)
          · have h := h.1 c_5
            refine lv_iconst (v := 0) hx hb dX1_puts_72 (by decide) ?_
            refine lv_istore_n (lv' := [(3, .int 0), (0, .ref a0), (1, .int x1), (2, .int x2), (4, .int x4)]) hx hb dX1_puts_73 rfl hl (by decide) rfl (fun ls hl => ?_)
            refine lv_iinc (v := x4 + 1) (lv' := [(4, .int (x4 + 1)), (3, .int 0), (0, .ref a0), (1, .int x1), (2, .int x2)]) hx hb dX1_puts_74 hl (k := 4) rfl rfl (by decide) rfl (fun ls hl => ?_)
            refine lv_goto (tgt := 47) hx hb dX1_puts_77 rfl ?_
            exact hJ47 _ _ _ _ _ h hw (lv_sub hl [2, 3, 4, 1, 0] rfl)
          · have h := h.2 c_5
            refine lv_iconst (v := 1) hx hb dX1_puts_68 (by decide) ?_
            refine lv_goto (tgt := 73) hx hb dX1_puts_69 rfl ?_
            refine lv_istore_n (lv' := [(3, .int 1), (0, .ref a0), (1, .int x1), (2, .int x2), (4, .int x4)]) hx hb dX1_puts_73 rfl hl (by decide) rfl (fun ls hl => ?_)
            refine lv_iinc (v := x4 + 1) (lv' := [(4, .int (x4 + 1)), (3, .int 1), (0, .ref a0), (1, .int x1), (2, .int x2)]) hx hb dX1_puts_74 hl (k := 4) rfl rfl (by decide) rfl (fun ls hl => ?_)
            refine lv_goto (tgt := 47) hx hb dX1_puts_77 rfl ?_
            exact hJ47 _ _ _ _ _ h hw (lv_sub hl [2, 3, 4, 1, 0] rfl)
  exact key _ _ _ _ _ _ (Nat.lt_succ_self _) h0 hw hl
set_option maxHeartbeats 4000000 in
theorem mX1_puts (l : Launch) (G : GT) (u : Hp) (a0 : Nat) (x1 : Int32) (x2 : Int32) (K : Int32 → Hp → Prop) (h : pX1_puts u a0 x1 x2 K) : Met l yX1_puts (ws_ yX1_puts cX1_puts 5 (some .boolean)) (rmX1_puts 0 0) (va_Pc [.ref a0, .int x1, .int x2] (GB G u)) (va_Qi K (fun u t => GH G u t.heap) (GA G)) 0 0 (GA G) := by
  refine Met.ofW (cc := cX1_puts) (maxL := 5) (ret := (some .boolean)) (by decide) rfl ?_
  intro p e s m args below meth c s₁ B hml hv
  obtain ⟨rfl, hv⟩ := hv
  have X := Mc_of (own := RX1) B hml rfl hv
  have hw : GW G u s s.heap [] := ⟨hv.2.1, va_S.rf⟩
  have hr := B.returns
  obtain ⟨hx, hb, hml, hown, hts, -⟩ := id X
  have hl := lv_entry ([.ref a0, .int x1, .int x2]) (n := 5) (Nat.le_of_ble_eq_true rfl)
  rw [lg_entry_eq]
  generalize (lg_sl ([.ref a0, .int x1, .int x2]) ++ List.replicate (5 - (lg_sl ([.ref a0, .int x1, .int x2])).length) Slot.unset).toArray = ls at hl ⊢
  have hl : lv_has ls 5 [(0, .ref a0), (1, .int x1), (2, .int x2)] := hl
  change W p l e (rmX1_puts 0 0) s m _ below meth c s.heap [] 0 0 (QI G below K _ s 0 0) (F0 m 0 ls [])
  unfold pX1_puts at h
  refine lv_iload_n hx hb dX1_puts_0 rfl (lv_at hl 1 rfl) ?_
  refine lv_aload_n hx hb dX1_puts_1 rfl (lv_at hl 0 rfl) ?_
  have hk_8 : kd u a0 = 1 := h.1
  have h := h.2
  obtain ⟨b_9, e_10, h⟩ := h
  refine g_getR X hw in_X1 hk_8 rfl 3 rfl (by decide) q476 (fun _ z => z) e_10 dX1_puts_2 ?_
  have hk_11 : kd u b_9 = 17 := h.1
  have h := h.2
  refine g_getI X hw in_X20 hk_11 rfl 5 rfl (by decide) q585 (fun _ z => z) dX1_puts_5 ?_
  refine lv_icmp_lt (tgt := 22) hx hb dX1_puts_8 rfl (fun c_17 => ?_) (fun c_17 => ?_)
  · have h := h.1 c_17
    refine lv_aload_n hx hb dX1_puts_22 rfl (lv_at hl 0 rfl) ?_
    obtain ⟨b_12, e_13, h⟩ := h
    refine g_getR X hw in_X1 hk_8 rfl 13 rfl (by decide) q486 (fun _ z => z) e_13 dX1_puts_23 ?_
    refine lv_iload_n hx hb dX1_puts_26 rfl (lv_at hl 1 rfl) ?_
    refine lv_iload_n hx hb dX1_puts_27 rfl (lv_at hl 2 rfl) ?_
    have hk_14 : kd u b_12 = 101 := h.1
    have h := h.2
    refine g_iast X hw hk_14 h.1 dX1_puts_28 (fun H locs hw => ?_)
    have h := h.2
    refine lv_iload_n hx hb dX1_puts_29 rfl (lv_at hl 2 rfl) ?_
    refine lv_iconst (v := 0) hx hb dX1_puts_30 (by decide) ?_
    refine lv_aload_n hx hb dX1_puts_31 rfl (lv_at hl 0 rfl) ?_
    refine g_getR X hw in_X1 hk_8 rfl 3 rfl (by decide) q476 (fun _ z => z) e_10 dX1_puts_32 ?_
    refine g_getI X hw in_X20 hk_11 rfl 3 rfl (by decide) q572 (fun _ z => z) dX1_puts_35 ?_
    refine lv_iconst (v := 1) hx hb dX1_puts_38 (by decide) ?_
    refine lv_isub hx hb dX1_puts_39 ?_
    refine g_callio hw (g_S X hw (mX1_in l G _ _ _ _ _ h) 3 (lw_S q539 q540 q122 q541) rfl rfl ydX1_in ⟨Nat.le_of_ble_eq_true rfl, Nat.le_of_ble_eq_true rfl⟩ (As := [.int x2, .int 0, .int ((FI u 2003 b_9) - 1)]) (rest := []) rfl hl.1 rfl (Nat.le_of_ble_eq_true rfl) dX1_puts_40 ⟨Nat.le_refl _, Nat.le_refl _⟩) (fun r_15 H locs h hw => ?_)
    refine lv_istore_n (lv' := [(3, .int r_15), (0, .ref a0), (1, .int x1), (2, .int x2)]) hx hb dX1_puts_43 rfl hl (by decide) rfl (fun ls hl => ?_)
    refine lv_iconst (v := 0) hx hb dX1_puts_44 (by decide) ?_
    refine lv_istore (lv' := [(4, .int 0), (3, .int r_15), (0, .ref a0), (1, .int x1), (2, .int x2)]) hx hb dX1_puts_45 hl (by decide) rfl (fun ls hl => ?_)
    exact wX1_puts_47 X hr  h hw (lv_sub hl [2, 3, 4, 1, 0] rfl)
  · have h := h.2 c_17
    refine lv_iload_n hx hb dX1_puts_11 rfl (lv_at hl 2 rfl) ?_
    refine lv_iconst (v := (-1)) hx hb dX1_puts_12 (by decide) ?_
    refine lv_icmp_ne (tgt := 20) hx hb dX1_puts_13 rfl (fun c_16 => ?_) (fun c_16 => ?_)
    · have h := h.2 c_16
      refine lv_iconst (v := 0) hx hb dX1_puts_20 (by decide) ?_
      exact g_zret X hw hr rfl h (Nat.le_refl _) (Nat.le_refl _) dX1_puts_21
    · have h := h.1 c_16
      refine lv_iconst (v := 1) hx hb dX1_puts_16 (by decide) ?_
      refine lv_goto (tgt := 21) hx hb dX1_puts_17 rfl ?_
      exact g_zret X hw hr rfl h (Nat.le_refl _) (Nat.le_refl _) dX1_puts_21

/-! FifthCard$Trick.setOf([II)I -/
theorem ydX20_setOf : yX20_setOf.cls = "FifthCard$Trick" ∧ yX20_setOf.cls ≠ "java/lang/invoke/MethodHandle" ∧ yX20_setOf.cls ≠ "java/lang/invoke/VarHandle" ∧ (parseMethodDescriptor yX20_setOf.desc).map (fun d => d.parameters.length) = some 2 := by decide +kernel
def rmX20_setOf (mc ms : Nat) : Room := { frames := 0, cells := mc, slots := ms, locals := 0 }
set_option maxHeartbeats 4000000 in
theorem wX20_setOf_4 {G : GT} {p : Program} {l : Launch} {e : Env} {s : State} {m : MethodId} {args : Array Value} {below : List Frame} {meth : Method} {c : Code} {H : Heap} {locs : List Loc} {ls : Array Slot} {a0 : Nat} {x1 : Int32} {u : Hp} {x2 : Int32} {x3 : Int32} {K : Int32 → Prop} (X : Mc G p s m args meth c RX20 cX20_setOf 4) (hr : meth.sig.returnType = (some .int)) (h : jl2 (bX20_setOf_4 K a0 x1 u) x2 x3) (hw : GW G u s H locs) (hl : lv_has ls 4 [(0, .ref a0), (1, .int x1), (2, .int x2), (3, .int x3)]) : W p l e (rmX20_setOf 0 0) s m args below meth c H locs 0 0 (QI G below (fun r v => v = u ∧ K r) args s 0 0) (F0 m 4 ls []) := by
  obtain ⟨hx, hb, hml, hown, hts, -⟩ := id X
  obtain ⟨I, μ, h0, hs⟩ := h
  have key : ∀ (n : Nat) (x2 : Int32) (x3 : Int32) (H : Heap) (locs : List Loc) (ls : Array Slot) , μ x2 x3 < n → I x2 x3 → GW G u s H locs → lv_has ls 4 [(0, .ref a0), (1, .int x1), (2, .int x2), (3, .int x3)] → W p l e (rmX20_setOf 0 0) s m args below meth c H locs 0 0 (QI G below (fun r v => v = u ∧ K r) args s 0 0) (F0 m 4 ls []) := by
    intro n
    induction n with
    | zero =>
      intro x2 x3 H locs ls hn
      exact absurd hn (Nat.not_lt_zero _)
    | succ n ih =>
      intro x2 x3 H locs ls hn hI hw hl
      have h := hs x2 x3 hI
      unfold bX20_setOf_4 at h
      have hJ4 : ∀ (x2' : Int32) (x3' : Int32) (H : Heap) (locs : List Loc) (ls : Array Slot) , (I x2' x3' ∧ μ x2' x3' < μ x2 x3) → GW G u s H locs → lv_has ls 4 [(0, .ref a0), (1, .int x1), (2, .int x2'), (3, .int x3')] → W p l e (rmX20_setOf 0 0) s m args below meth c H locs 0 0 (QI G below (fun r v => v = u ∧ K r) args s 0 0) (F0 m 4 ls []) := fun x2' x3' H locs ls h hw hl => ih x2' x3' H locs ls (Nat.lt_of_lt_of_le h.2 (Nat.le_of_lt_succ hn)) h.1 hw hl
      refine lv_iload_n hx hb dX20_setOf_4 rfl (lv_at hl 3 rfl) ?_
      refine lv_iload_n hx hb dX20_setOf_5 rfl (lv_at hl 1 rfl) ?_
      refine lv_icmp_ge (tgt := 23) hx hb dX20_setOf_6 rfl (fun c_4 => ?_) (fun c_4 => ?_)
      · have h := h.1 c_4
        refine lv_iload_n hx hb dX20_setOf_23 rfl (lv_at hl 2 rfl) ?_
        exact g_iret X hw hr ⟨rfl, h⟩ (Nat.le_refl _) (Nat.le_refl _) dX20_setOf_24
      · have h := h.2 c_4
        refine lv_iload_n hx hb dX20_setOf_9 rfl (lv_at hl 2 rfl) ?_
        refine lv_iconst (v := 1) hx hb dX20_setOf_10 (by decide) ?_
        refine lv_aload_n hx hb dX20_setOf_11 rfl (lv_at hl 0 rfl) ?_
        refine lv_iload_n hx hb dX20_setOf_12 rfl (lv_at hl 3 rfl) ?_
        have hk_1 : kd u a0 = 101 := h.1
        have h := h.2
        refine g_iald X hw hk_1 h.1 dX20_setOf_13 ?_
        have h := h.2
        refine lv_ishl hx hb dX20_setOf_14 ?_
        refine lv_ior hx hb dX20_setOf_15 ?_
        refine lv_topi (fun x2_2 e_3 => ?_)
        have h := h x2_2 e_3
        refine lv_istore_n (lv' := [(2, .int x2_2), (0, .ref a0), (1, .int x1), (3, .int x3)]) hx hb dX20_setOf_16 rfl hl (by decide) rfl (fun ls hl => ?_)
        refine lv_iinc (v := x3 + 1) (lv' := [(3, .int (x3 + 1)), (2, .int x2_2), (0, .ref a0), (1, .int x1)]) hx hb dX20_setOf_17 hl (k := 3) rfl rfl (by decide) rfl (fun ls hl => ?_)
        refine lv_goto (tgt := 4) hx hb dX20_setOf_20 rfl ?_
        exact hJ4 _ _ _ _ _ h hw (lv_sub hl [2, 3, 1, 0] rfl)
  exact key _ _ _ _ _ _ (Nat.lt_succ_self _) h0 hw hl
set_option maxHeartbeats 4000000 in
theorem mX20_setOf (l : Launch) (G : GT) (u : Hp) (a0 : Nat) (x1 : Int32) (K : Int32 → Prop) (h : pX20_setOf u a0 x1 K) : Met l yX20_setOf (ws_ yX20_setOf cX20_setOf 4 (some .int)) (rmX20_setOf 0 0) (va_Pc [.ref a0, .int x1] (GB G u)) (va_Qi (fun r v => v = u ∧ K r) (fun u t => GH G u t.heap) (GA G)) 0 0 (GA G) := by
  refine Met.ofW (cc := cX20_setOf) (maxL := 4) (ret := (some .int)) (by decide) rfl ?_
  intro p e s m args below meth c s₁ B hml hv
  obtain ⟨rfl, hv⟩ := hv
  have X := Mc_of (own := RX20) B hml rfl hv
  have hw : GW G u s s.heap [] := ⟨hv.2.1, va_S.rf⟩
  have hr := B.returns
  obtain ⟨hx, hb, hml, hown, hts, -⟩ := id X
  have hl := lv_entry ([.ref a0, .int x1]) (n := 4) (Nat.le_of_ble_eq_true rfl)
  rw [lg_entry_eq]
  generalize (lg_sl ([.ref a0, .int x1]) ++ List.replicate (4 - (lg_sl ([.ref a0, .int x1])).length) Slot.unset).toArray = ls at hl ⊢
  have hl : lv_has ls 4 [(0, .ref a0), (1, .int x1)] := hl
  change W p l e (rmX20_setOf 0 0) s m _ below meth c s.heap [] 0 0 (QI G below (fun r v => v = u ∧ K r) _ s 0 0) (F0 m 0 ls [])
  unfold pX20_setOf at h
  refine lv_iconst (v := 0) hx hb dX20_setOf_0 (by decide) ?_
  refine lv_istore_n (lv' := [(2, .int 0), (0, .ref a0), (1, .int x1)]) hx hb dX20_setOf_1 rfl hl (by decide) rfl (fun ls hl => ?_)
  refine lv_iconst (v := 0) hx hb dX20_setOf_2 (by decide) ?_
  refine lv_istore_n (lv' := [(3, .int 0), (2, .int 0), (0, .ref a0), (1, .int x1)]) hx hb dX20_setOf_3 rfl hl (by decide) rfl (fun ls hl => ?_)
  exact wX20_setOf_4 X hr  h hw (lv_sub hl [2, 3, 1, 0] rfl)

/-! FifthCard$Trick.handOf([I)I -/
theorem ydX20_handOf : yX20_handOf.cls = "FifthCard$Trick" ∧ yX20_handOf.cls ≠ "java/lang/invoke/MethodHandle" ∧ yX20_handOf.cls ≠ "java/lang/invoke/VarHandle" ∧ (parseMethodDescriptor yX20_handOf.desc).map (fun d => d.parameters.length) = some 1 := by decide +kernel
def rmX20_handOf (mc ms : Nat) : Room := { frames := 3, cells := mc, slots := ms, locals := 68 }
set_option maxHeartbeats 4000000 in
theorem mX20_handOf (l : Launch) (G : GT) (u : Hp) (a0 : Nat) (a1 : Nat) (K : Int32 → Prop) (h : pX20_handOf u a0 a1 K) : Met l yX20_handOf (ws_ yX20_handOf cX20_handOf 2 (some .int)) (rmX20_handOf 0 0) (va_Pc [.ref a0, .ref a1] (GB G u)) (va_Qi (fun r v => v = u ∧ K r) (fun u t => GH G u t.heap) (GA G)) 0 0 (GA G) := by
  refine Met.ofW (cc := cX20_handOf) (maxL := 2) (ret := (some .int)) (by decide) rfl ?_
  intro p e s m args below meth c s₁ B hml hv
  obtain ⟨rfl, hv⟩ := hv
  have X := Mc_of (own := RX20) B hml rfl hv
  have hw : GW G u s s.heap [] := ⟨hv.2.1, va_S.rf⟩
  have hr := B.returns
  obtain ⟨hx, hb, hml, hown, hts, -⟩ := id X
  have hl := lv_entry ([.ref a0, .ref a1]) (n := 2) (Nat.le_of_ble_eq_true rfl)
  rw [lg_entry_eq]
  generalize (lg_sl ([.ref a0, .ref a1]) ++ List.replicate (2 - (lg_sl ([.ref a0, .ref a1])).length) Slot.unset).toArray = ls at hl ⊢
  have hl : lv_has ls 2 [(0, .ref a0), (1, .ref a1)] := hl
  change W p l e (rmX20_handOf 0 0) s m _ below meth c s.heap [] 0 0 (QI G below (fun r v => v = u ∧ K r) _ s 0 0) (F0 m 0 ls [])
  unfold pX20_handOf at h
  refine lv_aload_n hx hb dX20_handOf_0 rfl (lv_at hl 0 rfl) ?_
  have hk_1 : kd u a0 = 17 := h.1
  have h := h.2
  refine g_getI X hw in_X20 hk_1 rfl 9 rfl (by decide) q600 (fun _ z => z) dX20_handOf_1 ?_
  refine lv_if_eq (tgt := 19) hx hb dX20_handOf_4 rfl (fun c_5 => ?_) (fun c_5 => ?_)
  · have h := h.1 c_5
    refine lv_aload_n hx hb dX20_handOf_19 rfl (lv_at hl 0 rfl) ?_
    refine lv_aload_n hx hb dX20_handOf_20 rfl (lv_at hl 1 rfl) ?_
    refine lv_aload_n hx hb dX20_handOf_21 rfl (lv_at hl 0 rfl) ?_
    refine g_getI X hw in_X20 hk_1 rfl 5 rfl (by decide) q576 (fun _ z => z) dX20_handOf_22 ?_
    refine g_callio hw (g_S X hw (mX20_setOf l G _ _ _ _ h) 2 (lw_S q1037 q1038 q144 q1039) rfl rfl ydX20_setOf ⟨Nat.le_of_ble_eq_true rfl, Nat.le_of_ble_eq_true rfl⟩ (As := [.ref a1, .int (FI u 2005 a0)]) (rest := [.ref a0]) rfl hl.1 rfl (Nat.le_of_ble_eq_true rfl) dX20_handOf_25 ⟨Nat.le_refl _, Nat.le_refl _⟩) (fun r_2 H locs h hw => ?_)
    refine g_callio hw (g_V X hw (mX20_rankSet l G _ _ _ _ h) 1 (lw_V q1040 q946 q947 q144 q948) rfl rfl ydX20_rankSet ⟨Nat.le_of_ble_eq_true rfl, Nat.le_of_ble_eq_true rfl⟩ (g_recv X hw (ci := 16) (q := (RX20, TX20, 13)) hk_1 rfl) (As := [.int r_2]) (rest := []) rfl hl.1 rfl (Nat.le_of_ble_eq_true rfl) dX20_handOf_28 ⟨Nat.le_refl _, Nat.le_refl _⟩) (fun r_3 H locs h hw => ?_)
    exact g_iret X hw hr ⟨rfl, h⟩ (Nat.le_refl _) (Nat.le_refl _) dX20_handOf_31
  · have h := h.2 c_5
    refine lv_aload_n hx hb dX20_handOf_7 rfl (lv_at hl 0 rfl) ?_
    refine lv_aload_n hx hb dX20_handOf_8 rfl (lv_at hl 1 rfl) ?_
    refine lv_aload_n hx hb dX20_handOf_9 rfl (lv_at hl 0 rfl) ?_
    refine g_getI X hw in_X20 hk_1 rfl 5 rfl (by decide) q576 (fun _ z => z) dX20_handOf_10 ?_
    refine g_callio hw (g_V X hw (mX20_rank l G _ _ _ _ _ h) 2 (lw_V q1036 q941 q942 q144 q943) rfl rfl ydX20_rank ⟨Nat.le_of_ble_eq_true rfl, Nat.le_of_ble_eq_true rfl⟩ (g_recv X hw (ci := 16) (q := (RX20, TX20, 13)) hk_1 rfl) (As := [.ref a1, .int (FI u 2005 a0)]) (rest := []) rfl hl.1 rfl (Nat.le_of_ble_eq_true rfl) dX20_handOf_13 ⟨Nat.le_refl _, Nat.le_refl _⟩) (fun r_4 H locs h hw => ?_)
    refine lv_goto (tgt := 31) hx hb dX20_handOf_16 rfl ?_
    exact g_iret X hw hr ⟨rfl, h⟩ (Nat.le_refl _) (Nat.le_refl _) dX20_handOf_31

/-! FifthCard.handOf(IIIII)I -/
theorem ydX1_handOf : yX1_handOf.cls = "FifthCard" ∧ yX1_handOf.cls ≠ "java/lang/invoke/MethodHandle" ∧ yX1_handOf.cls ≠ "java/lang/invoke/VarHandle" ∧ (parseMethodDescriptor yX1_handOf.desc).map (fun d => d.parameters.length) = some 5 := by decide +kernel
def rmX1_handOf (mc ms : Nat) : Room := { frames := 4, cells := mc, slots := ms, locals := 89 }
set_option maxHeartbeats 4000000 in
theorem wX1_handOf_69 {G : GT} {p : Program} {l : Launch} {e : Env} {s : State} {m : MethodId} {args : Array Value} {below : List Frame} {meth : Method} {c : Code} {H : Heap} {locs : List Loc} {ls : Array Slot} {a0 : Nat} {z0 : Int32} {u : Hp} {K : Int32 → Hp → Prop} (X : Mc G p s m args meth c RX1 cX1_handOf 7) (hr : meth.sig.returnType = (some .int)) (h : bX1_handOf_69 K a0 z0 u) (hw : GW G u s H locs) (hl : lv_has ls 7 [(0, .ref a0)]) : W p l e (rmX1_handOf 0 0) s m args below meth c H locs 0 0 (QI G below K args s 0 0) (F0 m 69 ls [.int z0]) := by
  obtain ⟨hx, hb, hml, hown, hts, -⟩ := id X
  unfold bX1_handOf_69 at h
  refine lv_istore (lv' := [(6, .int z0), (0, .ref a0)]) hx hb dX1_handOf_69 hl (by decide) rfl (fun ls hl => ?_)
  refine lv_iload hx hb dX1_handOf_71 (lv_at hl 0 rfl) ?_
  refine lv_if_eq (tgt := 90) hx hb dX1_handOf_73 rfl (fun c_11 => ?_) (fun c_11 => ?_)
  · have h := h.1 c_11
    refine lv_aload_n hx hb dX1_handOf_90 rfl (lv_at hl 1 rfl) ?_
    refine lv_iconst (v := 2) hx hb dX1_handOf_91 (by decide) ?_
    have hk_1 : kd u a0 = 1 := h.1
    have h := h.2
    refine g_calli hw (g_V X hw (mX1_no l G _ _ _ _ h) 1 (lw_V q542 q544 qs3 q122 q545) rfl rfl ydX1_no ⟨Nat.le_of_ble_eq_true rfl, Nat.le_of_ble_eq_true rfl⟩ (g_recv X hw (ci := 0) (q := (RX1, TX1, 16)) hk_1 rfl) (As := [.int 2]) (rest := []) rfl hl.1 rfl (Nat.le_of_ble_eq_true rfl) dX1_handOf_92 ⟨Nat.le_refl _, Nat.le_refl _⟩) (fun r_2 u_3 H locs h hw => ?_)
    exact g_iret X hw hr h (Nat.le_refl _) (Nat.le_refl _) dX1_handOf_95
  · have h := h.2 c_11
    refine lv_aload_n hx hb dX1_handOf_76 rfl (lv_at hl 1 rfl) ?_
    have hk_4 : kd u a0 = 1 := h.1
    have h := h.2
    obtain ⟨b_5, e_6, h⟩ := h
    refine g_getR X hw in_X1 hk_4 rfl 3 rfl (by decide) q476 (fun _ z => z) e_6 dX1_handOf_77 ?_
    refine lv_aload_n hx hb dX1_handOf_80 rfl (lv_at hl 1 rfl) ?_
    obtain ⟨b_7, e_8, h⟩ := h
    refine g_getR X hw in_X1 hk_4 rfl 13 rfl (by decide) q486 (fun _ z => z) e_8 dX1_handOf_81 ?_
    have hk_9 : kd u b_5 = 17 := h.1
    have h := h.2
    refine g_callio hw (g_V X hw (mX20_handOf l G _ _ _ _ h) 1 (lw_V q1032 q1033 q1034 q144 q1035) rfl rfl ydX20_handOf ⟨Nat.le_of_ble_eq_true rfl, Nat.le_of_ble_eq_true rfl⟩ (g_recv X hw (ci := 16) (q := (RX20, TX20, 13)) hk_9 rfl) (As := [.ref b_7]) (rest := []) rfl hl.1 rfl (Nat.le_of_ble_eq_true rfl) dX1_handOf_84 ⟨Nat.le_refl _, Nat.le_refl _⟩) (fun r_10 H locs h hw => ?_)
    refine lv_goto (tgt := 95) hx hb dX1_handOf_87 rfl ?_
    exact g_iret X hw hr h (Nat.le_refl _) (Nat.le_refl _) dX1_handOf_95
set_option maxHeartbeats 4000000 in
theorem mX1_handOf (l : Launch) (G : GT) (u : Hp) (a0 : Nat) (x1 : Int32) (x2 : Int32) (x3 : Int32) (x4 : Int32) (x5 : Int32) (K : Int32 → Hp → Prop) (h : pX1_handOf u a0 x1 x2 x3 x4 x5 K) : Met l yX1_handOf (ws_ yX1_handOf cX1_handOf 7 (some .int)) (rmX1_handOf 0 0) (va_Pc [.ref a0, .int x1, .int x2, .int x3, .int x4, .int x5] (GB G u)) (va_Qi K (fun u t => GH G u t.heap) (GA G)) 0 0 (GA G) := by
  refine Met.ofW (cc := cX1_handOf) (maxL := 7) (ret := (some .int)) (by decide) rfl ?_
  intro p e s m args below meth c s₁ B hml hv
  obtain ⟨rfl, hv⟩ := hv
  have X := Mc_of (own := RX1) B hml rfl hv
  have hw : GW G u s s.heap [] := ⟨hv.2.1, va_S.rf⟩
  have hr := B.returns
  obtain ⟨hx, hb, hml, hown, hts, -⟩ := id X
  have hl := lv_entry ([.ref a0, .int x1, .int x2, .int x3, .int x4, .int x5]) (n := 7) (Nat.le_of_ble_eq_true rfl)
  rw [lg_entry_eq]
  generalize (lg_sl ([.ref a0, .int x1, .int x2, .int x3, .int x4, .int x5]) ++ List.replicate (7 - (lg_sl ([.ref a0, .int x1, .int x2, .int x3, .int x4, .int x5])).length) Slot.unset).toArray = ls at hl ⊢
  have hl : lv_has ls 7 [(0, .ref a0), (1, .int x1), (2, .int x2), (3, .int x3), (4, .int x4), (5, .int x5)] := hl
  change W p l e (rmX1_handOf 0 0) s m _ below meth c s.heap [] 0 0 (QI G below K _ s 0 0) (F0 m 0 ls [])
  unfold pX1_handOf at h
  refine lv_aload_n hx hb dX1_handOf_0 rfl (lv_at hl 0 rfl) ?_
  have hk_12 : kd u a0 = 1 := h.1
  have h := h.2
  refine g_callv hw (g_V X hw (mX1_anew l G _ _ _ h) 0 (lw_V q535 q537 qs2 q122 q538) rfl rfl ydX1_anew ⟨Nat.le_of_ble_eq_true rfl, Nat.le_of_ble_eq_true rfl⟩ (g_recv X hw (ci := 0) (q := (RX1, TX1, 16)) hk_12 rfl) (As := []) (rest := []) rfl hl.1 rfl (Nat.le_of_ble_eq_true rfl) dX1_handOf_1 ⟨Nat.le_refl _, Nat.le_refl _⟩) (fun u_13 H locs h hw => ?_)
  refine lv_aload_n hx hb dX1_handOf_4 rfl (lv_at hl 0 rfl) ?_
  have hk_14 : kd u_13 a0 = 1 := h.1
  have h := h.2
  refine g_getO X hw in_X1 hk_14 rfl 3 rfl (by decide) q476 (fun _ z => z) dX1_handOf_5 ?_
  refine g_ifnonnull X (tgt := 17) dX1_handOf_8 rfl (fun b_15 e_16 => ?_) (fun e_16 => ?_)
  · have h := h.2 b_15 e_16
    refine lv_aload_n hx hb dX1_handOf_17 rfl (lv_at hl 0 rfl) ?_
    refine lv_iconst (v := 0) hx hb dX1_handOf_18 (by decide) ?_
    refine lv_iload_n hx hb dX1_handOf_19 rfl (lv_at hl 1 rfl) ?_
    refine g_calli hw (g_V X hw (mX1_puts l G _ _ _ _ _ h) 2 (lw_V q1028 q1030 qs26 q122 q1031) rfl rfl ydX1_puts ⟨Nat.le_of_ble_eq_true rfl, Nat.le_of_ble_eq_true rfl⟩ (g_recv X hw (ci := 0) (q := (RX1, TX1, 16)) hk_14 rfl) (As := [.int 0, .int x1]) (rest := []) rfl hl.1 rfl (Nat.le_of_ble_eq_true rfl) dX1_handOf_20 ⟨Nat.le_refl _, Nat.le_refl _⟩) (fun r_19 u_20 H locs h hw => ?_)
    refine lv_if_eq (tgt := 68) hx hb dX1_handOf_23 rfl (fun c_37 => ?_) (fun c_37 => ?_)
    · have h := h.1 c_37
      refine lv_iconst (v := 0) hx hb dX1_handOf_68 (by decide) ?_
      exact wX1_handOf_69 X hr  h hw (lv_sub hl [0] rfl)
    · have h := h.2 c_37
      refine lv_aload_n hx hb dX1_handOf_26 rfl (lv_at hl 0 rfl) ?_
      refine lv_iconst (v := 1) hx hb dX1_handOf_27 (by decide) ?_
      refine lv_iload_n hx hb dX1_handOf_28 rfl (lv_at hl 2 rfl) ?_
      have hk_21 : kd u_20 a0 = 1 := h.1
      have h := h.2
      refine g_calli hw (g_V X hw (mX1_puts l G _ _ _ _ _ h) 2 (lw_V q1028 q1030 qs26 q122 q1031) rfl rfl ydX1_puts ⟨Nat.le_of_ble_eq_true rfl, Nat.le_of_ble_eq_true rfl⟩ (g_recv X hw (ci := 0) (q := (RX1, TX1, 16)) hk_21 rfl) (As := [.int 1, .int x2]) (rest := []) rfl hl.1 rfl (Nat.le_of_ble_eq_true rfl) dX1_handOf_29 ⟨Nat.le_refl _, Nat.le_refl _⟩) (fun r_22 u_23 H locs h hw => ?_)
      refine lv_if_eq (tgt := 68) hx hb dX1_handOf_32 rfl (fun c_36 => ?_) (fun c_36 => ?_)
      · have h := h.1 c_36
        refine lv_iconst (v := 0) hx hb dX1_handOf_68 (by decide) ?_
        exact wX1_handOf_69 X hr  h hw (lv_sub hl [0] rfl)
      · have h := h.2 c_36
        refine lv_aload_n hx hb dX1_handOf_35 rfl (lv_at hl 0 rfl) ?_
        refine lv_iconst (v := 2) hx hb dX1_handOf_36 (by decide) ?_
        refine lv_iload_n hx hb dX1_handOf_37 rfl (lv_at hl 3 rfl) ?_
        have hk_24 : kd u_23 a0 = 1 := h.1
        have h := h.2
        refine g_calli hw (g_V X hw (mX1_puts l G _ _ _ _ _ h) 2 (lw_V q1028 q1030 qs26 q122 q1031) rfl rfl ydX1_puts ⟨Nat.le_of_ble_eq_true rfl, Nat.le_of_ble_eq_true rfl⟩ (g_recv X hw (ci := 0) (q := (RX1, TX1, 16)) hk_24 rfl) (As := [.int 2, .int x3]) (rest := []) rfl hl.1 rfl (Nat.le_of_ble_eq_true rfl) dX1_handOf_38 ⟨Nat.le_refl _, Nat.le_refl _⟩) (fun r_25 u_26 H locs h hw => ?_)
        refine lv_if_eq (tgt := 68) hx hb dX1_handOf_41 rfl (fun c_35 => ?_) (fun c_35 => ?_)
        · have h := h.1 c_35
          refine lv_iconst (v := 0) hx hb dX1_handOf_68 (by decide) ?_
          exact wX1_handOf_69 X hr  h hw (lv_sub hl [0] rfl)
        · have h := h.2 c_35
          refine lv_aload_n hx hb dX1_handOf_44 rfl (lv_at hl 0 rfl) ?_
          refine lv_iconst (v := 3) hx hb dX1_handOf_45 (by decide) ?_
          refine lv_iload hx hb dX1_handOf_46 (lv_at hl 4 rfl) ?_
          have hk_27 : kd u_26 a0 = 1 := h.1
          have h := h.2
          refine g_calli hw (g_V X hw (mX1_puts l G _ _ _ _ _ h) 2 (lw_V q1028 q1030 qs26 q122 q1031) rfl rfl ydX1_puts ⟨Nat.le_of_ble_eq_true rfl, Nat.le_of_ble_eq_true rfl⟩ (g_recv X hw (ci := 0) (q := (RX1, TX1, 16)) hk_27 rfl) (As := [.int 3, .int x4]) (rest := []) rfl hl.1 rfl (Nat.le_of_ble_eq_true rfl) dX1_handOf_48 ⟨Nat.le_refl _, Nat.le_refl _⟩) (fun r_28 u_29 H locs h hw => ?_)
          refine lv_if_eq (tgt := 68) hx hb dX1_handOf_51 rfl (fun c_34 => ?_) (fun c_34 => ?_)
          · have h := h.1 c_34
            refine lv_iconst (v := 0) hx hb dX1_handOf_68 (by decide) ?_
            exact wX1_handOf_69 X hr  h hw (lv_sub hl [0] rfl)
          · have h := h.2 c_34
            refine lv_aload_n hx hb dX1_handOf_54 rfl (lv_at hl 0 rfl) ?_
            refine lv_iconst (v := 4) hx hb dX1_handOf_55 (by decide) ?_
            refine lv_iload hx hb dX1_handOf_56 (lv_at hl 5 rfl) ?_
            have hk_30 : kd u_29 a0 = 1 := h.1
            have h := h.2
            refine g_calli hw (g_V X hw (mX1_puts l G _ _ _ _ _ h) 2 (lw_V q1028 q1030 qs26 q122 q1031) rfl rfl ydX1_puts ⟨Nat.le_of_ble_eq_true rfl, Nat.le_of_ble_eq_true rfl⟩ (g_recv X hw (ci := 0) (q := (RX1, TX1, 16)) hk_30 rfl) (As := [.int 4, .int x5]) (rest := []) rfl hl.1 rfl (Nat.le_of_ble_eq_true rfl) dX1_handOf_58 ⟨Nat.le_refl _, Nat.le_refl _⟩) (fun r_31 u_32 H locs h hw => ?_)
            refine lv_if_eq (tgt := 68) hx hb dX1_handOf_61 rfl (fun c_33 => ?_) (fun c_33 => ?_)
            · have h := h.1 c_33
              refine lv_iconst (v := 0) hx hb dX1_handOf_68 (by decide) ?_
              exact wX1_handOf_69 X hr  h hw (lv_sub hl [0] rfl)
            · have h := h.2 c_33
              refine lv_iconst (v := 1) hx hb dX1_handOf_64 (by decide) ?_
              refine lv_goto (tgt := 69) hx hb dX1_handOf_65 rfl ?_
              exact wX1_handOf_69 X hr  h hw (lv_sub hl [0] rfl)
  · have h := h.1 e_16
    refine lv_aload_n hx hb dX1_handOf_11 rfl (lv_at hl 0 rfl) ?_
    refine lv_iconst (v := 1) hx hb dX1_handOf_12 (by decide) ?_
    refine g_calli hw (g_V X hw (mX1_no l G _ _ _ _ h) 1 (lw_V q542 q544 qs3 q122 q545) rfl rfl ydX1_no ⟨Nat.le_of_ble_eq_true rfl, Nat.le_of_ble_eq_true rfl⟩ (g_recv X hw (ci := 0) (q := (RX1, TX1, 16)) hk_14 rfl) (As := [.int 1]) (rest := []) rfl hl.1 rfl (Nat.le_of_ble_eq_true rfl) dX1_handOf_13 ⟨Nat.le_refl _, Nat.le_refl _⟩) (fun r_17 u_18 H locs h hw => ?_)
    exact g_iret X hw hr h (Nat.le_refl _) (Nat.le_refl _) dX1_handOf_16

/-! FifthCardModel.handOf(IIIII)I -/
theorem ydX19_handOf : yX19_handOf.cls = "FifthCardModel" ∧ yX19_handOf.cls ≠ "java/lang/invoke/MethodHandle" ∧ yX19_handOf.cls ≠ "java/lang/invoke/VarHandle" ∧ (parseMethodDescriptor yX19_handOf.desc).map (fun d => d.parameters.length) = some 5 := by decide +kernel
def rmX19_handOf (mc ms : Nat) : Room := { frames := 3, cells := mc, slots := ms, locals := 70 }
set_option maxHeartbeats 4000000 in
theorem wX19_handOf_114 {G : GT} {p : Program} {l : Launch} {e : Env} {s : State} {m : MethodId} {args : Array Value} {below : List Frame} {meth : Method} {c : Code} {H : Heap} {locs : List Loc} {ls : Array Slot} {a0 : Nat} {a6 : Nat} {x7 : Int32} {u : Hp} {x8 : Int32} {K : Int32 → Hp → Prop} {J54 : Int32 → Prop} (X : Mc G p s m args meth c RX19 cX19_handOf 9) (hr : meth.sig.returnType = (some .int)) (hJ54 : ∀ (x7 : Int32) (H : Heap) (locs : List Loc) (ls : Array Slot) , J54 x7 → GW G u s H locs → lv_has ls 9 [(0, .ref a0), (6, .ref a6), (7, .int x7)] → W p l e (rmX19_handOf 0 0) s m args below meth c H locs 0 0 (QI G below K args s 0 0) (F0 m 54 ls [])) (h : jl1 (bX19_handOf_114 K J54 a0 a6 x7 u) x8) (hw : GW G u s H locs) (hl : lv_has ls 9 [(0, .ref a0), (6, .ref a6), (7, .int x7), (8, .int x8)]) : W p l e (rmX19_handOf 0 0) s m args below meth c H locs 0 0 (QI G below K args s 0 0) (F0 m 114 ls []) := by
  obtain ⟨hx, hb, hml, hown, hts, -⟩ := id X
  obtain ⟨I, μ, h0, hs⟩ := h
  have key : ∀ (n : Nat) (x8 : Int32) (H : Heap) (locs : List Loc) (ls : Array Slot) , μ x8 < n → I x8 → GW G u s H locs → lv_has ls 9 [(0, .ref a0), (6, .ref a6), (7, .int x7), (8, .int x8)] → W p l e (rmX19_handOf 0 0) s m args below meth c H locs 0 0 (QI G below K args s 0 0) (F0 m 114 ls []) := by
    intro n
    induction n with
    | zero =>
      intro x8 H locs ls hn
      exact absurd hn (Nat.not_lt_zero _)
    | succ n ih =>
      intro x8 H locs ls hn hI hw hl
      have h := hs x8 hI
      unfold bX19_handOf_114 at h
      have hJ114 : ∀ (x8' : Int32) (H : Heap) (locs : List Loc) (ls : Array Slot) , (I x8' ∧ μ x8' < μ x8) → GW G u s H locs → lv_has ls 9 [(0, .ref a0), (6, .ref a6), (7, .int x7), (8, .int x8')] → W p l e (rmX19_handOf 0 0) s m args below meth c H locs 0 0 (QI G below K args s 0 0) (F0 m 114 ls []) := fun x8' H locs ls h hw hl => ih x8' H locs ls (Nat.lt_of_lt_of_le h.2 (Nat.le_of_lt_succ hn)) h.1 hw hl
      refine lv_iload hx hb dX19_handOf_114 (lv_at hl 3 rfl) ?_
      refine lv_iload hx hb dX19_handOf_116 (lv_at hl 2 rfl) ?_
      refine lv_icmp_ge (tgt := 158) hx hb dX19_handOf_118 rfl (fun c_10 => ?_) (fun c_10 => ?_)
      · have h := h.1 c_10
        refine lv_iinc (v := x7 + 1) (lv' := [(7, .int (x7 + 1)), (0, .ref a0), (6, .ref a6), (8, .int x8)]) hx hb dX19_handOf_158 hl (k := 2) rfl rfl (by decide) rfl (fun ls hl => ?_)
        refine lv_goto (tgt := 54) hx hb dX19_handOf_161 rfl ?_
        exact hJ54 _ _ _ _ h hw (lv_sub hl [1, 2, 0] rfl)
      · have h := h.2 c_10
        refine lv_iload hx hb dX19_handOf_121 (lv_at hl 2 rfl) ?_
        refine lv_aload_n hx hb dX19_handOf_123 rfl (lv_at hl 0 rfl) ?_
        have hk_1 : kd u a0 = 16 := h.1
        have h := h.2
        obtain ⟨b_2, e_3, h⟩ := h
        refine g_getR X hw in_X19 hk_1 rfl 3 rfl (by decide) q1454 (fun _ z => z) e_3 dX19_handOf_124 ?_
        have hk_4 : kd u b_2 = 20 := h.1
        have h := h.2
        refine g_getNI X hw (host := "FifthCardModel") in_X23 hk_4 rfl 2 rfl (by decide) (List.mem_of_getElem? (i := 2) rfl) (fun _ z => z) dX19_handOf_127 ?_
        refine lv_icmp_ge (tgt := 158) hx hb dX19_handOf_130 rfl (fun c_9 => ?_) (fun c_9 => ?_)
        · have h := h.1 c_9
          refine lv_iinc (v := x7 + 1) (lv' := [(7, .int (x7 + 1)), (0, .ref a0), (6, .ref a6), (8, .int x8)]) hx hb dX19_handOf_158 hl (k := 2) rfl rfl (by decide) rfl (fun ls hl => ?_)
          refine lv_goto (tgt := 54) hx hb dX19_handOf_161 rfl ?_
          exact hJ54 _ _ _ _ h hw (lv_sub hl [1, 2, 0] rfl)
        · have h := h.2 c_9
          refine lv_aload hx hb dX19_handOf_133 (lv_at hl 1 rfl) ?_
          refine lv_iload hx hb dX19_handOf_135 (lv_at hl 3 rfl) ?_
          have hk_5 : kd u a6 = 101 := h.1
          have h := h.2
          refine g_iald X hw hk_5 h.1 dX19_handOf_137 ?_
          have h := h.2
          refine lv_aload hx hb dX19_handOf_138 (lv_at hl 1 rfl) ?_
          refine lv_iload hx hb dX19_handOf_140 (lv_at hl 2 rfl) ?_
          refine g_iald X hw hk_5 h.1 dX19_handOf_142 ?_
          have h := h.2
          refine lv_icmp_ne (tgt := 152) hx hb dX19_handOf_143 rfl (fun c_8 => ?_) (fun c_8 => ?_)
          · have h := h.2 c_8
            refine lv_iinc (v := x8 + 1) (lv' := [(8, .int (x8 + 1)), (0, .ref a0), (6, .ref a6), (7, .int x7)]) hx hb dX19_handOf_152 hl (k := 3) rfl rfl (by decide) rfl (fun ls hl => ?_)
            refine lv_goto (tgt := 114) hx hb dX19_handOf_155 rfl ?_
            exact hJ114 _ _ _ _ h hw (lv_sub hl [1, 2, 3, 0] rfl)
          · have h := h.1 c_8
            refine lv_aload_n hx hb dX19_handOf_146 rfl (lv_at hl 0 rfl) ?_
            refine lv_iconst (v := 2) hx hb dX19_handOf_147 (by decide) ?_
            refine g_calli hw (g_V X hw (mX19_refused l G _ _ _ _ h) 1 (lw_V q1603 q1605 qs47 q143 q1606) rfl rfl ydX19_refused ⟨Nat.le_of_ble_eq_true rfl, Nat.le_of_ble_eq_true rfl⟩ (g_recv X hw (ci := 15) (q := (RX19, TX19, 46)) hk_1 rfl) (As := [.int 2]) (rest := []) rfl hl.1 rfl (Nat.le_of_ble_eq_true rfl) dX19_handOf_148 ⟨Nat.le_refl _, Nat.le_refl _⟩) (fun r_6 u_7 H locs h hw => ?_)
            exact g_iret X hw hr h (Nat.le_refl _) (Nat.le_refl _) dX19_handOf_151
  exact key _ _ _ _ _ (Nat.lt_succ_self _) h0 hw hl
set_option maxHeartbeats 4000000 in
theorem wX19_handOf_54 {G : GT} {p : Program} {l : Launch} {e : Env} {s : State} {m : MethodId} {args : Array Value} {below : List Frame} {meth : Method} {c : Code} {H : Heap} {locs : List Loc} {ls : Array Slot} {a0 : Nat} {a6 : Nat} {u : Hp} {x7 : Int32} {K : Int32 → Hp → Prop} (X : Mc G p s m args meth c RX19 cX19_handOf 9) (hr : meth.sig.returnType = (some .int)) (h : jl1 (bX19_handOf_54 K a0 a6 u) x7) (hw : GW G u s H locs) (hl : lv_has ls 9 [(0, .ref a0), (6, .ref a6), (7, .int x7)]) : W p l e (rmX19_handOf 0 0) s m args below meth c H locs 0 0 (QI G below K args s 0 0) (F0 m 54 ls []) := by
  obtain ⟨hx, hb, hml, hown, hts, -⟩ := id X
  obtain ⟨I, μ, h0, hs⟩ := h
  have key : ∀ (n : Nat) (x7 : Int32) (H : Heap) (locs : List Loc) (ls : Array Slot) , μ x7 < n → I x7 → GW G u s H locs → lv_has ls 9 [(0, .ref a0), (6, .ref a6), (7, .int x7)] → W p l e (rmX19_handOf 0 0) s m args below meth c H locs 0 0 (QI G below K args s 0 0) (F0 m 54 ls []) := by
    intro n
    induction n with
    | zero =>
      intro x7 H locs ls hn
      exact absurd hn (Nat.not_lt_zero _)
    | succ n ih =>
      intro x7 H locs ls hn hI hw hl
      have h := hs x7 hI
      unfold bX19_handOf_54 at h
      have hJ54 : ∀ (x7' : Int32) (H : Heap) (locs : List Loc) (ls : Array Slot) , (I x7' ∧ μ x7' < μ x7) → GW G u s H locs → lv_has ls 9 [(0, .ref a0), (6, .ref a6), (7, .int x7')] → W p l e (rmX19_handOf 0 0) s m args below meth c H locs 0 0 (QI G below K args s 0 0) (F0 m 54 ls []) := fun x7' H locs ls h hw hl => ih x7' H locs ls (Nat.lt_of_lt_of_le h.2 (Nat.le_of_lt_succ hn)) h.1 hw hl
      refine lv_iload hx hb dX19_handOf_54 (lv_at hl 2 rfl) ?_
      refine lv_iconst (v := 5) hx hb dX19_handOf_56 (by decide) ?_
      refine lv_icmp_ge (tgt := 164) hx hb dX19_handOf_57 rfl (fun c_29 => ?_) (fun c_29 => ?_)
      · have h := h.1 c_29
        refine lv_aload_n hx hb dX19_handOf_164 rfl (lv_at hl 0 rfl) ?_
        refine lv_aload_n hx hb dX19_handOf_165 rfl (lv_at hl 0 rfl) ?_
        refine lv_aload hx hb dX19_handOf_166 (lv_at hl 1 rfl) ?_
        refine lv_iconst (v := 0) hx hb dX19_handOf_168 (by decide) ?_
        have hk_11 : kd u a0 = 16 := h.1
        have h := h.2
        refine g_callio hw (g_V X hw (mX19_handNumber l G _ _ _ _ _ h) 2 (lw_V q1847 q1849 qs73 q143 q1850) rfl rfl ydX19_handNumber ⟨Nat.le_of_ble_eq_true rfl, Nat.le_of_ble_eq_true rfl⟩ (g_recv X hw (ci := 15) (q := (RX19, TX19, 46)) hk_11 rfl) (As := [.ref a6, .int 0]) (rest := [.ref a0]) rfl hl.1 rfl (Nat.le_of_ble_eq_true rfl) dX19_handOf_169 ⟨Nat.le_refl _, Nat.le_refl _⟩) (fun r_12 H locs h hw => ?_)
        refine g_calli hw (g_V X hw (mX19_good l G _ _ _ _ h) 1 (lw_V q1867 q1869 qs77 q143 q1870) rfl rfl ydX19_good ⟨Nat.le_of_ble_eq_true rfl, Nat.le_of_ble_eq_true rfl⟩ (g_recv X hw (ci := 15) (q := (RX19, TX19, 46)) hk_11 rfl) (As := [.int r_12]) (rest := []) rfl hl.1 rfl (Nat.le_of_ble_eq_true rfl) dX19_handOf_172 ⟨Nat.le_refl _, Nat.le_refl _⟩) (fun r_13 u_14 H locs h hw => ?_)
        exact g_iret X hw hr h (Nat.le_refl _) (Nat.le_refl _) dX19_handOf_175
      · have h := h.2 c_29
        refine lv_iload hx hb dX19_handOf_60 (lv_at hl 2 rfl) ?_
        refine lv_aload_n hx hb dX19_handOf_62 rfl (lv_at hl 0 rfl) ?_
        have hk_15 : kd u a0 = 16 := h.1
        have h := h.2
        obtain ⟨b_16, e_17, h⟩ := h
        refine g_getR X hw in_X19 hk_15 rfl 3 rfl (by decide) q1454 (fun _ z => z) e_17 dX19_handOf_63 ?_
        have hk_18 : kd u b_16 = 20 := h.1
        have h := h.2
        refine g_getNI X hw (host := "FifthCardModel") in_X23 hk_18 rfl 2 rfl (by decide) (List.mem_of_getElem? (i := 2) rfl) (fun _ z => z) dX19_handOf_66 ?_
        refine lv_icmp_ge (tgt := 96) hx hb dX19_handOf_69 rfl (fun c_28 => ?_) (fun c_28 => ?_)
        · have h := h.1 c_28
          refine lv_aload hx hb dX19_handOf_96 (lv_at hl 1 rfl) ?_
          refine lv_iload hx hb dX19_handOf_98 (lv_at hl 2 rfl) ?_
          have hk_19 : kd u a6 = 101 := h.1
          have h := h.2
          refine g_iald X hw hk_19 h.1 dX19_handOf_100 ?_
          have h := h.2
          refine lv_iconst (v := (-1)) hx hb dX19_handOf_101 (by decide) ?_
          refine lv_icmp_eq (tgt := 111) hx hb dX19_handOf_102 rfl (fun c_22 => ?_) (fun c_22 => ?_)
          · have h := h.1 c_22
            refine lv_iconst (v := 0) hx hb dX19_handOf_111 (by decide) ?_
            refine lv_istore (lv' := [(8, .int 0), (0, .ref a0), (6, .ref a6), (7, .int x7)]) hx hb dX19_handOf_112 hl (by decide) rfl (fun ls hl => ?_)
            exact wX19_handOf_114 X hr hJ54  h hw (lv_sub hl [1, 2, 3, 0] rfl)
          · have h := h.2 c_22
            refine lv_aload_n hx hb dX19_handOf_105 rfl (lv_at hl 0 rfl) ?_
            refine lv_iconst (v := 2) hx hb dX19_handOf_106 (by decide) ?_
            refine g_calli hw (g_V X hw (mX19_refused l G _ _ _ _ h) 1 (lw_V q1603 q1605 qs47 q143 q1606) rfl rfl ydX19_refused ⟨Nat.le_of_ble_eq_true rfl, Nat.le_of_ble_eq_true rfl⟩ (g_recv X hw (ci := 15) (q := (RX19, TX19, 46)) hk_15 rfl) (As := [.int 2]) (rest := []) rfl hl.1 rfl (Nat.le_of_ble_eq_true rfl) dX19_handOf_107 ⟨Nat.le_refl _, Nat.le_refl _⟩) (fun r_20 u_21 H locs h hw => ?_)
            exact g_iret X hw hr h (Nat.le_refl _) (Nat.le_refl _) dX19_handOf_110
        · have h := h.2 c_28
          refine lv_aload hx hb dX19_handOf_72 (lv_at hl 1 rfl) ?_
          refine lv_iload hx hb dX19_handOf_74 (lv_at hl 2 rfl) ?_
          have hk_23 : kd u a6 = 101 := h.1
          have h := h.2
          refine g_iald X hw hk_23 h.1 dX19_handOf_76 ?_
          have h := h.2
          refine lv_iconst (v := 0) hx hb dX19_handOf_77 (by decide) ?_
          refine lv_aload_n hx hb dX19_handOf_78 rfl (lv_at hl 0 rfl) ?_
          refine g_getR X hw in_X19 hk_15 rfl 3 rfl (by decide) q1454 (fun _ z => z) e_17 dX19_handOf_79 ?_
          refine g_getNI X hw (host := "FifthCardModel") in_X23 hk_18 rfl 0 rfl (by decide) (List.mem_of_getElem? (i := 0) rfl) (fun _ z => z) dX19_handOf_82 ?_
          refine lv_iconst (v := 1) hx hb dX19_handOf_85 (by decide) ?_
          refine lv_isub hx hb dX19_handOf_86 ?_
          refine g_callio hw (g_S X hw (mX19_in l G _ _ _ _ _ h) 3 (lw_S q1749 q1750 q143 q1751) rfl rfl ydX19_in ⟨Nat.le_of_ble_eq_true rfl, Nat.le_of_ble_eq_true rfl⟩ (As := [.int (AI u a6 (tn x7)), .int 0, .int ((FI u 2300 b_16) - 1)]) (rest := []) rfl hl.1 rfl (Nat.le_of_ble_eq_true rfl) dX19_handOf_87 ⟨Nat.le_refl _, Nat.le_refl _⟩) (fun r_24 H locs h hw => ?_)
          refine lv_if_ne (tgt := 111) hx hb dX19_handOf_90 rfl (fun c_27 => ?_) (fun c_27 => ?_)
          · have h := h.2 c_27
            refine lv_iconst (v := 0) hx hb dX19_handOf_111 (by decide) ?_
            refine lv_istore (lv' := [(8, .int 0), (0, .ref a0), (6, .ref a6), (7, .int x7)]) hx hb dX19_handOf_112 hl (by decide) rfl (fun ls hl => ?_)
            exact wX19_handOf_114 X hr hJ54  h hw (lv_sub hl [1, 2, 3, 0] rfl)
          · have h := h.1 c_27
            refine lv_goto (tgt := 105) hx hb dX19_handOf_93 rfl ?_
            refine lv_aload_n hx hb dX19_handOf_105 rfl (lv_at hl 0 rfl) ?_
            refine lv_iconst (v := 2) hx hb dX19_handOf_106 (by decide) ?_
            refine g_calli hw (g_V X hw (mX19_refused l G _ _ _ _ h) 1 (lw_V q1603 q1605 qs47 q143 q1606) rfl rfl ydX19_refused ⟨Nat.le_of_ble_eq_true rfl, Nat.le_of_ble_eq_true rfl⟩ (g_recv X hw (ci := 15) (q := (RX19, TX19, 46)) hk_15 rfl) (As := [.int 2]) (rest := []) rfl hl.1 rfl (Nat.le_of_ble_eq_true rfl) dX19_handOf_107 ⟨Nat.le_refl _, Nat.le_refl _⟩) (fun r_25 u_26 H locs h hw => ?_)
            exact g_iret X hw hr h (Nat.le_refl _) (Nat.le_refl _) dX19_handOf_110
  exact key _ _ _ _ _ (Nat.lt_succ_self _) h0 hw hl
set_option maxHeartbeats 4000000 in
theorem mX19_handOf (l : Launch) (G : GT) (u : Hp) (a0 : Nat) (x1 : Int32) (x2 : Int32) (x3 : Int32) (x4 : Int32) (x5 : Int32) (K : Int32 → Hp → Prop) (h : pX19_handOf u a0 x1 x2 x3 x4 x5 K) : Met l yX19_handOf (ws_ yX19_handOf cX19_handOf 9 (some .int)) (rmX19_handOf 0 0) (va_Pc [.ref a0, .int x1, .int x2, .int x3, .int x4, .int x5] (GB G u)) (va_Qi K (fun u t => GH G u t.heap) (GA G)) 0 0 (GA G) := by
  refine Met.ofW (cc := cX19_handOf) (maxL := 9) (ret := (some .int)) (by decide) rfl ?_
  intro p e s m args below meth c s₁ B hml hv
  obtain ⟨rfl, hv⟩ := hv
  have X := Mc_of (own := RX19) B hml rfl hv
  have hw : GW G u s s.heap [] := ⟨hv.2.1, va_S.rf⟩
  have hr := B.returns
  obtain ⟨hx, hb, hml, hown, hts, -⟩ := id X
  have hl := lv_entry ([.ref a0, .int x1, .int x2, .int x3, .int x4, .int x5]) (n := 9) (Nat.le_of_ble_eq_true rfl)
  rw [lg_entry_eq]
  generalize (lg_sl ([.ref a0, .int x1, .int x2, .int x3, .int x4, .int x5]) ++ List.replicate (9 - (lg_sl ([.ref a0, .int x1, .int x2, .int x3, .int x4, .int x5])).length) Slot.unset).toArray = ls at hl ⊢
  have hl : lv_has ls 9 [(0, .ref a0), (1, .int x1), (2, .int x2), (3, .int x3), (4, .int x4), (5, .int x5)] := hl
  change W p l e (rmX19_handOf 0 0) s m _ below meth c s.heap [] 0 0 (QI G below K _ s 0 0) (F0 m 0 ls [])
  unfold pX19_handOf at h
  refine lv_aload_n hx hb dX19_handOf_0 rfl (lv_at hl 0 rfl) ?_
  refine lv_iconst (v := 0) hx hb dX19_handOf_1 (by decide) ?_
  have hk_30 : kd u a0 = 16 := h.1
  have h := h.2
  refine g_putI (v := 0) X hw in_X19 tyX19_ok nmX19 hk_30 rfl 0 rfl (by decide) q1451 (fun _ z => z) rfl rfl rfl dX19_handOf_2 (fun H locs hw => ?_)
  refine lv_aload_n hx hb dX19_handOf_5 rfl (lv_at hl 0 rfl) ?_
  refine g_getO X hw in_X19 hk_30 rfl 3 rfl (by decide) q1454 (fun _ z => z) dX19_handOf_6 ?_
  refine g_ifnonnull X (tgt := 18) dX19_handOf_9 rfl (fun b_31 e_32 => ?_) (fun e_32 => ?_)
  · have h := h.2 b_31 e_32
    refine lv_aload_n hx hb dX19_handOf_18 rfl (lv_at hl 0 rfl) ?_
    obtain ⟨b_35, e_36, h⟩ := h
    refine g_getR X hw in_X19 hk_30 rfl 18 rfl (by decide) q1469 (fun _ z => z) e_36 dX19_handOf_19 ?_
    refine lv_astore (lv' := [(6, .ref b_35), (0, .ref a0), (1, .int x1), (2, .int x2), (3, .int x3), (4, .int x4), (5, .int x5)]) hx hb dX19_handOf_22 hl (by decide) rfl (fun ls hl => ?_)
    refine lv_aload hx hb dX19_handOf_24 (lv_at hl 0 rfl) ?_
    refine lv_iconst (v := 0) hx hb dX19_handOf_26 (by decide) ?_
    refine lv_iload_n hx hb dX19_handOf_27 rfl (lv_at hl 2 rfl) ?_
    have hk_37 : kd u b_35 = 101 := h.1
    have h := h.2
    refine g_iast X hw hk_37 h.1 dX19_handOf_28 (fun H locs hw => ?_)
    have h := h.2
    refine lv_aload hx hb dX19_handOf_29 (lv_at hl 0 rfl) ?_
    refine lv_iconst (v := 1) hx hb dX19_handOf_31 (by decide) ?_
    refine lv_iload_n hx hb dX19_handOf_32 rfl (lv_at hl 3 rfl) ?_
    refine g_iast X hw hk_37 h.1 dX19_handOf_33 (fun H locs hw => ?_)
    have h := h.2
    refine lv_aload hx hb dX19_handOf_34 (lv_at hl 0 rfl) ?_
    refine lv_iconst (v := 2) hx hb dX19_handOf_36 (by decide) ?_
    refine lv_iload_n hx hb dX19_handOf_37 rfl (lv_at hl 4 rfl) ?_
    obtain ⟨u_38, e_39⟩ : ∃ v : Hp, v = (sAI (sAI (sFI u 1900 a0 0) b_35 (upd (AI u b_35) (tn 0) x1)) b_35 (upd (AI (sAI (sFI u 1900 a0 0) b_35 (upd (AI u b_35) (tn 0) x1)) b_35) (tn 1) x2)) := ⟨_, rfl⟩
    have h := h u_38 e_39
    have hw : GW G u_38 s H locs := by rw [e_39]; exact hw
    have hk_40 : kd u_38 a0 = 16 := by rw [e_39]; exact hk_30
    have hk_41 : kd u_38 b_35 = 101 := by rw [e_39]; exact hk_37
    refine g_iast X hw hk_41 h.1 dX19_handOf_38 (fun H locs hw => ?_)
    have h := h.2
    refine lv_aload hx hb dX19_handOf_39 (lv_at hl 0 rfl) ?_
    refine lv_iconst (v := 3) hx hb dX19_handOf_41 (by decide) ?_
    refine lv_iload hx hb dX19_handOf_42 (lv_at hl 5 rfl) ?_
    refine g_iast X hw hk_41 h.1 dX19_handOf_44 (fun H locs hw => ?_)
    have h := h.2
    refine lv_aload hx hb dX19_handOf_45 (lv_at hl 0 rfl) ?_
    refine lv_iconst (v := 4) hx hb dX19_handOf_47 (by decide) ?_
    refine lv_iload hx hb dX19_handOf_48 (lv_at hl 6 rfl) ?_
    refine g_iast X hw hk_41 h.1 dX19_handOf_50 (fun H locs hw => ?_)
    have h := h.2
    refine lv_iconst (v := 0) hx hb dX19_handOf_51 (by decide) ?_
    refine lv_istore (lv' := [(7, .int 0), (6, .ref b_35), (0, .ref a0), (1, .int x1), (2, .int x2), (3, .int x3), (4, .int x4), (5, .int x5)]) hx hb dX19_handOf_52 hl (by decide) rfl (fun ls hl => ?_)
    exact wX19_handOf_54 X hr  h hw (lv_sub hl [2, 1, 0] rfl)
  · have h := h.1 e_32
    refine lv_aload_n hx hb dX19_handOf_12 rfl (lv_at hl 0 rfl) ?_
    refine lv_iconst (v := 1) hx hb dX19_handOf_13 (by decide) ?_
    refine g_calli hw (g_V X hw (mX19_refused l G _ _ _ _ h) 1 (lw_V q1603 q1605 qs47 q143 q1606) rfl rfl ydX19_refused ⟨Nat.le_of_ble_eq_true rfl, Nat.le_of_ble_eq_true rfl⟩ (g_recv X hw (ci := 15) (q := (RX19, TX19, 46)) hk_30 rfl) (As := [.int 1]) (rest := []) rfl hl.1 rfl (Nat.le_of_ble_eq_true rfl) dX19_handOf_14 ⟨Nat.le_refl _, Nat.le_refl _⟩) (fun r_33 u_34 H locs h hw => ?_)
    exact g_iret X hw hr h (Nat.le_refl _) (Nat.le_refl _) dX19_handOf_17

/-! FifthCard.isRow(I)Z -/
theorem ydX1_isRow : yX1_isRow.cls = "FifthCard" ∧ yX1_isRow.cls ≠ "java/lang/invoke/MethodHandle" ∧ yX1_isRow.cls ≠ "java/lang/invoke/VarHandle" ∧ (parseMethodDescriptor yX1_isRow.desc).map (fun d => d.parameters.length) = some 1 := by decide +kernel
def rmX1_isRow (mc ms : Nat) : Room := { frames := 3, cells := mc, slots := ms, locals := 60 }
set_option maxHeartbeats 4000000 in
theorem mX1_isRow (l : Launch) (G : GT) (u : Hp) (a0 : Nat) (x1 : Int32) (K : Int32 → Prop) (h : pX1_isRow u a0 x1 K) : Met l yX1_isRow (ws_ yX1_isRow cX1_isRow 2 (some .boolean)) (rmX1_isRow 0 0) (va_Pc [.ref a0, .int x1] (GB G u)) (va_Qi (fun r v => v = u ∧ K r) (fun u t => GH G u t.heap) (GA G)) 0 0 (GA G) := by
  refine Met.ofW (cc := cX1_isRow) (maxL := 2) (ret := (some .boolean)) (by decide) rfl ?_
  intro p e s m args below meth c s₁ B hml hv
  obtain ⟨rfl, hv⟩ := hv
  have X := Mc_of (own := RX1) B hml rfl hv
  have hw : GW G u s s.heap [] := ⟨hv.2.1, va_S.rf⟩
  have hr := B.returns
  obtain ⟨hx, hb, hml, hown, hts, -⟩ := id X
  have hl := lv_entry ([.ref a0, .int x1]) (n := 2) (Nat.le_of_ble_eq_true rfl)
  rw [lg_entry_eq]
  generalize (lg_sl ([.ref a0, .int x1]) ++ List.replicate (2 - (lg_sl ([.ref a0, .int x1])).length) Slot.unset).toArray = ls at hl ⊢
  have hl : lv_has ls 2 [(0, .ref a0), (1, .int x1)] := hl
  change W p l e (rmX1_isRow 0 0) s m _ below meth c s.heap [] 0 0 (QI G below (fun r v => v = u ∧ K r) _ s 0 0) (F0 m 0 ls [])
  unfold pX1_isRow at h
  refine lv_aload_n hx hb dX1_isRow_0 rfl (lv_at hl 0 rfl) ?_
  have hk_1 : kd u a0 = 1 := h.1
  have h := h.2
  refine g_getO X hw in_X1 hk_1 rfl 3 rfl (by decide) q476 (fun _ z => z) dX1_isRow_1 ?_
  refine g_ifnull X dX1_isRow_4 rfl (fun e_3 => ?_) (fun b_2 e_3 => ?_)
  · have h := h.1 e_3
    refine lv_iconst (v := 0) hx hb dX1_isRow_25 (by decide) ?_
    exact g_zret X hw hr rfl ⟨rfl, h⟩ (Nat.le_refl _) (Nat.le_refl _) dX1_isRow_26
  · have h := h.2 b_2 e_3
    refine lv_iload_n hx hb dX1_isRow_7 rfl (lv_at hl 1 rfl) ?_
    refine lv_iconst (v := 0) hx hb dX1_isRow_8 (by decide) ?_
    refine lv_aload_n hx hb dX1_isRow_9 rfl (lv_at hl 0 rfl) ?_
    refine g_callio hw (g_V X hw (mX1_rowMany l G _ _ _ h) 0 (lw_V q1009 q1011 qs24 q122 q1012) rfl rfl ydX1_rowMany ⟨Nat.le_of_ble_eq_true rfl, Nat.le_of_ble_eq_true rfl⟩ (g_recv X hw (ci := 0) (q := (RX1, TX1, 16)) hk_1 rfl) (As := []) (rest := [.int 0, .int x1]) rfl hl.1 rfl (Nat.le_of_ble_eq_true rfl) dX1_isRow_10 ⟨Nat.le_refl _, Nat.le_refl _⟩) (fun r_4 H locs h hw => ?_)
    refine lv_iconst (v := 1) hx hb dX1_isRow_13 (by decide) ?_
    refine lv_isub hx hb dX1_isRow_14 ?_
    refine g_callio hw (g_S X hw (mX1_in l G _ _ _ _ _ h) 3 (lw_S q539 q540 q122 q541) rfl rfl ydX1_in ⟨Nat.le_of_ble_eq_true rfl, Nat.le_of_ble_eq_true rfl⟩ (As := [.int x1, .int 0, .int (r_4 - 1)]) (rest := []) rfl hl.1 rfl (Nat.le_of_ble_eq_true rfl) dX1_isRow_15 ⟨Nat.le_refl _, Nat.le_refl _⟩) (fun r_5 H locs h hw => ?_)
    refine lv_if_eq (tgt := 25) hx hb dX1_isRow_18 rfl (fun c_6 => ?_) (fun c_6 => ?_)
    · have h := h.1 c_6
      refine lv_iconst (v := 0) hx hb dX1_isRow_25 (by decide) ?_
      exact g_zret X hw hr rfl ⟨rfl, h⟩ (Nat.le_refl _) (Nat.le_refl _) dX1_isRow_26
    · have h := h.2 c_6
      refine lv_iconst (v := 1) hx hb dX1_isRow_21 (by decide) ?_
      refine lv_goto (tgt := 26) hx hb dX1_isRow_22 rfl ?_
      exact g_zret X hw hr rfl ⟨rfl, h⟩ (Nat.le_refl _) (Nat.le_refl _) dX1_isRow_26

/-! FifthCard.row(II)I -/
theorem ydX1_row : yX1_row.cls = "FifthCard" ∧ yX1_row.cls ≠ "java/lang/invoke/MethodHandle" ∧ yX1_row.cls ≠ "java/lang/invoke/VarHandle" ∧ (parseMethodDescriptor yX1_row.desc).map (fun d => d.parameters.length) = some 2 := by decide +kernel
def rmX1_row (mc ms : Nat) : Room := { frames := 4, cells := mc, slots := ms, locals := 81 }
set_option maxHeartbeats 4000000 in
theorem mX1_row (l : Launch) (G : GT) (u : Hp) (a0 : Nat) (x1 : Int32) (x2 : Int32) (K : Int32 → Hp → Prop) (h : pX1_row u a0 x1 x2 K) : Met l yX1_row (ws_ yX1_row cX1_row 3 (some .int)) (rmX1_row 0 0) (va_Pc [.ref a0, .int x1, .int x2] (GB G u)) (va_Qi K (fun u t => GH G u t.heap) (GA G)) 0 0 (GA G) := by
  refine Met.ofW (cc := cX1_row) (maxL := 3) (ret := (some .int)) (by decide) rfl ?_
  intro p e s m args below meth c s₁ B hml hv
  obtain ⟨rfl, hv⟩ := hv
  have X := Mc_of (own := RX1) B hml rfl hv
  have hw : GW G u s s.heap [] := ⟨hv.2.1, va_S.rf⟩
  have hr := B.returns
  obtain ⟨hx, hb, hml, hown, hts, -⟩ := id X
  have hl := lv_entry ([.ref a0, .int x1, .int x2]) (n := 3) (Nat.le_of_ble_eq_true rfl)
  rw [lg_entry_eq]
  generalize (lg_sl ([.ref a0, .int x1, .int x2]) ++ List.replicate (3 - (lg_sl ([.ref a0, .int x1, .int x2])).length) Slot.unset).toArray = ls at hl ⊢
  have hl : lv_has ls 3 [(0, .ref a0), (1, .int x1), (2, .int x2)] := hl
  change W p l e (rmX1_row 0 0) s m _ below meth c s.heap [] 0 0 (QI G below K _ s 0 0) (F0 m 0 ls [])
  unfold pX1_row at h
  refine lv_aload_n hx hb dX1_row_0 rfl (lv_at hl 0 rfl) ?_
  have hk_1 : kd u a0 = 1 := h.1
  have h := h.2
  refine g_callv hw (g_V X hw (mX1_anew l G _ _ _ h) 0 (lw_V q535 q537 qs2 q122 q538) rfl rfl ydX1_anew ⟨Nat.le_of_ble_eq_true rfl, Nat.le_of_ble_eq_true rfl⟩ (g_recv X hw (ci := 0) (q := (RX1, TX1, 16)) hk_1 rfl) (As := []) (rest := []) rfl hl.1 rfl (Nat.le_of_ble_eq_true rfl) dX1_row_1 ⟨Nat.le_refl _, Nat.le_refl _⟩) (fun u_2 H locs h hw => ?_)
  refine lv_aload_n hx hb dX1_row_4 rfl (lv_at hl 0 rfl) ?_
  refine lv_iload_n hx hb dX1_row_5 rfl (lv_at hl 1 rfl) ?_
  have hk_3 : kd u_2 a0 = 1 := h.1
  have h := h.2
  refine g_callio hw (g_V X hw (mX1_isRow l G _ _ _ _ h) 1 (lw_V q1045 q1047 qs27 q122 q1048) rfl rfl ydX1_isRow ⟨Nat.le_of_ble_eq_true rfl, Nat.le_of_ble_eq_true rfl⟩ (g_recv X hw (ci := 0) (q := (RX1, TX1, 16)) hk_3 rfl) (As := [.int x1]) (rest := []) rfl hl.1 rfl (Nat.le_of_ble_eq_true rfl) dX1_row_6 ⟨Nat.le_refl _, Nat.le_refl _⟩) (fun r_4 H locs h hw => ?_)
  refine lv_if_eq (tgt := 29) hx hb dX1_row_9 rfl (fun c_24 => ?_) (fun c_24 => ?_)
  · have h := h.1 c_24
    refine lv_aload_n hx hb dX1_row_29 rfl (lv_at hl 0 rfl) ?_
    refine lv_iconst (v := 1) hx hb dX1_row_30 (by decide) ?_
    refine g_calli hw (g_V X hw (mX1_no l G _ _ _ _ h) 1 (lw_V q542 q544 qs3 q122 q545) rfl rfl ydX1_no ⟨Nat.le_of_ble_eq_true rfl, Nat.le_of_ble_eq_true rfl⟩ (g_recv X hw (ci := 0) (q := (RX1, TX1, 16)) hk_3 rfl) (As := [.int 1]) (rest := []) rfl hl.1 rfl (Nat.le_of_ble_eq_true rfl) dX1_row_31 ⟨Nat.le_refl _, Nat.le_refl _⟩) (fun r_5 u_6 H locs h hw => ?_)
    exact g_iret X hw hr h (Nat.le_refl _) (Nat.le_refl _) dX1_row_34
  · have h := h.2 c_24
    refine lv_iload_n hx hb dX1_row_12 rfl (lv_at hl 2 rfl) ?_
    refine lv_iconst (v := 0) hx hb dX1_row_13 (by decide) ?_
    refine lv_aload_n hx hb dX1_row_14 rfl (lv_at hl 0 rfl) ?_
    obtain ⟨b_7, e_8, h⟩ := h
    refine g_getR X hw in_X1 hk_3 rfl 3 rfl (by decide) q476 (fun _ z => z) e_8 dX1_row_15 ?_
    have hk_9 : kd u_2 b_7 = 17 := h.1
    have h := h.2
    refine g_callio hw (g_V X hw (mX20_rows l G _ _ _ h) 0 (lw_V q1013 q950 q951 q144 q952) rfl rfl ydX20_rows ⟨Nat.le_of_ble_eq_true rfl, Nat.le_of_ble_eq_true rfl⟩ (g_recv X hw (ci := 16) (q := (RX20, TX20, 13)) hk_9 rfl) (As := []) (rest := [.int 0, .int x2]) rfl hl.1 rfl (Nat.le_of_ble_eq_true rfl) dX1_row_18 ⟨Nat.le_refl _, Nat.le_refl _⟩) (fun r_10 H locs h hw => ?_)
    refine lv_iconst (v := 1) hx hb dX1_row_21 (by decide) ?_
    refine lv_isub hx hb dX1_row_22 ?_
    refine g_callio hw (g_S X hw (mX1_in l G _ _ _ _ _ h) 3 (lw_S q539 q540 q122 q541) rfl rfl ydX1_in ⟨Nat.le_of_ble_eq_true rfl, Nat.le_of_ble_eq_true rfl⟩ (As := [.int x2, .int 0, .int (r_10 - 1)]) (rest := []) rfl hl.1 rfl (Nat.le_of_ble_eq_true rfl) dX1_row_23 ⟨Nat.le_refl _, Nat.le_refl _⟩) (fun r_11 H locs h hw => ?_)
    refine lv_if_ne (tgt := 35) hx hb dX1_row_26 rfl (fun c_23 => ?_) (fun c_23 => ?_)
    · have h := h.2 c_23
      refine lv_aload_n hx hb dX1_row_35 rfl (lv_at hl 0 rfl) ?_
      refine g_getR X hw in_X1 hk_3 rfl 3 rfl (by decide) q476 (fun _ z => z) e_8 dX1_row_36 ?_
      refine lv_iload_n hx hb dX1_row_39 rfl (lv_at hl 1 rfl) ?_
      refine lv_aload_n hx hb dX1_row_40 rfl (lv_at hl 0 rfl) ?_
      refine g_getR X hw in_X1 hk_3 rfl 3 rfl (by decide) q476 (fun _ z => z) e_8 dX1_row_41 ?_
      refine g_callio hw (g_V X hw (mX20_tiltings l G _ _ _ h) 0 (lw_V q1014 q954 q955 q144 q956) rfl rfl ydX20_tiltings ⟨Nat.le_of_ble_eq_true rfl, Nat.le_of_ble_eq_true rfl⟩ (g_recv X hw (ci := 16) (q := (RX20, TX20, 13)) hk_9 rfl) (As := []) (rest := [.int x1, .ref b_7]) rfl hl.1 rfl (Nat.le_of_ble_eq_true rfl) dX1_row_44 ⟨Nat.le_refl _, Nat.le_refl _⟩) (fun r_12 H locs h hw => ?_)
      refine lv_idiv hx hb dX1_row_47 h.1 ?_
      have h := h.2
      refine lv_aload_n hx hb dX1_row_48 rfl (lv_at hl 0 rfl) ?_
      refine g_getR X hw in_X1 hk_3 rfl 3 rfl (by decide) q476 (fun _ z => z) e_8 dX1_row_49 ?_
      refine g_callio hw (g_V X hw (mX20_rows l G _ _ _ h) 0 (lw_V q1013 q950 q951 q144 q952) rfl rfl ydX20_rows ⟨Nat.le_of_ble_eq_true rfl, Nat.le_of_ble_eq_true rfl⟩ (g_recv X hw (ci := 16) (q := (RX20, TX20, 13)) hk_9 rfl) (As := []) (rest := [.int (x1 / r_12), .ref b_7]) rfl hl.1 rfl (Nat.le_of_ble_eq_true rfl) dX1_row_52 ⟨Nat.le_refl _, Nat.le_refl _⟩) (fun r_13 H locs h hw => ?_)
      refine lv_aload_n hx hb dX1_row_55 rfl (lv_at hl 0 rfl) ?_
      obtain ⟨b_14, e_15, h⟩ := h
      refine g_getR X hw in_X1 hk_3 rfl 14 rfl (by decide) q487 (fun _ z => z) e_15 dX1_row_56 ?_
      refine g_callv hw (g_V X hw (mX20_unrank l G _ _ _ _ _ _ h) 3 (lw_V q1049 q973 q974 q144 q975) rfl rfl ydX20_unrank ⟨Nat.le_of_ble_eq_true rfl, Nat.le_of_ble_eq_true rfl⟩ (g_recv X hw (ci := 16) (q := (RX20, TX20, 13)) hk_9 rfl) (As := [.int (x1 / r_12), .int r_13, .ref b_14]) (rest := []) rfl hl.1 rfl (Nat.le_of_ble_eq_true rfl) dX1_row_59 ⟨Nat.le_refl _, Nat.le_refl _⟩) (fun u_16 H locs h hw => ?_)
      refine lv_aload_n hx hb dX1_row_62 rfl (lv_at hl 0 rfl) ?_
      have hk_17 : kd u_16 a0 = 1 := h.1
      have h := h.2
      obtain ⟨b_18, e_19, h⟩ := h
      refine g_getR X hw in_X1 hk_17 rfl 14 rfl (by decide) q487 (fun _ z => z) e_19 dX1_row_63 ?_
      refine lv_iload_n hx hb dX1_row_66 rfl (lv_at hl 2 rfl) ?_
      have hk_20 : kd u_16 b_18 = 101 := h.1
      have h := h.2
      refine g_iald X hw hk_20 h.1 dX1_row_67 ?_
      have h := h.2
      exact g_iret X hw hr h (Nat.le_refl _) (Nat.le_refl _) dX1_row_68
    · have h := h.1 c_23
      refine lv_aload_n hx hb dX1_row_29 rfl (lv_at hl 0 rfl) ?_
      refine lv_iconst (v := 1) hx hb dX1_row_30 (by decide) ?_
      refine g_calli hw (g_V X hw (mX1_no l G _ _ _ _ h) 1 (lw_V q542 q544 qs3 q122 q545) rfl rfl ydX1_no ⟨Nat.le_of_ble_eq_true rfl, Nat.le_of_ble_eq_true rfl⟩ (g_recv X hw (ci := 0) (q := (RX1, TX1, 16)) hk_3 rfl) (As := [.int 1]) (rest := []) rfl hl.1 rfl (Nat.le_of_ble_eq_true rfl) dX1_row_31 ⟨Nat.le_refl _, Nat.le_refl _⟩) (fun r_21 u_22 H locs h hw => ?_)
      exact g_iret X hw hr h (Nat.le_refl _) (Nat.le_refl _) dX1_row_34

/-! FifthCardModel.isRow(I)Z -/
theorem ydX19_isRow : yX19_isRow.cls = "FifthCardModel" ∧ yX19_isRow.cls ≠ "java/lang/invoke/MethodHandle" ∧ yX19_isRow.cls ≠ "java/lang/invoke/VarHandle" ∧ (parseMethodDescriptor yX19_isRow.desc).map (fun d => d.parameters.length) = some 1 := by decide +kernel
def rmX19_isRow (mc ms : Nat) : Room := { frames := 2, cells := mc, slots := ms, locals := 44 }
set_option maxHeartbeats 4000000 in
theorem mX19_isRow (l : Launch) (G : GT) (u : Hp) (a0 : Nat) (x1 : Int32) (K : Int32 → Prop) (h : pX19_isRow u a0 x1 K) : Met l yX19_isRow (ws_ yX19_isRow cX19_isRow 2 (some .boolean)) (rmX19_isRow 0 0) (va_Pc [.ref a0, .int x1] (GB G u)) (va_Qi (fun r v => v = u ∧ K r) (fun u t => GH G u t.heap) (GA G)) 0 0 (GA G) := by
  refine Met.ofW (cc := cX19_isRow) (maxL := 2) (ret := (some .boolean)) (by decide) rfl ?_
  intro p e s m args below meth c s₁ B hml hv
  obtain ⟨rfl, hv⟩ := hv
  have X := Mc_of (own := RX19) B hml rfl hv
  have hw : GW G u s s.heap [] := ⟨hv.2.1, va_S.rf⟩
  have hr := B.returns
  obtain ⟨hx, hb, hml, hown, hts, -⟩ := id X
  have hl := lv_entry ([.ref a0, .int x1]) (n := 2) (Nat.le_of_ble_eq_true rfl)
  rw [lg_entry_eq]
  generalize (lg_sl ([.ref a0, .int x1]) ++ List.replicate (2 - (lg_sl ([.ref a0, .int x1])).length) Slot.unset).toArray = ls at hl ⊢
  have hl : lv_has ls 2 [(0, .ref a0), (1, .int x1)] := hl
  change W p l e (rmX19_isRow 0 0) s m _ below meth c s.heap [] 0 0 (QI G below (fun r v => v = u ∧ K r) _ s 0 0) (F0 m 0 ls [])
  unfold pX19_isRow at h
  refine lv_aload_n hx hb dX19_isRow_0 rfl (lv_at hl 0 rfl) ?_
  have hk_1 : kd u a0 = 16 := h.1
  have h := h.2
  refine g_getO X hw in_X19 hk_1 rfl 3 rfl (by decide) q1454 (fun _ z => z) dX19_isRow_1 ?_
  refine g_ifnull X dX19_isRow_4 rfl (fun e_3 => ?_) (fun b_2 e_3 => ?_)
  · have h := h.1 e_3
    refine lv_iconst (v := 0) hx hb dX19_isRow_23 (by decide) ?_
    exact g_zret X hw hr rfl ⟨rfl, h⟩ (Nat.le_refl _) (Nat.le_refl _) dX19_isRow_24
  · have h := h.2 b_2 e_3
    refine lv_iload_n hx hb dX19_isRow_7 rfl (lv_at hl 1 rfl) ?_
    refine lv_if_lt (tgt := 23) hx hb dX19_isRow_8 rfl (fun c_6 => ?_) (fun c_6 => ?_)
    · have h := h.1 c_6
      refine lv_iconst (v := 0) hx hb dX19_isRow_23 (by decide) ?_
      exact g_zret X hw hr rfl ⟨rfl, h⟩ (Nat.le_refl _) (Nat.le_refl _) dX19_isRow_24
    · have h := h.2 c_6
      refine lv_iload_n hx hb dX19_isRow_11 rfl (lv_at hl 1 rfl) ?_
      refine lv_aload_n hx hb dX19_isRow_12 rfl (lv_at hl 0 rfl) ?_
      refine g_callio hw (g_V X hw (mX19_rowMany l G _ _ _ h) 0 (lw_V q1887 q1889 qs78 q143 q1890) rfl rfl ydX19_rowMany ⟨Nat.le_of_ble_eq_true rfl, Nat.le_of_ble_eq_true rfl⟩ (g_recv X hw (ci := 15) (q := (RX19, TX19, 46)) hk_1 rfl) (As := []) (rest := [.int x1]) rfl hl.1 rfl (Nat.le_of_ble_eq_true rfl) dX19_isRow_13 ⟨Nat.le_refl _, Nat.le_refl _⟩) (fun r_4 H locs h hw => ?_)
      refine lv_icmp_ge (tgt := 23) hx hb dX19_isRow_16 rfl (fun c_5 => ?_) (fun c_5 => ?_)
      · have h := h.1 c_5
        refine lv_iconst (v := 0) hx hb dX19_isRow_23 (by decide) ?_
        exact g_zret X hw hr rfl ⟨rfl, h⟩ (Nat.le_refl _) (Nat.le_refl _) dX19_isRow_24
      · have h := h.2 c_5
        refine lv_iconst (v := 1) hx hb dX19_isRow_19 (by decide) ?_
        refine lv_goto (tgt := 24) hx hb dX19_isRow_20 rfl ?_
        exact g_zret X hw hr rfl ⟨rfl, h⟩ (Nat.le_refl _) (Nat.le_refl _) dX19_isRow_24

/-! FifthCardModel.rowCards(I[I)V -/
theorem ydX19_rowCards : yX19_rowCards.cls = "FifthCardModel" ∧ yX19_rowCards.cls ≠ "java/lang/invoke/MethodHandle" ∧ yX19_rowCards.cls ≠ "java/lang/invoke/VarHandle" ∧ (parseMethodDescriptor yX19_rowCards.desc).map (fun d => d.parameters.length) = some 2 := by decide +kernel
def rmX19_rowCards (mc ms : Nat) : Room := { frames := 1, cells := mc, slots := ms, locals := 20 }
set_option maxHeartbeats 4000000 in
theorem wX19_rowCards_96 {G : GT} {p : Program} {l : Launch} {e : Env} {s : State} {m : MethodId} {args : Array Value} {below : List Frame} {meth : Method} {c : Code} {H : Heap} {locs : List Loc} {ls : Array Slot} {a0 : Nat} {a2 : Nat} {a4 : Nat} {x5 : Int32} {x6 : Int32} {u : Hp} {x7 : Int32} {x8 : Int32} {K : Hp → Prop} {J74 : Int32 → Int32 → Hp → Prop} (X : Mc G p s m args meth c RX19 cX19_rowCards 9) (hr : meth.sig.returnType = none) (hJ74 : ∀ (x5 : Int32) (x6 : Int32) (u : Hp) (H : Heap) (locs : List Loc) (ls : Array Slot) , J74 x5 x6 u → GW G u s H locs → lv_has ls 9 [(0, .ref a0), (2, .ref a2), (4, .ref a4), (5, .int x5), (6, .int x6)] → W p l e (rmX19_rowCards 0 0) s m args below meth c H locs 0 0 (QV G below K args s 0 0) (F0 m 74 ls [])) (h : jl2 (bX19_rowCards_96 K J74 a0 a2 a4 x5 x6 u) x7 x8) (hw : GW G u s H locs) (hl : lv_has ls 9 [(0, .ref a0), (2, .ref a2), (4, .ref a4), (5, .int x5), (6, .int x6), (7, .int x7), (8, .int x8)]) : W p l e (rmX19_rowCards 0 0) s m args below meth c H locs 0 0 (QV G below K args s 0 0) (F0 m 96 ls []) := by
  obtain ⟨hx, hb, hml, hown, hts, -⟩ := id X
  obtain ⟨I, μ, h0, hs⟩ := h
  have key : ∀ (n : Nat) (x7 : Int32) (x8 : Int32) (H : Heap) (locs : List Loc) (ls : Array Slot) , μ x7 x8 < n → I x7 x8 → GW G u s H locs → lv_has ls 9 [(0, .ref a0), (2, .ref a2), (4, .ref a4), (5, .int x5), (6, .int x6), (7, .int x7), (8, .int x8)] → W p l e (rmX19_rowCards 0 0) s m args below meth c H locs 0 0 (QV G below K args s 0 0) (F0 m 96 ls []) := by
    intro n
    induction n with
    | zero =>
      intro x7 x8 H locs ls hn
      exact absurd hn (Nat.not_lt_zero _)
    | succ n ih =>
      intro x7 x8 H locs ls hn hI hw hl
      have h := hs x7 x8 hI
      unfold bX19_rowCards_96 at h
      have hJ96 : ∀ (x7' : Int32) (x8' : Int32) (H : Heap) (locs : List Loc) (ls : Array Slot) , (I x7' x8' ∧ μ x7' x8' < μ x7 x8) → GW G u s H locs → lv_has ls 9 [(0, .ref a0), (2, .ref a2), (4, .ref a4), (5, .int x5), (6, .int x6), (7, .int x7'), (8, .int x8')] → W p l e (rmX19_rowCards 0 0) s m args below meth c H locs 0 0 (QV G below K args s 0 0) (F0 m 96 ls []) := fun x7' x8' H locs ls h hw hl => ih x7' x8' H locs ls (Nat.lt_of_lt_of_le h.2 (Nat.le_of_lt_succ hn)) h.1 hw hl
      refine lv_iload hx hb dX19_rowCards_96 (lv_at hl 3 rfl) ?_
      refine lv_iload hx hb dX19_rowCards_98 (lv_at hl 5 rfl) ?_
      refine lv_ishr hx hb dX19_rowCards_100 ?_
      refine lv_iconst (v := 1) hx hb dX19_rowCards_101 (by decide) ?_
      refine lv_iand hx hb dX19_rowCards_102 ?_
      refine lv_iconst (v := 1) hx hb dX19_rowCards_103 (by decide) ?_
      refine lv_icmp_eq (tgt := 112) hx hb dX19_rowCards_104 rfl (fun c_5 => ?_) (fun c_5 => ?_)
      · have h := h.1 c_5
        refine lv_iload hx hb dX19_rowCards_112 (lv_at hl 3 rfl) ?_
        refine lv_iload hx hb dX19_rowCards_114 (lv_at hl 5 rfl) ?_
        refine lv_ishr hx hb dX19_rowCards_116 ?_
        refine lv_iconst (v := 1) hx hb dX19_rowCards_117 (by decide) ?_
        refine lv_iand hx hb dX19_rowCards_118 ?_
        refine lv_if_ne (tgt := 125) hx hb dX19_rowCards_119 rfl (fun c_1 => ?_) (fun c_1 => ?_)
        · have h := h.2 c_1
          refine lv_iinc (v := x7 + 1) (lv' := [(7, .int (x7 + 1)), (0, .ref a0), (2, .ref a2), (4, .ref a4), (5, .int x5), (6, .int x6), (8, .int x8)]) hx hb dX19_rowCards_125 hl (k := 5) rfl rfl (by decide) rfl (fun ls hl => ?_)
          refine lv_goto (tgt := 96) hx hb dX19_rowCards_128 rfl ?_
          exact hJ96 _ _ _ _ _ h hw (lv_sub hl [1, 2, 3, 4, 5, 0, 6] rfl)
        · have h := h.1 c_1
          refine lv_iinc (v := x8 + (-1)) (lv' := [(8, .int (x8 + (-1))), (0, .ref a0), (2, .ref a2), (4, .ref a4), (5, .int x5), (6, .int x6), (7, .int x7)]) hx hb dX19_rowCards_122 hl (k := 6) rfl rfl (by decide) rfl (fun ls hl => ?_)
          refine lv_iinc (v := x7 + 1) (lv' := [(7, .int (x7 + 1)), (8, .int (x8 + (-1))), (0, .ref a0), (2, .ref a2), (4, .ref a4), (5, .int x5), (6, .int x6)]) hx hb dX19_rowCards_125 hl (k := 6) rfl rfl (by decide) rfl (fun ls hl => ?_)
          refine lv_goto (tgt := 96) hx hb dX19_rowCards_128 rfl ?_
          exact hJ96 _ _ _ _ _ h hw (lv_sub hl [2, 3, 4, 5, 6, 0, 1] rfl)
      · have h := h.2 c_5
        refine lv_iload hx hb dX19_rowCards_107 (lv_at hl 6 rfl) ?_
        refine lv_if_le (tgt := 131) hx hb dX19_rowCards_109 rfl (fun c_4 => ?_) (fun c_4 => ?_)
        · have h := h.1 c_4
          refine lv_iload hx hb dX19_rowCards_131 (lv_at hl 3 rfl) ?_
          refine lv_iconst (v := 1) hx hb dX19_rowCards_133 (by decide) ?_
          refine lv_iload hx hb dX19_rowCards_134 (lv_at hl 5 rfl) ?_
          refine lv_ishl hx hb dX19_rowCards_136 ?_
          refine lv_ior hx hb dX19_rowCards_137 ?_
          refine lv_istore (lv' := [(5, .int (x5 ||| (jshl 1 x7))), (0, .ref a0), (2, .ref a2), (4, .ref a4), (6, .int x6), (7, .int x7), (8, .int x8)]) hx hb dX19_rowCards_138 hl (by decide) rfl (fun ls hl => ?_)
          refine lv_aload_n hx hb dX19_rowCards_140 rfl (lv_at hl 2 rfl) ?_
          refine lv_iload hx hb dX19_rowCards_141 (lv_at hl 4 rfl) ?_
          refine lv_iload hx hb dX19_rowCards_143 (lv_at hl 5 rfl) ?_
          have hk_2 : kd u a2 = 101 := h.1
          have h := h.2
          refine g_iast X hw hk_2 h.1 dX19_rowCards_145 (fun H locs hw => ?_)
          have h := h.2
          refine lv_iinc (v := x6 + 1) (lv' := [(6, .int (x6 + 1)), (5, .int (x5 ||| (jshl 1 x7))), (0, .ref a0), (2, .ref a2), (4, .ref a4), (7, .int x7), (8, .int x8)]) hx hb dX19_rowCards_146 hl (k := 4) rfl rfl (by decide) rfl (fun ls hl => ?_)
          refine lv_goto (tgt := 74) hx hb dX19_rowCards_149 rfl ?_
          exact hJ74 _ _ _ _ _ _ h hw (lv_sub hl [2, 3, 4, 1, 0] rfl)
        · have h := h.2 c_4
          refine lv_iload hx hb dX19_rowCards_112 (lv_at hl 3 rfl) ?_
          refine lv_iload hx hb dX19_rowCards_114 (lv_at hl 5 rfl) ?_
          refine lv_ishr hx hb dX19_rowCards_116 ?_
          refine lv_iconst (v := 1) hx hb dX19_rowCards_117 (by decide) ?_
          refine lv_iand hx hb dX19_rowCards_118 ?_
          refine lv_if_ne (tgt := 125) hx hb dX19_rowCards_119 rfl (fun c_3 => ?_) (fun c_3 => ?_)
          · have h := h.2 c_3
            refine lv_iinc (v := x7 + 1) (lv' := [(7, .int (x7 + 1)), (0, .ref a0), (2, .ref a2), (4, .ref a4), (5, .int x5), (6, .int x6), (8, .int x8)]) hx hb dX19_rowCards_125 hl (k := 5) rfl rfl (by decide) rfl (fun ls hl => ?_)
            refine lv_goto (tgt := 96) hx hb dX19_rowCards_128 rfl ?_
            exact hJ96 _ _ _ _ _ h hw (lv_sub hl [1, 2, 3, 4, 5, 0, 6] rfl)
          · have h := h.1 c_3
            refine lv_iinc (v := x8 + (-1)) (lv' := [(8, .int (x8 + (-1))), (0, .ref a0), (2, .ref a2), (4, .ref a4), (5, .int x5), (6, .int x6), (7, .int x7)]) hx hb dX19_rowCards_122 hl (k := 6) rfl rfl (by decide) rfl (fun ls hl => ?_)
            refine lv_iinc (v := x7 + 1) (lv' := [(7, .int (x7 + 1)), (8, .int (x8 + (-1))), (0, .ref a0), (2, .ref a2), (4, .ref a4), (5, .int x5), (6, .int x6)]) hx hb dX19_rowCards_125 hl (k := 6) rfl rfl (by decide) rfl (fun ls hl => ?_)
            refine lv_goto (tgt := 96) hx hb dX19_rowCards_128 rfl ?_
            exact hJ96 _ _ _ _ _ h hw (lv_sub hl [2, 3, 4, 5, 6, 0, 1] rfl)
  exact key _ _ _ _ _ _ (Nat.lt_succ_self _) h0 hw hl
set_option maxHeartbeats 4000000 in
theorem wX19_rowCards_74 {G : GT} {p : Program} {l : Launch} {e : Env} {s : State} {m : MethodId} {args : Array Value} {below : List Frame} {meth : Method} {c : Code} {H : Heap} {locs : List Loc} {ls : Array Slot} {a0 : Nat} {a2 : Nat} {a4 : Nat} {x5 : Int32} {x6 : Int32} {u : Hp} {K : Hp → Prop} (X : Mc G p s m args meth c RX19 cX19_rowCards 9) (hr : meth.sig.returnType = none) (h : jl3 (bX19_rowCards_74 K a0 a2 a4) x5 x6 u) (hw : GW G u s H locs) (hl : lv_has ls 9 [(0, .ref a0), (2, .ref a2), (4, .ref a4), (5, .int x5), (6, .int x6)]) : W p l e (rmX19_rowCards 0 0) s m args below meth c H locs 0 0 (QV G below K args s 0 0) (F0 m 74 ls []) := by
  obtain ⟨hx, hb, hml, hown, hts, -⟩ := id X
  obtain ⟨I, μ, h0, hs⟩ := h
  have key : ∀ (n : Nat) (x5 : Int32) (x6 : Int32) (u : Hp) (H : Heap) (locs : List Loc) (ls : Array Slot) , μ x5 x6 u < n → I x5 x6 u → GW G u s H locs → lv_has ls 9 [(0, .ref a0), (2, .ref a2), (4, .ref a4), (5, .int x5), (6, .int x6)] → W p l e (rmX19_rowCards 0 0) s m args below meth c H locs 0 0 (QV G below K args s 0 0) (F0 m 74 ls []) := by
    intro n
    induction n with
    | zero =>
      intro x5 x6 u H locs ls hn
      exact absurd hn (Nat.not_lt_zero _)
    | succ n ih =>
      intro x5 x6 u H locs ls hn hI hw hl
      have h := hs x5 x6 u hI
      unfold bX19_rowCards_74 at h
      have hJ74 : ∀ (x5' : Int32) (x6' : Int32) (u' : Hp) (H : Heap) (locs : List Loc) (ls : Array Slot) , (I x5' x6' u' ∧ μ x5' x6' u' < μ x5 x6 u) → GW G u' s H locs → lv_has ls 9 [(0, .ref a0), (2, .ref a2), (4, .ref a4), (5, .int x5'), (6, .int x6')] → W p l e (rmX19_rowCards 0 0) s m args below meth c H locs 0 0 (QV G below K args s 0 0) (F0 m 74 ls []) := fun x5' x6' u' H locs ls h hw hl => ih x5' x6' u' H locs ls (Nat.lt_of_lt_of_le h.2 (Nat.le_of_lt_succ hn)) h.1 hw hl
      refine lv_iload hx hb dX19_rowCards_74 (lv_at hl 4 rfl) ?_
      refine lv_aload_n hx hb dX19_rowCards_76 rfl (lv_at hl 0 rfl) ?_
      have hk_6 : kd u a0 = 16 := h.1
      have h := h.2
      obtain ⟨b_7, e_8, h⟩ := h
      refine g_getR X hw in_X19 hk_6 rfl 3 rfl (by decide) q1454 (fun _ z => z) e_8 dX19_rowCards_77 ?_
      have hk_9 : kd u b_7 = 20 := h.1
      have h := h.2
      refine g_getNI X hw (host := "FifthCardModel") in_X23 hk_9 rfl 4 rfl (by decide) (List.mem_of_getElem? (i := 7) rfl) (fun _ z => z) dX19_rowCards_80 ?_
      refine lv_icmp_ge (tgt := 152) hx hb dX19_rowCards_83 rfl (fun c_11 => ?_) (fun c_11 => ?_)
      · have h := h.1 c_11
        exact g_vret X hw hr h (Nat.le_refl _) (Nat.le_refl _) dX19_rowCards_152
      · have h := h.2 c_11
        refine lv_iconst (v := 0) hx hb dX19_rowCards_86 (by decide) ?_
        refine lv_istore (lv' := [(7, .int 0), (0, .ref a0), (2, .ref a2), (4, .ref a4), (5, .int x5), (6, .int x6)]) hx hb dX19_rowCards_87 hl (by decide) rfl (fun ls hl => ?_)
        refine lv_aload hx hb dX19_rowCards_89 (lv_at hl 3 rfl) ?_
        refine lv_iload hx hb dX19_rowCards_91 (lv_at hl 5 rfl) ?_
        have hk_10 : kd u a4 = 101 := h.1
        have h := h.2
        refine g_iald X hw hk_10 h.1 dX19_rowCards_93 ?_
        have h := h.2
        refine lv_istore (lv' := [(8, .int (AI u a4 (tn x6))), (7, .int 0), (0, .ref a0), (2, .ref a2), (4, .ref a4), (5, .int x5), (6, .int x6)]) hx hb dX19_rowCards_94 hl (by decide) rfl (fun ls hl => ?_)
        exact wX19_rowCards_96 X hr hJ74  h hw (lv_sub hl [2, 3, 4, 5, 6, 1, 0] rfl)
  exact key _ _ _ _ _ _ _ (Nat.lt_succ_self _) h0 hw hl
set_option maxHeartbeats 4000000 in
theorem wX19_rowCards_27 {G : GT} {p : Program} {l : Launch} {e : Env} {s : State} {m : MethodId} {args : Array Value} {below : List Frame} {meth : Method} {c : Code} {H : Heap} {locs : List Loc} {ls : Array Slot} {a0 : Nat} {a2 : Nat} {a4 : Nat} {x3 : Int32} {x5 : Int32} {u : Hp} {K : Hp → Prop} (X : Mc G p s m args meth c RX19 cX19_rowCards 9) (hr : meth.sig.returnType = none) (h : jl3 (bX19_rowCards_27 K a0 a2 a4) x3 x5 u) (hw : GW G u s H locs) (hl : lv_has ls 9 [(0, .ref a0), (2, .ref a2), (3, .int x3), (4, .ref a4), (5, .int x5)]) : W p l e (rmX19_rowCards 0 0) s m args below meth c H locs 0 0 (QV G below K args s 0 0) (F0 m 27 ls []) := by
  obtain ⟨hx, hb, hml, hown, hts, -⟩ := id X
  obtain ⟨I, μ, h0, hs⟩ := h
  have key : ∀ (n : Nat) (x3 : Int32) (x5 : Int32) (u : Hp) (H : Heap) (locs : List Loc) (ls : Array Slot) , μ x3 x5 u < n → I x3 x5 u → GW G u s H locs → lv_has ls 9 [(0, .ref a0), (2, .ref a2), (3, .int x3), (4, .ref a4), (5, .int x5)] → W p l e (rmX19_rowCards 0 0) s m args below meth c H locs 0 0 (QV G below K args s 0 0) (F0 m 27 ls []) := by
    intro n
    induction n with
    | zero =>
      intro x3 x5 u H locs ls hn
      exact absurd hn (Nat.not_lt_zero _)
    | succ n ih =>
      intro x3 x5 u H locs ls hn hI hw hl
      have h := hs x3 x5 u hI
      unfold bX19_rowCards_27 at h
      have hJ27 : ∀ (x3' : Int32) (x5' : Int32) (u' : Hp) (H : Heap) (locs : List Loc) (ls : Array Slot) , (I x3' x5' u' ∧ μ x3' x5' u' < μ x3 x5 u) → GW G u' s H locs → lv_has ls 9 [(0, .ref a0), (2, .ref a2), (3, .int x3'), (4, .ref a4), (5, .int x5')] → W p l e (rmX19_rowCards 0 0) s m args below meth c H locs 0 0 (QV G below K args s 0 0) (F0 m 27 ls []) := fun x3' x5' u' H locs ls h hw hl => ih x3' x5' u' H locs ls (Nat.lt_of_lt_of_le h.2 (Nat.le_of_lt_succ hn)) h.1 hw hl
      refine lv_iload hx hb dX19_rowCards_27 (lv_at hl 4 rfl) ?_
      refine lv_if_lt (tgt := 68) hx hb dX19_rowCards_29 rfl (fun c_17 => ?_) (fun c_17 => ?_)
      · have h := h.1 c_17
        refine lv_iconst (v := 0) hx hb dX19_rowCards_68 (by decide) ?_
        refine lv_istore (lv' := [(5, .int 0), (0, .ref a0), (2, .ref a2), (3, .int x3), (4, .ref a4)]) hx hb dX19_rowCards_69 hl (by decide) rfl (fun ls hl => ?_)
        refine lv_iconst (v := 0) hx hb dX19_rowCards_71 (by decide) ?_
        refine lv_istore (lv' := [(6, .int 0), (5, .int 0), (0, .ref a0), (2, .ref a2), (3, .int x3), (4, .ref a4)]) hx hb dX19_rowCards_72 hl (by decide) rfl (fun ls hl => ?_)
        exact wX19_rowCards_74 X hr  h hw (lv_sub hl [2, 3, 5, 1, 0] rfl)
      · have h := h.2 c_17
        refine lv_aload hx hb dX19_rowCards_32 (lv_at hl 3 rfl) ?_
        refine lv_iload hx hb dX19_rowCards_34 (lv_at hl 4 rfl) ?_
        refine lv_iload_n hx hb dX19_rowCards_36 rfl (lv_at hl 2 rfl) ?_
        refine lv_aload_n hx hb dX19_rowCards_37 rfl (lv_at hl 0 rfl) ?_
        have hk_12 : kd u a0 = 16 := h.1
        have h := h.2
        obtain ⟨b_13, e_14, h⟩ := h
        refine g_getR X hw in_X19 hk_12 rfl 3 rfl (by decide) q1454 (fun _ z => z) e_14 dX19_rowCards_38 ?_
        have hk_15 : kd u b_13 = 20 := h.1
        have h := h.2
        refine g_getNI X hw (host := "FifthCardModel") in_X23 hk_15 rfl 0 rfl (by decide) (List.mem_of_getElem? (i := 0) rfl) (fun _ z => z) dX19_rowCards_41 ?_
        refine lv_iload hx hb dX19_rowCards_44 (lv_at hl 4 rfl) ?_
        refine lv_isub hx hb dX19_rowCards_46 ?_
        refine lv_irem hx hb dX19_rowCards_47 h.1 ?_
        have h := h.2
        have hk_16 : kd u a4 = 101 := h.1
        have h := h.2
        refine g_iast X hw hk_16 h.1 dX19_rowCards_48 (fun H locs hw => ?_)
        have h := h.2
        refine lv_iload_n hx hb dX19_rowCards_49 rfl (lv_at hl 2 rfl) ?_
        refine lv_aload_n hx hb dX19_rowCards_50 rfl (lv_at hl 0 rfl) ?_
        refine g_getR X hw in_X19 hk_12 rfl 3 rfl (by decide) q1454 (fun _ z => z) e_14 dX19_rowCards_51 ?_
        refine g_getNI X hw (host := "FifthCardModel") in_X23 hk_15 rfl 0 rfl (by decide) (List.mem_of_getElem? (i := 0) rfl) (fun _ z => z) dX19_rowCards_54 ?_
        refine lv_iload hx hb dX19_rowCards_57 (lv_at hl 4 rfl) ?_
        refine lv_isub hx hb dX19_rowCards_59 ?_
        refine lv_idiv hx hb dX19_rowCards_60 h.1 ?_
        have h := h.2
        refine lv_istore_n (lv' := [(3, .int (x3 / ((FI u 2300 b_13) - x5))), (0, .ref a0), (2, .ref a2), (4, .ref a4), (5, .int x5)]) hx hb dX19_rowCards_61 rfl hl (by decide) rfl (fun ls hl => ?_)
        refine lv_iinc (v := x5 + (-1)) (lv' := [(5, .int (x5 + (-1))), (3, .int (x3 / ((FI u 2300 b_13) - x5))), (0, .ref a0), (2, .ref a2), (4, .ref a4)]) hx hb dX19_rowCards_62 hl (k := 4) rfl rfl (by decide) rfl (fun ls hl => ?_)
        refine lv_goto (tgt := 27) hx hb dX19_rowCards_65 rfl ?_
        exact hJ27 _ _ _ _ _ _ h hw (lv_sub hl [2, 3, 1, 4, 0] rfl)
  exact key _ _ _ _ _ _ _ (Nat.lt_succ_self _) h0 hw hl
set_option maxHeartbeats 4000000 in
theorem mX19_rowCards (l : Launch) (G : GT) (u : Hp) (a0 : Nat) (x1 : Int32) (a2 : Nat) (K : Hp → Prop) (h : pX19_rowCards u a0 x1 a2 K) : Met l yX19_rowCards (ws_ yX19_rowCards cX19_rowCards 9 none) (rmX19_rowCards 0 0) (va_Pc [.ref a0, .int x1, .ref a2] (GB G u)) (va_Qv K (fun u t => GH G u t.heap) (GA G)) 0 0 (GA G) := by
  refine Met.ofW (cc := cX19_rowCards) (maxL := 9) (ret := none) (by decide) rfl ?_
  intro p e s m args below meth c s₁ B hml hv
  obtain ⟨rfl, hv⟩ := hv
  have X := Mc_of (own := RX19) B hml rfl hv
  have hw : GW G u s s.heap [] := ⟨hv.2.1, va_S.rf⟩
  have hr := B.returns
  obtain ⟨hx, hb, hml, hown, hts, -⟩ := id X
  have hl := lv_entry ([.ref a0, .int x1, .ref a2]) (n := 9) (Nat.le_of_ble_eq_true rfl)
  rw [lg_entry_eq]
  generalize (lg_sl ([.ref a0, .int x1, .ref a2]) ++ List.replicate (9 - (lg_sl ([.ref a0, .int x1, .ref a2])).length) Slot.unset).toArray = ls at hl ⊢
  have hl : lv_has ls 9 [(0, .ref a0), (1, .int x1), (2, .ref a2)] := hl
  change W p l e (rmX19_rowCards 0 0) s m _ below meth c s.heap [] 0 0 (QV G below K _ s 0 0) (F0 m 0 ls [])
  unfold pX19_rowCards at h
  refine lv_iload_n hx hb dX19_rowCards_0 rfl (lv_at hl 1 rfl) ?_
  refine lv_aload_n hx hb dX19_rowCards_1 rfl (lv_at hl 0 rfl) ?_
  have hk_18 : kd u a0 = 16 := h.1
  have h := h.2
  obtain ⟨b_19, e_20, h⟩ := h
  refine g_getR X hw in_X19 hk_18 rfl 3 rfl (by decide) q1454 (fun _ z => z) e_20 dX19_rowCards_2 ?_
  have hk_21 : kd u b_19 = 20 := h.1
  have h := h.2
  refine g_callio hw (g_V X hw (mX23_tilts l G _ _ _ h) 0 (lw_V q1863 q1864 q1865 q153 q1866) rfl rfl ydX23_tilts ⟨Nat.le_of_ble_eq_true rfl, Nat.le_of_ble_eq_true rfl⟩ (g_recv X hw (ci := 19) (q := (RX23, TX23, 15)) hk_21 rfl) (As := []) (rest := [.int x1]) rfl hl.1 rfl (Nat.le_of_ble_eq_true rfl) dX19_rowCards_5 ⟨Nat.le_refl _, Nat.le_refl _⟩) (fun r_22 H locs h hw => ?_)
  refine lv_idiv hx hb dX19_rowCards_8 h.1 ?_
  have h := h.2
  refine lv_istore_n (lv' := [(3, .int (x1 / r_22)), (0, .ref a0), (1, .int x1), (2, .ref a2)]) hx hb dX19_rowCards_9 rfl hl (by decide) rfl (fun ls hl => ?_)
  refine lv_aload_n hx hb dX19_rowCards_10 rfl (lv_at hl 1 rfl) ?_
  obtain ⟨b_23, e_24, h⟩ := h
  refine g_getR X hw in_X19 hk_18 rfl 20 rfl (by decide) q1471 (fun _ z => z) e_24 dX19_rowCards_11 ?_
  refine lv_astore (lv' := [(4, .ref b_23), (3, .int (x1 / r_22)), (0, .ref a0), (1, .int x1), (2, .ref a2)]) hx hb dX19_rowCards_14 hl (by decide) rfl (fun ls hl => ?_)
  refine lv_aload_n hx hb dX19_rowCards_16 rfl (lv_at hl 2 rfl) ?_
  refine g_getR X hw in_X19 hk_18 rfl 3 rfl (by decide) q1454 (fun _ z => z) e_20 dX19_rowCards_17 ?_
  refine g_getNI X hw (host := "FifthCardModel") in_X23 hk_21 rfl 4 rfl (by decide) (List.mem_of_getElem? (i := 7) rfl) (fun _ z => z) dX19_rowCards_20 ?_
  refine lv_iconst (v := 1) hx hb dX19_rowCards_23 (by decide) ?_
  refine lv_isub hx hb dX19_rowCards_24 ?_
  refine lv_istore (lv' := [(5, .int ((FI u 2304 b_19) - 1)), (4, .ref b_23), (3, .int (x1 / r_22)), (0, .ref a0), (1, .int x1), (2, .ref a2)]) hx hb dX19_rowCards_25 hl (by decide) rfl (fun ls hl => ?_)
  exact wX19_rowCards_27 X hr  h hw (lv_sub hl [3, 5, 2, 1, 0] rfl)

/-! FifthCardModel.row(II)I -/
theorem ydX19_row : yX19_row.cls = "FifthCardModel" ∧ yX19_row.cls ≠ "java/lang/invoke/MethodHandle" ∧ yX19_row.cls ≠ "java/lang/invoke/VarHandle" ∧ (parseMethodDescriptor yX19_row.desc).map (fun d => d.parameters.length) = some 2 := by decide +kernel
def rmX19_row (mc ms : Nat) : Room := { frames := 3, cells := mc, slots := ms, locals := 65 }
set_option maxHeartbeats 4000000 in
theorem mX19_row (l : Launch) (G : GT) (u : Hp) (a0 : Nat) (x1 : Int32) (x2 : Int32) (K : Int32 → Hp → Prop) (h : pX19_row u a0 x1 x2 K) : Met l yX19_row (ws_ yX19_row cX19_row 3 (some .int)) (rmX19_row 0 0) (va_Pc [.ref a0, .int x1, .int x2] (GB G u)) (va_Qi K (fun u t => GH G u t.heap) (GA G)) 0 0 (GA G) := by
  refine Met.ofW (cc := cX19_row) (maxL := 3) (ret := (some .int)) (by decide) rfl ?_
  intro p e s m args below meth c s₁ B hml hv
  obtain ⟨rfl, hv⟩ := hv
  have X := Mc_of (own := RX19) B hml rfl hv
  have hw : GW G u s s.heap [] := ⟨hv.2.1, va_S.rf⟩
  have hr := B.returns
  obtain ⟨hx, hb, hml, hown, hts, -⟩ := id X
  have hl := lv_entry ([.ref a0, .int x1, .int x2]) (n := 3) (Nat.le_of_ble_eq_true rfl)
  rw [lg_entry_eq]
  generalize (lg_sl ([.ref a0, .int x1, .int x2]) ++ List.replicate (3 - (lg_sl ([.ref a0, .int x1, .int x2])).length) Slot.unset).toArray = ls at hl ⊢
  have hl : lv_has ls 3 [(0, .ref a0), (1, .int x1), (2, .int x2)] := hl
  change W p l e (rmX19_row 0 0) s m _ below meth c s.heap [] 0 0 (QI G below K _ s 0 0) (F0 m 0 ls [])
  unfold pX19_row at h
  refine lv_aload_n hx hb dX19_row_0 rfl (lv_at hl 0 rfl) ?_
  refine lv_iconst (v := 0) hx hb dX19_row_1 (by decide) ?_
  have hk_1 : kd u a0 = 16 := h.1
  have h := h.2
  refine g_putI (v := 0) X hw in_X19 tyX19_ok nmX19 hk_1 rfl 0 rfl (by decide) q1451 (fun _ z => z) rfl rfl rfl dX19_row_2 (fun H locs hw => ?_)
  refine lv_aload_n hx hb dX19_row_5 rfl (lv_at hl 0 rfl) ?_
  refine lv_iload_n hx hb dX19_row_6 rfl (lv_at hl 1 rfl) ?_
  refine g_callio hw (g_V X hw (mX19_isRow l G _ _ _ _ h) 1 (lw_V q1907 q1909 qs80 q143 q1910) rfl rfl ydX19_isRow ⟨Nat.le_of_ble_eq_true rfl, Nat.le_of_ble_eq_true rfl⟩ (g_recv X hw (ci := 15) (q := (RX19, TX19, 46)) hk_1 rfl) (As := [.int x1]) (rest := []) rfl hl.1 rfl (Nat.le_of_ble_eq_true rfl) dX19_row_7 ⟨Nat.le_refl _, Nat.le_refl _⟩) (fun r_2 H locs h hw => ?_)
  refine lv_if_eq (tgt := 30) hx hb dX19_row_10 rfl (fun c_21 => ?_) (fun c_21 => ?_)
  · have h := h.1 c_21
    refine lv_aload_n hx hb dX19_row_30 rfl (lv_at hl 0 rfl) ?_
    refine lv_iconst (v := 1) hx hb dX19_row_31 (by decide) ?_
    refine g_calli hw (g_V X hw (mX19_refused l G _ _ _ _ h) 1 (lw_V q1603 q1605 qs47 q143 q1606) rfl rfl ydX19_refused ⟨Nat.le_of_ble_eq_true rfl, Nat.le_of_ble_eq_true rfl⟩ (g_recv X hw (ci := 15) (q := (RX19, TX19, 46)) hk_1 rfl) (As := [.int 1]) (rest := []) rfl hl.1 rfl (Nat.le_of_ble_eq_true rfl) dX19_row_32 ⟨Nat.le_refl _, Nat.le_refl _⟩) (fun r_3 u_4 H locs h hw => ?_)
    exact g_iret X hw hr h (Nat.le_refl _) (Nat.le_refl _) dX19_row_35
  · have h := h.2 c_21
    refine lv_iload_n hx hb dX19_row_13 rfl (lv_at hl 2 rfl) ?_
    refine lv_iconst (v := 0) hx hb dX19_row_14 (by decide) ?_
    refine lv_aload_n hx hb dX19_row_15 rfl (lv_at hl 0 rfl) ?_
    obtain ⟨b_5, e_6, h⟩ := h
    refine g_getR X hw in_X19 hk_1 rfl 3 rfl (by decide) q1454 (fun _ z => z) e_6 dX19_row_16 ?_
    have hk_7 : kd u b_5 = 20 := h.1
    have h := h.2
    refine g_getNI X hw (host := "FifthCardModel") in_X23 hk_7 rfl 4 rfl (by decide) (List.mem_of_getElem? (i := 7) rfl) (fun _ z => z) dX19_row_19 ?_
    refine lv_iconst (v := 1) hx hb dX19_row_22 (by decide) ?_
    refine lv_isub hx hb dX19_row_23 ?_
    refine g_callio hw (g_S X hw (mX19_in l G _ _ _ _ _ h) 3 (lw_S q1749 q1750 q143 q1751) rfl rfl ydX19_in ⟨Nat.le_of_ble_eq_true rfl, Nat.le_of_ble_eq_true rfl⟩ (As := [.int x2, .int 0, .int ((FI (sFI u 1900 a0 0) 2304 b_5) - 1)]) (rest := []) rfl hl.1 rfl (Nat.le_of_ble_eq_true rfl) dX19_row_24 ⟨Nat.le_refl _, Nat.le_refl _⟩) (fun r_8 H locs h hw => ?_)
    refine lv_if_ne (tgt := 36) hx hb dX19_row_27 rfl (fun c_20 => ?_) (fun c_20 => ?_)
    · have h := h.2 c_20
      refine lv_aload_n hx hb dX19_row_36 rfl (lv_at hl 0 rfl) ?_
      refine lv_iload_n hx hb dX19_row_37 rfl (lv_at hl 1 rfl) ?_
      refine lv_aload_n hx hb dX19_row_38 rfl (lv_at hl 0 rfl) ?_
      obtain ⟨b_9, e_10, h⟩ := h
      refine g_getR X hw in_X19 hk_1 rfl 19 rfl (by decide) q1470 (fun _ z => z) e_10 dX19_row_39 ?_
      refine g_callv hw (g_V X hw (mX19_rowCards l G _ _ _ _ _ h) 2 (lw_V q1911 q1913 qs81 q143 q1914) rfl rfl ydX19_rowCards ⟨Nat.le_of_ble_eq_true rfl, Nat.le_of_ble_eq_true rfl⟩ (g_recv X hw (ci := 15) (q := (RX19, TX19, 46)) hk_1 rfl) (As := [.int x1, .ref b_9]) (rest := []) rfl hl.1 rfl (Nat.le_of_ble_eq_true rfl) dX19_row_42 ⟨Nat.le_refl _, Nat.le_refl _⟩) (fun u_11 H locs h hw => ?_)
      refine lv_aload_n hx hb dX19_row_45 rfl (lv_at hl 0 rfl) ?_
      refine lv_aload_n hx hb dX19_row_46 rfl (lv_at hl 0 rfl) ?_
      have hk_12 : kd u_11 a0 = 16 := h.1
      have h := h.2
      obtain ⟨b_13, e_14, h⟩ := h
      refine g_getR X hw in_X19 hk_12 rfl 19 rfl (by decide) q1470 (fun _ z => z) e_14 dX19_row_47 ?_
      refine lv_iload_n hx hb dX19_row_50 rfl (lv_at hl 2 rfl) ?_
      have hk_15 : kd u_11 b_13 = 101 := h.1
      have h := h.2
      refine g_iald X hw hk_15 h.1 dX19_row_51 ?_
      have h := h.2
      refine g_calli hw (g_V X hw (mX19_good l G _ _ _ _ h) 1 (lw_V q1867 q1869 qs77 q143 q1870) rfl rfl ydX19_good ⟨Nat.le_of_ble_eq_true rfl, Nat.le_of_ble_eq_true rfl⟩ (g_recv X hw (ci := 15) (q := (RX19, TX19, 46)) hk_12 rfl) (As := [.int (AI u_11 b_13 (tn x2))]) (rest := []) rfl hl.1 rfl (Nat.le_of_ble_eq_true rfl) dX19_row_52 ⟨Nat.le_refl _, Nat.le_refl _⟩) (fun r_16 u_17 H locs h hw => ?_)
      exact g_iret X hw hr h (Nat.le_refl _) (Nat.le_refl _) dX19_row_55
    · have h := h.1 c_20
      refine lv_aload_n hx hb dX19_row_30 rfl (lv_at hl 0 rfl) ?_
      refine lv_iconst (v := 1) hx hb dX19_row_31 (by decide) ?_
      refine g_calli hw (g_V X hw (mX19_refused l G _ _ _ _ h) 1 (lw_V q1603 q1605 qs47 q143 q1606) rfl rfl ydX19_refused ⟨Nat.le_of_ble_eq_true rfl, Nat.le_of_ble_eq_true rfl⟩ (g_recv X hw (ci := 15) (q := (RX19, TX19, 46)) hk_1 rfl) (As := [.int 1]) (rest := []) rfl hl.1 rfl (Nat.le_of_ble_eq_true rfl) dX19_row_32 ⟨Nat.le_refl _, Nat.le_refl _⟩) (fun r_18 u_19 H locs h hw => ?_)
      exact g_iret X hw hr h (Nat.le_refl _) (Nat.le_refl _) dX19_row_35

/-! FifthCard.tilted(I)I -/
theorem ydX1_tilted : yX1_tilted.cls = "FifthCard" ∧ yX1_tilted.cls ≠ "java/lang/invoke/MethodHandle" ∧ yX1_tilted.cls ≠ "java/lang/invoke/VarHandle" ∧ (parseMethodDescriptor yX1_tilted.desc).map (fun d => d.parameters.length) = some 1 := by decide +kernel
def rmX1_tilted (mc ms : Nat) : Room := { frames := 4, cells := mc, slots := ms, locals := 81 }
set_option maxHeartbeats 4000000 in
theorem mX1_tilted (l : Launch) (G : GT) (u : Hp) (a0 : Nat) (x1 : Int32) (K : Int32 → Hp → Prop) (h : pX1_tilted u a0 x1 K) : Met l yX1_tilted (ws_ yX1_tilted cX1_tilted 2 (some .int)) (rmX1_tilted 0 0) (va_Pc [.ref a0, .int x1] (GB G u)) (va_Qi K (fun u t => GH G u t.heap) (GA G)) 0 0 (GA G) := by
  refine Met.ofW (cc := cX1_tilted) (maxL := 2) (ret := (some .int)) (by decide) rfl ?_
  intro p e s m args below meth c s₁ B hml hv
  obtain ⟨rfl, hv⟩ := hv
  have X := Mc_of (own := RX1) B hml rfl hv
  have hw : GW G u s s.heap [] := ⟨hv.2.1, va_S.rf⟩
  have hr := B.returns
  obtain ⟨hx, hb, hml, hown, hts, -⟩ := id X
  have hl := lv_entry ([.ref a0, .int x1]) (n := 2) (Nat.le_of_ble_eq_true rfl)
  rw [lg_entry_eq]
  generalize (lg_sl ([.ref a0, .int x1]) ++ List.replicate (2 - (lg_sl ([.ref a0, .int x1])).length) Slot.unset).toArray = ls at hl ⊢
  have hl : lv_has ls 2 [(0, .ref a0), (1, .int x1)] := hl
  change W p l e (rmX1_tilted 0 0) s m _ below meth c s.heap [] 0 0 (QI G below K _ s 0 0) (F0 m 0 ls [])
  unfold pX1_tilted at h
  refine lv_aload_n hx hb dX1_tilted_0 rfl (lv_at hl 0 rfl) ?_
  have hk_1 : kd u a0 = 1 := h.1
  have h := h.2
  refine g_callv hw (g_V X hw (mX1_anew l G _ _ _ h) 0 (lw_V q535 q537 qs2 q122 q538) rfl rfl ydX1_anew ⟨Nat.le_of_ble_eq_true rfl, Nat.le_of_ble_eq_true rfl⟩ (g_recv X hw (ci := 0) (q := (RX1, TX1, 16)) hk_1 rfl) (As := []) (rest := []) rfl hl.1 rfl (Nat.le_of_ble_eq_true rfl) dX1_tilted_1 ⟨Nat.le_refl _, Nat.le_refl _⟩) (fun u_2 H locs h hw => ?_)
  refine lv_aload_n hx hb dX1_tilted_4 rfl (lv_at hl 0 rfl) ?_
  refine lv_iload_n hx hb dX1_tilted_5 rfl (lv_at hl 1 rfl) ?_
  have hk_3 : kd u_2 a0 = 1 := h.1
  have h := h.2
  refine g_callio hw (g_V X hw (mX1_isRow l G _ _ _ _ h) 1 (lw_V q1045 q1047 qs27 q122 q1048) rfl rfl ydX1_isRow ⟨Nat.le_of_ble_eq_true rfl, Nat.le_of_ble_eq_true rfl⟩ (g_recv X hw (ci := 0) (q := (RX1, TX1, 16)) hk_3 rfl) (As := [.int x1]) (rest := []) rfl hl.1 rfl (Nat.le_of_ble_eq_true rfl) dX1_tilted_6 ⟨Nat.le_refl _, Nat.le_refl _⟩) (fun r_4 H locs h hw => ?_)
  refine lv_if_eq (tgt := 24) hx hb dX1_tilted_9 rfl (fun c_11 => ?_) (fun c_11 => ?_)
  · have h := h.1 c_11
    refine lv_aload_n hx hb dX1_tilted_24 rfl (lv_at hl 0 rfl) ?_
    refine lv_iconst (v := 1) hx hb dX1_tilted_25 (by decide) ?_
    refine g_calli hw (g_V X hw (mX1_no l G _ _ _ _ h) 1 (lw_V q542 q544 qs3 q122 q545) rfl rfl ydX1_no ⟨Nat.le_of_ble_eq_true rfl, Nat.le_of_ble_eq_true rfl⟩ (g_recv X hw (ci := 0) (q := (RX1, TX1, 16)) hk_3 rfl) (As := [.int 1]) (rest := []) rfl hl.1 rfl (Nat.le_of_ble_eq_true rfl) dX1_tilted_26 ⟨Nat.le_refl _, Nat.le_refl _⟩) (fun r_5 u_6 H locs h hw => ?_)
    exact g_iret X hw hr h (Nat.le_refl _) (Nat.le_refl _) dX1_tilted_29
  · have h := h.2 c_11
    refine lv_iload_n hx hb dX1_tilted_12 rfl (lv_at hl 1 rfl) ?_
    refine lv_aload_n hx hb dX1_tilted_13 rfl (lv_at hl 0 rfl) ?_
    obtain ⟨b_7, e_8, h⟩ := h
    refine g_getR X hw in_X1 hk_3 rfl 3 rfl (by decide) q476 (fun _ z => z) e_8 dX1_tilted_14 ?_
    have hk_9 : kd u_2 b_7 = 17 := h.1
    have h := h.2
    refine g_callio hw (g_V X hw (mX20_tiltings l G _ _ _ h) 0 (lw_V q1014 q954 q955 q144 q956) rfl rfl ydX20_tiltings ⟨Nat.le_of_ble_eq_true rfl, Nat.le_of_ble_eq_true rfl⟩ (g_recv X hw (ci := 16) (q := (RX20, TX20, 13)) hk_9 rfl) (As := []) (rest := [.int x1]) rfl hl.1 rfl (Nat.le_of_ble_eq_true rfl) dX1_tilted_17 ⟨Nat.le_refl _, Nat.le_refl _⟩) (fun r_10 H locs h hw => ?_)
    refine lv_irem hx hb dX1_tilted_20 h.1 ?_
    have h := h.2
    refine lv_goto (tgt := 29) hx hb dX1_tilted_21 rfl ?_
    exact g_iret X hw hr h (Nat.le_refl _) (Nat.le_refl _) dX1_tilted_29

/-! FifthCardModel.tilted(I)I -/
theorem ydX19_tilted : yX19_tilted.cls = "FifthCardModel" ∧ yX19_tilted.cls ≠ "java/lang/invoke/MethodHandle" ∧ yX19_tilted.cls ≠ "java/lang/invoke/VarHandle" ∧ (parseMethodDescriptor yX19_tilted.desc).map (fun d => d.parameters.length) = some 1 := by decide +kernel
def rmX19_tilted (mc ms : Nat) : Room := { frames := 3, cells := mc, slots := ms, locals := 65 }
set_option maxHeartbeats 4000000 in
theorem mX19_tilted (l : Launch) (G : GT) (u : Hp) (a0 : Nat) (x1 : Int32) (K : Int32 → Hp → Prop) (h : pX19_tilted u a0 x1 K) : Met l yX19_tilted (ws_ yX19_tilted cX19_tilted 2 (some .int)) (rmX19_tilted 0 0) (va_Pc [.ref a0, .int x1] (GB G u)) (va_Qi K (fun u t => GH G u t.heap) (GA G)) 0 0 (GA G) := by
  refine Met.ofW (cc := cX19_tilted) (maxL := 2) (ret := (some .int)) (by decide) rfl ?_
  intro p e s m args below meth c s₁ B hml hv
  obtain ⟨rfl, hv⟩ := hv
  have X := Mc_of (own := RX19) B hml rfl hv
  have hw : GW G u s s.heap [] := ⟨hv.2.1, va_S.rf⟩
  have hr := B.returns
  obtain ⟨hx, hb, hml, hown, hts, -⟩ := id X
  have hl := lv_entry ([.ref a0, .int x1]) (n := 2) (Nat.le_of_ble_eq_true rfl)
  rw [lg_entry_eq]
  generalize (lg_sl ([.ref a0, .int x1]) ++ List.replicate (2 - (lg_sl ([.ref a0, .int x1])).length) Slot.unset).toArray = ls at hl ⊢
  have hl : lv_has ls 2 [(0, .ref a0), (1, .int x1)] := hl
  change W p l e (rmX19_tilted 0 0) s m _ below meth c s.heap [] 0 0 (QI G below K _ s 0 0) (F0 m 0 ls [])
  unfold pX19_tilted at h
  refine lv_aload_n hx hb dX19_tilted_0 rfl (lv_at hl 0 rfl) ?_
  refine lv_iconst (v := 0) hx hb dX19_tilted_1 (by decide) ?_
  have hk_1 : kd u a0 = 16 := h.1
  have h := h.2
  refine g_putI (v := 0) X hw in_X19 tyX19_ok nmX19 hk_1 rfl 0 rfl (by decide) q1451 (fun _ z => z) rfl rfl rfl dX19_tilted_2 (fun H locs hw => ?_)
  refine lv_aload_n hx hb dX19_tilted_5 rfl (lv_at hl 0 rfl) ?_
  refine lv_iload_n hx hb dX19_tilted_6 rfl (lv_at hl 1 rfl) ?_
  refine g_callio hw (g_V X hw (mX19_isRow l G _ _ _ _ h) 1 (lw_V q1907 q1909 qs80 q143 q1910) rfl rfl ydX19_isRow ⟨Nat.le_of_ble_eq_true rfl, Nat.le_of_ble_eq_true rfl⟩ (g_recv X hw (ci := 15) (q := (RX19, TX19, 46)) hk_1 rfl) (As := [.int x1]) (rest := []) rfl hl.1 rfl (Nat.le_of_ble_eq_true rfl) dX19_tilted_7 ⟨Nat.le_refl _, Nat.le_refl _⟩) (fun r_2 H locs h hw => ?_)
  refine lv_if_eq (tgt := 29) hx hb dX19_tilted_10 rfl (fun c_11 => ?_) (fun c_11 => ?_)
  · have h := h.1 c_11
    refine lv_aload_n hx hb dX19_tilted_29 rfl (lv_at hl 0 rfl) ?_
    refine lv_iconst (v := 1) hx hb dX19_tilted_30 (by decide) ?_
    refine g_calli hw (g_V X hw (mX19_refused l G _ _ _ _ h) 1 (lw_V q1603 q1605 qs47 q143 q1606) rfl rfl ydX19_refused ⟨Nat.le_of_ble_eq_true rfl, Nat.le_of_ble_eq_true rfl⟩ (g_recv X hw (ci := 15) (q := (RX19, TX19, 46)) hk_1 rfl) (As := [.int 1]) (rest := []) rfl hl.1 rfl (Nat.le_of_ble_eq_true rfl) dX19_tilted_31 ⟨Nat.le_refl _, Nat.le_refl _⟩) (fun r_3 u_4 H locs h hw => ?_)
    exact g_iret X hw hr h (Nat.le_refl _) (Nat.le_refl _) dX19_tilted_34
  · have h := h.2 c_11
    refine lv_aload_n hx hb dX19_tilted_13 rfl (lv_at hl 0 rfl) ?_
    refine lv_iload_n hx hb dX19_tilted_14 rfl (lv_at hl 1 rfl) ?_
    refine lv_aload_n hx hb dX19_tilted_15 rfl (lv_at hl 0 rfl) ?_
    obtain ⟨b_5, e_6, h⟩ := h
    refine g_getR X hw in_X19 hk_1 rfl 3 rfl (by decide) q1454 (fun _ z => z) e_6 dX19_tilted_16 ?_
    have hk_7 : kd u b_5 = 20 := h.1
    have h := h.2
    refine g_callio hw (g_V X hw (mX23_tilts l G _ _ _ h) 0 (lw_V q1863 q1864 q1865 q153 q1866) rfl rfl ydX23_tilts ⟨Nat.le_of_ble_eq_true rfl, Nat.le_of_ble_eq_true rfl⟩ (g_recv X hw (ci := 19) (q := (RX23, TX23, 15)) hk_7 rfl) (As := []) (rest := [.int x1, .ref a0]) rfl hl.1 rfl (Nat.le_of_ble_eq_true rfl) dX19_tilted_19 ⟨Nat.le_refl _, Nat.le_refl _⟩) (fun r_8 H locs h hw => ?_)
    refine lv_irem hx hb dX19_tilted_22 h.1 ?_
    have h := h.2
    refine g_calli hw (g_V X hw (mX19_good l G _ _ _ _ h) 1 (lw_V q1867 q1869 qs77 q143 q1870) rfl rfl ydX19_good ⟨Nat.le_of_ble_eq_true rfl, Nat.le_of_ble_eq_true rfl⟩ (g_recv X hw (ci := 15) (q := (RX19, TX19, 46)) hk_1 rfl) (As := [.int (jrem x1 r_8)]) (rest := []) rfl hl.1 rfl (Nat.le_of_ble_eq_true rfl) dX19_tilted_23 ⟨Nat.le_refl _, Nat.le_refl _⟩) (fun r_9 u_10 H locs h hw => ?_)
    refine lv_goto (tgt := 34) hx hb dX19_tilted_26 rfl ?_
    exact g_iret X hw hr h (Nat.le_refl _) (Nat.le_refl _) dX19_tilted_34

/-! FifthCard$Pairing.fits(II)Z -/
theorem ydX4_fits : yX4_fits.cls = "FifthCard$Pairing" ∧ yX4_fits.cls ≠ "java/lang/invoke/MethodHandle" ∧ yX4_fits.cls ≠ "java/lang/invoke/VarHandle" ∧ (parseMethodDescriptor yX4_fits.desc).map (fun d => d.parameters.length) = some 2 := by decide +kernel
def rmX4_fits (mc ms : Nat) : Room := { frames := 0, cells := mc, slots := ms, locals := 0 }
set_option maxHeartbeats 4000000 in
theorem wX4_fits_5 {G : GT} {p : Program} {l : Launch} {e : Env} {s : State} {m : MethodId} {args : Array Value} {below : List Frame} {meth : Method} {c : Code} {H : Heap} {locs : List Loc} {ls : Array Slot} {a0 : Nat} {x1 : Int32} {x2 : Int32} {u : Hp} {x3 : Int32} {x4 : Int32} {K : Int32 → Prop} (X : Mc G p s m args meth c RX4 cX4_fits 5) (hr : meth.sig.returnType = (some .boolean)) (h : jl2 (bX4_fits_5 K a0 x1 x2 u) x3 x4) (hw : GW G u s H locs) (hl : lv_has ls 5 [(0, .ref a0), (1, .int x1), (2, .int x2), (3, .int x3), (4, .int x4)]) : W p l e (rmX4_fits 0 0) s m args below meth c H locs 0 0 (QI G below (fun r v => v = u ∧ K r) args s 0 0) (F0 m 5 ls []) := by
  obtain ⟨hx, hb, hml, hown, hts, -⟩ := id X
  obtain ⟨I, μ, h0, hs⟩ := h
  have key : ∀ (n : Nat) (x3 : Int32) (x4 : Int32) (H : Heap) (locs : List Loc) (ls : Array Slot) , μ x3 x4 < n → I x3 x4 → GW G u s H locs → lv_has ls 5 [(0, .ref a0), (1, .int x1), (2, .int x2), (3, .int x3), (4, .int x4)] → W p l e (rmX4_fits 0 0) s m args below meth c H locs 0 0 (QI G below (fun r v => v = u ∧ K r) args s 0 0) (F0 m 5 ls []) := by
    intro n
    induction n with
    | zero =>
      intro x3 x4 H locs ls hn
      exact absurd hn (Nat.not_lt_zero _)
    | succ n ih =>
      intro x3 x4 H locs ls hn hI hw hl
      have h := hs x3 x4 hI
      unfold bX4_fits_5 at h
      have hJ5 : ∀ (x3' : Int32) (x4' : Int32) (H : Heap) (locs : List Loc) (ls : Array Slot) , (I x3' x4' ∧ μ x3' x4' < μ x3 x4) → GW G u s H locs → lv_has ls 5 [(0, .ref a0), (1, .int x1), (2, .int x2), (3, .int x3'), (4, .int x4')] → W p l e (rmX4_fits 0 0) s m args below meth c H locs 0 0 (QI G below (fun r v => v = u ∧ K r) args s 0 0) (F0 m 5 ls []) := fun x3' x4' H locs ls h hw hl => ih x3' x4' H locs ls (Nat.lt_of_lt_of_le h.2 (Nat.le_of_lt_succ hn)) h.1 hw hl
      refine lv_iload hx hb dX4_fits_5 (lv_at hl 4 rfl) ?_
      refine lv_aload_n hx hb dX4_fits_7 rfl (lv_at hl 0 rfl) ?_
      have hk_1 : kd u a0 = 4 := h.1
      have h := h.2
      refine g_getI X hw in_X4 hk_1 rfl 8 rfl (by decide) q296 (fun _ z => z) dX4_fits_8 ?_
      refine lv_icmp_ge (tgt := 53) hx hb dX4_fits_11 rfl (fun c_7 => ?_) (fun c_7 => ?_)
      · have h := h.1 c_7
        refine lv_iload_n hx hb dX4_fits_53 rfl (lv_at hl 3 rfl) ?_
        exact g_zret X hw hr h.1 ⟨rfl, h.2⟩ (Nat.le_refl _) (Nat.le_refl _) dX4_fits_54
      · have h := h.2 c_7
        refine lv_iload_n hx hb dX4_fits_14 rfl (lv_at hl 3 rfl) ?_
        refine lv_if_ne (tgt := 41) hx hb dX4_fits_15 rfl (fun c_6 => ?_) (fun c_6 => ?_)
        · have h := h.2 c_6
          refine lv_iconst (v := 1) hx hb dX4_fits_41 (by decide) ?_
          refine lv_goto (tgt := 46) hx hb dX4_fits_42 rfl ?_
          refine lv_istore_n (lv' := [(3, .int 1), (0, .ref a0), (1, .int x1), (2, .int x2), (4, .int x4)]) hx hb dX4_fits_46 rfl hl (by decide) rfl (fun ls hl => ?_)
          refine lv_iinc (v := x4 + 1) (lv' := [(4, .int (x4 + 1)), (3, .int 1), (0, .ref a0), (1, .int x1), (2, .int x2)]) hx hb dX4_fits_47 hl (k := 4) rfl rfl (by decide) rfl (fun ls hl => ?_)
          refine lv_goto (tgt := 5) hx hb dX4_fits_50 rfl ?_
          exact hJ5 _ _ _ _ _ h hw (lv_sub hl [2, 3, 4, 1, 0] rfl)
        · have h := h.1 c_6
          refine lv_aload_n hx hb dX4_fits_18 rfl (lv_at hl 0 rfl) ?_
          obtain ⟨b_2, e_3, h⟩ := h
          refine g_getR X hw in_X4 hk_1 rfl 0 rfl (by decide) q288 (fun _ z => z) e_3 dX4_fits_19 ?_
          refine lv_aload_n hx hb dX4_fits_22 rfl (lv_at hl 0 rfl) ?_
          refine g_getI X hw in_X4 hk_1 rfl 8 rfl (by decide) q296 (fun _ z => z) dX4_fits_23 ?_
          refine lv_iload_n hx hb dX4_fits_26 rfl (lv_at hl 1 rfl) ?_
          refine lv_imul hx hb dX4_fits_27 ?_
          refine lv_iload hx hb dX4_fits_28 (lv_at hl 4 rfl) ?_
          refine lv_iadd hx hb dX4_fits_30 ?_
          have hk_4 : kd u b_2 = 101 := h.1
          have h := h.2
          refine g_iald X hw hk_4 h.1 dX4_fits_31 ?_
          have h := h.2
          refine lv_iload_n hx hb dX4_fits_32 rfl (lv_at hl 2 rfl) ?_
          refine lv_aload_n hx hb dX4_fits_33 rfl (lv_at hl 0 rfl) ?_
          refine g_getI X hw in_X4 hk_1 rfl 10 rfl (by decide) q298 (fun _ z => z) dX4_fits_34 ?_
          refine lv_idiv hx hb dX4_fits_37 h.1 ?_
          have h := h.2
          refine lv_icmp_ne (tgt := 45) hx hb dX4_fits_38 rfl (fun c_5 => ?_) (fun c_5 => ?_)
          · have h := h.2 c_5
            refine lv_iconst (v := 0) hx hb dX4_fits_45 (by decide) ?_
            refine lv_istore_n (lv' := [(3, .int 0), (0, .ref a0), (1, .int x1), (2, .int x2), (4, .int x4)]) hx hb dX4_fits_46 rfl hl (by decide) rfl (fun ls hl => ?_)
            refine lv_iinc (v := x4 + 1) (lv' := [(4, .int (x4 + 1)), (3, .int 0), (0, .ref a0), (1, .int x1), (2, .int x2)]) hx hb dX4_fits_47 hl (k := 4) rfl rfl (by decide) rfl (fun ls hl => ?_)
            refine lv_goto (tgt := 5) hx hb dX4_fits_50 rfl ?_
            exact hJ5 _ _ _ _ _ h hw (lv_sub hl [2, 3, 4, 1, 0] rfl)
          · have h := h.1 c_5
            refine lv_iconst (v := 1) hx hb dX4_fits_41 (by decide) ?_
            refine lv_goto (tgt := 46) hx hb dX4_fits_42 rfl ?_
            refine lv_istore_n (lv' := [(3, .int 1), (0, .ref a0), (1, .int x1), (2, .int x2), (4, .int x4)]) hx hb dX4_fits_46 rfl hl (by decide) rfl (fun ls hl => ?_)
            refine lv_iinc (v := x4 + 1) (lv' := [(4, .int (x4 + 1)), (3, .int 1), (0, .ref a0), (1, .int x1), (2, .int x2)]) hx hb dX4_fits_47 hl (k := 4) rfl rfl (by decide) rfl (fun ls hl => ?_)
            refine lv_goto (tgt := 5) hx hb dX4_fits_50 rfl ?_
            exact hJ5 _ _ _ _ _ h hw (lv_sub hl [2, 3, 4, 1, 0] rfl)
  exact key _ _ _ _ _ _ (Nat.lt_succ_self _) h0 hw hl
set_option maxHeartbeats 4000000 in
theorem mX4_fits (l : Launch) (G : GT) (u : Hp) (a0 : Nat) (x1 : Int32) (x2 : Int32) (K : Int32 → Prop) (h : pX4_fits u a0 x1 x2 K) : Met l yX4_fits (ws_ yX4_fits cX4_fits 5 (some .boolean)) (rmX4_fits 0 0) (va_Pc [.ref a0, .int x1, .int x2] (GB G u)) (va_Qi (fun r v => v = u ∧ K r) (fun u t => GH G u t.heap) (GA G)) 0 0 (GA G) := by
  refine Met.ofW (cc := cX4_fits) (maxL := 5) (ret := (some .boolean)) (by decide) rfl ?_
  intro p e s m args below meth c s₁ B hml hv
  obtain ⟨rfl, hv⟩ := hv
  have X := Mc_of (own := RX4) B hml rfl hv
  have hw : GW G u s s.heap [] := ⟨hv.2.1, va_S.rf⟩
  have hr := B.returns
  obtain ⟨hx, hb, hml, hown, hts, -⟩ := id X
  have hl := lv_entry ([.ref a0, .int x1, .int x2]) (n := 5) (Nat.le_of_ble_eq_true rfl)
  rw [lg_entry_eq]
  generalize (lg_sl ([.ref a0, .int x1, .int x2]) ++ List.replicate (5 - (lg_sl ([.ref a0, .int x1, .int x2])).length) Slot.unset).toArray = ls at hl ⊢
  have hl : lv_has ls 5 [(0, .ref a0), (1, .int x1), (2, .int x2)] := hl
  change W p l e (rmX4_fits 0 0) s m _ below meth c s.heap [] 0 0 (QI G below (fun r v => v = u ∧ K r) _ s 0 0) (F0 m 0 ls [])
  unfold pX4_fits at h
  refine lv_iconst (v := 0) hx hb dX4_fits_0 (by decide) ?_
  refine lv_istore_n (lv' := [(3, .int 0), (0, .ref a0), (1, .int x1), (2, .int x2)]) hx hb dX4_fits_1 rfl hl (by decide) rfl (fun ls hl => ?_)
  refine lv_iconst (v := 0) hx hb dX4_fits_2 (by decide) ?_
  refine lv_istore (lv' := [(4, .int 0), (3, .int 0), (0, .ref a0), (1, .int x1), (2, .int x2)]) hx hb dX4_fits_3 hl (by decide) rfl (fun ls hl => ?_)
  exact wX4_fits_5 X hr  h hw (lv_sub hl [2, 3, 4, 1, 0] rfl)

/-! FifthCard.fits(II)I -/
theorem ydX1_fits : yX1_fits.cls = "FifthCard" ∧ yX1_fits.cls ≠ "java/lang/invoke/MethodHandle" ∧ yX1_fits.cls ≠ "java/lang/invoke/VarHandle" ∧ (parseMethodDescriptor yX1_fits.desc).map (fun d => d.parameters.length) = some 2 := by decide +kernel
def rmX1_fits (mc ms : Nat) : Room := { frames := 4, cells := mc, slots := ms, locals := 81 }
set_option maxHeartbeats 4000000 in
theorem mX1_fits (l : Launch) (G : GT) (u : Hp) (a0 : Nat) (x1 : Int32) (x2 : Int32) (K : Int32 → Hp → Prop) (h : pX1_fits u a0 x1 x2 K) : Met l yX1_fits (ws_ yX1_fits cX1_fits 3 (some .int)) (rmX1_fits 0 0) (va_Pc [.ref a0, .int x1, .int x2] (GB G u)) (va_Qi K (fun u t => GH G u t.heap) (GA G)) 0 0 (GA G) := by
  refine Met.ofW (cc := cX1_fits) (maxL := 3) (ret := (some .int)) (by decide) rfl ?_
  intro p e s m args below meth c s₁ B hml hv
  obtain ⟨rfl, hv⟩ := hv
  have X := Mc_of (own := RX1) B hml rfl hv
  have hw : GW G u s s.heap [] := ⟨hv.2.1, va_S.rf⟩
  have hr := B.returns
  obtain ⟨hx, hb, hml, hown, hts, -⟩ := id X
  have hl := lv_entry ([.ref a0, .int x1, .int x2]) (n := 3) (Nat.le_of_ble_eq_true rfl)
  rw [lg_entry_eq]
  generalize (lg_sl ([.ref a0, .int x1, .int x2]) ++ List.replicate (3 - (lg_sl ([.ref a0, .int x1, .int x2])).length) Slot.unset).toArray = ls at hl ⊢
  have hl : lv_has ls 3 [(0, .ref a0), (1, .int x1), (2, .int x2)] := hl
  change W p l e (rmX1_fits 0 0) s m _ below meth c s.heap [] 0 0 (QI G below K _ s 0 0) (F0 m 0 ls [])
  unfold pX1_fits at h
  refine lv_aload_n hx hb dX1_fits_0 rfl (lv_at hl 0 rfl) ?_
  have hk_1 : kd u a0 = 1 := h.1
  have h := h.2
  refine g_callv hw (g_V X hw (mX1_anew l G _ _ _ h) 0 (lw_V q535 q537 qs2 q122 q538) rfl rfl ydX1_anew ⟨Nat.le_of_ble_eq_true rfl, Nat.le_of_ble_eq_true rfl⟩ (g_recv X hw (ci := 0) (q := (RX1, TX1, 16)) hk_1 rfl) (As := []) (rest := []) rfl hl.1 rfl (Nat.le_of_ble_eq_true rfl) dX1_fits_1 ⟨Nat.le_refl _, Nat.le_refl _⟩) (fun u_2 H locs h hw => ?_)
  refine lv_aload_n hx hb dX1_fits_4 rfl (lv_at hl 0 rfl) ?_
  refine lv_iload_n hx hb dX1_fits_5 rfl (lv_at hl 1 rfl) ?_
  have hk_3 : kd u_2 a0 = 1 := h.1
  have h := h.2
  refine g_callio hw (g_V X hw (mX1_isHand l G _ _ _ _ h) 1 (lw_V q1019 q1021 qs25 q122 q1022) rfl rfl ydX1_isHand ⟨Nat.le_of_ble_eq_true rfl, Nat.le_of_ble_eq_true rfl⟩ (g_recv X hw (ci := 0) (q := (RX1, TX1, 16)) hk_3 rfl) (As := [.int x1]) (rest := []) rfl hl.1 rfl (Nat.le_of_ble_eq_true rfl) dX1_fits_6 ⟨Nat.le_refl _, Nat.le_refl _⟩) (fun r_4 H locs h hw => ?_)
  refine lv_if_eq (tgt := 40) hx hb dX1_fits_9 rfl (fun c_16 => ?_) (fun c_16 => ?_)
  · have h := h.1 c_16
    refine lv_aload_n hx hb dX1_fits_40 rfl (lv_at hl 0 rfl) ?_
    refine lv_iconst (v := 1) hx hb dX1_fits_41 (by decide) ?_
    refine g_calli hw (g_V X hw (mX1_no l G _ _ _ _ h) 1 (lw_V q542 q544 qs3 q122 q545) rfl rfl ydX1_no ⟨Nat.le_of_ble_eq_true rfl, Nat.le_of_ble_eq_true rfl⟩ (g_recv X hw (ci := 0) (q := (RX1, TX1, 16)) hk_3 rfl) (As := [.int 1]) (rest := []) rfl hl.1 rfl (Nat.le_of_ble_eq_true rfl) dX1_fits_42 ⟨Nat.le_refl _, Nat.le_refl _⟩) (fun r_5 u_6 H locs h hw => ?_)
    exact g_iret X hw hr h (Nat.le_refl _) (Nat.le_refl _) dX1_fits_45
  · have h := h.2 c_16
    refine lv_aload_n hx hb dX1_fits_12 rfl (lv_at hl 0 rfl) ?_
    refine lv_iload_n hx hb dX1_fits_13 rfl (lv_at hl 2 rfl) ?_
    refine g_callio hw (g_V X hw (mX1_isRow l G _ _ _ _ h) 1 (lw_V q1045 q1047 qs27 q122 q1048) rfl rfl ydX1_isRow ⟨Nat.le_of_ble_eq_true rfl, Nat.le_of_ble_eq_true rfl⟩ (g_recv X hw (ci := 0) (q := (RX1, TX1, 16)) hk_3 rfl) (As := [.int x2]) (rest := []) rfl hl.1 rfl (Nat.le_of_ble_eq_true rfl) dX1_fits_14 ⟨Nat.le_refl _, Nat.le_refl _⟩) (fun r_7 H locs h hw => ?_)
    refine lv_if_eq (tgt := 40) hx hb dX1_fits_17 rfl (fun c_15 => ?_) (fun c_15 => ?_)
    · have h := h.1 c_15
      refine lv_aload_n hx hb dX1_fits_40 rfl (lv_at hl 0 rfl) ?_
      refine lv_iconst (v := 1) hx hb dX1_fits_41 (by decide) ?_
      refine g_calli hw (g_V X hw (mX1_no l G _ _ _ _ h) 1 (lw_V q542 q544 qs3 q122 q545) rfl rfl ydX1_no ⟨Nat.le_of_ble_eq_true rfl, Nat.le_of_ble_eq_true rfl⟩ (g_recv X hw (ci := 0) (q := (RX1, TX1, 16)) hk_3 rfl) (As := [.int 1]) (rest := []) rfl hl.1 rfl (Nat.le_of_ble_eq_true rfl) dX1_fits_42 ⟨Nat.le_refl _, Nat.le_refl _⟩) (fun r_8 u_9 H locs h hw => ?_)
      exact g_iret X hw hr h (Nat.le_refl _) (Nat.le_refl _) dX1_fits_45
    · have h := h.2 c_15
      refine lv_aload_n hx hb dX1_fits_20 rfl (lv_at hl 0 rfl) ?_
      obtain ⟨b_10, e_11, h⟩ := h
      refine g_getR X hw in_X1 hk_3 rfl 9 rfl (by decide) q482 (fun _ z => z) e_11 dX1_fits_21 ?_
      refine lv_iload_n hx hb dX1_fits_24 rfl (lv_at hl 1 rfl) ?_
      refine lv_iload_n hx hb dX1_fits_25 rfl (lv_at hl 2 rfl) ?_
      have hk_12 : kd u_2 b_10 = 4 := h.1
      have h := h.2
      refine g_callio hw (g_V X hw (mX4_fits l G _ _ _ _ _ h) 2 (lw_V q1058 q1059 q1060 q128 q1061) rfl rfl ydX4_fits ⟨Nat.le_of_ble_eq_true rfl, Nat.le_of_ble_eq_true rfl⟩ (g_recv X hw (ci := 3) (q := (RX4, TX4, 14)) hk_12 rfl) (As := [.int x1, .int x2]) (rest := []) rfl hl.1 rfl (Nat.le_of_ble_eq_true rfl) dX1_fits_26 ⟨Nat.le_refl _, Nat.le_refl _⟩) (fun r_13 H locs h hw => ?_)
      refine lv_if_eq (tgt := 36) hx hb dX1_fits_29 rfl (fun c_14 => ?_) (fun c_14 => ?_)
      · have h := h.1 c_14
        refine lv_iconst (v := 0) hx hb dX1_fits_36 (by decide) ?_
        refine lv_goto (tgt := 45) hx hb dX1_fits_37 rfl ?_
        exact g_iret X hw hr h (Nat.le_refl _) (Nat.le_refl _) dX1_fits_45
      · have h := h.2 c_14
        refine lv_iconst (v := 1) hx hb dX1_fits_32 (by decide) ?_
        refine lv_goto (tgt := 45) hx hb dX1_fits_33 rfl ?_
        exact g_iret X hw hr h (Nat.le_refl _) (Nat.le_refl _) dX1_fits_45

