/-! printed by tools/genparts.py: the walks (m..): the machine runs as the predicates say -/
set_option maxRecDepth 100000
/-! FifthCard.keepApart(LFifthCard$Rule;Z)Z -/
theorem ydX1_keepApart : yX1_keepApart.cls = "FifthCard" ∧ yX1_keepApart.cls ≠ "java/lang/invoke/MethodHandle" ∧ yX1_keepApart.cls ≠ "java/lang/invoke/VarHandle" ∧ (parseMethodDescriptor yX1_keepApart.desc).map (fun d => d.parameters.length) = some 2 := by decide +kernel
def rmX1_keepApart (mc ms : Nat) : Room := { frames := 6, cells := mc, slots := ms, locals := 151 }
set_option maxHeartbeats 4000000 in
theorem wX1_keepApart_79 {G : GT} {p : Program} {l : Launch} {e : Env} {s : State} {m : MethodId} {args : Array Value} {below : List Frame} {meth : Method} {c : Code} {H : Heap} {locs : List Loc} {ls : Array Slot} {a0 : Nat} {a1 : Nat} {x2 : Int32} {x3 : Int32} {x4 : Int32} {x5 : Int32} {u : Hp} {K : Int32 → Hp → Prop} {J60 : Int32 → Hp → Prop} (X : Mc G p s m args meth c RX1 cX1_keepApart 7) (hr : meth.sig.returnType = (some .boolean)) (hJ60 : ∀ (x3 : Int32) (u : Hp) (H : Heap) (locs : List Loc) (ls : Array Slot) , J60 x3 u → GW G u s H locs → lv_has ls 7 [(0, .ref a0), (1, .ref a1), (2, .int x2), (3, .int x3)] → W p l e (rmX1_keepApart 0 0) s m args below meth c H locs 0 0 (QI G below K args s 0 0) (F0 m 60 ls [])) (h : jl2 (bX1_keepApart_79 K J60 a0 a1 x2 x3 x4) x5 u) (hw : GW G u s H locs) (hl : lv_has ls 7 [(0, .ref a0), (1, .ref a1), (2, .int x2), (3, .int x3), (4, .int x4), (5, .int x5)]) : W p l e (rmX1_keepApart 0 0) s m args below meth c H locs 0 0 (QI G below K args s 0 0) (F0 m 79 ls []) := by
  obtain ⟨hx, hb, hml, hown, hts, -⟩ := id X
  obtain ⟨I, μ, h0, hs⟩ := h
  have key : ∀ (n : Nat) (x5 : Int32) (u : Hp) (H : Heap) (locs : List Loc) (ls : Array Slot) , μ x5 u < n → I x5 u → GW G u s H locs → lv_has ls 7 [(0, .ref a0), (1, .ref a1), (2, .int x2), (3, .int x3), (4, .int x4), (5, .int x5)] → W p l e (rmX1_keepApart 0 0) s m args below meth c H locs 0 0 (QI G below K args s 0 0) (F0 m 79 ls []) := by
    intro n
    induction n with
    | zero =>
      intro x5 u H locs ls hn
      exact absurd hn (Nat.not_lt_zero _)
    | succ n ih =>
      intro x5 u H locs ls hn hI hw hl
      have h := hs x5 u hI
      unfold bX1_keepApart_79 at h
      have hJ79 : ∀ (x5' : Int32) (u' : Hp) (H : Heap) (locs : List Loc) (ls : Array Slot) , (I x5' u' ∧ μ x5' u' < μ x5 u) → GW G u' s H locs → lv_has ls 7 [(0, .ref a0), (1, .ref a1), (2, .int x2), (3, .int x3), (4, .int x4), (5, .int x5')] → W p l e (rmX1_keepApart 0 0) s m args below meth c H locs 0 0 (QI G below K args s 0 0) (F0 m 79 ls []) := fun x5' u' H locs ls h hw hl => ih x5' u' H locs ls (Nat.lt_of_lt_of_le h.2 (Nat.le_of_lt_succ hn)) h.1 hw hl
      refine lv_iload hx hb dX1_keepApart_79 (lv_at hl 5 rfl) ?_
      refine lv_iconst (v := 1) hx hb dX1_keepApart_81 (by decide) ?_
      refine lv_iadd hx hb dX1_keepApart_82 ?_
      refine lv_aload_n hx hb dX1_keepApart_83 rfl (lv_at hl 0 rfl) ?_
      have hk_1 : kd u a0 = 1 := h.1
      have h := h.2
      obtain ⟨b_2, e_3, h⟩ := h
      refine g_getR X hw in_X1 hk_1 rfl 3 rfl (by decide) q476 (fun _ z => z) e_3 dX1_keepApart_84 ?_
      have hk_4 : kd u b_2 = 17 := h.1
      have h := h.2
      refine g_callio hw (g_V X hw (mX20_rows l G _ _ _ h) 0 (lw_V q1013 q950 q951 q144 q952) rfl rfl ydX20_rows ⟨Nat.le_of_ble_eq_true rfl, Nat.le_of_ble_eq_true rfl⟩ (g_recv X hw (ci := 16) (q := (RX20, TX20, 13)) hk_4 rfl) (As := []) (rest := [.int (x5 + 1)]) rfl hl.1 rfl (Nat.le_of_ble_eq_true rfl) dX1_keepApart_87 ⟨Nat.le_refl _, Nat.le_refl _⟩) (fun r_5 H locs h hw => ?_)
      refine lv_icmp_ge (tgt := 147) hx hb dX1_keepApart_90 rfl (fun c_17 => ?_) (fun c_17 => ?_)
      · have h := h.1 c_17
        refine lv_iinc (v := x3 + 1) (lv' := [(3, .int (x3 + 1)), (0, .ref a0), (1, .ref a1), (2, .int x2), (4, .int x4), (5, .int x5)]) hx hb dX1_keepApart_147 hl (k := 3) rfl rfl (by decide) rfl (fun ls hl => ?_)
        refine lv_goto (tgt := 60) hx hb dX1_keepApart_150 rfl ?_
        exact hJ60 _ _ _ _ _ h hw (lv_sub hl [1, 2, 3, 0] rfl)
      · have h := h.2 c_17
        refine lv_iload hx hb dX1_keepApart_93 (lv_at hl 4 rfl) ?_
        refine lv_bipush (v := (-2)) hx hb dX1_keepApart_95 (by decide) ?_
        refine lv_icmp_eq (tgt := 147) hx hb dX1_keepApart_97 rfl (fun c_16 => ?_) (fun c_16 => ?_)
        · have h := h.1 c_16
          refine lv_iinc (v := x3 + 1) (lv' := [(3, .int (x3 + 1)), (0, .ref a0), (1, .ref a1), (2, .int x2), (4, .int x4), (5, .int x5)]) hx hb dX1_keepApart_147 hl (k := 3) rfl rfl (by decide) rfl (fun ls hl => ?_)
          refine lv_goto (tgt := 60) hx hb dX1_keepApart_150 rfl ?_
          exact hJ60 _ _ _ _ _ h hw (lv_sub hl [1, 2, 3, 0] rfl)
        · have h := h.2 c_16
          refine lv_aload_n hx hb dX1_keepApart_100 rfl (lv_at hl 0 rfl) ?_
          refine lv_iload hx hb dX1_keepApart_101 (lv_at hl 4 rfl) ?_
          refine lv_iload hx hb dX1_keepApart_103 (lv_at hl 5 rfl) ?_
          refine g_calli hw (g_V X hw (mX1_changed l G _ _ _ _ _ h) 2 (lw_V q1251 q1253 qs39 q122 q1254) rfl rfl ydX1_changed ⟨Nat.le_of_ble_eq_true rfl, Nat.le_of_ble_eq_true rfl⟩ (g_recv X hw (ci := 0) (q := (RX1, TX1, 16)) hk_1 rfl) (As := [.int x4, .int x5]) (rest := []) rfl hl.1 rfl (Nat.le_of_ble_eq_true rfl) dX1_keepApart_105 ⟨Nat.le_refl _, Nat.le_refl _⟩) (fun r_6 u_7 H locs h hw => ?_)
          refine lv_istore (lv' := [(6, .int r_6), (0, .ref a0), (1, .ref a1), (2, .int x2), (3, .int x3), (4, .int x4), (5, .int x5)]) hx hb dX1_keepApart_108 hl (by decide) rfl (fun ls hl => ?_)
          refine lv_aload_n hx hb dX1_keepApart_110 rfl (lv_at hl 1 rfl) ?_
          have hk_8 : kd u_7 a0 = 1 := h.1
          have h := h.2
          obtain ⟨b_9, e_10, h⟩ := h
          refine g_getR X hw in_X1 hk_8 rfl 9 rfl (by decide) q482 (fun _ z => z) e_10 dX1_keepApart_111 ?_
          refine lv_iload hx hb dX1_keepApart_114 (lv_at hl 0 rfl) ?_
          refine lv_iload hx hb dX1_keepApart_116 (lv_at hl 5 rfl) ?_
          have hk_11 : kd u_7 b_9 = 4 := h.1
          have h := h.2
          refine g_callio hw (g_V X hw (mX4_isMarked l G _ _ _ _ _ h) 2 (lw_V q1256 q1257 q1258 q128 q1259) rfl rfl ydX4_isMarked ⟨Nat.le_of_ble_eq_true rfl, Nat.le_of_ble_eq_true rfl⟩ (g_recv X hw (ci := 3) (q := (RX4, TX4, 14)) hk_11 rfl) (As := [.int r_6, .int x4]) (rest := []) rfl hl.1 rfl (Nat.le_of_ble_eq_true rfl) dX1_keepApart_118 ⟨Nat.le_refl _, Nat.le_refl _⟩) (fun r_12 H locs h hw => ?_)
          refine lv_if_eq (tgt := 126) hx hb dX1_keepApart_121 rfl (fun c_15 => ?_) (fun c_15 => ?_)
          · have h := h.1 c_15
            refine lv_iload_n hx hb dX1_keepApart_126 rfl (lv_at hl 3 rfl) ?_
            refine lv_if_eq (tgt := 141) hx hb dX1_keepApart_127 rfl (fun c_14 => ?_) (fun c_14 => ?_)
            · have h := h.1 c_14
              refine lv_iinc (v := x5 + 1) (lv' := [(5, .int (x5 + 1)), (6, .int r_6), (0, .ref a0), (1, .ref a1), (2, .int x2), (3, .int x3), (4, .int x4)]) hx hb dX1_keepApart_141 hl (k := 6) rfl rfl (by decide) rfl (fun ls hl => ?_)
              refine lv_goto (tgt := 79) hx hb dX1_keepApart_144 rfl ?_
              exact hJ79 _ _ _ _ _ h hw (lv_sub hl [2, 3, 4, 5, 6, 0] rfl)
            · have h := h.2 c_14
              refine lv_aload_n hx hb dX1_keepApart_130 rfl (lv_at hl 1 rfl) ?_
              refine g_getR X hw in_X1 hk_8 rfl 9 rfl (by decide) q482 (fun _ z => z) e_10 dX1_keepApart_131 ?_
              refine lv_iload hx hb dX1_keepApart_134 (lv_at hl 0 rfl) ?_
              refine lv_iload hx hb dX1_keepApart_136 (lv_at hl 5 rfl) ?_
              refine g_callv hw (g_V X hw (mX4_mark l G _ _ _ _ _ h) 2 (lw_V q1223 q1224 q1225 q128 q1226) rfl rfl ydX4_mark ⟨Nat.le_of_ble_eq_true rfl, Nat.le_of_ble_eq_true rfl⟩ (g_recv X hw (ci := 3) (q := (RX4, TX4, 14)) hk_11 rfl) (As := [.int r_6, .int x4]) (rest := []) rfl hl.1 rfl (Nat.le_of_ble_eq_true rfl) dX1_keepApart_138 ⟨Nat.le_refl _, Nat.le_refl _⟩) (fun u_13 H locs h hw => ?_)
              refine lv_iinc (v := x5 + 1) (lv' := [(5, .int (x5 + 1)), (6, .int r_6), (0, .ref a0), (1, .ref a1), (2, .int x2), (3, .int x3), (4, .int x4)]) hx hb dX1_keepApart_141 hl (k := 6) rfl rfl (by decide) rfl (fun ls hl => ?_)
              refine lv_goto (tgt := 79) hx hb dX1_keepApart_144 rfl ?_
              exact hJ79 _ _ _ _ _ h hw (lv_sub hl [2, 3, 4, 5, 6, 0] rfl)
          · have h := h.2 c_15
            refine lv_iconst (v := 0) hx hb dX1_keepApart_124 (by decide) ?_
            exact g_zret X hw hr rfl h (Nat.le_refl _) (Nat.le_refl _) dX1_keepApart_125
  exact key _ _ _ _ _ _ (Nat.lt_succ_self _) h0 hw hl
set_option maxHeartbeats 4000000 in
theorem wX1_keepApart_60 {G : GT} {p : Program} {l : Launch} {e : Env} {s : State} {m : MethodId} {args : Array Value} {below : List Frame} {meth : Method} {c : Code} {H : Heap} {locs : List Loc} {ls : Array Slot} {a0 : Nat} {a1 : Nat} {x2 : Int32} {x3 : Int32} {u : Hp} {K : Int32 → Hp → Prop} (X : Mc G p s m args meth c RX1 cX1_keepApart 7) (hr : meth.sig.returnType = (some .boolean)) (h : jl2 (bX1_keepApart_60 K a0 a1 x2) x3 u) (hw : GW G u s H locs) (hl : lv_has ls 7 [(0, .ref a0), (1, .ref a1), (2, .int x2), (3, .int x3)]) : W p l e (rmX1_keepApart 0 0) s m args below meth c H locs 0 0 (QI G below K args s 0 0) (F0 m 60 ls []) := by
  obtain ⟨hx, hb, hml, hown, hts, -⟩ := id X
  obtain ⟨I, μ, h0, hs⟩ := h
  have key : ∀ (n : Nat) (x3 : Int32) (u : Hp) (H : Heap) (locs : List Loc) (ls : Array Slot) , μ x3 u < n → I x3 u → GW G u s H locs → lv_has ls 7 [(0, .ref a0), (1, .ref a1), (2, .int x2), (3, .int x3)] → W p l e (rmX1_keepApart 0 0) s m args below meth c H locs 0 0 (QI G below K args s 0 0) (F0 m 60 ls []) := by
    intro n
    induction n with
    | zero =>
      intro x3 u H locs ls hn
      exact absurd hn (Nat.not_lt_zero _)
    | succ n ih =>
      intro x3 u H locs ls hn hI hw hl
      have h := hs x3 u hI
      unfold bX1_keepApart_60 at h
      have hJ60 : ∀ (x3' : Int32) (u' : Hp) (H : Heap) (locs : List Loc) (ls : Array Slot) , (I x3' u' ∧ μ x3' u' < μ x3 u) → GW G u' s H locs → lv_has ls 7 [(0, .ref a0), (1, .ref a1), (2, .int x2), (3, .int x3')] → W p l e (rmX1_keepApart 0 0) s m args below meth c H locs 0 0 (QI G below K args s 0 0) (F0 m 60 ls []) := fun x3' u' H locs ls h hw hl => ih x3' u' H locs ls (Nat.lt_of_lt_of_le h.2 (Nat.le_of_lt_succ hn)) h.1 hw hl
      refine lv_iload_n hx hb dX1_keepApart_60 rfl (lv_at hl 3 rfl) ?_
      refine lv_aload_n hx hb dX1_keepApart_61 rfl (lv_at hl 0 rfl) ?_
      have hk_18 : kd u a0 = 1 := h.1
      have h := h.2
      refine g_getI X hw in_X1 hk_18 rfl 8 rfl (by decide) q481 (fun _ z => z) dX1_keepApart_62 ?_
      refine lv_icmp_ge (tgt := 153) hx hb dX1_keepApart_65 rfl (fun c_23 => ?_) (fun c_23 => ?_)
      · have h := h.1 c_23
        refine lv_iconst (v := 1) hx hb dX1_keepApart_153 (by decide) ?_
        exact g_zret X hw hr rfl h (Nat.le_refl _) (Nat.le_refl _) dX1_keepApart_154
      · have h := h.2 c_23
        refine lv_aload_n hx hb dX1_keepApart_68 rfl (lv_at hl 1 rfl) ?_
        have hk_19 : isRu (kd u a1) := h.1
        have h := h.2
        obtain ⟨b_20, e_21, h⟩ := h
        refine g_getRu2R X hw hk_19 q450 e_21 dX1_keepApart_69 ?_
        refine lv_iload_n hx hb dX1_keepApart_72 rfl (lv_at hl 3 rfl) ?_
        have hk_22 : kd u b_20 = 101 := h.1
        have h := h.2
        refine g_iald X hw hk_22 h.1 dX1_keepApart_73 ?_
        have h := h.2
        refine lv_istore (lv' := [(4, .int (AI u b_20 (tn x3))), (0, .ref a0), (1, .ref a1), (2, .int x2), (3, .int x3)]) hx hb dX1_keepApart_74 hl (by decide) rfl (fun ls hl => ?_)
        refine lv_iconst (v := 0) hx hb dX1_keepApart_76 (by decide) ?_
        refine lv_istore (lv' := [(5, .int 0), (4, .int (AI u b_20 (tn x3))), (0, .ref a0), (1, .ref a1), (2, .int x2), (3, .int x3)]) hx hb dX1_keepApart_77 hl (by decide) rfl (fun ls hl => ?_)
        exact wX1_keepApart_79 X hr hJ60  h hw (lv_sub hl [2, 3, 4, 5, 1, 0] rfl)
  exact key _ _ _ _ _ _ (Nat.lt_succ_self _) h0 hw hl
set_option maxHeartbeats 4000000 in
theorem wX1_keepApart_14 {G : GT} {p : Program} {l : Launch} {e : Env} {s : State} {m : MethodId} {args : Array Value} {below : List Frame} {meth : Method} {c : Code} {H : Heap} {locs : List Loc} {ls : Array Slot} {a0 : Nat} {a1 : Nat} {x2 : Int32} {x3 : Int32} {u : Hp} {K : Int32 → Hp → Prop} (X : Mc G p s m args meth c RX1 cX1_keepApart 7) (hr : meth.sig.returnType = (some .boolean)) (h : jl2 (bX1_keepApart_14 K a0 a1 x2) x3 u) (hw : GW G u s H locs) (hl : lv_has ls 7 [(0, .ref a0), (1, .ref a1), (2, .int x2), (3, .int x3)]) : W p l e (rmX1_keepApart 0 0) s m args below meth c H locs 0 0 (QI G below K args s 0 0) (F0 m 14 ls []) := by
  obtain ⟨hx, hb, hml, hown, hts, -⟩ := id X
  obtain ⟨I, μ, h0, hs⟩ := h
  have key : ∀ (n : Nat) (x3 : Int32) (u : Hp) (H : Heap) (locs : List Loc) (ls : Array Slot) , μ x3 u < n → I x3 u → GW G u s H locs → lv_has ls 7 [(0, .ref a0), (1, .ref a1), (2, .int x2), (3, .int x3)] → W p l e (rmX1_keepApart 0 0) s m args below meth c H locs 0 0 (QI G below K args s 0 0) (F0 m 14 ls []) := by
    intro n
    induction n with
    | zero =>
      intro x3 u H locs ls hn
      exact absurd hn (Nat.not_lt_zero _)
    | succ n ih =>
      intro x3 u H locs ls hn hI hw hl
      have h := hs x3 u hI
      unfold bX1_keepApart_14 at h
      have hJ14 : ∀ (x3' : Int32) (u' : Hp) (H : Heap) (locs : List Loc) (ls : Array Slot) , (I x3' u' ∧ μ x3' u' < μ x3 u) → GW G u' s H locs → lv_has ls 7 [(0, .ref a0), (1, .ref a1), (2, .int x2), (3, .int x3')] → W p l e (rmX1_keepApart 0 0) s m args below meth c H locs 0 0 (QI G below K args s 0 0) (F0 m 14 ls []) := fun x3' u' H locs ls h hw hl => ih x3' u' H locs ls (Nat.lt_of_lt_of_le h.2 (Nat.le_of_lt_succ hn)) h.1 hw hl
      refine lv_iload_n hx hb dX1_keepApart_14 rfl (lv_at hl 3 rfl) ?_
      refine lv_aload_n hx hb dX1_keepApart_15 rfl (lv_at hl 0 rfl) ?_
      have hk_24 : kd u a0 = 1 := h.1
      have h := h.2
      refine g_getI X hw in_X1 hk_24 rfl 8 rfl (by decide) q481 (fun _ z => z) dX1_keepApart_16 ?_
      refine lv_icmp_ge (tgt := 58) hx hb dX1_keepApart_19 rfl (fun c_34 => ?_) (fun c_34 => ?_)
      · have h := h.1 c_34
        refine lv_iconst (v := 0) hx hb dX1_keepApart_58 (by decide) ?_
        refine lv_istore_n (lv' := [(3, .int 0), (0, .ref a0), (1, .ref a1), (2, .int x2)]) hx hb dX1_keepApart_59 rfl hl (by decide) rfl (fun ls hl => ?_)
        exact wX1_keepApart_60 X hr  h hw (lv_sub hl [1, 2, 3, 0] rfl)
      · have h := h.2 c_34
        refine lv_aload_n hx hb dX1_keepApart_22 rfl (lv_at hl 1 rfl) ?_
        have hk_25 : isRu (kd u a1) := h.1
        have h := h.2
        obtain ⟨b_26, e_27, h⟩ := h
        refine g_getRu2R X hw hk_25 q450 e_27 dX1_keepApart_23 ?_
        refine lv_iload_n hx hb dX1_keepApart_26 rfl (lv_at hl 3 rfl) ?_
        have hk_28 : kd u b_26 = 101 := h.1
        have h := h.2
        refine g_iald X hw hk_28 h.1 dX1_keepApart_27 ?_
        have h := h.2
        refine lv_bipush (v := (-2)) hx hb dX1_keepApart_28 (by decide) ?_
        refine lv_icmp_eq (tgt := 52) hx hb dX1_keepApart_30 rfl (fun c_33 => ?_) (fun c_33 => ?_)
        · have h := h.1 c_33
          refine lv_iinc (v := x3 + 1) (lv' := [(3, .int (x3 + 1)), (0, .ref a0), (1, .ref a1), (2, .int x2)]) hx hb dX1_keepApart_52 hl (k := 3) rfl rfl (by decide) rfl (fun ls hl => ?_)
          refine lv_goto (tgt := 14) hx hb dX1_keepApart_55 rfl ?_
          exact hJ14 _ _ _ _ _ h hw (lv_sub hl [1, 2, 3, 0] rfl)
        · have h := h.2 c_33
          refine lv_aload_n hx hb dX1_keepApart_33 rfl (lv_at hl 0 rfl) ?_
          obtain ⟨b_29, e_30, h⟩ := h
          refine g_getR X hw in_X1 hk_24 rfl 9 rfl (by decide) q482 (fun _ z => z) e_30 dX1_keepApart_34 ?_
          refine lv_aload_n hx hb dX1_keepApart_37 rfl (lv_at hl 1 rfl) ?_
          refine g_getRu2R X hw hk_25 q450 e_27 dX1_keepApart_38 ?_
          refine lv_iload_n hx hb dX1_keepApart_41 rfl (lv_at hl 3 rfl) ?_
          refine g_iald X hw hk_28 h.1 dX1_keepApart_42 ?_
          have h := h.2
          refine lv_aload_n hx hb dX1_keepApart_43 rfl (lv_at hl 1 rfl) ?_
          refine g_getRu2R X hw hk_25 q450 e_27 dX1_keepApart_44 ?_
          refine lv_iload_n hx hb dX1_keepApart_47 rfl (lv_at hl 3 rfl) ?_
          refine g_iald X hw hk_28 h.1 dX1_keepApart_48 ?_
          have h := h.2
          have hk_31 : kd u b_29 = 4 := h.1
          have h := h.2
          refine g_callv hw (g_V X hw (mX4_mark l G _ _ _ _ _ h) 2 (lw_V q1223 q1224 q1225 q128 q1226) rfl rfl ydX4_mark ⟨Nat.le_of_ble_eq_true rfl, Nat.le_of_ble_eq_true rfl⟩ (g_recv X hw (ci := 3) (q := (RX4, TX4, 14)) hk_31 rfl) (As := [.int (AI u b_26 (tn x3)), .int (AI u b_26 (tn x3))]) (rest := []) rfl hl.1 rfl (Nat.le_of_ble_eq_true rfl) dX1_keepApart_49 ⟨Nat.le_refl _, Nat.le_refl _⟩) (fun u_32 H locs h hw => ?_)
          refine lv_iinc (v := x3 + 1) (lv' := [(3, .int (x3 + 1)), (0, .ref a0), (1, .ref a1), (2, .int x2)]) hx hb dX1_keepApart_52 hl (k := 3) rfl rfl (by decide) rfl (fun ls hl => ?_)
          refine lv_goto (tgt := 14) hx hb dX1_keepApart_55 rfl ?_
          exact hJ14 _ _ _ _ _ h hw (lv_sub hl [1, 2, 3, 0] rfl)
  exact key _ _ _ _ _ _ (Nat.lt_succ_self _) h0 hw hl
set_option maxHeartbeats 4000000 in
theorem mX1_keepApart (l : Launch) (G : GT) (u : Hp) (a0 : Nat) (a1 : Nat) (x2 : Int32) (K : Int32 → Hp → Prop) (h : pX1_keepApart u a0 a1 x2 K) : Met l yX1_keepApart (ws_ yX1_keepApart cX1_keepApart 7 (some .boolean)) (rmX1_keepApart 0 0) (va_Pc [.ref a0, .ref a1, .int x2] (GB G u)) (va_Qi K (fun u t => GH G u t.heap) (GA G)) 0 0 (GA G) := by
  refine Met.ofW (cc := cX1_keepApart) (maxL := 7) (ret := (some .boolean)) (by decide) rfl ?_
  intro p e s m args below meth c s₁ B hml hv
  obtain ⟨rfl, hv⟩ := hv
  have X := Mc_of (own := RX1) B hml rfl hv
  have hw : GW G u s s.heap [] := ⟨hv.2.1, va_S.rf⟩
  have hr := B.returns
  obtain ⟨hx, hb, hml, hown, hts, -⟩ := id X
  have hl := lv_entry ([.ref a0, .ref a1, .int x2]) (n := 7) (Nat.le_of_ble_eq_true rfl)
  rw [lg_entry_eq]
  generalize (lg_sl ([.ref a0, .ref a1, .int x2]) ++ List.replicate (7 - (lg_sl ([.ref a0, .ref a1, .int x2])).length) Slot.unset).toArray = ls at hl ⊢
  have hl : lv_has ls 7 [(0, .ref a0), (1, .ref a1), (2, .int x2)] := hl
  change W p l e (rmX1_keepApart 0 0) s m _ below meth c s.heap [] 0 0 (QI G below K _ s 0 0) (F0 m 0 ls [])
  unfold pX1_keepApart at h
  refine lv_aload_n hx hb dX1_keepApart_0 rfl (lv_at hl 0 rfl) ?_
  refine lv_aload_n hx hb dX1_keepApart_1 rfl (lv_at hl 1 rfl) ?_
  have hk_35 : kd u a0 = 1 := h.1
  have h := h.2
  refine g_callv hw (g_V X hw (mX1_lay l G _ _ _ _ h) 1 (lw_V q1082 q1084 qs30 q122 q1085) rfl rfl ydX1_lay ⟨Nat.le_of_ble_eq_true rfl, Nat.le_of_ble_eq_true rfl⟩ (g_recv X hw (ci := 0) (q := (RX1, TX1, 16)) hk_35 rfl) (As := [.ref a1]) (rest := []) rfl hl.1 rfl (Nat.le_of_ble_eq_true rfl) dX1_keepApart_2 ⟨Nat.le_refl _, Nat.le_refl _⟩) (fun u_36 H locs h hw => ?_)
  refine lv_aload_n hx hb dX1_keepApart_5 rfl (lv_at hl 0 rfl) ?_
  have hk_37 : kd u_36 a0 = 1 := h.1
  have h := h.2
  obtain ⟨b_38, e_39, h⟩ := h
  refine g_getR X hw in_X1 hk_37 rfl 9 rfl (by decide) q482 (fun _ z => z) e_39 dX1_keepApart_6 ?_
  have hk_40 : kd u_36 b_38 = 4 := h.1
  have h := h.2
  refine g_callv hw (g_V X hw (mX4_begin l G _ _ _ h) 0 (lw_V q1215 q1216 q1217 q128 q1218) rfl rfl ydX4_begin ⟨Nat.le_of_ble_eq_true rfl, Nat.le_of_ble_eq_true rfl⟩ (g_recv X hw (ci := 3) (q := (RX4, TX4, 14)) hk_40 rfl) (As := []) (rest := []) rfl hl.1 rfl (Nat.le_of_ble_eq_true rfl) dX1_keepApart_9 ⟨Nat.le_refl _, Nat.le_refl _⟩) (fun u_41 H locs h hw => ?_)
  refine lv_iconst (v := 0) hx hb dX1_keepApart_12 (by decide) ?_
  refine lv_istore_n (lv' := [(3, .int 0), (0, .ref a0), (1, .ref a1), (2, .int x2)]) hx hb dX1_keepApart_13 rfl hl (by decide) rfl (fun ls hl => ?_)
  exact wX1_keepApart_14 X hr  h hw (lv_sub hl [1, 2, 3, 0] rfl)

/-! FifthCard.seen(I)I -/
theorem ydX1_seen : yX1_seen.cls = "FifthCard" ∧ yX1_seen.cls ≠ "java/lang/invoke/MethodHandle" ∧ yX1_seen.cls ≠ "java/lang/invoke/VarHandle" ∧ (parseMethodDescriptor yX1_seen.desc).map (fun d => d.parameters.length) = some 1 := by decide +kernel
def rmX1_seen (mc ms : Nat) : Room := { frames := 7, cells := mc, slots := ms, locals := 177 }
set_option maxHeartbeats 4000000 in
theorem mX1_seen (l : Launch) (G : GT) (u : Hp) (a0 : Nat) (x1 : Int32) (K : Int32 → Hp → Prop) (h : pX1_seen u a0 x1 K) : Met l yX1_seen (ws_ yX1_seen cX1_seen 2 (some .int)) (rmX1_seen 0 0) (va_Pc [.ref a0, .int x1] (GB G u)) (va_Qi K (fun u t => GH G u t.heap) (GA G)) 0 0 (GA G) := by
  refine Met.ofW (cc := cX1_seen) (maxL := 2) (ret := (some .int)) (by decide) rfl ?_
  intro p e s m args below meth c s₁ B hml hv
  obtain ⟨rfl, hv⟩ := hv
  have X := Mc_of (own := RX1) B hml rfl hv
  have hw : GW G u s s.heap [] := ⟨hv.2.1, va_S.rf⟩
  have hr := B.returns
  obtain ⟨hx, hb, hml, hown, hts, -⟩ := id X
  have hl := lv_entry ([.ref a0, .int x1]) (n := 2) (Nat.le_of_ble_eq_true rfl)
  rw [lg_entry_eq]
  generalize (lg_sl ([.ref a0, .int x1]) ++ List.replicate (2 - (lg_sl ([.ref a0, .int x1])).length) Slot.unset).toArray = ls at hl ⊢
  have hl : lv_has ls 2 [(0, .ref a0), (1, .int x1)] := hl
  change W p l e (rmX1_seen 0 0) s m _ below meth c s.heap [] 0 0 (QI G below K _ s 0 0) (F0 m 0 ls [])
  unfold pX1_seen at h
  refine lv_aload_n hx hb dX1_seen_0 rfl (lv_at hl 0 rfl) ?_
  have hk_1 : kd u a0 = 1 := h.1
  have h := h.2
  refine g_callv hw (g_V X hw (mX1_anew l G _ _ _ h) 0 (lw_V q535 q537 qs2 q122 q538) rfl rfl ydX1_anew ⟨Nat.le_of_ble_eq_true rfl, Nat.le_of_ble_eq_true rfl⟩ (g_recv X hw (ci := 0) (q := (RX1, TX1, 16)) hk_1 rfl) (As := []) (rest := []) rfl hl.1 rfl (Nat.le_of_ble_eq_true rfl) dX1_seen_1 ⟨Nat.le_refl _, Nat.le_refl _⟩) (fun u_2 H locs h hw => ?_)
  refine lv_aload_n hx hb dX1_seen_4 rfl (lv_at hl 0 rfl) ?_
  refine lv_iload_n hx hb dX1_seen_5 rfl (lv_at hl 1 rfl) ?_
  have hk_3 : kd u_2 a0 = 1 := h.1
  have h := h.2
  refine g_callio hw (g_V X hw (mX1_isRule l G _ _ _ _ h) 1 (lw_V q1074 q1076 qs28 q122 q1077) rfl rfl ydX1_isRule ⟨Nat.le_of_ble_eq_true rfl, Nat.le_of_ble_eq_true rfl⟩ (g_recv X hw (ci := 0) (q := (RX1, TX1, 16)) hk_3 rfl) (As := [.int x1]) (rest := []) rfl hl.1 rfl (Nat.le_of_ble_eq_true rfl) dX1_seen_6 ⟨Nat.le_refl _, Nat.le_refl _⟩) (fun r_4 H locs h hw => ?_)
  refine lv_if_eq (tgt := 37) hx hb dX1_seen_9 rfl (fun c_19 => ?_) (fun c_19 => ?_)
  · have h := h.1 c_19
    refine lv_aload_n hx hb dX1_seen_37 rfl (lv_at hl 0 rfl) ?_
    refine lv_iconst (v := 1) hx hb dX1_seen_38 (by decide) ?_
    refine g_calli hw (g_V X hw (mX1_no l G _ _ _ _ h) 1 (lw_V q542 q544 qs3 q122 q545) rfl rfl ydX1_no ⟨Nat.le_of_ble_eq_true rfl, Nat.le_of_ble_eq_true rfl⟩ (g_recv X hw (ci := 0) (q := (RX1, TX1, 16)) hk_3 rfl) (As := [.int 1]) (rest := []) rfl hl.1 rfl (Nat.le_of_ble_eq_true rfl) dX1_seen_39 ⟨Nat.le_refl _, Nat.le_refl _⟩) (fun r_5 u_6 H locs h hw => ?_)
    exact g_iret X hw hr h (Nat.le_refl _) (Nat.le_refl _) dX1_seen_42
  · have h := h.2 c_19
    refine lv_aload_n hx hb dX1_seen_12 rfl (lv_at hl 0 rfl) ?_
    refine lv_aload_n hx hb dX1_seen_13 rfl (lv_at hl 0 rfl) ?_
    obtain ⟨b_7, e_8, h⟩ := h
    refine g_getR X hw in_X1 hk_3 rfl 3 rfl (by decide) q476 (fun _ z => z) e_8 dX1_seen_14 ?_
    have hk_9 : kd u_2 b_7 = 17 := h.1
    have h := h.2
    obtain ⟨b_10, e_11, h⟩ := h
    refine g_getR X hw in_X20 hk_9 rfl 0 rfl (by decide) q559 (fun _ z => z) e_11 dX1_seen_17 ?_
    refine lv_iload_n hx hb dX1_seen_20 rfl (lv_at hl 1 rfl) ?_
    have hk_12 : kd u_2 b_10 = 106 ∨ kd u_2 b_10 = 107 := h.1
    have h := h.2
    obtain ⟨hi_15, b_13, e_14, h⟩ := h
    refine g_aald X hw hk_12 hi_15 e_14 dX1_seen_21 ?_
    refine lv_iconst (v := 0) hx hb dX1_seen_22 (by decide) ?_
    refine g_calli hw (g_V X hw (mX1_keepApart l G _ _ _ _ _ h) 2 (lw_V q1247 q1249 qs38 q122 q1250) rfl rfl ydX1_keepApart ⟨Nat.le_of_ble_eq_true rfl, Nat.le_of_ble_eq_true rfl⟩ (g_recv X hw (ci := 0) (q := (RX1, TX1, 16)) hk_3 rfl) (As := [.ref b_13, .int 0]) (rest := []) rfl hl.1 rfl (Nat.le_of_ble_eq_true rfl) dX1_seen_23 ⟨Nat.le_refl _, Nat.le_refl _⟩) (fun r_16 u_17 H locs h hw => ?_)
    refine lv_if_eq (tgt := 33) hx hb dX1_seen_26 rfl (fun c_18 => ?_) (fun c_18 => ?_)
    · have h := h.1 c_18
      refine lv_iconst (v := 0) hx hb dX1_seen_33 (by decide) ?_
      refine lv_goto (tgt := 42) hx hb dX1_seen_34 rfl ?_
      exact g_iret X hw hr h (Nat.le_refl _) (Nat.le_refl _) dX1_seen_42
    · have h := h.2 c_18
      refine lv_iconst (v := 1) hx hb dX1_seen_29 (by decide) ?_
      refine lv_goto (tgt := 42) hx hb dX1_seen_30 rfl ?_
      exact g_iret X hw hr h (Nat.le_refl _) (Nat.le_refl _) dX1_seen_42

/-! FifthCardModel.ownsLaid()V -/
theorem ydX19_ownsLaid : yX19_ownsLaid.cls = "FifthCardModel" ∧ yX19_ownsLaid.cls ≠ "java/lang/invoke/MethodHandle" ∧ yX19_ownsLaid.cls ≠ "java/lang/invoke/VarHandle" ∧ (parseMethodDescriptor yX19_ownsLaid.desc).map (fun d => d.parameters.length) = some 0 := by decide +kernel
def rmX19_ownsLaid (mc ms : Nat) : Room := { frames := 2, cells := mc, slots := ms, locals := 45 }
set_option maxHeartbeats 4000000 in
theorem wX19_ownsLaid_6 {G : GT} {p : Program} {l : Launch} {e : Env} {s : State} {m : MethodId} {args : Array Value} {below : List Frame} {meth : Method} {c : Code} {H : Heap} {locs : List Loc} {ls : Array Slot} {a0 : Nat} {x1 : Int32} {u : Hp} {K : Hp → Prop} (X : Mc G p s m args meth c RX19 cX19_ownsLaid 2) (hr : meth.sig.returnType = none) (h : jl2 (bX19_ownsLaid_6 K a0) x1 u) (hw : GW G u s H locs) (hl : lv_has ls 2 [(0, .ref a0), (1, .int x1)]) : W p l e (rmX19_ownsLaid 0 0) s m args below meth c H locs 0 0 (QV G below K args s 0 0) (F0 m 6 ls []) := by
  obtain ⟨hx, hb, hml, hown, hts, -⟩ := id X
  obtain ⟨I, μ, h0, hs⟩ := h
  have key : ∀ (n : Nat) (x1 : Int32) (u : Hp) (H : Heap) (locs : List Loc) (ls : Array Slot) , μ x1 u < n → I x1 u → GW G u s H locs → lv_has ls 2 [(0, .ref a0), (1, .int x1)] → W p l e (rmX19_ownsLaid 0 0) s m args below meth c H locs 0 0 (QV G below K args s 0 0) (F0 m 6 ls []) := by
    intro n
    induction n with
    | zero =>
      intro x1 u H locs ls hn
      exact absurd hn (Nat.not_lt_zero _)
    | succ n ih =>
      intro x1 u H locs ls hn hI hw hl
      have h := hs x1 u hI
      unfold bX19_ownsLaid_6 at h
      have hJ6 : ∀ (x1' : Int32) (u' : Hp) (H : Heap) (locs : List Loc) (ls : Array Slot) , (I x1' u' ∧ μ x1' u' < μ x1 u) → GW G u' s H locs → lv_has ls 2 [(0, .ref a0), (1, .int x1')] → W p l e (rmX19_ownsLaid 0 0) s m args below meth c H locs 0 0 (QV G below K args s 0 0) (F0 m 6 ls []) := fun x1' u' H locs ls h hw hl => ih x1' u' H locs ls (Nat.lt_of_lt_of_le h.2 (Nat.le_of_lt_succ hn)) h.1 hw hl
      refine lv_iload_n hx hb dX19_ownsLaid_6 rfl (lv_at hl 1 rfl) ?_
      refine lv_aload_n hx hb dX19_ownsLaid_7 rfl (lv_at hl 0 rfl) ?_
      have hk_1 : kd u a0 = 16 := h.1
      have h := h.2
      refine g_getI X hw in_X19 hk_1 rfl 17 rfl (by decide) q1468 (fun _ z => z) dX19_ownsLaid_8 ?_
      refine lv_icmp_ge (tgt := 47) hx hb dX19_ownsLaid_11 rfl (fun c_7 => ?_) (fun c_7 => ?_)
      · have h := h.1 c_7
        exact g_vret X hw hr h (Nat.le_refl _) (Nat.le_refl _) dX19_ownsLaid_47
      · have h := h.2 c_7
        refine lv_aload_n hx hb dX19_ownsLaid_14 rfl (lv_at hl 0 rfl) ?_
        obtain ⟨b_2, e_3, h⟩ := h
        refine g_getR X hw in_X19 hk_1 rfl 25 rfl (by decide) q1476 (fun _ z => z) e_3 dX19_ownsLaid_15 ?_
        refine lv_iload_n hx hb dX19_ownsLaid_18 rfl (lv_at hl 1 rfl) ?_
        have hk_4 : kd u b_2 = 101 := h.1
        have h := h.2
        refine g_iald X hw hk_4 h.1 dX19_ownsLaid_19 ?_
        have h := h.2
        refine lv_bipush (v := (-2)) hx hb dX19_ownsLaid_20 (by decide) ?_
        refine lv_icmp_eq (tgt := 41) hx hb dX19_ownsLaid_22 rfl (fun c_6 => ?_) (fun c_6 => ?_)
        · have h := h.1 c_6
          refine lv_iinc (v := x1 + 1) (lv' := [(1, .int (x1 + 1)), (0, .ref a0)]) hx hb dX19_ownsLaid_41 hl (k := 1) rfl rfl (by decide) rfl (fun ls hl => ?_)
          refine lv_goto (tgt := 6) hx hb dX19_ownsLaid_44 rfl ?_
          exact hJ6 _ _ _ _ _ h hw (lv_sub hl [1, 0] rfl)
        · have h := h.2 c_6
          refine lv_aload_n hx hb dX19_ownsLaid_25 rfl (lv_at hl 0 rfl) ?_
          refine lv_aload_n hx hb dX19_ownsLaid_26 rfl (lv_at hl 0 rfl) ?_
          refine g_getR X hw in_X19 hk_1 rfl 25 rfl (by decide) q1476 (fun _ z => z) e_3 dX19_ownsLaid_27 ?_
          refine lv_iload_n hx hb dX19_ownsLaid_30 rfl (lv_at hl 1 rfl) ?_
          refine g_iald X hw hk_4 h.1 dX19_ownsLaid_31 ?_
          have h := h.2
          refine lv_aload_n hx hb dX19_ownsLaid_32 rfl (lv_at hl 0 rfl) ?_
          refine g_getR X hw in_X19 hk_1 rfl 25 rfl (by decide) q1476 (fun _ z => z) e_3 dX19_ownsLaid_33 ?_
          refine lv_iload_n hx hb dX19_ownsLaid_36 rfl (lv_at hl 1 rfl) ?_
          refine g_iald X hw hk_4 h.1 dX19_ownsLaid_37 ?_
          have h := h.2
          refine g_callv hw (g_V X hw (mX19_owns l G _ _ _ _ _ h) 2 (lw_V q2009 q2011 qs101 q143 q2012) rfl rfl ydX19_owns ⟨Nat.le_of_ble_eq_true rfl, Nat.le_of_ble_eq_true rfl⟩ (g_recv X hw (ci := 15) (q := (RX19, TX19, 46)) hk_1 rfl) (As := [.int (AI u b_2 (tn x1)), .int (AI u b_2 (tn x1))]) (rest := []) rfl hl.1 rfl (Nat.le_of_ble_eq_true rfl) dX19_ownsLaid_38 ⟨Nat.le_refl _, Nat.le_refl _⟩) (fun u_5 H locs h hw => ?_)
          refine lv_iinc (v := x1 + 1) (lv' := [(1, .int (x1 + 1)), (0, .ref a0)]) hx hb dX19_ownsLaid_41 hl (k := 1) rfl rfl (by decide) rfl (fun ls hl => ?_)
          refine lv_goto (tgt := 6) hx hb dX19_ownsLaid_44 rfl ?_
          exact hJ6 _ _ _ _ _ h hw (lv_sub hl [1, 0] rfl)
  exact key _ _ _ _ _ _ (Nat.lt_succ_self _) h0 hw hl
set_option maxHeartbeats 4000000 in
theorem mX19_ownsLaid (l : Launch) (G : GT) (u : Hp) (a0 : Nat) (K : Hp → Prop) (h : pX19_ownsLaid u a0 K) : Met l yX19_ownsLaid (ws_ yX19_ownsLaid cX19_ownsLaid 2 none) (rmX19_ownsLaid 0 0) (va_Pc [.ref a0] (GB G u)) (va_Qv K (fun u t => GH G u t.heap) (GA G)) 0 0 (GA G) := by
  refine Met.ofW (cc := cX19_ownsLaid) (maxL := 2) (ret := none) (by decide) rfl ?_
  intro p e s m args below meth c s₁ B hml hv
  obtain ⟨rfl, hv⟩ := hv
  have X := Mc_of (own := RX19) B hml rfl hv
  have hw : GW G u s s.heap [] := ⟨hv.2.1, va_S.rf⟩
  have hr := B.returns
  obtain ⟨hx, hb, hml, hown, hts, -⟩ := id X
  have hl := lv_entry ([.ref a0]) (n := 2) (Nat.le_of_ble_eq_true rfl)
  rw [lg_entry_eq]
  generalize (lg_sl ([.ref a0]) ++ List.replicate (2 - (lg_sl ([.ref a0])).length) Slot.unset).toArray = ls at hl ⊢
  have hl : lv_has ls 2 [(0, .ref a0)] := hl
  change W p l e (rmX19_ownsLaid 0 0) s m _ below meth c s.heap [] 0 0 (QV G below K _ s 0 0) (F0 m 0 ls [])
  unfold pX19_ownsLaid at h
  refine lv_aload_n hx hb dX19_ownsLaid_0 rfl (lv_at hl 0 rfl) ?_
  have hk_8 : kd u a0 = 16 := h.1
  have h := h.2
  refine g_callv hw (g_V X hw (mX19_clearOwners l G _ _ _ h) 0 (lw_V q1980 q1982 qs94 q143 q1983) rfl rfl ydX19_clearOwners ⟨Nat.le_of_ble_eq_true rfl, Nat.le_of_ble_eq_true rfl⟩ (g_recv X hw (ci := 15) (q := (RX19, TX19, 46)) hk_8 rfl) (As := []) (rest := []) rfl hl.1 rfl (Nat.le_of_ble_eq_true rfl) dX19_ownsLaid_1 ⟨Nat.le_refl _, Nat.le_refl _⟩) (fun u_9 H locs h hw => ?_)
  refine lv_iconst (v := 0) hx hb dX19_ownsLaid_4 (by decide) ?_
  refine lv_istore_n (lv' := [(1, .int 0), (0, .ref a0)]) hx hb dX19_ownsLaid_5 rfl hl (by decide) rfl (fun ls hl => ?_)
  exact wX19_ownsLaid_6 X hr  h hw (lv_sub hl [1, 0] rfl)

/-! FifthCardModel.becomes(II)I -/
theorem ydX19_becomes : yX19_becomes.cls = "FifthCardModel" ∧ yX19_becomes.cls ≠ "java/lang/invoke/MethodHandle" ∧ yX19_becomes.cls ≠ "java/lang/invoke/VarHandle" ∧ (parseMethodDescriptor yX19_becomes.desc).map (fun d => d.parameters.length) = some 2 := by decide +kernel
def rmX19_becomes (mc ms : Nat) : Room := { frames := 2, cells := mc, slots := ms, locals := 48 }
set_option maxHeartbeats 4000000 in
theorem wX19_becomes_83 {G : GT} {p : Program} {l : Launch} {e : Env} {s : State} {m : MethodId} {args : Array Value} {below : List Frame} {meth : Method} {c : Code} {H : Heap} {locs : List Loc} {ls : Array Slot} {a0 : Nat} {x4 : Int32} {u : Hp} {K : Int32 → Hp → Prop} (X : Mc G p s m args meth c RX19 cX19_becomes 7) (hr : meth.sig.returnType = (some .int)) (h : bX19_becomes_83 K a0 x4 u) (hw : GW G u s H locs) (hl : lv_has ls 7 [(0, .ref a0), (4, .int x4)]) : W p l e (rmX19_becomes 0 0) s m args below meth c H locs 0 0 (QI G below K args s 0 0) (F0 m 83 ls []) := by
  obtain ⟨hx, hb, hml, hown, hts, -⟩ := id X
  unfold bX19_becomes_83 at h
  refine lv_aload_n hx hb dX19_becomes_83 rfl (lv_at hl 0 rfl) ?_
  refine lv_aload_n hx hb dX19_becomes_84 rfl (lv_at hl 0 rfl) ?_
  have hk_1 : kd u a0 = 16 := h.1
  have h := h.2
  obtain ⟨b_2, e_3, h⟩ := h
  refine g_getR X hw in_X19 hk_1 rfl 26 rfl (by decide) q1477 (fun _ z => z) e_3 dX19_becomes_85 ?_
  refine lv_iconst (v := 0) hx hb dX19_becomes_88 (by decide) ?_
  refine g_callio hw (g_V X hw (mX19_rowNumber l G _ _ _ _ _ h) 2 (lw_V q1859 q1861 qs76 q143 q1862) rfl rfl ydX19_rowNumber ⟨Nat.le_of_ble_eq_true rfl, Nat.le_of_ble_eq_true rfl⟩ (g_recv X hw (ci := 15) (q := (RX19, TX19, 46)) hk_1 rfl) (As := [.ref b_2, .int 0]) (rest := []) rfl hl.1 rfl (Nat.le_of_ble_eq_true rfl) dX19_becomes_89 ⟨Nat.le_refl _, Nat.le_refl _⟩) (fun r_4 H locs h hw => ?_)
  refine lv_aload_n hx hb dX19_becomes_92 rfl (lv_at hl 0 rfl) ?_
  obtain ⟨b_5, e_6, h⟩ := h
  refine g_getR X hw in_X19 hk_1 rfl 3 rfl (by decide) q1454 (fun _ z => z) e_6 dX19_becomes_93 ?_
  have hk_7 : kd u b_5 = 20 := h.1
  have h := h.2
  refine g_callio hw (g_V X hw (mX23_tilts l G _ _ _ h) 0 (lw_V q1863 q1864 q1865 q153 q1866) rfl rfl ydX23_tilts ⟨Nat.le_of_ble_eq_true rfl, Nat.le_of_ble_eq_true rfl⟩ (g_recv X hw (ci := 19) (q := (RX23, TX23, 15)) hk_7 rfl) (As := []) (rest := [.int r_4]) rfl hl.1 rfl (Nat.le_of_ble_eq_true rfl) dX19_becomes_96 ⟨Nat.le_refl _, Nat.le_refl _⟩) (fun r_8 H locs h hw => ?_)
  refine lv_imul hx hb dX19_becomes_99 ?_
  refine lv_iload hx hb dX19_becomes_100 (lv_at hl 1 rfl) ?_
  refine lv_iadd hx hb dX19_becomes_102 ?_
  exact g_iret X hw hr h (Nat.le_refl _) (Nat.le_refl _) dX19_becomes_103
set_option maxHeartbeats 4000000 in
theorem mX19_becomes (l : Launch) (G : GT) (u : Hp) (a0 : Nat) (x1 : Int32) (x2 : Int32) (K : Int32 → Hp → Prop) (h : pX19_becomes u a0 x1 x2 K) : Met l yX19_becomes (ws_ yX19_becomes cX19_becomes 7 (some .int)) (rmX19_becomes 0 0) (va_Pc [.ref a0, .int x1, .int x2] (GB G u)) (va_Qi K (fun u t => GH G u t.heap) (GA G)) 0 0 (GA G) := by
  refine Met.ofW (cc := cX19_becomes) (maxL := 7) (ret := (some .int)) (by decide) rfl ?_
  intro p e s m args below meth c s₁ B hml hv
  obtain ⟨rfl, hv⟩ := hv
  have X := Mc_of (own := RX19) B hml rfl hv
  have hw : GW G u s s.heap [] := ⟨hv.2.1, va_S.rf⟩
  have hr := B.returns
  obtain ⟨hx, hb, hml, hown, hts, -⟩ := id X
  have hl := lv_entry ([.ref a0, .int x1, .int x2]) (n := 7) (Nat.le_of_ble_eq_true rfl)
  rw [lg_entry_eq]
  generalize (lg_sl ([.ref a0, .int x1, .int x2]) ++ List.replicate (7 - (lg_sl ([.ref a0, .int x1, .int x2])).length) Slot.unset).toArray = ls at hl ⊢
  have hl : lv_has ls 7 [(0, .ref a0), (1, .int x1), (2, .int x2)] := hl
  change W p l e (rmX19_becomes 0 0) s m _ below meth c s.heap [] 0 0 (QI G below K _ s 0 0) (F0 m 0 ls [])
  unfold pX19_becomes at h
  refine lv_aload_n hx hb dX19_becomes_0 rfl (lv_at hl 0 rfl) ?_
  refine lv_iload_n hx hb dX19_becomes_1 rfl (lv_at hl 1 rfl) ?_
  refine lv_aload_n hx hb dX19_becomes_2 rfl (lv_at hl 0 rfl) ?_
  have hk_9 : kd u a0 = 16 := h.1
  have h := h.2
  obtain ⟨b_10, e_11, h⟩ := h
  refine g_getR X hw in_X19 hk_9 rfl 26 rfl (by decide) q1477 (fun _ z => z) e_11 dX19_becomes_3 ?_
  refine g_callv hw (g_V X hw (mX19_rowCards l G _ _ _ _ _ h) 2 (lw_V q1911 q1913 qs81 q143 q1914) rfl rfl ydX19_rowCards ⟨Nat.le_of_ble_eq_true rfl, Nat.le_of_ble_eq_true rfl⟩ (g_recv X hw (ci := 15) (q := (RX19, TX19, 46)) hk_9 rfl) (As := [.int x1, .ref b_10]) (rest := []) rfl hl.1 rfl (Nat.le_of_ble_eq_true rfl) dX19_becomes_6 ⟨Nat.le_refl _, Nat.le_refl _⟩) (fun u_12 H locs h hw => ?_)
  refine lv_aload_n hx hb dX19_becomes_9 rfl (lv_at hl 0 rfl) ?_
  have hk_13 : kd u_12 a0 = 16 := h.1
  have h := h.2
  obtain ⟨b_14, e_15, h⟩ := h
  refine g_getR X hw in_X19 hk_13 rfl 26 rfl (by decide) q1477 (fun _ z => z) e_15 dX19_becomes_10 ?_
  refine lv_iload_n hx hb dX19_becomes_13 rfl (lv_at hl 2 rfl) ?_
  have hk_16 : kd u_12 b_14 = 101 := h.1
  have h := h.2
  refine g_iald X hw hk_16 h.1 dX19_becomes_14 ?_
  have h := h.2
  refine lv_istore_n (lv' := [(3, .int (AI u_12 b_14 (tn x2))), (0, .ref a0), (1, .int x1), (2, .int x2)]) hx hb dX19_becomes_15 rfl hl (by decide) rfl (fun ls hl => ?_)
  refine lv_aload_n hx hb dX19_becomes_16 rfl (lv_at hl 1 rfl) ?_
  refine g_getR X hw in_X19 hk_13 rfl 26 rfl (by decide) q1477 (fun _ z => z) e_15 dX19_becomes_17 ?_
  refine lv_iload_n hx hb dX19_becomes_20 rfl (lv_at hl 3 rfl) ?_
  refine lv_aload_n hx hb dX19_becomes_21 rfl (lv_at hl 1 rfl) ?_
  refine g_getR X hw in_X19 hk_13 rfl 26 rfl (by decide) q1477 (fun _ z => z) e_15 dX19_becomes_22 ?_
  refine lv_iload_n hx hb dX19_becomes_25 rfl (lv_at hl 3 rfl) ?_
  refine lv_iconst (v := 1) hx hb dX19_becomes_26 (by decide) ?_
  refine lv_iadd hx hb dX19_becomes_27 ?_
  refine g_iald X hw hk_16 h.1 dX19_becomes_28 ?_
  have h := h.2
  refine g_iast X hw hk_16 h.1 dX19_becomes_29 (fun H locs hw => ?_)
  have h := h.2
  refine lv_aload_n hx hb dX19_becomes_30 rfl (lv_at hl 1 rfl) ?_
  refine g_getR X hw in_X19 hk_13 rfl 26 rfl (by decide) q1477 (fun _ z => z) e_15 dX19_becomes_31 ?_
  refine lv_iload_n hx hb dX19_becomes_34 rfl (lv_at hl 3 rfl) ?_
  refine lv_iconst (v := 1) hx hb dX19_becomes_35 (by decide) ?_
  refine lv_iadd hx hb dX19_becomes_36 ?_
  refine lv_iload_n hx hb dX19_becomes_37 rfl (lv_at hl 0 rfl) ?_
  refine g_iast X hw hk_16 h.1 dX19_becomes_38 (fun H locs hw => ?_)
  have h := h.2
  refine lv_iload_n hx hb dX19_becomes_39 rfl (lv_at hl 2 rfl) ?_
  refine lv_aload_n hx hb dX19_becomes_40 rfl (lv_at hl 1 rfl) ?_
  obtain ⟨b_17, e_18, h⟩ := h
  refine g_getR X hw in_X19 hk_13 rfl 3 rfl (by decide) q1454 (fun _ z => z) e_18 dX19_becomes_41 ?_
  have hk_19 : kd u_12 b_17 = 20 := h.1
  have h := h.2
  refine g_callio hw (g_V X hw (mX23_tilts l G _ _ _ h) 0 (lw_V q1863 q1864 q1865 q153 q1866) rfl rfl ydX23_tilts ⟨Nat.le_of_ble_eq_true rfl, Nat.le_of_ble_eq_true rfl⟩ (g_recv X hw (ci := 19) (q := (RX23, TX23, 15)) hk_19 rfl) (As := []) (rest := [.int x1]) rfl hl.1 rfl (Nat.le_of_ble_eq_true rfl) dX19_becomes_44 ⟨Nat.le_refl _, Nat.le_refl _⟩) (fun r_20 H locs h hw => ?_)
  refine lv_irem hx hb dX19_becomes_47 h.1 ?_
  have h := h.2
  refine lv_istore (lv' := [(4, .int (jrem x1 r_20)), (3, .int (AI u_12 b_14 (tn x2))), (0, .ref a0), (1, .int x1), (2, .int x2)]) hx hb dX19_becomes_48 hl (by decide) rfl (fun ls hl => ?_)
  refine lv_iload hx hb dX19_becomes_50 (lv_at hl 0 rfl) ?_
  refine lv_iload_n hx hb dX19_becomes_52 rfl (lv_at hl 4 rfl) ?_
  refine lv_ishr hx hb dX19_becomes_53 ?_
  refine lv_iconst (v := 1) hx hb dX19_becomes_54 (by decide) ?_
  refine lv_iand hx hb dX19_becomes_55 ?_
  refine lv_istore (lv' := [(5, .int ((jshr (jrem x1 r_20) x2) &&& 1)), (4, .int (jrem x1 r_20)), (3, .int (AI u_12 b_14 (tn x2))), (0, .ref a0), (1, .int x1), (2, .int x2)]) hx hb dX19_becomes_56 hl (by decide) rfl (fun ls hl => ?_)
  refine lv_iload hx hb dX19_becomes_58 (lv_at hl 1 rfl) ?_
  refine lv_iload_n hx hb dX19_becomes_60 rfl (lv_at hl 5 rfl) ?_
  refine lv_iconst (v := 1) hx hb dX19_becomes_61 (by decide) ?_
  refine lv_iadd hx hb dX19_becomes_62 ?_
  refine lv_ishr hx hb dX19_becomes_63 ?_
  refine lv_iconst (v := 1) hx hb dX19_becomes_64 (by decide) ?_
  refine lv_iand hx hb dX19_becomes_65 ?_
  refine lv_topi (fun x6_21 e_22 => ?_)
  have h := h x6_21 e_22
  refine lv_istore (lv' := [(6, .int x6_21), (5, .int ((jshr (jrem x1 r_20) x2) &&& 1)), (4, .int (jrem x1 r_20)), (3, .int (AI u_12 b_14 (tn x2))), (0, .ref a0), (1, .int x1), (2, .int x2)]) hx hb dX19_becomes_66 hl (by decide) rfl (fun ls hl => ?_)
  refine lv_iload hx hb dX19_becomes_68 (lv_at hl 1 rfl) ?_
  refine lv_iload hx hb dX19_becomes_70 (lv_at hl 0 rfl) ?_
  refine lv_icmp_eq (tgt := 83) hx hb dX19_becomes_72 rfl (fun c_23 => ?_) (fun c_23 => ?_)
  · have h := h.1 c_23
    exact wX19_becomes_83 X hr  h hw (lv_sub hl [4, 2] rfl)
  · have h := h.2 c_23
    refine lv_iload hx hb dX19_becomes_75 (lv_at hl 2 rfl) ?_
    refine lv_iconst (v := 3) hx hb dX19_becomes_77 (by decide) ?_
    refine lv_iload_n hx hb dX19_becomes_78 rfl (lv_at hl 6 rfl) ?_
    refine lv_ishl hx hb dX19_becomes_79 ?_
    refine lv_ixor hx hb dX19_becomes_80 ?_
    refine lv_istore (lv' := [(4, .int ((jrem x1 r_20) ^^^ (jshl 3 x2))), (6, .int x6_21), (5, .int ((jshr (jrem x1 r_20) x2) &&& 1)), (3, .int (AI u_12 b_14 (tn x2))), (0, .ref a0), (1, .int x1), (2, .int x2)]) hx hb dX19_becomes_81 hl (by decide) rfl (fun ls hl => ?_)
    exact wX19_becomes_83 X hr  h hw (lv_sub hl [4, 0] rfl)

/-! FifthCardModel.isOwned(I)Z -/
theorem ydX19_isOwned : yX19_isOwned.cls = "FifthCardModel" ∧ yX19_isOwned.cls ≠ "java/lang/invoke/MethodHandle" ∧ yX19_isOwned.cls ≠ "java/lang/invoke/VarHandle" ∧ (parseMethodDescriptor yX19_isOwned.desc).map (fun d => d.parameters.length) = some 1 := by decide +kernel
def rmX19_isOwned (mc ms : Nat) : Room := { frames := 1, cells := mc, slots := ms, locals := 22 }
set_option maxHeartbeats 4000000 in
theorem mX19_isOwned (l : Launch) (G : GT) (u : Hp) (a0 : Nat) (x1 : Int32) (K : Int32 → Prop) (h : pX19_isOwned u a0 x1 K) : Met l yX19_isOwned (ws_ yX19_isOwned cX19_isOwned 2 (some .boolean)) (rmX19_isOwned 0 0) (va_Pc [.ref a0, .int x1] (GB G u)) (va_Qi (fun r v => v = u ∧ K r) (fun u t => GH G u t.heap) (GA G)) 0 0 (GA G) := by
  refine Met.ofW (cc := cX19_isOwned) (maxL := 2) (ret := (some .boolean)) (by decide) rfl ?_
  intro p e s m args below meth c s₁ B hml hv
  obtain ⟨rfl, hv⟩ := hv
  have X := Mc_of (own := RX19) B hml rfl hv
  have hw : GW G u s s.heap [] := ⟨hv.2.1, va_S.rf⟩
  have hr := B.returns
  obtain ⟨hx, hb, hml, hown, hts, -⟩ := id X
  have hl := lv_entry ([.ref a0, .int x1]) (n := 2) (Nat.le_of_ble_eq_true rfl)
  rw [lg_entry_eq]
  generalize (lg_sl ([.ref a0, .int x1]) ++ List.replicate (2 - (lg_sl ([.ref a0, .int x1])).length) Slot.unset).toArray = ls at hl ⊢
  have hl : lv_has ls 2 [(0, .ref a0), (1, .int x1)] := hl
  change W p l e (rmX19_isOwned 0 0) s m _ below meth c s.heap [] 0 0 (QI G below (fun r v => v = u ∧ K r) _ s 0 0) (F0 m 0 ls [])
  unfold pX19_isOwned at h
  refine lv_aload_n hx hb dX19_isOwned_0 rfl (lv_at hl 0 rfl) ?_
  have hk_1 : kd u a0 = 16 := h.1
  have h := h.2
  obtain ⟨b_2, e_3, h⟩ := h
  refine g_getR X hw in_X19 hk_1 rfl 27 rfl (by decide) q1478 (fun _ z => z) e_3 dX19_isOwned_1 ?_
  refine lv_aload_n hx hb dX19_isOwned_4 rfl (lv_at hl 0 rfl) ?_
  refine lv_iload_n hx hb dX19_isOwned_5 rfl (lv_at hl 1 rfl) ?_
  refine g_callio hw (g_V X hw (mX19_slot l G _ _ _ _ h) 1 (lw_V q2000 q2002 qs99 q143 q2003) rfl rfl ydX19_slot ⟨Nat.le_of_ble_eq_true rfl, Nat.le_of_ble_eq_true rfl⟩ (g_recv X hw (ci := 15) (q := (RX19, TX19, 46)) hk_1 rfl) (As := [.int x1]) (rest := [.ref b_2]) rfl hl.1 rfl (Nat.le_of_ble_eq_true rfl) dX19_isOwned_6 ⟨Nat.le_refl _, Nat.le_refl _⟩) (fun r_4 H locs h hw => ?_)
  have hk_5 : kd u b_2 = 101 := h.1
  have h := h.2
  refine g_iald X hw hk_5 h.1 dX19_isOwned_9 ?_
  have h := h.2
  refine lv_iconst (v := (-1)) hx hb dX19_isOwned_10 (by decide) ?_
  refine lv_icmp_eq (tgt := 18) hx hb dX19_isOwned_11 rfl (fun c_6 => ?_) (fun c_6 => ?_)
  · have h := h.1 c_6
    refine lv_iconst (v := 0) hx hb dX19_isOwned_18 (by decide) ?_
    exact g_zret X hw hr rfl ⟨rfl, h⟩ (Nat.le_refl _) (Nat.le_refl _) dX19_isOwned_19
  · have h := h.2 c_6
    refine lv_iconst (v := 1) hx hb dX19_isOwned_14 (by decide) ?_
    refine lv_goto (tgt := 19) hx hb dX19_isOwned_15 rfl ?_
    exact g_zret X hw hr rfl ⟨rfl, h⟩ (Nat.le_refl _) (Nat.le_refl _) dX19_isOwned_19

/-! FifthCardModel.isSeen()Z -/
theorem ydX19_isSeen : yX19_isSeen.cls = "FifthCardModel" ∧ yX19_isSeen.cls ≠ "java/lang/invoke/MethodHandle" ∧ yX19_isSeen.cls ≠ "java/lang/invoke/VarHandle" ∧ (parseMethodDescriptor yX19_isSeen.desc).map (fun d => d.parameters.length) = some 0 := by decide +kernel
def rmX19_isSeen (mc ms : Nat) : Room := { frames := 3, cells := mc, slots := ms, locals := 74 }
set_option maxHeartbeats 4000000 in
theorem wX19_isSeen_12 {G : GT} {p : Program} {l : Launch} {e : Env} {s : State} {m : MethodId} {args : Array Value} {below : List Frame} {meth : Method} {c : Code} {H : Heap} {locs : List Loc} {ls : Array Slot} {a0 : Nat} {x1 : Int32} {x2 : Int32} {u : Hp} {K : Int32 → Hp → Prop} {J2 : Int32 → Hp → Prop} (X : Mc G p s m args meth c RX19 cX19_isSeen 3) (hr : meth.sig.returnType = (some .boolean)) (hJ2 : ∀ (x1 : Int32) (u : Hp) (H : Heap) (locs : List Loc) (ls : Array Slot) , J2 x1 u → GW G u s H locs → lv_has ls 3 [(0, .ref a0), (1, .int x1)] → W p l e (rmX19_isSeen 0 0) s m args below meth c H locs 0 0 (QI G below K args s 0 0) (F0 m 2 ls [])) (h : jl2 (bX19_isSeen_12 K J2 a0 x1) x2 u) (hw : GW G u s H locs) (hl : lv_has ls 3 [(0, .ref a0), (1, .int x1), (2, .int x2)]) : W p l e (rmX19_isSeen 0 0) s m args below meth c H locs 0 0 (QI G below K args s 0 0) (F0 m 12 ls []) := by
  obtain ⟨hx, hb, hml, hown, hts, -⟩ := id X
  obtain ⟨I, μ, h0, hs⟩ := h
  have key : ∀ (n : Nat) (x2 : Int32) (u : Hp) (H : Heap) (locs : List Loc) (ls : Array Slot) , μ x2 u < n → I x2 u → GW G u s H locs → lv_has ls 3 [(0, .ref a0), (1, .int x1), (2, .int x2)] → W p l e (rmX19_isSeen 0 0) s m args below meth c H locs 0 0 (QI G below K args s 0 0) (F0 m 12 ls []) := by
    intro n
    induction n with
    | zero =>
      intro x2 u H locs ls hn
      exact absurd hn (Nat.not_lt_zero _)
    | succ n ih =>
      intro x2 u H locs ls hn hI hw hl
      have h := hs x2 u hI
      unfold bX19_isSeen_12 at h
      have hJ12 : ∀ (x2' : Int32) (u' : Hp) (H : Heap) (locs : List Loc) (ls : Array Slot) , (I x2' u' ∧ μ x2' u' < μ x2 u) → GW G u' s H locs → lv_has ls 3 [(0, .ref a0), (1, .int x1), (2, .int x2')] → W p l e (rmX19_isSeen 0 0) s m args below meth c H locs 0 0 (QI G below K args s 0 0) (F0 m 12 ls []) := fun x2' u' H locs ls h hw hl => ih x2' u' H locs ls (Nat.lt_of_lt_of_le h.2 (Nat.le_of_lt_succ hn)) h.1 hw hl
      refine lv_iload_n hx hb dX19_isSeen_12 rfl (lv_at hl 2 rfl) ?_
      refine lv_iconst (v := 1) hx hb dX19_isSeen_13 (by decide) ?_
      refine lv_iadd hx hb dX19_isSeen_14 ?_
      refine lv_aload_n hx hb dX19_isSeen_15 rfl (lv_at hl 0 rfl) ?_
      have hk_1 : kd u a0 = 16 := h.1
      have h := h.2
      obtain ⟨b_2, e_3, h⟩ := h
      refine g_getR X hw in_X19 hk_1 rfl 3 rfl (by decide) q1454 (fun _ z => z) e_3 dX19_isSeen_16 ?_
      have hk_4 : kd u b_2 = 20 := h.1
      have h := h.2
      refine g_getNI X hw (host := "FifthCardModel") in_X23 hk_4 rfl 4 rfl (by decide) (List.mem_of_getElem? (i := 7) rfl) (fun _ z => z) dX19_isSeen_19 ?_
      refine lv_icmp_ge (tgt := 62) hx hb dX19_isSeen_22 rfl (fun c_14 => ?_) (fun c_14 => ?_)
      · have h := h.1 c_14
        refine lv_iinc (v := x1 + 1) (lv' := [(1, .int (x1 + 1)), (0, .ref a0), (2, .int x2)]) hx hb dX19_isSeen_62 hl (k := 1) rfl rfl (by decide) rfl (fun ls hl => ?_)
        refine lv_goto (tgt := 2) hx hb dX19_isSeen_65 rfl ?_
        exact hJ2 _ _ _ _ _ h hw (lv_sub hl [1, 0] rfl)
      · have h := h.2 c_14
        refine lv_aload_n hx hb dX19_isSeen_25 rfl (lv_at hl 0 rfl) ?_
        obtain ⟨b_5, e_6, h⟩ := h
        refine g_getR X hw in_X19 hk_1 rfl 25 rfl (by decide) q1476 (fun _ z => z) e_6 dX19_isSeen_26 ?_
        refine lv_iload_n hx hb dX19_isSeen_29 rfl (lv_at hl 1 rfl) ?_
        have hk_7 : kd u b_5 = 101 := h.1
        have h := h.2
        refine g_iald X hw hk_7 h.1 dX19_isSeen_30 ?_
        have h := h.2
        refine lv_bipush (v := (-2)) hx hb dX19_isSeen_31 (by decide) ?_
        refine lv_icmp_eq (tgt := 56) hx hb dX19_isSeen_33 rfl (fun c_13 => ?_) (fun c_13 => ?_)
        · have h := h.1 c_13
          refine lv_iinc (v := x2 + 1) (lv' := [(2, .int (x2 + 1)), (0, .ref a0), (1, .int x1)]) hx hb dX19_isSeen_56 hl (k := 2) rfl rfl (by decide) rfl (fun ls hl => ?_)
          refine lv_goto (tgt := 12) hx hb dX19_isSeen_59 rfl ?_
          exact hJ12 _ _ _ _ _ h hw (lv_sub hl [1, 2, 0] rfl)
        · have h := h.2 c_13
          refine lv_aload_n hx hb dX19_isSeen_36 rfl (lv_at hl 0 rfl) ?_
          refine lv_aload_n hx hb dX19_isSeen_37 rfl (lv_at hl 0 rfl) ?_
          refine lv_aload_n hx hb dX19_isSeen_38 rfl (lv_at hl 0 rfl) ?_
          refine g_getR X hw in_X19 hk_1 rfl 25 rfl (by decide) q1476 (fun _ z => z) e_6 dX19_isSeen_39 ?_
          refine lv_iload_n hx hb dX19_isSeen_42 rfl (lv_at hl 1 rfl) ?_
          refine g_iald X hw hk_7 h.1 dX19_isSeen_43 ?_
          have h := h.2
          refine lv_iload_n hx hb dX19_isSeen_44 rfl (lv_at hl 2 rfl) ?_
          refine g_calli hw (g_V X hw (mX19_becomes l G _ _ _ _ _ h) 2 (lw_V q2069 q2071 qs109 q143 q2072) rfl rfl ydX19_becomes ⟨Nat.le_of_ble_eq_true rfl, Nat.le_of_ble_eq_true rfl⟩ (g_recv X hw (ci := 15) (q := (RX19, TX19, 46)) hk_1 rfl) (As := [.int (AI u b_5 (tn x1)), .int x2]) (rest := [.ref a0]) rfl hl.1 rfl (Nat.le_of_ble_eq_true rfl) dX19_isSeen_45 ⟨Nat.le_refl _, Nat.le_refl _⟩) (fun r_8 u_9 H locs h hw => ?_)
          have hk_10 : kd u_9 a0 = 16 := h.1
          have h := h.2
          refine g_callio hw (g_V X hw (mX19_isOwned l G _ _ _ _ h) 1 (lw_V q2073 q2075 qs110 q143 q2076) rfl rfl ydX19_isOwned ⟨Nat.le_of_ble_eq_true rfl, Nat.le_of_ble_eq_true rfl⟩ (g_recv X hw (ci := 15) (q := (RX19, TX19, 46)) hk_10 rfl) (As := [.int r_8]) (rest := []) rfl hl.1 rfl (Nat.le_of_ble_eq_true rfl) dX19_isSeen_48 ⟨Nat.le_refl _, Nat.le_refl _⟩) (fun r_11 H locs h hw => ?_)
          refine lv_if_eq (tgt := 56) hx hb dX19_isSeen_51 rfl (fun c_12 => ?_) (fun c_12 => ?_)
          · have h := h.1 c_12
            refine lv_iinc (v := x2 + 1) (lv' := [(2, .int (x2 + 1)), (0, .ref a0), (1, .int x1)]) hx hb dX19_isSeen_56 hl (k := 2) rfl rfl (by decide) rfl (fun ls hl => ?_)
            refine lv_goto (tgt := 12) hx hb dX19_isSeen_59 rfl ?_
            exact hJ12 _ _ _ _ _ h hw (lv_sub hl [1, 2, 0] rfl)
          · have h := h.2 c_12
            refine lv_iconst (v := 0) hx hb dX19_isSeen_54 (by decide) ?_
            exact g_zret X hw hr rfl h (Nat.le_refl _) (Nat.le_refl _) dX19_isSeen_55
  exact key _ _ _ _ _ _ (Nat.lt_succ_self _) h0 hw hl
set_option maxHeartbeats 4000000 in
theorem wX19_isSeen_2 {G : GT} {p : Program} {l : Launch} {e : Env} {s : State} {m : MethodId} {args : Array Value} {below : List Frame} {meth : Method} {c : Code} {H : Heap} {locs : List Loc} {ls : Array Slot} {a0 : Nat} {x1 : Int32} {u : Hp} {K : Int32 → Hp → Prop} (X : Mc G p s m args meth c RX19 cX19_isSeen 3) (hr : meth.sig.returnType = (some .boolean)) (h : jl2 (bX19_isSeen_2 K a0) x1 u) (hw : GW G u s H locs) (hl : lv_has ls 3 [(0, .ref a0), (1, .int x1)]) : W p l e (rmX19_isSeen 0 0) s m args below meth c H locs 0 0 (QI G below K args s 0 0) (F0 m 2 ls []) := by
  obtain ⟨hx, hb, hml, hown, hts, -⟩ := id X
  obtain ⟨I, μ, h0, hs⟩ := h
  have key : ∀ (n : Nat) (x1 : Int32) (u : Hp) (H : Heap) (locs : List Loc) (ls : Array Slot) , μ x1 u < n → I x1 u → GW G u s H locs → lv_has ls 3 [(0, .ref a0), (1, .int x1)] → W p l e (rmX19_isSeen 0 0) s m args below meth c H locs 0 0 (QI G below K args s 0 0) (F0 m 2 ls []) := by
    intro n
    induction n with
    | zero =>
      intro x1 u H locs ls hn
      exact absurd hn (Nat.not_lt_zero _)
    | succ n ih =>
      intro x1 u H locs ls hn hI hw hl
      have h := hs x1 u hI
      unfold bX19_isSeen_2 at h
      have hJ2 : ∀ (x1' : Int32) (u' : Hp) (H : Heap) (locs : List Loc) (ls : Array Slot) , (I x1' u' ∧ μ x1' u' < μ x1 u) → GW G u' s H locs → lv_has ls 3 [(0, .ref a0), (1, .int x1')] → W p l e (rmX19_isSeen 0 0) s m args below meth c H locs 0 0 (QI G below K args s 0 0) (F0 m 2 ls []) := fun x1' u' H locs ls h hw hl => ih x1' u' H locs ls (Nat.lt_of_lt_of_le h.2 (Nat.le_of_lt_succ hn)) h.1 hw hl
      refine lv_iload_n hx hb dX19_isSeen_2 rfl (lv_at hl 1 rfl) ?_
      refine lv_aload_n hx hb dX19_isSeen_3 rfl (lv_at hl 0 rfl) ?_
      have hk_15 : kd u a0 = 16 := h.1
      have h := h.2
      refine g_getI X hw in_X19 hk_15 rfl 17 rfl (by decide) q1468 (fun _ z => z) dX19_isSeen_4 ?_
      refine lv_icmp_ge (tgt := 68) hx hb dX19_isSeen_7 rfl (fun c_16 => ?_) (fun c_16 => ?_)
      · have h := h.1 c_16
        refine lv_iconst (v := 1) hx hb dX19_isSeen_68 (by decide) ?_
        exact g_zret X hw hr rfl h (Nat.le_refl _) (Nat.le_refl _) dX19_isSeen_69
      · have h := h.2 c_16
        refine lv_iconst (v := 0) hx hb dX19_isSeen_10 (by decide) ?_
        refine lv_istore_n (lv' := [(2, .int 0), (0, .ref a0), (1, .int x1)]) hx hb dX19_isSeen_11 rfl hl (by decide) rfl (fun ls hl => ?_)
        exact wX19_isSeen_12 X hr hJ2  h hw (lv_sub hl [1, 2, 0] rfl)
  exact key _ _ _ _ _ _ (Nat.lt_succ_self _) h0 hw hl
set_option maxHeartbeats 4000000 in
theorem mX19_isSeen (l : Launch) (G : GT) (u : Hp) (a0 : Nat) (K : Int32 → Hp → Prop) (h : pX19_isSeen u a0 K) : Met l yX19_isSeen (ws_ yX19_isSeen cX19_isSeen 3 (some .boolean)) (rmX19_isSeen 0 0) (va_Pc [.ref a0] (GB G u)) (va_Qi K (fun u t => GH G u t.heap) (GA G)) 0 0 (GA G) := by
  refine Met.ofW (cc := cX19_isSeen) (maxL := 3) (ret := (some .boolean)) (by decide) rfl ?_
  intro p e s m args below meth c s₁ B hml hv
  obtain ⟨rfl, hv⟩ := hv
  have X := Mc_of (own := RX19) B hml rfl hv
  have hw : GW G u s s.heap [] := ⟨hv.2.1, va_S.rf⟩
  have hr := B.returns
  obtain ⟨hx, hb, hml, hown, hts, -⟩ := id X
  have hl := lv_entry ([.ref a0]) (n := 3) (Nat.le_of_ble_eq_true rfl)
  rw [lg_entry_eq]
  generalize (lg_sl ([.ref a0]) ++ List.replicate (3 - (lg_sl ([.ref a0])).length) Slot.unset).toArray = ls at hl ⊢
  have hl : lv_has ls 3 [(0, .ref a0)] := hl
  change W p l e (rmX19_isSeen 0 0) s m _ below meth c s.heap [] 0 0 (QI G below K _ s 0 0) (F0 m 0 ls [])
  unfold pX19_isSeen at h
  refine lv_iconst (v := 0) hx hb dX19_isSeen_0 (by decide) ?_
  refine lv_istore_n (lv' := [(1, .int 0), (0, .ref a0)]) hx hb dX19_isSeen_1 rfl hl (by decide) rfl (fun ls hl => ?_)
  exact wX19_isSeen_2 X hr  h hw (lv_sub hl [1, 0] rfl)

/-! FifthCardModel.seen(I)I -/
theorem ydX19_seen : yX19_seen.cls = "FifthCardModel" ∧ yX19_seen.cls ≠ "java/lang/invoke/MethodHandle" ∧ yX19_seen.cls ≠ "java/lang/invoke/VarHandle" ∧ (parseMethodDescriptor yX19_seen.desc).map (fun d => d.parameters.length) = some 1 := by decide +kernel
def rmX19_seen (mc ms : Nat) : Room := { frames := 8, cells := mc, slots := ms, locals := 191 }
set_option maxHeartbeats 4000000 in
theorem mX19_seen (l : Launch) (G : GT) (u : Hp) (a0 : Nat) (x1 : Int32) (K : Int32 → Hp → Prop) (h : pX19_seen u a0 x1 K) : Met l yX19_seen (ws_ yX19_seen cX19_seen 2 (some .int)) (rmX19_seen 0 0) (va_Pc [.ref a0, .int x1] (GB G u)) (va_Qi K (fun u t => GH G u t.heap) (GA G)) 0 0 (GA G) := by
  refine Met.ofW (cc := cX19_seen) (maxL := 2) (ret := (some .int)) (by decide) rfl ?_
  intro p e s m args below meth c s₁ B hml hv
  obtain ⟨rfl, hv⟩ := hv
  have X := Mc_of (own := RX19) B hml rfl hv
  have hw : GW G u s s.heap [] := ⟨hv.2.1, va_S.rf⟩
  have hr := B.returns
  obtain ⟨hx, hb, hml, hown, hts, -⟩ := id X
  have hl := lv_entry ([.ref a0, .int x1]) (n := 2) (Nat.le_of_ble_eq_true rfl)
  rw [lg_entry_eq]
  generalize (lg_sl ([.ref a0, .int x1]) ++ List.replicate (2 - (lg_sl ([.ref a0, .int x1])).length) Slot.unset).toArray = ls at hl ⊢
  have hl : lv_has ls 2 [(0, .ref a0), (1, .int x1)] := hl
  change W p l e (rmX19_seen 0 0) s m _ below meth c s.heap [] 0 0 (QI G below K _ s 0 0) (F0 m 0 ls [])
  unfold pX19_seen at h
  refine lv_aload_n hx hb dX19_seen_0 rfl (lv_at hl 0 rfl) ?_
  refine lv_iconst (v := 0) hx hb dX19_seen_1 (by decide) ?_
  have hk_1 : kd u a0 = 16 := h.1
  have h := h.2
  refine g_putI (v := 0) X hw in_X19 tyX19_ok nmX19 hk_1 rfl 0 rfl (by decide) q1451 (fun _ z => z) rfl rfl rfl dX19_seen_2 (fun H locs hw => ?_)
  refine lv_aload_n hx hb dX19_seen_5 rfl (lv_at hl 0 rfl) ?_
  refine lv_iload_n hx hb dX19_seen_6 rfl (lv_at hl 1 rfl) ?_
  refine g_callio hw (g_V X hw (mX19_isRule l G _ _ _ _ h) 1 (lw_V q1940 q1942 qs84 q143 q1943) rfl rfl ydX19_isRule ⟨Nat.le_of_ble_eq_true rfl, Nat.le_of_ble_eq_true rfl⟩ (g_recv X hw (ci := 15) (q := (RX19, TX19, 46)) hk_1 rfl) (As := [.int x1]) (rest := []) rfl hl.1 rfl (Nat.le_of_ble_eq_true rfl) dX19_seen_7 ⟨Nat.le_refl _, Nat.le_refl _⟩) (fun r_2 H locs h hw => ?_)
  refine lv_if_ne (tgt := 19) hx hb dX19_seen_10 rfl (fun c_18 => ?_) (fun c_18 => ?_)
  · have h := h.2 c_18
    refine lv_aload_n hx hb dX19_seen_19 rfl (lv_at hl 0 rfl) ?_
    refine lv_iload_n hx hb dX19_seen_20 rfl (lv_at hl 1 rfl) ?_
    refine g_callv hw (g_V X hw (mX19_laysAll l G _ _ _ _ h) 1 (lw_V q2025 q2027 qs103 q143 q2028) rfl rfl ydX19_laysAll ⟨Nat.le_of_ble_eq_true rfl, Nat.le_of_ble_eq_true rfl⟩ (g_recv X hw (ci := 15) (q := (RX19, TX19, 46)) hk_1 rfl) (As := [.int x1]) (rest := []) rfl hl.1 rfl (Nat.le_of_ble_eq_true rfl) dX19_seen_21 ⟨Nat.le_refl _, Nat.le_refl _⟩) (fun u_3 H locs h hw => ?_)
    refine lv_aload_n hx hb dX19_seen_24 rfl (lv_at hl 0 rfl) ?_
    have hk_4 : kd u_3 a0 = 16 := h.1
    have h := h.2
    refine g_callv hw (g_V X hw (mX19_ownsLaid l G _ _ _ h) 0 (lw_V q2061 q2063 qs107 q143 q2064) rfl rfl ydX19_ownsLaid ⟨Nat.le_of_ble_eq_true rfl, Nat.le_of_ble_eq_true rfl⟩ (g_recv X hw (ci := 15) (q := (RX19, TX19, 46)) hk_4 rfl) (As := []) (rest := []) rfl hl.1 rfl (Nat.le_of_ble_eq_true rfl) dX19_seen_25 ⟨Nat.le_refl _, Nat.le_refl _⟩) (fun u_5 H locs h hw => ?_)
    refine lv_aload_n hx hb dX19_seen_28 rfl (lv_at hl 0 rfl) ?_
    refine lv_aload_n hx hb dX19_seen_29 rfl (lv_at hl 0 rfl) ?_
    have hk_6 : kd u_5 a0 = 16 := h.1
    have h := h.2
    refine g_calli hw (g_V X hw (mX19_isSeen l G _ _ _ h) 0 (lw_V q2065 q2067 qs108 q143 q2068) rfl rfl ydX19_isSeen ⟨Nat.le_of_ble_eq_true rfl, Nat.le_of_ble_eq_true rfl⟩ (g_recv X hw (ci := 15) (q := (RX19, TX19, 46)) hk_6 rfl) (As := []) (rest := [.ref a0]) rfl hl.1 rfl (Nat.le_of_ble_eq_true rfl) dX19_seen_30 ⟨Nat.le_refl _, Nat.le_refl _⟩) (fun r_7 u_8 H locs h hw => ?_)
    refine lv_if_eq (tgt := 40) hx hb dX19_seen_33 rfl (fun c_15 => ?_) (fun c_15 => ?_)
    · have h := h.1 c_15
      refine lv_iconst (v := 0) hx hb dX19_seen_40 (by decide) ?_
      have hk_9 : kd u_8 a0 = 16 := h.1
      have h := h.2
      refine g_calli hw (g_V X hw (mX19_good l G _ _ _ _ h) 1 (lw_V q1867 q1869 qs77 q143 q1870) rfl rfl ydX19_good ⟨Nat.le_of_ble_eq_true rfl, Nat.le_of_ble_eq_true rfl⟩ (g_recv X hw (ci := 15) (q := (RX19, TX19, 46)) hk_9 rfl) (As := [.int 0]) (rest := []) rfl hl.1 rfl (Nat.le_of_ble_eq_true rfl) dX19_seen_41 ⟨Nat.le_refl _, Nat.le_refl _⟩) (fun r_10 u_11 H locs h hw => ?_)
      exact g_iret X hw hr h (Nat.le_refl _) (Nat.le_refl _) dX19_seen_44
    · have h := h.2 c_15
      refine lv_iconst (v := 1) hx hb dX19_seen_36 (by decide) ?_
      refine lv_goto (tgt := 41) hx hb dX19_seen_37 rfl ?_
      have hk_12 : kd u_8 a0 = 16 := h.1
      have h := h.2
      refine g_calli hw (g_V X hw (mX19_good l G _ _ _ _ h) 1 (lw_V q1867 q1869 qs77 q143 q1870) rfl rfl ydX19_good ⟨Nat.le_of_ble_eq_true rfl, Nat.le_of_ble_eq_true rfl⟩ (g_recv X hw (ci := 15) (q := (RX19, TX19, 46)) hk_12 rfl) (As := [.int 1]) (rest := []) rfl hl.1 rfl (Nat.le_of_ble_eq_true rfl) dX19_seen_41 ⟨Nat.le_refl _, Nat.le_refl _⟩) (fun r_13 u_14 H locs h hw => ?_)
      exact g_iret X hw hr h (Nat.le_refl _) (Nat.le_refl _) dX19_seen_44
  · have h := h.1 c_18
    refine lv_aload_n hx hb dX19_seen_13 rfl (lv_at hl 0 rfl) ?_
    refine lv_iconst (v := 1) hx hb dX19_seen_14 (by decide) ?_
    refine g_calli hw (g_V X hw (mX19_refused l G _ _ _ _ h) 1 (lw_V q1603 q1605 qs47 q143 q1606) rfl rfl ydX19_refused ⟨Nat.le_of_ble_eq_true rfl, Nat.le_of_ble_eq_true rfl⟩ (g_recv X hw (ci := 15) (q := (RX19, TX19, 46)) hk_1 rfl) (As := [.int 1]) (rest := []) rfl hl.1 rfl (Nat.le_of_ble_eq_true rfl) dX19_seen_15 ⟨Nat.le_refl _, Nat.le_refl _⟩) (fun r_16 u_17 H locs h hw => ?_)
    exact g_iret X hw hr h (Nat.le_refl _) (Nat.le_refl _) dX19_seen_18

/-! FifthCard.borne(I)I -/
theorem ydX1_borne : yX1_borne.cls = "FifthCard" ∧ yX1_borne.cls ≠ "java/lang/invoke/MethodHandle" ∧ yX1_borne.cls ≠ "java/lang/invoke/VarHandle" ∧ (parseMethodDescriptor yX1_borne.desc).map (fun d => d.parameters.length) = some 1 := by decide +kernel
def rmX1_borne (mc ms : Nat) : Room := { frames := 7, cells := mc, slots := ms, locals := 177 }
set_option maxHeartbeats 4000000 in
theorem mX1_borne (l : Launch) (G : GT) (u : Hp) (a0 : Nat) (x1 : Int32) (K : Int32 → Hp → Prop) (h : pX1_borne u a0 x1 K) : Met l yX1_borne (ws_ yX1_borne cX1_borne 2 (some .int)) (rmX1_borne 0 0) (va_Pc [.ref a0, .int x1] (GB G u)) (va_Qi K (fun u t => GH G u t.heap) (GA G)) 0 0 (GA G) := by
  refine Met.ofW (cc := cX1_borne) (maxL := 2) (ret := (some .int)) (by decide) rfl ?_
  intro p e s m args below meth c s₁ B hml hv
  obtain ⟨rfl, hv⟩ := hv
  have X := Mc_of (own := RX1) B hml rfl hv
  have hw : GW G u s s.heap [] := ⟨hv.2.1, va_S.rf⟩
  have hr := B.returns
  obtain ⟨hx, hb, hml, hown, hts, -⟩ := id X
  have hl := lv_entry ([.ref a0, .int x1]) (n := 2) (Nat.le_of_ble_eq_true rfl)
  rw [lg_entry_eq]
  generalize (lg_sl ([.ref a0, .int x1]) ++ List.replicate (2 - (lg_sl ([.ref a0, .int x1])).length) Slot.unset).toArray = ls at hl ⊢
  have hl : lv_has ls 2 [(0, .ref a0), (1, .int x1)] := hl
  change W p l e (rmX1_borne 0 0) s m _ below meth c s.heap [] 0 0 (QI G below K _ s 0 0) (F0 m 0 ls [])
  unfold pX1_borne at h
  refine lv_aload_n hx hb dX1_borne_0 rfl (lv_at hl 0 rfl) ?_
  have hk_1 : kd u a0 = 1 := h.1
  have h := h.2
  refine g_callv hw (g_V X hw (mX1_anew l G _ _ _ h) 0 (lw_V q535 q537 qs2 q122 q538) rfl rfl ydX1_anew ⟨Nat.le_of_ble_eq_true rfl, Nat.le_of_ble_eq_true rfl⟩ (g_recv X hw (ci := 0) (q := (RX1, TX1, 16)) hk_1 rfl) (As := []) (rest := []) rfl hl.1 rfl (Nat.le_of_ble_eq_true rfl) dX1_borne_1 ⟨Nat.le_refl _, Nat.le_refl _⟩) (fun u_2 H locs h hw => ?_)
  refine lv_aload_n hx hb dX1_borne_4 rfl (lv_at hl 0 rfl) ?_
  refine lv_iload_n hx hb dX1_borne_5 rfl (lv_at hl 1 rfl) ?_
  have hk_3 : kd u_2 a0 = 1 := h.1
  have h := h.2
  refine g_callio hw (g_V X hw (mX1_isRule l G _ _ _ _ h) 1 (lw_V q1074 q1076 qs28 q122 q1077) rfl rfl ydX1_isRule ⟨Nat.le_of_ble_eq_true rfl, Nat.le_of_ble_eq_true rfl⟩ (g_recv X hw (ci := 0) (q := (RX1, TX1, 16)) hk_3 rfl) (As := [.int x1]) (rest := []) rfl hl.1 rfl (Nat.le_of_ble_eq_true rfl) dX1_borne_6 ⟨Nat.le_refl _, Nat.le_refl _⟩) (fun r_4 H locs h hw => ?_)
  refine lv_if_eq (tgt := 37) hx hb dX1_borne_9 rfl (fun c_19 => ?_) (fun c_19 => ?_)
  · have h := h.1 c_19
    refine lv_aload_n hx hb dX1_borne_37 rfl (lv_at hl 0 rfl) ?_
    refine lv_iconst (v := 1) hx hb dX1_borne_38 (by decide) ?_
    refine g_calli hw (g_V X hw (mX1_no l G _ _ _ _ h) 1 (lw_V q542 q544 qs3 q122 q545) rfl rfl ydX1_no ⟨Nat.le_of_ble_eq_true rfl, Nat.le_of_ble_eq_true rfl⟩ (g_recv X hw (ci := 0) (q := (RX1, TX1, 16)) hk_3 rfl) (As := [.int 1]) (rest := []) rfl hl.1 rfl (Nat.le_of_ble_eq_true rfl) dX1_borne_39 ⟨Nat.le_refl _, Nat.le_refl _⟩) (fun r_5 u_6 H locs h hw => ?_)
    exact g_iret X hw hr h (Nat.le_refl _) (Nat.le_refl _) dX1_borne_42
  · have h := h.2 c_19
    refine lv_aload_n hx hb dX1_borne_12 rfl (lv_at hl 0 rfl) ?_
    refine lv_aload_n hx hb dX1_borne_13 rfl (lv_at hl 0 rfl) ?_
    obtain ⟨b_7, e_8, h⟩ := h
    refine g_getR X hw in_X1 hk_3 rfl 3 rfl (by decide) q476 (fun _ z => z) e_8 dX1_borne_14 ?_
    have hk_9 : kd u_2 b_7 = 17 := h.1
    have h := h.2
    obtain ⟨b_10, e_11, h⟩ := h
    refine g_getR X hw in_X20 hk_9 rfl 0 rfl (by decide) q559 (fun _ z => z) e_11 dX1_borne_17 ?_
    refine lv_iload_n hx hb dX1_borne_20 rfl (lv_at hl 1 rfl) ?_
    have hk_12 : kd u_2 b_10 = 106 ∨ kd u_2 b_10 = 107 := h.1
    have h := h.2
    obtain ⟨hi_15, b_13, e_14, h⟩ := h
    refine g_aald X hw hk_12 hi_15 e_14 dX1_borne_21 ?_
    refine lv_iconst (v := 1) hx hb dX1_borne_22 (by decide) ?_
    refine g_calli hw (g_V X hw (mX1_keepApart l G _ _ _ _ _ h) 2 (lw_V q1247 q1249 qs38 q122 q1250) rfl rfl ydX1_keepApart ⟨Nat.le_of_ble_eq_true rfl, Nat.le_of_ble_eq_true rfl⟩ (g_recv X hw (ci := 0) (q := (RX1, TX1, 16)) hk_3 rfl) (As := [.ref b_13, .int 1]) (rest := []) rfl hl.1 rfl (Nat.le_of_ble_eq_true rfl) dX1_borne_23 ⟨Nat.le_refl _, Nat.le_refl _⟩) (fun r_16 u_17 H locs h hw => ?_)
    refine lv_if_eq (tgt := 33) hx hb dX1_borne_26 rfl (fun c_18 => ?_) (fun c_18 => ?_)
    · have h := h.1 c_18
      refine lv_iconst (v := 0) hx hb dX1_borne_33 (by decide) ?_
      refine lv_goto (tgt := 42) hx hb dX1_borne_34 rfl ?_
      exact g_iret X hw hr h (Nat.le_refl _) (Nat.le_refl _) dX1_borne_42
    · have h := h.2 c_18
      refine lv_iconst (v := 1) hx hb dX1_borne_29 (by decide) ?_
      refine lv_goto (tgt := 42) hx hb dX1_borne_30 rfl ?_
      exact g_iret X hw hr h (Nat.le_refl _) (Nat.le_refl _) dX1_borne_42

/-! FifthCardModel.isBorne()Z -/
theorem ydX19_isBorne : yX19_isBorne.cls = "FifthCardModel" ∧ yX19_isBorne.cls ≠ "java/lang/invoke/MethodHandle" ∧ yX19_isBorne.cls ≠ "java/lang/invoke/VarHandle" ∧ (parseMethodDescriptor yX19_isBorne.desc).map (fun d => d.parameters.length) = some 0 := by decide +kernel
def rmX19_isBorne (mc ms : Nat) : Room := { frames := 3, cells := mc, slots := ms, locals := 74 }
set_option maxHeartbeats 4000000 in
theorem wX19_isBorne_74 {G : GT} {p : Program} {l : Launch} {e : Env} {s : State} {m : MethodId} {args : Array Value} {below : List Frame} {meth : Method} {c : Code} {H : Heap} {locs : List Loc} {ls : Array Slot} {a0 : Nat} {x1 : Int32} {x2 : Int32} {x3 : Int32} {u : Hp} {K : Int32 → Hp → Prop} {J2 : Int32 → Hp → Prop} {J12 : Int32 → Hp → Prop} (X : Mc G p s m args meth c RX19 cX19_isBorne 5) (hr : meth.sig.returnType = (some .boolean)) (hJ2 : ∀ (x1 : Int32) (u : Hp) (H : Heap) (locs : List Loc) (ls : Array Slot) , J2 x1 u → GW G u s H locs → lv_has ls 5 [(0, .ref a0), (1, .int x1)] → W p l e (rmX19_isBorne 0 0) s m args below meth c H locs 0 0 (QI G below K args s 0 0) (F0 m 2 ls [])) (hJ12 : ∀ (x2 : Int32) (u : Hp) (H : Heap) (locs : List Loc) (ls : Array Slot) , J12 x2 u → GW G u s H locs → lv_has ls 5 [(0, .ref a0), (1, .int x1), (2, .int x2)] → W p l e (rmX19_isBorne 0 0) s m args below meth c H locs 0 0 (QI G below K args s 0 0) (F0 m 12 ls [])) (h : bX19_isBorne_74 K J2 J12 a0 x1 x2 x3 u) (hw : GW G u s H locs) (hl : lv_has ls 5 [(0, .ref a0), (1, .int x1), (2, .int x2), (3, .int x3)]) : W p l e (rmX19_isBorne 0 0) s m args below meth c H locs 0 0 (QI G below K args s 0 0) (F0 m 74 ls []) := by
  obtain ⟨hx, hb, hml, hown, hts, -⟩ := id X
  unfold bX19_isBorne_74 at h
  refine lv_aload_n hx hb dX19_isBorne_74 rfl (lv_at hl 0 rfl) ?_
  refine lv_iload_n hx hb dX19_isBorne_75 rfl (lv_at hl 3 rfl) ?_
  refine lv_aload_n hx hb dX19_isBorne_76 rfl (lv_at hl 0 rfl) ?_
  have hk_1 : kd u a0 = 16 := h.1
  have h := h.2
  obtain ⟨b_2, e_3, h⟩ := h
  refine g_getR X hw in_X19 hk_1 rfl 25 rfl (by decide) q1476 (fun _ z => z) e_3 dX19_isBorne_77 ?_
  refine lv_iload_n hx hb dX19_isBorne_80 rfl (lv_at hl 1 rfl) ?_
  have hk_4 : kd u b_2 = 101 := h.1
  have h := h.2
  refine g_iald X hw hk_4 h.1 dX19_isBorne_81 ?_
  have h := h.2
  refine g_callv hw (g_V X hw (mX19_owns l G _ _ _ _ _ h) 2 (lw_V q2009 q2011 qs101 q143 q2012) rfl rfl ydX19_owns ⟨Nat.le_of_ble_eq_true rfl, Nat.le_of_ble_eq_true rfl⟩ (g_recv X hw (ci := 15) (q := (RX19, TX19, 46)) hk_1 rfl) (As := [.int x3, .int (AI u b_2 (tn x1))]) (rest := []) rfl hl.1 rfl (Nat.le_of_ble_eq_true rfl) dX19_isBorne_82 ⟨Nat.le_refl _, Nat.le_refl _⟩) (fun u_5 H locs h hw => ?_)
  refine lv_iinc (v := x2 + 1) (lv' := [(2, .int (x2 + 1)), (0, .ref a0), (1, .int x1), (3, .int x3)]) hx hb dX19_isBorne_85 hl (k := 2) rfl rfl (by decide) rfl (fun ls hl => ?_)
  refine lv_goto (tgt := 12) hx hb dX19_isBorne_88 rfl ?_
  exact hJ12 _ _ _ _ _ h hw (lv_sub hl [1, 2, 0] rfl)
set_option maxHeartbeats 4000000 in
theorem wX19_isBorne_12 {G : GT} {p : Program} {l : Launch} {e : Env} {s : State} {m : MethodId} {args : Array Value} {below : List Frame} {meth : Method} {c : Code} {H : Heap} {locs : List Loc} {ls : Array Slot} {a0 : Nat} {x1 : Int32} {x2 : Int32} {u : Hp} {K : Int32 → Hp → Prop} {J2 : Int32 → Hp → Prop} (X : Mc G p s m args meth c RX19 cX19_isBorne 5) (hr : meth.sig.returnType = (some .boolean)) (hJ2 : ∀ (x1 : Int32) (u : Hp) (H : Heap) (locs : List Loc) (ls : Array Slot) , J2 x1 u → GW G u s H locs → lv_has ls 5 [(0, .ref a0), (1, .int x1)] → W p l e (rmX19_isBorne 0 0) s m args below meth c H locs 0 0 (QI G below K args s 0 0) (F0 m 2 ls [])) (h : jl2 (bX19_isBorne_12 K J2 a0 x1) x2 u) (hw : GW G u s H locs) (hl : lv_has ls 5 [(0, .ref a0), (1, .int x1), (2, .int x2)]) : W p l e (rmX19_isBorne 0 0) s m args below meth c H locs 0 0 (QI G below K args s 0 0) (F0 m 12 ls []) := by
  obtain ⟨hx, hb, hml, hown, hts, -⟩ := id X
  obtain ⟨I, μ, h0, hs⟩ := h
  have key : ∀ (n : Nat) (x2 : Int32) (u : Hp) (H : Heap) (locs : List Loc) (ls : Array Slot) , μ x2 u < n → I x2 u → GW G u s H locs → lv_has ls 5 [(0, .ref a0), (1, .int x1), (2, .int x2)] → W p l e (rmX19_isBorne 0 0) s m args below meth c H locs 0 0 (QI G below K args s 0 0) (F0 m 12 ls []) := by
    intro n
    induction n with
    | zero =>
      intro x2 u H locs ls hn
      exact absurd hn (Nat.not_lt_zero _)
    | succ n ih =>
      intro x2 u H locs ls hn hI hw hl
      have h := hs x2 u hI
      unfold bX19_isBorne_12 at h
      have hJ12 : ∀ (x2' : Int32) (u' : Hp) (H : Heap) (locs : List Loc) (ls : Array Slot) , (I x2' u' ∧ μ x2' u' < μ x2 u) → GW G u' s H locs → lv_has ls 5 [(0, .ref a0), (1, .int x1), (2, .int x2')] → W p l e (rmX19_isBorne 0 0) s m args below meth c H locs 0 0 (QI G below K args s 0 0) (F0 m 12 ls []) := fun x2' u' H locs ls h hw hl => ih x2' u' H locs ls (Nat.lt_of_lt_of_le h.2 (Nat.le_of_lt_succ hn)) h.1 hw hl
      refine lv_iload_n hx hb dX19_isBorne_12 rfl (lv_at hl 2 rfl) ?_
      refine lv_iconst (v := 1) hx hb dX19_isBorne_13 (by decide) ?_
      refine lv_iadd hx hb dX19_isBorne_14 ?_
      refine lv_aload_n hx hb dX19_isBorne_15 rfl (lv_at hl 0 rfl) ?_
      have hk_6 : kd u a0 = 16 := h.1
      have h := h.2
      obtain ⟨b_7, e_8, h⟩ := h
      refine g_getR X hw in_X19 hk_6 rfl 3 rfl (by decide) q1454 (fun _ z => z) e_8 dX19_isBorne_16 ?_
      have hk_9 : kd u b_7 = 20 := h.1
      have h := h.2
      refine g_getNI X hw (host := "FifthCardModel") in_X23 hk_9 rfl 4 rfl (by decide) (List.mem_of_getElem? (i := 7) rfl) (fun _ z => z) dX19_isBorne_19 ?_
      refine lv_icmp_ge (tgt := 91) hx hb dX19_isBorne_22 rfl (fun c_23 => ?_) (fun c_23 => ?_)
      · have h := h.1 c_23
        refine lv_iinc (v := x1 + 1) (lv' := [(1, .int (x1 + 1)), (0, .ref a0), (2, .int x2)]) hx hb dX19_isBorne_91 hl (k := 1) rfl rfl (by decide) rfl (fun ls hl => ?_)
        refine lv_goto (tgt := 2) hx hb dX19_isBorne_94 rfl ?_
        exact hJ2 _ _ _ _ _ h hw (lv_sub hl [1, 0] rfl)
      · have h := h.2 c_23
        refine lv_aload_n hx hb dX19_isBorne_25 rfl (lv_at hl 0 rfl) ?_
        obtain ⟨b_10, e_11, h⟩ := h
        refine g_getR X hw in_X19 hk_6 rfl 25 rfl (by decide) q1476 (fun _ z => z) e_11 dX19_isBorne_26 ?_
        refine lv_iload_n hx hb dX19_isBorne_29 rfl (lv_at hl 1 rfl) ?_
        have hk_12 : kd u b_10 = 101 := h.1
        have h := h.2
        refine g_iald X hw hk_12 h.1 dX19_isBorne_30 ?_
        have h := h.2
        refine lv_bipush (v := (-2)) hx hb dX19_isBorne_31 (by decide) ?_
        refine lv_icmp_eq (tgt := 91) hx hb dX19_isBorne_33 rfl (fun c_22 => ?_) (fun c_22 => ?_)
        · have h := h.1 c_22
          refine lv_iinc (v := x1 + 1) (lv' := [(1, .int (x1 + 1)), (0, .ref a0), (2, .int x2)]) hx hb dX19_isBorne_91 hl (k := 1) rfl rfl (by decide) rfl (fun ls hl => ?_)
          refine lv_goto (tgt := 2) hx hb dX19_isBorne_94 rfl ?_
          exact hJ2 _ _ _ _ _ h hw (lv_sub hl [1, 0] rfl)
        · have h := h.2 c_22
          refine lv_aload_n hx hb dX19_isBorne_36 rfl (lv_at hl 0 rfl) ?_
          refine lv_aload_n hx hb dX19_isBorne_37 rfl (lv_at hl 0 rfl) ?_
          refine g_getR X hw in_X19 hk_6 rfl 25 rfl (by decide) q1476 (fun _ z => z) e_11 dX19_isBorne_38 ?_
          refine lv_iload_n hx hb dX19_isBorne_41 rfl (lv_at hl 1 rfl) ?_
          refine g_iald X hw hk_12 h.1 dX19_isBorne_42 ?_
          have h := h.2
          refine lv_iload_n hx hb dX19_isBorne_43 rfl (lv_at hl 2 rfl) ?_
          refine g_calli hw (g_V X hw (mX19_becomes l G _ _ _ _ _ h) 2 (lw_V q2069 q2071 qs109 q143 q2072) rfl rfl ydX19_becomes ⟨Nat.le_of_ble_eq_true rfl, Nat.le_of_ble_eq_true rfl⟩ (g_recv X hw (ci := 15) (q := (RX19, TX19, 46)) hk_6 rfl) (As := [.int (AI u b_10 (tn x1)), .int x2]) (rest := []) rfl hl.1 rfl (Nat.le_of_ble_eq_true rfl) dX19_isBorne_44 ⟨Nat.le_refl _, Nat.le_refl _⟩) (fun r_13 u_14 H locs h hw => ?_)
          refine lv_istore_n (lv' := [(3, .int r_13), (0, .ref a0), (1, .int x1), (2, .int x2)]) hx hb dX19_isBorne_47 rfl hl (by decide) rfl (fun ls hl => ?_)
          refine lv_aload_n hx hb dX19_isBorne_48 rfl (lv_at hl 1 rfl) ?_
          refine lv_iload_n hx hb dX19_isBorne_49 rfl (lv_at hl 0 rfl) ?_
          have hk_15 : kd u_14 a0 = 16 := h.1
          have h := h.2
          refine g_callio hw (g_V X hw (mX19_ownerOf l G _ _ _ _ h) 1 (lw_V q1996 q1998 qs98 q143 q1999) rfl rfl ydX19_ownerOf ⟨Nat.le_of_ble_eq_true rfl, Nat.le_of_ble_eq_true rfl⟩ (g_recv X hw (ci := 15) (q := (RX19, TX19, 46)) hk_15 rfl) (As := [.int r_13]) (rest := []) rfl hl.1 rfl (Nat.le_of_ble_eq_true rfl) dX19_isBorne_50 ⟨Nat.le_refl _, Nat.le_refl _⟩) (fun r_16 H locs h hw => ?_)
          refine lv_istore (lv' := [(4, .int r_16), (3, .int r_13), (0, .ref a0), (1, .int x1), (2, .int x2)]) hx hb dX19_isBorne_53 hl (by decide) rfl (fun ls hl => ?_)
          refine lv_iload hx hb dX19_isBorne_55 (lv_at hl 0 rfl) ?_
          refine lv_iconst (v := (-1)) hx hb dX19_isBorne_57 (by decide) ?_
          refine lv_icmp_eq (tgt := 74) hx hb dX19_isBorne_58 rfl (fun c_21 => ?_) (fun c_21 => ?_)
          · have h := h.1 c_21
            exact wX19_isBorne_74 X hr hJ2 hJ12  h hw (lv_sub hl [2, 3, 4, 1] rfl)
          · have h := h.2 c_21
            refine lv_iload hx hb dX19_isBorne_61 (lv_at hl 0 rfl) ?_
            refine lv_aload_n hx hb dX19_isBorne_63 rfl (lv_at hl 2 rfl) ?_
            obtain ⟨b_17, e_18, h⟩ := h
            refine g_getR X hw in_X19 hk_15 rfl 25 rfl (by decide) q1476 (fun _ z => z) e_18 dX19_isBorne_64 ?_
            refine lv_iload_n hx hb dX19_isBorne_67 rfl (lv_at hl 3 rfl) ?_
            have hk_19 : kd u_14 b_17 = 101 := h.1
            have h := h.2
            refine g_iald X hw hk_19 h.1 dX19_isBorne_68 ?_
            have h := h.2
            refine lv_icmp_eq (tgt := 74) hx hb dX19_isBorne_69 rfl (fun c_20 => ?_) (fun c_20 => ?_)
            · have h := h.1 c_20
              exact wX19_isBorne_74 X hr hJ2 hJ12  h hw (lv_sub hl [2, 3, 4, 1] rfl)
            · have h := h.2 c_20
              refine lv_iconst (v := 0) hx hb dX19_isBorne_72 (by decide) ?_
              exact g_zret X hw hr rfl h (Nat.le_refl _) (Nat.le_refl _) dX19_isBorne_73
  exact key _ _ _ _ _ _ (Nat.lt_succ_self _) h0 hw hl
set_option maxHeartbeats 4000000 in
theorem wX19_isBorne_2 {G : GT} {p : Program} {l : Launch} {e : Env} {s : State} {m : MethodId} {args : Array Value} {below : List Frame} {meth : Method} {c : Code} {H : Heap} {locs : List Loc} {ls : Array Slot} {a0 : Nat} {x1 : Int32} {u : Hp} {K : Int32 → Hp → Prop} (X : Mc G p s m args meth c RX19 cX19_isBorne 5) (hr : meth.sig.returnType = (some .boolean)) (h : jl2 (bX19_isBorne_2 K a0) x1 u) (hw : GW G u s H locs) (hl : lv_has ls 5 [(0, .ref a0), (1, .int x1)]) : W p l e (rmX19_isBorne 0 0) s m args below meth c H locs 0 0 (QI G below K args s 0 0) (F0 m 2 ls []) := by
  obtain ⟨hx, hb, hml, hown, hts, -⟩ := id X
  obtain ⟨I, μ, h0, hs⟩ := h
  have key : ∀ (n : Nat) (x1 : Int32) (u : Hp) (H : Heap) (locs : List Loc) (ls : Array Slot) , μ x1 u < n → I x1 u → GW G u s H locs → lv_has ls 5 [(0, .ref a0), (1, .int x1)] → W p l e (rmX19_isBorne 0 0) s m args below meth c H locs 0 0 (QI G below K args s 0 0) (F0 m 2 ls []) := by
    intro n
    induction n with
    | zero =>
      intro x1 u H locs ls hn
      exact absurd hn (Nat.not_lt_zero _)
    | succ n ih =>
      intro x1 u H locs ls hn hI hw hl
      have h := hs x1 u hI
      unfold bX19_isBorne_2 at h
      have hJ2 : ∀ (x1' : Int32) (u' : Hp) (H : Heap) (locs : List Loc) (ls : Array Slot) , (I x1' u' ∧ μ x1' u' < μ x1 u) → GW G u' s H locs → lv_has ls 5 [(0, .ref a0), (1, .int x1')] → W p l e (rmX19_isBorne 0 0) s m args below meth c H locs 0 0 (QI G below K args s 0 0) (F0 m 2 ls []) := fun x1' u' H locs ls h hw hl => ih x1' u' H locs ls (Nat.lt_of_lt_of_le h.2 (Nat.le_of_lt_succ hn)) h.1 hw hl
      refine lv_iload_n hx hb dX19_isBorne_2 rfl (lv_at hl 1 rfl) ?_
      refine lv_aload_n hx hb dX19_isBorne_3 rfl (lv_at hl 0 rfl) ?_
      have hk_24 : kd u a0 = 16 := h.1
      have h := h.2
      refine g_getI X hw in_X19 hk_24 rfl 17 rfl (by decide) q1468 (fun _ z => z) dX19_isBorne_4 ?_
      refine lv_icmp_ge (tgt := 97) hx hb dX19_isBorne_7 rfl (fun c_25 => ?_) (fun c_25 => ?_)
      · have h := h.1 c_25
        refine lv_iconst (v := 1) hx hb dX19_isBorne_97 (by decide) ?_
        exact g_zret X hw hr rfl h (Nat.le_refl _) (Nat.le_refl _) dX19_isBorne_98
      · have h := h.2 c_25
        refine lv_iconst (v := 0) hx hb dX19_isBorne_10 (by decide) ?_
        refine lv_istore_n (lv' := [(2, .int 0), (0, .ref a0), (1, .int x1)]) hx hb dX19_isBorne_11 rfl hl (by decide) rfl (fun ls hl => ?_)
        exact wX19_isBorne_12 X hr hJ2  h hw (lv_sub hl [1, 2, 0] rfl)
  exact key _ _ _ _ _ _ (Nat.lt_succ_self _) h0 hw hl
set_option maxHeartbeats 4000000 in
theorem mX19_isBorne (l : Launch) (G : GT) (u : Hp) (a0 : Nat) (K : Int32 → Hp → Prop) (h : pX19_isBorne u a0 K) : Met l yX19_isBorne (ws_ yX19_isBorne cX19_isBorne 5 (some .boolean)) (rmX19_isBorne 0 0) (va_Pc [.ref a0] (GB G u)) (va_Qi K (fun u t => GH G u t.heap) (GA G)) 0 0 (GA G) := by
  refine Met.ofW (cc := cX19_isBorne) (maxL := 5) (ret := (some .boolean)) (by decide) rfl ?_
  intro p e s m args below meth c s₁ B hml hv
  obtain ⟨rfl, hv⟩ := hv
  have X := Mc_of (own := RX19) B hml rfl hv
  have hw : GW G u s s.heap [] := ⟨hv.2.1, va_S.rf⟩
  have hr := B.returns
  obtain ⟨hx, hb, hml, hown, hts, -⟩ := id X
  have hl := lv_entry ([.ref a0]) (n := 5) (Nat.le_of_ble_eq_true rfl)
  rw [lg_entry_eq]
  generalize (lg_sl ([.ref a0]) ++ List.replicate (5 - (lg_sl ([.ref a0])).length) Slot.unset).toArray = ls at hl ⊢
  have hl : lv_has ls 5 [(0, .ref a0)] := hl
  change W p l e (rmX19_isBorne 0 0) s m _ below meth c s.heap [] 0 0 (QI G below K _ s 0 0) (F0 m 0 ls [])
  unfold pX19_isBorne at h
  refine lv_iconst (v := 0) hx hb dX19_isBorne_0 (by decide) ?_
  refine lv_istore_n (lv' := [(1, .int 0), (0, .ref a0)]) hx hb dX19_isBorne_1 rfl hl (by decide) rfl (fun ls hl => ?_)
  exact wX19_isBorne_2 X hr  h hw (lv_sub hl [1, 0] rfl)

/-! FifthCardModel.borne(I)I -/
theorem ydX19_borne : yX19_borne.cls = "FifthCardModel" ∧ yX19_borne.cls ≠ "java/lang/invoke/MethodHandle" ∧ yX19_borne.cls ≠ "java/lang/invoke/VarHandle" ∧ (parseMethodDescriptor yX19_borne.desc).map (fun d => d.parameters.length) = some 1 := by decide +kernel
def rmX19_borne (mc ms : Nat) : Room := { frames := 8, cells := mc, slots := ms, locals := 191 }
set_option maxHeartbeats 4000000 in
theorem mX19_borne (l : Launch) (G : GT) (u : Hp) (a0 : Nat) (x1 : Int32) (K : Int32 → Hp → Prop) (h : pX19_borne u a0 x1 K) : Met l yX19_borne (ws_ yX19_borne cX19_borne 2 (some .int)) (rmX19_borne 0 0) (va_Pc [.ref a0, .int x1] (GB G u)) (va_Qi K (fun u t => GH G u t.heap) (GA G)) 0 0 (GA G) := by
  refine Met.ofW (cc := cX19_borne) (maxL := 2) (ret := (some .int)) (by decide) rfl ?_
  intro p e s m args below meth c s₁ B hml hv
  obtain ⟨rfl, hv⟩ := hv
  have X := Mc_of (own := RX19) B hml rfl hv
  have hw : GW G u s s.heap [] := ⟨hv.2.1, va_S.rf⟩
  have hr := B.returns
  obtain ⟨hx, hb, hml, hown, hts, -⟩ := id X
  have hl := lv_entry ([.ref a0, .int x1]) (n := 2) (Nat.le_of_ble_eq_true rfl)
  rw [lg_entry_eq]
  generalize (lg_sl ([.ref a0, .int x1]) ++ List.replicate (2 - (lg_sl ([.ref a0, .int x1])).length) Slot.unset).toArray = ls at hl ⊢
  have hl : lv_has ls 2 [(0, .ref a0), (1, .int x1)] := hl
  change W p l e (rmX19_borne 0 0) s m _ below meth c s.heap [] 0 0 (QI G below K _ s 0 0) (F0 m 0 ls [])
  unfold pX19_borne at h
  refine lv_aload_n hx hb dX19_borne_0 rfl (lv_at hl 0 rfl) ?_
  refine lv_iconst (v := 0) hx hb dX19_borne_1 (by decide) ?_
  have hk_1 : kd u a0 = 16 := h.1
  have h := h.2
  refine g_putI (v := 0) X hw in_X19 tyX19_ok nmX19 hk_1 rfl 0 rfl (by decide) q1451 (fun _ z => z) rfl rfl rfl dX19_borne_2 (fun H locs hw => ?_)
  refine lv_aload_n hx hb dX19_borne_5 rfl (lv_at hl 0 rfl) ?_
  refine lv_iload_n hx hb dX19_borne_6 rfl (lv_at hl 1 rfl) ?_
  refine g_callio hw (g_V X hw (mX19_isRule l G _ _ _ _ h) 1 (lw_V q1940 q1942 qs84 q143 q1943) rfl rfl ydX19_isRule ⟨Nat.le_of_ble_eq_true rfl, Nat.le_of_ble_eq_true rfl⟩ (g_recv X hw (ci := 15) (q := (RX19, TX19, 46)) hk_1 rfl) (As := [.int x1]) (rest := []) rfl hl.1 rfl (Nat.le_of_ble_eq_true rfl) dX19_borne_7 ⟨Nat.le_refl _, Nat.le_refl _⟩) (fun r_2 H locs h hw => ?_)
  refine lv_if_ne (tgt := 19) hx hb dX19_borne_10 rfl (fun c_25 => ?_) (fun c_25 => ?_)
  · have h := h.2 c_25
    refine lv_aload_n hx hb dX19_borne_19 rfl (lv_at hl 0 rfl) ?_
    refine lv_iload_n hx hb dX19_borne_20 rfl (lv_at hl 1 rfl) ?_
    refine g_callv hw (g_V X hw (mX19_laysAll l G _ _ _ _ h) 1 (lw_V q2025 q2027 qs103 q143 q2028) rfl rfl ydX19_laysAll ⟨Nat.le_of_ble_eq_true rfl, Nat.le_of_ble_eq_true rfl⟩ (g_recv X hw (ci := 15) (q := (RX19, TX19, 46)) hk_1 rfl) (As := [.int x1]) (rest := []) rfl hl.1 rfl (Nat.le_of_ble_eq_true rfl) dX19_borne_21 ⟨Nat.le_refl _, Nat.le_refl _⟩) (fun u_3 H locs h hw => ?_)
    refine lv_aload_n hx hb dX19_borne_24 rfl (lv_at hl 0 rfl) ?_
    have hk_4 : kd u_3 a0 = 16 := h.1
    have h := h.2
    refine g_callv hw (g_V X hw (mX19_ownsLaid l G _ _ _ h) 0 (lw_V q2061 q2063 qs107 q143 q2064) rfl rfl ydX19_ownsLaid ⟨Nat.le_of_ble_eq_true rfl, Nat.le_of_ble_eq_true rfl⟩ (g_recv X hw (ci := 15) (q := (RX19, TX19, 46)) hk_4 rfl) (As := []) (rest := []) rfl hl.1 rfl (Nat.le_of_ble_eq_true rfl) dX19_borne_25 ⟨Nat.le_refl _, Nat.le_refl _⟩) (fun u_5 H locs h hw => ?_)
    refine lv_aload_n hx hb dX19_borne_28 rfl (lv_at hl 0 rfl) ?_
    refine lv_aload_n hx hb dX19_borne_29 rfl (lv_at hl 0 rfl) ?_
    have hk_6 : kd u_5 a0 = 16 := h.1
    have h := h.2
    refine g_calli hw (g_V X hw (mX19_isSeen l G _ _ _ h) 0 (lw_V q2065 q2067 qs108 q143 q2068) rfl rfl ydX19_isSeen ⟨Nat.le_of_ble_eq_true rfl, Nat.le_of_ble_eq_true rfl⟩ (g_recv X hw (ci := 15) (q := (RX19, TX19, 46)) hk_6 rfl) (As := []) (rest := [.ref a0]) rfl hl.1 rfl (Nat.le_of_ble_eq_true rfl) dX19_borne_30 ⟨Nat.le_refl _, Nat.le_refl _⟩) (fun r_7 u_8 H locs h hw => ?_)
    refine lv_if_eq (tgt := 47) hx hb dX19_borne_33 rfl (fun c_22 => ?_) (fun c_22 => ?_)
    · have h := h.1 c_22
      refine lv_iconst (v := 0) hx hb dX19_borne_47 (by decide) ?_
      have hk_9 : kd u_8 a0 = 16 := h.1
      have h := h.2
      refine g_calli hw (g_V X hw (mX19_good l G _ _ _ _ h) 1 (lw_V q1867 q1869 qs77 q143 q1870) rfl rfl ydX19_good ⟨Nat.le_of_ble_eq_true rfl, Nat.le_of_ble_eq_true rfl⟩ (g_recv X hw (ci := 15) (q := (RX19, TX19, 46)) hk_9 rfl) (As := [.int 0]) (rest := []) rfl hl.1 rfl (Nat.le_of_ble_eq_true rfl) dX19_borne_48 ⟨Nat.le_refl _, Nat.le_refl _⟩) (fun r_10 u_11 H locs h hw => ?_)
      exact g_iret X hw hr h (Nat.le_refl _) (Nat.le_refl _) dX19_borne_51
    · have h := h.2 c_22
      refine lv_aload_n hx hb dX19_borne_36 rfl (lv_at hl 0 rfl) ?_
      have hk_12 : kd u_8 a0 = 16 := h.1
      have h := h.2
      refine g_calli hw (g_V X hw (mX19_isBorne l G _ _ _ h) 0 (lw_V q2081 q2083 qs111 q143 q2084) rfl rfl ydX19_isBorne ⟨Nat.le_of_ble_eq_true rfl, Nat.le_of_ble_eq_true rfl⟩ (g_recv X hw (ci := 15) (q := (RX19, TX19, 46)) hk_12 rfl) (As := []) (rest := [.ref a0]) rfl hl.1 rfl (Nat.le_of_ble_eq_true rfl) dX19_borne_37 ⟨Nat.le_refl _, Nat.le_refl _⟩) (fun r_13 u_14 H locs h hw => ?_)
      refine lv_if_eq (tgt := 47) hx hb dX19_borne_40 rfl (fun c_21 => ?_) (fun c_21 => ?_)
      · have h := h.1 c_21
        refine lv_iconst (v := 0) hx hb dX19_borne_47 (by decide) ?_
        have hk_15 : kd u_14 a0 = 16 := h.1
        have h := h.2
        refine g_calli hw (g_V X hw (mX19_good l G _ _ _ _ h) 1 (lw_V q1867 q1869 qs77 q143 q1870) rfl rfl ydX19_good ⟨Nat.le_of_ble_eq_true rfl, Nat.le_of_ble_eq_true rfl⟩ (g_recv X hw (ci := 15) (q := (RX19, TX19, 46)) hk_15 rfl) (As := [.int 0]) (rest := []) rfl hl.1 rfl (Nat.le_of_ble_eq_true rfl) dX19_borne_48 ⟨Nat.le_refl _, Nat.le_refl _⟩) (fun r_16 u_17 H locs h hw => ?_)
        exact g_iret X hw hr h (Nat.le_refl _) (Nat.le_refl _) dX19_borne_51
      · have h := h.2 c_21
        refine lv_iconst (v := 1) hx hb dX19_borne_43 (by decide) ?_
        refine lv_goto (tgt := 48) hx hb dX19_borne_44 rfl ?_
        have hk_18 : kd u_14 a0 = 16 := h.1
        have h := h.2
        refine g_calli hw (g_V X hw (mX19_good l G _ _ _ _ h) 1 (lw_V q1867 q1869 qs77 q143 q1870) rfl rfl ydX19_good ⟨Nat.le_of_ble_eq_true rfl, Nat.le_of_ble_eq_true rfl⟩ (g_recv X hw (ci := 15) (q := (RX19, TX19, 46)) hk_18 rfl) (As := [.int 1]) (rest := []) rfl hl.1 rfl (Nat.le_of_ble_eq_true rfl) dX19_borne_48 ⟨Nat.le_refl _, Nat.le_refl _⟩) (fun r_19 u_20 H locs h hw => ?_)
        exact g_iret X hw hr h (Nat.le_refl _) (Nat.le_refl _) dX19_borne_51
  · have h := h.1 c_25
    refine lv_aload_n hx hb dX19_borne_13 rfl (lv_at hl 0 rfl) ?_
    refine lv_iconst (v := 1) hx hb dX19_borne_14 (by decide) ?_
    refine g_calli hw (g_V X hw (mX19_refused l G _ _ _ _ h) 1 (lw_V q1603 q1605 qs47 q143 q1606) rfl rfl ydX19_refused ⟨Nat.le_of_ble_eq_true rfl, Nat.le_of_ble_eq_true rfl⟩ (g_recv X hw (ci := 15) (q := (RX19, TX19, 46)) hk_1 rfl) (As := [.int 1]) (rest := []) rfl hl.1 rfl (Nat.le_of_ble_eq_true rfl) dX19_borne_15 ⟨Nat.le_refl _, Nat.le_refl _⟩) (fun r_23 u_24 H locs h hw => ?_)
    exact g_iret X hw hr h (Nat.le_refl _) (Nat.le_refl _) dX19_borne_18

/-! FifthCard.wordsWork(I)I -/
theorem ydX1_wordsWork : yX1_wordsWork.cls = "FifthCard" ∧ yX1_wordsWork.cls ≠ "java/lang/invoke/MethodHandle" ∧ yX1_wordsWork.cls ≠ "java/lang/invoke/VarHandle" ∧ (parseMethodDescriptor yX1_wordsWork.desc).map (fun d => d.parameters.length) = some 1 := by decide +kernel
def rmX1_wordsWork (mc ms : Nat) : Room := { frames := 8, cells := mc, slots := ms, locals := 195 }
set_option maxHeartbeats 4000000 in
theorem mX1_wordsWork (l : Launch) (G : GT) (u : Hp) (a0 : Nat) (x1 : Int32) (K : Int32 → Hp → Prop) (h : pX1_wordsWork u a0 x1 K) : Met l yX1_wordsWork (ws_ yX1_wordsWork cX1_wordsWork 2 (some .int)) (rmX1_wordsWork 0 0) (va_Pc [.ref a0, .int x1] (GB G u)) (va_Qi K (fun u t => GH G u t.heap) (GA G)) 0 0 (GA G) := by
  refine Met.ofW (cc := cX1_wordsWork) (maxL := 2) (ret := (some .int)) (by decide) rfl ?_
  intro p e s m args below meth c s₁ B hml hv
  obtain ⟨rfl, hv⟩ := hv
  have X := Mc_of (own := RX1) B hml rfl hv
  have hw : GW G u s s.heap [] := ⟨hv.2.1, va_S.rf⟩
  have hr := B.returns
  obtain ⟨hx, hb, hml, hown, hts, -⟩ := id X
  have hl := lv_entry ([.ref a0, .int x1]) (n := 2) (Nat.le_of_ble_eq_true rfl)
  rw [lg_entry_eq]
  generalize (lg_sl ([.ref a0, .int x1]) ++ List.replicate (2 - (lg_sl ([.ref a0, .int x1])).length) Slot.unset).toArray = ls at hl ⊢
  have hl : lv_has ls 2 [(0, .ref a0), (1, .int x1)] := hl
  change W p l e (rmX1_wordsWork 0 0) s m _ below meth c s.heap [] 0 0 (QI G below K _ s 0 0) (F0 m 0 ls [])
  unfold pX1_wordsWork at h
  refine lv_aload_n hx hb dX1_wordsWork_0 rfl (lv_at hl 0 rfl) ?_
  have hk_1 : kd u a0 = 1 := h.1
  have h := h.2
  refine g_callv hw (g_V X hw (mX1_anew l G _ _ _ h) 0 (lw_V q535 q537 qs2 q122 q538) rfl rfl ydX1_anew ⟨Nat.le_of_ble_eq_true rfl, Nat.le_of_ble_eq_true rfl⟩ (g_recv X hw (ci := 0) (q := (RX1, TX1, 16)) hk_1 rfl) (As := []) (rest := []) rfl hl.1 rfl (Nat.le_of_ble_eq_true rfl) dX1_wordsWork_1 ⟨Nat.le_refl _, Nat.le_refl _⟩) (fun u_2 H locs h hw => ?_)
  refine lv_aload_n hx hb dX1_wordsWork_4 rfl (lv_at hl 0 rfl) ?_
  have hk_3 : kd u_2 a0 = 1 := h.1
  have h := h.2
  refine g_getO X hw in_X1 hk_3 rfl 3 rfl (by decide) q476 (fun _ z => z) dX1_wordsWork_5 ?_
  refine g_ifnonnull X (tgt := 17) dX1_wordsWork_8 rfl (fun b_4 e_5 => ?_) (fun e_5 => ?_)
  · have h := h.2 b_4 e_5
    refine lv_iload_n hx hb dX1_wordsWork_17 rfl (lv_at hl 1 rfl) ?_
    refine lv_iconst (v := 0) hx hb dX1_wordsWork_18 (by decide) ?_
    refine lv_bipush (v := 19) hx hb dX1_wordsWork_19 (by decide) ?_
    refine g_callio hw (g_S X hw (mX1_in l G _ _ _ _ _ h) 3 (lw_S q539 q540 q122 q541) rfl rfl ydX1_in ⟨Nat.le_of_ble_eq_true rfl, Nat.le_of_ble_eq_true rfl⟩ (As := [.int x1, .int 0, .int 19]) (rest := []) rfl hl.1 rfl (Nat.le_of_ble_eq_true rfl) dX1_wordsWork_21 ⟨Nat.le_refl _, Nat.le_refl _⟩) (fun r_8 H locs h hw => ?_)
    refine lv_if_eq (tgt := 48) hx hb dX1_wordsWork_24 rfl (fun c_20 => ?_) (fun c_20 => ?_)
    · have h := h.1 c_20
      refine lv_aload_n hx hb dX1_wordsWork_48 rfl (lv_at hl 0 rfl) ?_
      refine lv_iconst (v := 2) hx hb dX1_wordsWork_49 (by decide) ?_
      refine g_calli hw (g_V X hw (mX1_no l G _ _ _ _ h) 1 (lw_V q542 q544 qs3 q122 q545) rfl rfl ydX1_no ⟨Nat.le_of_ble_eq_true rfl, Nat.le_of_ble_eq_true rfl⟩ (g_recv X hw (ci := 0) (q := (RX1, TX1, 16)) hk_3 rfl) (As := [.int 2]) (rest := []) rfl hl.1 rfl (Nat.le_of_ble_eq_true rfl) dX1_wordsWork_50 ⟨Nat.le_refl _, Nat.le_refl _⟩) (fun r_9 u_10 H locs h hw => ?_)
      exact g_iret X hw hr h (Nat.le_refl _) (Nat.le_refl _) dX1_wordsWork_53
    · have h := h.2 c_20
      refine lv_aload_n hx hb dX1_wordsWork_27 rfl (lv_at hl 0 rfl) ?_
      refine lv_aload_n hx hb dX1_wordsWork_28 rfl (lv_at hl 0 rfl) ?_
      obtain ⟨b_11, e_12, h⟩ := h
      refine g_getR X hw in_X1 hk_3 rfl 10 rfl (by decide) q483 (fun _ z => z) e_12 dX1_wordsWork_29 ?_
      refine lv_iload_n hx hb dX1_wordsWork_32 rfl (lv_at hl 1 rfl) ?_
      have hk_13 : kd u_2 b_11 = 106 ∨ kd u_2 b_11 = 107 := h.1
      have h := h.2
      obtain ⟨hi_16, b_14, e_15, h⟩ := h
      refine g_aald X hw hk_13 hi_16 e_15 dX1_wordsWork_33 ?_
      refine g_calli hw (g_V X hw (mX1_doesWork l G _ _ _ _ h) 1 (lw_V q1203 q1205 qs35 q122 q1206) rfl rfl ydX1_doesWork ⟨Nat.le_of_ble_eq_true rfl, Nat.le_of_ble_eq_true rfl⟩ (g_recv X hw (ci := 0) (q := (RX1, TX1, 16)) hk_3 rfl) (As := [.ref b_14]) (rest := []) rfl hl.1 rfl (Nat.le_of_ble_eq_true rfl) dX1_wordsWork_34 ⟨Nat.le_refl _, Nat.le_refl _⟩) (fun r_17 u_18 H locs h hw => ?_)
      refine lv_if_eq (tgt := 44) hx hb dX1_wordsWork_37 rfl (fun c_19 => ?_) (fun c_19 => ?_)
      · have h := h.1 c_19
        refine lv_iconst (v := 0) hx hb dX1_wordsWork_44 (by decide) ?_
        refine lv_goto (tgt := 53) hx hb dX1_wordsWork_45 rfl ?_
        exact g_iret X hw hr h (Nat.le_refl _) (Nat.le_refl _) dX1_wordsWork_53
      · have h := h.2 c_19
        refine lv_iconst (v := 1) hx hb dX1_wordsWork_40 (by decide) ?_
        refine lv_goto (tgt := 53) hx hb dX1_wordsWork_41 rfl ?_
        exact g_iret X hw hr h (Nat.le_refl _) (Nat.le_refl _) dX1_wordsWork_53
  · have h := h.1 e_5
    refine lv_aload_n hx hb dX1_wordsWork_11 rfl (lv_at hl 0 rfl) ?_
    refine lv_iconst (v := 1) hx hb dX1_wordsWork_12 (by decide) ?_
    refine g_calli hw (g_V X hw (mX1_no l G _ _ _ _ h) 1 (lw_V q542 q544 qs3 q122 q545) rfl rfl ydX1_no ⟨Nat.le_of_ble_eq_true rfl, Nat.le_of_ble_eq_true rfl⟩ (g_recv X hw (ci := 0) (q := (RX1, TX1, 16)) hk_3 rfl) (As := [.int 1]) (rest := []) rfl hl.1 rfl (Nat.le_of_ble_eq_true rfl) dX1_wordsWork_13 ⟨Nat.le_refl _, Nat.le_refl _⟩) (fun r_6 u_7 H locs h hw => ?_)
    exact g_iret X hw hr h (Nat.le_refl _) (Nat.le_refl _) dX1_wordsWork_16

/-! FifthCardModel.laysAllWords(I)V -/
theorem ydX19_laysAllWords : yX19_laysAllWords.cls = "FifthCardModel" ∧ yX19_laysAllWords.cls ≠ "java/lang/invoke/MethodHandle" ∧ yX19_laysAllWords.cls ≠ "java/lang/invoke/VarHandle" ∧ (parseMethodDescriptor yX19_laysAllWords.desc).map (fun d => d.parameters.length) = some 1 := by decide +kernel
def rmX19_laysAllWords (mc ms : Nat) : Room := { frames := 4, cells := mc, slots := ms, locals := 106 }
set_option maxHeartbeats 4000000 in
theorem wX19_laysAllWords_2 {G : GT} {p : Program} {l : Launch} {e : Env} {s : State} {m : MethodId} {args : Array Value} {below : List Frame} {meth : Method} {c : Code} {H : Heap} {locs : List Loc} {ls : Array Slot} {a0 : Nat} {x1 : Int32} {x2 : Int32} {u : Hp} {K : Hp → Prop} (X : Mc G p s m args meth c RX19 cX19_laysAllWords 3) (hr : meth.sig.returnType = none) (h : jl2 (bX19_laysAllWords_2 K a0 x1) x2 u) (hw : GW G u s H locs) (hl : lv_has ls 3 [(0, .ref a0), (1, .int x1), (2, .int x2)]) : W p l e (rmX19_laysAllWords 0 0) s m args below meth c H locs 0 0 (QV G below K args s 0 0) (F0 m 2 ls []) := by
  obtain ⟨hx, hb, hml, hown, hts, -⟩ := id X
  obtain ⟨I, μ, h0, hs⟩ := h
  have key : ∀ (n : Nat) (x2 : Int32) (u : Hp) (H : Heap) (locs : List Loc) (ls : Array Slot) , μ x2 u < n → I x2 u → GW G u s H locs → lv_has ls 3 [(0, .ref a0), (1, .int x1), (2, .int x2)] → W p l e (rmX19_laysAllWords 0 0) s m args below meth c H locs 0 0 (QV G below K args s 0 0) (F0 m 2 ls []) := by
    intro n
    induction n with
    | zero =>
      intro x2 u H locs ls hn
      exact absurd hn (Nat.not_lt_zero _)
    | succ n ih =>
      intro x2 u H locs ls hn hI hw hl
      have h := hs x2 u hI
      unfold bX19_laysAllWords_2 at h
      have hJ2 : ∀ (x2' : Int32) (u' : Hp) (H : Heap) (locs : List Loc) (ls : Array Slot) , (I x2' u' ∧ μ x2' u' < μ x2 u) → GW G u' s H locs → lv_has ls 3 [(0, .ref a0), (1, .int x1), (2, .int x2')] → W p l e (rmX19_laysAllWords 0 0) s m args below meth c H locs 0 0 (QV G below K args s 0 0) (F0 m 2 ls []) := fun x2' u' H locs ls h hw hl => ih x2' u' H locs ls (Nat.lt_of_lt_of_le h.2 (Nat.le_of_lt_succ hn)) h.1 hw hl
      refine lv_iload_n hx hb dX19_laysAllWords_2 rfl (lv_at hl 2 rfl) ?_
      refine lv_aload_n hx hb dX19_laysAllWords_3 rfl (lv_at hl 0 rfl) ?_
      have hk_1 : kd u a0 = 16 := h.1
      have h := h.2
      refine g_getI X hw in_X19 hk_1 rfl 17 rfl (by decide) q1468 (fun _ z => z) dX19_laysAllWords_4 ?_
      refine lv_icmp_ge (tgt := 28) hx hb dX19_laysAllWords_7 rfl (fun c_7 => ?_) (fun c_7 => ?_)
      · have h := h.1 c_7
        exact g_vret X hw hr h (Nat.le_refl _) (Nat.le_refl _) dX19_laysAllWords_28
      · have h := h.2 c_7
        refine lv_aload_n hx hb dX19_laysAllWords_10 rfl (lv_at hl 0 rfl) ?_
        obtain ⟨b_2, e_3, h⟩ := h
        refine g_getR X hw in_X19 hk_1 rfl 25 rfl (by decide) q1476 (fun _ z => z) e_3 dX19_laysAllWords_11 ?_
        refine lv_iload_n hx hb dX19_laysAllWords_14 rfl (lv_at hl 2 rfl) ?_
        refine lv_aload_n hx hb dX19_laysAllWords_15 rfl (lv_at hl 0 rfl) ?_
        refine lv_iload_n hx hb dX19_laysAllWords_16 rfl (lv_at hl 1 rfl) ?_
        refine lv_iload_n hx hb dX19_laysAllWords_17 rfl (lv_at hl 2 rfl) ?_
        refine g_calli hw (g_V X hw (mX19_laysWords l G _ _ _ _ _ h) 2 (lw_V q1956 q1958 qs88 q143 q1959) rfl rfl ydX19_laysWords ⟨Nat.le_of_ble_eq_true rfl, Nat.le_of_ble_eq_true rfl⟩ (g_recv X hw (ci := 15) (q := (RX19, TX19, 46)) hk_1 rfl) (As := [.int x1, .int x2]) (rest := [.int x2, .ref b_2]) rfl hl.1 rfl (Nat.le_of_ble_eq_true rfl) dX19_laysAllWords_18 ⟨Nat.le_refl _, Nat.le_refl _⟩) (fun r_4 u_5 H locs h hw => ?_)
        have hk_6 : kd u_5 b_2 = 101 := h.1
        have h := h.2
        refine g_iast X hw hk_6 h.1 dX19_laysAllWords_21 (fun H locs hw => ?_)
        have h := h.2
        refine lv_iinc (v := x2 + 1) (lv' := [(2, .int (x2 + 1)), (0, .ref a0), (1, .int x1)]) hx hb dX19_laysAllWords_22 hl (k := 2) rfl rfl (by decide) rfl (fun ls hl => ?_)
        refine lv_goto (tgt := 2) hx hb dX19_laysAllWords_25 rfl ?_
        exact hJ2 _ _ _ _ _ h hw (lv_sub hl [1, 2, 0] rfl)
  exact key _ _ _ _ _ _ (Nat.lt_succ_self _) h0 hw hl
set_option maxHeartbeats 4000000 in
theorem mX19_laysAllWords (l : Launch) (G : GT) (u : Hp) (a0 : Nat) (x1 : Int32) (K : Hp → Prop) (h : pX19_laysAllWords u a0 x1 K) : Met l yX19_laysAllWords (ws_ yX19_laysAllWords cX19_laysAllWords 3 none) (rmX19_laysAllWords 0 0) (va_Pc [.ref a0, .int x1] (GB G u)) (va_Qv K (fun u t => GH G u t.heap) (GA G)) 0 0 (GA G) := by
  refine Met.ofW (cc := cX19_laysAllWords) (maxL := 3) (ret := none) (by decide) rfl ?_
  intro p e s m args below meth c s₁ B hml hv
  obtain ⟨rfl, hv⟩ := hv
  have X := Mc_of (own := RX19) B hml rfl hv
  have hw : GW G u s s.heap [] := ⟨hv.2.1, va_S.rf⟩
  have hr := B.returns
  obtain ⟨hx, hb, hml, hown, hts, -⟩ := id X
  have hl := lv_entry ([.ref a0, .int x1]) (n := 3) (Nat.le_of_ble_eq_true rfl)
  rw [lg_entry_eq]
  generalize (lg_sl ([.ref a0, .int x1]) ++ List.replicate (3 - (lg_sl ([.ref a0, .int x1])).length) Slot.unset).toArray = ls at hl ⊢
  have hl : lv_has ls 3 [(0, .ref a0), (1, .int x1)] := hl
  change W p l e (rmX19_laysAllWords 0 0) s m _ below meth c s.heap [] 0 0 (QV G below K _ s 0 0) (F0 m 0 ls [])
  unfold pX19_laysAllWords at h
  refine lv_iconst (v := 0) hx hb dX19_laysAllWords_0 (by decide) ?_
  refine lv_istore_n (lv' := [(2, .int 0), (0, .ref a0), (1, .int x1)]) hx hb dX19_laysAllWords_1 rfl hl (by decide) rfl (fun ls hl => ?_)
  exact wX19_laysAllWords_2 X hr  h hw (lv_sub hl [1, 2, 0] rfl)

/-! FifthCardModel.wordsWork(I)I -/
theorem ydX19_wordsWork : yX19_wordsWork.cls = "FifthCardModel" ∧ yX19_wordsWork.cls ≠ "java/lang/invoke/MethodHandle" ∧ yX19_wordsWork.cls ≠ "java/lang/invoke/VarHandle" ∧ (parseMethodDescriptor yX19_wordsWork.desc).map (fun d => d.parameters.length) = some 1 := by decide +kernel
def rmX19_wordsWork (mc ms : Nat) : Room := { frames := 5, cells := mc, slots := ms, locals := 128 }
set_option maxHeartbeats 4000000 in
theorem mX19_wordsWork (l : Launch) (G : GT) (u : Hp) (a0 : Nat) (x1 : Int32) (K : Int32 → Hp → Prop) (h : pX19_wordsWork u a0 x1 K) : Met l yX19_wordsWork (ws_ yX19_wordsWork cX19_wordsWork 2 (some .int)) (rmX19_wordsWork 0 0) (va_Pc [.ref a0, .int x1] (GB G u)) (va_Qi K (fun u t => GH G u t.heap) (GA G)) 0 0 (GA G) := by
  refine Met.ofW (cc := cX19_wordsWork) (maxL := 2) (ret := (some .int)) (by decide) rfl ?_
  intro p e s m args below meth c s₁ B hml hv
  obtain ⟨rfl, hv⟩ := hv
  have X := Mc_of (own := RX19) B hml rfl hv
  have hw : GW G u s s.heap [] := ⟨hv.2.1, va_S.rf⟩
  have hr := B.returns
  obtain ⟨hx, hb, hml, hown, hts, -⟩ := id X
  have hl := lv_entry ([.ref a0, .int x1]) (n := 2) (Nat.le_of_ble_eq_true rfl)
  rw [lg_entry_eq]
  generalize (lg_sl ([.ref a0, .int x1]) ++ List.replicate (2 - (lg_sl ([.ref a0, .int x1])).length) Slot.unset).toArray = ls at hl ⊢
  have hl : lv_has ls 2 [(0, .ref a0), (1, .int x1)] := hl
  change W p l e (rmX19_wordsWork 0 0) s m _ below meth c s.heap [] 0 0 (QI G below K _ s 0 0) (F0 m 0 ls [])
  unfold pX19_wordsWork at h
  refine lv_aload_n hx hb dX19_wordsWork_0 rfl (lv_at hl 0 rfl) ?_
  refine lv_iconst (v := 0) hx hb dX19_wordsWork_1 (by decide) ?_
  have hk_1 : kd u a0 = 16 := h.1
  have h := h.2
  refine g_putI (v := 0) X hw in_X19 tyX19_ok nmX19 hk_1 rfl 0 rfl (by decide) q1451 (fun _ z => z) rfl rfl rfl dX19_wordsWork_2 (fun H locs hw => ?_)
  refine lv_aload_n hx hb dX19_wordsWork_5 rfl (lv_at hl 0 rfl) ?_
  refine g_getO X hw in_X19 hk_1 rfl 3 rfl (by decide) q1454 (fun _ z => z) dX19_wordsWork_6 ?_
  refine g_ifnonnull X (tgt := 18) dX19_wordsWork_9 rfl (fun b_2 e_3 => ?_) (fun e_3 => ?_)
  · have h := h.2 b_2 e_3
    refine lv_iload_n hx hb dX19_wordsWork_18 rfl (lv_at hl 1 rfl) ?_
    refine lv_iconst (v := 0) hx hb dX19_wordsWork_19 (by decide) ?_
    refine lv_bipush (v := 19) hx hb dX19_wordsWork_20 (by decide) ?_
    refine g_callio hw (g_S X hw (mX19_in l G _ _ _ _ _ h) 3 (lw_S q1749 q1750 q143 q1751) rfl rfl ydX19_in ⟨Nat.le_of_ble_eq_true rfl, Nat.le_of_ble_eq_true rfl⟩ (As := [.int x1, .int 0, .int 19]) (rest := []) rfl hl.1 rfl (Nat.le_of_ble_eq_true rfl) dX19_wordsWork_22 ⟨Nat.le_refl _, Nat.le_refl _⟩) (fun r_6 H locs h hw => ?_)
    refine lv_if_ne (tgt := 34) hx hb dX19_wordsWork_25 rfl (fun c_17 => ?_) (fun c_17 => ?_)
    · have h := h.2 c_17
      refine lv_aload_n hx hb dX19_wordsWork_34 rfl (lv_at hl 0 rfl) ?_
      refine lv_iload_n hx hb dX19_wordsWork_35 rfl (lv_at hl 1 rfl) ?_
      refine g_callv hw (g_V X hw (mX19_laysAllWords l G _ _ _ _ h) 1 (lw_V q2089 q2091 qs112 q143 q2092) rfl rfl ydX19_laysAllWords ⟨Nat.le_of_ble_eq_true rfl, Nat.le_of_ble_eq_true rfl⟩ (g_recv X hw (ci := 15) (q := (RX19, TX19, 46)) hk_1 rfl) (As := [.int x1]) (rest := []) rfl hl.1 rfl (Nat.le_of_ble_eq_true rfl) dX19_wordsWork_36 ⟨Nat.le_refl _, Nat.le_refl _⟩) (fun u_7 H locs h hw => ?_)
      refine lv_aload_n hx hb dX19_wordsWork_39 rfl (lv_at hl 0 rfl) ?_
      refine lv_aload_n hx hb dX19_wordsWork_40 rfl (lv_at hl 0 rfl) ?_
      have hk_8 : kd u_7 a0 = 16 := h.1
      have h := h.2
      refine g_callio hw (g_V X hw (mX19_isWorking l G _ _ _ h) 0 (lw_V q2037 q2039 qs105 q143 q2040) rfl rfl ydX19_isWorking ⟨Nat.le_of_ble_eq_true rfl, Nat.le_of_ble_eq_true rfl⟩ (g_recv X hw (ci := 15) (q := (RX19, TX19, 46)) hk_8 rfl) (As := []) (rest := [.ref a0]) rfl hl.1 rfl (Nat.le_of_ble_eq_true rfl) dX19_wordsWork_41 ⟨Nat.le_refl _, Nat.le_refl _⟩) (fun r_9 H locs h hw => ?_)
      refine lv_if_eq (tgt := 51) hx hb dX19_wordsWork_44 rfl (fun c_14 => ?_) (fun c_14 => ?_)
      · have h := h.1 c_14
        refine lv_iconst (v := 0) hx hb dX19_wordsWork_51 (by decide) ?_
        refine g_calli hw (g_V X hw (mX19_good l G _ _ _ _ h) 1 (lw_V q1867 q1869 qs77 q143 q1870) rfl rfl ydX19_good ⟨Nat.le_of_ble_eq_true rfl, Nat.le_of_ble_eq_true rfl⟩ (g_recv X hw (ci := 15) (q := (RX19, TX19, 46)) hk_8 rfl) (As := [.int 0]) (rest := []) rfl hl.1 rfl (Nat.le_of_ble_eq_true rfl) dX19_wordsWork_52 ⟨Nat.le_refl _, Nat.le_refl _⟩) (fun r_10 u_11 H locs h hw => ?_)
        exact g_iret X hw hr h (Nat.le_refl _) (Nat.le_refl _) dX19_wordsWork_55
      · have h := h.2 c_14
        refine lv_iconst (v := 1) hx hb dX19_wordsWork_47 (by decide) ?_
        refine lv_goto (tgt := 52) hx hb dX19_wordsWork_48 rfl ?_
        refine g_calli hw (g_V X hw (mX19_good l G _ _ _ _ h) 1 (lw_V q1867 q1869 qs77 q143 q1870) rfl rfl ydX19_good ⟨Nat.le_of_ble_eq_true rfl, Nat.le_of_ble_eq_true rfl⟩ (g_recv X hw (ci := 15) (q := (RX19, TX19, 46)) hk_8 rfl) (As := [.int 1]) (rest := []) rfl hl.1 rfl (Nat.le_of_ble_eq_true rfl) dX19_wordsWork_52 ⟨Nat.le_refl _, Nat.le_refl _⟩) (fun r_12 u_13 H locs h hw => ?_)
        exact g_iret X hw hr h (Nat.le_refl _) (Nat.le_refl _) dX19_wordsWork_55
    · have h := h.1 c_17
      refine lv_aload_n hx hb dX19_wordsWork_28 rfl (lv_at hl 0 rfl) ?_
      refine lv_iconst (v := 2) hx hb dX19_wordsWork_29 (by decide) ?_
      refine g_calli hw (g_V X hw (mX19_refused l G _ _ _ _ h) 1 (lw_V q1603 q1605 qs47 q143 q1606) rfl rfl ydX19_refused ⟨Nat.le_of_ble_eq_true rfl, Nat.le_of_ble_eq_true rfl⟩ (g_recv X hw (ci := 15) (q := (RX19, TX19, 46)) hk_1 rfl) (As := [.int 2]) (rest := []) rfl hl.1 rfl (Nat.le_of_ble_eq_true rfl) dX19_wordsWork_30 ⟨Nat.le_refl _, Nat.le_refl _⟩) (fun r_15 u_16 H locs h hw => ?_)
      exact g_iret X hw hr h (Nat.le_refl _) (Nat.le_refl _) dX19_wordsWork_33
  · have h := h.1 e_3
    refine lv_aload_n hx hb dX19_wordsWork_12 rfl (lv_at hl 0 rfl) ?_
    refine lv_iconst (v := 1) hx hb dX19_wordsWork_13 (by decide) ?_
    refine g_calli hw (g_V X hw (mX19_refused l G _ _ _ _ h) 1 (lw_V q1603 q1605 qs47 q143 q1606) rfl rfl ydX19_refused ⟨Nat.le_of_ble_eq_true rfl, Nat.le_of_ble_eq_true rfl⟩ (g_recv X hw (ci := 15) (q := (RX19, TX19, 46)) hk_1 rfl) (As := [.int 1]) (rest := []) rfl hl.1 rfl (Nat.le_of_ble_eq_true rfl) dX19_wordsWork_14 ⟨Nat.le_refl _, Nat.le_refl _⟩) (fun r_4 u_5 H locs h hw => ?_)
    exact g_iret X hw hr h (Nat.le_refl _) (Nat.le_refl _) dX19_wordsWork_17

/-! FifthCard.shortest()I -/
theorem ydX1_shortest : yX1_shortest.cls = "FifthCard" ∧ yX1_shortest.cls ≠ "java/lang/invoke/MethodHandle" ∧ yX1_shortest.cls ≠ "java/lang/invoke/VarHandle" ∧ (parseMethodDescriptor yX1_shortest.desc).map (fun d => d.parameters.length) = some 0 := by decide +kernel
def rmX1_shortest (mc ms : Nat) : Room := { frames := 8, cells := mc, slots := ms, locals := 195 }
set_option maxHeartbeats 4000000 in
theorem wX1_shortest_19 {G : GT} {p : Program} {l : Launch} {e : Env} {s : State} {m : MethodId} {args : Array Value} {below : List Frame} {meth : Method} {c : Code} {H : Heap} {locs : List Loc} {ls : Array Slot} {a0 : Nat} {x1 : Int32} {u : Hp} {K : Int32 → Hp → Prop} (X : Mc G p s m args meth c RX1 cX1_shortest 2) (hr : meth.sig.returnType = (some .int)) (h : jl2 (bX1_shortest_19 K a0) x1 u) (hw : GW G u s H locs) (hl : lv_has ls 2 [(0, .ref a0), (1, .int x1)]) : W p l e (rmX1_shortest 0 0) s m args below meth c H locs 0 0 (QI G below K args s 0 0) (F0 m 19 ls []) := by
  obtain ⟨hx, hb, hml, hown, hts, -⟩ := id X
  obtain ⟨I, μ, h0, hs⟩ := h
  have key : ∀ (n : Nat) (x1 : Int32) (u : Hp) (H : Heap) (locs : List Loc) (ls : Array Slot) , μ x1 u < n → I x1 u → GW G u s H locs → lv_has ls 2 [(0, .ref a0), (1, .int x1)] → W p l e (rmX1_shortest 0 0) s m args below meth c H locs 0 0 (QI G below K args s 0 0) (F0 m 19 ls []) := by
    intro n
    induction n with
    | zero =>
      intro x1 u H locs ls hn
      exact absurd hn (Nat.not_lt_zero _)
    | succ n ih =>
      intro x1 u H locs ls hn hI hw hl
      have h := hs x1 u hI
      unfold bX1_shortest_19 at h
      have hJ19 : ∀ (x1' : Int32) (u' : Hp) (H : Heap) (locs : List Loc) (ls : Array Slot) , (I x1' u' ∧ μ x1' u' < μ x1 u) → GW G u' s H locs → lv_has ls 2 [(0, .ref a0), (1, .int x1')] → W p l e (rmX1_shortest 0 0) s m args below meth c H locs 0 0 (QI G below K args s 0 0) (F0 m 19 ls []) := fun x1' u' H locs ls h hw hl => ih x1' u' H locs ls (Nat.lt_of_lt_of_le h.2 (Nat.le_of_lt_succ hn)) h.1 hw hl
      refine lv_iload_n hx hb dX1_shortest_19 rfl (lv_at hl 1 rfl) ?_
      refine lv_bipush (v := 20) hx hb dX1_shortest_20 (by decide) ?_
      refine lv_icmp_ge (tgt := 46) hx hb dX1_shortest_22 rfl (fun c_11 => ?_) (fun c_11 => ?_)
      · have h := h.1 c_11
        refine lv_bipush (v := (-2)) hx hb dX1_shortest_46 (by decide) ?_
        exact g_iret X hw hr h (Nat.le_refl _) (Nat.le_refl _) dX1_shortest_48
      · have h := h.2 c_11
        refine lv_aload_n hx hb dX1_shortest_25 rfl (lv_at hl 0 rfl) ?_
        refine lv_aload_n hx hb dX1_shortest_26 rfl (lv_at hl 0 rfl) ?_
        have hk_1 : kd u a0 = 1 := h.1
        have h := h.2
        obtain ⟨b_2, e_3, h⟩ := h
        refine g_getR X hw in_X1 hk_1 rfl 10 rfl (by decide) q483 (fun _ z => z) e_3 dX1_shortest_27 ?_
        refine lv_iload_n hx hb dX1_shortest_30 rfl (lv_at hl 1 rfl) ?_
        have hk_4 : kd u b_2 = 106 ∨ kd u b_2 = 107 := h.1
        have h := h.2
        obtain ⟨hi_7, b_5, e_6, h⟩ := h
        refine g_aald X hw hk_4 hi_7 e_6 dX1_shortest_31 ?_
        refine g_calli hw (g_V X hw (mX1_doesWork l G _ _ _ _ h) 1 (lw_V q1203 q1205 qs35 q122 q1206) rfl rfl ydX1_doesWork ⟨Nat.le_of_ble_eq_true rfl, Nat.le_of_ble_eq_true rfl⟩ (g_recv X hw (ci := 0) (q := (RX1, TX1, 16)) hk_1 rfl) (As := [.ref b_5]) (rest := []) rfl hl.1 rfl (Nat.le_of_ble_eq_true rfl) dX1_shortest_32 ⟨Nat.le_refl _, Nat.le_refl _⟩) (fun r_8 u_9 H locs h hw => ?_)
        refine lv_if_eq (tgt := 40) hx hb dX1_shortest_35 rfl (fun c_10 => ?_) (fun c_10 => ?_)
        · have h := h.1 c_10
          refine lv_iinc (v := x1 + 1) (lv' := [(1, .int (x1 + 1)), (0, .ref a0)]) hx hb dX1_shortest_40 hl (k := 1) rfl rfl (by decide) rfl (fun ls hl => ?_)
          refine lv_goto (tgt := 19) hx hb dX1_shortest_43 rfl ?_
          exact hJ19 _ _ _ _ _ h hw (lv_sub hl [1, 0] rfl)
        · have h := h.2 c_10
          refine lv_iload_n hx hb dX1_shortest_38 rfl (lv_at hl 1 rfl) ?_
          exact g_iret X hw hr h (Nat.le_refl _) (Nat.le_refl _) dX1_shortest_39
  exact key _ _ _ _ _ _ (Nat.lt_succ_self _) h0 hw hl
set_option maxHeartbeats 4000000 in
theorem mX1_shortest (l : Launch) (G : GT) (u : Hp) (a0 : Nat) (K : Int32 → Hp → Prop) (h : pX1_shortest u a0 K) : Met l yX1_shortest (ws_ yX1_shortest cX1_shortest 2 (some .int)) (rmX1_shortest 0 0) (va_Pc [.ref a0] (GB G u)) (va_Qi K (fun u t => GH G u t.heap) (GA G)) 0 0 (GA G) := by
  refine Met.ofW (cc := cX1_shortest) (maxL := 2) (ret := (some .int)) (by decide) rfl ?_
  intro p e s m args below meth c s₁ B hml hv
  obtain ⟨rfl, hv⟩ := hv
  have X := Mc_of (own := RX1) B hml rfl hv
  have hw : GW G u s s.heap [] := ⟨hv.2.1, va_S.rf⟩
  have hr := B.returns
  obtain ⟨hx, hb, hml, hown, hts, -⟩ := id X
  have hl := lv_entry ([.ref a0]) (n := 2) (Nat.le_of_ble_eq_true rfl)
  rw [lg_entry_eq]
  generalize (lg_sl ([.ref a0]) ++ List.replicate (2 - (lg_sl ([.ref a0])).length) Slot.unset).toArray = ls at hl ⊢
  have hl : lv_has ls 2 [(0, .ref a0)] := hl
  change W p l e (rmX1_shortest 0 0) s m _ below meth c s.heap [] 0 0 (QI G below K _ s 0 0) (F0 m 0 ls [])
  unfold pX1_shortest at h
  refine lv_aload_n hx hb dX1_shortest_0 rfl (lv_at hl 0 rfl) ?_
  have hk_12 : kd u a0 = 1 := h.1
  have h := h.2
  refine g_callv hw (g_V X hw (mX1_anew l G _ _ _ h) 0 (lw_V q535 q537 qs2 q122 q538) rfl rfl ydX1_anew ⟨Nat.le_of_ble_eq_true rfl, Nat.le_of_ble_eq_true rfl⟩ (g_recv X hw (ci := 0) (q := (RX1, TX1, 16)) hk_12 rfl) (As := []) (rest := []) rfl hl.1 rfl (Nat.le_of_ble_eq_true rfl) dX1_shortest_1 ⟨Nat.le_refl _, Nat.le_refl _⟩) (fun u_13 H locs h hw => ?_)
  refine lv_aload_n hx hb dX1_shortest_4 rfl (lv_at hl 0 rfl) ?_
  have hk_14 : kd u_13 a0 = 1 := h.1
  have h := h.2
  refine g_getO X hw in_X1 hk_14 rfl 3 rfl (by decide) q476 (fun _ z => z) dX1_shortest_5 ?_
  refine g_ifnonnull X (tgt := 17) dX1_shortest_8 rfl (fun b_15 e_16 => ?_) (fun e_16 => ?_)
  · have h := h.2 b_15 e_16
    refine lv_iconst (v := 0) hx hb dX1_shortest_17 (by decide) ?_
    refine lv_istore_n (lv' := [(1, .int 0), (0, .ref a0)]) hx hb dX1_shortest_18 rfl hl (by decide) rfl (fun ls hl => ?_)
    exact wX1_shortest_19 X hr  h hw (lv_sub hl [1, 0] rfl)
  · have h := h.1 e_16
    refine lv_aload_n hx hb dX1_shortest_11 rfl (lv_at hl 0 rfl) ?_
    refine lv_iconst (v := 1) hx hb dX1_shortest_12 (by decide) ?_
    refine g_calli hw (g_V X hw (mX1_no l G _ _ _ _ h) 1 (lw_V q542 q544 qs3 q122 q545) rfl rfl ydX1_no ⟨Nat.le_of_ble_eq_true rfl, Nat.le_of_ble_eq_true rfl⟩ (g_recv X hw (ci := 0) (q := (RX1, TX1, 16)) hk_14 rfl) (As := [.int 1]) (rest := []) rfl hl.1 rfl (Nat.le_of_ble_eq_true rfl) dX1_shortest_13 ⟨Nat.le_refl _, Nat.le_refl _⟩) (fun r_17 u_18 H locs h hw => ?_)
    exact g_iret X hw hr h (Nat.le_refl _) (Nat.le_refl _) dX1_shortest_16

/-! FifthCardModel.shortest()I -/
theorem ydX19_shortest : yX19_shortest.cls = "FifthCardModel" ∧ yX19_shortest.cls ≠ "java/lang/invoke/MethodHandle" ∧ yX19_shortest.cls ≠ "java/lang/invoke/VarHandle" ∧ (parseMethodDescriptor yX19_shortest.desc).map (fun d => d.parameters.length) = some 0 := by decide +kernel
def rmX19_shortest (mc ms : Nat) : Room := { frames := 5, cells := mc, slots := ms, locals := 128 }
set_option maxHeartbeats 4000000 in
theorem wX19_shortest_20 {G : GT} {p : Program} {l : Launch} {e : Env} {s : State} {m : MethodId} {args : Array Value} {below : List Frame} {meth : Method} {c : Code} {H : Heap} {locs : List Loc} {ls : Array Slot} {a0 : Nat} {x1 : Int32} {u : Hp} {K : Int32 → Hp → Prop} (X : Mc G p s m args meth c RX19 cX19_shortest 2) (hr : meth.sig.returnType = (some .int)) (h : jl2 (bX19_shortest_20 K a0) x1 u) (hw : GW G u s H locs) (hl : lv_has ls 2 [(0, .ref a0), (1, .int x1)]) : W p l e (rmX19_shortest 0 0) s m args below meth c H locs 0 0 (QI G below K args s 0 0) (F0 m 20 ls []) := by
  obtain ⟨hx, hb, hml, hown, hts, -⟩ := id X
  obtain ⟨I, μ, h0, hs⟩ := h
  have key : ∀ (n : Nat) (x1 : Int32) (u : Hp) (H : Heap) (locs : List Loc) (ls : Array Slot) , μ x1 u < n → I x1 u → GW G u s H locs → lv_has ls 2 [(0, .ref a0), (1, .int x1)] → W p l e (rmX19_shortest 0 0) s m args below meth c H locs 0 0 (QI G below K args s 0 0) (F0 m 20 ls []) := by
    intro n
    induction n with
    | zero =>
      intro x1 u H locs ls hn
      exact absurd hn (Nat.not_lt_zero _)
    | succ n ih =>
      intro x1 u H locs ls hn hI hw hl
      have h := hs x1 u hI
      unfold bX19_shortest_20 at h
      have hJ20 : ∀ (x1' : Int32) (u' : Hp) (H : Heap) (locs : List Loc) (ls : Array Slot) , (I x1' u' ∧ μ x1' u' < μ x1 u) → GW G u' s H locs → lv_has ls 2 [(0, .ref a0), (1, .int x1')] → W p l e (rmX19_shortest 0 0) s m args below meth c H locs 0 0 (QI G below K args s 0 0) (F0 m 20 ls []) := fun x1' u' H locs ls h hw hl => ih x1' u' H locs ls (Nat.lt_of_lt_of_le h.2 (Nat.le_of_lt_succ hn)) h.1 hw hl
      refine lv_iload_n hx hb dX19_shortest_20 rfl (lv_at hl 1 rfl) ?_
      refine lv_bipush (v := 20) hx hb dX19_shortest_21 (by decide) ?_
      refine lv_icmp_ge (tgt := 50) hx hb dX19_shortest_23 rfl (fun c_11 => ?_) (fun c_11 => ?_)
      · have h := h.1 c_11
        refine lv_aload_n hx hb dX19_shortest_50 rfl (lv_at hl 0 rfl) ?_
        refine lv_bipush (v := (-2)) hx hb dX19_shortest_51 (by decide) ?_
        have hk_1 : kd u a0 = 16 := h.1
        have h := h.2
        refine g_calli hw (g_V X hw (mX19_good l G _ _ _ _ h) 1 (lw_V q1867 q1869 qs77 q143 q1870) rfl rfl ydX19_good ⟨Nat.le_of_ble_eq_true rfl, Nat.le_of_ble_eq_true rfl⟩ (g_recv X hw (ci := 15) (q := (RX19, TX19, 46)) hk_1 rfl) (As := [.int (-2)]) (rest := []) rfl hl.1 rfl (Nat.le_of_ble_eq_true rfl) dX19_shortest_53 ⟨Nat.le_refl _, Nat.le_refl _⟩) (fun r_2 u_3 H locs h hw => ?_)
        exact g_iret X hw hr h (Nat.le_refl _) (Nat.le_refl _) dX19_shortest_56
      · have h := h.2 c_11
        refine lv_aload_n hx hb dX19_shortest_26 rfl (lv_at hl 0 rfl) ?_
        refine lv_iload_n hx hb dX19_shortest_27 rfl (lv_at hl 1 rfl) ?_
        have hk_4 : kd u a0 = 16 := h.1
        have h := h.2
        refine g_callv hw (g_V X hw (mX19_laysAllWords l G _ _ _ _ h) 1 (lw_V q2089 q2091 qs112 q143 q2092) rfl rfl ydX19_laysAllWords ⟨Nat.le_of_ble_eq_true rfl, Nat.le_of_ble_eq_true rfl⟩ (g_recv X hw (ci := 15) (q := (RX19, TX19, 46)) hk_4 rfl) (As := [.int x1]) (rest := []) rfl hl.1 rfl (Nat.le_of_ble_eq_true rfl) dX19_shortest_28 ⟨Nat.le_refl _, Nat.le_refl _⟩) (fun u_5 H locs h hw => ?_)
        refine lv_aload_n hx hb dX19_shortest_31 rfl (lv_at hl 0 rfl) ?_
        have hk_6 : kd u_5 a0 = 16 := h.1
        have h := h.2
        refine g_callio hw (g_V X hw (mX19_isWorking l G _ _ _ h) 0 (lw_V q2037 q2039 qs105 q143 q2040) rfl rfl ydX19_isWorking ⟨Nat.le_of_ble_eq_true rfl, Nat.le_of_ble_eq_true rfl⟩ (g_recv X hw (ci := 15) (q := (RX19, TX19, 46)) hk_6 rfl) (As := []) (rest := []) rfl hl.1 rfl (Nat.le_of_ble_eq_true rfl) dX19_shortest_32 ⟨Nat.le_refl _, Nat.le_refl _⟩) (fun r_7 H locs h hw => ?_)
        refine lv_if_eq (tgt := 44) hx hb dX19_shortest_35 rfl (fun c_10 => ?_) (fun c_10 => ?_)
        · have h := h.1 c_10
          refine lv_iinc (v := x1 + 1) (lv' := [(1, .int (x1 + 1)), (0, .ref a0)]) hx hb dX19_shortest_44 hl (k := 1) rfl rfl (by decide) rfl (fun ls hl => ?_)
          refine lv_goto (tgt := 20) hx hb dX19_shortest_47 rfl ?_
          exact hJ20 _ _ _ _ _ h hw (lv_sub hl [1, 0] rfl)
        · have h := h.2 c_10
          refine lv_aload_n hx hb dX19_shortest_38 rfl (lv_at hl 0 rfl) ?_
          refine lv_iload_n hx hb dX19_shortest_39 rfl (lv_at hl 1 rfl) ?_
          refine g_calli hw (g_V X hw (mX19_good l G _ _ _ _ h) 1 (lw_V q1867 q1869 qs77 q143 q1870) rfl rfl ydX19_good ⟨Nat.le_of_ble_eq_true rfl, Nat.le_of_ble_eq_true rfl⟩ (g_recv X hw (ci := 15) (q := (RX19, TX19, 46)) hk_6 rfl) (As := [.int x1]) (rest := []) rfl hl.1 rfl (Nat.le_of_ble_eq_true rfl) dX19_shortest_40 ⟨Nat.le_refl _, Nat.le_refl _⟩) (fun r_8 u_9 H locs h hw => ?_)
          exact g_iret X hw hr h (Nat.le_refl _) (Nat.le_refl _) dX19_shortest_43
  exact key _ _ _ _ _ _ (Nat.lt_succ_self _) h0 hw hl
set_option maxHeartbeats 4000000 in
theorem mX19_shortest (l : Launch) (G : GT) (u : Hp) (a0 : Nat) (K : Int32 → Hp → Prop) (h : pX19_shortest u a0 K) : Met l yX19_shortest (ws_ yX19_shortest cX19_shortest 2 (some .int)) (rmX19_shortest 0 0) (va_Pc [.ref a0] (GB G u)) (va_Qi K (fun u t => GH G u t.heap) (GA G)) 0 0 (GA G) := by
  refine Met.ofW (cc := cX19_shortest) (maxL := 2) (ret := (some .int)) (by decide) rfl ?_
  intro p e s m args below meth c s₁ B hml hv
  obtain ⟨rfl, hv⟩ := hv
  have X := Mc_of (own := RX19) B hml rfl hv
  have hw : GW G u s s.heap [] := ⟨hv.2.1, va_S.rf⟩
  have hr := B.returns
  obtain ⟨hx, hb, hml, hown, hts, -⟩ := id X
  have hl := lv_entry ([.ref a0]) (n := 2) (Nat.le_of_ble_eq_true rfl)
  rw [lg_entry_eq]
  generalize (lg_sl ([.ref a0]) ++ List.replicate (2 - (lg_sl ([.ref a0])).length) Slot.unset).toArray = ls at hl ⊢
  have hl : lv_has ls 2 [(0, .ref a0)] := hl
  change W p l e (rmX19_shortest 0 0) s m _ below meth c s.heap [] 0 0 (QI G below K _ s 0 0) (F0 m 0 ls [])
  unfold pX19_shortest at h
  refine lv_aload_n hx hb dX19_shortest_0 rfl (lv_at hl 0 rfl) ?_
  refine lv_iconst (v := 0) hx hb dX19_shortest_1 (by decide) ?_
  have hk_12 : kd u a0 = 16 := h.1
  have h := h.2
  refine g_putI (v := 0) X hw in_X19 tyX19_ok nmX19 hk_12 rfl 0 rfl (by decide) q1451 (fun _ z => z) rfl rfl rfl dX19_shortest_2 (fun H locs hw => ?_)
  refine lv_aload_n hx hb dX19_shortest_5 rfl (lv_at hl 0 rfl) ?_
  refine g_getO X hw in_X19 hk_12 rfl 3 rfl (by decide) q1454 (fun _ z => z) dX19_shortest_6 ?_
  refine g_ifnonnull X (tgt := 18) dX19_shortest_9 rfl (fun b_13 e_14 => ?_) (fun e_14 => ?_)
  · have h := h.2 b_13 e_14
    refine lv_iconst (v := 0) hx hb dX19_shortest_18 (by decide) ?_
    refine lv_istore_n (lv' := [(1, .int 0), (0, .ref a0)]) hx hb dX19_shortest_19 rfl hl (by decide) rfl (fun ls hl => ?_)
    exact wX19_shortest_20 X hr  h hw (lv_sub hl [1, 0] rfl)
  · have h := h.1 e_14
    refine lv_aload_n hx hb dX19_shortest_12 rfl (lv_at hl 0 rfl) ?_
    refine lv_iconst (v := 1) hx hb dX19_shortest_13 (by decide) ?_
    refine g_calli hw (g_V X hw (mX19_refused l G _ _ _ _ h) 1 (lw_V q1603 q1605 qs47 q143 q1606) rfl rfl ydX19_refused ⟨Nat.le_of_ble_eq_true rfl, Nat.le_of_ble_eq_true rfl⟩ (g_recv X hw (ci := 15) (q := (RX19, TX19, 46)) hk_12 rfl) (As := [.int 1]) (rest := []) rfl hl.1 rfl (Nat.le_of_ble_eq_true rfl) dX19_shortest_14 ⟨Nat.le_refl _, Nat.le_refl _⟩) (fun r_15 u_16 H locs h hw => ?_)
    exact g_iret X hw hr h (Nat.le_refl _) (Nat.le_refl _) dX19_shortest_17

/-! FifthCard.pairs()I -/
theorem ydX1_pairs : yX1_pairs.cls = "FifthCard" ∧ yX1_pairs.cls ≠ "java/lang/invoke/MethodHandle" ∧ yX1_pairs.cls ≠ "java/lang/invoke/VarHandle" ∧ (parseMethodDescriptor yX1_pairs.desc).map (fun d => d.parameters.length) = some 0 := by decide +kernel
def rmX1_pairs (mc ms : Nat) : Room := { frames := 3, cells := mc, slots := ms, locals := 75 }
set_option maxHeartbeats 4000000 in
theorem mX1_pairs (l : Launch) (G : GT) (u : Hp) (a0 : Nat) (K : Int32 → Hp → Prop) (h : pX1_pairs u a0 K) : Met l yX1_pairs (ws_ yX1_pairs cX1_pairs 1 (some .int)) (rmX1_pairs 0 0) (va_Pc [.ref a0] (GB G u)) (va_Qi K (fun u t => GH G u t.heap) (GA G)) 0 0 (GA G) := by
  refine Met.ofW (cc := cX1_pairs) (maxL := 1) (ret := (some .int)) (by decide) rfl ?_
  intro p e s m args below meth c s₁ B hml hv
  obtain ⟨rfl, hv⟩ := hv
  have X := Mc_of (own := RX1) B hml rfl hv
  have hw : GW G u s s.heap [] := ⟨hv.2.1, va_S.rf⟩
  have hr := B.returns
  obtain ⟨hx, hb, hml, hown, hts, -⟩ := id X
  have hl := lv_entry ([.ref a0]) (n := 1) (Nat.le_of_ble_eq_true rfl)
  rw [lg_entry_eq]
  generalize (lg_sl ([.ref a0]) ++ List.replicate (1 - (lg_sl ([.ref a0])).length) Slot.unset).toArray = ls at hl ⊢
  have hl : lv_has ls 1 [(0, .ref a0)] := hl
  change W p l e (rmX1_pairs 0 0) s m _ below meth c s.heap [] 0 0 (QI G below K _ s 0 0) (F0 m 0 ls [])
  unfold pX1_pairs at h
  refine lv_aload_n hx hb dX1_pairs_0 rfl (lv_at hl 0 rfl) ?_
  have hk_1 : kd u a0 = 1 := h.1
  have h := h.2
  refine g_callv hw (g_V X hw (mX1_anew l G _ _ _ h) 0 (lw_V q535 q537 qs2 q122 q538) rfl rfl ydX1_anew ⟨Nat.le_of_ble_eq_true rfl, Nat.le_of_ble_eq_true rfl⟩ (g_recv X hw (ci := 0) (q := (RX1, TX1, 16)) hk_1 rfl) (As := []) (rest := []) rfl hl.1 rfl (Nat.le_of_ble_eq_true rfl) dX1_pairs_1 ⟨Nat.le_refl _, Nat.le_refl _⟩) (fun u_2 H locs h hw => ?_)
  refine lv_aload_n hx hb dX1_pairs_4 rfl (lv_at hl 0 rfl) ?_
  have hk_3 : kd u_2 a0 = 1 := h.1
  have h := h.2
  refine g_getO X hw in_X1 hk_3 rfl 3 rfl (by decide) q476 (fun _ z => z) dX1_pairs_5 ?_
  refine g_ifnonnull X (tgt := 17) dX1_pairs_8 rfl (fun b_4 e_5 => ?_) (fun e_5 => ?_)
  · have h := h.2 b_4 e_5
    refine lv_aload_n hx hb dX1_pairs_17 rfl (lv_at hl 0 rfl) ?_
    obtain ⟨b_8, e_9, h⟩ := h
    refine g_getR X hw in_X1 hk_3 rfl 9 rfl (by decide) q482 (fun _ z => z) e_9 dX1_pairs_18 ?_
    have hk_10 : kd u_2 b_8 = 4 := h.1
    have h := h.2
    refine g_callv hw (g_V X hw (mX4_pair l G _ _ _ h) 0 (lw_V q1276 q1092 q1093 q128 q1094) rfl rfl ydX4_pair ⟨Nat.le_of_ble_eq_true rfl, Nat.le_of_ble_eq_true rfl⟩ (g_recv X hw (ci := 3) (q := (RX4, TX4, 14)) hk_10 rfl) (As := []) (rest := []) rfl hl.1 rfl (Nat.le_of_ble_eq_true rfl) dX1_pairs_21 ⟨Nat.le_refl _, Nat.le_refl _⟩) (fun u_11 H locs h hw => ?_)
    refine lv_aload_n hx hb dX1_pairs_24 rfl (lv_at hl 0 rfl) ?_
    have hk_12 : kd u_11 a0 = 1 := h.1
    have h := h.2
    obtain ⟨b_13, e_14, h⟩ := h
    refine g_getR X hw in_X1 hk_12 rfl 9 rfl (by decide) q482 (fun _ z => z) e_14 dX1_pairs_25 ?_
    have hk_15 : kd u_11 b_13 = 4 := h.1
    have h := h.2
    refine g_getI X hw in_X4 hk_15 rfl 12 rfl (by decide) q301 (fun _ z => z) dX1_pairs_28 ?_
    exact g_iret X hw hr h (Nat.le_refl _) (Nat.le_refl _) dX1_pairs_31
  · have h := h.1 e_5
    refine lv_aload_n hx hb dX1_pairs_11 rfl (lv_at hl 0 rfl) ?_
    refine lv_iconst (v := 1) hx hb dX1_pairs_12 (by decide) ?_
    refine g_calli hw (g_V X hw (mX1_no l G _ _ _ _ h) 1 (lw_V q542 q544 qs3 q122 q545) rfl rfl ydX1_no ⟨Nat.le_of_ble_eq_true rfl, Nat.le_of_ble_eq_true rfl⟩ (g_recv X hw (ci := 0) (q := (RX1, TX1, 16)) hk_3 rfl) (As := [.int 1]) (rest := []) rfl hl.1 rfl (Nat.le_of_ble_eq_true rfl) dX1_pairs_13 ⟨Nat.le_refl _, Nat.le_refl _⟩) (fun r_6 u_7 H locs h hw => ?_)
    exact g_iret X hw hr h (Nat.le_refl _) (Nat.le_refl _) dX1_pairs_16

/-! FifthCardModel.pairs()I -/
theorem ydX19_pairs : yX19_pairs.cls = "FifthCardModel" ∧ yX19_pairs.cls ≠ "java/lang/invoke/MethodHandle" ∧ yX19_pairs.cls ≠ "java/lang/invoke/VarHandle" ∧ (parseMethodDescriptor yX19_pairs.desc).map (fun d => d.parameters.length) = some 0 := by decide +kernel
def rmX19_pairs (mc ms : Nat) : Room := { frames := 5, cells := mc, slots := ms, locals := 121 }
set_option maxHeartbeats 4000000 in
theorem mX19_pairs (l : Launch) (G : GT) (u : Hp) (a0 : Nat) (K : Int32 → Hp → Prop) (h : pX19_pairs u a0 K) : Met l yX19_pairs (ws_ yX19_pairs cX19_pairs 1 (some .int)) (rmX19_pairs 0 0) (va_Pc [.ref a0] (GB G u)) (va_Qi K (fun u t => GH G u t.heap) (GA G)) 0 0 (GA G) := by
  refine Met.ofW (cc := cX19_pairs) (maxL := 1) (ret := (some .int)) (by decide) rfl ?_
  intro p e s m args below meth c s₁ B hml hv
  obtain ⟨rfl, hv⟩ := hv
  have X := Mc_of (own := RX19) B hml rfl hv
  have hw : GW G u s s.heap [] := ⟨hv.2.1, va_S.rf⟩
  have hr := B.returns
  obtain ⟨hx, hb, hml, hown, hts, -⟩ := id X
  have hl := lv_entry ([.ref a0]) (n := 1) (Nat.le_of_ble_eq_true rfl)
  rw [lg_entry_eq]
  generalize (lg_sl ([.ref a0]) ++ List.replicate (1 - (lg_sl ([.ref a0])).length) Slot.unset).toArray = ls at hl ⊢
  have hl : lv_has ls 1 [(0, .ref a0)] := hl
  change W p l e (rmX19_pairs 0 0) s m _ below meth c s.heap [] 0 0 (QI G below K _ s 0 0) (F0 m 0 ls [])
  unfold pX19_pairs at h
  refine lv_aload_n hx hb dX19_pairs_0 rfl (lv_at hl 0 rfl) ?_
  refine lv_iconst (v := 0) hx hb dX19_pairs_1 (by decide) ?_
  have hk_1 : kd u a0 = 16 := h.1
  have h := h.2
  refine g_putI (v := 0) X hw in_X19 tyX19_ok nmX19 hk_1 rfl 0 rfl (by decide) q1451 (fun _ z => z) rfl rfl rfl dX19_pairs_2 (fun H locs hw => ?_)
  refine lv_aload_n hx hb dX19_pairs_5 rfl (lv_at hl 0 rfl) ?_
  refine g_getO X hw in_X19 hk_1 rfl 3 rfl (by decide) q1454 (fun _ z => z) dX19_pairs_6 ?_
  refine g_ifnonnull X (tgt := 20) dX19_pairs_9 rfl (fun b_2 e_3 => ?_) (fun e_3 => ?_)
  · have h := h.2 b_2 e_3
    refine lv_aload_n hx hb dX19_pairs_20 rfl (lv_at hl 0 rfl) ?_
    refine lv_aload_n hx hb dX19_pairs_21 rfl (lv_at hl 0 rfl) ?_
    refine g_calli hw (g_V X hw (mX19_pairsNow l G _ _ _ h) 0 (lw_V q1976 q1978 qs93 q143 q1979) rfl rfl ydX19_pairsNow ⟨Nat.le_of_ble_eq_true rfl, Nat.le_of_ble_eq_true rfl⟩ (g_recv X hw (ci := 15) (q := (RX19, TX19, 46)) hk_1 rfl) (As := []) (rest := [.ref a0]) rfl hl.1 rfl (Nat.le_of_ble_eq_true rfl) dX19_pairs_22 ⟨Nat.le_refl _, Nat.le_refl _⟩) (fun r_6 u_7 H locs h hw => ?_)
    have hk_8 : kd u_7 a0 = 16 := h.1
    have h := h.2
    refine g_calli hw (g_V X hw (mX19_good l G _ _ _ _ h) 1 (lw_V q1867 q1869 qs77 q143 q1870) rfl rfl ydX19_good ⟨Nat.le_of_ble_eq_true rfl, Nat.le_of_ble_eq_true rfl⟩ (g_recv X hw (ci := 15) (q := (RX19, TX19, 46)) hk_8 rfl) (As := [.int r_6]) (rest := []) rfl hl.1 rfl (Nat.le_of_ble_eq_true rfl) dX19_pairs_25 ⟨Nat.le_refl _, Nat.le_refl _⟩) (fun r_9 u_10 H locs h hw => ?_)
    exact g_iret X hw hr h (Nat.le_refl _) (Nat.le_refl _) dX19_pairs_28
  · have h := h.1 e_3
    refine lv_aload_n hx hb dX19_pairs_12 rfl (lv_at hl 0 rfl) ?_
    refine lv_iconst (v := 1) hx hb dX19_pairs_13 (by decide) ?_
    refine g_calli hw (g_V X hw (mX19_refused l G _ _ _ _ h) 1 (lw_V q1603 q1605 qs47 q143 q1606) rfl rfl ydX19_refused ⟨Nat.le_of_ble_eq_true rfl, Nat.le_of_ble_eq_true rfl⟩ (g_recv X hw (ci := 15) (q := (RX19, TX19, 46)) hk_1 rfl) (As := [.int 1]) (rest := []) rfl hl.1 rfl (Nat.le_of_ble_eq_true rfl) dX19_pairs_14 ⟨Nat.le_refl _, Nat.le_refl _⟩) (fun r_4 u_5 H locs h hw => ?_)
    refine lv_goto (tgt := 28) hx hb dX19_pairs_17 rfl ?_
    exact g_iret X hw hr h (Nat.le_refl _) (Nat.le_refl _) dX19_pairs_28

/-! FifthCard.table(I)I -/
theorem ydX1_table : yX1_table.cls = "FifthCard" ∧ yX1_table.cls ≠ "java/lang/invoke/MethodHandle" ∧ yX1_table.cls ≠ "java/lang/invoke/VarHandle" ∧ (parseMethodDescriptor yX1_table.desc).map (fun d => d.parameters.length) = some 1 := by decide +kernel
def rmX1_table (mc ms : Nat) : Room := { frames := 4, cells := mc, slots := ms, locals := 100 }
set_option maxHeartbeats 4000000 in
theorem mX1_table (l : Launch) (G : GT) (u : Hp) (a0 : Nat) (x1 : Int32) (K : Int32 → Hp → Prop) (h : pX1_table u a0 x1 K) : Met l yX1_table (ws_ yX1_table cX1_table 2 (some .int)) (rmX1_table 0 0) (va_Pc [.ref a0, .int x1] (GB G u)) (va_Qi K (fun u t => GH G u t.heap) (GA G)) 0 0 (GA G) := by
  refine Met.ofW (cc := cX1_table) (maxL := 2) (ret := (some .int)) (by decide) rfl ?_
  intro p e s m args below meth c s₁ B hml hv
  obtain ⟨rfl, hv⟩ := hv
  have X := Mc_of (own := RX1) B hml rfl hv
  have hw : GW G u s s.heap [] := ⟨hv.2.1, va_S.rf⟩
  have hr := B.returns
  obtain ⟨hx, hb, hml, hown, hts, -⟩ := id X
  have hl := lv_entry ([.ref a0, .int x1]) (n := 2) (Nat.le_of_ble_eq_true rfl)
  rw [lg_entry_eq]
  generalize (lg_sl ([.ref a0, .int x1]) ++ List.replicate (2 - (lg_sl ([.ref a0, .int x1])).length) Slot.unset).toArray = ls at hl ⊢
  have hl : lv_has ls 2 [(0, .ref a0), (1, .int x1)] := hl
  change W p l e (rmX1_table 0 0) s m _ below meth c s.heap [] 0 0 (QI G below K _ s 0 0) (F0 m 0 ls [])
  unfold pX1_table at h
  refine lv_aload_n hx hb dX1_table_0 rfl (lv_at hl 0 rfl) ?_
  have hk_1 : kd u a0 = 1 := h.1
  have h := h.2
  refine g_callv hw (g_V X hw (mX1_anew l G _ _ _ h) 0 (lw_V q535 q537 qs2 q122 q538) rfl rfl ydX1_anew ⟨Nat.le_of_ble_eq_true rfl, Nat.le_of_ble_eq_true rfl⟩ (g_recv X hw (ci := 0) (q := (RX1, TX1, 16)) hk_1 rfl) (As := []) (rest := []) rfl hl.1 rfl (Nat.le_of_ble_eq_true rfl) dX1_table_1 ⟨Nat.le_refl _, Nat.le_refl _⟩) (fun u_2 H locs h hw => ?_)
  refine lv_aload_n hx hb dX1_table_4 rfl (lv_at hl 0 rfl) ?_
  refine lv_iload_n hx hb dX1_table_5 rfl (lv_at hl 1 rfl) ?_
  have hk_3 : kd u_2 a0 = 1 := h.1
  have h := h.2
  refine g_callio hw (g_V X hw (mX1_isHand l G _ _ _ _ h) 1 (lw_V q1019 q1021 qs25 q122 q1022) rfl rfl ydX1_isHand ⟨Nat.le_of_ble_eq_true rfl, Nat.le_of_ble_eq_true rfl⟩ (g_recv X hw (ci := 0) (q := (RX1, TX1, 16)) hk_3 rfl) (As := [.int x1]) (rest := []) rfl hl.1 rfl (Nat.le_of_ble_eq_true rfl) dX1_table_6 ⟨Nat.le_refl _, Nat.le_refl _⟩) (fun r_4 H locs h hw => ?_)
  refine lv_if_ne (tgt := 18) hx hb dX1_table_9 rfl (fun c_21 => ?_) (fun c_21 => ?_)
  · have h := h.2 c_21
    refine lv_aload_n hx hb dX1_table_18 rfl (lv_at hl 0 rfl) ?_
    refine g_getI X hw in_X1 hk_3 rfl 8 rfl (by decide) q481 (fun _ z => z) dX1_table_19 ?_
    refine lv_sipush (v := 300) hx hb dX1_table_22 (by decide) ?_
    refine lv_icmp_le (tgt := 34) hx hb dX1_table_25 rfl (fun c_18 => ?_) (fun c_18 => ?_)
    · have h := h.1 c_18
      refine lv_aload_n hx hb dX1_table_34 rfl (lv_at hl 0 rfl) ?_
      obtain ⟨b_5, e_6, h⟩ := h
      refine g_getR X hw in_X1 hk_3 rfl 9 rfl (by decide) q482 (fun _ z => z) e_6 dX1_table_35 ?_
      have hk_7 : kd u_2 b_5 = 4 := h.1
      have h := h.2
      refine g_calli hw (g_V X hw (mX4_least l G _ _ _ h) 0 (lw_V q1087 q1088 q1089 q128 q1090) rfl rfl ydX4_least ⟨Nat.le_of_ble_eq_true rfl, Nat.le_of_ble_eq_true rfl⟩ (g_recv X hw (ci := 3) (q := (RX4, TX4, 14)) hk_7 rfl) (As := []) (rest := []) rfl hl.1 rfl (Nat.le_of_ble_eq_true rfl) dX1_table_38 ⟨Nat.le_refl _, Nat.le_refl _⟩) (fun r_8 u_9 H locs h hw => ?_)
      refine lv_if_eq (tgt := 55) hx hb dX1_table_41 rfl (fun c_15 => ?_) (fun c_15 => ?_)
      · have h := h.1 c_15
        refine lv_bipush (v := (-2)) hx hb dX1_table_55 (by decide) ?_
        exact g_iret X hw hr h (Nat.le_refl _) (Nat.le_refl _) dX1_table_57
      · have h := h.2 c_15
        refine lv_aload_n hx hb dX1_table_44 rfl (lv_at hl 0 rfl) ?_
        have hk_10 : kd u_9 a0 = 1 := h.1
        have h := h.2
        obtain ⟨b_11, e_12, h⟩ := h
        refine g_getR X hw in_X1 hk_10 rfl 9 rfl (by decide) q482 (fun _ z => z) e_12 dX1_table_45 ?_
        refine lv_iload_n hx hb dX1_table_48 rfl (lv_at hl 1 rfl) ?_
        have hk_13 : kd u_9 b_11 = 4 := h.1
        have h := h.2
        refine g_callio hw (g_V X hw (mX4_rowOf l G _ _ _ _ h) 1 (lw_V q1112 q1113 q1114 q128 q1115) rfl rfl ydX4_rowOf ⟨Nat.le_of_ble_eq_true rfl, Nat.le_of_ble_eq_true rfl⟩ (g_recv X hw (ci := 3) (q := (RX4, TX4, 14)) hk_13 rfl) (As := [.int x1]) (rest := []) rfl hl.1 rfl (Nat.le_of_ble_eq_true rfl) dX1_table_49 ⟨Nat.le_refl _, Nat.le_refl _⟩) (fun r_14 H locs h hw => ?_)
        refine lv_goto (tgt := 57) hx hb dX1_table_52 rfl ?_
        exact g_iret X hw hr h (Nat.le_refl _) (Nat.le_refl _) dX1_table_57
    · have h := h.2 c_18
      refine lv_aload_n hx hb dX1_table_28 rfl (lv_at hl 0 rfl) ?_
      refine lv_iconst (v := 3) hx hb dX1_table_29 (by decide) ?_
      refine g_calli hw (g_V X hw (mX1_no l G _ _ _ _ h) 1 (lw_V q542 q544 qs3 q122 q545) rfl rfl ydX1_no ⟨Nat.le_of_ble_eq_true rfl, Nat.le_of_ble_eq_true rfl⟩ (g_recv X hw (ci := 0) (q := (RX1, TX1, 16)) hk_3 rfl) (As := [.int 3]) (rest := []) rfl hl.1 rfl (Nat.le_of_ble_eq_true rfl) dX1_table_30 ⟨Nat.le_refl _, Nat.le_refl _⟩) (fun r_16 u_17 H locs h hw => ?_)
      exact g_iret X hw hr h (Nat.le_refl _) (Nat.le_refl _) dX1_table_33
  · have h := h.1 c_21
    refine lv_aload_n hx hb dX1_table_12 rfl (lv_at hl 0 rfl) ?_
    refine lv_iconst (v := 1) hx hb dX1_table_13 (by decide) ?_
    refine g_calli hw (g_V X hw (mX1_no l G _ _ _ _ h) 1 (lw_V q542 q544 qs3 q122 q545) rfl rfl ydX1_no ⟨Nat.le_of_ble_eq_true rfl, Nat.le_of_ble_eq_true rfl⟩ (g_recv X hw (ci := 0) (q := (RX1, TX1, 16)) hk_3 rfl) (As := [.int 1]) (rest := []) rfl hl.1 rfl (Nat.le_of_ble_eq_true rfl) dX1_table_14 ⟨Nat.le_refl _, Nat.le_refl _⟩) (fun r_19 u_20 H locs h hw => ?_)
    exact g_iret X hw hr h (Nat.le_refl _) (Nat.le_refl _) dX1_table_17

/-! FifthCardModel.table(I)I -/
theorem ydX19_table : yX19_table.cls = "FifthCardModel" ∧ yX19_table.cls ≠ "java/lang/invoke/MethodHandle" ∧ yX19_table.cls ≠ "java/lang/invoke/VarHandle" ∧ (parseMethodDescriptor yX19_table.desc).map (fun d => d.parameters.length) = some 1 := by decide +kernel
def rmX19_table (mc ms : Nat) : Room := { frames := 6, cells := mc, slots := ms, locals := 146 }
set_option maxHeartbeats 4000000 in
theorem mX19_table (l : Launch) (G : GT) (u : Hp) (a0 : Nat) (x1 : Int32) (K : Int32 → Hp → Prop) (h : pX19_table u a0 x1 K) : Met l yX19_table (ws_ yX19_table cX19_table 2 (some .int)) (rmX19_table 0 0) (va_Pc [.ref a0, .int x1] (GB G u)) (va_Qi K (fun u t => GH G u t.heap) (GA G)) 0 0 (GA G) := by
  refine Met.ofW (cc := cX19_table) (maxL := 2) (ret := (some .int)) (by decide) rfl ?_
  intro p e s m args below meth c s₁ B hml hv
  obtain ⟨rfl, hv⟩ := hv
  have X := Mc_of (own := RX19) B hml rfl hv
  have hw : GW G u s s.heap [] := ⟨hv.2.1, va_S.rf⟩
  have hr := B.returns
  obtain ⟨hx, hb, hml, hown, hts, -⟩ := id X
  have hl := lv_entry ([.ref a0, .int x1]) (n := 2) (Nat.le_of_ble_eq_true rfl)
  rw [lg_entry_eq]
  generalize (lg_sl ([.ref a0, .int x1]) ++ List.replicate (2 - (lg_sl ([.ref a0, .int x1])).length) Slot.unset).toArray = ls at hl ⊢
  have hl : lv_has ls 2 [(0, .ref a0), (1, .int x1)] := hl
  change W p l e (rmX19_table 0 0) s m _ below meth c s.heap [] 0 0 (QI G below K _ s 0 0) (F0 m 0 ls [])
  unfold pX19_table at h
  refine lv_aload_n hx hb dX19_table_0 rfl (lv_at hl 0 rfl) ?_
  refine lv_iconst (v := 0) hx hb dX19_table_1 (by decide) ?_
  have hk_1 : kd u a0 = 16 := h.1
  have h := h.2
  refine g_putI (v := 0) X hw in_X19 tyX19_ok nmX19 hk_1 rfl 0 rfl (by decide) q1451 (fun _ z => z) rfl rfl rfl dX19_table_2 (fun H locs hw => ?_)
  refine lv_aload_n hx hb dX19_table_5 rfl (lv_at hl 0 rfl) ?_
  refine lv_iload_n hx hb dX19_table_6 rfl (lv_at hl 1 rfl) ?_
  refine g_callio hw (g_V X hw (mX19_isHand l G _ _ _ _ h) 1 (lw_V q1895 q1897 qs79 q143 q1898) rfl rfl ydX19_isHand ⟨Nat.le_of_ble_eq_true rfl, Nat.le_of_ble_eq_true rfl⟩ (g_recv X hw (ci := 15) (q := (RX19, TX19, 46)) hk_1 rfl) (As := [.int x1]) (rest := []) rfl hl.1 rfl (Nat.le_of_ble_eq_true rfl) dX19_table_7 ⟨Nat.le_refl _, Nat.le_refl _⟩) (fun r_2 H locs h hw => ?_)
  refine lv_if_ne (tgt := 19) hx hb dX19_table_10 rfl (fun c_18 => ?_) (fun c_18 => ?_)
  · have h := h.2 c_18
    refine lv_aload_n hx hb dX19_table_19 rfl (lv_at hl 0 rfl) ?_
    refine g_getI X hw in_X19 hk_1 rfl 17 rfl (by decide) q1468 (fun _ z => z) dX19_table_20 ?_
    refine lv_sipush (v := 300) hx hb dX19_table_23 (by decide) ?_
    refine lv_icmp_le (tgt := 35) hx hb dX19_table_26 rfl (fun c_15 => ?_) (fun c_15 => ?_)
    · have h := h.1 c_15
      refine lv_aload_n hx hb dX19_table_35 rfl (lv_at hl 0 rfl) ?_
      refine g_callv hw (g_V X hw (mX19_knowsTable l G _ _ _ h) 0 (lw_V q1972 q1974 qs92 q143 q1975) rfl rfl ydX19_knowsTable ⟨Nat.le_of_ble_eq_true rfl, Nat.le_of_ble_eq_true rfl⟩ (g_recv X hw (ci := 15) (q := (RX19, TX19, 46)) hk_1 rfl) (As := []) (rest := []) rfl hl.1 rfl (Nat.le_of_ble_eq_true rfl) dX19_table_36 ⟨Nat.le_refl _, Nat.le_refl _⟩) (fun u_3 H locs h hw => ?_)
      refine lv_aload_n hx hb dX19_table_39 rfl (lv_at hl 0 rfl) ?_
      refine lv_aload_n hx hb dX19_table_40 rfl (lv_at hl 0 rfl) ?_
      have hk_4 : kd u_3 a0 = 16 := h.1
      have h := h.2
      refine g_getI X hw in_X19 hk_4 rfl 36 rfl (by decide) q1487 (fun _ z => z) dX19_table_41 ?_
      refine lv_if_eq (tgt := 56) hx hb dX19_table_44 rfl (fun c_12 => ?_) (fun c_12 => ?_)
      · have h := h.1 c_12
        refine lv_bipush (v := (-2)) hx hb dX19_table_56 (by decide) ?_
        refine g_calli hw (g_V X hw (mX19_good l G _ _ _ _ h) 1 (lw_V q1867 q1869 qs77 q143 q1870) rfl rfl ydX19_good ⟨Nat.le_of_ble_eq_true rfl, Nat.le_of_ble_eq_true rfl⟩ (g_recv X hw (ci := 15) (q := (RX19, TX19, 46)) hk_4 rfl) (As := [.int (-2)]) (rest := []) rfl hl.1 rfl (Nat.le_of_ble_eq_true rfl) dX19_table_58 ⟨Nat.le_refl _, Nat.le_refl _⟩) (fun r_5 u_6 H locs h hw => ?_)
        exact g_iret X hw hr h (Nat.le_refl _) (Nat.le_refl _) dX19_table_61
      · have h := h.2 c_12
        refine lv_aload_n hx hb dX19_table_47 rfl (lv_at hl 0 rfl) ?_
        obtain ⟨b_7, e_8, h⟩ := h
        refine g_getR X hw in_X19 hk_4 rfl 33 rfl (by decide) q1484 (fun _ z => z) e_8 dX19_table_48 ?_
        refine lv_iload_n hx hb dX19_table_51 rfl (lv_at hl 1 rfl) ?_
        have hk_9 : kd u_3 b_7 = 101 := h.1
        have h := h.2
        refine g_iald X hw hk_9 h.1 dX19_table_52 ?_
        have h := h.2
        refine lv_goto (tgt := 58) hx hb dX19_table_53 rfl ?_
        refine g_calli hw (g_V X hw (mX19_good l G _ _ _ _ h) 1 (lw_V q1867 q1869 qs77 q143 q1870) rfl rfl ydX19_good ⟨Nat.le_of_ble_eq_true rfl, Nat.le_of_ble_eq_true rfl⟩ (g_recv X hw (ci := 15) (q := (RX19, TX19, 46)) hk_4 rfl) (As := [.int (AI u_3 b_7 (tn x1))]) (rest := []) rfl hl.1 rfl (Nat.le_of_ble_eq_true rfl) dX19_table_58 ⟨Nat.le_refl _, Nat.le_refl _⟩) (fun r_10 u_11 H locs h hw => ?_)
        exact g_iret X hw hr h (Nat.le_refl _) (Nat.le_refl _) dX19_table_61
    · have h := h.2 c_15
      refine lv_aload_n hx hb dX19_table_29 rfl (lv_at hl 0 rfl) ?_
      refine lv_iconst (v := 3) hx hb dX19_table_30 (by decide) ?_
      refine g_calli hw (g_V X hw (mX19_refused l G _ _ _ _ h) 1 (lw_V q1603 q1605 qs47 q143 q1606) rfl rfl ydX19_refused ⟨Nat.le_of_ble_eq_true rfl, Nat.le_of_ble_eq_true rfl⟩ (g_recv X hw (ci := 15) (q := (RX19, TX19, 46)) hk_1 rfl) (As := [.int 3]) (rest := []) rfl hl.1 rfl (Nat.le_of_ble_eq_true rfl) dX19_table_31 ⟨Nat.le_refl _, Nat.le_refl _⟩) (fun r_13 u_14 H locs h hw => ?_)
      exact g_iret X hw hr h (Nat.le_refl _) (Nat.le_refl _) dX19_table_34
  · have h := h.1 c_18
    refine lv_aload_n hx hb dX19_table_13 rfl (lv_at hl 0 rfl) ?_
    refine lv_iconst (v := 1) hx hb dX19_table_14 (by decide) ?_
    refine g_calli hw (g_V X hw (mX19_refused l G _ _ _ _ h) 1 (lw_V q1603 q1605 qs47 q143 q1606) rfl rfl ydX19_refused ⟨Nat.le_of_ble_eq_true rfl, Nat.le_of_ble_eq_true rfl⟩ (g_recv X hw (ci := 15) (q := (RX19, TX19, 46)) hk_1 rfl) (As := [.int 1]) (rest := []) rfl hl.1 rfl (Nat.le_of_ble_eq_true rfl) dX19_table_15 ⟨Nat.le_refl _, Nat.le_refl _⟩) (fun r_16 u_17 H locs h hw => ?_)
    exact g_iret X hw hr h (Nat.le_refl _) (Nat.le_refl _) dX19_table_18

/-! FifthCard$Trick.rowsOf(I)J -/
theorem ydX20_rowsOf : yX20_rowsOf.cls = "FifthCard$Trick" ∧ yX20_rowsOf.cls ≠ "java/lang/invoke/MethodHandle" ∧ yX20_rowsOf.cls ≠ "java/lang/invoke/VarHandle" ∧ (parseMethodDescriptor yX20_rowsOf.desc).map (fun d => d.parameters.length) = some 1 := by decide +kernel
def rmX20_rowsOf (mc ms : Nat) : Room := { frames := 2, cells := mc, slots := ms, locals := 44 }
set_option maxHeartbeats 4000000 in
theorem mX20_rowsOf (l : Launch) (G : GT) (u : Hp) (a0 : Nat) (x1 : Int32) (K : Int64 → Prop) (h : pX20_rowsOf u a0 x1 K) : Met l yX20_rowsOf (ws_ yX20_rowsOf cX20_rowsOf 2 (some .long)) (rmX20_rowsOf 0 0) (va_Pc [.ref a0, .int x1] (GB G u)) (va_Ql (fun r v => v = u ∧ K r) (fun u t => GH G u t.heap) (GA G)) 0 0 (GA G) := by
  refine Met.ofW (cc := cX20_rowsOf) (maxL := 2) (ret := (some .long)) (by decide) rfl ?_
  intro p e s m args below meth c s₁ B hml hv
  obtain ⟨rfl, hv⟩ := hv
  have X := Mc_of (own := RX20) B hml rfl hv
  have hw : GW G u s s.heap [] := ⟨hv.2.1, va_S.rf⟩
  have hr := B.returns
  obtain ⟨hx, hb, hml, hown, hts, -⟩ := id X
  have hl := lv_entry ([.ref a0, .int x1]) (n := 2) (Nat.le_of_ble_eq_true rfl)
  rw [lg_entry_eq]
  generalize (lg_sl ([.ref a0, .int x1]) ++ List.replicate (2 - (lg_sl ([.ref a0, .int x1])).length) Slot.unset).toArray = ls at hl ⊢
  have hl : lv_has ls 2 [(0, .ref a0), (1, .int x1)] := hl
  change W p l e (rmX20_rowsOf 0 0) s m _ below meth c s.heap [] 0 0 (QJ G below (fun r v => v = u ∧ K r) _ s 0 0) (F0 m 0 ls [])
  unfold pX20_rowsOf at h
  refine lv_iload_n hx hb dX20_rowsOf_0 rfl (lv_at hl 1 rfl) ?_
  refine lv_aload_n hx hb dX20_rowsOf_1 rfl (lv_at hl 0 rfl) ?_
  have hk_1 : kd u a0 = 17 := h.1
  have h := h.2
  refine g_callio hw (g_V X hw (mX20_rows l G _ _ _ h) 0 (lw_V q957 q950 q951 q144 q952) rfl rfl ydX20_rows ⟨Nat.le_of_ble_eq_true rfl, Nat.le_of_ble_eq_true rfl⟩ (g_recv X hw (ci := 16) (q := (RX20, TX20, 13)) hk_1 rfl) (As := []) (rest := [.int x1]) rfl hl.1 rfl (Nat.le_of_ble_eq_true rfl) dX20_rowsOf_2 ⟨Nat.le_refl _, Nat.le_refl _⟩) (fun r_2 H locs h hw => ?_)
  refine g_calllo hw (g_SN X hw (mX1_falling l G _ _ _ _ h) 2 q849 q122 (List.mem_of_getElem? (i := 38) rfl) q848 rfl rfl ydX1_falling ⟨Nat.le_of_ble_eq_true rfl, Nat.le_of_ble_eq_true rfl⟩ (As := [.int x1, .int r_2]) (rest := []) rfl hl.1 rfl (Nat.le_of_ble_eq_true rfl) dX20_rowsOf_5 ⟨Nat.le_refl _, Nat.le_refl _⟩) (fun r_3 H locs h hw => ?_)
  refine lv_aload_n hx hb dX20_rowsOf_8 rfl (lv_at hl 0 rfl) ?_
  refine g_getI X hw in_X20 hk_1 rfl 10 rfl (by decide) q606 (fun _ z => z) dX20_rowsOf_9 ?_
  refine lv_if_eq (tgt := 25) hx hb dX20_rowsOf_12 rfl (fun c_8 => ?_) (fun c_8 => ?_)
  · have h := h.1 c_8
    refine lv_iconst (v := 1) hx hb dX20_rowsOf_25 (by decide) ?_
    refine lv_i2l hx hb dX20_rowsOf_26 rfl ?_
    refine lv_ldiv hx hb dX20_rowsOf_27 h.1 ?_
    have h := h.2
    refine lv_aload_n hx hb dX20_rowsOf_28 rfl (lv_at hl 0 rfl) ?_
    refine g_callio hw (g_V X hw (mX20_tiltings l G _ _ _ h) 0 (lw_V q1289 q954 q955 q144 q956) rfl rfl ydX20_tiltings ⟨Nat.le_of_ble_eq_true rfl, Nat.le_of_ble_eq_true rfl⟩ (g_recv X hw (ci := 16) (q := (RX20, TX20, 13)) hk_1 rfl) (As := []) (rest := [.long (r_3 / ((1 : Int32).toInt64))]) rfl hl.1 rfl (Nat.le_of_ble_eq_true rfl) dX20_rowsOf_29 ⟨Nat.le_refl _, Nat.le_refl _⟩) (fun r_4 H locs h hw => ?_)
    refine lv_i2l hx hb dX20_rowsOf_32 rfl ?_
    refine lv_lmul hx hb dX20_rowsOf_33 ?_
    exact g_lret X hw hr ⟨rfl, h⟩ (Nat.le_refl _) (Nat.le_refl _) dX20_rowsOf_34
  · have h := h.2 c_8
    refine lv_aload_n hx hb dX20_rowsOf_15 rfl (lv_at hl 0 rfl) ?_
    refine g_callio hw (g_V X hw (mX20_rows l G _ _ _ h) 0 (lw_V q957 q950 q951 q144 q952) rfl rfl ydX20_rows ⟨Nat.le_of_ble_eq_true rfl, Nat.le_of_ble_eq_true rfl⟩ (g_recv X hw (ci := 16) (q := (RX20, TX20, 13)) hk_1 rfl) (As := []) (rest := [.long r_3]) rfl hl.1 rfl (Nat.le_of_ble_eq_true rfl) dX20_rowsOf_16 ⟨Nat.le_refl _, Nat.le_refl _⟩) (fun r_5 H locs h hw => ?_)
    refine g_callio hw (g_SN X hw (mX1_factorial l G _ _ _ h) 1 q852 q122 (List.mem_of_getElem? (i := 39) rfl) q851 rfl rfl ydX1_factorial ⟨Nat.le_of_ble_eq_true rfl, Nat.le_of_ble_eq_true rfl⟩ (As := [.int r_5]) (rest := [.long r_3]) rfl hl.1 rfl (Nat.le_of_ble_eq_true rfl) dX20_rowsOf_19 ⟨Nat.le_refl _, Nat.le_refl _⟩) (fun r_6 H locs h hw => ?_)
    refine lv_goto (tgt := 26) hx hb dX20_rowsOf_22 rfl ?_
    refine lv_i2l hx hb dX20_rowsOf_26 rfl ?_
    refine lv_ldiv hx hb dX20_rowsOf_27 h.1 ?_
    have h := h.2
    refine lv_aload_n hx hb dX20_rowsOf_28 rfl (lv_at hl 0 rfl) ?_
    refine g_callio hw (g_V X hw (mX20_tiltings l G _ _ _ h) 0 (lw_V q1289 q954 q955 q144 q956) rfl rfl ydX20_tiltings ⟨Nat.le_of_ble_eq_true rfl, Nat.le_of_ble_eq_true rfl⟩ (g_recv X hw (ci := 16) (q := (RX20, TX20, 13)) hk_1 rfl) (As := []) (rest := [.long (r_3 / (r_6.toInt64))]) rfl hl.1 rfl (Nat.le_of_ble_eq_true rfl) dX20_rowsOf_29 ⟨Nat.le_refl _, Nat.le_refl _⟩) (fun r_7 H locs h hw => ?_)
    refine lv_i2l hx hb dX20_rowsOf_32 rfl ?_
    refine lv_lmul hx hb dX20_rowsOf_33 ?_
    exact g_lret X hw hr ⟨rfl, h⟩ (Nat.le_refl _) (Nat.le_refl _) dX20_rowsOf_34

/-! FifthCard.count(IZ)J -/
theorem ydX1_count : yX1_count.cls = "FifthCard" ∧ yX1_count.cls ≠ "java/lang/invoke/MethodHandle" ∧ yX1_count.cls ≠ "java/lang/invoke/VarHandle" ∧ (parseMethodDescriptor yX1_count.desc).map (fun d => d.parameters.length) = some 2 := by decide +kernel
def rmX1_count (mc ms : Nat) : Room := { frames := 3, cells := mc, slots := ms, locals := 65 }
set_option maxHeartbeats 4000000 in
theorem mX1_count (l : Launch) (G : GT) (u : Hp) (a0 : Nat) (x1 : Int32) (x2 : Int32) (K : Int64 → Hp → Prop) (h : pX1_count u a0 x1 x2 K) : Met l yX1_count (ws_ yX1_count cX1_count 3 (some .long)) (rmX1_count 0 0) (va_Pc [.ref a0, .int x1, .int x2] (GB G u)) (va_Ql K (fun u t => GH G u t.heap) (GA G)) 0 0 (GA G) := by
  refine Met.ofW (cc := cX1_count) (maxL := 3) (ret := (some .long)) (by decide) rfl ?_
  intro p e s m args below meth c s₁ B hml hv
  obtain ⟨rfl, hv⟩ := hv
  have X := Mc_of (own := RX1) B hml rfl hv
  have hw : GW G u s s.heap [] := ⟨hv.2.1, va_S.rf⟩
  have hr := B.returns
  obtain ⟨hx, hb, hml, hown, hts, -⟩ := id X
  have hl := lv_entry ([.ref a0, .int x1, .int x2]) (n := 3) (Nat.le_of_ble_eq_true rfl)
  rw [lg_entry_eq]
  generalize (lg_sl ([.ref a0, .int x1, .int x2]) ++ List.replicate (3 - (lg_sl ([.ref a0, .int x1, .int x2])).length) Slot.unset).toArray = ls at hl ⊢
  have hl : lv_has ls 3 [(0, .ref a0), (1, .int x1), (2, .int x2)] := hl
  change W p l e (rmX1_count 0 0) s m _ below meth c s.heap [] 0 0 (QJ G below K _ s 0 0) (F0 m 0 ls [])
  unfold pX1_count at h
  refine lv_aload_n hx hb dX1_count_0 rfl (lv_at hl 0 rfl) ?_
  have hk_1 : kd u a0 = 1 := h.1
  have h := h.2
  refine g_callv hw (g_V X hw (mX1_anew l G _ _ _ h) 0 (lw_V q535 q537 qs2 q122 q538) rfl rfl ydX1_anew ⟨Nat.le_of_ble_eq_true rfl, Nat.le_of_ble_eq_true rfl⟩ (g_recv X hw (ci := 0) (q := (RX1, TX1, 16)) hk_1 rfl) (As := []) (rest := []) rfl hl.1 rfl (Nat.le_of_ble_eq_true rfl) dX1_count_1 ⟨Nat.le_refl _, Nat.le_refl _⟩) (fun u_2 H locs h hw => ?_)
  refine lv_aload_n hx hb dX1_count_4 rfl (lv_at hl 0 rfl) ?_
  have hk_3 : kd u_2 a0 = 1 := h.1
  have h := h.2
  refine g_getO X hw in_X1 hk_3 rfl 3 rfl (by decide) q476 (fun _ z => z) dX1_count_5 ?_
  refine g_ifnonnull X (tgt := 18) dX1_count_8 rfl (fun b_4 e_5 => ?_) (fun e_5 => ?_)
  · have h := h.2 b_4 e_5
    refine lv_iload_n hx hb dX1_count_18 rfl (lv_at hl 1 rfl) ?_
    refine lv_aload_n hx hb dX1_count_19 rfl (lv_at hl 0 rfl) ?_
    obtain ⟨b_8, e_9, h⟩ := h
    refine g_getR X hw in_X1 hk_3 rfl 3 rfl (by decide) q476 (fun _ z => z) e_9 dX1_count_20 ?_
    have hk_10 : kd u_2 b_8 = 17 := h.1
    have h := h.2
    refine g_getI X hw in_X20 hk_10 rfl 5 rfl (by decide) q585 (fun _ z => z) dX1_count_23 ?_
    refine lv_sipush (v := 200) hx hb dX1_count_26 (by decide) ?_
    refine g_callio hw (g_S X hw (mX1_in l G _ _ _ _ _ h) 3 (lw_S q539 q540 q122 q541) rfl rfl ydX1_in ⟨Nat.le_of_ble_eq_true rfl, Nat.le_of_ble_eq_true rfl⟩ (As := [.int x1, .int (FI u_2 2005 b_8), .int 200]) (rest := []) rfl hl.1 rfl (Nat.le_of_ble_eq_true rfl) dX1_count_29 ⟨Nat.le_refl _, Nat.le_refl _⟩) (fun r_11 H locs h hw => ?_)
    refine lv_if_ne (tgt := 42) hx hb dX1_count_32 rfl (fun c_17 => ?_) (fun c_17 => ?_)
    · have h := h.2 c_17
      refine lv_iload_n hx hb dX1_count_42 rfl (lv_at hl 2 rfl) ?_
      refine lv_if_eq (tgt := 57) hx hb dX1_count_43 rfl (fun c_14 => ?_) (fun c_14 => ?_)
      · have h := h.1 c_14
        refine lv_aload_n hx hb dX1_count_57 rfl (lv_at hl 0 rfl) ?_
        refine g_getR X hw in_X1 hk_3 rfl 3 rfl (by decide) q476 (fun _ z => z) e_9 dX1_count_58 ?_
        refine lv_iload_n hx hb dX1_count_61 rfl (lv_at hl 1 rfl) ?_
        refine g_calllo hw (g_V X hw (mX20_hands l G _ _ _ _ h) 1 (lw_V q958 q844 q845 q144 q846) rfl rfl ydX20_hands ⟨Nat.le_of_ble_eq_true rfl, Nat.le_of_ble_eq_true rfl⟩ (g_recv X hw (ci := 16) (q := (RX20, TX20, 13)) hk_10 rfl) (As := [.int x1]) (rest := []) rfl hl.1 rfl (Nat.le_of_ble_eq_true rfl) dX1_count_62 ⟨Nat.le_refl _, Nat.le_refl _⟩) (fun r_12 H locs h hw => ?_)
        exact g_lret X hw hr h (Nat.le_refl _) (Nat.le_refl _) dX1_count_65
      · have h := h.2 c_14
        refine lv_aload_n hx hb dX1_count_46 rfl (lv_at hl 0 rfl) ?_
        refine g_getR X hw in_X1 hk_3 rfl 3 rfl (by decide) q476 (fun _ z => z) e_9 dX1_count_47 ?_
        refine lv_iload_n hx hb dX1_count_50 rfl (lv_at hl 1 rfl) ?_
        refine g_calllo hw (g_V X hw (mX20_rowsOf l G _ _ _ _ h) 1 (lw_V q1285 q1286 q1287 q144 q1288) rfl rfl ydX20_rowsOf ⟨Nat.le_of_ble_eq_true rfl, Nat.le_of_ble_eq_true rfl⟩ (g_recv X hw (ci := 16) (q := (RX20, TX20, 13)) hk_10 rfl) (As := [.int x1]) (rest := []) rfl hl.1 rfl (Nat.le_of_ble_eq_true rfl) dX1_count_51 ⟨Nat.le_refl _, Nat.le_refl _⟩) (fun r_13 H locs h hw => ?_)
        refine lv_goto (tgt := 65) hx hb dX1_count_54 rfl ?_
        exact g_lret X hw hr h (Nat.le_refl _) (Nat.le_refl _) dX1_count_65
    · have h := h.1 c_17
      refine lv_aload_n hx hb dX1_count_35 rfl (lv_at hl 0 rfl) ?_
      refine lv_iconst (v := 2) hx hb dX1_count_36 (by decide) ?_
      refine g_calli hw (g_V X hw (mX1_no l G _ _ _ _ h) 1 (lw_V q542 q544 qs3 q122 q545) rfl rfl ydX1_no ⟨Nat.le_of_ble_eq_true rfl, Nat.le_of_ble_eq_true rfl⟩ (g_recv X hw (ci := 0) (q := (RX1, TX1, 16)) hk_3 rfl) (As := [.int 2]) (rest := []) rfl hl.1 rfl (Nat.le_of_ble_eq_true rfl) dX1_count_37 ⟨Nat.le_refl _, Nat.le_refl _⟩) (fun r_15 u_16 H locs h hw => ?_)
      refine lv_i2l hx hb dX1_count_40 rfl ?_
      exact g_lret X hw hr h (Nat.le_refl _) (Nat.le_refl _) dX1_count_41
  · have h := h.1 e_5
    refine lv_aload_n hx hb dX1_count_11 rfl (lv_at hl 0 rfl) ?_
    refine lv_iconst (v := 1) hx hb dX1_count_12 (by decide) ?_
    refine g_calli hw (g_V X hw (mX1_no l G _ _ _ _ h) 1 (lw_V q542 q544 qs3 q122 q545) rfl rfl ydX1_no ⟨Nat.le_of_ble_eq_true rfl, Nat.le_of_ble_eq_true rfl⟩ (g_recv X hw (ci := 0) (q := (RX1, TX1, 16)) hk_3 rfl) (As := [.int 1]) (rest := []) rfl hl.1 rfl (Nat.le_of_ble_eq_true rfl) dX1_count_13 ⟨Nat.le_refl _, Nat.le_refl _⟩) (fun r_6 u_7 H locs h hw => ?_)
    refine lv_i2l hx hb dX1_count_16 rfl ?_
    exact g_lret X hw hr h (Nat.le_refl _) (Nat.le_refl _) dX1_count_17

/-! FifthCardModel.countOf(IZ)J -/
theorem ydX19_countOf : yX19_countOf.cls = "FifthCardModel" ∧ yX19_countOf.cls ≠ "java/lang/invoke/MethodHandle" ∧ yX19_countOf.cls ≠ "java/lang/invoke/VarHandle" ∧ (parseMethodDescriptor yX19_countOf.desc).map (fun d => d.parameters.length) = some 2 := by decide +kernel
def rmX19_countOf (mc ms : Nat) : Room := { frames := 3, cells := mc, slots := ms, locals := 66 }
set_option maxHeartbeats 4000000 in
theorem mX19_countOf (l : Launch) (G : GT) (u : Hp) (a0 : Nat) (x1 : Int32) (x2 : Int32) (K : Int64 → Prop) (h : pX19_countOf u a0 x1 x2 K) : Met l yX19_countOf (ws_ yX19_countOf cX19_countOf 3 (some .long)) (rmX19_countOf 0 0) (va_Pc [.ref a0, .int x1, .int x2] (GB G u)) (va_Ql (fun r v => v = u ∧ K r) (fun u t => GH G u t.heap) (GA G)) 0 0 (GA G) := by
  refine Met.ofW (cc := cX19_countOf) (maxL := 3) (ret := (some .long)) (by decide) rfl ?_
  intro p e s m args below meth c s₁ B hml hv
  obtain ⟨rfl, hv⟩ := hv
  have X := Mc_of (own := RX19) B hml rfl hv
  have hw : GW G u s s.heap [] := ⟨hv.2.1, va_S.rf⟩
  have hr := B.returns
  obtain ⟨hx, hb, hml, hown, hts, -⟩ := id X
  have hl := lv_entry ([.ref a0, .int x1, .int x2]) (n := 3) (Nat.le_of_ble_eq_true rfl)
  rw [lg_entry_eq]
  generalize (lg_sl ([.ref a0, .int x1, .int x2]) ++ List.replicate (3 - (lg_sl ([.ref a0, .int x1, .int x2])).length) Slot.unset).toArray = ls at hl ⊢
  have hl : lv_has ls 3 [(0, .ref a0), (1, .int x1), (2, .int x2)] := hl
  change W p l e (rmX19_countOf 0 0) s m _ below meth c s.heap [] 0 0 (QJ G below (fun r v => v = u ∧ K r) _ s 0 0) (F0 m 0 ls [])
  unfold pX19_countOf at h
  refine lv_iload_n hx hb dX19_countOf_0 rfl (lv_at hl 2 rfl) ?_
  refine lv_if_ne (tgt := 13) hx hb dX19_countOf_1 rfl (fun c_15 => ?_) (fun c_15 => ?_)
  · have h := h.2 c_15
    refine lv_aload_n hx hb dX19_countOf_13 rfl (lv_at hl 0 rfl) ?_
    have hk_1 : kd u a0 = 16 := h.1
    have h := h.2
    obtain ⟨b_2, e_3, h⟩ := h
    refine g_getR X hw in_X19 hk_1 rfl 3 rfl (by decide) q1454 (fun _ z => z) e_3 dX19_countOf_14 ?_
    have hk_4 : kd u b_2 = 20 := h.1
    have h := h.2
    refine g_getNI X hw (host := "FifthCardModel") in_X23 hk_4 rfl 8 rfl (by decide) (List.mem_of_getElem? (i := 3) rfl) (fun _ z => z) dX19_countOf_17 ?_
    refine lv_if_eq (tgt := 37) hx hb dX19_countOf_20 rfl (fun c_9 => ?_) (fun c_9 => ?_)
    · have h := h.1 c_9
      refine lv_iload_n hx hb dX19_countOf_37 rfl (lv_at hl 1 rfl) ?_
      refine lv_aload_n hx hb dX19_countOf_38 rfl (lv_at hl 0 rfl) ?_
      refine g_getR X hw in_X19 hk_1 rfl 3 rfl (by decide) q1454 (fun _ z => z) e_3 dX19_countOf_39 ?_
      refine g_getNI X hw (host := "FifthCardModel") in_X23 hk_4 rfl 4 rfl (by decide) (List.mem_of_getElem? (i := 7) rfl) (fun _ z => z) dX19_countOf_42 ?_
      refine g_calllo hw (g_S X hw (mX19_rowsOf l G _ _ _ _ h) 2 (lw_S q1767 q1762 q143 q1763) rfl rfl ydX19_rowsOf ⟨Nat.le_of_ble_eq_true rfl, Nat.le_of_ble_eq_true rfl⟩ (As := [.int x1, .int (FI u 2304 b_2)]) (rest := []) rfl hl.1 rfl (Nat.le_of_ble_eq_true rfl) dX19_countOf_45 ⟨Nat.le_refl _, Nat.le_refl _⟩) (fun r_5 H locs h hw => ?_)
      refine lv_aload_n hx hb dX19_countOf_48 rfl (lv_at hl 0 rfl) ?_
      refine g_getR X hw in_X19 hk_1 rfl 3 rfl (by decide) q1454 (fun _ z => z) e_3 dX19_countOf_49 ?_
      refine g_callio hw (g_V X hw (mX23_tilts l G _ _ _ h) 0 (lw_V q1863 q1864 q1865 q153 q1866) rfl rfl ydX23_tilts ⟨Nat.le_of_ble_eq_true rfl, Nat.le_of_ble_eq_true rfl⟩ (g_recv X hw (ci := 19) (q := (RX23, TX23, 15)) hk_4 rfl) (As := []) (rest := [.long r_5]) rfl hl.1 rfl (Nat.le_of_ble_eq_true rfl) dX19_countOf_52 ⟨Nat.le_refl _, Nat.le_refl _⟩) (fun r_6 H locs h hw => ?_)
      refine lv_i2l hx hb dX19_countOf_55 rfl ?_
      refine lv_lmul hx hb dX19_countOf_56 ?_
      exact g_lret X hw hr ⟨rfl, h⟩ (Nat.le_refl _) (Nat.le_refl _) dX19_countOf_57
    · have h := h.2 c_9
      refine lv_iload_n hx hb dX19_countOf_23 rfl (lv_at hl 1 rfl) ?_
      refine lv_aload_n hx hb dX19_countOf_24 rfl (lv_at hl 0 rfl) ?_
      refine g_getR X hw in_X19 hk_1 rfl 3 rfl (by decide) q1454 (fun _ z => z) e_3 dX19_countOf_25 ?_
      refine g_getNI X hw (host := "FifthCardModel") in_X23 hk_4 rfl 4 rfl (by decide) (List.mem_of_getElem? (i := 7) rfl) (fun _ z => z) dX19_countOf_28 ?_
      refine g_calllo hw (g_S X hw (mX19_setsOf l G _ _ _ _ h) 2 (lw_S q1935 q1765 q143 q1766) rfl rfl ydX19_setsOf ⟨Nat.le_of_ble_eq_true rfl, Nat.le_of_ble_eq_true rfl⟩ (As := [.int x1, .int (FI u 2304 b_2)]) (rest := []) rfl hl.1 rfl (Nat.le_of_ble_eq_true rfl) dX19_countOf_31 ⟨Nat.le_refl _, Nat.le_refl _⟩) (fun r_7 H locs h hw => ?_)
      refine lv_goto (tgt := 48) hx hb dX19_countOf_34 rfl ?_
      refine lv_aload_n hx hb dX19_countOf_48 rfl (lv_at hl 0 rfl) ?_
      refine g_getR X hw in_X19 hk_1 rfl 3 rfl (by decide) q1454 (fun _ z => z) e_3 dX19_countOf_49 ?_
      refine g_callio hw (g_V X hw (mX23_tilts l G _ _ _ h) 0 (lw_V q1863 q1864 q1865 q153 q1866) rfl rfl ydX23_tilts ⟨Nat.le_of_ble_eq_true rfl, Nat.le_of_ble_eq_true rfl⟩ (g_recv X hw (ci := 19) (q := (RX23, TX23, 15)) hk_4 rfl) (As := []) (rest := [.long r_7]) rfl hl.1 rfl (Nat.le_of_ble_eq_true rfl) dX19_countOf_52 ⟨Nat.le_refl _, Nat.le_refl _⟩) (fun r_8 H locs h hw => ?_)
      refine lv_i2l hx hb dX19_countOf_55 rfl ?_
      refine lv_lmul hx hb dX19_countOf_56 ?_
      exact g_lret X hw hr ⟨rfl, h⟩ (Nat.le_refl _) (Nat.le_refl _) dX19_countOf_57
  · have h := h.1 c_15
    refine lv_aload_n hx hb dX19_countOf_4 rfl (lv_at hl 0 rfl) ?_
    have hk_10 : kd u a0 = 16 := h.1
    have h := h.2
    obtain ⟨b_11, e_12, h⟩ := h
    refine g_getR X hw in_X19 hk_10 rfl 3 rfl (by decide) q1454 (fun _ z => z) e_12 dX19_countOf_5 ?_
    refine lv_iload_n hx hb dX19_countOf_8 rfl (lv_at hl 1 rfl) ?_
    have hk_13 : kd u b_11 = 20 := h.1
    have h := h.2
    refine g_calllo hw (g_V X hw (mX23_handsOf l G _ _ _ _ h) 1 (lw_V q1757 q1758 q1759 q153 q1760) rfl rfl ydX23_handsOf ⟨Nat.le_of_ble_eq_true rfl, Nat.le_of_ble_eq_true rfl⟩ (g_recv X hw (ci := 19) (q := (RX23, TX23, 15)) hk_13 rfl) (As := [.int x1]) (rest := []) rfl hl.1 rfl (Nat.le_of_ble_eq_true rfl) dX19_countOf_9 ⟨Nat.le_refl _, Nat.le_refl _⟩) (fun r_14 H locs h hw => ?_)
    exact g_lret X hw hr ⟨rfl, h⟩ (Nat.le_refl _) (Nat.le_refl _) dX19_countOf_12

/-! FifthCardModel.count(IZ)J -/
theorem ydX19_count : yX19_count.cls = "FifthCardModel" ∧ yX19_count.cls ≠ "java/lang/invoke/MethodHandle" ∧ yX19_count.cls ≠ "java/lang/invoke/VarHandle" ∧ (parseMethodDescriptor yX19_count.desc).map (fun d => d.parameters.length) = some 2 := by decide +kernel
def rmX19_count (mc ms : Nat) : Room := { frames := 4, cells := mc, slots := ms, locals := 88 }
set_option maxHeartbeats 4000000 in
theorem mX19_count (l : Launch) (G : GT) (u : Hp) (a0 : Nat) (x1 : Int32) (x2 : Int32) (K : Int64 → Hp → Prop) (h : pX19_count u a0 x1 x2 K) : Met l yX19_count (ws_ yX19_count cX19_count 3 (some .long)) (rmX19_count 0 0) (va_Pc [.ref a0, .int x1, .int x2] (GB G u)) (va_Ql K (fun u t => GH G u t.heap) (GA G)) 0 0 (GA G) := by
  refine Met.ofW (cc := cX19_count) (maxL := 3) (ret := (some .long)) (by decide) rfl ?_
  intro p e s m args below meth c s₁ B hml hv
  obtain ⟨rfl, hv⟩ := hv
  have X := Mc_of (own := RX19) B hml rfl hv
  have hw : GW G u s s.heap [] := ⟨hv.2.1, va_S.rf⟩
  have hr := B.returns
  obtain ⟨hx, hb, hml, hown, hts, -⟩ := id X
  have hl := lv_entry ([.ref a0, .int x1, .int x2]) (n := 3) (Nat.le_of_ble_eq_true rfl)
  rw [lg_entry_eq]
  generalize (lg_sl ([.ref a0, .int x1, .int x2]) ++ List.replicate (3 - (lg_sl ([.ref a0, .int x1, .int x2])).length) Slot.unset).toArray = ls at hl ⊢
  have hl : lv_has ls 3 [(0, .ref a0), (1, .int x1), (2, .int x2)] := hl
  change W p l e (rmX19_count 0 0) s m _ below meth c s.heap [] 0 0 (QJ G below K _ s 0 0) (F0 m 0 ls [])
  unfold pX19_count at h
  refine lv_aload_n hx hb dX19_count_0 rfl (lv_at hl 0 rfl) ?_
  refine lv_iconst (v := 0) hx hb dX19_count_1 (by decide) ?_
  have hk_1 : kd u a0 = 16 := h.1
  have h := h.2
  refine g_putI (v := 0) X hw in_X19 tyX19_ok nmX19 hk_1 rfl 0 rfl (by decide) q1451 (fun _ z => z) rfl rfl rfl dX19_count_2 (fun H locs hw => ?_)
  refine lv_aload_n hx hb dX19_count_5 rfl (lv_at hl 0 rfl) ?_
  refine g_getO X hw in_X19 hk_1 rfl 3 rfl (by decide) q1454 (fun _ z => z) dX19_count_6 ?_
  refine g_ifnonnull X (tgt := 19) dX19_count_9 rfl (fun b_2 e_3 => ?_) (fun e_3 => ?_)
  · have h := h.2 b_2 e_3
    refine lv_iload_n hx hb dX19_count_19 rfl (lv_at hl 1 rfl) ?_
    refine lv_aload_n hx hb dX19_count_20 rfl (lv_at hl 0 rfl) ?_
    obtain ⟨b_6, e_7, h⟩ := h
    refine g_getR X hw in_X19 hk_1 rfl 3 rfl (by decide) q1454 (fun _ z => z) e_7 dX19_count_21 ?_
    have hk_8 : kd u b_6 = 20 := h.1
    have h := h.2
    refine g_getNI X hw (host := "FifthCardModel") in_X23 hk_8 rfl 2 rfl (by decide) (List.mem_of_getElem? (i := 2) rfl) (fun _ z => z) dX19_count_24 ?_
    refine lv_sipush (v := 200) hx hb dX19_count_27 (by decide) ?_
    refine g_callio hw (g_S X hw (mX19_in l G _ _ _ _ _ h) 3 (lw_S q1749 q1750 q143 q1751) rfl rfl ydX19_in ⟨Nat.le_of_ble_eq_true rfl, Nat.le_of_ble_eq_true rfl⟩ (As := [.int x1, .int (FI (sFI u 1900 a0 0) 2302 b_6), .int 200]) (rest := []) rfl hl.1 rfl (Nat.le_of_ble_eq_true rfl) dX19_count_30 ⟨Nat.le_refl _, Nat.le_refl _⟩) (fun r_9 H locs h hw => ?_)
    refine lv_if_ne (tgt := 43) hx hb dX19_count_33 rfl (fun c_16 => ?_) (fun c_16 => ?_)
    · have h := h.2 c_16
      refine lv_aload_n hx hb dX19_count_43 rfl (lv_at hl 0 rfl) ?_
      refine lv_iconst (v := 0) hx hb dX19_count_44 (by decide) ?_
      refine g_calli hw (g_V X hw (mX19_good l G _ _ _ _ h) 1 (lw_V q1867 q1869 qs77 q143 q1870) rfl rfl ydX19_good ⟨Nat.le_of_ble_eq_true rfl, Nat.le_of_ble_eq_true rfl⟩ (g_recv X hw (ci := 15) (q := (RX19, TX19, 46)) hk_1 rfl) (As := [.int 0]) (rest := []) rfl hl.1 rfl (Nat.le_of_ble_eq_true rfl) dX19_count_45 ⟨Nat.le_refl _, Nat.le_refl _⟩) (fun r_10 u_11 H locs h hw => ?_)
      refine lv_pop hx hb dX19_count_48 rfl ?_
      refine lv_aload_n hx hb dX19_count_49 rfl (lv_at hl 0 rfl) ?_
      refine lv_iload_n hx hb dX19_count_50 rfl (lv_at hl 1 rfl) ?_
      refine lv_iload_n hx hb dX19_count_51 rfl (lv_at hl 2 rfl) ?_
      have hk_12 : kd u_11 a0 = 16 := h.1
      have h := h.2
      refine g_calllo hw (g_V X hw (mX19_countOf l G _ _ _ _ _ h) 2 (lw_V q2109 q2111 qs113 q143 q2112) rfl rfl ydX19_countOf ⟨Nat.le_of_ble_eq_true rfl, Nat.le_of_ble_eq_true rfl⟩ (g_recv X hw (ci := 15) (q := (RX19, TX19, 46)) hk_12 rfl) (As := [.int x1, .int x2]) (rest := []) rfl hl.1 rfl (Nat.le_of_ble_eq_true rfl) dX19_count_52 ⟨Nat.le_refl _, Nat.le_refl _⟩) (fun r_13 H locs h hw => ?_)
      exact g_lret X hw hr h (Nat.le_refl _) (Nat.le_refl _) dX19_count_55
    · have h := h.1 c_16
      refine lv_aload_n hx hb dX19_count_36 rfl (lv_at hl 0 rfl) ?_
      refine lv_iconst (v := 2) hx hb dX19_count_37 (by decide) ?_
      refine g_calli hw (g_V X hw (mX19_refused l G _ _ _ _ h) 1 (lw_V q1603 q1605 qs47 q143 q1606) rfl rfl ydX19_refused ⟨Nat.le_of_ble_eq_true rfl, Nat.le_of_ble_eq_true rfl⟩ (g_recv X hw (ci := 15) (q := (RX19, TX19, 46)) hk_1 rfl) (As := [.int 2]) (rest := []) rfl hl.1 rfl (Nat.le_of_ble_eq_true rfl) dX19_count_38 ⟨Nat.le_refl _, Nat.le_refl _⟩) (fun r_14 u_15 H locs h hw => ?_)
      refine lv_i2l hx hb dX19_count_41 rfl ?_
      exact g_lret X hw hr h (Nat.le_refl _) (Nat.le_refl _) dX19_count_42
  · have h := h.1 e_3
    refine lv_aload_n hx hb dX19_count_12 rfl (lv_at hl 0 rfl) ?_
    refine lv_iconst (v := 1) hx hb dX19_count_13 (by decide) ?_
    refine g_calli hw (g_V X hw (mX19_refused l G _ _ _ _ h) 1 (lw_V q1603 q1605 qs47 q143 q1606) rfl rfl ydX19_refused ⟨Nat.le_of_ble_eq_true rfl, Nat.le_of_ble_eq_true rfl⟩ (g_recv X hw (ci := 15) (q := (RX19, TX19, 46)) hk_1 rfl) (As := [.int 1]) (rest := []) rfl hl.1 rfl (Nat.le_of_ble_eq_true rfl) dX19_count_14 ⟨Nat.le_refl _, Nat.le_refl _⟩) (fun r_4 u_5 H locs h hw => ?_)
    refine lv_i2l hx hb dX19_count_17 rfl ?_
    exact g_lret X hw hr h (Nat.le_refl _) (Nat.le_refl _) dX19_count_18

/-! FifthCard.most()I -/
theorem ydX1_most : yX1_most.cls = "FifthCard" ∧ yX1_most.cls ≠ "java/lang/invoke/MethodHandle" ∧ yX1_most.cls ≠ "java/lang/invoke/VarHandle" ∧ (parseMethodDescriptor yX1_most.desc).map (fun d => d.parameters.length) = some 0 := by decide +kernel
def rmX1_most (mc ms : Nat) : Room := { frames := 3, cells := mc, slots := ms, locals := 65 }
set_option maxHeartbeats 4000000 in
theorem wX1_most_21 {G : GT} {p : Program} {l : Launch} {e : Env} {s : State} {m : MethodId} {args : Array Value} {below : List Frame} {meth : Method} {c : Code} {H : Heap} {locs : List Loc} {ls : Array Slot} {a0 : Nat} {u : Hp} {x1 : Int32} {K : Int32 → Hp → Prop} (X : Mc G p s m args meth c RX1 cX1_most 2) (hr : meth.sig.returnType = (some .int)) (h : jl1 (bX1_most_21 K a0 u) x1) (hw : GW G u s H locs) (hl : lv_has ls 2 [(0, .ref a0), (1, .int x1)]) : W p l e (rmX1_most 0 0) s m args below meth c H locs 0 0 (QI G below K args s 0 0) (F0 m 21 ls []) := by
  obtain ⟨hx, hb, hml, hown, hts, -⟩ := id X
  obtain ⟨I, μ, h0, hs⟩ := h
  have key : ∀ (n : Nat) (x1 : Int32) (H : Heap) (locs : List Loc) (ls : Array Slot) , μ x1 < n → I x1 → GW G u s H locs → lv_has ls 2 [(0, .ref a0), (1, .int x1)] → W p l e (rmX1_most 0 0) s m args below meth c H locs 0 0 (QI G below K args s 0 0) (F0 m 21 ls []) := by
    intro n
    induction n with
    | zero =>
      intro x1 H locs ls hn
      exact absurd hn (Nat.not_lt_zero _)
    | succ n ih =>
      intro x1 H locs ls hn hI hw hl
      have h := hs x1 hI
      unfold bX1_most_21 at h
      have hJ21 : ∀ (x1' : Int32) (H : Heap) (locs : List Loc) (ls : Array Slot) , (I x1' ∧ μ x1' < μ x1) → GW G u s H locs → lv_has ls 2 [(0, .ref a0), (1, .int x1')] → W p l e (rmX1_most 0 0) s m args below meth c H locs 0 0 (QI G below K args s 0 0) (F0 m 21 ls []) := fun x1' H locs ls h hw hl => ih x1' H locs ls (Nat.lt_of_lt_of_le h.2 (Nat.le_of_lt_succ hn)) h.1 hw hl
      refine lv_iload_n hx hb dX1_most_21 rfl (lv_at hl 1 rfl) ?_
      refine lv_aload_n hx hb dX1_most_22 rfl (lv_at hl 0 rfl) ?_
      have hk_1 : kd u a0 = 1 := h.1
      have h := h.2
      obtain ⟨b_2, e_3, h⟩ := h
      refine g_getR X hw in_X1 hk_1 rfl 3 rfl (by decide) q476 (fun _ z => z) e_3 dX1_most_23 ?_
      have hk_4 : kd u b_2 = 17 := h.1
      have h := h.2
      refine g_getI X hw in_X20 hk_4 rfl 5 rfl (by decide) q585 (fun _ z => z) dX1_most_26 ?_
      refine lv_icmp_lt (tgt := 58) hx hb dX1_most_29 rfl (fun c_10 => ?_) (fun c_10 => ?_)
      · have h := h.1 c_10
        refine lv_iload_n hx hb dX1_most_58 rfl (lv_at hl 1 rfl) ?_
        refine lv_aload_n hx hb dX1_most_59 rfl (lv_at hl 0 rfl) ?_
        refine g_getR X hw in_X1 hk_1 rfl 3 rfl (by decide) q476 (fun _ z => z) e_3 dX1_most_60 ?_
        refine g_getI X hw in_X20 hk_4 rfl 5 rfl (by decide) q585 (fun _ z => z) dX1_most_63 ?_
        refine lv_icmp_ge (tgt := 74) hx hb dX1_most_66 rfl (fun c_5 => ?_) (fun c_5 => ?_)
        · have h := h.1 c_5
          refine lv_iload_n hx hb dX1_most_74 rfl (lv_at hl 1 rfl) ?_
          exact g_iret X hw hr h (Nat.le_refl _) (Nat.le_refl _) dX1_most_75
        · have h := h.2 c_5
          refine lv_bipush (v := (-2)) hx hb dX1_most_69 (by decide) ?_
          refine lv_goto (tgt := 75) hx hb dX1_most_71 rfl ?_
          exact g_iret X hw hr h (Nat.le_refl _) (Nat.le_refl _) dX1_most_75
      · have h := h.2 c_10
        refine lv_aload_n hx hb dX1_most_32 rfl (lv_at hl 0 rfl) ?_
        refine g_getR X hw in_X1 hk_1 rfl 3 rfl (by decide) q476 (fun _ z => z) e_3 dX1_most_33 ?_
        refine lv_iload_n hx hb dX1_most_36 rfl (lv_at hl 1 rfl) ?_
        refine g_calllo hw (g_V X hw (mX20_hands l G _ _ _ _ h) 1 (lw_V q958 q844 q845 q144 q846) rfl rfl ydX20_hands ⟨Nat.le_of_ble_eq_true rfl, Nat.le_of_ble_eq_true rfl⟩ (g_recv X hw (ci := 16) (q := (RX20, TX20, 13)) hk_4 rfl) (As := [.int x1]) (rest := []) rfl hl.1 rfl (Nat.le_of_ble_eq_true rfl) dX1_most_37 ⟨Nat.le_refl _, Nat.le_refl _⟩) (fun r_6 H locs h hw => ?_)
        refine lv_aload_n hx hb dX1_most_40 rfl (lv_at hl 0 rfl) ?_
        refine g_getR X hw in_X1 hk_1 rfl 3 rfl (by decide) q476 (fun _ z => z) e_3 dX1_most_41 ?_
        refine lv_iload_n hx hb dX1_most_44 rfl (lv_at hl 1 rfl) ?_
        refine g_calllo hw (g_V X hw (mX20_rowsOf l G _ _ _ _ h) 1 (lw_V q1285 q1286 q1287 q144 q1288) rfl rfl ydX20_rowsOf ⟨Nat.le_of_ble_eq_true rfl, Nat.le_of_ble_eq_true rfl⟩ (g_recv X hw (ci := 16) (q := (RX20, TX20, 13)) hk_4 rfl) (As := [.int x1]) (rest := [.long r_6]) rfl hl.1 rfl (Nat.le_of_ble_eq_true rfl) dX1_most_45 ⟨Nat.le_refl _, Nat.le_refl _⟩) (fun r_7 H locs h hw => ?_)
        refine W.lcmp hx hb dX1_most_48 ?_
        refine lv_if_le (tgt := 58) hx hb dX1_most_49 rfl (fun c_9 => ?_) (fun c_9 => ?_)
        · have h := h.1 c_9
          refine lv_iload_n hx hb dX1_most_58 rfl (lv_at hl 1 rfl) ?_
          refine lv_aload_n hx hb dX1_most_59 rfl (lv_at hl 0 rfl) ?_
          refine g_getR X hw in_X1 hk_1 rfl 3 rfl (by decide) q476 (fun _ z => z) e_3 dX1_most_60 ?_
          refine g_getI X hw in_X20 hk_4 rfl 5 rfl (by decide) q585 (fun _ z => z) dX1_most_63 ?_
          refine lv_icmp_ge (tgt := 74) hx hb dX1_most_66 rfl (fun c_8 => ?_) (fun c_8 => ?_)
          · have h := h.1 c_8
            refine lv_iload_n hx hb dX1_most_74 rfl (lv_at hl 1 rfl) ?_
            exact g_iret X hw hr h (Nat.le_refl _) (Nat.le_refl _) dX1_most_75
          · have h := h.2 c_8
            refine lv_bipush (v := (-2)) hx hb dX1_most_69 (by decide) ?_
            refine lv_goto (tgt := 75) hx hb dX1_most_71 rfl ?_
            exact g_iret X hw hr h (Nat.le_refl _) (Nat.le_refl _) dX1_most_75
        · have h := h.2 c_9
          refine lv_iinc (v := x1 + (-1)) (lv' := [(1, .int (x1 + (-1))), (0, .ref a0)]) hx hb dX1_most_52 hl (k := 1) rfl rfl (by decide) rfl (fun ls hl => ?_)
          refine lv_goto (tgt := 21) hx hb dX1_most_55 rfl ?_
          exact hJ21 _ _ _ _ h hw (lv_sub hl [1, 0] rfl)
  exact key _ _ _ _ _ (Nat.lt_succ_self _) h0 hw hl
set_option maxHeartbeats 4000000 in
theorem mX1_most (l : Launch) (G : GT) (u : Hp) (a0 : Nat) (K : Int32 → Hp → Prop) (h : pX1_most u a0 K) : Met l yX1_most (ws_ yX1_most cX1_most 2 (some .int)) (rmX1_most 0 0) (va_Pc [.ref a0] (GB G u)) (va_Qi K (fun u t => GH G u t.heap) (GA G)) 0 0 (GA G) := by
  refine Met.ofW (cc := cX1_most) (maxL := 2) (ret := (some .int)) (by decide) rfl ?_
  intro p e s m args below meth c s₁ B hml hv
  obtain ⟨rfl, hv⟩ := hv
  have X := Mc_of (own := RX1) B hml rfl hv
  have hw : GW G u s s.heap [] := ⟨hv.2.1, va_S.rf⟩
  have hr := B.returns
  obtain ⟨hx, hb, hml, hown, hts, -⟩ := id X
  have hl := lv_entry ([.ref a0]) (n := 2) (Nat.le_of_ble_eq_true rfl)
  rw [lg_entry_eq]
  generalize (lg_sl ([.ref a0]) ++ List.replicate (2 - (lg_sl ([.ref a0])).length) Slot.unset).toArray = ls at hl ⊢
  have hl : lv_has ls 2 [(0, .ref a0)] := hl
  change W p l e (rmX1_most 0 0) s m _ below meth c s.heap [] 0 0 (QI G below K _ s 0 0) (F0 m 0 ls [])
  unfold pX1_most at h
  refine lv_aload_n hx hb dX1_most_0 rfl (lv_at hl 0 rfl) ?_
  have hk_11 : kd u a0 = 1 := h.1
  have h := h.2
  refine g_callv hw (g_V X hw (mX1_anew l G _ _ _ h) 0 (lw_V q535 q537 qs2 q122 q538) rfl rfl ydX1_anew ⟨Nat.le_of_ble_eq_true rfl, Nat.le_of_ble_eq_true rfl⟩ (g_recv X hw (ci := 0) (q := (RX1, TX1, 16)) hk_11 rfl) (As := []) (rest := []) rfl hl.1 rfl (Nat.le_of_ble_eq_true rfl) dX1_most_1 ⟨Nat.le_refl _, Nat.le_refl _⟩) (fun u_12 H locs h hw => ?_)
  refine lv_aload_n hx hb dX1_most_4 rfl (lv_at hl 0 rfl) ?_
  have hk_13 : kd u_12 a0 = 1 := h.1
  have h := h.2
  refine g_getO X hw in_X1 hk_13 rfl 3 rfl (by decide) q476 (fun _ z => z) dX1_most_5 ?_
  refine g_ifnonnull X (tgt := 17) dX1_most_8 rfl (fun b_14 e_15 => ?_) (fun e_15 => ?_)
  · have h := h.2 b_14 e_15
    refine lv_sipush (v := 200) hx hb dX1_most_17 (by decide) ?_
    refine lv_istore_n (lv' := [(1, .int 200), (0, .ref a0)]) hx hb dX1_most_20 rfl hl (by decide) rfl (fun ls hl => ?_)
    exact wX1_most_21 X hr  h hw (lv_sub hl [1, 0] rfl)
  · have h := h.1 e_15
    refine lv_aload_n hx hb dX1_most_11 rfl (lv_at hl 0 rfl) ?_
    refine lv_iconst (v := 1) hx hb dX1_most_12 (by decide) ?_
    refine g_calli hw (g_V X hw (mX1_no l G _ _ _ _ h) 1 (lw_V q542 q544 qs3 q122 q545) rfl rfl ydX1_no ⟨Nat.le_of_ble_eq_true rfl, Nat.le_of_ble_eq_true rfl⟩ (g_recv X hw (ci := 0) (q := (RX1, TX1, 16)) hk_13 rfl) (As := [.int 1]) (rest := []) rfl hl.1 rfl (Nat.le_of_ble_eq_true rfl) dX1_most_13 ⟨Nat.le_refl _, Nat.le_refl _⟩) (fun r_16 u_17 H locs h hw => ?_)
    exact g_iret X hw hr h (Nat.le_refl _) (Nat.le_refl _) dX1_most_16

/-! FifthCardModel.most()I -/
theorem ydX19_most : yX19_most.cls = "FifthCardModel" ∧ yX19_most.cls ≠ "java/lang/invoke/MethodHandle" ∧ yX19_most.cls ≠ "java/lang/invoke/VarHandle" ∧ (parseMethodDescriptor yX19_most.desc).map (fun d => d.parameters.length) = some 0 := by decide +kernel
def rmX19_most (mc ms : Nat) : Room := { frames := 4, cells := mc, slots := ms, locals := 88 }
set_option maxHeartbeats 4000000 in
theorem wX19_most_22 {G : GT} {p : Program} {l : Launch} {e : Env} {s : State} {m : MethodId} {args : Array Value} {below : List Frame} {meth : Method} {c : Code} {H : Heap} {locs : List Loc} {ls : Array Slot} {a0 : Nat} {u : Hp} {x1 : Int32} {K : Int32 → Hp → Prop} (X : Mc G p s m args meth c RX19 cX19_most 2) (hr : meth.sig.returnType = (some .int)) (h : jl1 (bX19_most_22 K a0 u) x1) (hw : GW G u s H locs) (hl : lv_has ls 2 [(0, .ref a0), (1, .int x1)]) : W p l e (rmX19_most 0 0) s m args below meth c H locs 0 0 (QI G below K args s 0 0) (F0 m 22 ls []) := by
  obtain ⟨hx, hb, hml, hown, hts, -⟩ := id X
  obtain ⟨I, μ, h0, hs⟩ := h
  have key : ∀ (n : Nat) (x1 : Int32) (H : Heap) (locs : List Loc) (ls : Array Slot) , μ x1 < n → I x1 → GW G u s H locs → lv_has ls 2 [(0, .ref a0), (1, .int x1)] → W p l e (rmX19_most 0 0) s m args below meth c H locs 0 0 (QI G below K args s 0 0) (F0 m 22 ls []) := by
    intro n
    induction n with
    | zero =>
      intro x1 H locs ls hn
      exact absurd hn (Nat.not_lt_zero _)
    | succ n ih =>
      intro x1 H locs ls hn hI hw hl
      have h := hs x1 hI
      unfold bX19_most_22 at h
      have hJ22 : ∀ (x1' : Int32) (H : Heap) (locs : List Loc) (ls : Array Slot) , (I x1' ∧ μ x1' < μ x1) → GW G u s H locs → lv_has ls 2 [(0, .ref a0), (1, .int x1')] → W p l e (rmX19_most 0 0) s m args below meth c H locs 0 0 (QI G below K args s 0 0) (F0 m 22 ls []) := fun x1' H locs ls h hw hl => ih x1' H locs ls (Nat.lt_of_lt_of_le h.2 (Nat.le_of_lt_succ hn)) h.1 hw hl
      refine lv_iload_n hx hb dX19_most_22 rfl (lv_at hl 1 rfl) ?_
      refine lv_aload_n hx hb dX19_most_23 rfl (lv_at hl 0 rfl) ?_
      have hk_1 : kd u a0 = 16 := h.1
      have h := h.2
      obtain ⟨b_2, e_3, h⟩ := h
      refine g_getR X hw in_X19 hk_1 rfl 3 rfl (by decide) q1454 (fun _ z => z) e_3 dX19_most_24 ?_
      have hk_4 : kd u b_2 = 20 := h.1
      have h := h.2
      refine g_getNI X hw (host := "FifthCardModel") in_X23 hk_4 rfl 2 rfl (by decide) (List.mem_of_getElem? (i := 2) rfl) (fun _ z => z) dX19_most_27 ?_
      refine lv_icmp_lt (tgt := 61) hx hb dX19_most_30 rfl (fun c_12 => ?_) (fun c_12 => ?_)
      · have h := h.1 c_12
        refine lv_aload_n hx hb dX19_most_61 rfl (lv_at hl 0 rfl) ?_
        refine lv_bipush (v := (-2)) hx hb dX19_most_62 (by decide) ?_
        refine g_calli hw (g_V X hw (mX19_good l G _ _ _ _ h) 1 (lw_V q1867 q1869 qs77 q143 q1870) rfl rfl ydX19_good ⟨Nat.le_of_ble_eq_true rfl, Nat.le_of_ble_eq_true rfl⟩ (g_recv X hw (ci := 15) (q := (RX19, TX19, 46)) hk_1 rfl) (As := [.int (-2)]) (rest := []) rfl hl.1 rfl (Nat.le_of_ble_eq_true rfl) dX19_most_64 ⟨Nat.le_refl _, Nat.le_refl _⟩) (fun r_5 u_6 H locs h hw => ?_)
        exact g_iret X hw hr h (Nat.le_refl _) (Nat.le_refl _) dX19_most_67
      · have h := h.2 c_12
        refine lv_aload_n hx hb dX19_most_33 rfl (lv_at hl 0 rfl) ?_
        refine lv_iload_n hx hb dX19_most_34 rfl (lv_at hl 1 rfl) ?_
        refine lv_iconst (v := 0) hx hb dX19_most_35 (by decide) ?_
        refine g_calllo hw (g_V X hw (mX19_countOf l G _ _ _ _ _ h) 2 (lw_V q2109 q2111 qs113 q143 q2112) rfl rfl ydX19_countOf ⟨Nat.le_of_ble_eq_true rfl, Nat.le_of_ble_eq_true rfl⟩ (g_recv X hw (ci := 15) (q := (RX19, TX19, 46)) hk_1 rfl) (As := [.int x1, .int 0]) (rest := []) rfl hl.1 rfl (Nat.le_of_ble_eq_true rfl) dX19_most_36 ⟨Nat.le_refl _, Nat.le_refl _⟩) (fun r_7 H locs h hw => ?_)
        refine lv_aload_n hx hb dX19_most_39 rfl (lv_at hl 0 rfl) ?_
        refine lv_iload_n hx hb dX19_most_40 rfl (lv_at hl 1 rfl) ?_
        refine lv_iconst (v := 1) hx hb dX19_most_41 (by decide) ?_
        refine g_calllo hw (g_V X hw (mX19_countOf l G _ _ _ _ _ h) 2 (lw_V q2109 q2111 qs113 q143 q2112) rfl rfl ydX19_countOf ⟨Nat.le_of_ble_eq_true rfl, Nat.le_of_ble_eq_true rfl⟩ (g_recv X hw (ci := 15) (q := (RX19, TX19, 46)) hk_1 rfl) (As := [.int x1, .int 1]) (rest := [.long r_7]) rfl hl.1 rfl (Nat.le_of_ble_eq_true rfl) dX19_most_42 ⟨Nat.le_refl _, Nat.le_refl _⟩) (fun r_8 H locs h hw => ?_)
        refine W.lcmp hx hb dX19_most_45 ?_
        refine lv_if_gt (tgt := 55) hx hb dX19_most_46 rfl (fun c_11 => ?_) (fun c_11 => ?_)
        · have h := h.1 c_11
          refine lv_iinc (v := x1 + (-1)) (lv' := [(1, .int (x1 + (-1))), (0, .ref a0)]) hx hb dX19_most_55 hl (k := 1) rfl rfl (by decide) rfl (fun ls hl => ?_)
          refine lv_goto (tgt := 22) hx hb dX19_most_58 rfl ?_
          exact hJ22 _ _ _ _ h hw (lv_sub hl [1, 0] rfl)
        · have h := h.2 c_11
          refine lv_aload_n hx hb dX19_most_49 rfl (lv_at hl 0 rfl) ?_
          refine lv_iload_n hx hb dX19_most_50 rfl (lv_at hl 1 rfl) ?_
          refine g_calli hw (g_V X hw (mX19_good l G _ _ _ _ h) 1 (lw_V q1867 q1869 qs77 q143 q1870) rfl rfl ydX19_good ⟨Nat.le_of_ble_eq_true rfl, Nat.le_of_ble_eq_true rfl⟩ (g_recv X hw (ci := 15) (q := (RX19, TX19, 46)) hk_1 rfl) (As := [.int x1]) (rest := []) rfl hl.1 rfl (Nat.le_of_ble_eq_true rfl) dX19_most_51 ⟨Nat.le_refl _, Nat.le_refl _⟩) (fun r_9 u_10 H locs h hw => ?_)
          exact g_iret X hw hr h (Nat.le_refl _) (Nat.le_refl _) dX19_most_54
  exact key _ _ _ _ _ (Nat.lt_succ_self _) h0 hw hl
set_option maxHeartbeats 4000000 in
theorem mX19_most (l : Launch) (G : GT) (u : Hp) (a0 : Nat) (K : Int32 → Hp → Prop) (h : pX19_most u a0 K) : Met l yX19_most (ws_ yX19_most cX19_most 2 (some .int)) (rmX19_most 0 0) (va_Pc [.ref a0] (GB G u)) (va_Qi K (fun u t => GH G u t.heap) (GA G)) 0 0 (GA G) := by
  refine Met.ofW (cc := cX19_most) (maxL := 2) (ret := (some .int)) (by decide) rfl ?_
  intro p e s m args below meth c s₁ B hml hv
  obtain ⟨rfl, hv⟩ := hv
  have X := Mc_of (own := RX19) B hml rfl hv
  have hw : GW G u s s.heap [] := ⟨hv.2.1, va_S.rf⟩
  have hr := B.returns
  obtain ⟨hx, hb, hml, hown, hts, -⟩ := id X
  have hl := lv_entry ([.ref a0]) (n := 2) (Nat.le_of_ble_eq_true rfl)
  rw [lg_entry_eq]
  generalize (lg_sl ([.ref a0]) ++ List.replicate (2 - (lg_sl ([.ref a0])).length) Slot.unset).toArray = ls at hl ⊢
  have hl : lv_has ls 2 [(0, .ref a0)] := hl
  change W p l e (rmX19_most 0 0) s m _ below meth c s.heap [] 0 0 (QI G below K _ s 0 0) (F0 m 0 ls [])
  unfold pX19_most at h
  refine lv_aload_n hx hb dX19_most_0 rfl (lv_at hl 0 rfl) ?_
  refine lv_iconst (v := 0) hx hb dX19_most_1 (by decide) ?_
  have hk_13 : kd u a0 = 16 := h.1
  have h := h.2
  refine g_putI (v := 0) X hw in_X19 tyX19_ok nmX19 hk_13 rfl 0 rfl (by decide) q1451 (fun _ z => z) rfl rfl rfl dX19_most_2 (fun H locs hw => ?_)
  refine lv_aload_n hx hb dX19_most_5 rfl (lv_at hl 0 rfl) ?_
  refine g_getO X hw in_X19 hk_13 rfl 3 rfl (by decide) q1454 (fun _ z => z) dX19_most_6 ?_
  refine g_ifnonnull X (tgt := 18) dX19_most_9 rfl (fun b_14 e_15 => ?_) (fun e_15 => ?_)
  · have h := h.2 b_14 e_15
    refine lv_sipush (v := 200) hx hb dX19_most_18 (by decide) ?_
    refine lv_istore_n (lv' := [(1, .int 200), (0, .ref a0)]) hx hb dX19_most_21 rfl hl (by decide) rfl (fun ls hl => ?_)
    exact wX19_most_22 X hr  h hw (lv_sub hl [1, 0] rfl)
  · have h := h.1 e_15
    refine lv_aload_n hx hb dX19_most_12 rfl (lv_at hl 0 rfl) ?_
    refine lv_iconst (v := 1) hx hb dX19_most_13 (by decide) ?_
    refine g_calli hw (g_V X hw (mX19_refused l G _ _ _ _ h) 1 (lw_V q1603 q1605 qs47 q143 q1606) rfl rfl ydX19_refused ⟨Nat.le_of_ble_eq_true rfl, Nat.le_of_ble_eq_true rfl⟩ (g_recv X hw (ci := 15) (q := (RX19, TX19, 46)) hk_13 rfl) (As := [.int 1]) (rest := []) rfl hl.1 rfl (Nat.le_of_ble_eq_true rfl) dX19_most_14 ⟨Nat.le_refl _, Nat.le_refl _⟩) (fun r_16 u_17 H locs h hw => ?_)
    exact g_iret X hw hr h (Nat.le_refl _) (Nat.le_refl _) dX19_most_17

/-! FifthCard.isEvening(I)Z -/
theorem ydX1_isEvening : yX1_isEvening.cls = "FifthCard" ∧ yX1_isEvening.cls ≠ "java/lang/invoke/MethodHandle" ∧ yX1_isEvening.cls ≠ "java/lang/invoke/VarHandle" ∧ (parseMethodDescriptor yX1_isEvening.desc).map (fun d => d.parameters.length) = some 1 := by decide +kernel
def rmX1_isEvening (mc ms : Nat) : Room := { frames := 1, cells := mc, slots := ms, locals := 22 }
set_option maxHeartbeats 4000000 in
theorem mX1_isEvening (l : Launch) (G : GT) (u : Hp) (a0 : Nat) (x1 : Int32) (K : Int32 → Prop) (h : pX1_isEvening u a0 x1 K) : Met l yX1_isEvening (ws_ yX1_isEvening cX1_isEvening 2 (some .boolean)) (rmX1_isEvening 0 0) (va_Pc [.ref a0, .int x1] (GB G u)) (va_Qi (fun r v => v = u ∧ K r) (fun u t => GH G u t.heap) (GA G)) 0 0 (GA G) := by
  refine Met.ofW (cc := cX1_isEvening) (maxL := 2) (ret := (some .boolean)) (by decide) rfl ?_
  intro p e s m args below meth c s₁ B hml hv
  obtain ⟨rfl, hv⟩ := hv
  have X := Mc_of (own := RX1) B hml rfl hv
  have hw : GW G u s s.heap [] := ⟨hv.2.1, va_S.rf⟩
  have hr := B.returns
  obtain ⟨hx, hb, hml, hown, hts, -⟩ := id X
  have hl := lv_entry ([.ref a0, .int x1]) (n := 2) (Nat.le_of_ble_eq_true rfl)
  rw [lg_entry_eq]
  generalize (lg_sl ([.ref a0, .int x1]) ++ List.replicate (2 - (lg_sl ([.ref a0, .int x1])).length) Slot.unset).toArray = ls at hl ⊢
  have hl : lv_has ls 2 [(0, .ref a0), (1, .int x1)] := hl
  change W p l e (rmX1_isEvening 0 0) s m _ below meth c s.heap [] 0 0 (QI G below (fun r v => v = u ∧ K r) _ s 0 0) (F0 m 0 ls [])
  unfold pX1_isEvening at h
  refine lv_aload_n hx hb dX1_isEvening_0 rfl (lv_at hl 0 rfl) ?_
  have hk_1 : kd u a0 = 1 := h.1
  have h := h.2
  refine g_getO X hw in_X1 hk_1 rfl 3 rfl (by decide) q476 (fun _ z => z) dX1_isEvening_1 ?_
  refine g_ifnull X dX1_isEvening_4 rfl (fun e_3 => ?_) (fun b_2 e_3 => ?_)
  · have h := h.1 e_3
    refine lv_iconst (v := 0) hx hb dX1_isEvening_28 (by decide) ?_
    exact g_zret X hw hr rfl ⟨rfl, h⟩ (Nat.le_refl _) (Nat.le_refl _) dX1_isEvening_29
  · have h := h.2 b_2 e_3
    refine lv_iload_n hx hb dX1_isEvening_7 rfl (lv_at hl 1 rfl) ?_
    refine lv_iconst (v := 0) hx hb dX1_isEvening_8 (by decide) ?_
    refine lv_aload_n hx hb dX1_isEvening_9 rfl (lv_at hl 0 rfl) ?_
    obtain ⟨b_4, e_5, h⟩ := h
    refine g_getR X hw in_X1 hk_1 rfl 11 rfl (by decide) q484 (fun _ z => z) e_5 dX1_isEvening_10 ?_
    have hk_6 : kd u b_4 = 5 := h.1
    have h := h.2
    refine g_getI X hw in_X5 hk_6 rfl 2 rfl (by decide) q345 (fun _ z => z) dX1_isEvening_13 ?_
    refine lv_iconst (v := 1) hx hb dX1_isEvening_16 (by decide) ?_
    refine lv_isub hx hb dX1_isEvening_17 ?_
    refine g_callio hw (g_S X hw (mX1_in l G _ _ _ _ _ h) 3 (lw_S q539 q540 q122 q541) rfl rfl ydX1_in ⟨Nat.le_of_ble_eq_true rfl, Nat.le_of_ble_eq_true rfl⟩ (As := [.int x1, .int 0, .int ((FI u 502 b_4) - 1)]) (rest := []) rfl hl.1 rfl (Nat.le_of_ble_eq_true rfl) dX1_isEvening_18 ⟨Nat.le_refl _, Nat.le_refl _⟩) (fun r_7 H locs h hw => ?_)
    refine lv_if_eq (tgt := 28) hx hb dX1_isEvening_21 rfl (fun c_8 => ?_) (fun c_8 => ?_)
    · have h := h.1 c_8
      refine lv_iconst (v := 0) hx hb dX1_isEvening_28 (by decide) ?_
      exact g_zret X hw hr rfl ⟨rfl, h⟩ (Nat.le_refl _) (Nat.le_refl _) dX1_isEvening_29
    · have h := h.2 c_8
      refine lv_iconst (v := 1) hx hb dX1_isEvening_24 (by decide) ?_
      refine lv_goto (tgt := 29) hx hb dX1_isEvening_25 rfl ?_
      exact g_zret X hw hr rfl ⟨rfl, h⟩ (Nat.le_refl _) (Nat.le_refl _) dX1_isEvening_29

/-! FifthCard.judge(I)I -/
theorem ydX1_judge : yX1_judge.cls = "FifthCard" ∧ yX1_judge.cls ≠ "java/lang/invoke/MethodHandle" ∧ yX1_judge.cls ≠ "java/lang/invoke/VarHandle" ∧ (parseMethodDescriptor yX1_judge.desc).map (fun d => d.parameters.length) = some 1 := by decide +kernel
def rmX1_judge (mc ms : Nat) : Room := { frames := 2, cells := mc, slots := ms, locals := 43 }
set_option maxHeartbeats 4000000 in
theorem mX1_judge (l : Launch) (G : GT) (u : Hp) (a0 : Nat) (x1 : Int32) (K : Int32 → Hp → Prop) (h : pX1_judge u a0 x1 K) : Met l yX1_judge (ws_ yX1_judge cX1_judge 2 (some .int)) (rmX1_judge 0 0) (va_Pc [.ref a0, .int x1] (GB G u)) (va_Qi K (fun u t => GH G u t.heap) (GA G)) 0 0 (GA G) := by
  refine Met.ofW (cc := cX1_judge) (maxL := 2) (ret := (some .int)) (by decide) rfl ?_
  intro p e s m args below meth c s₁ B hml hv
  obtain ⟨rfl, hv⟩ := hv
  have X := Mc_of (own := RX1) B hml rfl hv
  have hw : GW G u s s.heap [] := ⟨hv.2.1, va_S.rf⟩
  have hr := B.returns
  obtain ⟨hx, hb, hml, hown, hts, -⟩ := id X
  have hl := lv_entry ([.ref a0, .int x1]) (n := 2) (Nat.le_of_ble_eq_true rfl)
  rw [lg_entry_eq]
  generalize (lg_sl ([.ref a0, .int x1]) ++ List.replicate (2 - (lg_sl ([.ref a0, .int x1])).length) Slot.unset).toArray = ls at hl ⊢
  have hl : lv_has ls 2 [(0, .ref a0), (1, .int x1)] := hl
  change W p l e (rmX1_judge 0 0) s m _ below meth c s.heap [] 0 0 (QI G below K _ s 0 0) (F0 m 0 ls [])
  unfold pX1_judge at h
  refine lv_aload_n hx hb dX1_judge_0 rfl (lv_at hl 0 rfl) ?_
  have hk_1 : kd u a0 = 1 := h.1
  have h := h.2
  refine g_callv hw (g_V X hw (mX1_anew l G _ _ _ h) 0 (lw_V q535 q537 qs2 q122 q538) rfl rfl ydX1_anew ⟨Nat.le_of_ble_eq_true rfl, Nat.le_of_ble_eq_true rfl⟩ (g_recv X hw (ci := 0) (q := (RX1, TX1, 16)) hk_1 rfl) (As := []) (rest := []) rfl hl.1 rfl (Nat.le_of_ble_eq_true rfl) dX1_judge_1 ⟨Nat.le_refl _, Nat.le_refl _⟩) (fun u_2 H locs h hw => ?_)
  refine lv_aload_n hx hb dX1_judge_4 rfl (lv_at hl 0 rfl) ?_
  refine lv_iload_n hx hb dX1_judge_5 rfl (lv_at hl 1 rfl) ?_
  have hk_3 : kd u_2 a0 = 1 := h.1
  have h := h.2
  refine g_callio hw (g_V X hw (mX1_isEvening l G _ _ _ _ h) 1 (lw_V q1298 q1300 qs40 q122 q1301) rfl rfl ydX1_isEvening ⟨Nat.le_of_ble_eq_true rfl, Nat.le_of_ble_eq_true rfl⟩ (g_recv X hw (ci := 0) (q := (RX1, TX1, 16)) hk_3 rfl) (As := [.int x1]) (rest := []) rfl hl.1 rfl (Nat.le_of_ble_eq_true rfl) dX1_judge_6 ⟨Nat.le_refl _, Nat.le_refl _⟩) (fun r_4 H locs h hw => ?_)
  refine lv_if_eq (tgt := 48) hx hb dX1_judge_9 rfl (fun c_21 => ?_) (fun c_21 => ?_)
  · have h := h.1 c_21
    refine lv_aload_n hx hb dX1_judge_48 rfl (lv_at hl 0 rfl) ?_
    refine lv_iconst (v := 1) hx hb dX1_judge_49 (by decide) ?_
    refine g_calli hw (g_V X hw (mX1_no l G _ _ _ _ h) 1 (lw_V q542 q544 qs3 q122 q545) rfl rfl ydX1_no ⟨Nat.le_of_ble_eq_true rfl, Nat.le_of_ble_eq_true rfl⟩ (g_recv X hw (ci := 0) (q := (RX1, TX1, 16)) hk_3 rfl) (As := [.int 1]) (rest := []) rfl hl.1 rfl (Nat.le_of_ble_eq_true rfl) dX1_judge_50 ⟨Nat.le_refl _, Nat.le_refl _⟩) (fun r_5 u_6 H locs h hw => ?_)
    exact g_iret X hw hr h (Nat.le_refl _) (Nat.le_refl _) dX1_judge_53
  · have h := h.2 c_21
    refine lv_aload_n hx hb dX1_judge_12 rfl (lv_at hl 0 rfl) ?_
    obtain ⟨b_7, e_8, h⟩ := h
    refine g_getR X hw in_X1 hk_3 rfl 9 rfl (by decide) q482 (fun _ z => z) e_8 dX1_judge_13 ?_
    refine lv_aload_n hx hb dX1_judge_16 rfl (lv_at hl 0 rfl) ?_
    obtain ⟨b_9, e_10, h⟩ := h
    refine g_getR X hw in_X1 hk_3 rfl 11 rfl (by decide) q484 (fun _ z => z) e_10 dX1_judge_17 ?_
    have hk_11 : kd u_2 b_9 = 5 := h.1
    have h := h.2
    obtain ⟨b_12, e_13, h⟩ := h
    refine g_getR X hw in_X5 hk_11 rfl 0 rfl (by decide) q341 (fun _ z => z) e_13 dX1_judge_20 ?_
    refine lv_iload_n hx hb dX1_judge_23 rfl (lv_at hl 1 rfl) ?_
    have hk_14 : kd u_2 b_12 = 101 := h.1
    have h := h.2
    refine g_iald X hw hk_14 h.1 dX1_judge_24 ?_
    have h := h.2
    refine lv_aload_n hx hb dX1_judge_25 rfl (lv_at hl 0 rfl) ?_
    refine g_getR X hw in_X1 hk_3 rfl 11 rfl (by decide) q484 (fun _ z => z) e_10 dX1_judge_26 ?_
    obtain ⟨b_15, e_16, h⟩ := h
    refine g_getR X hw in_X5 hk_11 rfl 1 rfl (by decide) q343 (fun _ z => z) e_16 dX1_judge_29 ?_
    refine lv_iload_n hx hb dX1_judge_32 rfl (lv_at hl 1 rfl) ?_
    have hk_17 : kd u_2 b_15 = 101 := h.1
    have h := h.2
    refine g_iald X hw hk_17 h.1 dX1_judge_33 ?_
    have h := h.2
    have hk_18 : kd u_2 b_7 = 4 := h.1
    have h := h.2
    refine g_callio hw (g_V X hw (mX4_fits l G _ _ _ _ _ h) 2 (lw_V q1058 q1059 q1060 q128 q1061) rfl rfl ydX4_fits ⟨Nat.le_of_ble_eq_true rfl, Nat.le_of_ble_eq_true rfl⟩ (g_recv X hw (ci := 3) (q := (RX4, TX4, 14)) hk_18 rfl) (As := [.int (AI u_2 b_12 (tn x1)), .int (AI u_2 b_15 (tn x1))]) (rest := []) rfl hl.1 rfl (Nat.le_of_ble_eq_true rfl) dX1_judge_34 ⟨Nat.le_refl _, Nat.le_refl _⟩) (fun r_19 H locs h hw => ?_)
    refine lv_if_eq (tgt := 44) hx hb dX1_judge_37 rfl (fun c_20 => ?_) (fun c_20 => ?_)
    · have h := h.1 c_20
      refine lv_iconst (v := 0) hx hb dX1_judge_44 (by decide) ?_
      refine lv_goto (tgt := 53) hx hb dX1_judge_45 rfl ?_
      exact g_iret X hw hr h (Nat.le_refl _) (Nat.le_refl _) dX1_judge_53
    · have h := h.2 c_20
      refine lv_iconst (v := 1) hx hb dX1_judge_40 (by decide) ?_
      refine lv_goto (tgt := 53) hx hb dX1_judge_41 rfl ?_
      exact g_iret X hw hr h (Nat.le_refl _) (Nat.le_refl _) dX1_judge_53

/-! FifthCardModel.isEvening(I)Z -/
theorem ydX19_isEvening : yX19_isEvening.cls = "FifthCardModel" ∧ yX19_isEvening.cls ≠ "java/lang/invoke/MethodHandle" ∧ yX19_isEvening.cls ≠ "java/lang/invoke/VarHandle" ∧ (parseMethodDescriptor yX19_isEvening.desc).map (fun d => d.parameters.length) = some 1 := by decide +kernel
def rmX19_isEvening (mc ms : Nat) : Room := { frames := 0, cells := mc, slots := ms, locals := 0 }
set_option maxHeartbeats 4000000 in
theorem mX19_isEvening (l : Launch) (G : GT) (u : Hp) (a0 : Nat) (x1 : Int32) (K : Int32 → Prop) (h : pX19_isEvening u a0 x1 K) : Met l yX19_isEvening (ws_ yX19_isEvening cX19_isEvening 2 (some .boolean)) (rmX19_isEvening 0 0) (va_Pc [.ref a0, .int x1] (GB G u)) (va_Qi (fun r v => v = u ∧ K r) (fun u t => GH G u t.heap) (GA G)) 0 0 (GA G) := by
  refine Met.ofW (cc := cX19_isEvening) (maxL := 2) (ret := (some .boolean)) (by decide) rfl ?_
  intro p e s m args below meth c s₁ B hml hv
  obtain ⟨rfl, hv⟩ := hv
  have X := Mc_of (own := RX19) B hml rfl hv
  have hw : GW G u s s.heap [] := ⟨hv.2.1, va_S.rf⟩
  have hr := B.returns
  obtain ⟨hx, hb, hml, hown, hts, -⟩ := id X
  have hl := lv_entry ([.ref a0, .int x1]) (n := 2) (Nat.le_of_ble_eq_true rfl)
  rw [lg_entry_eq]
  generalize (lg_sl ([.ref a0, .int x1]) ++ List.replicate (2 - (lg_sl ([.ref a0, .int x1])).length) Slot.unset).toArray = ls at hl ⊢
  have hl : lv_has ls 2 [(0, .ref a0), (1, .int x1)] := hl
  change W p l e (rmX19_isEvening 0 0) s m _ below meth c s.heap [] 0 0 (QI G below (fun r v => v = u ∧ K r) _ s 0 0) (F0 m 0 ls [])
  unfold pX19_isEvening at h
  refine lv_aload_n hx hb dX19_isEvening_0 rfl (lv_at hl 0 rfl) ?_
  have hk_1 : kd u a0 = 16 := h.1
  have h := h.2
  refine g_getO X hw in_X19 hk_1 rfl 3 rfl (by decide) q1454 (fun _ z => z) dX19_isEvening_1 ?_
  refine g_ifnull X dX19_isEvening_4 rfl (fun e_3 => ?_) (fun b_2 e_3 => ?_)
  · have h := h.1 e_3
    refine lv_iconst (v := 0) hx hb dX19_isEvening_23 (by decide) ?_
    exact g_zret X hw hr rfl ⟨rfl, h⟩ (Nat.le_refl _) (Nat.le_refl _) dX19_isEvening_24
  · have h := h.2 b_2 e_3
    refine lv_iload_n hx hb dX19_isEvening_7 rfl (lv_at hl 1 rfl) ?_
    refine lv_if_lt (tgt := 23) hx hb dX19_isEvening_8 rfl (fun c_5 => ?_) (fun c_5 => ?_)
    · have h := h.1 c_5
      refine lv_iconst (v := 0) hx hb dX19_isEvening_23 (by decide) ?_
      exact g_zret X hw hr rfl ⟨rfl, h⟩ (Nat.le_refl _) (Nat.le_refl _) dX19_isEvening_24
    · have h := h.2 c_5
      refine lv_iload_n hx hb dX19_isEvening_11 rfl (lv_at hl 1 rfl) ?_
      refine lv_aload_n hx hb dX19_isEvening_12 rfl (lv_at hl 0 rfl) ?_
      refine g_getI X hw in_X19 hk_1 rfl 43 rfl (by decide) q1494 (fun _ z => z) dX19_isEvening_13 ?_
      refine lv_icmp_ge (tgt := 23) hx hb dX19_isEvening_16 rfl (fun c_4 => ?_) (fun c_4 => ?_)
      · have h := h.1 c_4
        refine lv_iconst (v := 0) hx hb dX19_isEvening_23 (by decide) ?_
        exact g_zret X hw hr rfl ⟨rfl, h⟩ (Nat.le_refl _) (Nat.le_refl _) dX19_isEvening_24
      · have h := h.2 c_4
        refine lv_iconst (v := 1) hx hb dX19_isEvening_19 (by decide) ?_
        refine lv_goto (tgt := 24) hx hb dX19_isEvening_20 rfl ?_
        exact g_zret X hw hr rfl ⟨rfl, h⟩ (Nat.le_refl _) (Nat.le_refl _) dX19_isEvening_24

/-! FifthCardModel.judge(I)I -/
theorem ydX19_judge : yX19_judge.cls = "FifthCardModel" ∧ yX19_judge.cls ≠ "java/lang/invoke/MethodHandle" ∧ yX19_judge.cls ≠ "java/lang/invoke/VarHandle" ∧ (parseMethodDescriptor yX19_judge.desc).map (fun d => d.parameters.length) = some 1 := by decide +kernel
def rmX19_judge (mc ms : Nat) : Room := { frames := 3, cells := mc, slots := ms, locals := 72 }
set_option maxHeartbeats 4000000 in
theorem mX19_judge (l : Launch) (G : GT) (u : Hp) (a0 : Nat) (x1 : Int32) (K : Int32 → Hp → Prop) (h : pX19_judge u a0 x1 K) : Met l yX19_judge (ws_ yX19_judge cX19_judge 2 (some .int)) (rmX19_judge 0 0) (va_Pc [.ref a0, .int x1] (GB G u)) (va_Qi K (fun u t => GH G u t.heap) (GA G)) 0 0 (GA G) := by
  refine Met.ofW (cc := cX19_judge) (maxL := 2) (ret := (some .int)) (by decide) rfl ?_
  intro p e s m args below meth c s₁ B hml hv
  obtain ⟨rfl, hv⟩ := hv
  have X := Mc_of (own := RX19) B hml rfl hv
  have hw : GW G u s s.heap [] := ⟨hv.2.1, va_S.rf⟩
  have hr := B.returns
  obtain ⟨hx, hb, hml, hown, hts, -⟩ := id X
  have hl := lv_entry ([.ref a0, .int x1]) (n := 2) (Nat.le_of_ble_eq_true rfl)
  rw [lg_entry_eq]
  generalize (lg_sl ([.ref a0, .int x1]) ++ List.replicate (2 - (lg_sl ([.ref a0, .int x1])).length) Slot.unset).toArray = ls at hl ⊢
  have hl : lv_has ls 2 [(0, .ref a0), (1, .int x1)] := hl
  change W p l e (rmX19_judge 0 0) s m _ below meth c s.heap [] 0 0 (QI G below K _ s 0 0) (F0 m 0 ls [])
  unfold pX19_judge at h
  refine lv_aload_n hx hb dX19_judge_0 rfl (lv_at hl 0 rfl) ?_
  refine lv_iconst (v := 0) hx hb dX19_judge_1 (by decide) ?_
  have hk_1 : kd u a0 = 16 := h.1
  have h := h.2
  refine g_putI (v := 0) X hw in_X19 tyX19_ok nmX19 hk_1 rfl 0 rfl (by decide) q1451 (fun _ z => z) rfl rfl rfl dX19_judge_2 (fun H locs hw => ?_)
  refine lv_aload_n hx hb dX19_judge_5 rfl (lv_at hl 0 rfl) ?_
  refine lv_iload_n hx hb dX19_judge_6 rfl (lv_at hl 1 rfl) ?_
  refine g_callio hw (g_V X hw (mX19_isEvening l G _ _ _ _ h) 1 (lw_V q2121 q2123 qs114 q143 q2124) rfl rfl ydX19_isEvening ⟨Nat.le_of_ble_eq_true rfl, Nat.le_of_ble_eq_true rfl⟩ (g_recv X hw (ci := 15) (q := (RX19, TX19, 46)) hk_1 rfl) (As := [.int x1]) (rest := []) rfl hl.1 rfl (Nat.le_of_ble_eq_true rfl) dX19_judge_7 ⟨Nat.le_refl _, Nat.le_refl _⟩) (fun r_2 H locs h hw => ?_)
  refine lv_if_eq (tgt := 44) hx hb dX19_judge_10 rfl (fun c_20 => ?_) (fun c_20 => ?_)
  · have h := h.1 c_20
    refine lv_aload_n hx hb dX19_judge_44 rfl (lv_at hl 0 rfl) ?_
    refine lv_iconst (v := 1) hx hb dX19_judge_45 (by decide) ?_
    refine g_calli hw (g_V X hw (mX19_refused l G _ _ _ _ h) 1 (lw_V q1603 q1605 qs47 q143 q1606) rfl rfl ydX19_refused ⟨Nat.le_of_ble_eq_true rfl, Nat.le_of_ble_eq_true rfl⟩ (g_recv X hw (ci := 15) (q := (RX19, TX19, 46)) hk_1 rfl) (As := [.int 1]) (rest := []) rfl hl.1 rfl (Nat.le_of_ble_eq_true rfl) dX19_judge_46 ⟨Nat.le_refl _, Nat.le_refl _⟩) (fun r_3 u_4 H locs h hw => ?_)
    exact g_iret X hw hr h (Nat.le_refl _) (Nat.le_refl _) dX19_judge_49
  · have h := h.2 c_20
    refine lv_aload_n hx hb dX19_judge_13 rfl (lv_at hl 0 rfl) ?_
    refine lv_aload_n hx hb dX19_judge_14 rfl (lv_at hl 0 rfl) ?_
    refine lv_aload_n hx hb dX19_judge_15 rfl (lv_at hl 0 rfl) ?_
    obtain ⟨b_5, e_6, h⟩ := h
    refine g_getR X hw in_X19 hk_1 rfl 37 rfl (by decide) q1488 (fun _ z => z) e_6 dX19_judge_16 ?_
    refine lv_iload_n hx hb dX19_judge_19 rfl (lv_at hl 1 rfl) ?_
    have hk_7 : kd u b_5 = 101 := h.1
    have h := h.2
    refine g_iald X hw hk_7 h.1 dX19_judge_20 ?_
    have h := h.2
    refine lv_aload_n hx hb dX19_judge_21 rfl (lv_at hl 0 rfl) ?_
    obtain ⟨b_8, e_9, h⟩ := h
    refine g_getR X hw in_X19 hk_1 rfl 38 rfl (by decide) q1489 (fun _ z => z) e_9 dX19_judge_22 ?_
    refine lv_iload_n hx hb dX19_judge_25 rfl (lv_at hl 1 rfl) ?_
    have hk_10 : kd u b_8 = 101 := h.1
    have h := h.2
    refine g_iald X hw hk_10 h.1 dX19_judge_26 ?_
    have h := h.2
    refine g_calli hw (g_V X hw (mX19_rowFits l G _ _ _ _ _ h) 2 (lw_V q1923 q1925 qs82 q143 q1926) rfl rfl ydX19_rowFits ⟨Nat.le_of_ble_eq_true rfl, Nat.le_of_ble_eq_true rfl⟩ (g_recv X hw (ci := 15) (q := (RX19, TX19, 46)) hk_1 rfl) (As := [.int (AI u b_5 (tn x1)), .int (AI u b_8 (tn x1))]) (rest := [.ref a0]) rfl hl.1 rfl (Nat.le_of_ble_eq_true rfl) dX19_judge_27 ⟨Nat.le_refl _, Nat.le_refl _⟩) (fun r_11 u_12 H locs h hw => ?_)
    refine lv_if_eq (tgt := 37) hx hb dX19_judge_30 rfl (fun c_19 => ?_) (fun c_19 => ?_)
    · have h := h.1 c_19
      refine lv_iconst (v := 0) hx hb dX19_judge_37 (by decide) ?_
      have hk_13 : kd u_12 a0 = 16 := h.1
      have h := h.2
      refine g_calli hw (g_V X hw (mX19_good l G _ _ _ _ h) 1 (lw_V q1867 q1869 qs77 q143 q1870) rfl rfl ydX19_good ⟨Nat.le_of_ble_eq_true rfl, Nat.le_of_ble_eq_true rfl⟩ (g_recv X hw (ci := 15) (q := (RX19, TX19, 46)) hk_13 rfl) (As := [.int 0]) (rest := []) rfl hl.1 rfl (Nat.le_of_ble_eq_true rfl) dX19_judge_38 ⟨Nat.le_refl _, Nat.le_refl _⟩) (fun r_14 u_15 H locs h hw => ?_)
      refine lv_goto (tgt := 49) hx hb dX19_judge_41 rfl ?_
      exact g_iret X hw hr h (Nat.le_refl _) (Nat.le_refl _) dX19_judge_49
    · have h := h.2 c_19
      refine lv_iconst (v := 1) hx hb dX19_judge_33 (by decide) ?_
      refine lv_goto (tgt := 38) hx hb dX19_judge_34 rfl ?_
      have hk_16 : kd u_12 a0 = 16 := h.1
      have h := h.2
      refine g_calli hw (g_V X hw (mX19_good l G _ _ _ _ h) 1 (lw_V q1867 q1869 qs77 q143 q1870) rfl rfl ydX19_good ⟨Nat.le_of_ble_eq_true rfl, Nat.le_of_ble_eq_true rfl⟩ (g_recv X hw (ci := 15) (q := (RX19, TX19, 46)) hk_16 rfl) (As := [.int 1]) (rest := []) rfl hl.1 rfl (Nat.le_of_ble_eq_true rfl) dX19_judge_38 ⟨Nat.le_refl _, Nat.le_refl _⟩) (fun r_17 u_18 H locs h hw => ?_)
      refine lv_goto (tgt := 49) hx hb dX19_judge_41 rfl ?_
      exact g_iret X hw hr h (Nat.le_refl _) (Nat.le_refl _) dX19_judge_49

/-! FifthCard.evening(IZ)I -/
theorem ydX1_evening : yX1_evening.cls = "FifthCard" ∧ yX1_evening.cls ≠ "java/lang/invoke/MethodHandle" ∧ yX1_evening.cls ≠ "java/lang/invoke/VarHandle" ∧ (parseMethodDescriptor yX1_evening.desc).map (fun d => d.parameters.length) = some 2 := by decide +kernel
def rmX1_evening (mc ms : Nat) : Room := { frames := 2, cells := mc, slots := ms, locals := 43 }
set_option maxHeartbeats 4000000 in
theorem mX1_evening (l : Launch) (G : GT) (u : Hp) (a0 : Nat) (x1 : Int32) (x2 : Int32) (K : Int32 → Hp → Prop) (h : pX1_evening u a0 x1 x2 K) : Met l yX1_evening (ws_ yX1_evening cX1_evening 3 (some .int)) (rmX1_evening 0 0) (va_Pc [.ref a0, .int x1, .int x2] (GB G u)) (va_Qi K (fun u t => GH G u t.heap) (GA G)) 0 0 (GA G) := by
  refine Met.ofW (cc := cX1_evening) (maxL := 3) (ret := (some .int)) (by decide) rfl ?_
  intro p e s m args below meth c s₁ B hml hv
  obtain ⟨rfl, hv⟩ := hv
  have X := Mc_of (own := RX1) B hml rfl hv
  have hw : GW G u s s.heap [] := ⟨hv.2.1, va_S.rf⟩
  have hr := B.returns
  obtain ⟨hx, hb, hml, hown, hts, -⟩ := id X
  have hl := lv_entry ([.ref a0, .int x1, .int x2]) (n := 3) (Nat.le_of_ble_eq_true rfl)
  rw [lg_entry_eq]
  generalize (lg_sl ([.ref a0, .int x1, .int x2]) ++ List.replicate (3 - (lg_sl ([.ref a0, .int x1, .int x2])).length) Slot.unset).toArray = ls at hl ⊢
  have hl : lv_has ls 3 [(0, .ref a0), (1, .int x1), (2, .int x2)] := hl
  change W p l e (rmX1_evening 0 0) s m _ below meth c s.heap [] 0 0 (QI G below K _ s 0 0) (F0 m 0 ls [])
  unfold pX1_evening at h
  refine lv_aload_n hx hb dX1_evening_0 rfl (lv_at hl 0 rfl) ?_
  have hk_1 : kd u a0 = 1 := h.1
  have h := h.2
  refine g_callv hw (g_V X hw (mX1_anew l G _ _ _ h) 0 (lw_V q535 q537 qs2 q122 q538) rfl rfl ydX1_anew ⟨Nat.le_of_ble_eq_true rfl, Nat.le_of_ble_eq_true rfl⟩ (g_recv X hw (ci := 0) (q := (RX1, TX1, 16)) hk_1 rfl) (As := []) (rest := []) rfl hl.1 rfl (Nat.le_of_ble_eq_true rfl) dX1_evening_1 ⟨Nat.le_refl _, Nat.le_refl _⟩) (fun u_2 H locs h hw => ?_)
  refine lv_aload_n hx hb dX1_evening_4 rfl (lv_at hl 0 rfl) ?_
  refine lv_iload_n hx hb dX1_evening_5 rfl (lv_at hl 1 rfl) ?_
  have hk_3 : kd u_2 a0 = 1 := h.1
  have h := h.2
  refine g_callio hw (g_V X hw (mX1_isEvening l G _ _ _ _ h) 1 (lw_V q1298 q1300 qs40 q122 q1301) rfl rfl ydX1_isEvening ⟨Nat.le_of_ble_eq_true rfl, Nat.le_of_ble_eq_true rfl⟩ (g_recv X hw (ci := 0) (q := (RX1, TX1, 16)) hk_3 rfl) (As := [.int x1]) (rest := []) rfl hl.1 rfl (Nat.le_of_ble_eq_true rfl) dX1_evening_6 ⟨Nat.le_refl _, Nat.le_refl _⟩) (fun r_4 H locs h hw => ?_)
  refine lv_if_eq (tgt := 40) hx hb dX1_evening_9 rfl (fun c_20 => ?_) (fun c_20 => ?_)
  · have h := h.1 c_20
    refine lv_aload_n hx hb dX1_evening_40 rfl (lv_at hl 0 rfl) ?_
    refine lv_iconst (v := 1) hx hb dX1_evening_41 (by decide) ?_
    refine g_calli hw (g_V X hw (mX1_no l G _ _ _ _ h) 1 (lw_V q542 q544 qs3 q122 q545) rfl rfl ydX1_no ⟨Nat.le_of_ble_eq_true rfl, Nat.le_of_ble_eq_true rfl⟩ (g_recv X hw (ci := 0) (q := (RX1, TX1, 16)) hk_3 rfl) (As := [.int 1]) (rest := []) rfl hl.1 rfl (Nat.le_of_ble_eq_true rfl) dX1_evening_42 ⟨Nat.le_refl _, Nat.le_refl _⟩) (fun r_5 u_6 H locs h hw => ?_)
    exact g_iret X hw hr h (Nat.le_refl _) (Nat.le_refl _) dX1_evening_45
  · have h := h.2 c_20
    refine lv_iload_n hx hb dX1_evening_12 rfl (lv_at hl 2 rfl) ?_
    refine lv_if_eq (tgt := 28) hx hb dX1_evening_13 rfl (fun c_19 => ?_) (fun c_19 => ?_)
    · have h := h.1 c_19
      refine lv_aload_n hx hb dX1_evening_28 rfl (lv_at hl 0 rfl) ?_
      obtain ⟨b_7, e_8, h⟩ := h
      refine g_getR X hw in_X1 hk_3 rfl 11 rfl (by decide) q484 (fun _ z => z) e_8 dX1_evening_29 ?_
      have hk_9 : kd u_2 b_7 = 5 := h.1
      have h := h.2
      obtain ⟨b_10, e_11, h⟩ := h
      refine g_getR X hw in_X5 hk_9 rfl 0 rfl (by decide) q341 (fun _ z => z) e_11 dX1_evening_32 ?_
      refine lv_iload_n hx hb dX1_evening_35 rfl (lv_at hl 1 rfl) ?_
      have hk_12 : kd u_2 b_10 = 101 := h.1
      have h := h.2
      refine g_iald X hw hk_12 h.1 dX1_evening_36 ?_
      have h := h.2
      refine lv_goto (tgt := 45) hx hb dX1_evening_37 rfl ?_
      exact g_iret X hw hr h (Nat.le_refl _) (Nat.le_refl _) dX1_evening_45
    · have h := h.2 c_19
      refine lv_aload_n hx hb dX1_evening_16 rfl (lv_at hl 0 rfl) ?_
      obtain ⟨b_13, e_14, h⟩ := h
      refine g_getR X hw in_X1 hk_3 rfl 11 rfl (by decide) q484 (fun _ z => z) e_14 dX1_evening_17 ?_
      have hk_15 : kd u_2 b_13 = 5 := h.1
      have h := h.2
      obtain ⟨b_16, e_17, h⟩ := h
      refine g_getR X hw in_X5 hk_15 rfl 1 rfl (by decide) q343 (fun _ z => z) e_17 dX1_evening_20 ?_
      refine lv_iload_n hx hb dX1_evening_23 rfl (lv_at hl 1 rfl) ?_
      have hk_18 : kd u_2 b_16 = 101 := h.1
      have h := h.2
      refine g_iald X hw hk_18 h.1 dX1_evening_24 ?_
      have h := h.2
      refine lv_goto (tgt := 45) hx hb dX1_evening_25 rfl ?_
      exact g_iret X hw hr h (Nat.le_refl _) (Nat.le_refl _) dX1_evening_45

/-! FifthCardModel.evening(IZ)I -/
theorem ydX19_evening : yX19_evening.cls = "FifthCardModel" ∧ yX19_evening.cls ≠ "java/lang/invoke/MethodHandle" ∧ yX19_evening.cls ≠ "java/lang/invoke/VarHandle" ∧ (parseMethodDescriptor yX19_evening.desc).map (fun d => d.parameters.length) = some 2 := by decide +kernel
def rmX19_evening (mc ms : Nat) : Room := { frames := 1, cells := mc, slots := ms, locals := 21 }
set_option maxHeartbeats 4000000 in
theorem mX19_evening (l : Launch) (G : GT) (u : Hp) (a0 : Nat) (x1 : Int32) (x2 : Int32) (K : Int32 → Hp → Prop) (h : pX19_evening u a0 x1 x2 K) : Met l yX19_evening (ws_ yX19_evening cX19_evening 3 (some .int)) (rmX19_evening 0 0) (va_Pc [.ref a0, .int x1, .int x2] (GB G u)) (va_Qi K (fun u t => GH G u t.heap) (GA G)) 0 0 (GA G) := by
  refine Met.ofW (cc := cX19_evening) (maxL := 3) (ret := (some .int)) (by decide) rfl ?_
  intro p e s m args below meth c s₁ B hml hv
  obtain ⟨rfl, hv⟩ := hv
  have X := Mc_of (own := RX19) B hml rfl hv
  have hw : GW G u s s.heap [] := ⟨hv.2.1, va_S.rf⟩
  have hr := B.returns
  obtain ⟨hx, hb, hml, hown, hts, -⟩ := id X
  have hl := lv_entry ([.ref a0, .int x1, .int x2]) (n := 3) (Nat.le_of_ble_eq_true rfl)
  rw [lg_entry_eq]
  generalize (lg_sl ([.ref a0, .int x1, .int x2]) ++ List.replicate (3 - (lg_sl ([.ref a0, .int x1, .int x2])).length) Slot.unset).toArray = ls at hl ⊢
  have hl : lv_has ls 3 [(0, .ref a0), (1, .int x1), (2, .int x2)] := hl
  change W p l e (rmX19_evening 0 0) s m _ below meth c s.heap [] 0 0 (QI G below K _ s 0 0) (F0 m 0 ls [])
  unfold pX19_evening at h
  refine lv_aload_n hx hb dX19_evening_0 rfl (lv_at hl 0 rfl) ?_
  refine lv_iconst (v := 0) hx hb dX19_evening_1 (by decide) ?_
  have hk_1 : kd u a0 = 16 := h.1
  have h := h.2
  refine g_putI (v := 0) X hw in_X19 tyX19_ok nmX19 hk_1 rfl 0 rfl (by decide) q1451 (fun _ z => z) rfl rfl rfl dX19_evening_2 (fun H locs hw => ?_)
  refine lv_aload_n hx hb dX19_evening_5 rfl (lv_at hl 0 rfl) ?_
  refine lv_iload_n hx hb dX19_evening_6 rfl (lv_at hl 1 rfl) ?_
  refine g_callio hw (g_V X hw (mX19_isEvening l G _ _ _ _ h) 1 (lw_V q2121 q2123 qs114 q143 q2124) rfl rfl ydX19_isEvening ⟨Nat.le_of_ble_eq_true rfl, Nat.le_of_ble_eq_true rfl⟩ (g_recv X hw (ci := 15) (q := (RX19, TX19, 46)) hk_1 rfl) (As := [.int x1]) (rest := []) rfl hl.1 rfl (Nat.le_of_ble_eq_true rfl) dX19_evening_7 ⟨Nat.le_refl _, Nat.le_refl _⟩) (fun r_2 H locs h hw => ?_)
  refine lv_if_eq (tgt := 39) hx hb dX19_evening_10 rfl (fun c_16 => ?_) (fun c_16 => ?_)
  · have h := h.1 c_16
    refine lv_aload_n hx hb dX19_evening_39 rfl (lv_at hl 0 rfl) ?_
    refine lv_iconst (v := 1) hx hb dX19_evening_40 (by decide) ?_
    refine g_calli hw (g_V X hw (mX19_refused l G _ _ _ _ h) 1 (lw_V q1603 q1605 qs47 q143 q1606) rfl rfl ydX19_refused ⟨Nat.le_of_ble_eq_true rfl, Nat.le_of_ble_eq_true rfl⟩ (g_recv X hw (ci := 15) (q := (RX19, TX19, 46)) hk_1 rfl) (As := [.int 1]) (rest := []) rfl hl.1 rfl (Nat.le_of_ble_eq_true rfl) dX19_evening_41 ⟨Nat.le_refl _, Nat.le_refl _⟩) (fun r_3 u_4 H locs h hw => ?_)
    exact g_iret X hw hr h (Nat.le_refl _) (Nat.le_refl _) dX19_evening_44
  · have h := h.2 c_16
    refine lv_aload_n hx hb dX19_evening_13 rfl (lv_at hl 0 rfl) ?_
    refine lv_iload_n hx hb dX19_evening_14 rfl (lv_at hl 2 rfl) ?_
    refine lv_if_eq (tgt := 27) hx hb dX19_evening_15 rfl (fun c_15 => ?_) (fun c_15 => ?_)
    · have h := h.1 c_15
      refine lv_aload_n hx hb dX19_evening_27 rfl (lv_at hl 0 rfl) ?_
      obtain ⟨b_5, e_6, h⟩ := h
      refine g_getR X hw in_X19 hk_1 rfl 37 rfl (by decide) q1488 (fun _ z => z) e_6 dX19_evening_28 ?_
      refine lv_iload_n hx hb dX19_evening_31 rfl (lv_at hl 1 rfl) ?_
      have hk_7 : kd u b_5 = 101 := h.1
      have h := h.2
      refine g_iald X hw hk_7 h.1 dX19_evening_32 ?_
      have h := h.2
      refine g_calli hw (g_V X hw (mX19_good l G _ _ _ _ h) 1 (lw_V q1867 q1869 qs77 q143 q1870) rfl rfl ydX19_good ⟨Nat.le_of_ble_eq_true rfl, Nat.le_of_ble_eq_true rfl⟩ (g_recv X hw (ci := 15) (q := (RX19, TX19, 46)) hk_1 rfl) (As := [.int (AI u b_5 (tn x1))]) (rest := []) rfl hl.1 rfl (Nat.le_of_ble_eq_true rfl) dX19_evening_33 ⟨Nat.le_refl _, Nat.le_refl _⟩) (fun r_8 u_9 H locs h hw => ?_)
      refine lv_goto (tgt := 44) hx hb dX19_evening_36 rfl ?_
      exact g_iret X hw hr h (Nat.le_refl _) (Nat.le_refl _) dX19_evening_44
    · have h := h.2 c_15
      refine lv_aload_n hx hb dX19_evening_18 rfl (lv_at hl 0 rfl) ?_
      obtain ⟨b_10, e_11, h⟩ := h
      refine g_getR X hw in_X19 hk_1 rfl 38 rfl (by decide) q1489 (fun _ z => z) e_11 dX19_evening_19 ?_
      refine lv_iload_n hx hb dX19_evening_22 rfl (lv_at hl 1 rfl) ?_
      have hk_12 : kd u b_10 = 101 := h.1
      have h := h.2
      refine g_iald X hw hk_12 h.1 dX19_evening_23 ?_
      have h := h.2
      refine lv_goto (tgt := 33) hx hb dX19_evening_24 rfl ?_
      refine g_calli hw (g_V X hw (mX19_good l G _ _ _ _ h) 1 (lw_V q1867 q1869 qs77 q143 q1870) rfl rfl ydX19_good ⟨Nat.le_of_ble_eq_true rfl, Nat.le_of_ble_eq_true rfl⟩ (g_recv X hw (ci := 15) (q := (RX19, TX19, 46)) hk_1 rfl) (As := [.int (AI u b_10 (tn x1))]) (rest := []) rfl hl.1 rfl (Nat.le_of_ble_eq_true rfl) dX19_evening_33 ⟨Nat.le_refl _, Nat.le_refl _⟩) (fun r_13 u_14 H locs h hw => ?_)
      refine lv_goto (tgt := 44) hx hb dX19_evening_36 rfl ?_
      exact g_iret X hw hr h (Nat.le_refl _) (Nat.le_refl _) dX19_evening_44

/-! FifthCard.doesAgree(II)Z -/
theorem ydX1_doesAgree : yX1_doesAgree.cls = "FifthCard" ∧ yX1_doesAgree.cls ≠ "java/lang/invoke/MethodHandle" ∧ yX1_doesAgree.cls ≠ "java/lang/invoke/VarHandle" ∧ (parseMethodDescriptor yX1_doesAgree.desc).map (fun d => d.parameters.length) = some 2 := by decide +kernel
def rmX1_doesAgree (mc ms : Nat) : Room := { frames := 7, cells := mc, slots := ms, locals := 173 }
set_option maxHeartbeats 4000000 in
theorem mX1_doesAgree (l : Launch) (G : GT) (u : Hp) (a0 : Nat) (x1 : Int32) (x2 : Int32) (K : Int32 → Hp → Prop) (h : pX1_doesAgree u a0 x1 x2 K) : Met l yX1_doesAgree (ws_ yX1_doesAgree cX1_doesAgree 3 (some .boolean)) (rmX1_doesAgree 0 0) (va_Pc [.ref a0, .int x1, .int x2] (GB G u)) (va_Qi K (fun u t => GH G u t.heap) (GA G)) 0 0 (GA G) := by
  refine Met.ofW (cc := cX1_doesAgree) (maxL := 3) (ret := (some .boolean)) (by decide) rfl ?_
  intro p e s m args below meth c s₁ B hml hv
  obtain ⟨rfl, hv⟩ := hv
  have X := Mc_of (own := RX1) B hml rfl hv
  have hw : GW G u s s.heap [] := ⟨hv.2.1, va_S.rf⟩
  have hr := B.returns
  obtain ⟨hx, hb, hml, hown, hts, -⟩ := id X
  have hl := lv_entry ([.ref a0, .int x1, .int x2]) (n := 3) (Nat.le_of_ble_eq_true rfl)
  rw [lg_entry_eq]
  generalize (lg_sl ([.ref a0, .int x1, .int x2]) ++ List.replicate (3 - (lg_sl ([.ref a0, .int x1, .int x2])).length) Slot.unset).toArray = ls at hl ⊢
  have hl : lv_has ls 3 [(0, .ref a0), (1, .int x1), (2, .int x2)] := hl
  change W p l e (rmX1_doesAgree 0 0) s m _ below meth c s.heap [] 0 0 (QI G below K _ s 0 0) (F0 m 0 ls [])
  unfold pX1_doesAgree at h
  refine lv_aload_n hx hb dX1_doesAgree_0 rfl (lv_at hl 0 rfl) ?_
  refine lv_iload_n hx hb dX1_doesAgree_1 rfl (lv_at hl 2 rfl) ?_
  refine lv_aload_n hx hb dX1_doesAgree_2 rfl (lv_at hl 0 rfl) ?_
  have hk_1 : kd u a0 = 1 := h.1
  have h := h.2
  obtain ⟨b_2, e_3, h⟩ := h
  refine g_getR X hw in_X1 hk_1 rfl 11 rfl (by decide) q484 (fun _ z => z) e_3 dX1_doesAgree_3 ?_
  have hk_4 : kd u b_2 = 5 := h.1
  have h := h.2
  obtain ⟨b_5, e_6, h⟩ := h
  refine g_getR X hw in_X5 hk_4 rfl 0 rfl (by decide) q341 (fun _ z => z) e_6 dX1_doesAgree_6 ?_
  refine lv_iload_n hx hb dX1_doesAgree_9 rfl (lv_at hl 1 rfl) ?_
  have hk_7 : kd u b_5 = 101 := h.1
  have h := h.2
  refine g_iald X hw hk_7 h.1 dX1_doesAgree_10 ?_
  have h := h.2
  refine g_calli hw (g_V X hw (mX1_rowOf l G _ _ _ _ _ h) 2 (lw_V q1078 q1080 qs29 q122 q1081) rfl rfl ydX1_rowOf ⟨Nat.le_of_ble_eq_true rfl, Nat.le_of_ble_eq_true rfl⟩ (g_recv X hw (ci := 0) (q := (RX1, TX1, 16)) hk_1 rfl) (As := [.int x2, .int (AI u b_5 (tn x1))]) (rest := []) rfl hl.1 rfl (Nat.le_of_ble_eq_true rfl) dX1_doesAgree_11 ⟨Nat.le_refl _, Nat.le_refl _⟩) (fun r_8 u_9 H locs h hw => ?_)
  refine lv_aload_n hx hb dX1_doesAgree_14 rfl (lv_at hl 0 rfl) ?_
  have hk_10 : kd u_9 a0 = 1 := h.1
  have h := h.2
  obtain ⟨b_11, e_12, h⟩ := h
  refine g_getR X hw in_X1 hk_10 rfl 11 rfl (by decide) q484 (fun _ z => z) e_12 dX1_doesAgree_15 ?_
  have hk_13 : kd u_9 b_11 = 5 := h.1
  have h := h.2
  obtain ⟨b_14, e_15, h⟩ := h
  refine g_getR X hw in_X5 hk_13 rfl 1 rfl (by decide) q343 (fun _ z => z) e_15 dX1_doesAgree_18 ?_
  refine lv_iload_n hx hb dX1_doesAgree_21 rfl (lv_at hl 1 rfl) ?_
  have hk_16 : kd u_9 b_14 = 101 := h.1
  have h := h.2
  refine g_iald X hw hk_16 h.1 dX1_doesAgree_22 ?_
  have h := h.2
  refine lv_icmp_ne (tgt := 30) hx hb dX1_doesAgree_23 rfl (fun c_17 => ?_) (fun c_17 => ?_)
  · have h := h.2 c_17
    refine lv_iconst (v := 0) hx hb dX1_doesAgree_30 (by decide) ?_
    exact g_zret X hw hr rfl h (Nat.le_refl _) (Nat.le_refl _) dX1_doesAgree_31
  · have h := h.1 c_17
    refine lv_iconst (v := 1) hx hb dX1_doesAgree_26 (by decide) ?_
    refine lv_goto (tgt := 31) hx hb dX1_doesAgree_27 rfl ?_
    exact g_zret X hw hr rfl h (Nat.le_refl _) (Nat.le_refl _) dX1_doesAgree_31

/-! FifthCard.agrees(I)I -/
theorem ydX1_agrees : yX1_agrees.cls = "FifthCard" ∧ yX1_agrees.cls ≠ "java/lang/invoke/MethodHandle" ∧ yX1_agrees.cls ≠ "java/lang/invoke/VarHandle" ∧ (parseMethodDescriptor yX1_agrees.desc).map (fun d => d.parameters.length) = some 1 := by decide +kernel
def rmX1_agrees (mc ms : Nat) : Room := { frames := 8, cells := mc, slots := ms, locals := 195 }
set_option maxHeartbeats 4000000 in
theorem wX1_agrees_22 {G : GT} {p : Program} {l : Launch} {e : Env} {s : State} {m : MethodId} {args : Array Value} {below : List Frame} {meth : Method} {c : Code} {H : Heap} {locs : List Loc} {ls : Array Slot} {a0 : Nat} {x1 : Int32} {x2 : Int32} {x3 : Int32} {u : Hp} {K : Int32 → Hp → Prop} (X : Mc G p s m args meth c RX1 cX1_agrees 4) (hr : meth.sig.returnType = (some .int)) (h : jl3 (bX1_agrees_22 K a0 x1) x2 x3 u) (hw : GW G u s H locs) (hl : lv_has ls 4 [(0, .ref a0), (1, .int x1), (2, .int x2), (3, .int x3)]) : W p l e (rmX1_agrees 0 0) s m args below meth c H locs 0 0 (QI G below K args s 0 0) (F0 m 22 ls []) := by
  obtain ⟨hx, hb, hml, hown, hts, -⟩ := id X
  obtain ⟨I, μ, h0, hs⟩ := h
  have key : ∀ (n : Nat) (x2 : Int32) (x3 : Int32) (u : Hp) (H : Heap) (locs : List Loc) (ls : Array Slot) , μ x2 x3 u < n → I x2 x3 u → GW G u s H locs → lv_has ls 4 [(0, .ref a0), (1, .int x1), (2, .int x2), (3, .int x3)] → W p l e (rmX1_agrees 0 0) s m args below meth c H locs 0 0 (QI G below K args s 0 0) (F0 m 22 ls []) := by
    intro n
    induction n with
    | zero =>
      intro x2 x3 u H locs ls hn
      exact absurd hn (Nat.not_lt_zero _)
    | succ n ih =>
      intro x2 x3 u H locs ls hn hI hw hl
      have h := hs x2 x3 u hI
      unfold bX1_agrees_22 at h
      have hJ22 : ∀ (x2' : Int32) (x3' : Int32) (u' : Hp) (H : Heap) (locs : List Loc) (ls : Array Slot) , (I x2' x3' u' ∧ μ x2' x3' u' < μ x2 x3 u) → GW G u' s H locs → lv_has ls 4 [(0, .ref a0), (1, .int x1), (2, .int x2'), (3, .int x3')] → W p l e (rmX1_agrees 0 0) s m args below meth c H locs 0 0 (QI G below K args s 0 0) (F0 m 22 ls []) := fun x2' x3' u' H locs ls h hw hl => ih x2' x3' u' H locs ls (Nat.lt_of_lt_of_le h.2 (Nat.le_of_lt_succ hn)) h.1 hw hl
      refine lv_iload_n hx hb dX1_agrees_22 rfl (lv_at hl 3 rfl) ?_
      refine lv_aload_n hx hb dX1_agrees_23 rfl (lv_at hl 0 rfl) ?_
      have hk_1 : kd u a0 = 1 := h.1
      have h := h.2
      obtain ⟨b_2, e_3, h⟩ := h
      refine g_getR X hw in_X1 hk_1 rfl 11 rfl (by decide) q484 (fun _ z => z) e_3 dX1_agrees_24 ?_
      have hk_4 : kd u b_2 = 5 := h.1
      have h := h.2
      refine g_getI X hw in_X5 hk_4 rfl 2 rfl (by decide) q345 (fun _ z => z) dX1_agrees_27 ?_
      refine lv_icmp_ge (tgt := 56) hx hb dX1_agrees_30 rfl (fun c_8 => ?_) (fun c_8 => ?_)
      · have h := h.1 c_8
        refine lv_iload_n hx hb dX1_agrees_56 rfl (lv_at hl 2 rfl) ?_
        exact g_iret X hw hr h (Nat.le_refl _) (Nat.le_refl _) dX1_agrees_57
      · have h := h.2 c_8
        refine lv_iload_n hx hb dX1_agrees_33 rfl (lv_at hl 2 rfl) ?_
        refine lv_aload_n hx hb dX1_agrees_34 rfl (lv_at hl 0 rfl) ?_
        refine lv_iload_n hx hb dX1_agrees_35 rfl (lv_at hl 3 rfl) ?_
        refine lv_iload_n hx hb dX1_agrees_36 rfl (lv_at hl 1 rfl) ?_
        refine g_calli hw (g_V X hw (mX1_doesAgree l G _ _ _ _ _ h) 2 (lw_V q1310 q1312 qs41 q122 q1313) rfl rfl ydX1_doesAgree ⟨Nat.le_of_ble_eq_true rfl, Nat.le_of_ble_eq_true rfl⟩ (g_recv X hw (ci := 0) (q := (RX1, TX1, 16)) hk_1 rfl) (As := [.int x3, .int x1]) (rest := [.int x2]) rfl hl.1 rfl (Nat.le_of_ble_eq_true rfl) dX1_agrees_37 ⟨Nat.le_refl _, Nat.le_refl _⟩) (fun r_5 u_6 H locs h hw => ?_)
        refine lv_if_eq (tgt := 47) hx hb dX1_agrees_40 rfl (fun c_7 => ?_) (fun c_7 => ?_)
        · have h := h.1 c_7
          refine lv_iconst (v := 0) hx hb dX1_agrees_47 (by decide) ?_
          refine lv_iadd hx hb dX1_agrees_48 ?_
          refine lv_istore_n (lv' := [(2, .int (x2 + 0)), (0, .ref a0), (1, .int x1), (3, .int x3)]) hx hb dX1_agrees_49 rfl hl (by decide) rfl (fun ls hl => ?_)
          refine lv_iinc (v := x3 + 1) (lv' := [(3, .int (x3 + 1)), (2, .int (x2 + 0)), (0, .ref a0), (1, .int x1)]) hx hb dX1_agrees_50 hl (k := 3) rfl rfl (by decide) rfl (fun ls hl => ?_)
          refine lv_goto (tgt := 22) hx hb dX1_agrees_53 rfl ?_
          exact hJ22 _ _ _ _ _ _ h hw (lv_sub hl [2, 3, 1, 0] rfl)
        · have h := h.2 c_7
          refine lv_iconst (v := 1) hx hb dX1_agrees_43 (by decide) ?_
          refine lv_goto (tgt := 48) hx hb dX1_agrees_44 rfl ?_
          refine lv_iadd hx hb dX1_agrees_48 ?_
          refine lv_istore_n (lv' := [(2, .int (x2 + 1)), (0, .ref a0), (1, .int x1), (3, .int x3)]) hx hb dX1_agrees_49 rfl hl (by decide) rfl (fun ls hl => ?_)
          refine lv_iinc (v := x3 + 1) (lv' := [(3, .int (x3 + 1)), (2, .int (x2 + 1)), (0, .ref a0), (1, .int x1)]) hx hb dX1_agrees_50 hl (k := 3) rfl rfl (by decide) rfl (fun ls hl => ?_)
          refine lv_goto (tgt := 22) hx hb dX1_agrees_53 rfl ?_
          exact hJ22 _ _ _ _ _ _ h hw (lv_sub hl [2, 3, 1, 0] rfl)
  exact key _ _ _ _ _ _ _ (Nat.lt_succ_self _) h0 hw hl
set_option maxHeartbeats 4000000 in
theorem mX1_agrees (l : Launch) (G : GT) (u : Hp) (a0 : Nat) (x1 : Int32) (K : Int32 → Hp → Prop) (h : pX1_agrees u a0 x1 K) : Met l yX1_agrees (ws_ yX1_agrees cX1_agrees 4 (some .int)) (rmX1_agrees 0 0) (va_Pc [.ref a0, .int x1] (GB G u)) (va_Qi K (fun u t => GH G u t.heap) (GA G)) 0 0 (GA G) := by
  refine Met.ofW (cc := cX1_agrees) (maxL := 4) (ret := (some .int)) (by decide) rfl ?_
  intro p e s m args below meth c s₁ B hml hv
  obtain ⟨rfl, hv⟩ := hv
  have X := Mc_of (own := RX1) B hml rfl hv
  have hw : GW G u s s.heap [] := ⟨hv.2.1, va_S.rf⟩
  have hr := B.returns
  obtain ⟨hx, hb, hml, hown, hts, -⟩ := id X
  have hl := lv_entry ([.ref a0, .int x1]) (n := 4) (Nat.le_of_ble_eq_true rfl)
  rw [lg_entry_eq]
  generalize (lg_sl ([.ref a0, .int x1]) ++ List.replicate (4 - (lg_sl ([.ref a0, .int x1])).length) Slot.unset).toArray = ls at hl ⊢
  have hl : lv_has ls 4 [(0, .ref a0), (1, .int x1)] := hl
  change W p l e (rmX1_agrees 0 0) s m _ below meth c s.heap [] 0 0 (QI G below K _ s 0 0) (F0 m 0 ls [])
  unfold pX1_agrees at h
  refine lv_aload_n hx hb dX1_agrees_0 rfl (lv_at hl 0 rfl) ?_
  have hk_9 : kd u a0 = 1 := h.1
  have h := h.2
  refine g_callv hw (g_V X hw (mX1_anew l G _ _ _ h) 0 (lw_V q535 q537 qs2 q122 q538) rfl rfl ydX1_anew ⟨Nat.le_of_ble_eq_true rfl, Nat.le_of_ble_eq_true rfl⟩ (g_recv X hw (ci := 0) (q := (RX1, TX1, 16)) hk_9 rfl) (As := []) (rest := []) rfl hl.1 rfl (Nat.le_of_ble_eq_true rfl) dX1_agrees_1 ⟨Nat.le_refl _, Nat.le_refl _⟩) (fun u_10 H locs h hw => ?_)
  refine lv_aload_n hx hb dX1_agrees_4 rfl (lv_at hl 0 rfl) ?_
  refine lv_iload_n hx hb dX1_agrees_5 rfl (lv_at hl 1 rfl) ?_
  have hk_11 : kd u_10 a0 = 1 := h.1
  have h := h.2
  refine g_callio hw (g_V X hw (mX1_isRule l G _ _ _ _ h) 1 (lw_V q1074 q1076 qs28 q122 q1077) rfl rfl ydX1_isRule ⟨Nat.le_of_ble_eq_true rfl, Nat.le_of_ble_eq_true rfl⟩ (g_recv X hw (ci := 0) (q := (RX1, TX1, 16)) hk_11 rfl) (As := [.int x1]) (rest := []) rfl hl.1 rfl (Nat.le_of_ble_eq_true rfl) dX1_agrees_6 ⟨Nat.le_refl _, Nat.le_refl _⟩) (fun r_12 H locs h hw => ?_)
  refine lv_if_ne (tgt := 18) hx hb dX1_agrees_9 rfl (fun c_15 => ?_) (fun c_15 => ?_)
  · have h := h.2 c_15
    refine lv_iconst (v := 0) hx hb dX1_agrees_18 (by decide) ?_
    refine lv_istore_n (lv' := [(2, .int 0), (0, .ref a0), (1, .int x1)]) hx hb dX1_agrees_19 rfl hl (by decide) rfl (fun ls hl => ?_)
    refine lv_iconst (v := 0) hx hb dX1_agrees_20 (by decide) ?_
    refine lv_istore_n (lv' := [(3, .int 0), (2, .int 0), (0, .ref a0), (1, .int x1)]) hx hb dX1_agrees_21 rfl hl (by decide) rfl (fun ls hl => ?_)
    exact wX1_agrees_22 X hr  h hw (lv_sub hl [2, 3, 1, 0] rfl)
  · have h := h.1 c_15
    refine lv_aload_n hx hb dX1_agrees_12 rfl (lv_at hl 0 rfl) ?_
    refine lv_iconst (v := 1) hx hb dX1_agrees_13 (by decide) ?_
    refine g_calli hw (g_V X hw (mX1_no l G _ _ _ _ h) 1 (lw_V q542 q544 qs3 q122 q545) rfl rfl ydX1_no ⟨Nat.le_of_ble_eq_true rfl, Nat.le_of_ble_eq_true rfl⟩ (g_recv X hw (ci := 0) (q := (RX1, TX1, 16)) hk_11 rfl) (As := [.int 1]) (rest := []) rfl hl.1 rfl (Nat.le_of_ble_eq_true rfl) dX1_agrees_14 ⟨Nat.le_refl _, Nat.le_refl _⟩) (fun r_13 u_14 H locs h hw => ?_)
    exact g_iret X hw hr h (Nat.le_refl _) (Nat.le_refl _) dX1_agrees_17

/-! FifthCardModel.agreesWith(II)Z -/
theorem ydX19_agreesWith : yX19_agreesWith.cls = "FifthCardModel" ∧ yX19_agreesWith.cls ≠ "java/lang/invoke/MethodHandle" ∧ yX19_agreesWith.cls ≠ "java/lang/invoke/VarHandle" ∧ (parseMethodDescriptor yX19_agreesWith.desc).map (fun d => d.parameters.length) = some 2 := by decide +kernel
def rmX19_agreesWith (mc ms : Nat) : Room := { frames := 7, cells := mc, slots := ms, locals := 169 }
set_option maxHeartbeats 4000000 in
theorem mX19_agreesWith (l : Launch) (G : GT) (u : Hp) (a0 : Nat) (x1 : Int32) (x2 : Int32) (K : Int32 → Hp → Prop) (h : pX19_agreesWith u a0 x1 x2 K) : Met l yX19_agreesWith (ws_ yX19_agreesWith cX19_agreesWith 3 (some .boolean)) (rmX19_agreesWith 0 0) (va_Pc [.ref a0, .int x1, .int x2] (GB G u)) (va_Qi K (fun u t => GH G u t.heap) (GA G)) 0 0 (GA G) := by
  refine Met.ofW (cc := cX19_agreesWith) (maxL := 3) (ret := (some .boolean)) (by decide) rfl ?_
  intro p e s m args below meth c s₁ B hml hv
  obtain ⟨rfl, hv⟩ := hv
  have X := Mc_of (own := RX19) B hml rfl hv
  have hw : GW G u s s.heap [] := ⟨hv.2.1, va_S.rf⟩
  have hr := B.returns
  obtain ⟨hx, hb, hml, hown, hts, -⟩ := id X
  have hl := lv_entry ([.ref a0, .int x1, .int x2]) (n := 3) (Nat.le_of_ble_eq_true rfl)
  rw [lg_entry_eq]
  generalize (lg_sl ([.ref a0, .int x1, .int x2]) ++ List.replicate (3 - (lg_sl ([.ref a0, .int x1, .int x2])).length) Slot.unset).toArray = ls at hl ⊢
  have hl : lv_has ls 3 [(0, .ref a0), (1, .int x1), (2, .int x2)] := hl
  change W p l e (rmX19_agreesWith 0 0) s m _ below meth c s.heap [] 0 0 (QI G below K _ s 0 0) (F0 m 0 ls [])
  unfold pX19_agreesWith at h
  refine lv_aload_n hx hb dX19_agreesWith_0 rfl (lv_at hl 0 rfl) ?_
  refine lv_iload_n hx hb dX19_agreesWith_1 rfl (lv_at hl 1 rfl) ?_
  refine lv_aload_n hx hb dX19_agreesWith_2 rfl (lv_at hl 0 rfl) ?_
  have hk_1 : kd u a0 = 16 := h.1
  have h := h.2
  obtain ⟨b_2, e_3, h⟩ := h
  refine g_getR X hw in_X19 hk_1 rfl 37 rfl (by decide) q1488 (fun _ z => z) e_3 dX19_agreesWith_3 ?_
  refine lv_iload_n hx hb dX19_agreesWith_6 rfl (lv_at hl 2 rfl) ?_
  have hk_4 : kd u b_2 = 101 := h.1
  have h := h.2
  refine g_iald X hw hk_4 h.1 dX19_agreesWith_7 ?_
  have h := h.2
  refine g_calli hw (g_V X hw (mX19_laysNow l G _ _ _ _ _ h) 2 (lw_V q1944 q1946 qs85 q143 q1947) rfl rfl ydX19_laysNow ⟨Nat.le_of_ble_eq_true rfl, Nat.le_of_ble_eq_true rfl⟩ (g_recv X hw (ci := 15) (q := (RX19, TX19, 46)) hk_1 rfl) (As := [.int x1, .int (AI u b_2 (tn x2))]) (rest := []) rfl hl.1 rfl (Nat.le_of_ble_eq_true rfl) dX19_agreesWith_8 ⟨Nat.le_refl _, Nat.le_refl _⟩) (fun r_5 u_6 H locs h hw => ?_)
  refine lv_aload_n hx hb dX19_agreesWith_11 rfl (lv_at hl 0 rfl) ?_
  have hk_7 : kd u_6 a0 = 16 := h.1
  have h := h.2
  obtain ⟨b_8, e_9, h⟩ := h
  refine g_getR X hw in_X19 hk_7 rfl 38 rfl (by decide) q1489 (fun _ z => z) e_9 dX19_agreesWith_12 ?_
  refine lv_iload_n hx hb dX19_agreesWith_15 rfl (lv_at hl 2 rfl) ?_
  have hk_10 : kd u_6 b_8 = 101 := h.1
  have h := h.2
  refine g_iald X hw hk_10 h.1 dX19_agreesWith_16 ?_
  have h := h.2
  refine lv_icmp_ne (tgt := 24) hx hb dX19_agreesWith_17 rfl (fun c_11 => ?_) (fun c_11 => ?_)
  · have h := h.2 c_11
    refine lv_iconst (v := 0) hx hb dX19_agreesWith_24 (by decide) ?_
    exact g_zret X hw hr rfl h (Nat.le_refl _) (Nat.le_refl _) dX19_agreesWith_25
  · have h := h.1 c_11
    refine lv_iconst (v := 1) hx hb dX19_agreesWith_20 (by decide) ?_
    refine lv_goto (tgt := 25) hx hb dX19_agreesWith_21 rfl ?_
    exact g_zret X hw hr rfl h (Nat.le_refl _) (Nat.le_refl _) dX19_agreesWith_25

/-! FifthCardModel.agrees(I)I -/
theorem ydX19_agrees : yX19_agrees.cls = "FifthCardModel" ∧ yX19_agrees.cls ≠ "java/lang/invoke/MethodHandle" ∧ yX19_agrees.cls ≠ "java/lang/invoke/VarHandle" ∧ (parseMethodDescriptor yX19_agrees.desc).map (fun d => d.parameters.length) = some 1 := by decide +kernel
def rmX19_agrees (mc ms : Nat) : Room := { frames := 8, cells := mc, slots := ms, locals := 191 }
set_option maxHeartbeats 4000000 in
theorem wX19_agrees_23 {G : GT} {p : Program} {l : Launch} {e : Env} {s : State} {m : MethodId} {args : Array Value} {below : List Frame} {meth : Method} {c : Code} {H : Heap} {locs : List Loc} {ls : Array Slot} {a0 : Nat} {x1 : Int32} {x2 : Int32} {x3 : Int32} {u : Hp} {K : Int32 → Hp → Prop} (X : Mc G p s m args meth c RX19 cX19_agrees 4) (hr : meth.sig.returnType = (some .int)) (h : jl3 (bX19_agrees_23 K a0 x1) x2 x3 u) (hw : GW G u s H locs) (hl : lv_has ls 4 [(0, .ref a0), (1, .int x1), (2, .int x2), (3, .int x3)]) : W p l e (rmX19_agrees 0 0) s m args below meth c H locs 0 0 (QI G below K args s 0 0) (F0 m 23 ls []) := by
  obtain ⟨hx, hb, hml, hown, hts, -⟩ := id X
  obtain ⟨I, μ, h0, hs⟩ := h
  have key : ∀ (n : Nat) (x2 : Int32) (x3 : Int32) (u : Hp) (H : Heap) (locs : List Loc) (ls : Array Slot) , μ x2 x3 u < n → I x2 x3 u → GW G u s H locs → lv_has ls 4 [(0, .ref a0), (1, .int x1), (2, .int x2), (3, .int x3)] → W p l e (rmX19_agrees 0 0) s m args below meth c H locs 0 0 (QI G below K args s 0 0) (F0 m 23 ls []) := by
    intro n
    induction n with
    | zero =>
      intro x2 x3 u H locs ls hn
      exact absurd hn (Nat.not_lt_zero _)
    | succ n ih =>
      intro x2 x3 u H locs ls hn hI hw hl
      have h := hs x2 x3 u hI
      unfold bX19_agrees_23 at h
      have hJ23 : ∀ (x2' : Int32) (x3' : Int32) (u' : Hp) (H : Heap) (locs : List Loc) (ls : Array Slot) , (I x2' x3' u' ∧ μ x2' x3' u' < μ x2 x3 u) → GW G u' s H locs → lv_has ls 4 [(0, .ref a0), (1, .int x1), (2, .int x2'), (3, .int x3')] → W p l e (rmX19_agrees 0 0) s m args below meth c H locs 0 0 (QI G below K args s 0 0) (F0 m 23 ls []) := fun x2' x3' u' H locs ls h hw hl => ih x2' x3' u' H locs ls (Nat.lt_of_lt_of_le h.2 (Nat.le_of_lt_succ hn)) h.1 hw hl
      refine lv_iload_n hx hb dX19_agrees_23 rfl (lv_at hl 3 rfl) ?_
      refine lv_aload_n hx hb dX19_agrees_24 rfl (lv_at hl 0 rfl) ?_
      have hk_1 : kd u a0 = 16 := h.1
      have h := h.2
      refine g_getI X hw in_X19 hk_1 rfl 43 rfl (by decide) q1494 (fun _ z => z) dX19_agrees_25 ?_
      refine lv_icmp_ge (tgt := 54) hx hb dX19_agrees_28 rfl (fun c_7 => ?_) (fun c_7 => ?_)
      · have h := h.1 c_7
        refine lv_aload_n hx hb dX19_agrees_54 rfl (lv_at hl 0 rfl) ?_
        refine lv_iload_n hx hb dX19_agrees_55 rfl (lv_at hl 2 rfl) ?_
        refine g_calli hw (g_V X hw (mX19_good l G _ _ _ _ h) 1 (lw_V q1867 q1869 qs77 q143 q1870) rfl rfl ydX19_good ⟨Nat.le_of_ble_eq_true rfl, Nat.le_of_ble_eq_true rfl⟩ (g_recv X hw (ci := 15) (q := (RX19, TX19, 46)) hk_1 rfl) (As := [.int x2]) (rest := []) rfl hl.1 rfl (Nat.le_of_ble_eq_true rfl) dX19_agrees_56 ⟨Nat.le_refl _, Nat.le_refl _⟩) (fun r_2 u_3 H locs h hw => ?_)
        exact g_iret X hw hr h (Nat.le_refl _) (Nat.le_refl _) dX19_agrees_59
      · have h := h.2 c_7
        refine lv_iload_n hx hb dX19_agrees_31 rfl (lv_at hl 2 rfl) ?_
        refine lv_aload_n hx hb dX19_agrees_32 rfl (lv_at hl 0 rfl) ?_
        refine lv_iload_n hx hb dX19_agrees_33 rfl (lv_at hl 1 rfl) ?_
        refine lv_iload_n hx hb dX19_agrees_34 rfl (lv_at hl 3 rfl) ?_
        refine g_calli hw (g_V X hw (mX19_agreesWith l G _ _ _ _ _ h) 2 (lw_V q2133 q2135 qs115 q143 q2136) rfl rfl ydX19_agreesWith ⟨Nat.le_of_ble_eq_true rfl, Nat.le_of_ble_eq_true rfl⟩ (g_recv X hw (ci := 15) (q := (RX19, TX19, 46)) hk_1 rfl) (As := [.int x1, .int x3]) (rest := [.int x2]) rfl hl.1 rfl (Nat.le_of_ble_eq_true rfl) dX19_agrees_35 ⟨Nat.le_refl _, Nat.le_refl _⟩) (fun r_4 u_5 H locs h hw => ?_)
        refine lv_if_eq (tgt := 45) hx hb dX19_agrees_38 rfl (fun c_6 => ?_) (fun c_6 => ?_)
        · have h := h.1 c_6
          refine lv_iconst (v := 0) hx hb dX19_agrees_45 (by decide) ?_
          refine lv_iadd hx hb dX19_agrees_46 ?_
          refine lv_istore_n (lv' := [(2, .int (x2 + 0)), (0, .ref a0), (1, .int x1), (3, .int x3)]) hx hb dX19_agrees_47 rfl hl (by decide) rfl (fun ls hl => ?_)
          refine lv_iinc (v := x3 + 1) (lv' := [(3, .int (x3 + 1)), (2, .int (x2 + 0)), (0, .ref a0), (1, .int x1)]) hx hb dX19_agrees_48 hl (k := 3) rfl rfl (by decide) rfl (fun ls hl => ?_)
          refine lv_goto (tgt := 23) hx hb dX19_agrees_51 rfl ?_
          exact hJ23 _ _ _ _ _ _ h hw (lv_sub hl [2, 3, 1, 0] rfl)
        · have h := h.2 c_6
          refine lv_iconst (v := 1) hx hb dX19_agrees_41 (by decide) ?_
          refine lv_goto (tgt := 46) hx hb dX19_agrees_42 rfl ?_
          refine lv_iadd hx hb dX19_agrees_46 ?_
          refine lv_istore_n (lv' := [(2, .int (x2 + 1)), (0, .ref a0), (1, .int x1), (3, .int x3)]) hx hb dX19_agrees_47 rfl hl (by decide) rfl (fun ls hl => ?_)
          refine lv_iinc (v := x3 + 1) (lv' := [(3, .int (x3 + 1)), (2, .int (x2 + 1)), (0, .ref a0), (1, .int x1)]) hx hb dX19_agrees_48 hl (k := 3) rfl rfl (by decide) rfl (fun ls hl => ?_)
          refine lv_goto (tgt := 23) hx hb dX19_agrees_51 rfl ?_
          exact hJ23 _ _ _ _ _ _ h hw (lv_sub hl [2, 3, 1, 0] rfl)
  exact key _ _ _ _ _ _ _ (Nat.lt_succ_self _) h0 hw hl
set_option maxHeartbeats 4000000 in
theorem mX19_agrees (l : Launch) (G : GT) (u : Hp) (a0 : Nat) (x1 : Int32) (K : Int32 → Hp → Prop) (h : pX19_agrees u a0 x1 K) : Met l yX19_agrees (ws_ yX19_agrees cX19_agrees 4 (some .int)) (rmX19_agrees 0 0) (va_Pc [.ref a0, .int x1] (GB G u)) (va_Qi K (fun u t => GH G u t.heap) (GA G)) 0 0 (GA G) := by
  refine Met.ofW (cc := cX19_agrees) (maxL := 4) (ret := (some .int)) (by decide) rfl ?_
  intro p e s m args below meth c s₁ B hml hv
  obtain ⟨rfl, hv⟩ := hv
  have X := Mc_of (own := RX19) B hml rfl hv
  have hw : GW G u s s.heap [] := ⟨hv.2.1, va_S.rf⟩
  have hr := B.returns
  obtain ⟨hx, hb, hml, hown, hts, -⟩ := id X
  have hl := lv_entry ([.ref a0, .int x1]) (n := 4) (Nat.le_of_ble_eq_true rfl)
  rw [lg_entry_eq]
  generalize (lg_sl ([.ref a0, .int x1]) ++ List.replicate (4 - (lg_sl ([.ref a0, .int x1])).length) Slot.unset).toArray = ls at hl ⊢
  have hl : lv_has ls 4 [(0, .ref a0), (1, .int x1)] := hl
  change W p l e (rmX19_agrees 0 0) s m _ below meth c s.heap [] 0 0 (QI G below K _ s 0 0) (F0 m 0 ls [])
  unfold pX19_agrees at h
  refine lv_aload_n hx hb dX19_agrees_0 rfl (lv_at hl 0 rfl) ?_
  refine lv_iconst (v := 0) hx hb dX19_agrees_1 (by decide) ?_
  have hk_8 : kd u a0 = 16 := h.1
  have h := h.2
  refine g_putI (v := 0) X hw in_X19 tyX19_ok nmX19 hk_8 rfl 0 rfl (by decide) q1451 (fun _ z => z) rfl rfl rfl dX19_agrees_2 (fun H locs hw => ?_)
  refine lv_aload_n hx hb dX19_agrees_5 rfl (lv_at hl 0 rfl) ?_
  refine lv_iload_n hx hb dX19_agrees_6 rfl (lv_at hl 1 rfl) ?_
  refine g_callio hw (g_V X hw (mX19_isRule l G _ _ _ _ h) 1 (lw_V q1940 q1942 qs84 q143 q1943) rfl rfl ydX19_isRule ⟨Nat.le_of_ble_eq_true rfl, Nat.le_of_ble_eq_true rfl⟩ (g_recv X hw (ci := 15) (q := (RX19, TX19, 46)) hk_8 rfl) (As := [.int x1]) (rest := []) rfl hl.1 rfl (Nat.le_of_ble_eq_true rfl) dX19_agrees_7 ⟨Nat.le_refl _, Nat.le_refl _⟩) (fun r_9 H locs h hw => ?_)
  refine lv_if_ne (tgt := 19) hx hb dX19_agrees_10 rfl (fun c_12 => ?_) (fun c_12 => ?_)
  · have h := h.2 c_12
    refine lv_iconst (v := 0) hx hb dX19_agrees_19 (by decide) ?_
    refine lv_istore_n (lv' := [(2, .int 0), (0, .ref a0), (1, .int x1)]) hx hb dX19_agrees_20 rfl hl (by decide) rfl (fun ls hl => ?_)
    refine lv_iconst (v := 0) hx hb dX19_agrees_21 (by decide) ?_
    refine lv_istore_n (lv' := [(3, .int 0), (2, .int 0), (0, .ref a0), (1, .int x1)]) hx hb dX19_agrees_22 rfl hl (by decide) rfl (fun ls hl => ?_)
    exact wX19_agrees_23 X hr  h hw (lv_sub hl [2, 3, 1, 0] rfl)
  · have h := h.1 c_12
    refine lv_aload_n hx hb dX19_agrees_13 rfl (lv_at hl 0 rfl) ?_
    refine lv_iconst (v := 1) hx hb dX19_agrees_14 (by decide) ?_
    refine g_calli hw (g_V X hw (mX19_refused l G _ _ _ _ h) 1 (lw_V q1603 q1605 qs47 q143 q1606) rfl rfl ydX19_refused ⟨Nat.le_of_ble_eq_true rfl, Nat.le_of_ble_eq_true rfl⟩ (g_recv X hw (ci := 15) (q := (RX19, TX19, 46)) hk_8 rfl) (As := [.int 1]) (rest := []) rfl hl.1 rfl (Nat.le_of_ble_eq_true rfl) dX19_agrees_15 ⟨Nat.le_refl _, Nat.le_refl _⟩) (fun r_10 u_11 H locs h hw => ?_)
    exact g_iret X hw hr h (Nat.le_refl _) (Nat.le_refl _) dX19_agrees_18

/-! FifthCard.firstWrong(I)I -/
theorem ydX1_firstWrong : yX1_firstWrong.cls = "FifthCard" ∧ yX1_firstWrong.cls ≠ "java/lang/invoke/MethodHandle" ∧ yX1_firstWrong.cls ≠ "java/lang/invoke/VarHandle" ∧ (parseMethodDescriptor yX1_firstWrong.desc).map (fun d => d.parameters.length) = some 1 := by decide +kernel
def rmX1_firstWrong (mc ms : Nat) : Room := { frames := 8, cells := mc, slots := ms, locals := 195 }
set_option maxHeartbeats 4000000 in
theorem wX1_firstWrong_2 {G : GT} {p : Program} {l : Launch} {e : Env} {s : State} {m : MethodId} {args : Array Value} {below : List Frame} {meth : Method} {c : Code} {H : Heap} {locs : List Loc} {ls : Array Slot} {a0 : Nat} {x1 : Int32} {x2 : Int32} {u : Hp} {K : Int32 → Hp → Prop} (X : Mc G p s m args meth c RX1 cX1_firstWrong 3) (hr : meth.sig.returnType = (some .int)) (h : jl2 (bX1_firstWrong_2 K a0 x1) x2 u) (hw : GW G u s H locs) (hl : lv_has ls 3 [(0, .ref a0), (1, .int x1), (2, .int x2)]) : W p l e (rmX1_firstWrong 0 0) s m args below meth c H locs 0 0 (QI G below K args s 0 0) (F0 m 2 ls []) := by
  obtain ⟨hx, hb, hml, hown, hts, -⟩ := id X
  obtain ⟨I, μ, h0, hs⟩ := h
  have key : ∀ (n : Nat) (x2 : Int32) (u : Hp) (H : Heap) (locs : List Loc) (ls : Array Slot) , μ x2 u < n → I x2 u → GW G u s H locs → lv_has ls 3 [(0, .ref a0), (1, .int x1), (2, .int x2)] → W p l e (rmX1_firstWrong 0 0) s m args below meth c H locs 0 0 (QI G below K args s 0 0) (F0 m 2 ls []) := by
    intro n
    induction n with
    | zero =>
      intro x2 u H locs ls hn
      exact absurd hn (Nat.not_lt_zero _)
    | succ n ih =>
      intro x2 u H locs ls hn hI hw hl
      have h := hs x2 u hI
      unfold bX1_firstWrong_2 at h
      have hJ2 : ∀ (x2' : Int32) (u' : Hp) (H : Heap) (locs : List Loc) (ls : Array Slot) , (I x2' u' ∧ μ x2' u' < μ x2 u) → GW G u' s H locs → lv_has ls 3 [(0, .ref a0), (1, .int x1), (2, .int x2')] → W p l e (rmX1_firstWrong 0 0) s m args below meth c H locs 0 0 (QI G below K args s 0 0) (F0 m 2 ls []) := fun x2' u' H locs ls h hw hl => ih x2' u' H locs ls (Nat.lt_of_lt_of_le h.2 (Nat.le_of_lt_succ hn)) h.1 hw hl
      refine lv_iload_n hx hb dX1_firstWrong_2 rfl (lv_at hl 2 rfl) ?_
      refine lv_aload_n hx hb dX1_firstWrong_3 rfl (lv_at hl 0 rfl) ?_
      have hk_1 : kd u a0 = 1 := h.1
      have h := h.2
      obtain ⟨b_2, e_3, h⟩ := h
      refine g_getR X hw in_X1 hk_1 rfl 11 rfl (by decide) q484 (fun _ z => z) e_3 dX1_firstWrong_4 ?_
      have hk_4 : kd u b_2 = 5 := h.1
      have h := h.2
      refine g_getI X hw in_X5 hk_4 rfl 2 rfl (by decide) q345 (fun _ z => z) dX1_firstWrong_7 ?_
      refine lv_icmp_ge (tgt := 30) hx hb dX1_firstWrong_10 rfl (fun c_8 => ?_) (fun c_8 => ?_)
      · have h := h.1 c_8
        refine lv_bipush (v := (-2)) hx hb dX1_firstWrong_30 (by decide) ?_
        exact g_iret X hw hr h (Nat.le_refl _) (Nat.le_refl _) dX1_firstWrong_32
      · have h := h.2 c_8
        refine lv_aload_n hx hb dX1_firstWrong_13 rfl (lv_at hl 0 rfl) ?_
        refine lv_iload_n hx hb dX1_firstWrong_14 rfl (lv_at hl 2 rfl) ?_
        refine lv_iload_n hx hb dX1_firstWrong_15 rfl (lv_at hl 1 rfl) ?_
        refine g_calli hw (g_V X hw (mX1_doesAgree l G _ _ _ _ _ h) 2 (lw_V q1310 q1312 qs41 q122 q1313) rfl rfl ydX1_doesAgree ⟨Nat.le_of_ble_eq_true rfl, Nat.le_of_ble_eq_true rfl⟩ (g_recv X hw (ci := 0) (q := (RX1, TX1, 16)) hk_1 rfl) (As := [.int x2, .int x1]) (rest := []) rfl hl.1 rfl (Nat.le_of_ble_eq_true rfl) dX1_firstWrong_16 ⟨Nat.le_refl _, Nat.le_refl _⟩) (fun r_5 u_6 H locs h hw => ?_)
        refine lv_if_ne (tgt := 24) hx hb dX1_firstWrong_19 rfl (fun c_7 => ?_) (fun c_7 => ?_)
        · have h := h.2 c_7
          refine lv_iinc (v := x2 + 1) (lv' := [(2, .int (x2 + 1)), (0, .ref a0), (1, .int x1)]) hx hb dX1_firstWrong_24 hl (k := 2) rfl rfl (by decide) rfl (fun ls hl => ?_)
          refine lv_goto (tgt := 2) hx hb dX1_firstWrong_27 rfl ?_
          exact hJ2 _ _ _ _ _ h hw (lv_sub hl [1, 2, 0] rfl)
        · have h := h.1 c_7
          refine lv_iload_n hx hb dX1_firstWrong_22 rfl (lv_at hl 2 rfl) ?_
          exact g_iret X hw hr h (Nat.le_refl _) (Nat.le_refl _) dX1_firstWrong_23
  exact key _ _ _ _ _ _ (Nat.lt_succ_self _) h0 hw hl
set_option maxHeartbeats 4000000 in
theorem mX1_firstWrong (l : Launch) (G : GT) (u : Hp) (a0 : Nat) (x1 : Int32) (K : Int32 → Hp → Prop) (h : pX1_firstWrong u a0 x1 K) : Met l yX1_firstWrong (ws_ yX1_firstWrong cX1_firstWrong 3 (some .int)) (rmX1_firstWrong 0 0) (va_Pc [.ref a0, .int x1] (GB G u)) (va_Qi K (fun u t => GH G u t.heap) (GA G)) 0 0 (GA G) := by
  refine Met.ofW (cc := cX1_firstWrong) (maxL := 3) (ret := (some .int)) (by decide) rfl ?_
  intro p e s m args below meth c s₁ B hml hv
  obtain ⟨rfl, hv⟩ := hv
  have X := Mc_of (own := RX1) B hml rfl hv
  have hw : GW G u s s.heap [] := ⟨hv.2.1, va_S.rf⟩
  have hr := B.returns
  obtain ⟨hx, hb, hml, hown, hts, -⟩ := id X
  have hl := lv_entry ([.ref a0, .int x1]) (n := 3) (Nat.le_of_ble_eq_true rfl)
  rw [lg_entry_eq]
  generalize (lg_sl ([.ref a0, .int x1]) ++ List.replicate (3 - (lg_sl ([.ref a0, .int x1])).length) Slot.unset).toArray = ls at hl ⊢
  have hl : lv_has ls 3 [(0, .ref a0), (1, .int x1)] := hl
  change W p l e (rmX1_firstWrong 0 0) s m _ below meth c s.heap [] 0 0 (QI G below K _ s 0 0) (F0 m 0 ls [])
  unfold pX1_firstWrong at h
  refine lv_iconst (v := 0) hx hb dX1_firstWrong_0 (by decide) ?_
  refine lv_istore_n (lv' := [(2, .int 0), (0, .ref a0), (1, .int x1)]) hx hb dX1_firstWrong_1 rfl hl (by decide) rfl (fun ls hl => ?_)
  exact wX1_firstWrong_2 X hr  h hw (lv_sub hl [1, 2, 0] rfl)

/-! FifthCard.wrong(I)I -/
theorem ydX1_wrong : yX1_wrong.cls = "FifthCard" ∧ yX1_wrong.cls ≠ "java/lang/invoke/MethodHandle" ∧ yX1_wrong.cls ≠ "java/lang/invoke/VarHandle" ∧ (parseMethodDescriptor yX1_wrong.desc).map (fun d => d.parameters.length) = some 1 := by decide +kernel
def rmX1_wrong (mc ms : Nat) : Room := { frames := 9, cells := mc, slots := ms, locals := 217 }
set_option maxHeartbeats 4000000 in
theorem mX1_wrong (l : Launch) (G : GT) (u : Hp) (a0 : Nat) (x1 : Int32) (K : Int32 → Hp → Prop) (h : pX1_wrong u a0 x1 K) : Met l yX1_wrong (ws_ yX1_wrong cX1_wrong 2 (some .int)) (rmX1_wrong 0 0) (va_Pc [.ref a0, .int x1] (GB G u)) (va_Qi K (fun u t => GH G u t.heap) (GA G)) 0 0 (GA G) := by
  refine Met.ofW (cc := cX1_wrong) (maxL := 2) (ret := (some .int)) (by decide) rfl ?_
  intro p e s m args below meth c s₁ B hml hv
  obtain ⟨rfl, hv⟩ := hv
  have X := Mc_of (own := RX1) B hml rfl hv
  have hw : GW G u s s.heap [] := ⟨hv.2.1, va_S.rf⟩
  have hr := B.returns
  obtain ⟨hx, hb, hml, hown, hts, -⟩ := id X
  have hl := lv_entry ([.ref a0, .int x1]) (n := 2) (Nat.le_of_ble_eq_true rfl)
  rw [lg_entry_eq]
  generalize (lg_sl ([.ref a0, .int x1]) ++ List.replicate (2 - (lg_sl ([.ref a0, .int x1])).length) Slot.unset).toArray = ls at hl ⊢
  have hl : lv_has ls 2 [(0, .ref a0), (1, .int x1)] := hl
  change W p l e (rmX1_wrong 0 0) s m _ below meth c s.heap [] 0 0 (QI G below K _ s 0 0) (F0 m 0 ls [])
  unfold pX1_wrong at h
  refine lv_aload_n hx hb dX1_wrong_0 rfl (lv_at hl 0 rfl) ?_
  have hk_1 : kd u a0 = 1 := h.1
  have h := h.2
  refine g_callv hw (g_V X hw (mX1_anew l G _ _ _ h) 0 (lw_V q535 q537 qs2 q122 q538) rfl rfl ydX1_anew ⟨Nat.le_of_ble_eq_true rfl, Nat.le_of_ble_eq_true rfl⟩ (g_recv X hw (ci := 0) (q := (RX1, TX1, 16)) hk_1 rfl) (As := []) (rest := []) rfl hl.1 rfl (Nat.le_of_ble_eq_true rfl) dX1_wrong_1 ⟨Nat.le_refl _, Nat.le_refl _⟩) (fun u_2 H locs h hw => ?_)
  refine lv_aload_n hx hb dX1_wrong_4 rfl (lv_at hl 0 rfl) ?_
  refine lv_iload_n hx hb dX1_wrong_5 rfl (lv_at hl 1 rfl) ?_
  have hk_3 : kd u_2 a0 = 1 := h.1
  have h := h.2
  refine g_callio hw (g_V X hw (mX1_isRule l G _ _ _ _ h) 1 (lw_V q1074 q1076 qs28 q122 q1077) rfl rfl ydX1_isRule ⟨Nat.le_of_ble_eq_true rfl, Nat.le_of_ble_eq_true rfl⟩ (g_recv X hw (ci := 0) (q := (RX1, TX1, 16)) hk_3 rfl) (As := [.int x1]) (rest := []) rfl hl.1 rfl (Nat.le_of_ble_eq_true rfl) dX1_wrong_6 ⟨Nat.le_refl _, Nat.le_refl _⟩) (fun r_4 H locs h hw => ?_)
  refine lv_if_eq (tgt := 20) hx hb dX1_wrong_9 rfl (fun c_9 => ?_) (fun c_9 => ?_)
  · have h := h.1 c_9
    refine lv_aload_n hx hb dX1_wrong_20 rfl (lv_at hl 0 rfl) ?_
    refine lv_iconst (v := 1) hx hb dX1_wrong_21 (by decide) ?_
    refine g_calli hw (g_V X hw (mX1_no l G _ _ _ _ h) 1 (lw_V q542 q544 qs3 q122 q545) rfl rfl ydX1_no ⟨Nat.le_of_ble_eq_true rfl, Nat.le_of_ble_eq_true rfl⟩ (g_recv X hw (ci := 0) (q := (RX1, TX1, 16)) hk_3 rfl) (As := [.int 1]) (rest := []) rfl hl.1 rfl (Nat.le_of_ble_eq_true rfl) dX1_wrong_22 ⟨Nat.le_refl _, Nat.le_refl _⟩) (fun r_5 u_6 H locs h hw => ?_)
    exact g_iret X hw hr h (Nat.le_refl _) (Nat.le_refl _) dX1_wrong_25
  · have h := h.2 c_9
    refine lv_aload_n hx hb dX1_wrong_12 rfl (lv_at hl 0 rfl) ?_
    refine lv_iload_n hx hb dX1_wrong_13 rfl (lv_at hl 1 rfl) ?_
    refine g_calli hw (g_V X hw (mX1_firstWrong l G _ _ _ _ h) 1 (lw_V q1318 q1320 qs42 q122 q1321) rfl rfl ydX1_firstWrong ⟨Nat.le_of_ble_eq_true rfl, Nat.le_of_ble_eq_true rfl⟩ (g_recv X hw (ci := 0) (q := (RX1, TX1, 16)) hk_3 rfl) (As := [.int x1]) (rest := []) rfl hl.1 rfl (Nat.le_of_ble_eq_true rfl) dX1_wrong_14 ⟨Nat.le_refl _, Nat.le_refl _⟩) (fun r_7 u_8 H locs h hw => ?_)
    refine lv_goto (tgt := 25) hx hb dX1_wrong_17 rfl ?_
    exact g_iret X hw hr h (Nat.le_refl _) (Nat.le_refl _) dX1_wrong_25

/-! FifthCardModel.firstWrong(I)I -/
theorem ydX19_firstWrong : yX19_firstWrong.cls = "FifthCardModel" ∧ yX19_firstWrong.cls ≠ "java/lang/invoke/MethodHandle" ∧ yX19_firstWrong.cls ≠ "java/lang/invoke/VarHandle" ∧ (parseMethodDescriptor yX19_firstWrong.desc).map (fun d => d.parameters.length) = some 1 := by decide +kernel
def rmX19_firstWrong (mc ms : Nat) : Room := { frames := 8, cells := mc, slots := ms, locals := 191 }
set_option maxHeartbeats 4000000 in
theorem wX19_firstWrong_2 {G : GT} {p : Program} {l : Launch} {e : Env} {s : State} {m : MethodId} {args : Array Value} {below : List Frame} {meth : Method} {c : Code} {H : Heap} {locs : List Loc} {ls : Array Slot} {a0 : Nat} {x1 : Int32} {x2 : Int32} {u : Hp} {K : Int32 → Hp → Prop} (X : Mc G p s m args meth c RX19 cX19_firstWrong 3) (hr : meth.sig.returnType = (some .int)) (h : jl2 (bX19_firstWrong_2 K a0 x1) x2 u) (hw : GW G u s H locs) (hl : lv_has ls 3 [(0, .ref a0), (1, .int x1), (2, .int x2)]) : W p l e (rmX19_firstWrong 0 0) s m args below meth c H locs 0 0 (QI G below K args s 0 0) (F0 m 2 ls []) := by
  obtain ⟨hx, hb, hml, hown, hts, -⟩ := id X
  obtain ⟨I, μ, h0, hs⟩ := h
  have key : ∀ (n : Nat) (x2 : Int32) (u : Hp) (H : Heap) (locs : List Loc) (ls : Array Slot) , μ x2 u < n → I x2 u → GW G u s H locs → lv_has ls 3 [(0, .ref a0), (1, .int x1), (2, .int x2)] → W p l e (rmX19_firstWrong 0 0) s m args below meth c H locs 0 0 (QI G below K args s 0 0) (F0 m 2 ls []) := by
    intro n
    induction n with
    | zero =>
      intro x2 u H locs ls hn
      exact absurd hn (Nat.not_lt_zero _)
    | succ n ih =>
      intro x2 u H locs ls hn hI hw hl
      have h := hs x2 u hI
      unfold bX19_firstWrong_2 at h
      have hJ2 : ∀ (x2' : Int32) (u' : Hp) (H : Heap) (locs : List Loc) (ls : Array Slot) , (I x2' u' ∧ μ x2' u' < μ x2 u) → GW G u' s H locs → lv_has ls 3 [(0, .ref a0), (1, .int x1), (2, .int x2')] → W p l e (rmX19_firstWrong 0 0) s m args below meth c H locs 0 0 (QI G below K args s 0 0) (F0 m 2 ls []) := fun x2' u' H locs ls h hw hl => ih x2' u' H locs ls (Nat.lt_of_lt_of_le h.2 (Nat.le_of_lt_succ hn)) h.1 hw hl
      refine lv_iload_n hx hb dX19_firstWrong_2 rfl (lv_at hl 2 rfl) ?_
      refine lv_aload_n hx hb dX19_firstWrong_3 rfl (lv_at hl 0 rfl) ?_
      have hk_1 : kd u a0 = 16 := h.1
      have h := h.2
      refine g_getI X hw in_X19 hk_1 rfl 43 rfl (by decide) q1494 (fun _ z => z) dX19_firstWrong_4 ?_
      refine lv_icmp_ge (tgt := 27) hx hb dX19_firstWrong_7 rfl (fun c_5 => ?_) (fun c_5 => ?_)
      · have h := h.1 c_5
        refine lv_bipush (v := (-2)) hx hb dX19_firstWrong_27 (by decide) ?_
        exact g_iret X hw hr h (Nat.le_refl _) (Nat.le_refl _) dX19_firstWrong_29
      · have h := h.2 c_5
        refine lv_aload_n hx hb dX19_firstWrong_10 rfl (lv_at hl 0 rfl) ?_
        refine lv_iload_n hx hb dX19_firstWrong_11 rfl (lv_at hl 1 rfl) ?_
        refine lv_iload_n hx hb dX19_firstWrong_12 rfl (lv_at hl 2 rfl) ?_
        refine g_calli hw (g_V X hw (mX19_agreesWith l G _ _ _ _ _ h) 2 (lw_V q2133 q2135 qs115 q143 q2136) rfl rfl ydX19_agreesWith ⟨Nat.le_of_ble_eq_true rfl, Nat.le_of_ble_eq_true rfl⟩ (g_recv X hw (ci := 15) (q := (RX19, TX19, 46)) hk_1 rfl) (As := [.int x1, .int x2]) (rest := []) rfl hl.1 rfl (Nat.le_of_ble_eq_true rfl) dX19_firstWrong_13 ⟨Nat.le_refl _, Nat.le_refl _⟩) (fun r_2 u_3 H locs h hw => ?_)
        refine lv_if_ne (tgt := 21) hx hb dX19_firstWrong_16 rfl (fun c_4 => ?_) (fun c_4 => ?_)
        · have h := h.2 c_4
          refine lv_iinc (v := x2 + 1) (lv' := [(2, .int (x2 + 1)), (0, .ref a0), (1, .int x1)]) hx hb dX19_firstWrong_21 hl (k := 2) rfl rfl (by decide) rfl (fun ls hl => ?_)
          refine lv_goto (tgt := 2) hx hb dX19_firstWrong_24 rfl ?_
          exact hJ2 _ _ _ _ _ h hw (lv_sub hl [1, 2, 0] rfl)
        · have h := h.1 c_4
          refine lv_iload_n hx hb dX19_firstWrong_19 rfl (lv_at hl 2 rfl) ?_
          exact g_iret X hw hr h (Nat.le_refl _) (Nat.le_refl _) dX19_firstWrong_20
  exact key _ _ _ _ _ _ (Nat.lt_succ_self _) h0 hw hl
set_option maxHeartbeats 4000000 in
theorem mX19_firstWrong (l : Launch) (G : GT) (u : Hp) (a0 : Nat) (x1 : Int32) (K : Int32 → Hp → Prop) (h : pX19_firstWrong u a0 x1 K) : Met l yX19_firstWrong (ws_ yX19_firstWrong cX19_firstWrong 3 (some .int)) (rmX19_firstWrong 0 0) (va_Pc [.ref a0, .int x1] (GB G u)) (va_Qi K (fun u t => GH G u t.heap) (GA G)) 0 0 (GA G) := by
  refine Met.ofW (cc := cX19_firstWrong) (maxL := 3) (ret := (some .int)) (by decide) rfl ?_
  intro p e s m args below meth c s₁ B hml hv
  obtain ⟨rfl, hv⟩ := hv
  have X := Mc_of (own := RX19) B hml rfl hv
  have hw : GW G u s s.heap [] := ⟨hv.2.1, va_S.rf⟩
  have hr := B.returns
  obtain ⟨hx, hb, hml, hown, hts, -⟩ := id X
  have hl := lv_entry ([.ref a0, .int x1]) (n := 3) (Nat.le_of_ble_eq_true rfl)
  rw [lg_entry_eq]
  generalize (lg_sl ([.ref a0, .int x1]) ++ List.replicate (3 - (lg_sl ([.ref a0, .int x1])).length) Slot.unset).toArray = ls at hl ⊢
  have hl : lv_has ls 3 [(0, .ref a0), (1, .int x1)] := hl
  change W p l e (rmX19_firstWrong 0 0) s m _ below meth c s.heap [] 0 0 (QI G below K _ s 0 0) (F0 m 0 ls [])
  unfold pX19_firstWrong at h
  refine lv_iconst (v := 0) hx hb dX19_firstWrong_0 (by decide) ?_
  refine lv_istore_n (lv' := [(2, .int 0), (0, .ref a0), (1, .int x1)]) hx hb dX19_firstWrong_1 rfl hl (by decide) rfl (fun ls hl => ?_)
  exact wX19_firstWrong_2 X hr  h hw (lv_sub hl [1, 2, 0] rfl)

/-! FifthCardModel.wrong(I)I -/
theorem ydX19_wrong : yX19_wrong.cls = "FifthCardModel" ∧ yX19_wrong.cls ≠ "java/lang/invoke/MethodHandle" ∧ yX19_wrong.cls ≠ "java/lang/invoke/VarHandle" ∧ (parseMethodDescriptor yX19_wrong.desc).map (fun d => d.parameters.length) = some 1 := by decide +kernel
def rmX19_wrong (mc ms : Nat) : Room := { frames := 9, cells := mc, slots := ms, locals := 213 }
set_option maxHeartbeats 4000000 in
theorem mX19_wrong (l : Launch) (G : GT) (u : Hp) (a0 : Nat) (x1 : Int32) (K : Int32 → Hp → Prop) (h : pX19_wrong u a0 x1 K) : Met l yX19_wrong (ws_ yX19_wrong cX19_wrong 2 (some .int)) (rmX19_wrong 0 0) (va_Pc [.ref a0, .int x1] (GB G u)) (va_Qi K (fun u t => GH G u t.heap) (GA G)) 0 0 (GA G) := by
  refine Met.ofW (cc := cX19_wrong) (maxL := 2) (ret := (some .int)) (by decide) rfl ?_
  intro p e s m args below meth c s₁ B hml hv
  obtain ⟨rfl, hv⟩ := hv
  have X := Mc_of (own := RX19) B hml rfl hv
  have hw : GW G u s s.heap [] := ⟨hv.2.1, va_S.rf⟩
  have hr := B.returns
  obtain ⟨hx, hb, hml, hown, hts, -⟩ := id X
  have hl := lv_entry ([.ref a0, .int x1]) (n := 2) (Nat.le_of_ble_eq_true rfl)
  rw [lg_entry_eq]
  generalize (lg_sl ([.ref a0, .int x1]) ++ List.replicate (2 - (lg_sl ([.ref a0, .int x1])).length) Slot.unset).toArray = ls at hl ⊢
  have hl : lv_has ls 2 [(0, .ref a0), (1, .int x1)] := hl
  change W p l e (rmX19_wrong 0 0) s m _ below meth c s.heap [] 0 0 (QI G below K _ s 0 0) (F0 m 0 ls [])
  unfold pX19_wrong at h
  refine lv_aload_n hx hb dX19_wrong_0 rfl (lv_at hl 0 rfl) ?_
  refine lv_iconst (v := 0) hx hb dX19_wrong_1 (by decide) ?_
  have hk_1 : kd u a0 = 16 := h.1
  have h := h.2
  refine g_putI (v := 0) X hw in_X19 tyX19_ok nmX19 hk_1 rfl 0 rfl (by decide) q1451 (fun _ z => z) rfl rfl rfl dX19_wrong_2 (fun H locs hw => ?_)
  refine lv_aload_n hx hb dX19_wrong_5 rfl (lv_at hl 0 rfl) ?_
  refine lv_iload_n hx hb dX19_wrong_6 rfl (lv_at hl 1 rfl) ?_
  refine g_callio hw (g_V X hw (mX19_isRule l G _ _ _ _ h) 1 (lw_V q1940 q1942 qs84 q143 q1943) rfl rfl ydX19_isRule ⟨Nat.le_of_ble_eq_true rfl, Nat.le_of_ble_eq_true rfl⟩ (g_recv X hw (ci := 15) (q := (RX19, TX19, 46)) hk_1 rfl) (As := [.int x1]) (rest := []) rfl hl.1 rfl (Nat.le_of_ble_eq_true rfl) dX19_wrong_7 ⟨Nat.le_refl _, Nat.le_refl _⟩) (fun r_2 H locs h hw => ?_)
  refine lv_if_eq (tgt := 25) hx hb dX19_wrong_10 rfl (fun c_10 => ?_) (fun c_10 => ?_)
  · have h := h.1 c_10
    refine lv_aload_n hx hb dX19_wrong_25 rfl (lv_at hl 0 rfl) ?_
    refine lv_iconst (v := 1) hx hb dX19_wrong_26 (by decide) ?_
    refine g_calli hw (g_V X hw (mX19_refused l G _ _ _ _ h) 1 (lw_V q1603 q1605 qs47 q143 q1606) rfl rfl ydX19_refused ⟨Nat.le_of_ble_eq_true rfl, Nat.le_of_ble_eq_true rfl⟩ (g_recv X hw (ci := 15) (q := (RX19, TX19, 46)) hk_1 rfl) (As := [.int 1]) (rest := []) rfl hl.1 rfl (Nat.le_of_ble_eq_true rfl) dX19_wrong_27 ⟨Nat.le_refl _, Nat.le_refl _⟩) (fun r_3 u_4 H locs h hw => ?_)
    exact g_iret X hw hr h (Nat.le_refl _) (Nat.le_refl _) dX19_wrong_30
  · have h := h.2 c_10
    refine lv_aload_n hx hb dX19_wrong_13 rfl (lv_at hl 0 rfl) ?_
    refine lv_aload_n hx hb dX19_wrong_14 rfl (lv_at hl 0 rfl) ?_
    refine lv_iload_n hx hb dX19_wrong_15 rfl (lv_at hl 1 rfl) ?_
    refine g_calli hw (g_V X hw (mX19_firstWrong l G _ _ _ _ h) 1 (lw_V q2141 q2143 qs116 q143 q2144) rfl rfl ydX19_firstWrong ⟨Nat.le_of_ble_eq_true rfl, Nat.le_of_ble_eq_true rfl⟩ (g_recv X hw (ci := 15) (q := (RX19, TX19, 46)) hk_1 rfl) (As := [.int x1]) (rest := [.ref a0]) rfl hl.1 rfl (Nat.le_of_ble_eq_true rfl) dX19_wrong_16 ⟨Nat.le_refl _, Nat.le_refl _⟩) (fun r_5 u_6 H locs h hw => ?_)
    have hk_7 : kd u_6 a0 = 16 := h.1
    have h := h.2
    refine g_calli hw (g_V X hw (mX19_good l G _ _ _ _ h) 1 (lw_V q1867 q1869 qs77 q143 q1870) rfl rfl ydX19_good ⟨Nat.le_of_ble_eq_true rfl, Nat.le_of_ble_eq_true rfl⟩ (g_recv X hw (ci := 15) (q := (RX19, TX19, 46)) hk_7 rfl) (As := [.int r_5]) (rest := []) rfl hl.1 rfl (Nat.le_of_ble_eq_true rfl) dX19_wrong_19 ⟨Nat.le_refl _, Nat.le_refl _⟩) (fun r_8 u_9 H locs h hw => ?_)
    refine lv_goto (tgt := 30) hx hb dX19_wrong_22 rfl ?_
    exact g_iret X hw hr h (Nat.le_refl _) (Nat.le_refl _) dX19_wrong_30

/-! FifthCard.found()I -/
theorem ydX1_found : yX1_found.cls = "FifthCard" ∧ yX1_found.cls ≠ "java/lang/invoke/MethodHandle" ∧ yX1_found.cls ≠ "java/lang/invoke/VarHandle" ∧ (parseMethodDescriptor yX1_found.desc).map (fun d => d.parameters.length) = some 0 := by decide +kernel
def rmX1_found (mc ms : Nat) : Room := { frames := 9, cells := mc, slots := ms, locals := 217 }
set_option maxHeartbeats 4000000 in
theorem wX1_found_21 {G : GT} {p : Program} {l : Launch} {e : Env} {s : State} {m : MethodId} {args : Array Value} {below : List Frame} {meth : Method} {c : Code} {H : Heap} {locs : List Loc} {ls : Array Slot} {a0 : Nat} {x1 : Int32} {x2 : Int32} {u : Hp} {K : Int32 → Hp → Prop} (X : Mc G p s m args meth c RX1 cX1_found 3) (hr : meth.sig.returnType = (some .int)) (h : jl3 (bX1_found_21 K a0) x1 x2 u) (hw : GW G u s H locs) (hl : lv_has ls 3 [(0, .ref a0), (1, .int x1), (2, .int x2)]) : W p l e (rmX1_found 0 0) s m args below meth c H locs 0 0 (QI G below K args s 0 0) (F0 m 21 ls []) := by
  obtain ⟨hx, hb, hml, hown, hts, -⟩ := id X
  obtain ⟨I, μ, h0, hs⟩ := h
  have key : ∀ (n : Nat) (x1 : Int32) (x2 : Int32) (u : Hp) (H : Heap) (locs : List Loc) (ls : Array Slot) , μ x1 x2 u < n → I x1 x2 u → GW G u s H locs → lv_has ls 3 [(0, .ref a0), (1, .int x1), (2, .int x2)] → W p l e (rmX1_found 0 0) s m args below meth c H locs 0 0 (QI G below K args s 0 0) (F0 m 21 ls []) := by
    intro n
    induction n with
    | zero =>
      intro x1 x2 u H locs ls hn
      exact absurd hn (Nat.not_lt_zero _)
    | succ n ih =>
      intro x1 x2 u H locs ls hn hI hw hl
      have h := hs x1 x2 u hI
      unfold bX1_found_21 at h
      have hJ21 : ∀ (x1' : Int32) (x2' : Int32) (u' : Hp) (H : Heap) (locs : List Loc) (ls : Array Slot) , (I x1' x2' u' ∧ μ x1' x2' u' < μ x1 x2 u) → GW G u' s H locs → lv_has ls 3 [(0, .ref a0), (1, .int x1'), (2, .int x2')] → W p l e (rmX1_found 0 0) s m args below meth c H locs 0 0 (QI G below K args s 0 0) (F0 m 21 ls []) := fun x1' x2' u' H locs ls h hw hl => ih x1' x2' u' H locs ls (Nat.lt_of_lt_of_le h.2 (Nat.le_of_lt_succ hn)) h.1 hw hl
      refine lv_iload_n hx hb dX1_found_21 rfl (lv_at hl 2 rfl) ?_
      refine lv_aload_n hx hb dX1_found_22 rfl (lv_at hl 0 rfl) ?_
      have hk_1 : kd u a0 = 1 := h.1
      have h := h.2
      obtain ⟨b_2, e_3, h⟩ := h
      refine g_getR X hw in_X1 hk_1 rfl 3 rfl (by decide) q476 (fun _ z => z) e_3 dX1_found_23 ?_
      have hk_4 : kd u b_2 = 17 := h.1
      have h := h.2
      refine g_getI X hw in_X20 hk_4 rfl 7 rfl (by decide) q593 (fun _ z => z) dX1_found_26 ?_
      refine lv_icmp_ge (tgt := 58) hx hb dX1_found_29 rfl (fun c_8 => ?_) (fun c_8 => ?_)
      · have h := h.1 c_8
        refine lv_iload_n hx hb dX1_found_58 rfl (lv_at hl 1 rfl) ?_
        exact g_iret X hw hr h (Nat.le_refl _) (Nat.le_refl _) dX1_found_59
      · have h := h.2 c_8
        refine lv_iload_n hx hb dX1_found_32 rfl (lv_at hl 1 rfl) ?_
        refine lv_aload_n hx hb dX1_found_33 rfl (lv_at hl 0 rfl) ?_
        refine lv_iload_n hx hb dX1_found_34 rfl (lv_at hl 2 rfl) ?_
        refine g_calli hw (g_V X hw (mX1_firstWrong l G _ _ _ _ h) 1 (lw_V q1318 q1320 qs42 q122 q1321) rfl rfl ydX1_firstWrong ⟨Nat.le_of_ble_eq_true rfl, Nat.le_of_ble_eq_true rfl⟩ (g_recv X hw (ci := 0) (q := (RX1, TX1, 16)) hk_1 rfl) (As := [.int x2]) (rest := [.int x1]) rfl hl.1 rfl (Nat.le_of_ble_eq_true rfl) dX1_found_35 ⟨Nat.le_refl _, Nat.le_refl _⟩) (fun r_5 u_6 H locs h hw => ?_)
        refine lv_bipush (v := (-2)) hx hb dX1_found_38 (by decide) ?_
        refine lv_icmp_ne (tgt := 49) hx hb dX1_found_40 rfl (fun c_7 => ?_) (fun c_7 => ?_)
        · have h := h.2 c_7
          refine lv_iconst (v := 0) hx hb dX1_found_49 (by decide) ?_
          refine lv_ior hx hb dX1_found_50 ?_
          refine lv_istore_n (lv' := [(1, .int (x1 ||| 0)), (0, .ref a0), (2, .int x2)]) hx hb dX1_found_51 rfl hl (by decide) rfl (fun ls hl => ?_)
          refine lv_iinc (v := x2 + 1) (lv' := [(2, .int (x2 + 1)), (1, .int (x1 ||| 0)), (0, .ref a0)]) hx hb dX1_found_52 hl (k := 2) rfl rfl (by decide) rfl (fun ls hl => ?_)
          refine lv_goto (tgt := 21) hx hb dX1_found_55 rfl ?_
          exact hJ21 _ _ _ _ _ _ h hw (lv_sub hl [2, 1, 0] rfl)
        · have h := h.1 c_7
          refine lv_iconst (v := 1) hx hb dX1_found_43 (by decide) ?_
          refine lv_iload_n hx hb dX1_found_44 rfl (lv_at hl 2 rfl) ?_
          refine lv_ishl hx hb dX1_found_45 ?_
          refine lv_goto (tgt := 50) hx hb dX1_found_46 rfl ?_
          refine lv_ior hx hb dX1_found_50 ?_
          refine lv_istore_n (lv' := [(1, .int (x1 ||| (jshl 1 x2))), (0, .ref a0), (2, .int x2)]) hx hb dX1_found_51 rfl hl (by decide) rfl (fun ls hl => ?_)
          refine lv_iinc (v := x2 + 1) (lv' := [(2, .int (x2 + 1)), (1, .int (x1 ||| (jshl 1 x2))), (0, .ref a0)]) hx hb dX1_found_52 hl (k := 2) rfl rfl (by decide) rfl (fun ls hl => ?_)
          refine lv_goto (tgt := 21) hx hb dX1_found_55 rfl ?_
          exact hJ21 _ _ _ _ _ _ h hw (lv_sub hl [2, 1, 0] rfl)
  exact key _ _ _ _ _ _ _ (Nat.lt_succ_self _) h0 hw hl
set_option maxHeartbeats 4000000 in
theorem mX1_found (l : Launch) (G : GT) (u : Hp) (a0 : Nat) (K : Int32 → Hp → Prop) (h : pX1_found u a0 K) : Met l yX1_found (ws_ yX1_found cX1_found 3 (some .int)) (rmX1_found 0 0) (va_Pc [.ref a0] (GB G u)) (va_Qi K (fun u t => GH G u t.heap) (GA G)) 0 0 (GA G) := by
  refine Met.ofW (cc := cX1_found) (maxL := 3) (ret := (some .int)) (by decide) rfl ?_
  intro p e s m args below meth c s₁ B hml hv
  obtain ⟨rfl, hv⟩ := hv
  have X := Mc_of (own := RX1) B hml rfl hv
  have hw : GW G u s s.heap [] := ⟨hv.2.1, va_S.rf⟩
  have hr := B.returns
  obtain ⟨hx, hb, hml, hown, hts, -⟩ := id X
  have hl := lv_entry ([.ref a0]) (n := 3) (Nat.le_of_ble_eq_true rfl)
  rw [lg_entry_eq]
  generalize (lg_sl ([.ref a0]) ++ List.replicate (3 - (lg_sl ([.ref a0])).length) Slot.unset).toArray = ls at hl ⊢
  have hl : lv_has ls 3 [(0, .ref a0)] := hl
  change W p l e (rmX1_found 0 0) s m _ below meth c s.heap [] 0 0 (QI G below K _ s 0 0) (F0 m 0 ls [])
  unfold pX1_found at h
  refine lv_aload_n hx hb dX1_found_0 rfl (lv_at hl 0 rfl) ?_
  have hk_9 : kd u a0 = 1 := h.1
  have h := h.2
  refine g_callv hw (g_V X hw (mX1_anew l G _ _ _ h) 0 (lw_V q535 q537 qs2 q122 q538) rfl rfl ydX1_anew ⟨Nat.le_of_ble_eq_true rfl, Nat.le_of_ble_eq_true rfl⟩ (g_recv X hw (ci := 0) (q := (RX1, TX1, 16)) hk_9 rfl) (As := []) (rest := []) rfl hl.1 rfl (Nat.le_of_ble_eq_true rfl) dX1_found_1 ⟨Nat.le_refl _, Nat.le_refl _⟩) (fun u_10 H locs h hw => ?_)
  refine lv_aload_n hx hb dX1_found_4 rfl (lv_at hl 0 rfl) ?_
  have hk_11 : kd u_10 a0 = 1 := h.1
  have h := h.2
  refine g_getO X hw in_X1 hk_11 rfl 3 rfl (by decide) q476 (fun _ z => z) dX1_found_5 ?_
  refine g_ifnonnull X (tgt := 17) dX1_found_8 rfl (fun b_12 e_13 => ?_) (fun e_13 => ?_)
  · have h := h.2 b_12 e_13
    refine lv_iconst (v := 0) hx hb dX1_found_17 (by decide) ?_
    refine lv_istore_n (lv' := [(1, .int 0), (0, .ref a0)]) hx hb dX1_found_18 rfl hl (by decide) rfl (fun ls hl => ?_)
    refine lv_iconst (v := 0) hx hb dX1_found_19 (by decide) ?_
    refine lv_istore_n (lv' := [(2, .int 0), (1, .int 0), (0, .ref a0)]) hx hb dX1_found_20 rfl hl (by decide) rfl (fun ls hl => ?_)
    exact wX1_found_21 X hr  h hw (lv_sub hl [2, 1, 0] rfl)
  · have h := h.1 e_13
    refine lv_aload_n hx hb dX1_found_11 rfl (lv_at hl 0 rfl) ?_
    refine lv_iconst (v := 1) hx hb dX1_found_12 (by decide) ?_
    refine g_calli hw (g_V X hw (mX1_no l G _ _ _ _ h) 1 (lw_V q542 q544 qs3 q122 q545) rfl rfl ydX1_no ⟨Nat.le_of_ble_eq_true rfl, Nat.le_of_ble_eq_true rfl⟩ (g_recv X hw (ci := 0) (q := (RX1, TX1, 16)) hk_11 rfl) (As := [.int 1]) (rest := []) rfl hl.1 rfl (Nat.le_of_ble_eq_true rfl) dX1_found_13 ⟨Nat.le_refl _, Nat.le_refl _⟩) (fun r_14 u_15 H locs h hw => ?_)
    exact g_iret X hw hr h (Nat.le_refl _) (Nat.le_refl _) dX1_found_16

/-! FifthCardModel.found()I -/
theorem ydX19_found : yX19_found.cls = "FifthCardModel" ∧ yX19_found.cls ≠ "java/lang/invoke/MethodHandle" ∧ yX19_found.cls ≠ "java/lang/invoke/VarHandle" ∧ (parseMethodDescriptor yX19_found.desc).map (fun d => d.parameters.length) = some 0 := by decide +kernel
def rmX19_found (mc ms : Nat) : Room := { frames := 9, cells := mc, slots := ms, locals := 213 }
set_option maxHeartbeats 4000000 in
theorem wX19_found_22 {G : GT} {p : Program} {l : Launch} {e : Env} {s : State} {m : MethodId} {args : Array Value} {below : List Frame} {meth : Method} {c : Code} {H : Heap} {locs : List Loc} {ls : Array Slot} {a0 : Nat} {x1 : Int32} {x2 : Int32} {u : Hp} {K : Int32 → Hp → Prop} (X : Mc G p s m args meth c RX19 cX19_found 3) (hr : meth.sig.returnType = (some .int)) (h : jl3 (bX19_found_22 K a0) x1 x2 u) (hw : GW G u s H locs) (hl : lv_has ls 3 [(0, .ref a0), (1, .int x1), (2, .int x2)]) : W p l e (rmX19_found 0 0) s m args below meth c H locs 0 0 (QI G below K args s 0 0) (F0 m 22 ls []) := by
  obtain ⟨hx, hb, hml, hown, hts, -⟩ := id X
  obtain ⟨I, μ, h0, hs⟩ := h
  have key : ∀ (n : Nat) (x1 : Int32) (x2 : Int32) (u : Hp) (H : Heap) (locs : List Loc) (ls : Array Slot) , μ x1 x2 u < n → I x1 x2 u → GW G u s H locs → lv_has ls 3 [(0, .ref a0), (1, .int x1), (2, .int x2)] → W p l e (rmX19_found 0 0) s m args below meth c H locs 0 0 (QI G below K args s 0 0) (F0 m 22 ls []) := by
    intro n
    induction n with
    | zero =>
      intro x1 x2 u H locs ls hn
      exact absurd hn (Nat.not_lt_zero _)
    | succ n ih =>
      intro x1 x2 u H locs ls hn hI hw hl
      have h := hs x1 x2 u hI
      unfold bX19_found_22 at h
      have hJ22 : ∀ (x1' : Int32) (x2' : Int32) (u' : Hp) (H : Heap) (locs : List Loc) (ls : Array Slot) , (I x1' x2' u' ∧ μ x1' x2' u' < μ x1 x2 u) → GW G u' s H locs → lv_has ls 3 [(0, .ref a0), (1, .int x1'), (2, .int x2')] → W p l e (rmX19_found 0 0) s m args below meth c H locs 0 0 (QI G below K args s 0 0) (F0 m 22 ls []) := fun x1' x2' u' H locs ls h hw hl => ih x1' x2' u' H locs ls (Nat.lt_of_lt_of_le h.2 (Nat.le_of_lt_succ hn)) h.1 hw hl
      refine lv_iload_n hx hb dX19_found_22 rfl (lv_at hl 2 rfl) ?_
      refine lv_aload_n hx hb dX19_found_23 rfl (lv_at hl 0 rfl) ?_
      have hk_1 : kd u a0 = 16 := h.1
      have h := h.2
      obtain ⟨b_2, e_3, h⟩ := h
      refine g_getR X hw in_X19 hk_1 rfl 3 rfl (by decide) q1454 (fun _ z => z) e_3 dX19_found_24 ?_
      have hk_4 : kd u b_2 = 20 := h.1
      have h := h.2
      refine g_getNI X hw (host := "FifthCardModel") in_X23 hk_4 rfl 5 rfl (by decide) (List.mem_of_getElem? (i := 8) rfl) (fun _ z => z) dX19_found_27 ?_
      refine lv_icmp_ge (tgt := 59) hx hb dX19_found_30 rfl (fun c_10 => ?_) (fun c_10 => ?_)
      · have h := h.1 c_10
        refine lv_aload_n hx hb dX19_found_59 rfl (lv_at hl 0 rfl) ?_
        refine lv_iload_n hx hb dX19_found_60 rfl (lv_at hl 1 rfl) ?_
        refine g_calli hw (g_V X hw (mX19_good l G _ _ _ _ h) 1 (lw_V q1867 q1869 qs77 q143 q1870) rfl rfl ydX19_good ⟨Nat.le_of_ble_eq_true rfl, Nat.le_of_ble_eq_true rfl⟩ (g_recv X hw (ci := 15) (q := (RX19, TX19, 46)) hk_1 rfl) (As := [.int x1]) (rest := []) rfl hl.1 rfl (Nat.le_of_ble_eq_true rfl) dX19_found_61 ⟨Nat.le_refl _, Nat.le_refl _⟩) (fun r_5 u_6 H locs h hw => ?_)
        exact g_iret X hw hr h (Nat.le_refl _) (Nat.le_refl _) dX19_found_64
      · have h := h.2 c_10
        refine lv_iload_n hx hb dX19_found_33 rfl (lv_at hl 1 rfl) ?_
        refine lv_aload_n hx hb dX19_found_34 rfl (lv_at hl 0 rfl) ?_
        refine lv_iload_n hx hb dX19_found_35 rfl (lv_at hl 2 rfl) ?_
        refine g_calli hw (g_V X hw (mX19_firstWrong l G _ _ _ _ h) 1 (lw_V q2141 q2143 qs116 q143 q2144) rfl rfl ydX19_firstWrong ⟨Nat.le_of_ble_eq_true rfl, Nat.le_of_ble_eq_true rfl⟩ (g_recv X hw (ci := 15) (q := (RX19, TX19, 46)) hk_1 rfl) (As := [.int x2]) (rest := [.int x1]) rfl hl.1 rfl (Nat.le_of_ble_eq_true rfl) dX19_found_36 ⟨Nat.le_refl _, Nat.le_refl _⟩) (fun r_7 u_8 H locs h hw => ?_)
        refine lv_bipush (v := (-2)) hx hb dX19_found_39 (by decide) ?_
        refine lv_icmp_ne (tgt := 50) hx hb dX19_found_41 rfl (fun c_9 => ?_) (fun c_9 => ?_)
        · have h := h.2 c_9
          refine lv_iconst (v := 0) hx hb dX19_found_50 (by decide) ?_
          refine lv_ior hx hb dX19_found_51 ?_
          refine lv_istore_n (lv' := [(1, .int (x1 ||| 0)), (0, .ref a0), (2, .int x2)]) hx hb dX19_found_52 rfl hl (by decide) rfl (fun ls hl => ?_)
          refine lv_iinc (v := x2 + 1) (lv' := [(2, .int (x2 + 1)), (1, .int (x1 ||| 0)), (0, .ref a0)]) hx hb dX19_found_53 hl (k := 2) rfl rfl (by decide) rfl (fun ls hl => ?_)
          refine lv_goto (tgt := 22) hx hb dX19_found_56 rfl ?_
          exact hJ22 _ _ _ _ _ _ h hw (lv_sub hl [2, 1, 0] rfl)
        · have h := h.1 c_9
          refine lv_iconst (v := 1) hx hb dX19_found_44 (by decide) ?_
          refine lv_iload_n hx hb dX19_found_45 rfl (lv_at hl 2 rfl) ?_
          refine lv_ishl hx hb dX19_found_46 ?_
          refine lv_goto (tgt := 51) hx hb dX19_found_47 rfl ?_
          refine lv_ior hx hb dX19_found_51 ?_
          refine lv_istore_n (lv' := [(1, .int (x1 ||| (jshl 1 x2))), (0, .ref a0), (2, .int x2)]) hx hb dX19_found_52 rfl hl (by decide) rfl (fun ls hl => ?_)
          refine lv_iinc (v := x2 + 1) (lv' := [(2, .int (x2 + 1)), (1, .int (x1 ||| (jshl 1 x2))), (0, .ref a0)]) hx hb dX19_found_53 hl (k := 2) rfl rfl (by decide) rfl (fun ls hl => ?_)
          refine lv_goto (tgt := 22) hx hb dX19_found_56 rfl ?_
          exact hJ22 _ _ _ _ _ _ h hw (lv_sub hl [2, 1, 0] rfl)
  exact key _ _ _ _ _ _ _ (Nat.lt_succ_self _) h0 hw hl
set_option maxHeartbeats 4000000 in
theorem mX19_found (l : Launch) (G : GT) (u : Hp) (a0 : Nat) (K : Int32 → Hp → Prop) (h : pX19_found u a0 K) : Met l yX19_found (ws_ yX19_found cX19_found 3 (some .int)) (rmX19_found 0 0) (va_Pc [.ref a0] (GB G u)) (va_Qi K (fun u t => GH G u t.heap) (GA G)) 0 0 (GA G) := by
  refine Met.ofW (cc := cX19_found) (maxL := 3) (ret := (some .int)) (by decide) rfl ?_
  intro p e s m args below meth c s₁ B hml hv
  obtain ⟨rfl, hv⟩ := hv
  have X := Mc_of (own := RX19) B hml rfl hv
  have hw : GW G u s s.heap [] := ⟨hv.2.1, va_S.rf⟩
  have hr := B.returns
  obtain ⟨hx, hb, hml, hown, hts, -⟩ := id X
  have hl := lv_entry ([.ref a0]) (n := 3) (Nat.le_of_ble_eq_true rfl)
  rw [lg_entry_eq]
  generalize (lg_sl ([.ref a0]) ++ List.replicate (3 - (lg_sl ([.ref a0])).length) Slot.unset).toArray = ls at hl ⊢
  have hl : lv_has ls 3 [(0, .ref a0)] := hl
  change W p l e (rmX19_found 0 0) s m _ below meth c s.heap [] 0 0 (QI G below K _ s 0 0) (F0 m 0 ls [])
  unfold pX19_found at h
  refine lv_aload_n hx hb dX19_found_0 rfl (lv_at hl 0 rfl) ?_
  refine lv_iconst (v := 0) hx hb dX19_found_1 (by decide) ?_
  have hk_11 : kd u a0 = 16 := h.1
  have h := h.2
  refine g_putI (v := 0) X hw in_X19 tyX19_ok nmX19 hk_11 rfl 0 rfl (by decide) q1451 (fun _ z => z) rfl rfl rfl dX19_found_2 (fun H locs hw => ?_)
  refine lv_aload_n hx hb dX19_found_5 rfl (lv_at hl 0 rfl) ?_
  refine g_getO X hw in_X19 hk_11 rfl 3 rfl (by decide) q1454 (fun _ z => z) dX19_found_6 ?_
  refine g_ifnonnull X (tgt := 18) dX19_found_9 rfl (fun b_12 e_13 => ?_) (fun e_13 => ?_)
  · have h := h.2 b_12 e_13
    refine lv_iconst (v := 0) hx hb dX19_found_18 (by decide) ?_
    refine lv_istore_n (lv' := [(1, .int 0), (0, .ref a0)]) hx hb dX19_found_19 rfl hl (by decide) rfl (fun ls hl => ?_)
    refine lv_iconst (v := 0) hx hb dX19_found_20 (by decide) ?_
    refine lv_istore_n (lv' := [(2, .int 0), (1, .int 0), (0, .ref a0)]) hx hb dX19_found_21 rfl hl (by decide) rfl (fun ls hl => ?_)
    exact wX19_found_22 X hr  h hw (lv_sub hl [2, 1, 0] rfl)
  · have h := h.1 e_13
    refine lv_aload_n hx hb dX19_found_12 rfl (lv_at hl 0 rfl) ?_
    refine lv_iconst (v := 1) hx hb dX19_found_13 (by decide) ?_
    refine g_calli hw (g_V X hw (mX19_refused l G _ _ _ _ h) 1 (lw_V q1603 q1605 qs47 q143 q1606) rfl rfl ydX19_refused ⟨Nat.le_of_ble_eq_true rfl, Nat.le_of_ble_eq_true rfl⟩ (g_recv X hw (ci := 15) (q := (RX19, TX19, 46)) hk_11 rfl) (As := [.int 1]) (rest := []) rfl hl.1 rfl (Nat.le_of_ble_eq_true rfl) dX19_found_14 ⟨Nat.le_refl _, Nat.le_refl _⟩) (fun r_14 u_15 H locs h hw => ?_)
    exact g_iret X hw hr h (Nat.le_refl _) (Nat.le_refl _) dX19_found_17

/-! FifthCard.arePair(II)Z -/
theorem ydX1_arePair : yX1_arePair.cls = "FifthCard" ∧ yX1_arePair.cls ≠ "java/lang/invoke/MethodHandle" ∧ yX1_arePair.cls ≠ "java/lang/invoke/VarHandle" ∧ (parseMethodDescriptor yX1_arePair.desc).map (fun d => d.parameters.length) = some 2 := by decide +kernel
def rmX1_arePair (mc ms : Nat) : Room := { frames := 2, cells := mc, slots := ms, locals := 43 }
set_option maxHeartbeats 4000000 in
theorem mX1_arePair (l : Launch) (G : GT) (u : Hp) (a0 : Nat) (x1 : Int32) (x2 : Int32) (K : Int32 → Prop) (h : pX1_arePair u a0 x1 x2 K) : Met l yX1_arePair (ws_ yX1_arePair cX1_arePair 3 (some .boolean)) (rmX1_arePair 0 0) (va_Pc [.ref a0, .int x1, .int x2] (GB G u)) (va_Qi (fun r v => v = u ∧ K r) (fun u t => GH G u t.heap) (GA G)) 0 0 (GA G) := by
  refine Met.ofW (cc := cX1_arePair) (maxL := 3) (ret := (some .boolean)) (by decide) rfl ?_
  intro p e s m args below meth c s₁ B hml hv
  obtain ⟨rfl, hv⟩ := hv
  have X := Mc_of (own := RX1) B hml rfl hv
  have hw : GW G u s s.heap [] := ⟨hv.2.1, va_S.rf⟩
  have hr := B.returns
  obtain ⟨hx, hb, hml, hown, hts, -⟩ := id X
  have hl := lv_entry ([.ref a0, .int x1, .int x2]) (n := 3) (Nat.le_of_ble_eq_true rfl)
  rw [lg_entry_eq]
  generalize (lg_sl ([.ref a0, .int x1, .int x2]) ++ List.replicate (3 - (lg_sl ([.ref a0, .int x1, .int x2])).length) Slot.unset).toArray = ls at hl ⊢
  have hl : lv_has ls 3 [(0, .ref a0), (1, .int x1), (2, .int x2)] := hl
  change W p l e (rmX1_arePair 0 0) s m _ below meth c s.heap [] 0 0 (QI G below (fun r v => v = u ∧ K r) _ s 0 0) (F0 m 0 ls [])
  unfold pX1_arePair at h
  refine lv_aload_n hx hb dX1_arePair_0 rfl (lv_at hl 0 rfl) ?_
  refine lv_iload_n hx hb dX1_arePair_1 rfl (lv_at hl 1 rfl) ?_
  have hk_1 : kd u a0 = 1 := h.1
  have h := h.2
  refine g_callio hw (g_V X hw (mX1_isRule l G _ _ _ _ h) 1 (lw_V q1074 q1076 qs28 q122 q1077) rfl rfl ydX1_isRule ⟨Nat.le_of_ble_eq_true rfl, Nat.le_of_ble_eq_true rfl⟩ (g_recv X hw (ci := 0) (q := (RX1, TX1, 16)) hk_1 rfl) (As := [.int x1]) (rest := []) rfl hl.1 rfl (Nat.le_of_ble_eq_true rfl) dX1_arePair_2 ⟨Nat.le_refl _, Nat.le_refl _⟩) (fun r_2 H locs h hw => ?_)
  refine lv_if_eq (tgt := 25) hx hb dX1_arePair_5 rfl (fun c_6 => ?_) (fun c_6 => ?_)
  · have h := h.1 c_6
    refine lv_iconst (v := 0) hx hb dX1_arePair_25 (by decide) ?_
    exact g_zret X hw hr rfl ⟨rfl, h⟩ (Nat.le_refl _) (Nat.le_refl _) dX1_arePair_26
  · have h := h.2 c_6
    refine lv_aload_n hx hb dX1_arePair_8 rfl (lv_at hl 0 rfl) ?_
    refine lv_iload_n hx hb dX1_arePair_9 rfl (lv_at hl 2 rfl) ?_
    refine g_callio hw (g_V X hw (mX1_isRule l G _ _ _ _ h) 1 (lw_V q1074 q1076 qs28 q122 q1077) rfl rfl ydX1_isRule ⟨Nat.le_of_ble_eq_true rfl, Nat.le_of_ble_eq_true rfl⟩ (g_recv X hw (ci := 0) (q := (RX1, TX1, 16)) hk_1 rfl) (As := [.int x2]) (rest := []) rfl hl.1 rfl (Nat.le_of_ble_eq_true rfl) dX1_arePair_10 ⟨Nat.le_refl _, Nat.le_refl _⟩) (fun r_3 H locs h hw => ?_)
    refine lv_if_eq (tgt := 25) hx hb dX1_arePair_13 rfl (fun c_5 => ?_) (fun c_5 => ?_)
    · have h := h.1 c_5
      refine lv_iconst (v := 0) hx hb dX1_arePair_25 (by decide) ?_
      exact g_zret X hw hr rfl ⟨rfl, h⟩ (Nat.le_refl _) (Nat.le_refl _) dX1_arePair_26
    · have h := h.2 c_5
      refine lv_iload_n hx hb dX1_arePair_16 rfl (lv_at hl 1 rfl) ?_
      refine lv_iload_n hx hb dX1_arePair_17 rfl (lv_at hl 2 rfl) ?_
      refine lv_icmp_eq (tgt := 25) hx hb dX1_arePair_18 rfl (fun c_4 => ?_) (fun c_4 => ?_)
      · have h := h.1 c_4
        refine lv_iconst (v := 0) hx hb dX1_arePair_25 (by decide) ?_
        exact g_zret X hw hr rfl ⟨rfl, h⟩ (Nat.le_refl _) (Nat.le_refl _) dX1_arePair_26
      · have h := h.2 c_4
        refine lv_iconst (v := 1) hx hb dX1_arePair_21 (by decide) ?_
        refine lv_goto (tgt := 26) hx hb dX1_arePair_22 rfl ?_
        exact g_zret X hw hr rfl ⟨rfl, h⟩ (Nat.le_refl _) (Nat.le_refl _) dX1_arePair_26

/-! FifthCard.apartOf(II)I -/
theorem ydX1_apartOf : yX1_apartOf.cls = "FifthCard" ∧ yX1_apartOf.cls ≠ "java/lang/invoke/MethodHandle" ∧ yX1_apartOf.cls ≠ "java/lang/invoke/VarHandle" ∧ (parseMethodDescriptor yX1_apartOf.desc).map (fun d => d.parameters.length) = some 2 := by decide +kernel
def rmX1_apartOf (mc ms : Nat) : Room := { frames := 7, cells := mc, slots := ms, locals := 173 }
set_option maxHeartbeats 4000000 in
theorem wX1_apartOf_5 {G : GT} {p : Program} {l : Launch} {e : Env} {s : State} {m : MethodId} {args : Array Value} {below : List Frame} {meth : Method} {c : Code} {H : Heap} {locs : List Loc} {ls : Array Slot} {a0 : Nat} {x1 : Int32} {x2 : Int32} {x3 : Int32} {x4 : Int32} {u : Hp} {K : Int32 → Hp → Prop} (X : Mc G p s m args meth c RX1 cX1_apartOf 5) (hr : meth.sig.returnType = (some .int)) (h : jl3 (bX1_apartOf_5 K a0 x1 x2) x3 x4 u) (hw : GW G u s H locs) (hl : lv_has ls 5 [(0, .ref a0), (1, .int x1), (2, .int x2), (3, .int x3), (4, .int x4)]) : W p l e (rmX1_apartOf 0 0) s m args below meth c H locs 0 0 (QI G below K args s 0 0) (F0 m 5 ls []) := by
  obtain ⟨hx, hb, hml, hown, hts, -⟩ := id X
  obtain ⟨I, μ, h0, hs⟩ := h
  have key : ∀ (n : Nat) (x3 : Int32) (x4 : Int32) (u : Hp) (H : Heap) (locs : List Loc) (ls : Array Slot) , μ x3 x4 u < n → I x3 x4 u → GW G u s H locs → lv_has ls 5 [(0, .ref a0), (1, .int x1), (2, .int x2), (3, .int x3), (4, .int x4)] → W p l e (rmX1_apartOf 0 0) s m args below meth c H locs 0 0 (QI G below K args s 0 0) (F0 m 5 ls []) := by
    intro n
    induction n with
    | zero =>
      intro x3 x4 u H locs ls hn
      exact absurd hn (Nat.not_lt_zero _)
    | succ n ih =>
      intro x3 x4 u H locs ls hn hI hw hl
      have h := hs x3 x4 u hI
      unfold bX1_apartOf_5 at h
      have hJ5 : ∀ (x3' : Int32) (x4' : Int32) (u' : Hp) (H : Heap) (locs : List Loc) (ls : Array Slot) , (I x3' x4' u' ∧ μ x3' x4' u' < μ x3 x4 u) → GW G u' s H locs → lv_has ls 5 [(0, .ref a0), (1, .int x1), (2, .int x2), (3, .int x3'), (4, .int x4')] → W p l e (rmX1_apartOf 0 0) s m args below meth c H locs 0 0 (QI G below K args s 0 0) (F0 m 5 ls []) := fun x3' x4' u' H locs ls h hw hl => ih x3' x4' u' H locs ls (Nat.lt_of_lt_of_le h.2 (Nat.le_of_lt_succ hn)) h.1 hw hl
      refine lv_iload hx hb dX1_apartOf_5 (lv_at hl 4 rfl) ?_
      refine lv_aload_n hx hb dX1_apartOf_7 rfl (lv_at hl 0 rfl) ?_
      have hk_1 : kd u a0 = 1 := h.1
      have h := h.2
      refine g_getI X hw in_X1 hk_1 rfl 8 rfl (by decide) q481 (fun _ z => z) dX1_apartOf_8 ?_
      refine lv_icmp_ge (tgt := 45) hx hb dX1_apartOf_11 rfl (fun c_8 => ?_) (fun c_8 => ?_)
      · have h := h.1 c_8
        refine lv_iload_n hx hb dX1_apartOf_45 rfl (lv_at hl 3 rfl) ?_
        exact g_iret X hw hr h (Nat.le_refl _) (Nat.le_refl _) dX1_apartOf_46
      · have h := h.2 c_8
        refine lv_iload_n hx hb dX1_apartOf_14 rfl (lv_at hl 3 rfl) ?_
        refine lv_aload_n hx hb dX1_apartOf_15 rfl (lv_at hl 0 rfl) ?_
        refine lv_iload_n hx hb dX1_apartOf_16 rfl (lv_at hl 1 rfl) ?_
        refine lv_iload hx hb dX1_apartOf_17 (lv_at hl 4 rfl) ?_
        refine g_calli hw (g_V X hw (mX1_rowOf l G _ _ _ _ _ h) 2 (lw_V q1078 q1080 qs29 q122 q1081) rfl rfl ydX1_rowOf ⟨Nat.le_of_ble_eq_true rfl, Nat.le_of_ble_eq_true rfl⟩ (g_recv X hw (ci := 0) (q := (RX1, TX1, 16)) hk_1 rfl) (As := [.int x1, .int x4]) (rest := [.int x3]) rfl hl.1 rfl (Nat.le_of_ble_eq_true rfl) dX1_apartOf_19 ⟨Nat.le_refl _, Nat.le_refl _⟩) (fun r_2 u_3 H locs h hw => ?_)
        refine lv_aload_n hx hb dX1_apartOf_22 rfl (lv_at hl 0 rfl) ?_
        refine lv_iload_n hx hb dX1_apartOf_23 rfl (lv_at hl 2 rfl) ?_
        refine lv_iload hx hb dX1_apartOf_24 (lv_at hl 4 rfl) ?_
        have hk_4 : kd u_3 a0 = 1 := h.1
        have h := h.2
        refine g_calli hw (g_V X hw (mX1_rowOf l G _ _ _ _ _ h) 2 (lw_V q1078 q1080 qs29 q122 q1081) rfl rfl ydX1_rowOf ⟨Nat.le_of_ble_eq_true rfl, Nat.le_of_ble_eq_true rfl⟩ (g_recv X hw (ci := 0) (q := (RX1, TX1, 16)) hk_4 rfl) (As := [.int x2, .int x4]) (rest := [.int r_2, .int x3]) rfl hl.1 rfl (Nat.le_of_ble_eq_true rfl) dX1_apartOf_26 ⟨Nat.le_refl _, Nat.le_refl _⟩) (fun r_5 u_6 H locs h hw => ?_)
        refine lv_icmp_eq (tgt := 36) hx hb dX1_apartOf_29 rfl (fun c_7 => ?_) (fun c_7 => ?_)
        · have h := h.1 c_7
          refine lv_iconst (v := 0) hx hb dX1_apartOf_36 (by decide) ?_
          refine lv_iadd hx hb dX1_apartOf_37 ?_
          refine lv_istore_n (lv' := [(3, .int (x3 + 0)), (0, .ref a0), (1, .int x1), (2, .int x2), (4, .int x4)]) hx hb dX1_apartOf_38 rfl hl (by decide) rfl (fun ls hl => ?_)
          refine lv_iinc (v := x4 + 1) (lv' := [(4, .int (x4 + 1)), (3, .int (x3 + 0)), (0, .ref a0), (1, .int x1), (2, .int x2)]) hx hb dX1_apartOf_39 hl (k := 4) rfl rfl (by decide) rfl (fun ls hl => ?_)
          refine lv_goto (tgt := 5) hx hb dX1_apartOf_42 rfl ?_
          exact hJ5 _ _ _ _ _ _ h hw (lv_sub hl [2, 3, 4, 1, 0] rfl)
        · have h := h.2 c_7
          refine lv_iconst (v := 1) hx hb dX1_apartOf_32 (by decide) ?_
          refine lv_goto (tgt := 37) hx hb dX1_apartOf_33 rfl ?_
          refine lv_iadd hx hb dX1_apartOf_37 ?_
          refine lv_istore_n (lv' := [(3, .int (x3 + 1)), (0, .ref a0), (1, .int x1), (2, .int x2), (4, .int x4)]) hx hb dX1_apartOf_38 rfl hl (by decide) rfl (fun ls hl => ?_)
          refine lv_iinc (v := x4 + 1) (lv' := [(4, .int (x4 + 1)), (3, .int (x3 + 1)), (0, .ref a0), (1, .int x1), (2, .int x2)]) hx hb dX1_apartOf_39 hl (k := 4) rfl rfl (by decide) rfl (fun ls hl => ?_)
          refine lv_goto (tgt := 5) hx hb dX1_apartOf_42 rfl ?_
          exact hJ5 _ _ _ _ _ _ h hw (lv_sub hl [2, 3, 4, 1, 0] rfl)
  exact key _ _ _ _ _ _ _ (Nat.lt_succ_self _) h0 hw hl
set_option maxHeartbeats 4000000 in
theorem mX1_apartOf (l : Launch) (G : GT) (u : Hp) (a0 : Nat) (x1 : Int32) (x2 : Int32) (K : Int32 → Hp → Prop) (h : pX1_apartOf u a0 x1 x2 K) : Met l yX1_apartOf (ws_ yX1_apartOf cX1_apartOf 5 (some .int)) (rmX1_apartOf 0 0) (va_Pc [.ref a0, .int x1, .int x2] (GB G u)) (va_Qi K (fun u t => GH G u t.heap) (GA G)) 0 0 (GA G) := by
  refine Met.ofW (cc := cX1_apartOf) (maxL := 5) (ret := (some .int)) (by decide) rfl ?_
  intro p e s m args below meth c s₁ B hml hv
  obtain ⟨rfl, hv⟩ := hv
  have X := Mc_of (own := RX1) B hml rfl hv
  have hw : GW G u s s.heap [] := ⟨hv.2.1, va_S.rf⟩
  have hr := B.returns
  obtain ⟨hx, hb, hml, hown, hts, -⟩ := id X
  have hl := lv_entry ([.ref a0, .int x1, .int x2]) (n := 5) (Nat.le_of_ble_eq_true rfl)
  rw [lg_entry_eq]
  generalize (lg_sl ([.ref a0, .int x1, .int x2]) ++ List.replicate (5 - (lg_sl ([.ref a0, .int x1, .int x2])).length) Slot.unset).toArray = ls at hl ⊢
  have hl : lv_has ls 5 [(0, .ref a0), (1, .int x1), (2, .int x2)] := hl
  change W p l e (rmX1_apartOf 0 0) s m _ below meth c s.heap [] 0 0 (QI G below K _ s 0 0) (F0 m 0 ls [])
  unfold pX1_apartOf at h
  refine lv_iconst (v := 0) hx hb dX1_apartOf_0 (by decide) ?_
  refine lv_istore_n (lv' := [(3, .int 0), (0, .ref a0), (1, .int x1), (2, .int x2)]) hx hb dX1_apartOf_1 rfl hl (by decide) rfl (fun ls hl => ?_)
  refine lv_iconst (v := 0) hx hb dX1_apartOf_2 (by decide) ?_
  refine lv_istore (lv' := [(4, .int 0), (3, .int 0), (0, .ref a0), (1, .int x1), (2, .int x2)]) hx hb dX1_apartOf_3 hl (by decide) rfl (fun ls hl => ?_)
  exact wX1_apartOf_5 X hr  h hw (lv_sub hl [2, 3, 4, 1, 0] rfl)

/-! FifthCard.apart(II)I -/
theorem ydX1_apart : yX1_apart.cls = "FifthCard" ∧ yX1_apart.cls ≠ "java/lang/invoke/MethodHandle" ∧ yX1_apart.cls ≠ "java/lang/invoke/VarHandle" ∧ (parseMethodDescriptor yX1_apart.desc).map (fun d => d.parameters.length) = some 2 := by decide +kernel
def rmX1_apart (mc ms : Nat) : Room := { frames := 8, cells := mc, slots := ms, locals := 197 }
set_option maxHeartbeats 4000000 in
theorem mX1_apart (l : Launch) (G : GT) (u : Hp) (a0 : Nat) (x1 : Int32) (x2 : Int32) (K : Int32 → Hp → Prop) (h : pX1_apart u a0 x1 x2 K) : Met l yX1_apart (ws_ yX1_apart cX1_apart 3 (some .int)) (rmX1_apart 0 0) (va_Pc [.ref a0, .int x1, .int x2] (GB G u)) (va_Qi K (fun u t => GH G u t.heap) (GA G)) 0 0 (GA G) := by
  refine Met.ofW (cc := cX1_apart) (maxL := 3) (ret := (some .int)) (by decide) rfl ?_
  intro p e s m args below meth c s₁ B hml hv
  obtain ⟨rfl, hv⟩ := hv
  have X := Mc_of (own := RX1) B hml rfl hv
  have hw : GW G u s s.heap [] := ⟨hv.2.1, va_S.rf⟩
  have hr := B.returns
  obtain ⟨hx, hb, hml, hown, hts, -⟩ := id X
  have hl := lv_entry ([.ref a0, .int x1, .int x2]) (n := 3) (Nat.le_of_ble_eq_true rfl)
  rw [lg_entry_eq]
  generalize (lg_sl ([.ref a0, .int x1, .int x2]) ++ List.replicate (3 - (lg_sl ([.ref a0, .int x1, .int x2])).length) Slot.unset).toArray = ls at hl ⊢
  have hl : lv_has ls 3 [(0, .ref a0), (1, .int x1), (2, .int x2)] := hl
  change W p l e (rmX1_apart 0 0) s m _ below meth c s.heap [] 0 0 (QI G below K _ s 0 0) (F0 m 0 ls [])
  unfold pX1_apart at h
  refine lv_aload_n hx hb dX1_apart_0 rfl (lv_at hl 0 rfl) ?_
  have hk_1 : kd u a0 = 1 := h.1
  have h := h.2
  refine g_callv hw (g_V X hw (mX1_anew l G _ _ _ h) 0 (lw_V q535 q537 qs2 q122 q538) rfl rfl ydX1_anew ⟨Nat.le_of_ble_eq_true rfl, Nat.le_of_ble_eq_true rfl⟩ (g_recv X hw (ci := 0) (q := (RX1, TX1, 16)) hk_1 rfl) (As := []) (rest := []) rfl hl.1 rfl (Nat.le_of_ble_eq_true rfl) dX1_apart_1 ⟨Nat.le_refl _, Nat.le_refl _⟩) (fun u_2 H locs h hw => ?_)
  refine lv_aload_n hx hb dX1_apart_4 rfl (lv_at hl 0 rfl) ?_
  refine lv_iload_n hx hb dX1_apart_5 rfl (lv_at hl 1 rfl) ?_
  refine lv_iload_n hx hb dX1_apart_6 rfl (lv_at hl 2 rfl) ?_
  have hk_3 : kd u_2 a0 = 1 := h.1
  have h := h.2
  refine g_callio hw (g_V X hw (mX1_arePair l G _ _ _ _ _ h) 2 (lw_V q1330 q1332 qs43 q122 q1333) rfl rfl ydX1_arePair ⟨Nat.le_of_ble_eq_true rfl, Nat.le_of_ble_eq_true rfl⟩ (g_recv X hw (ci := 0) (q := (RX1, TX1, 16)) hk_3 rfl) (As := [.int x1, .int x2]) (rest := []) rfl hl.1 rfl (Nat.le_of_ble_eq_true rfl) dX1_apart_7 ⟨Nat.le_refl _, Nat.le_refl _⟩) (fun r_4 H locs h hw => ?_)
  refine lv_if_eq (tgt := 22) hx hb dX1_apart_10 rfl (fun c_9 => ?_) (fun c_9 => ?_)
  · have h := h.1 c_9
    refine lv_aload_n hx hb dX1_apart_22 rfl (lv_at hl 0 rfl) ?_
    refine lv_iconst (v := 1) hx hb dX1_apart_23 (by decide) ?_
    refine g_calli hw (g_V X hw (mX1_no l G _ _ _ _ h) 1 (lw_V q542 q544 qs3 q122 q545) rfl rfl ydX1_no ⟨Nat.le_of_ble_eq_true rfl, Nat.le_of_ble_eq_true rfl⟩ (g_recv X hw (ci := 0) (q := (RX1, TX1, 16)) hk_3 rfl) (As := [.int 1]) (rest := []) rfl hl.1 rfl (Nat.le_of_ble_eq_true rfl) dX1_apart_24 ⟨Nat.le_refl _, Nat.le_refl _⟩) (fun r_5 u_6 H locs h hw => ?_)
    exact g_iret X hw hr h (Nat.le_refl _) (Nat.le_refl _) dX1_apart_27
  · have h := h.2 c_9
    refine lv_aload_n hx hb dX1_apart_13 rfl (lv_at hl 0 rfl) ?_
    refine lv_iload_n hx hb dX1_apart_14 rfl (lv_at hl 1 rfl) ?_
    refine lv_iload_n hx hb dX1_apart_15 rfl (lv_at hl 2 rfl) ?_
    refine g_calli hw (g_V X hw (mX1_apartOf l G _ _ _ _ _ h) 2 (lw_V q1334 q1336 qs44 q122 q1337) rfl rfl ydX1_apartOf ⟨Nat.le_of_ble_eq_true rfl, Nat.le_of_ble_eq_true rfl⟩ (g_recv X hw (ci := 0) (q := (RX1, TX1, 16)) hk_3 rfl) (As := [.int x1, .int x2]) (rest := []) rfl hl.1 rfl (Nat.le_of_ble_eq_true rfl) dX1_apart_16 ⟨Nat.le_refl _, Nat.le_refl _⟩) (fun r_7 u_8 H locs h hw => ?_)
    refine lv_goto (tgt := 27) hx hb dX1_apart_19 rfl ?_
    exact g_iret X hw hr h (Nat.le_refl _) (Nat.le_refl _) dX1_apart_27

/-! FifthCardModel.areRules(II)Z -/
theorem ydX19_areRules : yX19_areRules.cls = "FifthCardModel" ∧ yX19_areRules.cls ≠ "java/lang/invoke/MethodHandle" ∧ yX19_areRules.cls ≠ "java/lang/invoke/VarHandle" ∧ (parseMethodDescriptor yX19_areRules.desc).map (fun d => d.parameters.length) = some 2 := by decide +kernel
def rmX19_areRules (mc ms : Nat) : Room := { frames := 1, cells := mc, slots := ms, locals := 21 }
set_option maxHeartbeats 4000000 in
theorem mX19_areRules (l : Launch) (G : GT) (u : Hp) (a0 : Nat) (x1 : Int32) (x2 : Int32) (K : Int32 → Prop) (h : pX19_areRules u a0 x1 x2 K) : Met l yX19_areRules (ws_ yX19_areRules cX19_areRules 3 (some .boolean)) (rmX19_areRules 0 0) (va_Pc [.ref a0, .int x1, .int x2] (GB G u)) (va_Qi (fun r v => v = u ∧ K r) (fun u t => GH G u t.heap) (GA G)) 0 0 (GA G) := by
  refine Met.ofW (cc := cX19_areRules) (maxL := 3) (ret := (some .boolean)) (by decide) rfl ?_
  intro p e s m args below meth c s₁ B hml hv
  obtain ⟨rfl, hv⟩ := hv
  have X := Mc_of (own := RX19) B hml rfl hv
  have hw : GW G u s s.heap [] := ⟨hv.2.1, va_S.rf⟩
  have hr := B.returns
  obtain ⟨hx, hb, hml, hown, hts, -⟩ := id X
  have hl := lv_entry ([.ref a0, .int x1, .int x2]) (n := 3) (Nat.le_of_ble_eq_true rfl)
  rw [lg_entry_eq]
  generalize (lg_sl ([.ref a0, .int x1, .int x2]) ++ List.replicate (3 - (lg_sl ([.ref a0, .int x1, .int x2])).length) Slot.unset).toArray = ls at hl ⊢
  have hl : lv_has ls 3 [(0, .ref a0), (1, .int x1), (2, .int x2)] := hl
  change W p l e (rmX19_areRules 0 0) s m _ below meth c s.heap [] 0 0 (QI G below (fun r v => v = u ∧ K r) _ s 0 0) (F0 m 0 ls [])
  unfold pX19_areRules at h
  refine lv_aload_n hx hb dX19_areRules_0 rfl (lv_at hl 0 rfl) ?_
  refine lv_iload_n hx hb dX19_areRules_1 rfl (lv_at hl 1 rfl) ?_
  have hk_1 : kd u a0 = 16 := h.1
  have h := h.2
  refine g_callio hw (g_V X hw (mX19_isRule l G _ _ _ _ h) 1 (lw_V q1940 q1942 qs84 q143 q1943) rfl rfl ydX19_isRule ⟨Nat.le_of_ble_eq_true rfl, Nat.le_of_ble_eq_true rfl⟩ (g_recv X hw (ci := 15) (q := (RX19, TX19, 46)) hk_1 rfl) (As := [.int x1]) (rest := []) rfl hl.1 rfl (Nat.le_of_ble_eq_true rfl) dX19_areRules_2 ⟨Nat.le_refl _, Nat.le_refl _⟩) (fun r_2 H locs h hw => ?_)
  refine lv_if_eq (tgt := 25) hx hb dX19_areRules_5 rfl (fun c_6 => ?_) (fun c_6 => ?_)
  · have h := h.1 c_6
    refine lv_iconst (v := 0) hx hb dX19_areRules_25 (by decide) ?_
    exact g_zret X hw hr rfl ⟨rfl, h⟩ (Nat.le_refl _) (Nat.le_refl _) dX19_areRules_26
  · have h := h.2 c_6
    refine lv_aload_n hx hb dX19_areRules_8 rfl (lv_at hl 0 rfl) ?_
    refine lv_iload_n hx hb dX19_areRules_9 rfl (lv_at hl 2 rfl) ?_
    refine g_callio hw (g_V X hw (mX19_isRule l G _ _ _ _ h) 1 (lw_V q1940 q1942 qs84 q143 q1943) rfl rfl ydX19_isRule ⟨Nat.le_of_ble_eq_true rfl, Nat.le_of_ble_eq_true rfl⟩ (g_recv X hw (ci := 15) (q := (RX19, TX19, 46)) hk_1 rfl) (As := [.int x2]) (rest := []) rfl hl.1 rfl (Nat.le_of_ble_eq_true rfl) dX19_areRules_10 ⟨Nat.le_refl _, Nat.le_refl _⟩) (fun r_3 H locs h hw => ?_)
    refine lv_if_eq (tgt := 25) hx hb dX19_areRules_13 rfl (fun c_5 => ?_) (fun c_5 => ?_)
    · have h := h.1 c_5
      refine lv_iconst (v := 0) hx hb dX19_areRules_25 (by decide) ?_
      exact g_zret X hw hr rfl ⟨rfl, h⟩ (Nat.le_refl _) (Nat.le_refl _) dX19_areRules_26
    · have h := h.2 c_5
      refine lv_iload_n hx hb dX19_areRules_16 rfl (lv_at hl 1 rfl) ?_
      refine lv_iload_n hx hb dX19_areRules_17 rfl (lv_at hl 2 rfl) ?_
      refine lv_icmp_eq (tgt := 25) hx hb dX19_areRules_18 rfl (fun c_4 => ?_) (fun c_4 => ?_)
      · have h := h.1 c_4
        refine lv_iconst (v := 0) hx hb dX19_areRules_25 (by decide) ?_
        exact g_zret X hw hr rfl ⟨rfl, h⟩ (Nat.le_refl _) (Nat.le_refl _) dX19_areRules_26
      · have h := h.2 c_4
        refine lv_iconst (v := 1) hx hb dX19_areRules_21 (by decide) ?_
        refine lv_goto (tgt := 26) hx hb dX19_areRules_22 rfl ?_
        exact g_zret X hw hr rfl ⟨rfl, h⟩ (Nat.le_refl _) (Nat.le_refl _) dX19_areRules_26

/-! FifthCardModel.apartNow(II)I -/
theorem ydX19_apartNow : yX19_apartNow.cls = "FifthCardModel" ∧ yX19_apartNow.cls ≠ "java/lang/invoke/MethodHandle" ∧ yX19_apartNow.cls ≠ "java/lang/invoke/VarHandle" ∧ (parseMethodDescriptor yX19_apartNow.desc).map (fun d => d.parameters.length) = some 2 := by decide +kernel
def rmX19_apartNow (mc ms : Nat) : Room := { frames := 7, cells := mc, slots := ms, locals := 169 }
set_option maxHeartbeats 4000000 in
theorem wX19_apartNow_5 {G : GT} {p : Program} {l : Launch} {e : Env} {s : State} {m : MethodId} {args : Array Value} {below : List Frame} {meth : Method} {c : Code} {H : Heap} {locs : List Loc} {ls : Array Slot} {a0 : Nat} {x1 : Int32} {x2 : Int32} {x3 : Int32} {x4 : Int32} {u : Hp} {K : Int32 → Hp → Prop} (X : Mc G p s m args meth c RX19 cX19_apartNow 5) (hr : meth.sig.returnType = (some .int)) (h : jl3 (bX19_apartNow_5 K a0 x1 x2) x3 x4 u) (hw : GW G u s H locs) (hl : lv_has ls 5 [(0, .ref a0), (1, .int x1), (2, .int x2), (3, .int x3), (4, .int x4)]) : W p l e (rmX19_apartNow 0 0) s m args below meth c H locs 0 0 (QI G below K args s 0 0) (F0 m 5 ls []) := by
  obtain ⟨hx, hb, hml, hown, hts, -⟩ := id X
  obtain ⟨I, μ, h0, hs⟩ := h
  have key : ∀ (n : Nat) (x3 : Int32) (x4 : Int32) (u : Hp) (H : Heap) (locs : List Loc) (ls : Array Slot) , μ x3 x4 u < n → I x3 x4 u → GW G u s H locs → lv_has ls 5 [(0, .ref a0), (1, .int x1), (2, .int x2), (3, .int x3), (4, .int x4)] → W p l e (rmX19_apartNow 0 0) s m args below meth c H locs 0 0 (QI G below K args s 0 0) (F0 m 5 ls []) := by
    intro n
    induction n with
    | zero =>
      intro x3 x4 u H locs ls hn
      exact absurd hn (Nat.not_lt_zero _)
    | succ n ih =>
      intro x3 x4 u H locs ls hn hI hw hl
      have h := hs x3 x4 u hI
      unfold bX19_apartNow_5 at h
      have hJ5 : ∀ (x3' : Int32) (x4' : Int32) (u' : Hp) (H : Heap) (locs : List Loc) (ls : Array Slot) , (I x3' x4' u' ∧ μ x3' x4' u' < μ x3 x4 u) → GW G u' s H locs → lv_has ls 5 [(0, .ref a0), (1, .int x1), (2, .int x2), (3, .int x3'), (4, .int x4')] → W p l e (rmX19_apartNow 0 0) s m args below meth c H locs 0 0 (QI G below K args s 0 0) (F0 m 5 ls []) := fun x3' x4' u' H locs ls h hw hl => ih x3' x4' u' H locs ls (Nat.lt_of_lt_of_le h.2 (Nat.le_of_lt_succ hn)) h.1 hw hl
      refine lv_iload hx hb dX19_apartNow_5 (lv_at hl 4 rfl) ?_
      refine lv_aload_n hx hb dX19_apartNow_7 rfl (lv_at hl 0 rfl) ?_
      have hk_1 : kd u a0 = 16 := h.1
      have h := h.2
      refine g_getI X hw in_X19 hk_1 rfl 17 rfl (by decide) q1468 (fun _ z => z) dX19_apartNow_8 ?_
      refine lv_icmp_ge (tgt := 45) hx hb dX19_apartNow_11 rfl (fun c_8 => ?_) (fun c_8 => ?_)
      · have h := h.1 c_8
        refine lv_iload_n hx hb dX19_apartNow_45 rfl (lv_at hl 3 rfl) ?_
        exact g_iret X hw hr h (Nat.le_refl _) (Nat.le_refl _) dX19_apartNow_46
      · have h := h.2 c_8
        refine lv_iload_n hx hb dX19_apartNow_14 rfl (lv_at hl 3 rfl) ?_
        refine lv_aload_n hx hb dX19_apartNow_15 rfl (lv_at hl 0 rfl) ?_
        refine lv_iload_n hx hb dX19_apartNow_16 rfl (lv_at hl 1 rfl) ?_
        refine lv_iload hx hb dX19_apartNow_17 (lv_at hl 4 rfl) ?_
        refine g_calli hw (g_V X hw (mX19_laysNow l G _ _ _ _ _ h) 2 (lw_V q1944 q1946 qs85 q143 q1947) rfl rfl ydX19_laysNow ⟨Nat.le_of_ble_eq_true rfl, Nat.le_of_ble_eq_true rfl⟩ (g_recv X hw (ci := 15) (q := (RX19, TX19, 46)) hk_1 rfl) (As := [.int x1, .int x4]) (rest := [.int x3]) rfl hl.1 rfl (Nat.le_of_ble_eq_true rfl) dX19_apartNow_19 ⟨Nat.le_refl _, Nat.le_refl _⟩) (fun r_2 u_3 H locs h hw => ?_)
        refine lv_aload_n hx hb dX19_apartNow_22 rfl (lv_at hl 0 rfl) ?_
        refine lv_iload_n hx hb dX19_apartNow_23 rfl (lv_at hl 2 rfl) ?_
        refine lv_iload hx hb dX19_apartNow_24 (lv_at hl 4 rfl) ?_
        have hk_4 : kd u_3 a0 = 16 := h.1
        have h := h.2
        refine g_calli hw (g_V X hw (mX19_laysNow l G _ _ _ _ _ h) 2 (lw_V q1944 q1946 qs85 q143 q1947) rfl rfl ydX19_laysNow ⟨Nat.le_of_ble_eq_true rfl, Nat.le_of_ble_eq_true rfl⟩ (g_recv X hw (ci := 15) (q := (RX19, TX19, 46)) hk_4 rfl) (As := [.int x2, .int x4]) (rest := [.int r_2, .int x3]) rfl hl.1 rfl (Nat.le_of_ble_eq_true rfl) dX19_apartNow_26 ⟨Nat.le_refl _, Nat.le_refl _⟩) (fun r_5 u_6 H locs h hw => ?_)
        refine lv_icmp_eq (tgt := 36) hx hb dX19_apartNow_29 rfl (fun c_7 => ?_) (fun c_7 => ?_)
        · have h := h.1 c_7
          refine lv_iconst (v := 0) hx hb dX19_apartNow_36 (by decide) ?_
          refine lv_iadd hx hb dX19_apartNow_37 ?_
          refine lv_istore_n (lv' := [(3, .int (x3 + 0)), (0, .ref a0), (1, .int x1), (2, .int x2), (4, .int x4)]) hx hb dX19_apartNow_38 rfl hl (by decide) rfl (fun ls hl => ?_)
          refine lv_iinc (v := x4 + 1) (lv' := [(4, .int (x4 + 1)), (3, .int (x3 + 0)), (0, .ref a0), (1, .int x1), (2, .int x2)]) hx hb dX19_apartNow_39 hl (k := 4) rfl rfl (by decide) rfl (fun ls hl => ?_)
          refine lv_goto (tgt := 5) hx hb dX19_apartNow_42 rfl ?_
          exact hJ5 _ _ _ _ _ _ h hw (lv_sub hl [2, 3, 4, 1, 0] rfl)
        · have h := h.2 c_7
          refine lv_iconst (v := 1) hx hb dX19_apartNow_32 (by decide) ?_
          refine lv_goto (tgt := 37) hx hb dX19_apartNow_33 rfl ?_
          refine lv_iadd hx hb dX19_apartNow_37 ?_
          refine lv_istore_n (lv' := [(3, .int (x3 + 1)), (0, .ref a0), (1, .int x1), (2, .int x2), (4, .int x4)]) hx hb dX19_apartNow_38 rfl hl (by decide) rfl (fun ls hl => ?_)
          refine lv_iinc (v := x4 + 1) (lv' := [(4, .int (x4 + 1)), (3, .int (x3 + 1)), (0, .ref a0), (1, .int x1), (2, .int x2)]) hx hb dX19_apartNow_39 hl (k := 4) rfl rfl (by decide) rfl (fun ls hl => ?_)
          refine lv_goto (tgt := 5) hx hb dX19_apartNow_42 rfl ?_
          exact hJ5 _ _ _ _ _ _ h hw (lv_sub hl [2, 3, 4, 1, 0] rfl)
  exact key _ _ _ _ _ _ _ (Nat.lt_succ_self _) h0 hw hl
set_option maxHeartbeats 4000000 in
theorem mX19_apartNow (l : Launch) (G : GT) (u : Hp) (a0 : Nat) (x1 : Int32) (x2 : Int32) (K : Int32 → Hp → Prop) (h : pX19_apartNow u a0 x1 x2 K) : Met l yX19_apartNow (ws_ yX19_apartNow cX19_apartNow 5 (some .int)) (rmX19_apartNow 0 0) (va_Pc [.ref a0, .int x1, .int x2] (GB G u)) (va_Qi K (fun u t => GH G u t.heap) (GA G)) 0 0 (GA G) := by
  refine Met.ofW (cc := cX19_apartNow) (maxL := 5) (ret := (some .int)) (by decide) rfl ?_
  intro p e s m args below meth c s₁ B hml hv
  obtain ⟨rfl, hv⟩ := hv
  have X := Mc_of (own := RX19) B hml rfl hv
  have hw : GW G u s s.heap [] := ⟨hv.2.1, va_S.rf⟩
  have hr := B.returns
  obtain ⟨hx, hb, hml, hown, hts, -⟩ := id X
  have hl := lv_entry ([.ref a0, .int x1, .int x2]) (n := 5) (Nat.le_of_ble_eq_true rfl)
  rw [lg_entry_eq]
  generalize (lg_sl ([.ref a0, .int x1, .int x2]) ++ List.replicate (5 - (lg_sl ([.ref a0, .int x1, .int x2])).length) Slot.unset).toArray = ls at hl ⊢
  have hl : lv_has ls 5 [(0, .ref a0), (1, .int x1), (2, .int x2)] := hl
  change W p l e (rmX19_apartNow 0 0) s m _ below meth c s.heap [] 0 0 (QI G below K _ s 0 0) (F0 m 0 ls [])
  unfold pX19_apartNow at h
  refine lv_iconst (v := 0) hx hb dX19_apartNow_0 (by decide) ?_
  refine lv_istore_n (lv' := [(3, .int 0), (0, .ref a0), (1, .int x1), (2, .int x2)]) hx hb dX19_apartNow_1 rfl hl (by decide) rfl (fun ls hl => ?_)
  refine lv_iconst (v := 0) hx hb dX19_apartNow_2 (by decide) ?_
  refine lv_istore (lv' := [(4, .int 0), (3, .int 0), (0, .ref a0), (1, .int x1), (2, .int x2)]) hx hb dX19_apartNow_3 hl (by decide) rfl (fun ls hl => ?_)
  exact wX19_apartNow_5 X hr  h hw (lv_sub hl [2, 3, 4, 1, 0] rfl)

/-! FifthCardModel.apart(II)I -/
theorem ydX19_apart : yX19_apart.cls = "FifthCardModel" ∧ yX19_apart.cls ≠ "java/lang/invoke/MethodHandle" ∧ yX19_apart.cls ≠ "java/lang/invoke/VarHandle" ∧ (parseMethodDescriptor yX19_apart.desc).map (fun d => d.parameters.length) = some 2 := by decide +kernel
def rmX19_apart (mc ms : Nat) : Room := { frames := 8, cells := mc, slots := ms, locals := 193 }
set_option maxHeartbeats 4000000 in
theorem mX19_apart (l : Launch) (G : GT) (u : Hp) (a0 : Nat) (x1 : Int32) (x2 : Int32) (K : Int32 → Hp → Prop) (h : pX19_apart u a0 x1 x2 K) : Met l yX19_apart (ws_ yX19_apart cX19_apart 3 (some .int)) (rmX19_apart 0 0) (va_Pc [.ref a0, .int x1, .int x2] (GB G u)) (va_Qi K (fun u t => GH G u t.heap) (GA G)) 0 0 (GA G) := by
  refine Met.ofW (cc := cX19_apart) (maxL := 3) (ret := (some .int)) (by decide) rfl ?_
  intro p e s m args below meth c s₁ B hml hv
  obtain ⟨rfl, hv⟩ := hv
  have X := Mc_of (own := RX19) B hml rfl hv
  have hw : GW G u s s.heap [] := ⟨hv.2.1, va_S.rf⟩
  have hr := B.returns
  obtain ⟨hx, hb, hml, hown, hts, -⟩ := id X
  have hl := lv_entry ([.ref a0, .int x1, .int x2]) (n := 3) (Nat.le_of_ble_eq_true rfl)
  rw [lg_entry_eq]
  generalize (lg_sl ([.ref a0, .int x1, .int x2]) ++ List.replicate (3 - (lg_sl ([.ref a0, .int x1, .int x2])).length) Slot.unset).toArray = ls at hl ⊢
  have hl : lv_has ls 3 [(0, .ref a0), (1, .int x1), (2, .int x2)] := hl
  change W p l e (rmX19_apart 0 0) s m _ below meth c s.heap [] 0 0 (QI G below K _ s 0 0) (F0 m 0 ls [])
  unfold pX19_apart at h
  refine lv_aload_n hx hb dX19_apart_0 rfl (lv_at hl 0 rfl) ?_
  refine lv_iconst (v := 0) hx hb dX19_apart_1 (by decide) ?_
  have hk_1 : kd u a0 = 16 := h.1
  have h := h.2
  refine g_putI (v := 0) X hw in_X19 tyX19_ok nmX19 hk_1 rfl 0 rfl (by decide) q1451 (fun _ z => z) rfl rfl rfl dX19_apart_2 (fun H locs hw => ?_)
  refine lv_aload_n hx hb dX19_apart_5 rfl (lv_at hl 0 rfl) ?_
  refine lv_iload_n hx hb dX19_apart_6 rfl (lv_at hl 1 rfl) ?_
  refine lv_iload_n hx hb dX19_apart_7 rfl (lv_at hl 2 rfl) ?_
  refine g_callio hw (g_V X hw (mX19_areRules l G _ _ _ _ _ h) 2 (lw_V q2153 q2155 qs117 q143 q2156) rfl rfl ydX19_areRules ⟨Nat.le_of_ble_eq_true rfl, Nat.le_of_ble_eq_true rfl⟩ (g_recv X hw (ci := 15) (q := (RX19, TX19, 46)) hk_1 rfl) (As := [.int x1, .int x2]) (rest := []) rfl hl.1 rfl (Nat.le_of_ble_eq_true rfl) dX19_apart_8 ⟨Nat.le_refl _, Nat.le_refl _⟩) (fun r_2 H locs h hw => ?_)
  refine lv_if_eq (tgt := 27) hx hb dX19_apart_11 rfl (fun c_10 => ?_) (fun c_10 => ?_)
  · have h := h.1 c_10
    refine lv_aload_n hx hb dX19_apart_27 rfl (lv_at hl 0 rfl) ?_
    refine lv_iconst (v := 1) hx hb dX19_apart_28 (by decide) ?_
    refine g_calli hw (g_V X hw (mX19_refused l G _ _ _ _ h) 1 (lw_V q1603 q1605 qs47 q143 q1606) rfl rfl ydX19_refused ⟨Nat.le_of_ble_eq_true rfl, Nat.le_of_ble_eq_true rfl⟩ (g_recv X hw (ci := 15) (q := (RX19, TX19, 46)) hk_1 rfl) (As := [.int 1]) (rest := []) rfl hl.1 rfl (Nat.le_of_ble_eq_true rfl) dX19_apart_29 ⟨Nat.le_refl _, Nat.le_refl _⟩) (fun r_3 u_4 H locs h hw => ?_)
    exact g_iret X hw hr h (Nat.le_refl _) (Nat.le_refl _) dX19_apart_32
  · have h := h.2 c_10
    refine lv_aload_n hx hb dX19_apart_14 rfl (lv_at hl 0 rfl) ?_
    refine lv_aload_n hx hb dX19_apart_15 rfl (lv_at hl 0 rfl) ?_
    refine lv_iload_n hx hb dX19_apart_16 rfl (lv_at hl 1 rfl) ?_
    refine lv_iload_n hx hb dX19_apart_17 rfl (lv_at hl 2 rfl) ?_
    refine g_calli hw (g_V X hw (mX19_apartNow l G _ _ _ _ _ h) 2 (lw_V q2157 q2159 qs118 q143 q2160) rfl rfl ydX19_apartNow ⟨Nat.le_of_ble_eq_true rfl, Nat.le_of_ble_eq_true rfl⟩ (g_recv X hw (ci := 15) (q := (RX19, TX19, 46)) hk_1 rfl) (As := [.int x1, .int x2]) (rest := [.ref a0]) rfl hl.1 rfl (Nat.le_of_ble_eq_true rfl) dX19_apart_18 ⟨Nat.le_refl _, Nat.le_refl _⟩) (fun r_5 u_6 H locs h hw => ?_)
    have hk_7 : kd u_6 a0 = 16 := h.1
    have h := h.2
    refine g_calli hw (g_V X hw (mX19_good l G _ _ _ _ h) 1 (lw_V q1867 q1869 qs77 q143 q1870) rfl rfl ydX19_good ⟨Nat.le_of_ble_eq_true rfl, Nat.le_of_ble_eq_true rfl⟩ (g_recv X hw (ci := 15) (q := (RX19, TX19, 46)) hk_7 rfl) (As := [.int r_5]) (rest := []) rfl hl.1 rfl (Nat.le_of_ble_eq_true rfl) dX19_apart_21 ⟨Nat.le_refl _, Nat.le_refl _⟩) (fun r_8 u_9 H locs h hw => ?_)
    refine lv_goto (tgt := 32) hx hb dX19_apart_24 rfl ?_
    exact g_iret X hw hr h (Nat.le_refl _) (Nat.le_refl _) dX19_apart_32

/-! FifthCard.common(II)I -/
theorem ydX1_common : yX1_common.cls = "FifthCard" ∧ yX1_common.cls ≠ "java/lang/invoke/MethodHandle" ∧ yX1_common.cls ≠ "java/lang/invoke/VarHandle" ∧ (parseMethodDescriptor yX1_common.desc).map (fun d => d.parameters.length) = some 2 := by decide +kernel
def rmX1_common (mc ms : Nat) : Room := { frames := 0, cells := mc, slots := ms, locals := 0 }
set_option maxHeartbeats 4000000 in
theorem wX1_common_4 {G : GT} {p : Program} {l : Launch} {e : Env} {s : State} {m : MethodId} {args : Array Value} {below : List Frame} {meth : Method} {c : Code} {H : Heap} {locs : List Loc} {ls : Array Slot} {u : Hp} {x2 : Int32} {x3 : Int32} {K : Int32 → Prop} (X : Mc G p s m args meth c RX1 cX1_common 5) (hr : meth.sig.returnType = (some .int)) (h : jl2 (bX1_common_4 K) x2 x3) (hw : GW G u s H locs) (hl : lv_has ls 5 [(2, .int x2), (3, .int x3)]) : W p l e (rmX1_common 0 0) s m args below meth c H locs 0 0 (QI G below (fun r v => v = u ∧ K r) args s 0 0) (F0 m 4 ls []) := by
  obtain ⟨hx, hb, hml, hown, hts, -⟩ := id X
  obtain ⟨I, μ, h0, hs⟩ := h
  have key : ∀ (n : Nat) (x2 : Int32) (x3 : Int32) (H : Heap) (locs : List Loc) (ls : Array Slot) , μ x2 x3 < n → I x2 x3 → GW G u s H locs → lv_has ls 5 [(2, .int x2), (3, .int x3)] → W p l e (rmX1_common 0 0) s m args below meth c H locs 0 0 (QI G below (fun r v => v = u ∧ K r) args s 0 0) (F0 m 4 ls []) := by
    intro n
    induction n with
    | zero =>
      intro x2 x3 H locs ls hn
      exact absurd hn (Nat.not_lt_zero _)
    | succ n ih =>
      intro x2 x3 H locs ls hn hI hw hl
      have h := hs x2 x3 hI
      unfold bX1_common_4 at h
      have hJ4 : ∀ (x2' : Int32) (x3' : Int32) (H : Heap) (locs : List Loc) (ls : Array Slot) , (I x2' x3' ∧ μ x2' x3' < μ x2 x3) → GW G u s H locs → lv_has ls 5 [(2, .int x2'), (3, .int x3')] → W p l e (rmX1_common 0 0) s m args below meth c H locs 0 0 (QI G below (fun r v => v = u ∧ K r) args s 0 0) (F0 m 4 ls []) := fun x2' x3' H locs ls h hw hl => ih x2' x3' H locs ls (Nat.lt_of_lt_of_le h.2 (Nat.le_of_lt_succ hn)) h.1 hw hl
      refine lv_iload_n hx hb dX1_common_4 rfl (lv_at hl 1 rfl) ?_
      refine lv_if_eq (tgt := 21) hx hb dX1_common_5 rfl (fun c_1 => ?_) (fun c_1 => ?_)
      · have h := h.1 c_1
        refine lv_iload_n hx hb dX1_common_21 rfl (lv_at hl 0 rfl) ?_
        exact g_iret X hw hr ⟨rfl, h⟩ (Nat.le_refl _) (Nat.le_refl _) dX1_common_22
      · have h := h.2 c_1
        refine lv_iload_n hx hb dX1_common_8 rfl (lv_at hl 0 rfl) ?_
        refine lv_iload_n hx hb dX1_common_9 rfl (lv_at hl 1 rfl) ?_
        refine lv_irem hx hb dX1_common_10 h.1 ?_
        have h := h.2
        refine lv_istore (lv' := [(4, .int (jrem x2 x3)), (2, .int x2), (3, .int x3)]) hx hb dX1_common_11 hl (by decide) rfl (fun ls hl => ?_)
        refine lv_iload_n hx hb dX1_common_13 rfl (lv_at hl 2 rfl) ?_
        refine lv_istore_n (lv' := [(2, .int x3), (4, .int (jrem x2 x3)), (3, .int x3)]) hx hb dX1_common_14 rfl hl (by decide) rfl (fun ls hl => ?_)
        refine lv_iload hx hb dX1_common_15 (lv_at hl 1 rfl) ?_
        refine lv_istore_n (lv' := [(3, .int (jrem x2 x3)), (2, .int x3), (4, .int (jrem x2 x3))]) hx hb dX1_common_17 rfl hl (by decide) rfl (fun ls hl => ?_)
        refine lv_goto (tgt := 4) hx hb dX1_common_18 rfl ?_
        exact hJ4 _ _ _ _ _ h hw (lv_sub hl [1, 0] rfl)
  exact key _ _ _ _ _ _ (Nat.lt_succ_self _) h0 hw hl
set_option maxHeartbeats 4000000 in
theorem mX1_common (l : Launch) (G : GT) (u : Hp) (x0 : Int32) (x1 : Int32) (K : Int32 → Prop) (h : pX1_common x0 x1 K) : Met l yX1_common (ws_ yX1_common cX1_common 5 (some .int)) (rmX1_common 0 0) (va_Pc [.int x0, .int x1] (GB G u)) (va_Qi (fun r v => v = u ∧ K r) (fun u t => GH G u t.heap) (GA G)) 0 0 (GA G) := by
  refine Met.ofW (cc := cX1_common) (maxL := 5) (ret := (some .int)) (by decide) rfl ?_
  intro p e s m args below meth c s₁ B hml hv
  obtain ⟨rfl, hv⟩ := hv
  have X := Mc_of (own := RX1) B hml rfl hv
  have hw : GW G u s s.heap [] := ⟨hv.2.1, va_S.rf⟩
  have hr := B.returns
  obtain ⟨hx, hb, hml, hown, hts, -⟩ := id X
  have hl := lv_entry ([.int x0, .int x1]) (n := 5) (Nat.le_of_ble_eq_true rfl)
  rw [lg_entry_eq]
  generalize (lg_sl ([.int x0, .int x1]) ++ List.replicate (5 - (lg_sl ([.int x0, .int x1])).length) Slot.unset).toArray = ls at hl ⊢
  have hl : lv_has ls 5 [(0, .int x0), (1, .int x1)] := hl
  change W p l e (rmX1_common 0 0) s m _ below meth c s.heap [] 0 0 (QI G below (fun r v => v = u ∧ K r) _ s 0 0) (F0 m 0 ls [])
  unfold pX1_common at h
  refine lv_iload_n hx hb dX1_common_0 rfl (lv_at hl 0 rfl) ?_
  refine lv_istore_n (lv' := [(2, .int x0), (0, .int x0), (1, .int x1)]) hx hb dX1_common_1 rfl hl (by decide) rfl (fun ls hl => ?_)
  refine lv_iload_n hx hb dX1_common_2 rfl (lv_at hl 2 rfl) ?_
  refine lv_istore_n (lv' := [(3, .int x1), (2, .int x0), (0, .int x0), (1, .int x1)]) hx hb dX1_common_3 rfl hl (by decide) rfl (fun ls hl => ?_)
  exact wX1_common_4 X hr  h hw (lv_sub hl [1, 0] rfl)

/-! FifthCard.mean(IIZ)I -/
theorem ydX1_mean : yX1_mean.cls = "FifthCard" ∧ yX1_mean.cls ≠ "java/lang/invoke/MethodHandle" ∧ yX1_mean.cls ≠ "java/lang/invoke/VarHandle" ∧ (parseMethodDescriptor yX1_mean.desc).map (fun d => d.parameters.length) = some 3 := by decide +kernel
def rmX1_mean (mc ms : Nat) : Room := { frames := 8, cells := mc, slots := ms, locals := 197 }
set_option maxHeartbeats 4000000 in
theorem mX1_mean (l : Launch) (G : GT) (u : Hp) (a0 : Nat) (x1 : Int32) (x2 : Int32) (x3 : Int32) (K : Int32 → Hp → Prop) (h : pX1_mean u a0 x1 x2 x3 K) : Met l yX1_mean (ws_ yX1_mean cX1_mean 6 (some .int)) (rmX1_mean 0 0) (va_Pc [.ref a0, .int x1, .int x2, .int x3] (GB G u)) (va_Qi K (fun u t => GH G u t.heap) (GA G)) 0 0 (GA G) := by
  refine Met.ofW (cc := cX1_mean) (maxL := 6) (ret := (some .int)) (by decide) rfl ?_
  intro p e s m args below meth c s₁ B hml hv
  obtain ⟨rfl, hv⟩ := hv
  have X := Mc_of (own := RX1) B hml rfl hv
  have hw : GW G u s s.heap [] := ⟨hv.2.1, va_S.rf⟩
  have hr := B.returns
  obtain ⟨hx, hb, hml, hown, hts, -⟩ := id X
  have hl := lv_entry ([.ref a0, .int x1, .int x2, .int x3]) (n := 6) (Nat.le_of_ble_eq_true rfl)
  rw [lg_entry_eq]
  generalize (lg_sl ([.ref a0, .int x1, .int x2, .int x3]) ++ List.replicate (6 - (lg_sl ([.ref a0, .int x1, .int x2, .int x3])).length) Slot.unset).toArray = ls at hl ⊢
  have hl : lv_has ls 6 [(0, .ref a0), (1, .int x1), (2, .int x2), (3, .int x3)] := hl
  change W p l e (rmX1_mean 0 0) s m _ below meth c s.heap [] 0 0 (QI G below K _ s 0 0) (F0 m 0 ls [])
  unfold pX1_mean at h
  refine lv_aload_n hx hb dX1_mean_0 rfl (lv_at hl 0 rfl) ?_
  have hk_1 : kd u a0 = 1 := h.1
  have h := h.2
  refine g_callv hw (g_V X hw (mX1_anew l G _ _ _ h) 0 (lw_V q535 q537 qs2 q122 q538) rfl rfl ydX1_anew ⟨Nat.le_of_ble_eq_true rfl, Nat.le_of_ble_eq_true rfl⟩ (g_recv X hw (ci := 0) (q := (RX1, TX1, 16)) hk_1 rfl) (As := []) (rest := []) rfl hl.1 rfl (Nat.le_of_ble_eq_true rfl) dX1_mean_1 ⟨Nat.le_refl _, Nat.le_refl _⟩) (fun u_2 H locs h hw => ?_)
  refine lv_aload_n hx hb dX1_mean_4 rfl (lv_at hl 0 rfl) ?_
  refine lv_iload_n hx hb dX1_mean_5 rfl (lv_at hl 1 rfl) ?_
  refine lv_iload_n hx hb dX1_mean_6 rfl (lv_at hl 2 rfl) ?_
  have hk_3 : kd u_2 a0 = 1 := h.1
  have h := h.2
  refine g_callio hw (g_V X hw (mX1_arePair l G _ _ _ _ _ h) 2 (lw_V q1330 q1332 qs43 q122 q1333) rfl rfl ydX1_arePair ⟨Nat.le_of_ble_eq_true rfl, Nat.le_of_ble_eq_true rfl⟩ (g_recv X hw (ci := 0) (q := (RX1, TX1, 16)) hk_3 rfl) (As := [.int x1, .int x2]) (rest := []) rfl hl.1 rfl (Nat.le_of_ble_eq_true rfl) dX1_mean_7 ⟨Nat.le_refl _, Nat.le_refl _⟩) (fun r_4 H locs h hw => ?_)
  refine lv_if_ne (tgt := 19) hx hb dX1_mean_10 rfl (fun c_16 => ?_) (fun c_16 => ?_)
  · have h := h.2 c_16
    refine lv_aload_n hx hb dX1_mean_19 rfl (lv_at hl 0 rfl) ?_
    refine lv_iload_n hx hb dX1_mean_20 rfl (lv_at hl 1 rfl) ?_
    refine lv_iload_n hx hb dX1_mean_21 rfl (lv_at hl 2 rfl) ?_
    refine g_calli hw (g_V X hw (mX1_apartOf l G _ _ _ _ _ h) 2 (lw_V q1334 q1336 qs44 q122 q1337) rfl rfl ydX1_apartOf ⟨Nat.le_of_ble_eq_true rfl, Nat.le_of_ble_eq_true rfl⟩ (g_recv X hw (ci := 0) (q := (RX1, TX1, 16)) hk_3 rfl) (As := [.int x1, .int x2]) (rest := []) rfl hl.1 rfl (Nat.le_of_ble_eq_true rfl) dX1_mean_22 ⟨Nat.le_refl _, Nat.le_refl _⟩) (fun r_5 u_6 H locs h hw => ?_)
    refine lv_istore (lv' := [(4, .int r_5), (0, .ref a0), (1, .int x1), (2, .int x2), (3, .int x3)]) hx hb dX1_mean_25 hl (by decide) rfl (fun ls hl => ?_)
    refine lv_iload hx hb dX1_mean_27 (lv_at hl 0 rfl) ?_
    refine lv_if_ne (tgt := 39) hx hb dX1_mean_29 rfl (fun c_13 => ?_) (fun c_13 => ?_)
    · have h := h.2 c_13
      refine lv_aload_n hx hb dX1_mean_39 rfl (lv_at hl 1 rfl) ?_
      have hk_7 : kd u_6 a0 = 1 := h.1
      have h := h.2
      refine g_getI X hw in_X1 hk_7 rfl 8 rfl (by decide) q481 (fun _ z => z) dX1_mean_40 ?_
      refine lv_iload hx hb dX1_mean_43 (lv_at hl 0 rfl) ?_
      refine g_callio hw (g_S X hw (mX1_common l G _ _ _ _ h) 2 (lw_S q1342 q1343 q122 q1344) rfl rfl ydX1_common ⟨Nat.le_of_ble_eq_true rfl, Nat.le_of_ble_eq_true rfl⟩ (As := [.int (FI u_6 108 a0), .int r_5]) (rest := []) rfl hl.1 rfl (Nat.le_of_ble_eq_true rfl) dX1_mean_45 ⟨Nat.le_refl _, Nat.le_refl _⟩) (fun r_8 H locs h hw => ?_)
      refine lv_istore (lv' := [(5, .int r_8), (4, .int r_5), (0, .ref a0), (1, .int x1), (2, .int x2), (3, .int x3)]) hx hb dX1_mean_48 hl (by decide) rfl (fun ls hl => ?_)
      refine lv_iload_n hx hb dX1_mean_50 rfl (lv_at hl 5 rfl) ?_
      refine lv_if_eq (tgt := 59) hx hb dX1_mean_51 rfl (fun c_9 => ?_) (fun c_9 => ?_)
      · have h := h.1 c_9
        refine lv_aload_n hx hb dX1_mean_59 rfl (lv_at hl 2 rfl) ?_
        refine g_getI X hw in_X1 hk_7 rfl 8 rfl (by decide) q481 (fun _ z => z) dX1_mean_60 ?_
        refine lv_iload hx hb dX1_mean_63 (lv_at hl 0 rfl) ?_
        refine lv_idiv hx hb dX1_mean_65 h.1 ?_
        have h := h.2
        exact g_iret X hw hr h (Nat.le_refl _) (Nat.le_refl _) dX1_mean_66
      · have h := h.2 c_9
        refine lv_iload hx hb dX1_mean_54 (lv_at hl 1 rfl) ?_
        refine lv_goto (tgt := 63) hx hb dX1_mean_56 rfl ?_
        refine lv_iload hx hb dX1_mean_63 (lv_at hl 0 rfl) ?_
        refine lv_idiv hx hb dX1_mean_65 h.1 ?_
        have h := h.2
        exact g_iret X hw hr h (Nat.le_refl _) (Nat.le_refl _) dX1_mean_66
    · have h := h.1 c_13
      refine lv_aload_n hx hb dX1_mean_32 rfl (lv_at hl 1 rfl) ?_
      refine lv_bipush (v := 6) hx hb dX1_mean_33 (by decide) ?_
      have hk_10 : kd u_6 a0 = 1 := h.1
      have h := h.2
      refine g_calli hw (g_V X hw (mX1_no l G _ _ _ _ h) 1 (lw_V q542 q544 qs3 q122 q545) rfl rfl ydX1_no ⟨Nat.le_of_ble_eq_true rfl, Nat.le_of_ble_eq_true rfl⟩ (g_recv X hw (ci := 0) (q := (RX1, TX1, 16)) hk_10 rfl) (As := [.int 6]) (rest := []) rfl hl.1 rfl (Nat.le_of_ble_eq_true rfl) dX1_mean_35 ⟨Nat.le_refl _, Nat.le_refl _⟩) (fun r_11 u_12 H locs h hw => ?_)
      exact g_iret X hw hr h (Nat.le_refl _) (Nat.le_refl _) dX1_mean_38
  · have h := h.1 c_16
    refine lv_aload_n hx hb dX1_mean_13 rfl (lv_at hl 0 rfl) ?_
    refine lv_iconst (v := 1) hx hb dX1_mean_14 (by decide) ?_
    refine g_calli hw (g_V X hw (mX1_no l G _ _ _ _ h) 1 (lw_V q542 q544 qs3 q122 q545) rfl rfl ydX1_no ⟨Nat.le_of_ble_eq_true rfl, Nat.le_of_ble_eq_true rfl⟩ (g_recv X hw (ci := 0) (q := (RX1, TX1, 16)) hk_3 rfl) (As := [.int 1]) (rest := []) rfl hl.1 rfl (Nat.le_of_ble_eq_true rfl) dX1_mean_15 ⟨Nat.le_refl _, Nat.le_refl _⟩) (fun r_14 u_15 H locs h hw => ?_)
    exact g_iret X hw hr h (Nat.le_refl _) (Nat.le_refl _) dX1_mean_18

/-! FifthCardModel.divisor(II)I -/
theorem ydX19_divisor : yX19_divisor.cls = "FifthCardModel" ∧ yX19_divisor.cls ≠ "java/lang/invoke/MethodHandle" ∧ yX19_divisor.cls ≠ "java/lang/invoke/VarHandle" ∧ (parseMethodDescriptor yX19_divisor.desc).map (fun d => d.parameters.length) = some 2 := by decide +kernel
def rmX19_divisor (mc ms : Nat) : Room := { frames := 0, cells := mc, slots := ms, locals := 0 }
set_option maxHeartbeats 4000000 in
theorem wX19_divisor_4 {G : GT} {p : Program} {l : Launch} {e : Env} {s : State} {m : MethodId} {args : Array Value} {below : List Frame} {meth : Method} {c : Code} {H : Heap} {locs : List Loc} {ls : Array Slot} {u : Hp} {x2 : Int32} {x3 : Int32} {K : Int32 → Prop} (X : Mc G p s m args meth c RX19 cX19_divisor 5) (hr : meth.sig.returnType = (some .int)) (h : jl2 (bX19_divisor_4 K) x2 x3) (hw : GW G u s H locs) (hl : lv_has ls 5 [(2, .int x2), (3, .int x3)]) : W p l e (rmX19_divisor 0 0) s m args below meth c H locs 0 0 (QI G below (fun r v => v = u ∧ K r) args s 0 0) (F0 m 4 ls []) := by
  obtain ⟨hx, hb, hml, hown, hts, -⟩ := id X
  obtain ⟨I, μ, h0, hs⟩ := h
  have key : ∀ (n : Nat) (x2 : Int32) (x3 : Int32) (H : Heap) (locs : List Loc) (ls : Array Slot) , μ x2 x3 < n → I x2 x3 → GW G u s H locs → lv_has ls 5 [(2, .int x2), (3, .int x3)] → W p l e (rmX19_divisor 0 0) s m args below meth c H locs 0 0 (QI G below (fun r v => v = u ∧ K r) args s 0 0) (F0 m 4 ls []) := by
    intro n
    induction n with
    | zero =>
      intro x2 x3 H locs ls hn
      exact absurd hn (Nat.not_lt_zero _)
    | succ n ih =>
      intro x2 x3 H locs ls hn hI hw hl
      have h := hs x2 x3 hI
      unfold bX19_divisor_4 at h
      have hJ4 : ∀ (x2' : Int32) (x3' : Int32) (H : Heap) (locs : List Loc) (ls : Array Slot) , (I x2' x3' ∧ μ x2' x3' < μ x2 x3) → GW G u s H locs → lv_has ls 5 [(2, .int x2'), (3, .int x3')] → W p l e (rmX19_divisor 0 0) s m args below meth c H locs 0 0 (QI G below (fun r v => v = u ∧ K r) args s 0 0) (F0 m 4 ls []) := fun x2' x3' H locs ls h hw hl => ih x2' x3' H locs ls (Nat.lt_of_lt_of_le h.2 (Nat.le_of_lt_succ hn)) h.1 hw hl
      refine lv_iload_n hx hb dX19_divisor_4 rfl (lv_at hl 1 rfl) ?_
      refine lv_if_eq (tgt := 21) hx hb dX19_divisor_5 rfl (fun c_1 => ?_) (fun c_1 => ?_)
      · have h := h.1 c_1
        refine lv_iload_n hx hb dX19_divisor_21 rfl (lv_at hl 0 rfl) ?_
        exact g_iret X hw hr ⟨rfl, h⟩ (Nat.le_refl _) (Nat.le_refl _) dX19_divisor_22
      · have h := h.2 c_1
        refine lv_iload_n hx hb dX19_divisor_8 rfl (lv_at hl 0 rfl) ?_
        refine lv_iload_n hx hb dX19_divisor_9 rfl (lv_at hl 1 rfl) ?_
        refine lv_irem hx hb dX19_divisor_10 h.1 ?_
        have h := h.2
        refine lv_istore (lv' := [(4, .int (jrem x2 x3)), (2, .int x2), (3, .int x3)]) hx hb dX19_divisor_11 hl (by decide) rfl (fun ls hl => ?_)
        refine lv_iload_n hx hb dX19_divisor_13 rfl (lv_at hl 2 rfl) ?_
        refine lv_istore_n (lv' := [(2, .int x3), (4, .int (jrem x2 x3)), (3, .int x3)]) hx hb dX19_divisor_14 rfl hl (by decide) rfl (fun ls hl => ?_)
        refine lv_iload hx hb dX19_divisor_15 (lv_at hl 1 rfl) ?_
        refine lv_istore_n (lv' := [(3, .int (jrem x2 x3)), (2, .int x3), (4, .int (jrem x2 x3))]) hx hb dX19_divisor_17 rfl hl (by decide) rfl (fun ls hl => ?_)
        refine lv_goto (tgt := 4) hx hb dX19_divisor_18 rfl ?_
        exact hJ4 _ _ _ _ _ h hw (lv_sub hl [1, 0] rfl)
  exact key _ _ _ _ _ _ (Nat.lt_succ_self _) h0 hw hl
set_option maxHeartbeats 4000000 in
theorem mX19_divisor (l : Launch) (G : GT) (u : Hp) (x0 : Int32) (x1 : Int32) (K : Int32 → Prop) (h : pX19_divisor x0 x1 K) : Met l yX19_divisor (ws_ yX19_divisor cX19_divisor 5 (some .int)) (rmX19_divisor 0 0) (va_Pc [.int x0, .int x1] (GB G u)) (va_Qi (fun r v => v = u ∧ K r) (fun u t => GH G u t.heap) (GA G)) 0 0 (GA G) := by
  refine Met.ofW (cc := cX19_divisor) (maxL := 5) (ret := (some .int)) (by decide) rfl ?_
  intro p e s m args below meth c s₁ B hml hv
  obtain ⟨rfl, hv⟩ := hv
  have X := Mc_of (own := RX19) B hml rfl hv
  have hw : GW G u s s.heap [] := ⟨hv.2.1, va_S.rf⟩
  have hr := B.returns
  obtain ⟨hx, hb, hml, hown, hts, -⟩ := id X
  have hl := lv_entry ([.int x0, .int x1]) (n := 5) (Nat.le_of_ble_eq_true rfl)
  rw [lg_entry_eq]
  generalize (lg_sl ([.int x0, .int x1]) ++ List.replicate (5 - (lg_sl ([.int x0, .int x1])).length) Slot.unset).toArray = ls at hl ⊢
  have hl : lv_has ls 5 [(0, .int x0), (1, .int x1)] := hl
  change W p l e (rmX19_divisor 0 0) s m _ below meth c s.heap [] 0 0 (QI G below (fun r v => v = u ∧ K r) _ s 0 0) (F0 m 0 ls [])
  unfold pX19_divisor at h
  refine lv_iload_n hx hb dX19_divisor_0 rfl (lv_at hl 0 rfl) ?_
  refine lv_istore_n (lv' := [(2, .int x0), (0, .int x0), (1, .int x1)]) hx hb dX19_divisor_1 rfl hl (by decide) rfl (fun ls hl => ?_)
  refine lv_iload_n hx hb dX19_divisor_2 rfl (lv_at hl 2 rfl) ?_
  refine lv_istore_n (lv' := [(3, .int x1), (2, .int x0), (0, .int x0), (1, .int x1)]) hx hb dX19_divisor_3 rfl hl (by decide) rfl (fun ls hl => ?_)
  exact wX19_divisor_4 X hr  h hw (lv_sub hl [1, 0] rfl)

/-! FifthCardModel.mean(IIZ)I -/
theorem ydX19_mean : yX19_mean.cls = "FifthCardModel" ∧ yX19_mean.cls ≠ "java/lang/invoke/MethodHandle" ∧ yX19_mean.cls ≠ "java/lang/invoke/VarHandle" ∧ (parseMethodDescriptor yX19_mean.desc).map (fun d => d.parameters.length) = some 3 := by decide +kernel
def rmX19_mean (mc ms : Nat) : Room := { frames := 8, cells := mc, slots := ms, locals := 193 }
set_option maxHeartbeats 4000000 in
theorem wX19_mean_54 {G : GT} {p : Program} {l : Launch} {e : Env} {s : State} {m : MethodId} {args : Array Value} {below : List Frame} {meth : Method} {c : Code} {H : Heap} {locs : List Loc} {ls : Array Slot} {a0 : Nat} {x4 : Int32} {z0 : Int32} {z1 : Nat} {u : Hp} {K : Int32 → Hp → Prop} (X : Mc G p s m args meth c RX19 cX19_mean 5) (hr : meth.sig.returnType = (some .int)) (h : bX19_mean_54 K a0 x4 z0 z1 u) (hw : GW G u s H locs) (hl : lv_has ls 5 [(0, .ref a0), (4, .int x4)]) : W p l e (rmX19_mean 0 0) s m args below meth c H locs 0 0 (QI G below K args s 0 0) (F0 m 54 ls [.int z0, .ref z1]) := by
  obtain ⟨hx, hb, hml, hown, hts, -⟩ := id X
  unfold bX19_mean_54 at h
  refine lv_aload_n hx hb dX19_mean_54 rfl (lv_at hl 0 rfl) ?_
  have hk_1 : kd u a0 = 16 := h.1
  have h := h.2
  refine g_getI X hw in_X19 hk_1 rfl 17 rfl (by decide) q1468 (fun _ z => z) dX19_mean_55 ?_
  refine lv_iload hx hb dX19_mean_58 (lv_at hl 1 rfl) ?_
  refine g_callio hw (g_S X hw (mX19_divisor l G _ _ _ _ h) 2 (lw_S q2165 q2166 q143 q2167) rfl rfl ydX19_divisor ⟨Nat.le_of_ble_eq_true rfl, Nat.le_of_ble_eq_true rfl⟩ (As := [.int (FI u 1917 a0), .int x4]) (rest := [.int z0, .ref z1]) rfl hl.1 rfl (Nat.le_of_ble_eq_true rfl) dX19_mean_60 ⟨Nat.le_refl _, Nat.le_refl _⟩) (fun r_2 H locs h hw => ?_)
  refine lv_idiv hx hb dX19_mean_63 h.1 ?_
  have h := h.2
  have hk_3 : kd u z1 = 16 := h.1
  have h := h.2
  refine g_calli hw (g_V X hw (mX19_good l G _ _ _ _ h) 1 (lw_V q1867 q1869 qs77 q143 q1870) rfl rfl ydX19_good ⟨Nat.le_of_ble_eq_true rfl, Nat.le_of_ble_eq_true rfl⟩ (g_recv X hw (ci := 15) (q := (RX19, TX19, 46)) hk_3 rfl) (As := [.int (z0 / r_2)]) (rest := []) rfl hl.1 rfl (Nat.le_of_ble_eq_true rfl) dX19_mean_64 ⟨Nat.le_refl _, Nat.le_refl _⟩) (fun r_4 u_5 H locs h hw => ?_)
  exact g_iret X hw hr h (Nat.le_refl _) (Nat.le_refl _) dX19_mean_67
set_option maxHeartbeats 4000000 in
theorem mX19_mean (l : Launch) (G : GT) (u : Hp) (a0 : Nat) (x1 : Int32) (x2 : Int32) (x3 : Int32) (K : Int32 → Hp → Prop) (h : pX19_mean u a0 x1 x2 x3 K) : Met l yX19_mean (ws_ yX19_mean cX19_mean 5 (some .int)) (rmX19_mean 0 0) (va_Pc [.ref a0, .int x1, .int x2, .int x3] (GB G u)) (va_Qi K (fun u t => GH G u t.heap) (GA G)) 0 0 (GA G) := by
  refine Met.ofW (cc := cX19_mean) (maxL := 5) (ret := (some .int)) (by decide) rfl ?_
  intro p e s m args below meth c s₁ B hml hv
  obtain ⟨rfl, hv⟩ := hv
  have X := Mc_of (own := RX19) B hml rfl hv
  have hw : GW G u s s.heap [] := ⟨hv.2.1, va_S.rf⟩
  have hr := B.returns
  obtain ⟨hx, hb, hml, hown, hts, -⟩ := id X
  have hl := lv_entry ([.ref a0, .int x1, .int x2, .int x3]) (n := 5) (Nat.le_of_ble_eq_true rfl)
  rw [lg_entry_eq]
  generalize (lg_sl ([.ref a0, .int x1, .int x2, .int x3]) ++ List.replicate (5 - (lg_sl ([.ref a0, .int x1, .int x2, .int x3])).length) Slot.unset).toArray = ls at hl ⊢
  have hl : lv_has ls 5 [(0, .ref a0), (1, .int x1), (2, .int x2), (3, .int x3)] := hl
  change W p l e (rmX19_mean 0 0) s m _ below meth c s.heap [] 0 0 (QI G below K _ s 0 0) (F0 m 0 ls [])
  unfold pX19_mean at h
  refine lv_aload_n hx hb dX19_mean_0 rfl (lv_at hl 0 rfl) ?_
  refine lv_iconst (v := 0) hx hb dX19_mean_1 (by decide) ?_
  have hk_6 : kd u a0 = 16 := h.1
  have h := h.2
  refine g_putI (v := 0) X hw in_X19 tyX19_ok nmX19 hk_6 rfl 0 rfl (by decide) q1451 (fun _ z => z) rfl rfl rfl dX19_mean_2 (fun H locs hw => ?_)
  refine lv_aload_n hx hb dX19_mean_5 rfl (lv_at hl 0 rfl) ?_
  refine lv_iload_n hx hb dX19_mean_6 rfl (lv_at hl 1 rfl) ?_
  refine lv_iload_n hx hb dX19_mean_7 rfl (lv_at hl 2 rfl) ?_
  refine g_callio hw (g_V X hw (mX19_areRules l G _ _ _ _ _ h) 2 (lw_V q2153 q2155 qs117 q143 q2156) rfl rfl ydX19_areRules ⟨Nat.le_of_ble_eq_true rfl, Nat.le_of_ble_eq_true rfl⟩ (g_recv X hw (ci := 15) (q := (RX19, TX19, 46)) hk_6 rfl) (As := [.int x1, .int x2]) (rest := []) rfl hl.1 rfl (Nat.le_of_ble_eq_true rfl) dX19_mean_8 ⟨Nat.le_refl _, Nat.le_refl _⟩) (fun r_7 H locs h hw => ?_)
  refine lv_if_ne (tgt := 20) hx hb dX19_mean_11 rfl (fun c_18 => ?_) (fun c_18 => ?_)
  · have h := h.2 c_18
    refine lv_aload_n hx hb dX19_mean_20 rfl (lv_at hl 0 rfl) ?_
    refine lv_iload_n hx hb dX19_mean_21 rfl (lv_at hl 1 rfl) ?_
    refine lv_iload_n hx hb dX19_mean_22 rfl (lv_at hl 2 rfl) ?_
    refine g_calli hw (g_V X hw (mX19_apartNow l G _ _ _ _ _ h) 2 (lw_V q2157 q2159 qs118 q143 q2160) rfl rfl ydX19_apartNow ⟨Nat.le_of_ble_eq_true rfl, Nat.le_of_ble_eq_true rfl⟩ (g_recv X hw (ci := 15) (q := (RX19, TX19, 46)) hk_6 rfl) (As := [.int x1, .int x2]) (rest := []) rfl hl.1 rfl (Nat.le_of_ble_eq_true rfl) dX19_mean_23 ⟨Nat.le_refl _, Nat.le_refl _⟩) (fun r_8 u_9 H locs h hw => ?_)
    refine lv_istore (lv' := [(4, .int r_8), (0, .ref a0), (1, .int x1), (2, .int x2), (3, .int x3)]) hx hb dX19_mean_26 hl (by decide) rfl (fun ls hl => ?_)
    refine lv_iload hx hb dX19_mean_28 (lv_at hl 0 rfl) ?_
    refine lv_if_ne (tgt := 40) hx hb dX19_mean_30 rfl (fun c_15 => ?_) (fun c_15 => ?_)
    · have h := h.2 c_15
      refine lv_aload_n hx hb dX19_mean_40 rfl (lv_at hl 1 rfl) ?_
      refine lv_iload_n hx hb dX19_mean_41 rfl (lv_at hl 4 rfl) ?_
      refine lv_if_eq (tgt := 50) hx hb dX19_mean_42 rfl (fun c_11 => ?_) (fun c_11 => ?_)
      · have h := h.1 c_11
        refine lv_aload_n hx hb dX19_mean_50 rfl (lv_at hl 1 rfl) ?_
        have hk_10 : kd u_9 a0 = 16 := h.1
        have h := h.2
        refine g_getI X hw in_X19 hk_10 rfl 17 rfl (by decide) q1468 (fun _ z => z) dX19_mean_51 ?_
        exact wX19_mean_54 X hr  h hw (lv_sub hl [1, 0] rfl)
      · have h := h.2 c_11
        refine lv_iload hx hb dX19_mean_45 (lv_at hl 0 rfl) ?_
        refine lv_goto (tgt := 54) hx hb dX19_mean_47 rfl ?_
        exact wX19_mean_54 X hr  h hw (lv_sub hl [1, 0] rfl)
    · have h := h.1 c_15
      refine lv_aload_n hx hb dX19_mean_33 rfl (lv_at hl 1 rfl) ?_
      refine lv_bipush (v := 6) hx hb dX19_mean_34 (by decide) ?_
      have hk_12 : kd u_9 a0 = 16 := h.1
      have h := h.2
      refine g_calli hw (g_V X hw (mX19_refused l G _ _ _ _ h) 1 (lw_V q1603 q1605 qs47 q143 q1606) rfl rfl ydX19_refused ⟨Nat.le_of_ble_eq_true rfl, Nat.le_of_ble_eq_true rfl⟩ (g_recv X hw (ci := 15) (q := (RX19, TX19, 46)) hk_12 rfl) (As := [.int 6]) (rest := []) rfl hl.1 rfl (Nat.le_of_ble_eq_true rfl) dX19_mean_36 ⟨Nat.le_refl _, Nat.le_refl _⟩) (fun r_13 u_14 H locs h hw => ?_)
      exact g_iret X hw hr h (Nat.le_refl _) (Nat.le_refl _) dX19_mean_39
  · have h := h.1 c_18
    refine lv_aload_n hx hb dX19_mean_14 rfl (lv_at hl 0 rfl) ?_
    refine lv_iconst (v := 1) hx hb dX19_mean_15 (by decide) ?_
    refine g_calli hw (g_V X hw (mX19_refused l G _ _ _ _ h) 1 (lw_V q1603 q1605 qs47 q143 q1606) rfl rfl ydX19_refused ⟨Nat.le_of_ble_eq_true rfl, Nat.le_of_ble_eq_true rfl⟩ (g_recv X hw (ci := 15) (q := (RX19, TX19, 46)) hk_6 rfl) (As := [.int 1]) (rest := []) rfl hl.1 rfl (Nat.le_of_ble_eq_true rfl) dX19_mean_16 ⟨Nat.le_refl _, Nat.le_refl _⟩) (fun r_16 u_17 H locs h hw => ?_)
    exact g_iret X hw hr h (Nat.le_refl _) (Nat.le_refl _) dX19_mean_19

/-! FifthCard.nearest(I)I -/
theorem ydX1_nearest : yX1_nearest.cls = "FifthCard" ∧ yX1_nearest.cls ≠ "java/lang/invoke/MethodHandle" ∧ yX1_nearest.cls ≠ "java/lang/invoke/VarHandle" ∧ (parseMethodDescriptor yX1_nearest.desc).map (fun d => d.parameters.length) = some 1 := by decide +kernel
def rmX1_nearest (mc ms : Nat) : Room := { frames := 8, cells := mc, slots := ms, locals := 197 }
set_option maxHeartbeats 4000000 in
theorem wX1_nearest_6 {G : GT} {p : Program} {l : Launch} {e : Env} {s : State} {m : MethodId} {args : Array Value} {below : List Frame} {meth : Method} {c : Code} {H : Heap} {locs : List Loc} {ls : Array Slot} {a0 : Nat} {x1 : Int32} {x2 : Int32} {x3 : Int32} {u : Hp} {K : Int32 → Hp → Prop} (X : Mc G p s m args meth c RX1 cX1_nearest 4) (hr : meth.sig.returnType = (some .int)) (h : jl3 (bX1_nearest_6 K a0 x1) x2 x3 u) (hw : GW G u s H locs) (hl : lv_has ls 4 [(0, .ref a0), (1, .int x1), (2, .int x2), (3, .int x3)]) : W p l e (rmX1_nearest 0 0) s m args below meth c H locs 0 0 (QI G below K args s 0 0) (F0 m 6 ls []) := by
  obtain ⟨hx, hb, hml, hown, hts, -⟩ := id X
  obtain ⟨I, μ, h0, hs⟩ := h
  have key : ∀ (n : Nat) (x2 : Int32) (x3 : Int32) (u : Hp) (H : Heap) (locs : List Loc) (ls : Array Slot) , μ x2 x3 u < n → I x2 x3 u → GW G u s H locs → lv_has ls 4 [(0, .ref a0), (1, .int x1), (2, .int x2), (3, .int x3)] → W p l e (rmX1_nearest 0 0) s m args below meth c H locs 0 0 (QI G below K args s 0 0) (F0 m 6 ls []) := by
    intro n
    induction n with
    | zero =>
      intro x2 x3 u H locs ls hn
      exact absurd hn (Nat.not_lt_zero _)
    | succ n ih =>
      intro x2 x3 u H locs ls hn hI hw hl
      have h := hs x2 x3 u hI
      unfold bX1_nearest_6 at h
      have hJ6 : ∀ (x2' : Int32) (x3' : Int32) (u' : Hp) (H : Heap) (locs : List Loc) (ls : Array Slot) , (I x2' x3' u' ∧ μ x2' x3' u' < μ x2 x3 u) → GW G u' s H locs → lv_has ls 4 [(0, .ref a0), (1, .int x1), (2, .int x2'), (3, .int x3')] → W p l e (rmX1_nearest 0 0) s m args below meth c H locs 0 0 (QI G below K args s 0 0) (F0 m 6 ls []) := fun x2' x3' u' H locs ls h hw hl => ih x2' x3' u' H locs ls (Nat.lt_of_lt_of_le h.2 (Nat.le_of_lt_succ hn)) h.1 hw hl
      refine lv_iload_n hx hb dX1_nearest_6 rfl (lv_at hl 3 rfl) ?_
      refine lv_aload_n hx hb dX1_nearest_7 rfl (lv_at hl 0 rfl) ?_
      have hk_1 : kd u a0 = 1 := h.1
      have h := h.2
      obtain ⟨b_2, e_3, h⟩ := h
      refine g_getR X hw in_X1 hk_1 rfl 3 rfl (by decide) q476 (fun _ z => z) e_3 dX1_nearest_8 ?_
      have hk_4 : kd u b_2 = 17 := h.1
      have h := h.2
      refine g_getI X hw in_X20 hk_4 rfl 7 rfl (by decide) q593 (fun _ z => z) dX1_nearest_11 ?_
      refine lv_icmp_ge (tgt := 39) hx hb dX1_nearest_14 rfl (fun c_8 => ?_) (fun c_8 => ?_)
      · have h := h.1 c_8
        refine lv_iload_n hx hb dX1_nearest_39 rfl (lv_at hl 2 rfl) ?_
        exact g_iret X hw hr h (Nat.le_refl _) (Nat.le_refl _) dX1_nearest_40
      · have h := h.2 c_8
        refine lv_iload_n hx hb dX1_nearest_17 rfl (lv_at hl 3 rfl) ?_
        refine lv_iload_n hx hb dX1_nearest_18 rfl (lv_at hl 1 rfl) ?_
        refine lv_icmp_eq (tgt := 33) hx hb dX1_nearest_19 rfl (fun c_7 => ?_) (fun c_7 => ?_)
        · have h := h.1 c_7
          refine lv_iinc (v := x3 + 1) (lv' := [(3, .int (x3 + 1)), (0, .ref a0), (1, .int x1), (2, .int x2)]) hx hb dX1_nearest_33 hl (k := 3) rfl rfl (by decide) rfl (fun ls hl => ?_)
          refine lv_goto (tgt := 6) hx hb dX1_nearest_36 rfl ?_
          exact hJ6 _ _ _ _ _ _ h hw (lv_sub hl [1, 2, 3, 0] rfl)
        · have h := h.2 c_7
          refine lv_iload_n hx hb dX1_nearest_22 rfl (lv_at hl 2 rfl) ?_
          refine lv_aload_n hx hb dX1_nearest_23 rfl (lv_at hl 0 rfl) ?_
          refine lv_iload_n hx hb dX1_nearest_24 rfl (lv_at hl 1 rfl) ?_
          refine lv_iload_n hx hb dX1_nearest_25 rfl (lv_at hl 3 rfl) ?_
          refine g_calli hw (g_V X hw (mX1_apartOf l G _ _ _ _ _ h) 2 (lw_V q1334 q1336 qs44 q122 q1337) rfl rfl ydX1_apartOf ⟨Nat.le_of_ble_eq_true rfl, Nat.le_of_ble_eq_true rfl⟩ (g_recv X hw (ci := 0) (q := (RX1, TX1, 16)) hk_1 rfl) (As := [.int x1, .int x3]) (rest := [.int x2]) rfl hl.1 rfl (Nat.le_of_ble_eq_true rfl) dX1_nearest_26 ⟨Nat.le_refl _, Nat.le_refl _⟩) (fun r_5 u_6 H locs h hw => ?_)
          refine g_min X hl.1 q1353 q838 q150 q839 (Nat.le_of_ble_eq_true rfl) (Nat.le_of_ble_eq_true rfl) (Nat.le_refl _) (Nat.le_refl _) dX1_nearest_29 ?_
          refine lv_istore_n (lv' := [(2, .int (jmin x2 r_5)), (0, .ref a0), (1, .int x1), (3, .int x3)]) hx hb dX1_nearest_32 rfl hl (by decide) rfl (fun ls hl => ?_)
          refine lv_iinc (v := x3 + 1) (lv' := [(3, .int (x3 + 1)), (2, .int (jmin x2 r_5)), (0, .ref a0), (1, .int x1)]) hx hb dX1_nearest_33 hl (k := 3) rfl rfl (by decide) rfl (fun ls hl => ?_)
          refine lv_goto (tgt := 6) hx hb dX1_nearest_36 rfl ?_
          exact hJ6 _ _ _ _ _ _ h hw (lv_sub hl [2, 3, 1, 0] rfl)
  exact key _ _ _ _ _ _ _ (Nat.lt_succ_self _) h0 hw hl
set_option maxHeartbeats 4000000 in
theorem mX1_nearest (l : Launch) (G : GT) (u : Hp) (a0 : Nat) (x1 : Int32) (K : Int32 → Hp → Prop) (h : pX1_nearest u a0 x1 K) : Met l yX1_nearest (ws_ yX1_nearest cX1_nearest 4 (some .int)) (rmX1_nearest 0 0) (va_Pc [.ref a0, .int x1] (GB G u)) (va_Qi K (fun u t => GH G u t.heap) (GA G)) 0 0 (GA G) := by
  refine Met.ofW (cc := cX1_nearest) (maxL := 4) (ret := (some .int)) (by decide) rfl ?_
  intro p e s m args below meth c s₁ B hml hv
  obtain ⟨rfl, hv⟩ := hv
  have X := Mc_of (own := RX1) B hml rfl hv
  have hw : GW G u s s.heap [] := ⟨hv.2.1, va_S.rf⟩
  have hr := B.returns
  obtain ⟨hx, hb, hml, hown, hts, -⟩ := id X
  have hl := lv_entry ([.ref a0, .int x1]) (n := 4) (Nat.le_of_ble_eq_true rfl)
  rw [lg_entry_eq]
  generalize (lg_sl ([.ref a0, .int x1]) ++ List.replicate (4 - (lg_sl ([.ref a0, .int x1])).length) Slot.unset).toArray = ls at hl ⊢
  have hl : lv_has ls 4 [(0, .ref a0), (1, .int x1)] := hl
  change W p l e (rmX1_nearest 0 0) s m _ below meth c s.heap [] 0 0 (QI G below K _ s 0 0) (F0 m 0 ls [])
  unfold pX1_nearest at h
  refine lv_sipush (v := 2001) hx hb dX1_nearest_0 (by decide) ?_
  refine lv_istore_n (lv' := [(2, .int 2001), (0, .ref a0), (1, .int x1)]) hx hb dX1_nearest_3 rfl hl (by decide) rfl (fun ls hl => ?_)
  refine lv_iconst (v := 0) hx hb dX1_nearest_4 (by decide) ?_
  refine lv_istore_n (lv' := [(3, .int 0), (2, .int 2001), (0, .ref a0), (1, .int x1)]) hx hb dX1_nearest_5 rfl hl (by decide) rfl (fun ls hl => ?_)
  exact wX1_nearest_6 X hr  h hw (lv_sub hl [2, 3, 1, 0] rfl)

/-! FifthCard.hardest()I -/
theorem ydX1_hardest : yX1_hardest.cls = "FifthCard" ∧ yX1_hardest.cls ≠ "java/lang/invoke/MethodHandle" ∧ yX1_hardest.cls ≠ "java/lang/invoke/VarHandle" ∧ (parseMethodDescriptor yX1_hardest.desc).map (fun d => d.parameters.length) = some 0 := by decide +kernel
def rmX1_hardest (mc ms : Nat) : Room := { frames := 9, cells := mc, slots := ms, locals := 220 }
set_option maxHeartbeats 4000000 in
theorem wX1_hardest_39 {G : GT} {p : Program} {l : Launch} {e : Env} {s : State} {m : MethodId} {args : Array Value} {below : List Frame} {meth : Method} {c : Code} {H : Heap} {locs : List Loc} {ls : Array Slot} {a0 : Nat} {x1 : Int32} {x2 : Int32} {u : Hp} {K : Int32 → Hp → Prop} (X : Mc G p s m args meth c RX1 cX1_hardest 3) (hr : meth.sig.returnType = (some .int)) (h : jl3 (bX1_hardest_39 K a0) x1 x2 u) (hw : GW G u s H locs) (hl : lv_has ls 3 [(0, .ref a0), (1, .int x1), (2, .int x2)]) : W p l e (rmX1_hardest 0 0) s m args below meth c H locs 0 0 (QI G below K args s 0 0) (F0 m 39 ls []) := by
  obtain ⟨hx, hb, hml, hown, hts, -⟩ := id X
  obtain ⟨I, μ, h0, hs⟩ := h
  have key : ∀ (n : Nat) (x1 : Int32) (x2 : Int32) (u : Hp) (H : Heap) (locs : List Loc) (ls : Array Slot) , μ x1 x2 u < n → I x1 x2 u → GW G u s H locs → lv_has ls 3 [(0, .ref a0), (1, .int x1), (2, .int x2)] → W p l e (rmX1_hardest 0 0) s m args below meth c H locs 0 0 (QI G below K args s 0 0) (F0 m 39 ls []) := by
    intro n
    induction n with
    | zero =>
      intro x1 x2 u H locs ls hn
      exact absurd hn (Nat.not_lt_zero _)
    | succ n ih =>
      intro x1 x2 u H locs ls hn hI hw hl
      have h := hs x1 x2 u hI
      unfold bX1_hardest_39 at h
      have hJ39 : ∀ (x1' : Int32) (x2' : Int32) (u' : Hp) (H : Heap) (locs : List Loc) (ls : Array Slot) , (I x1' x2' u' ∧ μ x1' x2' u' < μ x1 x2 u) → GW G u' s H locs → lv_has ls 3 [(0, .ref a0), (1, .int x1'), (2, .int x2')] → W p l e (rmX1_hardest 0 0) s m args below meth c H locs 0 0 (QI G below K args s 0 0) (F0 m 39 ls []) := fun x1' x2' u' H locs ls h hw hl => ih x1' x2' u' H locs ls (Nat.lt_of_lt_of_le h.2 (Nat.le_of_lt_succ hn)) h.1 hw hl
      refine lv_iload_n hx hb dX1_hardest_39 rfl (lv_at hl 2 rfl) ?_
      refine lv_aload_n hx hb dX1_hardest_40 rfl (lv_at hl 0 rfl) ?_
      have hk_1 : kd u a0 = 1 := h.1
      have h := h.2
      obtain ⟨b_2, e_3, h⟩ := h
      refine g_getR X hw in_X1 hk_1 rfl 3 rfl (by decide) q476 (fun _ z => z) e_3 dX1_hardest_41 ?_
      have hk_4 : kd u b_2 = 17 := h.1
      have h := h.2
      refine g_getI X hw in_X20 hk_4 rfl 7 rfl (by decide) q593 (fun _ z => z) dX1_hardest_44 ?_
      refine lv_icmp_ge (tgt := 75) hx hb dX1_hardest_47 rfl (fun c_11 => ?_) (fun c_11 => ?_)
      · have h := h.1 c_11
        refine lv_iload_n hx hb dX1_hardest_75 rfl (lv_at hl 1 rfl) ?_
        exact g_iret X hw hr h (Nat.le_refl _) (Nat.le_refl _) dX1_hardest_76
      · have h := h.2 c_11
        refine lv_aload_n hx hb dX1_hardest_50 rfl (lv_at hl 0 rfl) ?_
        refine lv_iload_n hx hb dX1_hardest_51 rfl (lv_at hl 2 rfl) ?_
        refine g_calli hw (g_V X hw (mX1_nearest l G _ _ _ _ h) 1 (lw_V q1349 q1351 qs45 q122 q1352) rfl rfl ydX1_nearest ⟨Nat.le_of_ble_eq_true rfl, Nat.le_of_ble_eq_true rfl⟩ (g_recv X hw (ci := 0) (q := (RX1, TX1, 16)) hk_1 rfl) (As := [.int x2]) (rest := []) rfl hl.1 rfl (Nat.le_of_ble_eq_true rfl) dX1_hardest_52 ⟨Nat.le_refl _, Nat.le_refl _⟩) (fun r_5 u_6 H locs h hw => ?_)
        refine lv_aload_n hx hb dX1_hardest_55 rfl (lv_at hl 0 rfl) ?_
        refine lv_iload_n hx hb dX1_hardest_56 rfl (lv_at hl 1 rfl) ?_
        have hk_7 : kd u_6 a0 = 1 := h.1
        have h := h.2
        refine g_calli hw (g_V X hw (mX1_nearest l G _ _ _ _ h) 1 (lw_V q1349 q1351 qs45 q122 q1352) rfl rfl ydX1_nearest ⟨Nat.le_of_ble_eq_true rfl, Nat.le_of_ble_eq_true rfl⟩ (g_recv X hw (ci := 0) (q := (RX1, TX1, 16)) hk_7 rfl) (As := [.int x1]) (rest := [.int r_5]) rfl hl.1 rfl (Nat.le_of_ble_eq_true rfl) dX1_hardest_57 ⟨Nat.le_refl _, Nat.le_refl _⟩) (fun r_8 u_9 H locs h hw => ?_)
        refine lv_icmp_ge (tgt := 67) hx hb dX1_hardest_60 rfl (fun c_10 => ?_) (fun c_10 => ?_)
        · have h := h.1 c_10
          refine lv_iload_n hx hb dX1_hardest_67 rfl (lv_at hl 1 rfl) ?_
          refine lv_istore_n (lv' := [(1, .int x1), (0, .ref a0), (2, .int x2)]) hx hb dX1_hardest_68 rfl hl (by decide) rfl (fun ls hl => ?_)
          refine lv_iinc (v := x2 + 1) (lv' := [(2, .int (x2 + 1)), (1, .int x1), (0, .ref a0)]) hx hb dX1_hardest_69 hl (k := 2) rfl rfl (by decide) rfl (fun ls hl => ?_)
          refine lv_goto (tgt := 39) hx hb dX1_hardest_72 rfl ?_
          exact hJ39 _ _ _ _ _ _ h hw (lv_sub hl [2, 1, 0] rfl)
        · have h := h.2 c_10
          refine lv_iload_n hx hb dX1_hardest_63 rfl (lv_at hl 2 rfl) ?_
          refine lv_goto (tgt := 68) hx hb dX1_hardest_64 rfl ?_
          refine lv_istore_n (lv' := [(1, .int x2), (0, .ref a0), (2, .int x2)]) hx hb dX1_hardest_68 rfl hl (by decide) rfl (fun ls hl => ?_)
          refine lv_iinc (v := x2 + 1) (lv' := [(2, .int (x2 + 1)), (1, .int x2), (0, .ref a0)]) hx hb dX1_hardest_69 hl (k := 2) rfl rfl (by decide) rfl (fun ls hl => ?_)
          refine lv_goto (tgt := 39) hx hb dX1_hardest_72 rfl ?_
          exact hJ39 _ _ _ _ _ _ h hw (lv_sub hl [2, 1, 0] rfl)
  exact key _ _ _ _ _ _ _ (Nat.lt_succ_self _) h0 hw hl
set_option maxHeartbeats 4000000 in
theorem mX1_hardest (l : Launch) (G : GT) (u : Hp) (a0 : Nat) (K : Int32 → Hp → Prop) (h : pX1_hardest u a0 K) : Met l yX1_hardest (ws_ yX1_hardest cX1_hardest 3 (some .int)) (rmX1_hardest 0 0) (va_Pc [.ref a0] (GB G u)) (va_Qi K (fun u t => GH G u t.heap) (GA G)) 0 0 (GA G) := by
  refine Met.ofW (cc := cX1_hardest) (maxL := 3) (ret := (some .int)) (by decide) rfl ?_
  intro p e s m args below meth c s₁ B hml hv
  obtain ⟨rfl, hv⟩ := hv
  have X := Mc_of (own := RX1) B hml rfl hv
  have hw : GW G u s s.heap [] := ⟨hv.2.1, va_S.rf⟩
  have hr := B.returns
  obtain ⟨hx, hb, hml, hown, hts, -⟩ := id X
  have hl := lv_entry ([.ref a0]) (n := 3) (Nat.le_of_ble_eq_true rfl)
  rw [lg_entry_eq]
  generalize (lg_sl ([.ref a0]) ++ List.replicate (3 - (lg_sl ([.ref a0])).length) Slot.unset).toArray = ls at hl ⊢
  have hl : lv_has ls 3 [(0, .ref a0)] := hl
  change W p l e (rmX1_hardest 0 0) s m _ below meth c s.heap [] 0 0 (QI G below K _ s 0 0) (F0 m 0 ls [])
  unfold pX1_hardest at h
  refine lv_aload_n hx hb dX1_hardest_0 rfl (lv_at hl 0 rfl) ?_
  have hk_12 : kd u a0 = 1 := h.1
  have h := h.2
  refine g_callv hw (g_V X hw (mX1_anew l G _ _ _ h) 0 (lw_V q535 q537 qs2 q122 q538) rfl rfl ydX1_anew ⟨Nat.le_of_ble_eq_true rfl, Nat.le_of_ble_eq_true rfl⟩ (g_recv X hw (ci := 0) (q := (RX1, TX1, 16)) hk_12 rfl) (As := []) (rest := []) rfl hl.1 rfl (Nat.le_of_ble_eq_true rfl) dX1_hardest_1 ⟨Nat.le_refl _, Nat.le_refl _⟩) (fun u_13 H locs h hw => ?_)
  refine lv_aload_n hx hb dX1_hardest_4 rfl (lv_at hl 0 rfl) ?_
  have hk_14 : kd u_13 a0 = 1 := h.1
  have h := h.2
  refine g_getO X hw in_X1 hk_14 rfl 3 rfl (by decide) q476 (fun _ z => z) dX1_hardest_5 ?_
  refine g_ifnonnull X (tgt := 17) dX1_hardest_8 rfl (fun b_15 e_16 => ?_) (fun e_16 => ?_)
  · have h := h.2 b_15 e_16
    refine lv_aload_n hx hb dX1_hardest_17 rfl (lv_at hl 0 rfl) ?_
    obtain ⟨b_19, e_20, h⟩ := h
    refine g_getR X hw in_X1 hk_14 rfl 3 rfl (by decide) q476 (fun _ z => z) e_20 dX1_hardest_18 ?_
    have hk_21 : kd u_13 b_19 = 17 := h.1
    have h := h.2
    refine g_getI X hw in_X20 hk_21 rfl 7 rfl (by decide) q593 (fun _ z => z) dX1_hardest_21 ?_
    refine lv_iconst (v := 2) hx hb dX1_hardest_24 (by decide) ?_
    refine lv_icmp_ge (tgt := 35) hx hb dX1_hardest_25 rfl (fun c_24 => ?_) (fun c_24 => ?_)
    · have h := h.1 c_24
      refine lv_iconst (v := 0) hx hb dX1_hardest_35 (by decide) ?_
      refine lv_istore_n (lv' := [(1, .int 0), (0, .ref a0)]) hx hb dX1_hardest_36 rfl hl (by decide) rfl (fun ls hl => ?_)
      refine lv_iconst (v := 1) hx hb dX1_hardest_37 (by decide) ?_
      refine lv_istore_n (lv' := [(2, .int 1), (1, .int 0), (0, .ref a0)]) hx hb dX1_hardest_38 rfl hl (by decide) rfl (fun ls hl => ?_)
      exact wX1_hardest_39 X hr  h hw (lv_sub hl [2, 1, 0] rfl)
    · have h := h.2 c_24
      refine lv_aload_n hx hb dX1_hardest_28 rfl (lv_at hl 0 rfl) ?_
      refine lv_bipush (v := 6) hx hb dX1_hardest_29 (by decide) ?_
      refine g_calli hw (g_V X hw (mX1_no l G _ _ _ _ h) 1 (lw_V q542 q544 qs3 q122 q545) rfl rfl ydX1_no ⟨Nat.le_of_ble_eq_true rfl, Nat.le_of_ble_eq_true rfl⟩ (g_recv X hw (ci := 0) (q := (RX1, TX1, 16)) hk_14 rfl) (As := [.int 6]) (rest := []) rfl hl.1 rfl (Nat.le_of_ble_eq_true rfl) dX1_hardest_31 ⟨Nat.le_refl _, Nat.le_refl _⟩) (fun r_22 u_23 H locs h hw => ?_)
      exact g_iret X hw hr h (Nat.le_refl _) (Nat.le_refl _) dX1_hardest_34
  · have h := h.1 e_16
    refine lv_aload_n hx hb dX1_hardest_11 rfl (lv_at hl 0 rfl) ?_
    refine lv_iconst (v := 1) hx hb dX1_hardest_12 (by decide) ?_
    refine g_calli hw (g_V X hw (mX1_no l G _ _ _ _ h) 1 (lw_V q542 q544 qs3 q122 q545) rfl rfl ydX1_no ⟨Nat.le_of_ble_eq_true rfl, Nat.le_of_ble_eq_true rfl⟩ (g_recv X hw (ci := 0) (q := (RX1, TX1, 16)) hk_14 rfl) (As := [.int 1]) (rest := []) rfl hl.1 rfl (Nat.le_of_ble_eq_true rfl) dX1_hardest_13 ⟨Nat.le_refl _, Nat.le_refl _⟩) (fun r_17 u_18 H locs h hw => ?_)
    exact g_iret X hw hr h (Nat.le_refl _) (Nat.le_refl _) dX1_hardest_16

