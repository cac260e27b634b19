/-! printed by tools/genparts.py: the walks (m..): the machine runs as the predicates say -/
set_option maxRecDepth 100000
/-! FifthCardModel.rowFits(II)Z -/
theorem ydX19_rowFits : yX19_rowFits.cls = "FifthCardModel" ∧ yX19_rowFits.cls ≠ "java/lang/invoke/MethodHandle" ∧ yX19_rowFits.cls ≠ "java/lang/invoke/VarHandle" ∧ (parseMethodDescriptor yX19_rowFits.desc).map (fun d => d.parameters.length) = some 2 := by decide +kernel
def rmX19_rowFits (mc ms : Nat) : Room := { frames := 2, cells := mc, slots := ms, locals := 48 }
set_option maxHeartbeats 4000000 in
theorem wX19_rowFits_90 {G : GT} {p : Program} {l : Launch} {e : Env} {s : State} {m : MethodId} {args : Array Value} {below : List Frame} {meth : Method} {c : Code} {H : Heap} {locs : List Loc} {ls : Array Slot} {a0 : Nat} {x1 : Int32} {x4 : Int32} {u : Hp} {x3 : Int32} {K : Int32 → Hp → Prop} {J14 : Int32 → Int32 → Prop} (X : Mc G p s m args meth c RX19 cX19_rowFits 5) (hr : meth.sig.returnType = (some .boolean)) (hJ14 : ∀ (x3 : Int32) (x4 : Int32) (H : Heap) (locs : List Loc) (ls : Array Slot) , J14 x3 x4 → GW G u s H locs → lv_has ls 5 [(0, .ref a0), (1, .int x1), (3, .int x3), (4, .int x4)] → W p l e (rmX19_rowFits 0 0) s m args below meth c H locs 0 0 (QI G below K args s 0 0) (F0 m 14 ls [])) (h : jl1 (bX19_rowFits_90 K J14 a0 x1 x4 u) x3) (hw : GW G u s H locs) (hl : lv_has ls 5 [(0, .ref a0), (1, .int x1), (3, .int x3), (4, .int x4)]) : W p l e (rmX19_rowFits 0 0) s m args below meth c H locs 0 0 (QI G below K args s 0 0) (F0 m 90 ls []) := by
  obtain ⟨hx, hb, hml, hown, hts, -⟩ := id X
  obtain ⟨I, μ, h0, hs⟩ := h
  have key : ∀ (n : Nat) (x3 : Int32) (H : Heap) (locs : List Loc) (ls : Array Slot) , μ x3 < n → I x3 → GW G u s H locs → lv_has ls 5 [(0, .ref a0), (1, .int x1), (3, .int x3), (4, .int x4)] → W p l e (rmX19_rowFits 0 0) s m args below meth c H locs 0 0 (QI G below K args s 0 0) (F0 m 90 ls []) := by
    intro n
    induction n with
    | zero =>
      intro x3 H locs ls hn
      exact absurd hn (Nat.not_lt_zero _)
    | succ n ih =>
      intro x3 H locs ls hn hI hw hl
      have h := hs x3 hI
      unfold bX19_rowFits_90 at h
      have hJ90 : ∀ (x3' : Int32) (H : Heap) (locs : List Loc) (ls : Array Slot) , (I x3' ∧ μ x3' < μ x3) → GW G u s H locs → lv_has ls 5 [(0, .ref a0), (1, .int x1), (3, .int x3'), (4, .int x4)] → W p l e (rmX19_rowFits 0 0) s m args below meth c H locs 0 0 (QI G below K args s 0 0) (F0 m 90 ls []) := fun x3' H locs ls h hw hl => ih x3' H locs ls (Nat.lt_of_lt_of_le h.2 (Nat.le_of_lt_succ hn)) h.1 hw hl
      refine lv_iload_n hx hb dX19_rowFits_90 rfl (lv_at hl 2 rfl) ?_
      refine lv_aload_n hx hb dX19_rowFits_91 rfl (lv_at hl 0 rfl) ?_
      have hk_1 : kd u a0 = 16 := h.1
      have h := h.2
      obtain ⟨b_2, e_3, h⟩ := h
      refine g_getR X hw in_X19 hk_1 rfl 3 rfl (by decide) q1454 (fun _ z => z) e_3 dX19_rowFits_92 ?_
      have hk_4 : kd u b_2 = 20 := h.1
      have h := h.2
      refine g_getNI X hw (host := "FifthCardModel") in_X23 hk_4 rfl 2 rfl (by decide) (List.mem_of_getElem? (i := 2) rfl) (fun _ z => z) dX19_rowFits_95 ?_
      refine lv_icmp_ge (tgt := 123) hx hb dX19_rowFits_98 rfl (fun c_12 => ?_) (fun c_12 => ?_)
      · have h := h.1 c_12
        refine lv_iload_n hx hb dX19_rowFits_123 rfl (lv_at hl 2 rfl) ?_
        refine lv_aload_n hx hb dX19_rowFits_124 rfl (lv_at hl 0 rfl) ?_
        refine g_getR X hw in_X19 hk_1 rfl 3 rfl (by decide) q1454 (fun _ z => z) e_3 dX19_rowFits_125 ?_
        refine g_getNI X hw (host := "FifthCardModel") in_X23 hk_4 rfl 2 rfl (by decide) (List.mem_of_getElem? (i := 2) rfl) (fun _ z => z) dX19_rowFits_128 ?_
        refine lv_icmp_ne (tgt := 136) hx hb dX19_rowFits_131 rfl (fun c_5 => ?_) (fun c_5 => ?_)
        · have h := h.2 c_5
          refine lv_iinc (v := x4 + 1) (lv' := [(4, .int (x4 + 1)), (0, .ref a0), (1, .int x1), (3, .int x3)]) hx hb dX19_rowFits_136 hl (k := 3) rfl rfl (by decide) rfl (fun ls hl => ?_)
          refine lv_goto (tgt := 14) hx hb dX19_rowFits_139 rfl ?_
          exact hJ14 _ _ _ _ _ h hw (lv_sub hl [1, 2, 3, 0] rfl)
        · have h := h.1 c_5
          refine lv_iconst (v := 0) hx hb dX19_rowFits_134 (by decide) ?_
          exact g_zret X hw hr rfl h (Nat.le_refl _) (Nat.le_refl _) dX19_rowFits_135
      · have h := h.2 c_12
        refine lv_aload_n hx hb dX19_rowFits_101 rfl (lv_at hl 0 rfl) ?_
        refine lv_iload_n hx hb dX19_rowFits_102 rfl (lv_at hl 1 rfl) ?_
        refine lv_iload_n hx hb dX19_rowFits_103 rfl (lv_at hl 2 rfl) ?_
        refine g_callio hw (g_V X hw (mX19_cardOf l G _ _ _ _ _ h) 2 (lw_V q1851 q1853 qs74 q143 q1854) rfl rfl ydX19_cardOf ⟨Nat.le_of_ble_eq_true rfl, Nat.le_of_ble_eq_true rfl⟩ (g_recv X hw (ci := 15) (q := (RX19, TX19, 46)) hk_1 rfl) (As := [.int x1, .int x3]) (rest := []) rfl hl.1 rfl (Nat.le_of_ble_eq_true rfl) dX19_rowFits_104 ⟨Nat.le_refl _, Nat.le_refl _⟩) (fun r_6 H locs h hw => ?_)
        refine lv_aload_n hx hb dX19_rowFits_107 rfl (lv_at hl 0 rfl) ?_
        obtain ⟨b_7, e_8, h⟩ := h
        refine g_getR X hw in_X19 hk_1 rfl 19 rfl (by decide) q1470 (fun _ z => z) e_8 dX19_rowFits_108 ?_
        refine lv_iload hx hb dX19_rowFits_111 (lv_at hl 3 rfl) ?_
        have hk_9 : kd u b_7 = 101 := h.1
        have h := h.2
        refine g_iald X hw hk_9 h.1 dX19_rowFits_113 ?_
        have h := h.2
        refine lv_icmp_eq (tgt := 123) hx hb dX19_rowFits_114 rfl (fun c_11 => ?_) (fun c_11 => ?_)
        · have h := h.1 c_11
          refine lv_iload_n hx hb dX19_rowFits_123 rfl (lv_at hl 2 rfl) ?_
          refine lv_aload_n hx hb dX19_rowFits_124 rfl (lv_at hl 0 rfl) ?_
          refine g_getR X hw in_X19 hk_1 rfl 3 rfl (by decide) q1454 (fun _ z => z) e_3 dX19_rowFits_125 ?_
          refine g_getNI X hw (host := "FifthCardModel") in_X23 hk_4 rfl 2 rfl (by decide) (List.mem_of_getElem? (i := 2) rfl) (fun _ z => z) dX19_rowFits_128 ?_
          refine lv_icmp_ne (tgt := 136) hx hb dX19_rowFits_131 rfl (fun c_10 => ?_) (fun c_10 => ?_)
          · have h := h.2 c_10
            refine lv_iinc (v := x4 + 1) (lv' := [(4, .int (x4 + 1)), (0, .ref a0), (1, .int x1), (3, .int x3)]) hx hb dX19_rowFits_136 hl (k := 3) rfl rfl (by decide) rfl (fun ls hl => ?_)
            refine lv_goto (tgt := 14) hx hb dX19_rowFits_139 rfl ?_
            exact hJ14 _ _ _ _ _ h hw (lv_sub hl [1, 2, 3, 0] rfl)
          · have h := h.1 c_10
            refine lv_iconst (v := 0) hx hb dX19_rowFits_134 (by decide) ?_
            exact g_zret X hw hr rfl h (Nat.le_refl _) (Nat.le_refl _) dX19_rowFits_135
        · have h := h.2 c_11
          refine lv_iinc (v := x3 + 1) (lv' := [(3, .int (x3 + 1)), (0, .ref a0), (1, .int x1), (4, .int x4)]) hx hb dX19_rowFits_117 hl (k := 2) rfl rfl (by decide) rfl (fun ls hl => ?_)
          refine lv_goto (tgt := 90) hx hb dX19_rowFits_120 rfl ?_
          exact hJ90 _ _ _ _ h hw (lv_sub hl [1, 2, 0, 3] rfl)
  exact key _ _ _ _ _ (Nat.lt_succ_self _) h0 hw hl
set_option maxHeartbeats 4000000 in
theorem wX19_rowFits_14 {G : GT} {p : Program} {l : Launch} {e : Env} {s : State} {m : MethodId} {args : Array Value} {below : List Frame} {meth : Method} {c : Code} {H : Heap} {locs : List Loc} {ls : Array Slot} {a0 : Nat} {x1 : Int32} {u : Hp} {x3 : Int32} {x4 : Int32} {K : Int32 → Hp → Prop} (X : Mc G p s m args meth c RX19 cX19_rowFits 5) (hr : meth.sig.returnType = (some .boolean)) (h : jl2 (bX19_rowFits_14 K a0 x1 u) x3 x4) (hw : GW G u s H locs) (hl : lv_has ls 5 [(0, .ref a0), (1, .int x1), (3, .int x3), (4, .int x4)]) : W p l e (rmX19_rowFits 0 0) s m args below meth c H locs 0 0 (QI G below K args s 0 0) (F0 m 14 ls []) := by
  obtain ⟨hx, hb, hml, hown, hts, -⟩ := id X
  obtain ⟨I, μ, h0, hs⟩ := h
  have key : ∀ (n : Nat) (x3 : Int32) (x4 : Int32) (H : Heap) (locs : List Loc) (ls : Array Slot) , μ x3 x4 < n → I x3 x4 → GW G u s H locs → lv_has ls 5 [(0, .ref a0), (1, .int x1), (3, .int x3), (4, .int x4)] → W p l e (rmX19_rowFits 0 0) s m args below meth c H locs 0 0 (QI G below K args s 0 0) (F0 m 14 ls []) := by
    intro n
    induction n with
    | zero =>
      intro x3 x4 H locs ls hn
      exact absurd hn (Nat.not_lt_zero _)
    | succ n ih =>
      intro x3 x4 H locs ls hn hI hw hl
      have h := hs x3 x4 hI
      unfold bX19_rowFits_14 at h
      have hJ14 : ∀ (x3' : Int32) (x4' : Int32) (H : Heap) (locs : List Loc) (ls : Array Slot) , (I x3' x4' ∧ μ x3' x4' < μ x3 x4) → GW G u s H locs → lv_has ls 5 [(0, .ref a0), (1, .int x1), (3, .int x3'), (4, .int x4')] → W p l e (rmX19_rowFits 0 0) s m args below meth c H locs 0 0 (QI G below K args s 0 0) (F0 m 14 ls []) := fun x3' x4' H locs ls h hw hl => ih x3' x4' H locs ls (Nat.lt_of_lt_of_le h.2 (Nat.le_of_lt_succ hn)) h.1 hw hl
      refine lv_iload hx hb dX19_rowFits_14 (lv_at hl 3 rfl) ?_
      refine lv_aload_n hx hb dX19_rowFits_16 rfl (lv_at hl 0 rfl) ?_
      have hk_13 : kd u a0 = 16 := h.1
      have h := h.2
      obtain ⟨b_14, e_15, h⟩ := h
      refine g_getR X hw in_X19 hk_13 rfl 3 rfl (by decide) q1454 (fun _ z => z) e_15 dX19_rowFits_17 ?_
      have hk_16 : kd u b_14 = 20 := h.1
      have h := h.2
      refine g_getNI X hw (host := "FifthCardModel") in_X23 hk_16 rfl 4 rfl (by decide) (List.mem_of_getElem? (i := 7) rfl) (fun _ z => z) dX19_rowFits_20 ?_
      refine lv_icmp_ge (tgt := 142) hx hb dX19_rowFits_23 rfl (fun c_28 => ?_) (fun c_28 => ?_)
      · have h := h.1 c_28
        refine lv_iconst (v := 1) hx hb dX19_rowFits_142 (by decide) ?_
        exact g_zret X hw hr rfl h (Nat.le_refl _) (Nat.le_refl _) dX19_rowFits_143
      · have h := h.2 c_28
        refine lv_aload_n hx hb dX19_rowFits_26 rfl (lv_at hl 0 rfl) ?_
        refine lv_iload_n hx hb dX19_rowFits_27 rfl (lv_at hl 1 rfl) ?_
        refine lv_aload_n hx hb dX19_rowFits_28 rfl (lv_at hl 0 rfl) ?_
        obtain ⟨b_17, e_18, h⟩ := h
        refine g_getR X hw in_X19 hk_13 rfl 19 rfl (by decide) q1470 (fun _ z => z) e_18 dX19_rowFits_29 ?_
        refine lv_iload hx hb dX19_rowFits_32 (lv_at hl 3 rfl) ?_
        have hk_19 : kd u b_17 = 101 := h.1
        have h := h.2
        refine g_iald X hw hk_19 h.1 dX19_rowFits_34 ?_
        have h := h.2
        refine g_callio hw (g_V X hw (mX19_has l G _ _ _ _ _ h) 2 (lw_V q1855 q1857 qs75 q143 q1858) rfl rfl ydX19_has ⟨Nat.le_of_ble_eq_true rfl, Nat.le_of_ble_eq_true rfl⟩ (g_recv X hw (ci := 15) (q := (RX19, TX19, 46)) hk_13 rfl) (As := [.int x1, .int (AI u b_17 (tn x4))]) (rest := []) rfl hl.1 rfl (Nat.le_of_ble_eq_true rfl) dX19_rowFits_35 ⟨Nat.le_refl _, Nat.le_refl _⟩) (fun r_20 H locs h hw => ?_)
        refine lv_if_eq (tgt := 75) hx hb dX19_rowFits_38 rfl (fun c_27 => ?_) (fun c_27 => ?_)
        · have h := h.1 c_27
          refine lv_iconst (v := 0) hx hb dX19_rowFits_75 (by decide) ?_
          exact g_zret X hw hr rfl h (Nat.le_refl _) (Nat.le_refl _) dX19_rowFits_76
        · have h := h.2 c_27
          refine lv_aload_n hx hb dX19_rowFits_41 rfl (lv_at hl 0 rfl) ?_
          refine g_getR X hw in_X19 hk_13 rfl 3 rfl (by decide) q1454 (fun _ z => z) e_15 dX19_rowFits_42 ?_
          refine g_getNI X hw (host := "FifthCardModel") in_X23 hk_16 rfl 8 rfl (by decide) (List.mem_of_getElem? (i := 3) rfl) (fun _ z => z) dX19_rowFits_45 ?_
          refine lv_if_eq (tgt := 77) hx hb dX19_rowFits_48 rfl (fun c_26 => ?_) (fun c_26 => ?_)
          · have h := h.1 c_26
            refine lv_aload_n hx hb dX19_rowFits_77 rfl (lv_at hl 0 rfl) ?_
            refine g_getR X hw in_X19 hk_13 rfl 3 rfl (by decide) q1454 (fun _ z => z) e_15 dX19_rowFits_78 ?_
            refine g_getNI X hw (host := "FifthCardModel") in_X23 hk_16 rfl 7 rfl (by decide) (List.mem_of_getElem? (i := 1) rfl) (fun _ z => z) dX19_rowFits_81 ?_
            refine lv_if_ne (tgt := 90) hx hb dX19_rowFits_84 rfl (fun c_21 => ?_) (fun c_21 => ?_)
            · have h := h.2 c_21
              exact wX19_rowFits_90 X hr hJ14  h hw (lv_sub hl [0, 1, 2, 3] rfl)
            · have h := h.1 c_21
              refine lv_goto (tgt := 136) hx hb dX19_rowFits_87 rfl ?_
              refine lv_iinc (v := x4 + 1) (lv' := [(4, .int (x4 + 1)), (0, .ref a0), (1, .int x1), (3, .int x3)]) hx hb dX19_rowFits_136 hl (k := 3) rfl rfl (by decide) rfl (fun ls hl => ?_)
              refine lv_goto (tgt := 14) hx hb dX19_rowFits_139 rfl ?_
              exact hJ14 _ _ _ _ _ h hw (lv_sub hl [1, 2, 3, 0] rfl)
          · have h := h.2 c_26
            refine lv_iload hx hb dX19_rowFits_51 (lv_at hl 3 rfl) ?_
            refine lv_if_le (tgt := 77) hx hb dX19_rowFits_53 rfl (fun c_25 => ?_) (fun c_25 => ?_)
            · have h := h.1 c_25
              refine lv_aload_n hx hb dX19_rowFits_77 rfl (lv_at hl 0 rfl) ?_
              refine g_getR X hw in_X19 hk_13 rfl 3 rfl (by decide) q1454 (fun _ z => z) e_15 dX19_rowFits_78 ?_
              refine g_getNI X hw (host := "FifthCardModel") in_X23 hk_16 rfl 7 rfl (by decide) (List.mem_of_getElem? (i := 1) rfl) (fun _ z => z) dX19_rowFits_81 ?_
              refine lv_if_ne (tgt := 90) hx hb dX19_rowFits_84 rfl (fun c_22 => ?_) (fun c_22 => ?_)
              · have h := h.2 c_22
                exact wX19_rowFits_90 X hr hJ14  h hw (lv_sub hl [0, 1, 2, 3] rfl)
              · have h := h.1 c_22
                refine lv_goto (tgt := 136) hx hb dX19_rowFits_87 rfl ?_
                refine lv_iinc (v := x4 + 1) (lv' := [(4, .int (x4 + 1)), (0, .ref a0), (1, .int x1), (3, .int x3)]) hx hb dX19_rowFits_136 hl (k := 3) rfl rfl (by decide) rfl (fun ls hl => ?_)
                refine lv_goto (tgt := 14) hx hb dX19_rowFits_139 rfl ?_
                exact hJ14 _ _ _ _ _ h hw (lv_sub hl [1, 2, 3, 0] rfl)
            · have h := h.2 c_25
              refine lv_aload_n hx hb dX19_rowFits_56 rfl (lv_at hl 0 rfl) ?_
              refine g_getR X hw in_X19 hk_13 rfl 19 rfl (by decide) q1470 (fun _ z => z) e_18 dX19_rowFits_57 ?_
              refine lv_iload hx hb dX19_rowFits_60 (lv_at hl 3 rfl) ?_
              refine g_iald X hw hk_19 h.1 dX19_rowFits_62 ?_
              have h := h.2
              refine lv_aload_n hx hb dX19_rowFits_63 rfl (lv_at hl 0 rfl) ?_
              refine g_getR X hw in_X19 hk_13 rfl 19 rfl (by decide) q1470 (fun _ z => z) e_18 dX19_rowFits_64 ?_
              refine lv_iload hx hb dX19_rowFits_67 (lv_at hl 3 rfl) ?_
              refine lv_iconst (v := 1) hx hb dX19_rowFits_69 (by decide) ?_
              refine lv_isub hx hb dX19_rowFits_70 ?_
              refine g_iald X hw hk_19 h.1 dX19_rowFits_71 ?_
              have h := h.2
              refine lv_icmp_ge (tgt := 77) hx hb dX19_rowFits_72 rfl (fun c_24 => ?_) (fun c_24 => ?_)
              · have h := h.1 c_24
                refine lv_aload_n hx hb dX19_rowFits_77 rfl (lv_at hl 0 rfl) ?_
                refine g_getR X hw in_X19 hk_13 rfl 3 rfl (by decide) q1454 (fun _ z => z) e_15 dX19_rowFits_78 ?_
                refine g_getNI X hw (host := "FifthCardModel") in_X23 hk_16 rfl 7 rfl (by decide) (List.mem_of_getElem? (i := 1) rfl) (fun _ z => z) dX19_rowFits_81 ?_
                refine lv_if_ne (tgt := 90) hx hb dX19_rowFits_84 rfl (fun c_23 => ?_) (fun c_23 => ?_)
                · have h := h.2 c_23
                  exact wX19_rowFits_90 X hr hJ14  h hw (lv_sub hl [0, 1, 2, 3] rfl)
                · have h := h.1 c_23
                  refine lv_goto (tgt := 136) hx hb dX19_rowFits_87 rfl ?_
                  refine lv_iinc (v := x4 + 1) (lv' := [(4, .int (x4 + 1)), (0, .ref a0), (1, .int x1), (3, .int x3)]) hx hb dX19_rowFits_136 hl (k := 3) rfl rfl (by decide) rfl (fun ls hl => ?_)
                  refine lv_goto (tgt := 14) hx hb dX19_rowFits_139 rfl ?_
                  exact hJ14 _ _ _ _ _ h hw (lv_sub hl [1, 2, 3, 0] rfl)
              · have h := h.2 c_24
                refine lv_iconst (v := 0) hx hb dX19_rowFits_75 (by decide) ?_
                exact g_zret X hw hr rfl h (Nat.le_refl _) (Nat.le_refl _) dX19_rowFits_76
  exact key _ _ _ _ _ _ (Nat.lt_succ_self _) h0 hw hl
set_option maxHeartbeats 4000000 in
theorem mX19_rowFits (l : Launch) (G : GT) (u : Hp) (a0 : Nat) (x1 : Int32) (x2 : Int32) (K : Int32 → Hp → Prop) (h : pX19_rowFits u a0 x1 x2 K) : Met l yX19_rowFits (ws_ yX19_rowFits cX19_rowFits 5 (some .boolean)) (rmX19_rowFits 0 0) (va_Pc [.ref a0, .int x1, .int x2] (GB G u)) (va_Qi K (fun u t => GH G u t.heap) (GA G)) 0 0 (GA G) := by
  refine Met.ofW (cc := cX19_rowFits) (maxL := 5) (ret := (some .boolean)) (by decide) rfl ?_
  intro p e s m args below meth c s₁ B hml hv
  obtain ⟨rfl, hv⟩ := hv
  have X := Mc_of (own := RX19) B hml rfl hv
  have hw : GW G u s s.heap [] := ⟨hv.2.1, va_S.rf⟩
  have hr := B.returns
  obtain ⟨hx, hb, hml, hown, hts, -⟩ := id X
  have hl := lv_entry ([.ref a0, .int x1, .int x2]) (n := 5) (Nat.le_of_ble_eq_true rfl)
  rw [lg_entry_eq]
  generalize (lg_sl ([.ref a0, .int x1, .int x2]) ++ List.replicate (5 - (lg_sl ([.ref a0, .int x1, .int x2])).length) Slot.unset).toArray = ls at hl ⊢
  have hl : lv_has ls 5 [(0, .ref a0), (1, .int x1), (2, .int x2)] := hl
  change W p l e (rmX19_rowFits 0 0) s m _ below meth c s.heap [] 0 0 (QI G below K _ s 0 0) (F0 m 0 ls [])
  unfold pX19_rowFits at h
  refine lv_aload_n hx hb dX19_rowFits_0 rfl (lv_at hl 0 rfl) ?_
  refine lv_iload_n hx hb dX19_rowFits_1 rfl (lv_at hl 2 rfl) ?_
  refine lv_aload_n hx hb dX19_rowFits_2 rfl (lv_at hl 0 rfl) ?_
  have hk_29 : kd u a0 = 16 := h.1
  have h := h.2
  obtain ⟨b_30, e_31, h⟩ := h
  refine g_getR X hw in_X19 hk_29 rfl 19 rfl (by decide) q1470 (fun _ z => z) e_31 dX19_rowFits_3 ?_
  refine g_callv hw (g_V X hw (mX19_rowCards l G _ _ _ _ _ h) 2 (lw_V q1911 q1913 qs81 q143 q1914) rfl rfl ydX19_rowCards ⟨Nat.le_of_ble_eq_true rfl, Nat.le_of_ble_eq_true rfl⟩ (g_recv X hw (ci := 15) (q := (RX19, TX19, 46)) hk_29 rfl) (As := [.int x2, .ref b_30]) (rest := []) rfl hl.1 rfl (Nat.le_of_ble_eq_true rfl) dX19_rowFits_6 ⟨Nat.le_refl _, Nat.le_refl _⟩) (fun u_32 H locs h hw => ?_)
  refine lv_iconst (v := 0) hx hb dX19_rowFits_9 (by decide) ?_
  refine lv_istore_n (lv' := [(3, .int 0), (0, .ref a0), (1, .int x1), (2, .int x2)]) hx hb dX19_rowFits_10 rfl hl (by decide) rfl (fun ls hl => ?_)
  refine lv_iconst (v := 0) hx hb dX19_rowFits_11 (by decide) ?_
  refine lv_istore (lv' := [(4, .int 0), (3, .int 0), (0, .ref a0), (1, .int x1), (2, .int x2)]) hx hb dX19_rowFits_12 hl (by decide) rfl (fun ls hl => ?_)
  exact wX19_rowFits_14 X hr  h hw (lv_sub hl [2, 3, 1, 0] rfl)

/-! FifthCardModel.fits(II)I -/
theorem ydX19_fits : yX19_fits.cls = "FifthCardModel" ∧ yX19_fits.cls ≠ "java/lang/invoke/MethodHandle" ∧ yX19_fits.cls ≠ "java/lang/invoke/VarHandle" ∧ (parseMethodDescriptor yX19_fits.desc).map (fun d => d.parameters.length) = some 2 := by decide +kernel
def rmX19_fits (mc ms : Nat) : Room := { frames := 3, cells := mc, slots := ms, locals := 72 }
set_option maxHeartbeats 4000000 in
theorem mX19_fits (l : Launch) (G : GT) (u : Hp) (a0 : Nat) (x1 : Int32) (x2 : Int32) (K : Int32 → Hp → Prop) (h : pX19_fits u a0 x1 x2 K) : Met l yX19_fits (ws_ yX19_fits cX19_fits 3 (some .int)) (rmX19_fits 0 0) (va_Pc [.ref a0, .int x1, .int x2] (GB G u)) (va_Qi K (fun u t => GH G u t.heap) (GA G)) 0 0 (GA G) := by
  refine Met.ofW (cc := cX19_fits) (maxL := 3) (ret := (some .int)) (by decide) rfl ?_
  intro p e s m args below meth c s₁ B hml hv
  obtain ⟨rfl, hv⟩ := hv
  have X := Mc_of (own := RX19) B hml rfl hv
  have hw : GW G u s s.heap [] := ⟨hv.2.1, va_S.rf⟩
  have hr := B.returns
  obtain ⟨hx, hb, hml, hown, hts, -⟩ := id X
  have hl := lv_entry ([.ref a0, .int x1, .int x2]) (n := 3) (Nat.le_of_ble_eq_true rfl)
  rw [lg_entry_eq]
  generalize (lg_sl ([.ref a0, .int x1, .int x2]) ++ List.replicate (3 - (lg_sl ([.ref a0, .int x1, .int x2])).length) Slot.unset).toArray = ls at hl ⊢
  have hl : lv_has ls 3 [(0, .ref a0), (1, .int x1), (2, .int x2)] := hl
  change W p l e (rmX19_fits 0 0) s m _ below meth c s.heap [] 0 0 (QI G below K _ s 0 0) (F0 m 0 ls [])
  unfold pX19_fits at h
  refine lv_aload_n hx hb dX19_fits_0 rfl (lv_at hl 0 rfl) ?_
  refine lv_iconst (v := 0) hx hb dX19_fits_1 (by decide) ?_
  have hk_1 : kd u a0 = 16 := h.1
  have h := h.2
  refine g_putI (v := 0) X hw in_X19 tyX19_ok nmX19 hk_1 rfl 0 rfl (by decide) q1451 (fun _ z => z) rfl rfl rfl dX19_fits_2 (fun H locs hw => ?_)
  refine lv_aload_n hx hb dX19_fits_5 rfl (lv_at hl 0 rfl) ?_
  refine lv_iload_n hx hb dX19_fits_6 rfl (lv_at hl 1 rfl) ?_
  refine g_callio hw (g_V X hw (mX19_isHand l G _ _ _ _ h) 1 (lw_V q1895 q1897 qs79 q143 q1898) rfl rfl ydX19_isHand ⟨Nat.le_of_ble_eq_true rfl, Nat.le_of_ble_eq_true rfl⟩ (g_recv X hw (ci := 15) (q := (RX19, TX19, 46)) hk_1 rfl) (As := [.int x1]) (rest := []) rfl hl.1 rfl (Nat.le_of_ble_eq_true rfl) dX19_fits_7 ⟨Nat.le_refl _, Nat.le_refl _⟩) (fun r_2 H locs h hw => ?_)
  refine lv_if_eq (tgt := 42) hx hb dX19_fits_10 rfl (fun c_18 => ?_) (fun c_18 => ?_)
  · have h := h.1 c_18
    refine lv_aload_n hx hb dX19_fits_42 rfl (lv_at hl 0 rfl) ?_
    refine lv_iconst (v := 1) hx hb dX19_fits_43 (by decide) ?_
    refine g_calli hw (g_V X hw (mX19_refused l G _ _ _ _ h) 1 (lw_V q1603 q1605 qs47 q143 q1606) rfl rfl ydX19_refused ⟨Nat.le_of_ble_eq_true rfl, Nat.le_of_ble_eq_true rfl⟩ (g_recv X hw (ci := 15) (q := (RX19, TX19, 46)) hk_1 rfl) (As := [.int 1]) (rest := []) rfl hl.1 rfl (Nat.le_of_ble_eq_true rfl) dX19_fits_44 ⟨Nat.le_refl _, Nat.le_refl _⟩) (fun r_3 u_4 H locs h hw => ?_)
    exact g_iret X hw hr h (Nat.le_refl _) (Nat.le_refl _) dX19_fits_47
  · have h := h.2 c_18
    refine lv_aload_n hx hb dX19_fits_13 rfl (lv_at hl 0 rfl) ?_
    refine lv_iload_n hx hb dX19_fits_14 rfl (lv_at hl 2 rfl) ?_
    refine g_callio hw (g_V X hw (mX19_isRow l G _ _ _ _ h) 1 (lw_V q1907 q1909 qs80 q143 q1910) rfl rfl ydX19_isRow ⟨Nat.le_of_ble_eq_true rfl, Nat.le_of_ble_eq_true rfl⟩ (g_recv X hw (ci := 15) (q := (RX19, TX19, 46)) hk_1 rfl) (As := [.int x2]) (rest := []) rfl hl.1 rfl (Nat.le_of_ble_eq_true rfl) dX19_fits_15 ⟨Nat.le_refl _, Nat.le_refl _⟩) (fun r_5 H locs h hw => ?_)
    refine lv_if_eq (tgt := 42) hx hb dX19_fits_18 rfl (fun c_17 => ?_) (fun c_17 => ?_)
    · have h := h.1 c_17
      refine lv_aload_n hx hb dX19_fits_42 rfl (lv_at hl 0 rfl) ?_
      refine lv_iconst (v := 1) hx hb dX19_fits_43 (by decide) ?_
      refine g_calli hw (g_V X hw (mX19_refused l G _ _ _ _ h) 1 (lw_V q1603 q1605 qs47 q143 q1606) rfl rfl ydX19_refused ⟨Nat.le_of_ble_eq_true rfl, Nat.le_of_ble_eq_true rfl⟩ (g_recv X hw (ci := 15) (q := (RX19, TX19, 46)) hk_1 rfl) (As := [.int 1]) (rest := []) rfl hl.1 rfl (Nat.le_of_ble_eq_true rfl) dX19_fits_44 ⟨Nat.le_refl _, Nat.le_refl _⟩) (fun r_6 u_7 H locs h hw => ?_)
      exact g_iret X hw hr h (Nat.le_refl _) (Nat.le_refl _) dX19_fits_47
    · have h := h.2 c_17
      refine lv_aload_n hx hb dX19_fits_21 rfl (lv_at hl 0 rfl) ?_
      refine lv_aload_n hx hb dX19_fits_22 rfl (lv_at hl 0 rfl) ?_
      refine lv_iload_n hx hb dX19_fits_23 rfl (lv_at hl 1 rfl) ?_
      refine lv_iload_n hx hb dX19_fits_24 rfl (lv_at hl 2 rfl) ?_
      refine g_calli hw (g_V X hw (mX19_rowFits l G _ _ _ _ _ h) 2 (lw_V q1923 q1925 qs82 q143 q1926) rfl rfl ydX19_rowFits ⟨Nat.le_of_ble_eq_true rfl, Nat.le_of_ble_eq_true rfl⟩ (g_recv X hw (ci := 15) (q := (RX19, TX19, 46)) hk_1 rfl) (As := [.int x1, .int x2]) (rest := [.ref a0]) rfl hl.1 rfl (Nat.le_of_ble_eq_true rfl) dX19_fits_25 ⟨Nat.le_refl _, Nat.le_refl _⟩) (fun r_8 u_9 H locs h hw => ?_)
      refine lv_if_eq (tgt := 35) hx hb dX19_fits_28 rfl (fun c_16 => ?_) (fun c_16 => ?_)
      · have h := h.1 c_16
        refine lv_iconst (v := 0) hx hb dX19_fits_35 (by decide) ?_
        have hk_10 : kd u_9 a0 = 16 := h.1
        have h := h.2
        refine g_calli hw (g_V X hw (mX19_good l G _ _ _ _ h) 1 (lw_V q1867 q1869 qs77 q143 q1870) rfl rfl ydX19_good ⟨Nat.le_of_ble_eq_true rfl, Nat.le_of_ble_eq_true rfl⟩ (g_recv X hw (ci := 15) (q := (RX19, TX19, 46)) hk_10 rfl) (As := [.int 0]) (rest := []) rfl hl.1 rfl (Nat.le_of_ble_eq_true rfl) dX19_fits_36 ⟨Nat.le_refl _, Nat.le_refl _⟩) (fun r_11 u_12 H locs h hw => ?_)
        refine lv_goto (tgt := 47) hx hb dX19_fits_39 rfl ?_
        exact g_iret X hw hr h (Nat.le_refl _) (Nat.le_refl _) dX19_fits_47
      · have h := h.2 c_16
        refine lv_iconst (v := 1) hx hb dX19_fits_31 (by decide) ?_
        refine lv_goto (tgt := 36) hx hb dX19_fits_32 rfl ?_
        have hk_13 : kd u_9 a0 = 16 := h.1
        have h := h.2
        refine g_calli hw (g_V X hw (mX19_good l G _ _ _ _ h) 1 (lw_V q1867 q1869 qs77 q143 q1870) rfl rfl ydX19_good ⟨Nat.le_of_ble_eq_true rfl, Nat.le_of_ble_eq_true rfl⟩ (g_recv X hw (ci := 15) (q := (RX19, TX19, 46)) hk_13 rfl) (As := [.int 1]) (rest := []) rfl hl.1 rfl (Nat.le_of_ble_eq_true rfl) dX19_fits_36 ⟨Nat.le_refl _, Nat.le_refl _⟩) (fun r_14 u_15 H locs h hw => ?_)
        refine lv_goto (tgt := 47) hx hb dX19_fits_39 rfl ?_
        exact g_iret X hw hr h (Nat.le_refl _) (Nat.le_refl _) dX19_fits_47

/-! FifthCard$Pairing.fitting()I -/
theorem ydX4_fitting : yX4_fitting.cls = "FifthCard$Pairing" ∧ yX4_fitting.cls ≠ "java/lang/invoke/MethodHandle" ∧ yX4_fitting.cls ≠ "java/lang/invoke/VarHandle" ∧ (parseMethodDescriptor yX4_fitting.desc).map (fun d => d.parameters.length) = some 0 := by decide +kernel
def rmX4_fitting (mc ms : Nat) : Room := { frames := 0, cells := mc, slots := ms, locals := 0 }
set_option maxHeartbeats 4000000 in
theorem mX4_fitting (l : Launch) (G : GT) (u : Hp) (a0 : Nat) (K : Int32 → Prop) (h : pX4_fitting u a0 K) : Met l yX4_fitting (ws_ yX4_fitting cX4_fitting 1 (some .int)) (rmX4_fitting 0 0) (va_Pc [.ref a0] (GB G u)) (va_Qi (fun r v => v = u ∧ K r) (fun u t => GH G u t.heap) (GA G)) 0 0 (GA G) := by
  refine Met.ofW (cc := cX4_fitting) (maxL := 1) (ret := (some .int)) (by decide) rfl ?_
  intro p e s m args below meth c s₁ B hml hv
  obtain ⟨rfl, hv⟩ := hv
  have X := Mc_of (own := RX4) B hml rfl hv
  have hw : GW G u s s.heap [] := ⟨hv.2.1, va_S.rf⟩
  have hr := B.returns
  obtain ⟨hx, hb, hml, hown, hts, -⟩ := id X
  have hl := lv_entry ([.ref a0]) (n := 1) (Nat.le_of_ble_eq_true rfl)
  rw [lg_entry_eq]
  generalize (lg_sl ([.ref a0]) ++ List.replicate (1 - (lg_sl ([.ref a0])).length) Slot.unset).toArray = ls at hl ⊢
  have hl : lv_has ls 1 [(0, .ref a0)] := hl
  change W p l e (rmX4_fitting 0 0) s m _ below meth c s.heap [] 0 0 (QI G below (fun r v => v = u ∧ K r) _ s 0 0) (F0 m 0 ls [])
  unfold pX4_fitting at h
  refine lv_aload_n hx hb dX4_fitting_0 rfl (lv_at hl 0 rfl) ?_
  have hk_1 : kd u a0 = 4 := h.1
  have h := h.2
  refine g_getI X hw in_X4 hk_1 rfl 8 rfl (by decide) q296 (fun _ z => z) dX4_fitting_1 ?_
  refine lv_aload_n hx hb dX4_fitting_4 rfl (lv_at hl 0 rfl) ?_
  refine g_getI X hw in_X4 hk_1 rfl 10 rfl (by decide) q298 (fun _ z => z) dX4_fitting_5 ?_
  refine lv_imul hx hb dX4_fitting_8 ?_
  exact g_iret X hw hr ⟨rfl, h⟩ (Nat.le_refl _) (Nat.le_refl _) dX4_fitting_9

/-! FifthCard.fitting()I -/
theorem ydX1_fitting : yX1_fitting.cls = "FifthCard" ∧ yX1_fitting.cls ≠ "java/lang/invoke/MethodHandle" ∧ yX1_fitting.cls ≠ "java/lang/invoke/VarHandle" ∧ (parseMethodDescriptor yX1_fitting.desc).map (fun d => d.parameters.length) = some 0 := by decide +kernel
def rmX1_fitting (mc ms : Nat) : Room := { frames := 1, cells := mc, slots := ms, locals := 21 }
set_option maxHeartbeats 4000000 in
theorem mX1_fitting (l : Launch) (G : GT) (u : Hp) (a0 : Nat) (K : Int32 → Hp → Prop) (h : pX1_fitting u a0 K) : Met l yX1_fitting (ws_ yX1_fitting cX1_fitting 1 (some .int)) (rmX1_fitting 0 0) (va_Pc [.ref a0] (GB G u)) (va_Qi K (fun u t => GH G u t.heap) (GA G)) 0 0 (GA G) := by
  refine Met.ofW (cc := cX1_fitting) (maxL := 1) (ret := (some .int)) (by decide) rfl ?_
  intro p e s m args below meth c s₁ B hml hv
  obtain ⟨rfl, hv⟩ := hv
  have X := Mc_of (own := RX1) B hml rfl hv
  have hw : GW G u s s.heap [] := ⟨hv.2.1, va_S.rf⟩
  have hr := B.returns
  obtain ⟨hx, hb, hml, hown, hts, -⟩ := id X
  have hl := lv_entry ([.ref a0]) (n := 1) (Nat.le_of_ble_eq_true rfl)
  rw [lg_entry_eq]
  generalize (lg_sl ([.ref a0]) ++ List.replicate (1 - (lg_sl ([.ref a0])).length) Slot.unset).toArray = ls at hl ⊢
  have hl : lv_has ls 1 [(0, .ref a0)] := hl
  change W p l e (rmX1_fitting 0 0) s m _ below meth c s.heap [] 0 0 (QI G below K _ s 0 0) (F0 m 0 ls [])
  unfold pX1_fitting at h
  refine lv_aload_n hx hb dX1_fitting_0 rfl (lv_at hl 0 rfl) ?_
  have hk_1 : kd u a0 = 1 := h.1
  have h := h.2
  refine g_callv hw (g_V X hw (mX1_anew l G _ _ _ h) 0 (lw_V q535 q537 qs2 q122 q538) rfl rfl ydX1_anew ⟨Nat.le_of_ble_eq_true rfl, Nat.le_of_ble_eq_true rfl⟩ (g_recv X hw (ci := 0) (q := (RX1, TX1, 16)) hk_1 rfl) (As := []) (rest := []) rfl hl.1 rfl (Nat.le_of_ble_eq_true rfl) dX1_fitting_1 ⟨Nat.le_refl _, Nat.le_refl _⟩) (fun u_2 H locs h hw => ?_)
  refine lv_aload_n hx hb dX1_fitting_4 rfl (lv_at hl 0 rfl) ?_
  have hk_3 : kd u_2 a0 = 1 := h.1
  have h := h.2
  refine g_getO X hw in_X1 hk_3 rfl 3 rfl (by decide) q476 (fun _ z => z) dX1_fitting_5 ?_
  refine g_ifnonnull X (tgt := 19) dX1_fitting_8 rfl (fun b_4 e_5 => ?_) (fun e_5 => ?_)
  · have h := h.2 b_4 e_5
    refine lv_aload_n hx hb dX1_fitting_19 rfl (lv_at hl 0 rfl) ?_
    obtain ⟨b_8, e_9, h⟩ := h
    refine g_getR X hw in_X1 hk_3 rfl 9 rfl (by decide) q482 (fun _ z => z) e_9 dX1_fitting_20 ?_
    have hk_10 : kd u_2 b_8 = 4 := h.1
    have h := h.2
    refine g_callio hw (g_V X hw (mX4_fitting l G _ _ _ h) 0 (lw_V q1066 q1067 q1068 q128 q1069) rfl rfl ydX4_fitting ⟨Nat.le_of_ble_eq_true rfl, Nat.le_of_ble_eq_true rfl⟩ (g_recv X hw (ci := 3) (q := (RX4, TX4, 14)) hk_10 rfl) (As := []) (rest := []) rfl hl.1 rfl (Nat.le_of_ble_eq_true rfl) dX1_fitting_23 ⟨Nat.le_refl _, Nat.le_refl _⟩) (fun r_11 H locs h hw => ?_)
    exact g_iret X hw hr h (Nat.le_refl _) (Nat.le_refl _) dX1_fitting_26
  · have h := h.1 e_5
    refine lv_aload_n hx hb dX1_fitting_11 rfl (lv_at hl 0 rfl) ?_
    refine lv_iconst (v := 1) hx hb dX1_fitting_12 (by decide) ?_
    refine g_calli hw (g_V X hw (mX1_no l G _ _ _ _ h) 1 (lw_V q542 q544 qs3 q122 q545) rfl rfl ydX1_no ⟨Nat.le_of_ble_eq_true rfl, Nat.le_of_ble_eq_true rfl⟩ (g_recv X hw (ci := 0) (q := (RX1, TX1, 16)) hk_3 rfl) (As := [.int 1]) (rest := []) rfl hl.1 rfl (Nat.le_of_ble_eq_true rfl) dX1_fitting_13 ⟨Nat.le_refl _, Nat.le_refl _⟩) (fun r_6 u_7 H locs h hw => ?_)
    refine lv_goto (tgt := 26) hx hb dX1_fitting_16 rfl ?_
    exact g_iret X hw hr h (Nat.le_refl _) (Nat.le_refl _) dX1_fitting_26

/-! FifthCardModel.fittingMany()I -/
theorem ydX19_fittingMany : yX19_fittingMany.cls = "FifthCardModel" ∧ yX19_fittingMany.cls ≠ "java/lang/invoke/MethodHandle" ∧ yX19_fittingMany.cls ≠ "java/lang/invoke/VarHandle" ∧ (parseMethodDescriptor yX19_fittingMany.desc).map (fun d => d.parameters.length) = some 0 := by decide +kernel
def rmX19_fittingMany (mc ms : Nat) : Room := { frames := 2, cells := mc, slots := ms, locals := 45 }
set_option maxHeartbeats 4000000 in
theorem mX19_fittingMany (l : Launch) (G : GT) (u : Hp) (a0 : Nat) (K : Int32 → Prop) (h : pX19_fittingMany u a0 K) : Met l yX19_fittingMany (ws_ yX19_fittingMany cX19_fittingMany 1 (some .int)) (rmX19_fittingMany 0 0) (va_Pc [.ref a0] (GB G u)) (va_Qi (fun r v => v = u ∧ K r) (fun u t => GH G u t.heap) (GA G)) 0 0 (GA G) := by
  refine Met.ofW (cc := cX19_fittingMany) (maxL := 1) (ret := (some .int)) (by decide) rfl ?_
  intro p e s m args below meth c s₁ B hml hv
  obtain ⟨rfl, hv⟩ := hv
  have X := Mc_of (own := RX19) B hml rfl hv
  have hw : GW G u s s.heap [] := ⟨hv.2.1, va_S.rf⟩
  have hr := B.returns
  obtain ⟨hx, hb, hml, hown, hts, -⟩ := id X
  have hl := lv_entry ([.ref a0]) (n := 1) (Nat.le_of_ble_eq_true rfl)
  rw [lg_entry_eq]
  generalize (lg_sl ([.ref a0]) ++ List.replicate (1 - (lg_sl ([.ref a0])).length) Slot.unset).toArray = ls at hl ⊢
  have hl : lv_has ls 1 [(0, .ref a0)] := hl
  change W p l e (rmX19_fittingMany 0 0) s m _ below meth c s.heap [] 0 0 (QI G below (fun r v => v = u ∧ K r) _ s 0 0) (F0 m 0 ls [])
  unfold pX19_fittingMany at h
  refine lv_aload_n hx hb dX19_fittingMany_0 rfl (lv_at hl 0 rfl) ?_
  have hk_1 : kd u a0 = 16 := h.1
  have h := h.2
  refine g_callio hw (g_V X hw (mX19_isOneOrder l G _ _ _ h) 0 (lw_V q1843 q1845 qs72 q143 q1846) rfl rfl ydX19_isOneOrder ⟨Nat.le_of_ble_eq_true rfl, Nat.le_of_ble_eq_true rfl⟩ (g_recv X hw (ci := 15) (q := (RX19, TX19, 46)) hk_1 rfl) (As := []) (rest := []) rfl hl.1 rfl (Nat.le_of_ble_eq_true rfl) dX19_fittingMany_1 ⟨Nat.le_refl _, Nat.le_refl _⟩) (fun r_2 H locs h hw => ?_)
  refine lv_if_eq (tgt := 27) hx hb dX19_fittingMany_4 rfl (fun c_13 => ?_) (fun c_13 => ?_)
  · have h := h.1 c_13
    refine lv_aload_n hx hb dX19_fittingMany_27 rfl (lv_at hl 0 rfl) ?_
    obtain ⟨b_3, e_4, h⟩ := h
    refine g_getR X hw in_X19 hk_1 rfl 3 rfl (by decide) q1454 (fun _ z => z) e_4 dX19_fittingMany_28 ?_
    have hk_5 : kd u b_3 = 20 := h.1
    have h := h.2
    refine g_getNI X hw (host := "FifthCardModel") in_X23 hk_5 rfl 2 rfl (by decide) (List.mem_of_getElem? (i := 2) rfl) (fun _ z => z) dX19_fittingMany_31 ?_
    refine lv_aload_n hx hb dX19_fittingMany_34 rfl (lv_at hl 0 rfl) ?_
    refine g_getR X hw in_X19 hk_1 rfl 3 rfl (by decide) q1454 (fun _ z => z) e_4 dX19_fittingMany_35 ?_
    refine g_getNI X hw (host := "FifthCardModel") in_X23 hk_5 rfl 4 rfl (by decide) (List.mem_of_getElem? (i := 7) rfl) (fun _ z => z) dX19_fittingMany_38 ?_
    refine g_calllo hw (g_S X hw (mX19_rowsOf l G _ _ _ _ h) 2 (lw_S q1767 q1762 q143 q1763) rfl rfl ydX19_rowsOf ⟨Nat.le_of_ble_eq_true rfl, Nat.le_of_ble_eq_true rfl⟩ (As := [.int (FI u 2302 b_3), .int (FI u 2304 b_3)]) (rest := []) rfl hl.1 rfl (Nat.le_of_ble_eq_true rfl) dX19_fittingMany_41 ⟨Nat.le_refl _, Nat.le_refl _⟩) (fun r_6 H locs h hw => ?_)
    refine lv_l2i hx hb dX19_fittingMany_44 rfl ?_
    refine lv_aload_n hx hb dX19_fittingMany_45 rfl (lv_at hl 0 rfl) ?_
    refine g_getR X hw in_X19 hk_1 rfl 3 rfl (by decide) q1454 (fun _ z => z) e_4 dX19_fittingMany_46 ?_
    refine g_callio hw (g_V X hw (mX23_tilts l G _ _ _ h) 0 (lw_V q1863 q1864 q1865 q153 q1866) rfl rfl ydX23_tilts ⟨Nat.le_of_ble_eq_true rfl, Nat.le_of_ble_eq_true rfl⟩ (g_recv X hw (ci := 19) (q := (RX23, TX23, 15)) hk_5 rfl) (As := []) (rest := [.int (r_6.toInt32)]) rfl hl.1 rfl (Nat.le_of_ble_eq_true rfl) dX19_fittingMany_49 ⟨Nat.le_refl _, Nat.le_refl _⟩) (fun r_7 H locs h hw => ?_)
    refine lv_imul hx hb dX19_fittingMany_52 ?_
    exact g_iret X hw hr ⟨rfl, h⟩ (Nat.le_refl _) (Nat.le_refl _) dX19_fittingMany_53
  · have h := h.2 c_13
    refine lv_aload_n hx hb dX19_fittingMany_7 rfl (lv_at hl 0 rfl) ?_
    obtain ⟨b_8, e_9, h⟩ := h
    refine g_getR X hw in_X19 hk_1 rfl 3 rfl (by decide) q1454 (fun _ z => z) e_9 dX19_fittingMany_8 ?_
    have hk_10 : kd u b_8 = 20 := h.1
    have h := h.2
    refine g_getNI X hw (host := "FifthCardModel") in_X23 hk_10 rfl 2 rfl (by decide) (List.mem_of_getElem? (i := 2) rfl) (fun _ z => z) dX19_fittingMany_11 ?_
    refine lv_aload_n hx hb dX19_fittingMany_14 rfl (lv_at hl 0 rfl) ?_
    refine g_getR X hw in_X19 hk_1 rfl 3 rfl (by decide) q1454 (fun _ z => z) e_9 dX19_fittingMany_15 ?_
    refine g_getNI X hw (host := "FifthCardModel") in_X23 hk_10 rfl 4 rfl (by decide) (List.mem_of_getElem? (i := 7) rfl) (fun _ z => z) dX19_fittingMany_18 ?_
    refine g_calllo hw (g_S X hw (mX19_setsOf l G _ _ _ _ h) 2 (lw_S q1935 q1765 q143 q1766) rfl rfl ydX19_setsOf ⟨Nat.le_of_ble_eq_true rfl, Nat.le_of_ble_eq_true rfl⟩ (As := [.int (FI u 2302 b_8), .int (FI u 2304 b_8)]) (rest := []) rfl hl.1 rfl (Nat.le_of_ble_eq_true rfl) dX19_fittingMany_21 ⟨Nat.le_refl _, Nat.le_refl _⟩) (fun r_11 H locs h hw => ?_)
    refine lv_goto (tgt := 44) hx hb dX19_fittingMany_24 rfl ?_
    refine lv_l2i hx hb dX19_fittingMany_44 rfl ?_
    refine lv_aload_n hx hb dX19_fittingMany_45 rfl (lv_at hl 0 rfl) ?_
    refine g_getR X hw in_X19 hk_1 rfl 3 rfl (by decide) q1454 (fun _ z => z) e_9 dX19_fittingMany_46 ?_
    refine g_callio hw (g_V X hw (mX23_tilts l G _ _ _ h) 0 (lw_V q1863 q1864 q1865 q153 q1866) rfl rfl ydX23_tilts ⟨Nat.le_of_ble_eq_true rfl, Nat.le_of_ble_eq_true rfl⟩ (g_recv X hw (ci := 19) (q := (RX23, TX23, 15)) hk_10 rfl) (As := []) (rest := [.int (r_11.toInt32)]) rfl hl.1 rfl (Nat.le_of_ble_eq_true rfl) dX19_fittingMany_49 ⟨Nat.le_refl _, Nat.le_refl _⟩) (fun r_12 H locs h hw => ?_)
    refine lv_imul hx hb dX19_fittingMany_52 ?_
    exact g_iret X hw hr ⟨rfl, h⟩ (Nat.le_refl _) (Nat.le_refl _) dX19_fittingMany_53

/-! FifthCardModel.fitting()I -/
theorem ydX19_fitting : yX19_fitting.cls = "FifthCardModel" ∧ yX19_fitting.cls ≠ "java/lang/invoke/MethodHandle" ∧ yX19_fitting.cls ≠ "java/lang/invoke/VarHandle" ∧ (parseMethodDescriptor yX19_fitting.desc).map (fun d => d.parameters.length) = some 0 := by decide +kernel
def rmX19_fitting (mc ms : Nat) : Room := { frames := 3, cells := mc, slots := ms, locals := 65 }
set_option maxHeartbeats 4000000 in
theorem mX19_fitting (l : Launch) (G : GT) (u : Hp) (a0 : Nat) (K : Int32 → Hp → Prop) (h : pX19_fitting u a0 K) : Met l yX19_fitting (ws_ yX19_fitting cX19_fitting 1 (some .int)) (rmX19_fitting 0 0) (va_Pc [.ref a0] (GB G u)) (va_Qi K (fun u t => GH G u t.heap) (GA G)) 0 0 (GA G) := by
  refine Met.ofW (cc := cX19_fitting) (maxL := 1) (ret := (some .int)) (by decide) rfl ?_
  intro p e s m args below meth c s₁ B hml hv
  obtain ⟨rfl, hv⟩ := hv
  have X := Mc_of (own := RX19) B hml rfl hv
  have hw : GW G u s s.heap [] := ⟨hv.2.1, va_S.rf⟩
  have hr := B.returns
  obtain ⟨hx, hb, hml, hown, hts, -⟩ := id X
  have hl := lv_entry ([.ref a0]) (n := 1) (Nat.le_of_ble_eq_true rfl)
  rw [lg_entry_eq]
  generalize (lg_sl ([.ref a0]) ++ List.replicate (1 - (lg_sl ([.ref a0])).length) Slot.unset).toArray = ls at hl ⊢
  have hl : lv_has ls 1 [(0, .ref a0)] := hl
  change W p l e (rmX19_fitting 0 0) s m _ below meth c s.heap [] 0 0 (QI G below K _ s 0 0) (F0 m 0 ls [])
  unfold pX19_fitting at h
  refine lv_aload_n hx hb dX19_fitting_0 rfl (lv_at hl 0 rfl) ?_
  refine lv_iconst (v := 0) hx hb dX19_fitting_1 (by decide) ?_
  have hk_1 : kd u a0 = 16 := h.1
  have h := h.2
  refine g_putI (v := 0) X hw in_X19 tyX19_ok nmX19 hk_1 rfl 0 rfl (by decide) q1451 (fun _ z => z) rfl rfl rfl dX19_fitting_2 (fun H locs hw => ?_)
  refine lv_aload_n hx hb dX19_fitting_5 rfl (lv_at hl 0 rfl) ?_
  refine g_getO X hw in_X19 hk_1 rfl 3 rfl (by decide) q1454 (fun _ z => z) dX19_fitting_6 ?_
  refine g_ifnonnull X (tgt := 20) dX19_fitting_9 rfl (fun b_2 e_3 => ?_) (fun e_3 => ?_)
  · have h := h.2 b_2 e_3
    refine lv_aload_n hx hb dX19_fitting_20 rfl (lv_at hl 0 rfl) ?_
    refine lv_aload_n hx hb dX19_fitting_21 rfl (lv_at hl 0 rfl) ?_
    refine g_callio hw (g_V X hw (mX19_fittingMany l G _ _ _ h) 0 (lw_V q1931 q1933 qs83 q143 q1934) rfl rfl ydX19_fittingMany ⟨Nat.le_of_ble_eq_true rfl, Nat.le_of_ble_eq_true rfl⟩ (g_recv X hw (ci := 15) (q := (RX19, TX19, 46)) hk_1 rfl) (As := []) (rest := [.ref a0]) rfl hl.1 rfl (Nat.le_of_ble_eq_true rfl) dX19_fitting_22 ⟨Nat.le_refl _, Nat.le_refl _⟩) (fun r_6 H locs h hw => ?_)
    refine g_calli hw (g_V X hw (mX19_good l G _ _ _ _ h) 1 (lw_V q1867 q1869 qs77 q143 q1870) rfl rfl ydX19_good ⟨Nat.le_of_ble_eq_true rfl, Nat.le_of_ble_eq_true rfl⟩ (g_recv X hw (ci := 15) (q := (RX19, TX19, 46)) hk_1 rfl) (As := [.int r_6]) (rest := []) rfl hl.1 rfl (Nat.le_of_ble_eq_true rfl) dX19_fitting_25 ⟨Nat.le_refl _, Nat.le_refl _⟩) (fun r_7 u_8 H locs h hw => ?_)
    exact g_iret X hw hr h (Nat.le_refl _) (Nat.le_refl _) dX19_fitting_28
  · have h := h.1 e_3
    refine lv_aload_n hx hb dX19_fitting_12 rfl (lv_at hl 0 rfl) ?_
    refine lv_iconst (v := 1) hx hb dX19_fitting_13 (by decide) ?_
    refine g_calli hw (g_V X hw (mX19_refused l G _ _ _ _ h) 1 (lw_V q1603 q1605 qs47 q143 q1606) rfl rfl ydX19_refused ⟨Nat.le_of_ble_eq_true rfl, Nat.le_of_ble_eq_true rfl⟩ (g_recv X hw (ci := 15) (q := (RX19, TX19, 46)) hk_1 rfl) (As := [.int 1]) (rest := []) rfl hl.1 rfl (Nat.le_of_ble_eq_true rfl) dX19_fitting_14 ⟨Nat.le_refl _, Nat.le_refl _⟩) (fun r_4 u_5 H locs h hw => ?_)
    refine lv_goto (tgt := 28) hx hb dX19_fitting_17 rfl ?_
    exact g_iret X hw hr h (Nat.le_refl _) (Nat.le_refl _) dX19_fitting_28

/-! FifthCard.isRule(I)Z -/
theorem ydX1_isRule : yX1_isRule.cls = "FifthCard" ∧ yX1_isRule.cls ≠ "java/lang/invoke/MethodHandle" ∧ yX1_isRule.cls ≠ "java/lang/invoke/VarHandle" ∧ (parseMethodDescriptor yX1_isRule.desc).map (fun d => d.parameters.length) = some 1 := by decide +kernel
def rmX1_isRule (mc ms : Nat) : Room := { frames := 1, cells := mc, slots := ms, locals := 22 }
set_option maxHeartbeats 4000000 in
theorem mX1_isRule (l : Launch) (G : GT) (u : Hp) (a0 : Nat) (x1 : Int32) (K : Int32 → Prop) (h : pX1_isRule u a0 x1 K) : Met l yX1_isRule (ws_ yX1_isRule cX1_isRule 2 (some .boolean)) (rmX1_isRule 0 0) (va_Pc [.ref a0, .int x1] (GB G u)) (va_Qi (fun r v => v = u ∧ K r) (fun u t => GH G u t.heap) (GA G)) 0 0 (GA G) := by
  refine Met.ofW (cc := cX1_isRule) (maxL := 2) (ret := (some .boolean)) (by decide) rfl ?_
  intro p e s m args below meth c s₁ B hml hv
  obtain ⟨rfl, hv⟩ := hv
  have X := Mc_of (own := RX1) B hml rfl hv
  have hw : GW G u s s.heap [] := ⟨hv.2.1, va_S.rf⟩
  have hr := B.returns
  obtain ⟨hx, hb, hml, hown, hts, -⟩ := id X
  have hl := lv_entry ([.ref a0, .int x1]) (n := 2) (Nat.le_of_ble_eq_true rfl)
  rw [lg_entry_eq]
  generalize (lg_sl ([.ref a0, .int x1]) ++ List.replicate (2 - (lg_sl ([.ref a0, .int x1])).length) Slot.unset).toArray = ls at hl ⊢
  have hl : lv_has ls 2 [(0, .ref a0), (1, .int x1)] := hl
  change W p l e (rmX1_isRule 0 0) s m _ below meth c s.heap [] 0 0 (QI G below (fun r v => v = u ∧ K r) _ s 0 0) (F0 m 0 ls [])
  unfold pX1_isRule at h
  refine lv_aload_n hx hb dX1_isRule_0 rfl (lv_at hl 0 rfl) ?_
  have hk_1 : kd u a0 = 1 := h.1
  have h := h.2
  refine g_getO X hw in_X1 hk_1 rfl 3 rfl (by decide) q476 (fun _ z => z) dX1_isRule_1 ?_
  refine g_ifnull X dX1_isRule_4 rfl (fun e_3 => ?_) (fun b_2 e_3 => ?_)
  · have h := h.1 e_3
    refine lv_iconst (v := 0) hx hb dX1_isRule_28 (by decide) ?_
    exact g_zret X hw hr rfl ⟨rfl, h⟩ (Nat.le_refl _) (Nat.le_refl _) dX1_isRule_29
  · have h := h.2 b_2 e_3
    refine lv_iload_n hx hb dX1_isRule_7 rfl (lv_at hl 1 rfl) ?_
    refine lv_iconst (v := 0) hx hb dX1_isRule_8 (by decide) ?_
    refine lv_aload_n hx hb dX1_isRule_9 rfl (lv_at hl 0 rfl) ?_
    obtain ⟨b_4, e_5, h⟩ := h
    refine g_getR X hw in_X1 hk_1 rfl 3 rfl (by decide) q476 (fun _ z => z) e_5 dX1_isRule_10 ?_
    have hk_6 : kd u b_4 = 17 := h.1
    have h := h.2
    refine g_getI X hw in_X20 hk_6 rfl 7 rfl (by decide) q593 (fun _ z => z) dX1_isRule_13 ?_
    refine lv_iconst (v := 1) hx hb dX1_isRule_16 (by decide) ?_
    refine lv_isub hx hb dX1_isRule_17 ?_
    refine g_callio hw (g_S X hw (mX1_in l G _ _ _ _ _ h) 3 (lw_S q539 q540 q122 q541) rfl rfl ydX1_in ⟨Nat.le_of_ble_eq_true rfl, Nat.le_of_ble_eq_true rfl⟩ (As := [.int x1, .int 0, .int ((FI u 2007 b_4) - 1)]) (rest := []) rfl hl.1 rfl (Nat.le_of_ble_eq_true rfl) dX1_isRule_18 ⟨Nat.le_refl _, Nat.le_refl _⟩) (fun r_7 H locs h hw => ?_)
    refine lv_if_eq (tgt := 28) hx hb dX1_isRule_21 rfl (fun c_8 => ?_) (fun c_8 => ?_)
    · have h := h.1 c_8
      refine lv_iconst (v := 0) hx hb dX1_isRule_28 (by decide) ?_
      exact g_zret X hw hr rfl ⟨rfl, h⟩ (Nat.le_refl _) (Nat.le_refl _) dX1_isRule_29
    · have h := h.2 c_8
      refine lv_iconst (v := 1) hx hb dX1_isRule_24 (by decide) ?_
      refine lv_goto (tgt := 29) hx hb dX1_isRule_25 rfl ?_
      exact g_zret X hw hr rfl ⟨rfl, h⟩ (Nat.le_refl _) (Nat.le_refl _) dX1_isRule_29

/-! FifthCard$Pairing.row(II)I -/
theorem ydX4_row : yX4_row.cls = "FifthCard$Pairing" ∧ yX4_row.cls ≠ "java/lang/invoke/MethodHandle" ∧ yX4_row.cls ≠ "java/lang/invoke/VarHandle" ∧ (parseMethodDescriptor yX4_row.desc).map (fun d => d.parameters.length) = some 2 := by decide +kernel
def rmX4_row (mc ms : Nat) : Room := { frames := 0, cells := mc, slots := ms, locals := 0 }
set_option maxHeartbeats 4000000 in
theorem mX4_row (l : Launch) (G : GT) (u : Hp) (a0 : Nat) (x1 : Int32) (x2 : Int32) (K : Int32 → Prop) (h : pX4_row u a0 x1 x2 K) : Met l yX4_row (ws_ yX4_row cX4_row 3 (some .int)) (rmX4_row 0 0) (va_Pc [.ref a0, .int x1, .int x2] (GB G u)) (va_Qi (fun r v => v = u ∧ K r) (fun u t => GH G u t.heap) (GA G)) 0 0 (GA G) := by
  refine Met.ofW (cc := cX4_row) (maxL := 3) (ret := (some .int)) (by decide) rfl ?_
  intro p e s m args below meth c s₁ B hml hv
  obtain ⟨rfl, hv⟩ := hv
  have X := Mc_of (own := RX4) B hml rfl hv
  have hw : GW G u s s.heap [] := ⟨hv.2.1, va_S.rf⟩
  have hr := B.returns
  obtain ⟨hx, hb, hml, hown, hts, -⟩ := id X
  have hl := lv_entry ([.ref a0, .int x1, .int x2]) (n := 3) (Nat.le_of_ble_eq_true rfl)
  rw [lg_entry_eq]
  generalize (lg_sl ([.ref a0, .int x1, .int x2]) ++ List.replicate (3 - (lg_sl ([.ref a0, .int x1, .int x2])).length) Slot.unset).toArray = ls at hl ⊢
  have hl : lv_has ls 3 [(0, .ref a0), (1, .int x1), (2, .int x2)] := hl
  change W p l e (rmX4_row 0 0) s m _ below meth c s.heap [] 0 0 (QI G below (fun r v => v = u ∧ K r) _ s 0 0) (F0 m 0 ls [])
  unfold pX4_row at h
  refine lv_aload_n hx hb dX4_row_0 rfl (lv_at hl 0 rfl) ?_
  have hk_1 : kd u a0 = 4 := h.1
  have h := h.2
  obtain ⟨b_2, e_3, h⟩ := h
  refine g_getR X hw in_X4 hk_1 rfl 0 rfl (by decide) q288 (fun _ z => z) e_3 dX4_row_1 ?_
  refine lv_aload_n hx hb dX4_row_4 rfl (lv_at hl 0 rfl) ?_
  refine g_getI X hw in_X4 hk_1 rfl 8 rfl (by decide) q296 (fun _ z => z) dX4_row_5 ?_
  refine lv_iload_n hx hb dX4_row_8 rfl (lv_at hl 1 rfl) ?_
  refine lv_imul hx hb dX4_row_9 ?_
  refine lv_iload_n hx hb dX4_row_10 rfl (lv_at hl 2 rfl) ?_
  refine lv_aload_n hx hb dX4_row_11 rfl (lv_at hl 0 rfl) ?_
  refine g_getI X hw in_X4 hk_1 rfl 10 rfl (by decide) q298 (fun _ z => z) dX4_row_12 ?_
  refine lv_idiv hx hb dX4_row_15 h.1 ?_
  have h := h.2
  refine lv_iadd hx hb dX4_row_16 ?_
  have hk_4 : kd u b_2 = 101 := h.1
  have h := h.2
  refine g_iald X hw hk_4 h.1 dX4_row_17 ?_
  have h := h.2
  refine lv_aload_n hx hb dX4_row_18 rfl (lv_at hl 0 rfl) ?_
  refine g_getI X hw in_X4 hk_1 rfl 10 rfl (by decide) q298 (fun _ z => z) dX4_row_19 ?_
  refine lv_imul hx hb dX4_row_22 ?_
  refine lv_iload_n hx hb dX4_row_23 rfl (lv_at hl 2 rfl) ?_
  refine lv_aload_n hx hb dX4_row_24 rfl (lv_at hl 0 rfl) ?_
  refine g_getI X hw in_X4 hk_1 rfl 10 rfl (by decide) q298 (fun _ z => z) dX4_row_25 ?_
  refine lv_irem hx hb dX4_row_28 h.1 ?_
  have h := h.2
  refine lv_iadd hx hb dX4_row_29 ?_
  exact g_iret X hw hr ⟨rfl, h⟩ (Nat.le_refl _) (Nat.le_refl _) dX4_row_30

/-! FifthCard$Pairing.turns(II)V -/
theorem ydX4_turns : yX4_turns.cls = "FifthCard$Pairing" ∧ yX4_turns.cls ≠ "java/lang/invoke/MethodHandle" ∧ yX4_turns.cls ≠ "java/lang/invoke/VarHandle" ∧ (parseMethodDescriptor yX4_turns.desc).map (fun d => d.parameters.length) = some 2 := by decide +kernel
def rmX4_turns (mc ms : Nat) : Room := { frames := 0, cells := mc, slots := ms, locals := 0 }
set_option maxHeartbeats 4000000 in
theorem wX4_turns_5 {G : GT} {p : Program} {l : Launch} {e : Env} {s : State} {m : MethodId} {args : Array Value} {below : List Frame} {meth : Method} {c : Code} {H : Heap} {locs : List Loc} {ls : Array Slot} {a0 : Nat} {x2 : Int32} {x3 : Int32} {x4 : Int32} {u : Hp} {K : Hp → Prop} (X : Mc G p s m args meth c RX4 cX4_turns 7) (hr : meth.sig.returnType = none) (h : jl3 (bX4_turns_5 K a0 x2) x3 x4 u) (hw : GW G u s H locs) (hl : lv_has ls 7 [(0, .ref a0), (2, .int x2), (3, .int x3), (4, .int x4)]) : W p l e (rmX4_turns 0 0) s m args below meth c H locs 0 0 (QV G below K args s 0 0) (F0 m 5 ls []) := by
  obtain ⟨hx, hb, hml, hown, hts, -⟩ := id X
  obtain ⟨I, μ, h0, hs⟩ := h
  have key : ∀ (n : Nat) (x3 : Int32) (x4 : Int32) (u : Hp) (H : Heap) (locs : List Loc) (ls : Array Slot) , μ x3 x4 u < n → I x3 x4 u → GW G u s H locs → lv_has ls 7 [(0, .ref a0), (2, .int x2), (3, .int x3), (4, .int x4)] → W p l e (rmX4_turns 0 0) s m args below meth c H locs 0 0 (QV G below K args s 0 0) (F0 m 5 ls []) := by
    intro n
    induction n with
    | zero =>
      intro x3 x4 u H locs ls hn
      exact absurd hn (Nat.not_lt_zero _)
    | succ n ih =>
      intro x3 x4 u H locs ls hn hI hw hl
      have h := hs x3 x4 u hI
      unfold bX4_turns_5 at h
      have hJ5 : ∀ (x3' : Int32) (x4' : Int32) (u' : Hp) (H : Heap) (locs : List Loc) (ls : Array Slot) , (I x3' x4' u' ∧ μ x3' x4' u' < μ x3 x4 u) → GW G u' s H locs → lv_has ls 7 [(0, .ref a0), (2, .int x2), (3, .int x3'), (4, .int x4')] → W p l e (rmX4_turns 0 0) s m args below meth c H locs 0 0 (QV G below K args s 0 0) (F0 m 5 ls []) := fun x3' x4' u' H locs ls h hw hl => ih x3' x4' u' H locs ls (Nat.lt_of_lt_of_le h.2 (Nat.le_of_lt_succ hn)) h.1 hw hl
      refine lv_iload hx hb dX4_turns_5 (lv_at hl 3 rfl) ?_
      refine lv_if_eq (tgt := 62) hx hb dX4_turns_7 rfl (fun c_14 => ?_) (fun c_14 => ?_)
      · have h := h.1 c_14
        exact g_vret X hw hr h (Nat.le_refl _) (Nat.le_refl _) dX4_turns_62
      · have h := h.2 c_14
        refine lv_aload_n hx hb dX4_turns_10 rfl (lv_at hl 0 rfl) ?_
        have hk_1 : kd u a0 = 4 := h.1
        have h := h.2
        obtain ⟨b_2, e_3, h⟩ := h
        refine g_getR X hw in_X4 hk_1 rfl 3 rfl (by decide) q291 (fun _ z => z) e_3 dX4_turns_11 ?_
        refine lv_iload_n hx hb dX4_turns_14 rfl (lv_at hl 2 rfl) ?_
        have hk_4 : kd u b_2 = 101 := h.1
        have h := h.2
        refine g_iald X hw hk_4 h.1 dX4_turns_15 ?_
        have h := h.2
        refine lv_istore (lv' := [(5, .int (AI u b_2 (tn x3))), (0, .ref a0), (2, .int x2), (3, .int x3), (4, .int x4)]) hx hb dX4_turns_16 hl (by decide) rfl (fun ls hl => ?_)
        refine lv_aload_n hx hb dX4_turns_18 rfl (lv_at hl 1 rfl) ?_
        obtain ⟨b_5, e_6, h⟩ := h
        refine g_getR X hw in_X4 hk_1 rfl 2 rfl (by decide) q290 (fun _ z => z) e_6 dX4_turns_19 ?_
        refine lv_iload hx hb dX4_turns_22 (lv_at hl 0 rfl) ?_
        have hk_7 : kd u b_5 = 101 := h.1
        have h := h.2
        refine g_iald X hw hk_7 h.1 dX4_turns_24 ?_
        have h := h.2
        refine lv_topi (fun x6_8 e_9 => ?_)
        have h := h x6_8 e_9
        refine lv_istore (lv' := [(6, .int x6_8), (5, .int (AI u b_2 (tn x3))), (0, .ref a0), (2, .int x2), (3, .int x3), (4, .int x4)]) hx hb dX4_turns_25 hl (by decide) rfl (fun ls hl => ?_)
        refine lv_aload_n hx hb dX4_turns_27 rfl (lv_at hl 2 rfl) ?_
        refine g_getR X hw in_X4 hk_1 rfl 2 rfl (by decide) q290 (fun _ z => z) e_6 dX4_turns_28 ?_
        refine lv_iload hx hb dX4_turns_31 (lv_at hl 1 rfl) ?_
        refine lv_iload_n hx hb dX4_turns_33 rfl (lv_at hl 4 rfl) ?_
        refine g_iast X hw hk_7 h.1 dX4_turns_34 (fun H locs hw => ?_)
        have h := h.2
        refine lv_aload_n hx hb dX4_turns_35 rfl (lv_at hl 2 rfl) ?_
        obtain ⟨b_10, e_11, h⟩ := h
        refine g_getR X hw in_X4 hk_1 rfl 1 rfl (by decide) q289 (fun _ z => z) e_11 dX4_turns_36 ?_
        refine lv_iload_n hx hb dX4_turns_39 rfl (lv_at hl 4 rfl) ?_
        refine lv_iload hx hb dX4_turns_40 (lv_at hl 1 rfl) ?_
        have hk_12 : kd u b_10 = 101 := h.1
        have h := h.2
        refine g_iast X hw hk_12 h.1 dX4_turns_42 (fun H locs hw => ?_)
        have h := h.2
        refine lv_iload hx hb dX4_turns_43 (lv_at hl 0 rfl) ?_
        refine lv_istore_n (lv' := [(3, .int x6_8), (6, .int x6_8), (5, .int (AI u b_2 (tn x3))), (0, .ref a0), (2, .int x2), (4, .int x4)]) hx hb dX4_turns_45 rfl hl (by decide) rfl (fun ls hl => ?_)
        refine lv_iload hx hb dX4_turns_46 (lv_at hl 2 rfl) ?_
        refine lv_iload_n hx hb dX4_turns_48 rfl (lv_at hl 4 rfl) ?_
        refine lv_icmp_eq (tgt := 56) hx hb dX4_turns_49 rfl (fun c_13 => ?_) (fun c_13 => ?_)
        · have h := h.1 c_13
          refine lv_iconst (v := 0) hx hb dX4_turns_56 (by decide) ?_
          refine lv_istore (lv' := [(4, .int 0), (3, .int x6_8), (6, .int x6_8), (5, .int (AI u b_2 (tn x3))), (0, .ref a0), (2, .int x2)]) hx hb dX4_turns_57 hl (by decide) rfl (fun ls hl => ?_)
          refine lv_goto (tgt := 5) hx hb dX4_turns_59 rfl ?_
          exact hJ5 _ _ _ _ _ _ h hw (lv_sub hl [4, 5, 1, 0] rfl)
        · have h := h.2 c_13
          refine lv_iconst (v := 1) hx hb dX4_turns_52 (by decide) ?_
          refine lv_goto (tgt := 57) hx hb dX4_turns_53 rfl ?_
          refine lv_istore (lv' := [(4, .int 1), (3, .int x6_8), (6, .int x6_8), (5, .int (AI u b_2 (tn x3))), (0, .ref a0), (2, .int x2)]) hx hb dX4_turns_57 hl (by decide) rfl (fun ls hl => ?_)
          refine lv_goto (tgt := 5) hx hb dX4_turns_59 rfl ?_
          exact hJ5 _ _ _ _ _ _ h hw (lv_sub hl [4, 5, 1, 0] rfl)
  exact key _ _ _ _ _ _ _ (Nat.lt_succ_self _) h0 hw hl
set_option maxHeartbeats 4000000 in
theorem mX4_turns (l : Launch) (G : GT) (u : Hp) (a0 : Nat) (x1 : Int32) (x2 : Int32) (K : Hp → Prop) (h : pX4_turns u a0 x1 x2 K) : Met l yX4_turns (ws_ yX4_turns cX4_turns 7 none) (rmX4_turns 0 0) (va_Pc [.ref a0, .int x1, .int x2] (GB G u)) (va_Qv K (fun u t => GH G u t.heap) (GA G)) 0 0 (GA G) := by
  refine Met.ofW (cc := cX4_turns) (maxL := 7) (ret := none) (by decide) rfl ?_
  intro p e s m args below meth c s₁ B hml hv
  obtain ⟨rfl, hv⟩ := hv
  have X := Mc_of (own := RX4) B hml rfl hv
  have hw : GW G u s s.heap [] := ⟨hv.2.1, va_S.rf⟩
  have hr := B.returns
  obtain ⟨hx, hb, hml, hown, hts, -⟩ := id X
  have hl := lv_entry ([.ref a0, .int x1, .int x2]) (n := 7) (Nat.le_of_ble_eq_true rfl)
  rw [lg_entry_eq]
  generalize (lg_sl ([.ref a0, .int x1, .int x2]) ++ List.replicate (7 - (lg_sl ([.ref a0, .int x1, .int x2])).length) Slot.unset).toArray = ls at hl ⊢
  have hl : lv_has ls 7 [(0, .ref a0), (1, .int x1), (2, .int x2)] := hl
  change W p l e (rmX4_turns 0 0) s m _ below meth c s.heap [] 0 0 (QV G below K _ s 0 0) (F0 m 0 ls [])
  unfold pX4_turns at h
  refine lv_iload_n hx hb dX4_turns_0 rfl (lv_at hl 1 rfl) ?_
  refine lv_istore_n (lv' := [(3, .int x1), (0, .ref a0), (1, .int x1), (2, .int x2)]) hx hb dX4_turns_1 rfl hl (by decide) rfl (fun ls hl => ?_)
  refine lv_iconst (v := 1) hx hb dX4_turns_2 (by decide) ?_
  refine lv_istore (lv' := [(4, .int 1), (3, .int x1), (0, .ref a0), (1, .int x1), (2, .int x2)]) hx hb dX4_turns_3 hl (by decide) rfl (fun ls hl => ?_)
  exact wX4_turns_5 X hr  h hw (lv_sub hl [2, 4, 1, 0] rfl)

/-! FifthCard$Pairing.gives(II)Z -/
theorem ydX4_gives : yX4_gives.cls = "FifthCard$Pairing" ∧ yX4_gives.cls ≠ "java/lang/invoke/MethodHandle" ∧ yX4_gives.cls ≠ "java/lang/invoke/VarHandle" ∧ (parseMethodDescriptor yX4_gives.desc).map (fun d => d.parameters.length) = some 2 := by decide +kernel
def rmX4_gives (mc ms : Nat) : Room := { frames := 1, cells := mc, slots := ms, locals := 26 }
set_option maxHeartbeats 4000000 in
theorem wX4_gives_96 {G : GT} {p : Program} {l : Launch} {e : Env} {s : State} {m : MethodId} {args : Array Value} {below : List Frame} {meth : Method} {c : Code} {H : Heap} {locs : List Loc} {ls : Array Slot} {a0 : Nat} {x1 : Int32} {x2 : Int32} {x3 : Int32} {x4 : Int32} {x5 : Int32} {x6 : Int32} {x7 : Int32} {x8 : Int32} {u : Hp} {K : Int32 → Hp → Prop} {J22 : Int32 → Int32 → Hp → Prop} {J40 : Int32 → Int32 → Hp → Prop} (X : Mc G p s m args meth c RX4 cX4_gives 9) (hr : meth.sig.returnType = (some .boolean)) (hJ22 : ∀ (x3 : Int32) (x4 : Int32) (u : Hp) (H : Heap) (locs : List Loc) (ls : Array Slot) , J22 x3 x4 u → GW G u s H locs → lv_has ls 9 [(0, .ref a0), (1, .int x1), (2, .int x2), (3, .int x3), (4, .int x4)] → W p l e (rmX4_gives 0 0) s m args below meth c H locs 0 0 (QI G below K args s 0 0) (F0 m 22 ls [])) (hJ40 : ∀ (x3 : Int32) (x6 : Int32) (u : Hp) (H : Heap) (locs : List Loc) (ls : Array Slot) , J40 x3 x6 u → GW G u s H locs → lv_has ls 9 [(0, .ref a0), (1, .int x1), (2, .int x2), (3, .int x3), (4, .int x4), (5, .int x5), (6, .int x6)] → W p l e (rmX4_gives 0 0) s m args below meth c H locs 0 0 (QI G below K args s 0 0) (F0 m 40 ls [])) (h : bX4_gives_96 K J22 J40 a0 x1 x2 x3 x4 x5 x6 x7 x8 u) (hw : GW G u s H locs) (hl : lv_has ls 9 [(0, .ref a0), (1, .int x1), (2, .int x2), (3, .int x3), (4, .int x4), (5, .int x5), (6, .int x6), (7, .int x7), (8, .int x8)]) : W p l e (rmX4_gives 0 0) s m args below meth c H locs 0 0 (QI G below K args s 0 0) (F0 m 96 ls []) := by
  obtain ⟨hx, hb, hml, hown, hts, -⟩ := id X
  unfold bX4_gives_96 at h
  refine lv_aload_n hx hb dX4_gives_96 rfl (lv_at hl 0 rfl) ?_
  have hk_1 : kd u a0 = 4 := h.1
  have h := h.2
  obtain ⟨b_2, e_3, h⟩ := h
  refine g_getR X hw in_X4 hk_1 rfl 4 rfl (by decide) q292 (fun _ z => z) e_3 dX4_gives_97 ?_
  refine lv_iload hx hb dX4_gives_100 (lv_at hl 7 rfl) ?_
  refine lv_aload_n hx hb dX4_gives_102 rfl (lv_at hl 0 rfl) ?_
  refine g_getI X hw in_X4 hk_1 rfl 11 rfl (by decide) q299 (fun _ z => z) dX4_gives_103 ?_
  have hk_4 : kd u b_2 = 101 := h.1
  have h := h.2
  refine g_iast X hw hk_4 h.1 dX4_gives_106 (fun H locs hw => ?_)
  have h := h.2
  refine lv_aload_n hx hb dX4_gives_107 rfl (lv_at hl 0 rfl) ?_
  obtain ⟨b_5, e_6, h⟩ := h
  refine g_getR X hw in_X4 hk_1 rfl 3 rfl (by decide) q291 (fun _ z => z) e_6 dX4_gives_108 ?_
  refine lv_iload hx hb dX4_gives_111 (lv_at hl 7 rfl) ?_
  refine lv_iload hx hb dX4_gives_113 (lv_at hl 5 rfl) ?_
  have hk_7 : kd u b_5 = 101 := h.1
  have h := h.2
  refine g_iast X hw hk_7 h.1 dX4_gives_115 (fun H locs hw => ?_)
  have h := h.2
  refine lv_iload hx hb dX4_gives_116 (lv_at hl 8 rfl) ?_
  refine lv_if_ge (tgt := 130) hx hb dX4_gives_118 rfl (fun c_12 => ?_) (fun c_12 => ?_)
  · have h := h.1 c_12
    refine lv_aload_n hx hb dX4_gives_130 rfl (lv_at hl 0 rfl) ?_
    obtain ⟨b_8, e_9, h⟩ := h
    refine g_getR X hw in_X4 hk_1 rfl 5 rfl (by decide) q293 (fun _ z => z) e_9 dX4_gives_131 ?_
    refine lv_iload_n hx hb dX4_gives_134 rfl (lv_at hl 3 rfl) ?_
    refine lv_iload hx hb dX4_gives_135 (lv_at hl 8 rfl) ?_
    have hk_10 : kd u b_8 = 101 := h.1
    have h := h.2
    refine g_iast X hw hk_10 h.1 dX4_gives_137 (fun H locs hw => ?_)
    have h := h.2
    refine lv_iinc (v := x3 + 1) (lv' := [(3, .int (x3 + 1)), (0, .ref a0), (1, .int x1), (2, .int x2), (4, .int x4), (5, .int x5), (6, .int x6), (7, .int x7), (8, .int x8)]) hx hb dX4_gives_138 hl (k := 3) rfl rfl (by decide) rfl (fun ls hl => ?_)
    refine lv_iinc (v := x6 + 1) (lv' := [(6, .int (x6 + 1)), (3, .int (x3 + 1)), (0, .ref a0), (1, .int x1), (2, .int x2), (4, .int x4), (5, .int x5), (7, .int x7), (8, .int x8)]) hx hb dX4_gives_141 hl (k := 6) rfl rfl (by decide) rfl (fun ls hl => ?_)
    refine lv_goto (tgt := 40) hx hb dX4_gives_144 rfl ?_
    exact hJ40 _ _ _ _ _ _ h hw (lv_sub hl [2, 3, 4, 1, 5, 6, 0] rfl)
  · have h := h.2 c_12
    refine lv_aload_n hx hb dX4_gives_121 rfl (lv_at hl 0 rfl) ?_
    refine lv_iload hx hb dX4_gives_122 (lv_at hl 7 rfl) ?_
    refine lv_iload_n hx hb dX4_gives_124 rfl (lv_at hl 1 rfl) ?_
    refine g_callv hw (g_V X hw (mX4_turns l G _ _ _ _ _ h) 2 (lw_V q1104 q1106 qs32 q128 q1107) rfl rfl ydX4_turns ⟨Nat.le_of_ble_eq_true rfl, Nat.le_of_ble_eq_true rfl⟩ (g_recv X hw (ci := 3) (q := (RX4, TX4, 14)) hk_1 rfl) (As := [.int x7, .int x1]) (rest := []) rfl hl.1 rfl (Nat.le_of_ble_eq_true rfl) dX4_gives_125 ⟨Nat.le_refl _, Nat.le_refl _⟩) (fun u_11 H locs h hw => ?_)
    refine lv_iconst (v := 1) hx hb dX4_gives_128 (by decide) ?_
    exact g_zret X hw hr rfl h (Nat.le_refl _) (Nat.le_refl _) dX4_gives_129
set_option maxHeartbeats 4000000 in
theorem wX4_gives_40 {G : GT} {p : Program} {l : Launch} {e : Env} {s : State} {m : MethodId} {args : Array Value} {below : List Frame} {meth : Method} {c : Code} {H : Heap} {locs : List Loc} {ls : Array Slot} {a0 : Nat} {x1 : Int32} {x2 : Int32} {x4 : Int32} {x5 : Int32} {x3 : Int32} {x6 : Int32} {u : Hp} {K : Int32 → Hp → Prop} {J22 : Int32 → Int32 → Hp → Prop} (X : Mc G p s m args meth c RX4 cX4_gives 9) (hr : meth.sig.returnType = (some .boolean)) (hJ22 : ∀ (x3 : Int32) (x4 : Int32) (u : Hp) (H : Heap) (locs : List Loc) (ls : Array Slot) , J22 x3 x4 u → GW G u s H locs → lv_has ls 9 [(0, .ref a0), (1, .int x1), (2, .int x2), (3, .int x3), (4, .int x4)] → W p l e (rmX4_gives 0 0) s m args below meth c H locs 0 0 (QI G below K args s 0 0) (F0 m 22 ls [])) (h : jl3 (bX4_gives_40 K J22 a0 x1 x2 x4 x5) x3 x6 u) (hw : GW G u s H locs) (hl : lv_has ls 9 [(0, .ref a0), (1, .int x1), (2, .int x2), (3, .int x3), (4, .int x4), (5, .int x5), (6, .int x6)]) : W p l e (rmX4_gives 0 0) s m args below meth c H locs 0 0 (QI G below K args s 0 0) (F0 m 40 ls []) := by
  obtain ⟨hx, hb, hml, hown, hts, -⟩ := id X
  obtain ⟨I, μ, h0, hs⟩ := h
  have key : ∀ (n : Nat) (x3 : Int32) (x6 : Int32) (u : Hp) (H : Heap) (locs : List Loc) (ls : Array Slot) , μ x3 x6 u < n → I x3 x6 u → GW G u s H locs → lv_has ls 9 [(0, .ref a0), (1, .int x1), (2, .int x2), (3, .int x3), (4, .int x4), (5, .int x5), (6, .int x6)] → W p l e (rmX4_gives 0 0) s m args below meth c H locs 0 0 (QI G below K args s 0 0) (F0 m 40 ls []) := by
    intro n
    induction n with
    | zero =>
      intro x3 x6 u H locs ls hn
      exact absurd hn (Nat.not_lt_zero _)
    | succ n ih =>
      intro x3 x6 u H locs ls hn hI hw hl
      have h := hs x3 x6 u hI
      unfold bX4_gives_40 at h
      have hJ40 : ∀ (x3' : Int32) (x6' : Int32) (u' : Hp) (H : Heap) (locs : List Loc) (ls : Array Slot) , (I x3' x6' u' ∧ μ x3' x6' u' < μ x3 x6 u) → GW G u' s H locs → lv_has ls 9 [(0, .ref a0), (1, .int x1), (2, .int x2), (3, .int x3'), (4, .int x4), (5, .int x5), (6, .int x6')] → W p l e (rmX4_gives 0 0) s m args below meth c H locs 0 0 (QI G below K args s 0 0) (F0 m 40 ls []) := fun x3' x6' u' H locs ls h hw hl => ih x3' x6' u' H locs ls (Nat.lt_of_lt_of_le h.2 (Nat.le_of_lt_succ hn)) h.1 hw hl
      refine lv_iload hx hb dX4_gives_40 (lv_at hl 6 rfl) ?_
      refine lv_aload_n hx hb dX4_gives_42 rfl (lv_at hl 0 rfl) ?_
      have hk_13 : kd u a0 = 4 := h.1
      have h := h.2
      refine g_callio hw (g_V X hw (mX4_fitting l G _ _ _ h) 0 (lw_V q1099 q1067 q1068 q128 q1069) rfl rfl ydX4_fitting ⟨Nat.le_of_ble_eq_true rfl, Nat.le_of_ble_eq_true rfl⟩ (g_recv X hw (ci := 3) (q := (RX4, TX4, 14)) hk_13 rfl) (As := []) (rest := [.int x6]) rfl hl.1 rfl (Nat.le_of_ble_eq_true rfl) dX4_gives_43 ⟨Nat.le_refl _, Nat.le_refl _⟩) (fun r_14 H locs h hw => ?_)
      refine lv_icmp_ge (tgt := 147) hx hb dX4_gives_46 rfl (fun c_25 => ?_) (fun c_25 => ?_)
      · have h := h.1 c_25
        refine lv_iinc (v := x4 + 1) (lv' := [(4, .int (x4 + 1)), (0, .ref a0), (1, .int x1), (2, .int x2), (3, .int x3), (5, .int x5), (6, .int x6)]) hx hb dX4_gives_147 hl (k := 4) rfl rfl (by decide) rfl (fun ls hl => ?_)
        refine lv_goto (tgt := 22) hx hb dX4_gives_150 rfl ?_
        exact hJ22 _ _ _ _ _ _ h hw (lv_sub hl [1, 2, 3, 4, 0] rfl)
      · have h := h.2 c_25
        refine lv_aload_n hx hb dX4_gives_49 rfl (lv_at hl 0 rfl) ?_
        refine lv_iload hx hb dX4_gives_50 (lv_at hl 5 rfl) ?_
        refine lv_iload hx hb dX4_gives_52 (lv_at hl 6 rfl) ?_
        refine g_callio hw (g_V X hw (mX4_row l G _ _ _ _ _ h) 2 (lw_V q1100 q1101 q1102 q128 q1103) rfl rfl ydX4_row ⟨Nat.le_of_ble_eq_true rfl, Nat.le_of_ble_eq_true rfl⟩ (g_recv X hw (ci := 3) (q := (RX4, TX4, 14)) hk_13 rfl) (As := [.int x5, .int x6]) (rest := []) rfl hl.1 rfl (Nat.le_of_ble_eq_true rfl) dX4_gives_54 ⟨Nat.le_refl _, Nat.le_refl _⟩) (fun r_15 H locs h hw => ?_)
        refine lv_istore (lv' := [(7, .int r_15), (0, .ref a0), (1, .int x1), (2, .int x2), (3, .int x3), (4, .int x4), (5, .int x5), (6, .int x6)]) hx hb dX4_gives_57 hl (by decide) rfl (fun ls hl => ?_)
        refine lv_aload_n hx hb dX4_gives_59 rfl (lv_at hl 1 rfl) ?_
        obtain ⟨b_16, e_17, h⟩ := h
        refine g_getR X hw in_X4 hk_13 rfl 1 rfl (by decide) q289 (fun _ z => z) e_17 dX4_gives_60 ?_
        refine lv_iload hx hb dX4_gives_63 (lv_at hl 0 rfl) ?_
        have hk_18 : kd u b_16 = 101 := h.1
        have h := h.2
        refine g_iald X hw hk_18 h.1 dX4_gives_65 ?_
        have h := h.2
        refine lv_istore (lv' := [(8, .int (AI u b_16 (tn r_15))), (7, .int r_15), (0, .ref a0), (1, .int x1), (2, .int x2), (3, .int x3), (4, .int x4), (5, .int x5), (6, .int x6)]) hx hb dX4_gives_66 hl (by decide) rfl (fun ls hl => ?_)
        refine lv_aload_n hx hb dX4_gives_68 rfl (lv_at hl 2 rfl) ?_
        obtain ⟨b_19, e_20, h⟩ := h
        refine g_getR X hw in_X4 hk_13 rfl 4 rfl (by decide) q292 (fun _ z => z) e_20 dX4_gives_69 ?_
        refine lv_iload hx hb dX4_gives_72 (lv_at hl 1 rfl) ?_
        have hk_21 : kd u b_19 = 101 := h.1
        have h := h.2
        refine g_iald X hw hk_21 h.1 dX4_gives_74 ?_
        have h := h.2
        refine lv_aload_n hx hb dX4_gives_75 rfl (lv_at hl 2 rfl) ?_
        refine g_getI X hw in_X4 hk_13 rfl 11 rfl (by decide) q299 (fun _ z => z) dX4_gives_76 ?_
        refine lv_icmp_eq (tgt := 141) hx hb dX4_gives_79 rfl (fun c_24 => ?_) (fun c_24 => ?_)
        · have h := h.1 c_24
          refine lv_iinc (v := x6 + 1) (lv' := [(6, .int (x6 + 1)), (8, .int (AI u b_16 (tn r_15))), (7, .int r_15), (0, .ref a0), (1, .int x1), (2, .int x2), (3, .int x3), (4, .int x4), (5, .int x5)]) hx hb dX4_gives_141 hl (k := 8) rfl rfl (by decide) rfl (fun ls hl => ?_)
          refine lv_goto (tgt := 40) hx hb dX4_gives_144 rfl ?_
          exact hJ40 _ _ _ _ _ _ h hw (lv_sub hl [3, 4, 5, 6, 7, 8, 0] rfl)
        · have h := h.2 c_24
          refine lv_iload hx hb dX4_gives_82 (lv_at hl 0 rfl) ?_
          refine lv_if_lt (tgt := 96) hx hb dX4_gives_84 rfl (fun c_23 => ?_) (fun c_23 => ?_)
          · have h := h.1 c_23
            exact wX4_gives_96 X hr hJ22 hJ40  h hw (lv_sub hl [2, 3, 4, 5, 6, 7, 8, 1, 0] rfl)
          · have h := h.2 c_23
            refine lv_iload hx hb dX4_gives_87 (lv_at hl 0 rfl) ?_
            refine lv_iload_n hx hb dX4_gives_89 rfl (lv_at hl 4 rfl) ?_
            refine lv_icmp_ge (tgt := 96) hx hb dX4_gives_90 rfl (fun c_22 => ?_) (fun c_22 => ?_)
            · have h := h.1 c_22
              exact wX4_gives_96 X hr hJ22 hJ40  h hw (lv_sub hl [2, 3, 4, 5, 6, 7, 8, 1, 0] rfl)
            · have h := h.2 c_22
              refine lv_goto (tgt := 141) hx hb dX4_gives_93 rfl ?_
              refine lv_iinc (v := x6 + 1) (lv' := [(6, .int (x6 + 1)), (8, .int (AI u b_16 (tn r_15))), (7, .int r_15), (0, .ref a0), (1, .int x1), (2, .int x2), (3, .int x3), (4, .int x4), (5, .int x5)]) hx hb dX4_gives_141 hl (k := 8) rfl rfl (by decide) rfl (fun ls hl => ?_)
              refine lv_goto (tgt := 40) hx hb dX4_gives_144 rfl ?_
              exact hJ40 _ _ _ _ _ _ h hw (lv_sub hl [3, 4, 5, 6, 7, 8, 0] rfl)
  exact key _ _ _ _ _ _ _ (Nat.lt_succ_self _) h0 hw hl
set_option maxHeartbeats 4000000 in
theorem wX4_gives_22 {G : GT} {p : Program} {l : Launch} {e : Env} {s : State} {m : MethodId} {args : Array Value} {below : List Frame} {meth : Method} {c : Code} {H : Heap} {locs : List Loc} {ls : Array Slot} {a0 : Nat} {x1 : Int32} {x2 : Int32} {x3 : Int32} {x4 : Int32} {u : Hp} {K : Int32 → Hp → Prop} (X : Mc G p s m args meth c RX4 cX4_gives 9) (hr : meth.sig.returnType = (some .boolean)) (h : jl3 (bX4_gives_22 K a0 x1 x2) x3 x4 u) (hw : GW G u s H locs) (hl : lv_has ls 9 [(0, .ref a0), (1, .int x1), (2, .int x2), (3, .int x3), (4, .int x4)]) : W p l e (rmX4_gives 0 0) s m args below meth c H locs 0 0 (QI G below K args s 0 0) (F0 m 22 ls []) := by
  obtain ⟨hx, hb, hml, hown, hts, -⟩ := id X
  obtain ⟨I, μ, h0, hs⟩ := h
  have key : ∀ (n : Nat) (x3 : Int32) (x4 : Int32) (u : Hp) (H : Heap) (locs : List Loc) (ls : Array Slot) , μ x3 x4 u < n → I x3 x4 u → GW G u s H locs → lv_has ls 9 [(0, .ref a0), (1, .int x1), (2, .int x2), (3, .int x3), (4, .int x4)] → W p l e (rmX4_gives 0 0) s m args below meth c H locs 0 0 (QI G below K args s 0 0) (F0 m 22 ls []) := by
    intro n
    induction n with
    | zero =>
      intro x3 x4 u H locs ls hn
      exact absurd hn (Nat.not_lt_zero _)
    | succ n ih =>
      intro x3 x4 u H locs ls hn hI hw hl
      have h := hs x3 x4 u hI
      unfold bX4_gives_22 at h
      have hJ22 : ∀ (x3' : Int32) (x4' : Int32) (u' : Hp) (H : Heap) (locs : List Loc) (ls : Array Slot) , (I x3' x4' u' ∧ μ x3' x4' u' < μ x3 x4 u) → GW G u' s H locs → lv_has ls 9 [(0, .ref a0), (1, .int x1), (2, .int x2), (3, .int x3'), (4, .int x4')] → W p l e (rmX4_gives 0 0) s m args below meth c H locs 0 0 (QI G below K args s 0 0) (F0 m 22 ls []) := fun x3' x4' u' H locs ls h hw hl => ih x3' x4' u' H locs ls (Nat.lt_of_lt_of_le h.2 (Nat.le_of_lt_succ hn)) h.1 hw hl
      refine lv_iload hx hb dX4_gives_22 (lv_at hl 4 rfl) ?_
      refine lv_iload_n hx hb dX4_gives_24 rfl (lv_at hl 3 rfl) ?_
      refine lv_icmp_ge (tgt := 153) hx hb dX4_gives_25 rfl (fun c_30 => ?_) (fun c_30 => ?_)
      · have h := h.1 c_30
        refine lv_iconst (v := 0) hx hb dX4_gives_153 (by decide) ?_
        exact g_zret X hw hr rfl h (Nat.le_refl _) (Nat.le_refl _) dX4_gives_154
      · have h := h.2 c_30
        refine lv_aload_n hx hb dX4_gives_28 rfl (lv_at hl 0 rfl) ?_
        have hk_26 : kd u a0 = 4 := h.1
        have h := h.2
        obtain ⟨b_27, e_28, h⟩ := h
        refine g_getR X hw in_X4 hk_26 rfl 5 rfl (by decide) q293 (fun _ z => z) e_28 dX4_gives_29 ?_
        refine lv_iload hx hb dX4_gives_32 (lv_at hl 4 rfl) ?_
        have hk_29 : kd u b_27 = 101 := h.1
        have h := h.2
        refine g_iald X hw hk_29 h.1 dX4_gives_34 ?_
        have h := h.2
        refine lv_istore (lv' := [(5, .int (AI u b_27 (tn x4))), (0, .ref a0), (1, .int x1), (2, .int x2), (3, .int x3), (4, .int x4)]) hx hb dX4_gives_35 hl (by decide) rfl (fun ls hl => ?_)
        refine lv_iconst (v := 0) hx hb dX4_gives_37 (by decide) ?_
        refine lv_istore (lv' := [(6, .int 0), (5, .int (AI u b_27 (tn x4))), (0, .ref a0), (1, .int x1), (2, .int x2), (3, .int x3), (4, .int x4)]) hx hb dX4_gives_38 hl (by decide) rfl (fun ls hl => ?_)
        exact wX4_gives_40 X hr hJ22  h hw (lv_sub hl [2, 3, 4, 5, 6, 1, 0] rfl)
  exact key _ _ _ _ _ _ _ (Nat.lt_succ_self _) h0 hw hl
set_option maxHeartbeats 4000000 in
theorem mX4_gives (l : Launch) (G : GT) (u : Hp) (a0 : Nat) (x1 : Int32) (x2 : Int32) (K : Int32 → Hp → Prop) (h : pX4_gives u a0 x1 x2 K) : Met l yX4_gives (ws_ yX4_gives cX4_gives 9 (some .boolean)) (rmX4_gives 0 0) (va_Pc [.ref a0, .int x1, .int x2] (GB G u)) (va_Qi K (fun u t => GH G u t.heap) (GA G)) 0 0 (GA G) := by
  refine Met.ofW (cc := cX4_gives) (maxL := 9) (ret := (some .boolean)) (by decide) rfl ?_
  intro p e s m args below meth c s₁ B hml hv
  obtain ⟨rfl, hv⟩ := hv
  have X := Mc_of (own := RX4) B hml rfl hv
  have hw : GW G u s s.heap [] := ⟨hv.2.1, va_S.rf⟩
  have hr := B.returns
  obtain ⟨hx, hb, hml, hown, hts, -⟩ := id X
  have hl := lv_entry ([.ref a0, .int x1, .int x2]) (n := 9) (Nat.le_of_ble_eq_true rfl)
  rw [lg_entry_eq]
  generalize (lg_sl ([.ref a0, .int x1, .int x2]) ++ List.replicate (9 - (lg_sl ([.ref a0, .int x1, .int x2])).length) Slot.unset).toArray = ls at hl ⊢
  have hl : lv_has ls 9 [(0, .ref a0), (1, .int x1), (2, .int x2)] := hl
  change W p l e (rmX4_gives 0 0) s m _ below meth c s.heap [] 0 0 (QI G below K _ s 0 0) (F0 m 0 ls [])
  unfold pX4_gives at h
  refine lv_aload_n hx hb dX4_gives_0 rfl (lv_at hl 0 rfl) ?_
  refine lv_dup hx hb dX4_gives_1 rfl ?_
  have hk_31 : kd u a0 = 4 := h.1
  have h := h.2
  refine g_getI X hw in_X4 hk_31 rfl 11 rfl (by decide) q299 (fun _ z => z) dX4_gives_2 ?_
  refine lv_iconst (v := 1) hx hb dX4_gives_5 (by decide) ?_
  refine lv_iadd hx hb dX4_gives_6 ?_
  refine g_putI (v := (FI u 411 a0) + 1) X hw in_X4 tyX4_ok nmX4 hk_31 rfl 11 rfl (by decide) q299 (fun _ z => z) rfl rfl rfl dX4_gives_7 (fun H locs hw => ?_)
  refine lv_iconst (v := 1) hx hb dX4_gives_10 (by decide) ?_
  refine lv_istore_n (lv' := [(3, .int 1), (0, .ref a0), (1, .int x1), (2, .int x2)]) hx hb dX4_gives_11 rfl hl (by decide) rfl (fun ls hl => ?_)
  refine lv_aload_n hx hb dX4_gives_12 rfl (lv_at hl 1 rfl) ?_
  obtain ⟨b_32, e_33, h⟩ := h
  refine g_getR X hw in_X4 hk_31 rfl 5 rfl (by decide) q293 (fun _ z => z) e_33 dX4_gives_13 ?_
  refine lv_iconst (v := 0) hx hb dX4_gives_16 (by decide) ?_
  refine lv_iload_n hx hb dX4_gives_17 rfl (lv_at hl 2 rfl) ?_
  have hk_34 : kd u b_32 = 101 := h.1
  have h := h.2
  refine g_iast X hw hk_34 h.1 dX4_gives_18 (fun H locs hw => ?_)
  have h := h.2
  refine lv_iconst (v := 0) hx hb dX4_gives_19 (by decide) ?_
  refine lv_istore (lv' := [(4, .int 0), (3, .int 1), (0, .ref a0), (1, .int x1), (2, .int x2)]) hx hb dX4_gives_20 hl (by decide) rfl (fun ls hl => ?_)
  exact wX4_gives_22 X hr  h hw (lv_sub hl [2, 3, 4, 1, 0] rfl)

/-! FifthCard$Pairing.pair()V -/
theorem ydX4_pair : yX4_pair.cls = "FifthCard$Pairing" ∧ yX4_pair.cls ≠ "java/lang/invoke/MethodHandle" ∧ yX4_pair.cls ≠ "java/lang/invoke/VarHandle" ∧ (parseMethodDescriptor yX4_pair.desc).map (fun d => d.parameters.length) = some 0 := by decide +kernel
def rmX4_pair (mc ms : Nat) : Room := { frames := 2, cells := mc, slots := ms, locals := 54 }
set_option maxHeartbeats 4000000 in
theorem wX4_pair_60 {G : GT} {p : Program} {l : Launch} {e : Env} {s : State} {m : MethodId} {args : Array Value} {below : List Frame} {meth : Method} {c : Code} {H : Heap} {locs : List Loc} {ls : Array Slot} {a0 : Nat} {x1 : Int32} {u : Hp} {K : Hp → Prop} (X : Mc G p s m args meth c RX4 cX4_pair 2) (hr : meth.sig.returnType = none) (h : jl2 (bX4_pair_60 K a0) x1 u) (hw : GW G u s H locs) (hl : lv_has ls 2 [(0, .ref a0), (1, .int x1)]) : W p l e (rmX4_pair 0 0) s m args below meth c H locs 0 0 (QV G below K args s 0 0) (F0 m 60 ls []) := by
  obtain ⟨hx, hb, hml, hown, hts, -⟩ := id X
  obtain ⟨I, μ, h0, hs⟩ := h
  have key : ∀ (n : Nat) (x1 : Int32) (u : Hp) (H : Heap) (locs : List Loc) (ls : Array Slot) , μ x1 u < n → I x1 u → GW G u s H locs → lv_has ls 2 [(0, .ref a0), (1, .int x1)] → W p l e (rmX4_pair 0 0) s m args below meth c H locs 0 0 (QV G below K args s 0 0) (F0 m 60 ls []) := by
    intro n
    induction n with
    | zero =>
      intro x1 u H locs ls hn
      exact absurd hn (Nat.not_lt_zero _)
    | succ n ih =>
      intro x1 u H locs ls hn hI hw hl
      have h := hs x1 u hI
      unfold bX4_pair_60 at h
      have hJ60 : ∀ (x1' : Int32) (u' : Hp) (H : Heap) (locs : List Loc) (ls : Array Slot) , (I x1' u' ∧ μ x1' u' < μ x1 u) → GW G u' s H locs → lv_has ls 2 [(0, .ref a0), (1, .int x1')] → W p l e (rmX4_pair 0 0) s m args below meth c H locs 0 0 (QV G below K args s 0 0) (F0 m 60 ls []) := fun x1' u' H locs ls h hw hl => ih x1' u' H locs ls (Nat.lt_of_lt_of_le h.2 (Nat.le_of_lt_succ hn)) h.1 hw hl
      refine lv_iload_n hx hb dX4_pair_60 rfl (lv_at hl 1 rfl) ?_
      refine lv_aload_n hx hb dX4_pair_61 rfl (lv_at hl 0 rfl) ?_
      have hk_1 : kd u a0 = 4 := h.1
      have h := h.2
      refine g_getI X hw in_X4 hk_1 rfl 9 rfl (by decide) q297 (fun _ z => z) dX4_pair_62 ?_
      refine lv_icmp_ge (tgt := 97) hx hb dX4_pair_65 rfl (fun c_7 => ?_) (fun c_7 => ?_)
      · have h := h.1 c_7
        exact g_vret X hw hr h (Nat.le_refl _) (Nat.le_refl _) dX4_pair_97
      · have h := h.2 c_7
        refine lv_aload_n hx hb dX4_pair_68 rfl (lv_at hl 0 rfl) ?_
        refine lv_dup hx hb dX4_pair_69 rfl ?_
        refine g_getI X hw in_X4 hk_1 rfl 12 rfl (by decide) q300 (fun _ z => z) dX4_pair_70 ?_
        refine lv_aload_n hx hb dX4_pair_73 rfl (lv_at hl 0 rfl) ?_
        refine lv_iload_n hx hb dX4_pair_74 rfl (lv_at hl 1 rfl) ?_
        refine lv_iconst (v := 0) hx hb dX4_pair_75 (by decide) ?_
        refine g_calli hw (g_V X hw (mX4_gives l G _ _ _ _ _ h) 2 (lw_V q1095 q1097 qs31 q128 q1098) rfl rfl ydX4_gives ⟨Nat.le_of_ble_eq_true rfl, Nat.le_of_ble_eq_true rfl⟩ (g_recv X hw (ci := 3) (q := (RX4, TX4, 14)) hk_1 rfl) (As := [.int x1, .int 0]) (rest := [.int (FI u 412 a0), .ref a0]) rfl hl.1 rfl (Nat.le_of_ble_eq_true rfl) dX4_pair_76 ⟨Nat.le_refl _, Nat.le_refl _⟩) (fun r_2 u_3 H locs h hw => ?_)
        refine lv_if_eq (tgt := 86) hx hb dX4_pair_79 rfl (fun c_6 => ?_) (fun c_6 => ?_)
        · have h := h.1 c_6
          refine lv_iconst (v := 0) hx hb dX4_pair_86 (by decide) ?_
          refine lv_iadd hx hb dX4_pair_87 ?_
          have hk_4 : kd u_3 a0 = 4 := h.1
          have h := h.2
          refine g_putI (v := (FI u 412 a0) + 0) X hw in_X4 tyX4_ok nmX4 hk_4 rfl 12 rfl (by decide) q300 (fun _ z => z) rfl rfl rfl dX4_pair_88 (fun H locs hw => ?_)
          refine lv_iinc (v := x1 + 1) (lv' := [(1, .int (x1 + 1)), (0, .ref a0)]) hx hb dX4_pair_91 hl (k := 1) rfl rfl (by decide) rfl (fun ls hl => ?_)
          refine lv_goto (tgt := 60) hx hb dX4_pair_94 rfl ?_
          exact hJ60 _ _ _ _ _ h hw (lv_sub hl [1, 0] rfl)
        · have h := h.2 c_6
          refine lv_iconst (v := 1) hx hb dX4_pair_82 (by decide) ?_
          refine lv_goto (tgt := 87) hx hb dX4_pair_83 rfl ?_
          refine lv_iadd hx hb dX4_pair_87 ?_
          have hk_5 : kd u_3 a0 = 4 := h.1
          have h := h.2
          refine g_putI (v := (FI u 412 a0) + 1) X hw in_X4 tyX4_ok nmX4 hk_5 rfl 12 rfl (by decide) q300 (fun _ z => z) rfl rfl rfl dX4_pair_88 (fun H locs hw => ?_)
          refine lv_iinc (v := x1 + 1) (lv' := [(1, .int (x1 + 1)), (0, .ref a0)]) hx hb dX4_pair_91 hl (k := 1) rfl rfl (by decide) rfl (fun ls hl => ?_)
          refine lv_goto (tgt := 60) hx hb dX4_pair_94 rfl ?_
          exact hJ60 _ _ _ _ _ h hw (lv_sub hl [1, 0] rfl)
  exact key _ _ _ _ _ _ (Nat.lt_succ_self _) h0 hw hl
set_option maxHeartbeats 4000000 in
theorem wX4_pair_32 {G : GT} {p : Program} {l : Launch} {e : Env} {s : State} {m : MethodId} {args : Array Value} {below : List Frame} {meth : Method} {c : Code} {H : Heap} {locs : List Loc} {ls : Array Slot} {a0 : Nat} {x1 : Int32} {u : Hp} {K : Hp → Prop} (X : Mc G p s m args meth c RX4 cX4_pair 2) (hr : meth.sig.returnType = none) (h : jl2 (bX4_pair_32 K a0) x1 u) (hw : GW G u s H locs) (hl : lv_has ls 2 [(0, .ref a0), (1, .int x1)]) : W p l e (rmX4_pair 0 0) s m args below meth c H locs 0 0 (QV G below K args s 0 0) (F0 m 32 ls []) := by
  obtain ⟨hx, hb, hml, hown, hts, -⟩ := id X
  obtain ⟨I, μ, h0, hs⟩ := h
  have key : ∀ (n : Nat) (x1 : Int32) (u : Hp) (H : Heap) (locs : List Loc) (ls : Array Slot) , μ x1 u < n → I x1 u → GW G u s H locs → lv_has ls 2 [(0, .ref a0), (1, .int x1)] → W p l e (rmX4_pair 0 0) s m args below meth c H locs 0 0 (QV G below K args s 0 0) (F0 m 32 ls []) := by
    intro n
    induction n with
    | zero =>
      intro x1 u H locs ls hn
      exact absurd hn (Nat.not_lt_zero _)
    | succ n ih =>
      intro x1 u H locs ls hn hI hw hl
      have h := hs x1 u hI
      unfold bX4_pair_32 at h
      have hJ32 : ∀ (x1' : Int32) (u' : Hp) (H : Heap) (locs : List Loc) (ls : Array Slot) , (I x1' u' ∧ μ x1' u' < μ x1 u) → GW G u' s H locs → lv_has ls 2 [(0, .ref a0), (1, .int x1')] → W p l e (rmX4_pair 0 0) s m args below meth c H locs 0 0 (QV G below K args s 0 0) (F0 m 32 ls []) := fun x1' u' H locs ls h hw hl => ih x1' u' H locs ls (Nat.lt_of_lt_of_le h.2 (Nat.le_of_lt_succ hn)) h.1 hw hl
      refine lv_iload_n hx hb dX4_pair_32 rfl (lv_at hl 1 rfl) ?_
      refine lv_aload_n hx hb dX4_pair_33 rfl (lv_at hl 0 rfl) ?_
      have hk_8 : kd u a0 = 4 := h.1
      have h := h.2
      refine g_getI X hw in_X4 hk_8 rfl 9 rfl (by decide) q297 (fun _ z => z) dX4_pair_34 ?_
      refine lv_icmp_ge (tgt := 53) hx hb dX4_pair_37 rfl (fun c_12 => ?_) (fun c_12 => ?_)
      · have h := h.1 c_12
        refine lv_aload_n hx hb dX4_pair_53 rfl (lv_at hl 0 rfl) ?_
        refine lv_iconst (v := 0) hx hb dX4_pair_54 (by decide) ?_
        refine g_putI (v := 0) X hw in_X4 tyX4_ok nmX4 hk_8 rfl 12 rfl (by decide) q300 (fun _ z => z) rfl rfl rfl dX4_pair_55 (fun H locs hw => ?_)
        refine lv_iconst (v := 0) hx hb dX4_pair_58 (by decide) ?_
        refine lv_istore_n (lv' := [(1, .int 0), (0, .ref a0)]) hx hb dX4_pair_59 rfl hl (by decide) rfl (fun ls hl => ?_)
        exact wX4_pair_60 X hr  h hw (lv_sub hl [1, 0] rfl)
      · have h := h.2 c_12
        refine lv_aload_n hx hb dX4_pair_40 rfl (lv_at hl 0 rfl) ?_
        obtain ⟨b_9, e_10, h⟩ := h
        refine g_getR X hw in_X4 hk_8 rfl 2 rfl (by decide) q290 (fun _ z => z) e_10 dX4_pair_41 ?_
        refine lv_iload_n hx hb dX4_pair_44 rfl (lv_at hl 1 rfl) ?_
        refine lv_iconst (v := (-1)) hx hb dX4_pair_45 (by decide) ?_
        have hk_11 : kd u b_9 = 101 := h.1
        have h := h.2
        refine g_iast X hw hk_11 h.1 dX4_pair_46 (fun H locs hw => ?_)
        have h := h.2
        refine lv_iinc (v := x1 + 1) (lv' := [(1, .int (x1 + 1)), (0, .ref a0)]) hx hb dX4_pair_47 hl (k := 1) rfl rfl (by decide) rfl (fun ls hl => ?_)
        refine lv_goto (tgt := 32) hx hb dX4_pair_50 rfl ?_
        exact hJ32 _ _ _ _ _ h hw (lv_sub hl [1, 0] rfl)
  exact key _ _ _ _ _ _ (Nat.lt_succ_self _) h0 hw hl
set_option maxHeartbeats 4000000 in
theorem wX4_pair_11 {G : GT} {p : Program} {l : Launch} {e : Env} {s : State} {m : MethodId} {args : Array Value} {below : List Frame} {meth : Method} {c : Code} {H : Heap} {locs : List Loc} {ls : Array Slot} {a0 : Nat} {x1 : Int32} {u : Hp} {K : Hp → Prop} (X : Mc G p s m args meth c RX4 cX4_pair 2) (hr : meth.sig.returnType = none) (h : jl2 (bX4_pair_11 K a0) x1 u) (hw : GW G u s H locs) (hl : lv_has ls 2 [(0, .ref a0), (1, .int x1)]) : W p l e (rmX4_pair 0 0) s m args below meth c H locs 0 0 (QV G below K args s 0 0) (F0 m 11 ls []) := by
  obtain ⟨hx, hb, hml, hown, hts, -⟩ := id X
  obtain ⟨I, μ, h0, hs⟩ := h
  have key : ∀ (n : Nat) (x1 : Int32) (u : Hp) (H : Heap) (locs : List Loc) (ls : Array Slot) , μ x1 u < n → I x1 u → GW G u s H locs → lv_has ls 2 [(0, .ref a0), (1, .int x1)] → W p l e (rmX4_pair 0 0) s m args below meth c H locs 0 0 (QV G below K args s 0 0) (F0 m 11 ls []) := by
    intro n
    induction n with
    | zero =>
      intro x1 u H locs ls hn
      exact absurd hn (Nat.not_lt_zero _)
    | succ n ih =>
      intro x1 u H locs ls hn hI hw hl
      have h := hs x1 u hI
      unfold bX4_pair_11 at h
      have hJ11 : ∀ (x1' : Int32) (u' : Hp) (H : Heap) (locs : List Loc) (ls : Array Slot) , (I x1' u' ∧ μ x1' u' < μ x1 u) → GW G u' s H locs → lv_has ls 2 [(0, .ref a0), (1, .int x1')] → W p l e (rmX4_pair 0 0) s m args below meth c H locs 0 0 (QV G below K args s 0 0) (F0 m 11 ls []) := fun x1' u' H locs ls h hw hl => ih x1' u' H locs ls (Nat.lt_of_lt_of_le h.2 (Nat.le_of_lt_succ hn)) h.1 hw hl
      refine lv_iload_n hx hb dX4_pair_11 rfl (lv_at hl 1 rfl) ?_
      refine lv_ldc hx hb hown (hts _ q287) dX4_pair_12 ?_
      refine lv_icmp_ge (tgt := 30) hx hb dX4_pair_14 rfl (fun c_17 => ?_) (fun c_17 => ?_)
      · have h := h.1 c_17
        refine lv_iconst (v := 0) hx hb dX4_pair_30 (by decide) ?_
        refine lv_istore_n (lv' := [(1, .int 0), (0, .ref a0)]) hx hb dX4_pair_31 rfl hl (by decide) rfl (fun ls hl => ?_)
        exact wX4_pair_32 X hr  h hw (lv_sub hl [1, 0] rfl)
      · have h := h.2 c_17
        refine lv_aload_n hx hb dX4_pair_17 rfl (lv_at hl 0 rfl) ?_
        have hk_13 : kd u a0 = 4 := h.1
        have h := h.2
        obtain ⟨b_14, e_15, h⟩ := h
        refine g_getR X hw in_X4 hk_13 rfl 1 rfl (by decide) q289 (fun _ z => z) e_15 dX4_pair_18 ?_
        refine lv_iload_n hx hb dX4_pair_21 rfl (lv_at hl 1 rfl) ?_
        refine lv_iconst (v := (-1)) hx hb dX4_pair_22 (by decide) ?_
        have hk_16 : kd u b_14 = 101 := h.1
        have h := h.2
        refine g_iast X hw hk_16 h.1 dX4_pair_23 (fun H locs hw => ?_)
        have h := h.2
        refine lv_iinc (v := x1 + 1) (lv' := [(1, .int (x1 + 1)), (0, .ref a0)]) hx hb dX4_pair_24 hl (k := 1) rfl rfl (by decide) rfl (fun ls hl => ?_)
        refine lv_goto (tgt := 11) hx hb dX4_pair_27 rfl ?_
        exact hJ11 _ _ _ _ _ h hw (lv_sub hl [1, 0] rfl)
  exact key _ _ _ _ _ _ (Nat.lt_succ_self _) h0 hw hl
set_option maxHeartbeats 4000000 in
theorem mX4_pair (l : Launch) (G : GT) (u : Hp) (a0 : Nat) (K : Hp → Prop) (h : pX4_pair u a0 K) : Met l yX4_pair (ws_ yX4_pair cX4_pair 2 none) (rmX4_pair 0 0) (va_Pc [.ref a0] (GB G u)) (va_Qv K (fun u t => GH G u t.heap) (GA G)) 0 0 (GA G) := by
  refine Met.ofW (cc := cX4_pair) (maxL := 2) (ret := none) (by decide) rfl ?_
  intro p e s m args below meth c s₁ B hml hv
  obtain ⟨rfl, hv⟩ := hv
  have X := Mc_of (own := RX4) B hml rfl hv
  have hw : GW G u s s.heap [] := ⟨hv.2.1, va_S.rf⟩
  have hr := B.returns
  obtain ⟨hx, hb, hml, hown, hts, -⟩ := id X
  have hl := lv_entry ([.ref a0]) (n := 2) (Nat.le_of_ble_eq_true rfl)
  rw [lg_entry_eq]
  generalize (lg_sl ([.ref a0]) ++ List.replicate (2 - (lg_sl ([.ref a0])).length) Slot.unset).toArray = ls at hl ⊢
  have hl : lv_has ls 2 [(0, .ref a0)] := hl
  change W p l e (rmX4_pair 0 0) s m _ below meth c s.heap [] 0 0 (QV G below K _ s 0 0) (F0 m 0 ls [])
  unfold pX4_pair at h
  refine lv_aload_n hx hb dX4_pair_0 rfl (lv_at hl 0 rfl) ?_
  have hk_18 : kd u a0 = 4 := h.1
  have h := h.2
  refine g_getI X hw in_X4 hk_18 rfl 12 rfl (by decide) q300 (fun _ z => z) dX4_pair_1 ?_
  refine lv_iconst (v := (-1)) hx hb dX4_pair_4 (by decide) ?_
  refine lv_icmp_eq (tgt := 9) hx hb dX4_pair_5 rfl (fun c_19 => ?_) (fun c_19 => ?_)
  · have h := h.1 c_19
    refine lv_iconst (v := 0) hx hb dX4_pair_9 (by decide) ?_
    refine lv_istore_n (lv' := [(1, .int 0), (0, .ref a0)]) hx hb dX4_pair_10 rfl hl (by decide) rfl (fun ls hl => ?_)
    exact wX4_pair_11 X hr  h hw (lv_sub hl [1, 0] rfl)
  · have h := h.2 c_19
    exact g_vret X hw hr h (Nat.le_refl _) (Nat.le_refl _) dX4_pair_8

/-! FifthCard$Pairing.takes(II)Z -/
theorem ydX4_takes : yX4_takes.cls = "FifthCard$Pairing" ∧ yX4_takes.cls ≠ "java/lang/invoke/MethodHandle" ∧ yX4_takes.cls ≠ "java/lang/invoke/VarHandle" ∧ (parseMethodDescriptor yX4_takes.desc).map (fun d => d.parameters.length) = some 2 := by decide +kernel
def rmX4_takes (mc ms : Nat) : Room := { frames := 2, cells := mc, slots := ms, locals := 54 }
set_option maxHeartbeats 4000000 in
theorem wX4_takes_25 {G : GT} {p : Program} {l : Launch} {e : Env} {s : State} {m : MethodId} {args : Array Value} {below : List Frame} {meth : Method} {c : Code} {H : Heap} {locs : List Loc} {ls : Array Slot} {a0 : Nat} {x1 : Int32} {x2 : Int32} {x3 : Int32} {u : Hp} {K : Int32 → Hp → Prop} (X : Mc G p s m args meth c RX4 cX4_takes 5) (hr : meth.sig.returnType = (some .boolean)) (h : bX4_takes_25 K a0 x1 x2 x3 u) (hw : GW G u s H locs) (hl : lv_has ls 5 [(0, .ref a0), (1, .int x1), (2, .int x2), (3, .int x3)]) : W p l e (rmX4_takes 0 0) s m args below meth c H locs 0 0 (QI G below K args s 0 0) (F0 m 25 ls []) := by
  obtain ⟨hx, hb, hml, hown, hts, -⟩ := id X
  unfold bX4_takes_25 at h
  refine lv_aload_n hx hb dX4_takes_25 rfl (lv_at hl 0 rfl) ?_
  have hk_1 : kd u a0 = 4 := h.1
  have h := h.2
  obtain ⟨b_2, e_3, h⟩ := h
  refine g_getR X hw in_X4 hk_1 rfl 2 rfl (by decide) q290 (fun _ z => z) e_3 dX4_takes_26 ?_
  refine lv_iload_n hx hb dX4_takes_29 rfl (lv_at hl 1 rfl) ?_
  have hk_4 : kd u b_2 = 101 := h.1
  have h := h.2
  refine g_iald X hw hk_4 h.1 dX4_takes_30 ?_
  have h := h.2
  refine lv_istore (lv' := [(4, .int (AI u b_2 (tn x1))), (0, .ref a0), (1, .int x1), (2, .int x2), (3, .int x3)]) hx hb dX4_takes_31 hl (by decide) rfl (fun ls hl => ?_)
  refine lv_aload_n hx hb dX4_takes_33 rfl (lv_at hl 1 rfl) ?_
  obtain ⟨b_5, e_6, h⟩ := h
  refine g_getR X hw in_X4 hk_1 rfl 1 rfl (by decide) q289 (fun _ z => z) e_6 dX4_takes_34 ?_
  refine lv_iload hx hb dX4_takes_37 (lv_at hl 0 rfl) ?_
  refine lv_iconst (v := (-1)) hx hb dX4_takes_39 (by decide) ?_
  have hk_7 : kd u b_5 = 101 := h.1
  have h := h.2
  refine g_iast X hw hk_7 h.1 dX4_takes_40 (fun H locs hw => ?_)
  have h := h.2
  refine lv_aload_n hx hb dX4_takes_41 rfl (lv_at hl 1 rfl) ?_
  refine g_getR X hw in_X4 hk_1 rfl 1 rfl (by decide) q289 (fun _ z => z) e_6 dX4_takes_42 ?_
  refine lv_iload_n hx hb dX4_takes_45 rfl (lv_at hl 3 rfl) ?_
  refine lv_iload_n hx hb dX4_takes_46 rfl (lv_at hl 2 rfl) ?_
  refine g_iast X hw hk_7 h.1 dX4_takes_47 (fun H locs hw => ?_)
  have h := h.2
  refine lv_aload_n hx hb dX4_takes_48 rfl (lv_at hl 1 rfl) ?_
  refine g_getR X hw in_X4 hk_1 rfl 2 rfl (by decide) q290 (fun _ z => z) e_3 dX4_takes_49 ?_
  refine lv_iload_n hx hb dX4_takes_52 rfl (lv_at hl 2 rfl) ?_
  refine lv_iload_n hx hb dX4_takes_53 rfl (lv_at hl 3 rfl) ?_
  refine g_iast X hw hk_4 h.1 dX4_takes_54 (fun H locs hw => ?_)
  have h := h.2
  refine lv_iload_n hx hb dX4_takes_55 rfl (lv_at hl 4 rfl) ?_
  refine lv_if_ge (tgt := 61) hx hb dX4_takes_56 rfl (fun c_28 => ?_) (fun c_28 => ?_)
  · have h := h.1 c_28
    refine lv_aload_n hx hb dX4_takes_61 rfl (lv_at hl 1 rfl) ?_
    refine g_getR X hw in_X4 hk_1 rfl 2 rfl (by decide) q290 (fun _ z => z) e_3 dX4_takes_62 ?_
    refine lv_iload_n hx hb dX4_takes_65 rfl (lv_at hl 4 rfl) ?_
    refine lv_iconst (v := (-1)) hx hb dX4_takes_66 (by decide) ?_
    obtain ⟨u_8, e_9⟩ : ∃ v : Hp, v = (sAI (sAI (sAI u b_5 (upd (AI u b_5) (tn (AI u b_2 (tn x1))) (-1))) b_5 (upd (AI (sAI u b_5 (upd (AI u b_5) (tn (AI u b_2 (tn x1))) (-1))) b_5) (tn x2) x1)) b_2 (upd (AI (sAI (sAI u b_5 (upd (AI u b_5) (tn (AI u b_2 (tn x1))) (-1))) b_5 (upd (AI (sAI u b_5 (upd (AI u b_5) (tn (AI u b_2 (tn x1))) (-1))) b_5) (tn x2) x1)) b_2) (tn x1) x2)) := ⟨_, rfl⟩
    have h := h u_8 e_9
    have hw : GW G u_8 s H locs := by rw [e_9]; exact hw
    have hk_10 : kd u_8 a0 = 4 := by rw [e_9]; exact hk_1
    have hk_11 : kd u_8 b_2 = 101 := by rw [e_9]; exact hk_4
    have hk_12 : kd u_8 b_5 = 101 := by rw [e_9]; exact hk_7
    refine g_iast X hw hk_11 h.1 dX4_takes_67 (fun H locs hw => ?_)
    have h := h.2
    refine lv_aload_n hx hb dX4_takes_68 rfl (lv_at hl 1 rfl) ?_
    refine lv_iload_n hx hb dX4_takes_69 rfl (lv_at hl 4 rfl) ?_
    refine lv_iload_n hx hb dX4_takes_70 rfl (lv_at hl 2 rfl) ?_
    refine lv_iconst (v := 1) hx hb dX4_takes_71 (by decide) ?_
    refine lv_iadd hx hb dX4_takes_72 ?_
    refine g_calli hw (g_V X hw (mX4_gives l G _ _ _ _ _ h) 2 (lw_V q1095 q1097 qs31 q128 q1098) rfl rfl ydX4_gives ⟨Nat.le_of_ble_eq_true rfl, Nat.le_of_ble_eq_true rfl⟩ (g_recv X hw (ci := 3) (q := (RX4, TX4, 14)) hk_10 rfl) (As := [.int x3, .int (x1 + 1)]) (rest := []) rfl hl.1 rfl (Nat.le_of_ble_eq_true rfl) dX4_takes_73 ⟨Nat.le_refl _, Nat.le_refl _⟩) (fun r_13 u_14 H locs h hw => ?_)
    refine lv_if_eq (tgt := 81) hx hb dX4_takes_76 rfl (fun c_27 => ?_) (fun c_27 => ?_)
    · have h := h.1 c_27
      refine lv_aload_n hx hb dX4_takes_81 rfl (lv_at hl 1 rfl) ?_
      have hk_15 : kd u_14 a0 = 4 := h.1
      have h := h.2
      obtain ⟨b_16, e_17, h⟩ := h
      refine g_getR X hw in_X4 hk_15 rfl 1 rfl (by decide) q289 (fun _ z => z) e_17 dX4_takes_82 ?_
      refine lv_iload_n hx hb dX4_takes_85 rfl (lv_at hl 3 rfl) ?_
      refine lv_iload_n hx hb dX4_takes_86 rfl (lv_at hl 4 rfl) ?_
      have hk_18 : kd u_14 b_16 = 101 := h.1
      have h := h.2
      refine g_iast X hw hk_18 h.1 dX4_takes_87 (fun H locs hw => ?_)
      have h := h.2
      refine lv_aload_n hx hb dX4_takes_88 rfl (lv_at hl 1 rfl) ?_
      obtain ⟨b_19, e_20, h⟩ := h
      refine g_getR X hw in_X4 hk_15 rfl 2 rfl (by decide) q290 (fun _ z => z) e_20 dX4_takes_89 ?_
      refine lv_iload_n hx hb dX4_takes_92 rfl (lv_at hl 4 rfl) ?_
      refine lv_iload_n hx hb dX4_takes_93 rfl (lv_at hl 3 rfl) ?_
      have hk_21 : kd u_14 b_19 = 101 := h.1
      have h := h.2
      refine g_iast X hw hk_21 h.1 dX4_takes_94 (fun H locs hw => ?_)
      have h := h.2
      refine lv_aload_n hx hb dX4_takes_95 rfl (lv_at hl 1 rfl) ?_
      refine g_getR X hw in_X4 hk_15 rfl 1 rfl (by decide) q289 (fun _ z => z) e_17 dX4_takes_96 ?_
      refine lv_iload hx hb dX4_takes_99 (lv_at hl 0 rfl) ?_
      refine lv_iload_n hx hb dX4_takes_101 rfl (lv_at hl 2 rfl) ?_
      refine g_iast X hw hk_18 h.1 dX4_takes_102 (fun H locs hw => ?_)
      have h := h.2
      refine lv_aload_n hx hb dX4_takes_103 rfl (lv_at hl 1 rfl) ?_
      refine g_getR X hw in_X4 hk_15 rfl 2 rfl (by decide) q290 (fun _ z => z) e_20 dX4_takes_104 ?_
      refine lv_iload_n hx hb dX4_takes_107 rfl (lv_at hl 2 rfl) ?_
      refine lv_iload hx hb dX4_takes_108 (lv_at hl 0 rfl) ?_
      obtain ⟨u_22, e_23⟩ : ∃ v : Hp, v = (sAI (sAI (sAI u_14 b_16 (upd (AI u_14 b_16) (tn x2) x3)) b_19 (upd (AI (sAI u_14 b_16 (upd (AI u_14 b_16) (tn x2) x3)) b_19) (tn x3) x2)) b_16 (upd (AI (sAI (sAI u_14 b_16 (upd (AI u_14 b_16) (tn x2) x3)) b_19 (upd (AI (sAI u_14 b_16 (upd (AI u_14 b_16) (tn x2) x3)) b_19) (tn x3) x2)) b_16) (tn (AI u b_2 (tn x1))) x1)) := ⟨_, rfl⟩
      have h := h u_22 e_23
      have hw : GW G u_22 s H locs := by rw [e_23]; exact hw
      have hk_24 : kd u_22 a0 = 4 := by rw [e_23]; exact hk_15
      have hk_25 : kd u_22 b_16 = 101 := by rw [e_23]; exact hk_18
      have hk_26 : kd u_22 b_19 = 101 := by rw [e_23]; exact hk_21
      refine g_iast X hw hk_26 h.1 dX4_takes_110 (fun H locs hw => ?_)
      have h := h.2
      refine lv_iconst (v := 0) hx hb dX4_takes_111 (by decide) ?_
      exact g_zret X hw hr rfl h (Nat.le_refl _) (Nat.le_refl _) dX4_takes_112
    · have h := h.2 c_27
      refine lv_iconst (v := 1) hx hb dX4_takes_79 (by decide) ?_
      exact g_zret X hw hr rfl h (Nat.le_refl _) (Nat.le_refl _) dX4_takes_80
  · have h := h.2 c_28
    refine lv_iconst (v := 1) hx hb dX4_takes_59 (by decide) ?_
    exact g_zret X hw hr rfl h (Nat.le_refl _) (Nat.le_refl _) dX4_takes_60
set_option maxHeartbeats 4000000 in
theorem mX4_takes (l : Launch) (G : GT) (u : Hp) (a0 : Nat) (x1 : Int32) (x2 : Int32) (K : Int32 → Hp → Prop) (h : pX4_takes u a0 x1 x2 K) : Met l yX4_takes (ws_ yX4_takes cX4_takes 5 (some .boolean)) (rmX4_takes 0 0) (va_Pc [.ref a0, .int x1, .int x2] (GB G u)) (va_Qi K (fun u t => GH G u t.heap) (GA G)) 0 0 (GA G) := by
  refine Met.ofW (cc := cX4_takes) (maxL := 5) (ret := (some .boolean)) (by decide) rfl ?_
  intro p e s m args below meth c s₁ B hml hv
  obtain ⟨rfl, hv⟩ := hv
  have X := Mc_of (own := RX4) B hml rfl hv
  have hw : GW G u s s.heap [] := ⟨hv.2.1, va_S.rf⟩
  have hr := B.returns
  obtain ⟨hx, hb, hml, hown, hts, -⟩ := id X
  have hl := lv_entry ([.ref a0, .int x1, .int x2]) (n := 5) (Nat.le_of_ble_eq_true rfl)
  rw [lg_entry_eq]
  generalize (lg_sl ([.ref a0, .int x1, .int x2]) ++ List.replicate (5 - (lg_sl ([.ref a0, .int x1, .int x2])).length) Slot.unset).toArray = ls at hl ⊢
  have hl : lv_has ls 5 [(0, .ref a0), (1, .int x1), (2, .int x2)] := hl
  change W p l e (rmX4_takes 0 0) s m _ below meth c s.heap [] 0 0 (QI G below K _ s 0 0) (F0 m 0 ls [])
  unfold pX4_takes at h
  refine lv_aload_n hx hb dX4_takes_0 rfl (lv_at hl 0 rfl) ?_
  have hk_29 : kd u a0 = 4 := h.1
  have h := h.2
  obtain ⟨b_30, e_31, h⟩ := h
  refine g_getR X hw in_X4 hk_29 rfl 1 rfl (by decide) q289 (fun _ z => z) e_31 dX4_takes_1 ?_
  refine lv_iload_n hx hb dX4_takes_4 rfl (lv_at hl 2 rfl) ?_
  have hk_32 : kd u b_30 = 101 := h.1
  have h := h.2
  refine g_iald X hw hk_32 h.1 dX4_takes_5 ?_
  have h := h.2
  refine lv_istore_n (lv' := [(3, .int (AI u b_30 (tn x2))), (0, .ref a0), (1, .int x1), (2, .int x2)]) hx hb dX4_takes_6 rfl hl (by decide) rfl (fun ls hl => ?_)
  refine lv_iload_n hx hb dX4_takes_7 rfl (lv_at hl 0 rfl) ?_
  refine lv_iload_n hx hb dX4_takes_8 rfl (lv_at hl 2 rfl) ?_
  refine lv_icmp_ne (tgt := 14) hx hb dX4_takes_9 rfl (fun c_35 => ?_) (fun c_35 => ?_)
  · have h := h.2 c_35
    refine lv_iload_n hx hb dX4_takes_14 rfl (lv_at hl 0 rfl) ?_
    refine lv_if_lt (tgt := 25) hx hb dX4_takes_15 rfl (fun c_34 => ?_) (fun c_34 => ?_)
    · have h := h.1 c_34
      exact wX4_takes_25 X hr  h hw (lv_sub hl [1, 2, 3, 0] rfl)
    · have h := h.2 c_34
      refine lv_iload_n hx hb dX4_takes_18 rfl (lv_at hl 0 rfl) ?_
      refine lv_iload_n hx hb dX4_takes_19 rfl (lv_at hl 2 rfl) ?_
      refine lv_icmp_ge (tgt := 25) hx hb dX4_takes_20 rfl (fun c_33 => ?_) (fun c_33 => ?_)
      · have h := h.1 c_33
        exact wX4_takes_25 X hr  h hw (lv_sub hl [1, 2, 3, 0] rfl)
      · have h := h.2 c_33
        refine lv_iconst (v := 0) hx hb dX4_takes_23 (by decide) ?_
        exact g_zret X hw hr rfl h (Nat.le_refl _) (Nat.le_refl _) dX4_takes_24
  · have h := h.1 c_35
    refine lv_iconst (v := 1) hx hb dX4_takes_12 (by decide) ?_
    exact g_zret X hw hr rfl h (Nat.le_refl _) (Nat.le_refl _) dX4_takes_13

/-! FifthCard$Pairing.least()Z -/
theorem ydX4_least : yX4_least.cls = "FifthCard$Pairing" ∧ yX4_least.cls ≠ "java/lang/invoke/MethodHandle" ∧ yX4_least.cls ≠ "java/lang/invoke/VarHandle" ∧ (parseMethodDescriptor yX4_least.desc).map (fun d => d.parameters.length) = some 0 := by decide +kernel
def rmX4_least (mc ms : Nat) : Room := { frames := 3, cells := mc, slots := ms, locals := 78 }
set_option maxHeartbeats 4000000 in
theorem wX4_least_46 {G : GT} {p : Program} {l : Launch} {e : Env} {s : State} {m : MethodId} {args : Array Value} {below : List Frame} {meth : Method} {c : Code} {H : Heap} {locs : List Loc} {ls : Array Slot} {a0 : Nat} {x1 : Int32} {x2 : Int32} {u : Hp} {K : Int32 → Hp → Prop} {J29 : Int32 → Hp → Prop} (X : Mc G p s m args meth c RX4 cX4_least 3) (hr : meth.sig.returnType = (some .boolean)) (hJ29 : ∀ (x1 : Int32) (u : Hp) (H : Heap) (locs : List Loc) (ls : Array Slot) , J29 x1 u → GW G u s H locs → lv_has ls 3 [(0, .ref a0), (1, .int x1)] → W p l e (rmX4_least 0 0) s m args below meth c H locs 0 0 (QI G below K args s 0 0) (F0 m 29 ls [])) (h : jl2 (bX4_least_46 K J29 a0 x1) x2 u) (hw : GW G u s H locs) (hl : lv_has ls 3 [(0, .ref a0), (1, .int x1), (2, .int x2)]) : W p l e (rmX4_least 0 0) s m args below meth c H locs 0 0 (QI G below K args s 0 0) (F0 m 46 ls []) := by
  obtain ⟨hx, hb, hml, hown, hts, -⟩ := id X
  obtain ⟨I, μ, h0, hs⟩ := h
  have key : ∀ (n : Nat) (x2 : Int32) (u : Hp) (H : Heap) (locs : List Loc) (ls : Array Slot) , μ x2 u < n → I x2 u → GW G u s H locs → lv_has ls 3 [(0, .ref a0), (1, .int x1), (2, .int x2)] → W p l e (rmX4_least 0 0) s m args below meth c H locs 0 0 (QI G below K args s 0 0) (F0 m 46 ls []) := by
    intro n
    induction n with
    | zero =>
      intro x2 u H locs ls hn
      exact absurd hn (Nat.not_lt_zero _)
    | succ n ih =>
      intro x2 u H locs ls hn hI hw hl
      have h := hs x2 u hI
      unfold bX4_least_46 at h
      have hJ46 : ∀ (x2' : Int32) (u' : Hp) (H : Heap) (locs : List Loc) (ls : Array Slot) , (I x2' u' ∧ μ x2' u' < μ x2 u) → GW G u' s H locs → lv_has ls 3 [(0, .ref a0), (1, .int x1), (2, .int x2')] → W p l e (rmX4_least 0 0) s m args below meth c H locs 0 0 (QI G below K args s 0 0) (F0 m 46 ls []) := fun x2' u' H locs ls h hw hl => ih x2' u' H locs ls (Nat.lt_of_lt_of_le h.2 (Nat.le_of_lt_succ hn)) h.1 hw hl
      refine lv_aload_n hx hb dX4_least_46 rfl (lv_at hl 0 rfl) ?_
      refine lv_iload_n hx hb dX4_least_47 rfl (lv_at hl 1 rfl) ?_
      refine lv_aload_n hx hb dX4_least_48 rfl (lv_at hl 0 rfl) ?_
      refine lv_iload_n hx hb dX4_least_49 rfl (lv_at hl 1 rfl) ?_
      refine lv_iload_n hx hb dX4_least_50 rfl (lv_at hl 2 rfl) ?_
      have hk_1 : kd u a0 = 4 := h.1
      have h := h.2
      refine g_callio hw (g_V X hw (mX4_row l G _ _ _ _ _ h) 2 (lw_V q1100 q1101 q1102 q128 q1103) rfl rfl ydX4_row ⟨Nat.le_of_ble_eq_true rfl, Nat.le_of_ble_eq_true rfl⟩ (g_recv X hw (ci := 3) (q := (RX4, TX4, 14)) hk_1 rfl) (As := [.int x1, .int x2]) (rest := [.int x1, .ref a0]) rfl hl.1 rfl (Nat.le_of_ble_eq_true rfl) dX4_least_51 ⟨Nat.le_refl _, Nat.le_refl _⟩) (fun r_2 H locs h hw => ?_)
      refine g_calli hw (g_V X hw (mX4_takes l G _ _ _ _ _ h) 2 (lw_V q1108 q1110 qs33 q128 q1111) rfl rfl ydX4_takes ⟨Nat.le_of_ble_eq_true rfl, Nat.le_of_ble_eq_true rfl⟩ (g_recv X hw (ci := 3) (q := (RX4, TX4, 14)) hk_1 rfl) (As := [.int x1, .int r_2]) (rest := []) rfl hl.1 rfl (Nat.le_of_ble_eq_true rfl) dX4_least_54 ⟨Nat.le_refl _, Nat.le_refl _⟩) (fun r_3 u_4 H locs h hw => ?_)
      refine lv_if_ne (tgt := 66) hx hb dX4_least_57 rfl (fun c_5 => ?_) (fun c_5 => ?_)
      · have h := h.2 c_5
        refine lv_iinc (v := x1 + 1) (lv' := [(1, .int (x1 + 1)), (0, .ref a0), (2, .int x2)]) hx hb dX4_least_66 hl (k := 1) rfl rfl (by decide) rfl (fun ls hl => ?_)
        refine lv_goto (tgt := 29) hx hb dX4_least_69 rfl ?_
        exact hJ29 _ _ _ _ _ h hw (lv_sub hl [1, 0] rfl)
      · have h := h.1 c_5
        refine lv_iinc (v := x2 + 1) (lv' := [(2, .int (x2 + 1)), (0, .ref a0), (1, .int x1)]) hx hb dX4_least_60 hl (k := 2) rfl rfl (by decide) rfl (fun ls hl => ?_)
        refine lv_goto (tgt := 46) hx hb dX4_least_63 rfl ?_
        exact hJ46 _ _ _ _ _ h hw (lv_sub hl [1, 2, 0] rfl)
  exact key _ _ _ _ _ _ (Nat.lt_succ_self _) h0 hw hl
set_option maxHeartbeats 4000000 in
theorem wX4_least_29 {G : GT} {p : Program} {l : Launch} {e : Env} {s : State} {m : MethodId} {args : Array Value} {below : List Frame} {meth : Method} {c : Code} {H : Heap} {locs : List Loc} {ls : Array Slot} {a0 : Nat} {x1 : Int32} {u : Hp} {K : Int32 → Hp → Prop} (X : Mc G p s m args meth c RX4 cX4_least 3) (hr : meth.sig.returnType = (some .boolean)) (h : jl2 (bX4_least_29 K a0) x1 u) (hw : GW G u s H locs) (hl : lv_has ls 3 [(0, .ref a0), (1, .int x1)]) : W p l e (rmX4_least 0 0) s m args below meth c H locs 0 0 (QI G below K args s 0 0) (F0 m 29 ls []) := by
  obtain ⟨hx, hb, hml, hown, hts, -⟩ := id X
  obtain ⟨I, μ, h0, hs⟩ := h
  have key : ∀ (n : Nat) (x1 : Int32) (u : Hp) (H : Heap) (locs : List Loc) (ls : Array Slot) , μ x1 u < n → I x1 u → GW G u s H locs → lv_has ls 3 [(0, .ref a0), (1, .int x1)] → W p l e (rmX4_least 0 0) s m args below meth c H locs 0 0 (QI G below K args s 0 0) (F0 m 29 ls []) := by
    intro n
    induction n with
    | zero =>
      intro x1 u H locs ls hn
      exact absurd hn (Nat.not_lt_zero _)
    | succ n ih =>
      intro x1 u H locs ls hn hI hw hl
      have h := hs x1 u hI
      unfold bX4_least_29 at h
      have hJ29 : ∀ (x1' : Int32) (u' : Hp) (H : Heap) (locs : List Loc) (ls : Array Slot) , (I x1' u' ∧ μ x1' u' < μ x1 u) → GW G u' s H locs → lv_has ls 3 [(0, .ref a0), (1, .int x1')] → W p l e (rmX4_least 0 0) s m args below meth c H locs 0 0 (QI G below K args s 0 0) (F0 m 29 ls []) := fun x1' u' H locs ls h hw hl => ih x1' u' H locs ls (Nat.lt_of_lt_of_le h.2 (Nat.le_of_lt_succ hn)) h.1 hw hl
      refine lv_iload_n hx hb dX4_least_29 rfl (lv_at hl 1 rfl) ?_
      refine lv_aload_n hx hb dX4_least_30 rfl (lv_at hl 0 rfl) ?_
      have hk_6 : kd u a0 = 4 := h.1
      have h := h.2
      refine g_getI X hw in_X4 hk_6 rfl 9 rfl (by decide) q297 (fun _ z => z) dX4_least_31 ?_
      refine lv_icmp_ge (tgt := 72) hx hb dX4_least_34 rfl (fun c_8 => ?_) (fun c_8 => ?_)
      · have h := h.1 c_8
        refine lv_aload_n hx hb dX4_least_72 rfl (lv_at hl 0 rfl) ?_
        refine lv_iconst (v := 1) hx hb dX4_least_73 (by decide) ?_
        refine g_putI (v := 1) X hw in_X4 tyX4_ok nmX4 hk_6 rfl 13 rfl (by decide) q302 (fun _ z => z) rfl rfl rfl dX4_least_74 (fun H locs hw => ?_)
        refine lv_iconst (v := 1) hx hb dX4_least_77 (by decide) ?_
        exact g_zret X hw hr rfl h (Nat.le_refl _) (Nat.le_refl _) dX4_least_78
      · have h := h.2 c_8
        refine lv_aload_n hx hb dX4_least_37 rfl (lv_at hl 0 rfl) ?_
        refine g_getI X hw in_X4 hk_6 rfl 13 rfl (by decide) q302 (fun _ z => z) dX4_least_38 ?_
        refine lv_if_ne (tgt := 72) hx hb dX4_least_41 rfl (fun c_7 => ?_) (fun c_7 => ?_)
        · have h := h.2 c_7
          refine lv_aload_n hx hb dX4_least_72 rfl (lv_at hl 0 rfl) ?_
          refine lv_iconst (v := 1) hx hb dX4_least_73 (by decide) ?_
          refine g_putI (v := 1) X hw in_X4 tyX4_ok nmX4 hk_6 rfl 13 rfl (by decide) q302 (fun _ z => z) rfl rfl rfl dX4_least_74 (fun H locs hw => ?_)
          refine lv_iconst (v := 1) hx hb dX4_least_77 (by decide) ?_
          exact g_zret X hw hr rfl h (Nat.le_refl _) (Nat.le_refl _) dX4_least_78
        · have h := h.1 c_7
          refine lv_iconst (v := 0) hx hb dX4_least_44 (by decide) ?_
          refine lv_istore_n (lv' := [(2, .int 0), (0, .ref a0), (1, .int x1)]) hx hb dX4_least_45 rfl hl (by decide) rfl (fun ls hl => ?_)
          exact wX4_least_46 X hr hJ29  h hw (lv_sub hl [1, 2, 0] rfl)
  exact key _ _ _ _ _ _ (Nat.lt_succ_self _) h0 hw hl
set_option maxHeartbeats 4000000 in
theorem mX4_least (l : Launch) (G : GT) (u : Hp) (a0 : Nat) (K : Int32 → Hp → Prop) (h : pX4_least u a0 K) : Met l yX4_least (ws_ yX4_least cX4_least 3 (some .boolean)) (rmX4_least 0 0) (va_Pc [.ref a0] (GB G u)) (va_Qi K (fun u t => GH G u t.heap) (GA G)) 0 0 (GA G) := by
  refine Met.ofW (cc := cX4_least) (maxL := 3) (ret := (some .boolean)) (by decide) rfl ?_
  intro p e s m args below meth c s₁ B hml hv
  obtain ⟨rfl, hv⟩ := hv
  have X := Mc_of (own := RX4) B hml rfl hv
  have hw : GW G u s s.heap [] := ⟨hv.2.1, va_S.rf⟩
  have hr := B.returns
  obtain ⟨hx, hb, hml, hown, hts, -⟩ := id X
  have hl := lv_entry ([.ref a0]) (n := 3) (Nat.le_of_ble_eq_true rfl)
  rw [lg_entry_eq]
  generalize (lg_sl ([.ref a0]) ++ List.replicate (3 - (lg_sl ([.ref a0])).length) Slot.unset).toArray = ls at hl ⊢
  have hl : lv_has ls 3 [(0, .ref a0)] := hl
  change W p l e (rmX4_least 0 0) s m _ below meth c s.heap [] 0 0 (QI G below K _ s 0 0) (F0 m 0 ls [])
  unfold pX4_least at h
  refine lv_aload_n hx hb dX4_least_0 rfl (lv_at hl 0 rfl) ?_
  have hk_9 : kd u a0 = 4 := h.1
  have h := h.2
  refine g_callv hw (g_V X hw (mX4_pair l G _ _ _ h) 0 (lw_V q1091 q1092 q1093 q128 q1094) rfl rfl ydX4_pair ⟨Nat.le_of_ble_eq_true rfl, Nat.le_of_ble_eq_true rfl⟩ (g_recv X hw (ci := 3) (q := (RX4, TX4, 14)) hk_9 rfl) (As := []) (rest := []) rfl hl.1 rfl (Nat.le_of_ble_eq_true rfl) dX4_least_1 ⟨Nat.le_refl _, Nat.le_refl _⟩) (fun u_10 H locs h hw => ?_)
  refine lv_aload_n hx hb dX4_least_4 rfl (lv_at hl 0 rfl) ?_
  have hk_11 : kd u_10 a0 = 4 := h.1
  have h := h.2
  refine g_getI X hw in_X4 hk_11 rfl 12 rfl (by decide) q300 (fun _ z => z) dX4_least_5 ?_
  refine lv_aload_n hx hb dX4_least_8 rfl (lv_at hl 0 rfl) ?_
  refine g_getI X hw in_X4 hk_11 rfl 9 rfl (by decide) q297 (fun _ z => z) dX4_least_9 ?_
  refine lv_icmp_lt (tgt := 25) hx hb dX4_least_12 rfl (fun c_13 => ?_) (fun c_13 => ?_)
  · have h := h.1 c_13
    refine lv_iconst (v := 0) hx hb dX4_least_25 (by decide) ?_
    exact g_zret X hw hr rfl h (Nat.le_refl _) (Nat.le_refl _) dX4_least_26
  · have h := h.2 c_13
    refine lv_aload_n hx hb dX4_least_15 rfl (lv_at hl 0 rfl) ?_
    refine g_getI X hw in_X4 hk_11 rfl 9 rfl (by decide) q297 (fun _ z => z) dX4_least_16 ?_
    refine lv_sipush (v := 300) hx hb dX4_least_19 (by decide) ?_
    refine lv_icmp_le (tgt := 27) hx hb dX4_least_22 rfl (fun c_12 => ?_) (fun c_12 => ?_)
    · have h := h.1 c_12
      refine lv_iconst (v := 0) hx hb dX4_least_27 (by decide) ?_
      refine lv_istore_n (lv' := [(1, .int 0), (0, .ref a0)]) hx hb dX4_least_28 rfl hl (by decide) rfl (fun ls hl => ?_)
      exact wX4_least_29 X hr  h hw (lv_sub hl [1, 0] rfl)
    · have h := h.2 c_12
      refine lv_iconst (v := 0) hx hb dX4_least_25 (by decide) ?_
      exact g_zret X hw hr rfl h (Nat.le_refl _) (Nat.le_refl _) dX4_least_26

/-! FifthCard$Pairing.rowOf(I)I -/
theorem ydX4_rowOf : yX4_rowOf.cls = "FifthCard$Pairing" ∧ yX4_rowOf.cls ≠ "java/lang/invoke/MethodHandle" ∧ yX4_rowOf.cls ≠ "java/lang/invoke/VarHandle" ∧ (parseMethodDescriptor yX4_rowOf.desc).map (fun d => d.parameters.length) = some 1 := by decide +kernel
def rmX4_rowOf (mc ms : Nat) : Room := { frames := 0, cells := mc, slots := ms, locals := 0 }
set_option maxHeartbeats 4000000 in
theorem mX4_rowOf (l : Launch) (G : GT) (u : Hp) (a0 : Nat) (x1 : Int32) (K : Int32 → Prop) (h : pX4_rowOf u a0 x1 K) : Met l yX4_rowOf (ws_ yX4_rowOf cX4_rowOf 2 (some .int)) (rmX4_rowOf 0 0) (va_Pc [.ref a0, .int x1] (GB G u)) (va_Qi (fun r v => v = u ∧ K r) (fun u t => GH G u t.heap) (GA G)) 0 0 (GA G) := by
  refine Met.ofW (cc := cX4_rowOf) (maxL := 2) (ret := (some .int)) (by decide) rfl ?_
  intro p e s m args below meth c s₁ B hml hv
  obtain ⟨rfl, hv⟩ := hv
  have X := Mc_of (own := RX4) B hml rfl hv
  have hw : GW G u s s.heap [] := ⟨hv.2.1, va_S.rf⟩
  have hr := B.returns
  obtain ⟨hx, hb, hml, hown, hts, -⟩ := id X
  have hl := lv_entry ([.ref a0, .int x1]) (n := 2) (Nat.le_of_ble_eq_true rfl)
  rw [lg_entry_eq]
  generalize (lg_sl ([.ref a0, .int x1]) ++ List.replicate (2 - (lg_sl ([.ref a0, .int x1])).length) Slot.unset).toArray = ls at hl ⊢
  have hl : lv_has ls 2 [(0, .ref a0), (1, .int x1)] := hl
  change W p l e (rmX4_rowOf 0 0) s m _ below meth c s.heap [] 0 0 (QI G below (fun r v => v = u ∧ K r) _ s 0 0) (F0 m 0 ls [])
  unfold pX4_rowOf at h
  refine lv_aload_n hx hb dX4_rowOf_0 rfl (lv_at hl 0 rfl) ?_
  have hk_1 : kd u a0 = 4 := h.1
  have h := h.2
  obtain ⟨b_2, e_3, h⟩ := h
  refine g_getR X hw in_X4 hk_1 rfl 2 rfl (by decide) q290 (fun _ z => z) e_3 dX4_rowOf_1 ?_
  refine lv_iload_n hx hb dX4_rowOf_4 rfl (lv_at hl 1 rfl) ?_
  have hk_4 : kd u b_2 = 101 := h.1
  have h := h.2
  refine g_iald X hw hk_4 h.1 dX4_rowOf_5 ?_
  have h := h.2
  exact g_iret X hw hr ⟨rfl, h⟩ (Nat.le_refl _) (Nat.le_refl _) dX4_rowOf_6

/-! FifthCard.spread(I[I)I -/
theorem ydX1_spread : yX1_spread.cls = "FifthCard" ∧ yX1_spread.cls ≠ "java/lang/invoke/MethodHandle" ∧ yX1_spread.cls ≠ "java/lang/invoke/VarHandle" ∧ (parseMethodDescriptor yX1_spread.desc).map (fun d => d.parameters.length) = some 2 := by decide +kernel
def rmX1_spread (mc ms : Nat) : Room := { frames := 1, cells := mc, slots := ms, locals := 21 }
set_option maxHeartbeats 4000000 in
theorem wX1_spread_4 {G : GT} {p : Program} {l : Launch} {e : Env} {s : State} {m : MethodId} {args : Array Value} {below : List Frame} {meth : Method} {c : Code} {H : Heap} {locs : List Loc} {ls : Array Slot} {x0 : Int32} {a1 : Nat} {x2 : Int32} {x3 : Int32} {u : Hp} {K : Int32 → Hp → Prop} (X : Mc G p s m args meth c RX1 cX1_spread 4) (hr : meth.sig.returnType = (some .int)) (h : jl3 (bX1_spread_4 K x0 a1) x2 x3 u) (hw : GW G u s H locs) (hl : lv_has ls 4 [(0, .int x0), (1, .ref a1), (2, .int x2), (3, .int x3)]) : W p l e (rmX1_spread 0 0) s m args below meth c H locs 0 0 (QI G below K args s 0 0) (F0 m 4 ls []) := by
  obtain ⟨hx, hb, hml, hown, hts, -⟩ := id X
  obtain ⟨I, μ, h0, hs⟩ := h
  have key : ∀ (n : Nat) (x2 : Int32) (x3 : Int32) (u : Hp) (H : Heap) (locs : List Loc) (ls : Array Slot) , μ x2 x3 u < n → I x2 x3 u → GW G u s H locs → lv_has ls 4 [(0, .int x0), (1, .ref a1), (2, .int x2), (3, .int x3)] → W p l e (rmX1_spread 0 0) s m args below meth c H locs 0 0 (QI G below K args s 0 0) (F0 m 4 ls []) := by
    intro n
    induction n with
    | zero =>
      intro x2 x3 u H locs ls hn
      exact absurd hn (Nat.not_lt_zero _)
    | succ n ih =>
      intro x2 x3 u H locs ls hn hI hw hl
      have h := hs x2 x3 u hI
      unfold bX1_spread_4 at h
      have hJ4 : ∀ (x2' : Int32) (x3' : Int32) (u' : Hp) (H : Heap) (locs : List Loc) (ls : Array Slot) , (I x2' x3' u' ∧ μ x2' x3' u' < μ x2 x3 u) → GW G u' s H locs → lv_has ls 4 [(0, .int x0), (1, .ref a1), (2, .int x2'), (3, .int x3')] → W p l e (rmX1_spread 0 0) s m args below meth c H locs 0 0 (QI G below K args s 0 0) (F0 m 4 ls []) := fun x2' x3' u' H locs ls h hw hl => ih x2' x3' u' H locs ls (Nat.lt_of_lt_of_le h.2 (Nat.le_of_lt_succ hn)) h.1 hw hl
      refine lv_iload_n hx hb dX1_spread_4 rfl (lv_at hl 3 rfl) ?_
      refine lv_bipush (v := 12) hx hb dX1_spread_5 (by decide) ?_
      refine lv_icmp_ge (tgt := 34) hx hb dX1_spread_7 rfl (fun c_4 => ?_) (fun c_4 => ?_)
      · have h := h.1 c_4
        refine lv_iload_n hx hb dX1_spread_34 rfl (lv_at hl 2 rfl) ?_
        exact g_iret X hw hr h (Nat.le_refl _) (Nat.le_refl _) dX1_spread_35
      · have h := h.2 c_4
        refine lv_iload_n hx hb dX1_spread_10 rfl (lv_at hl 0 rfl) ?_
        refine lv_iload_n hx hb dX1_spread_11 rfl (lv_at hl 3 rfl) ?_
        refine g_callio hw (g_S X hw (mX1_has l G _ _ _ _ h) 2 (lw_S q1125 q938 q122 q939) rfl rfl ydX1_has ⟨Nat.le_of_ble_eq_true rfl, Nat.le_of_ble_eq_true rfl⟩ (As := [.int x0, .int x3]) (rest := []) rfl hl.1 rfl (Nat.le_of_ble_eq_true rfl) dX1_spread_12 ⟨Nat.le_refl _, Nat.le_refl _⟩) (fun r_1 H locs h hw => ?_)
        refine lv_if_ne (tgt := 21) hx hb dX1_spread_15 rfl (fun c_3 => ?_) (fun c_3 => ?_)
        · have h := h.2 c_3
          refine lv_aload_n hx hb dX1_spread_21 rfl (lv_at hl 1 rfl) ?_
          refine lv_iload_n hx hb dX1_spread_22 rfl (lv_at hl 2 rfl) ?_
          refine lv_iload_n hx hb dX1_spread_23 rfl (lv_at hl 3 rfl) ?_
          have hk_2 : kd u a1 = 101 := h.1
          have h := h.2
          refine g_iast X hw hk_2 h.1 dX1_spread_24 (fun H locs hw => ?_)
          have h := h.2
          refine lv_iinc (v := x2 + 1) (lv' := [(2, .int (x2 + 1)), (0, .int x0), (1, .ref a1), (3, .int x3)]) hx hb dX1_spread_25 hl (k := 2) rfl rfl (by decide) rfl (fun ls hl => ?_)
          refine lv_iinc (v := x3 + 1) (lv' := [(3, .int (x3 + 1)), (2, .int (x2 + 1)), (0, .int x0), (1, .ref a1)]) hx hb dX1_spread_28 hl (k := 3) rfl rfl (by decide) rfl (fun ls hl => ?_)
          refine lv_goto (tgt := 4) hx hb dX1_spread_31 rfl ?_
          exact hJ4 _ _ _ _ _ _ h hw (lv_sub hl [2, 3, 1, 0] rfl)
        · have h := h.1 c_3
          refine lv_goto (tgt := 28) hx hb dX1_spread_18 rfl ?_
          refine lv_iinc (v := x3 + 1) (lv' := [(3, .int (x3 + 1)), (0, .int x0), (1, .ref a1), (2, .int x2)]) hx hb dX1_spread_28 hl (k := 3) rfl rfl (by decide) rfl (fun ls hl => ?_)
          refine lv_goto (tgt := 4) hx hb dX1_spread_31 rfl ?_
          exact hJ4 _ _ _ _ _ _ h hw (lv_sub hl [1, 2, 3, 0] rfl)
  exact key _ _ _ _ _ _ _ (Nat.lt_succ_self _) h0 hw hl
set_option maxHeartbeats 4000000 in
theorem mX1_spread (l : Launch) (G : GT) (u : Hp) (x0 : Int32) (a1 : Nat) (K : Int32 → Hp → Prop) (h : pX1_spread u x0 a1 K) : Met l yX1_spread (ws_ yX1_spread cX1_spread 4 (some .int)) (rmX1_spread 0 0) (va_Pc [.int x0, .ref a1] (GB G u)) (va_Qi K (fun u t => GH G u t.heap) (GA G)) 0 0 (GA G) := by
  refine Met.ofW (cc := cX1_spread) (maxL := 4) (ret := (some .int)) (by decide) rfl ?_
  intro p e s m args below meth c s₁ B hml hv
  obtain ⟨rfl, hv⟩ := hv
  have X := Mc_of (own := RX1) B hml rfl hv
  have hw : GW G u s s.heap [] := ⟨hv.2.1, va_S.rf⟩
  have hr := B.returns
  obtain ⟨hx, hb, hml, hown, hts, -⟩ := id X
  have hl := lv_entry ([.int x0, .ref a1]) (n := 4) (Nat.le_of_ble_eq_true rfl)
  rw [lg_entry_eq]
  generalize (lg_sl ([.int x0, .ref a1]) ++ List.replicate (4 - (lg_sl ([.int x0, .ref a1])).length) Slot.unset).toArray = ls at hl ⊢
  have hl : lv_has ls 4 [(0, .int x0), (1, .ref a1)] := hl
  change W p l e (rmX1_spread 0 0) s m _ below meth c s.heap [] 0 0 (QI G below K _ s 0 0) (F0 m 0 ls [])
  unfold pX1_spread at h
  refine lv_iconst (v := 0) hx hb dX1_spread_0 (by decide) ?_
  refine lv_istore_n (lv' := [(2, .int 0), (0, .int x0), (1, .ref a1)]) hx hb dX1_spread_1 rfl hl (by decide) rfl (fun ls hl => ?_)
  refine lv_iconst (v := 0) hx hb dX1_spread_2 (by decide) ?_
  refine lv_istore_n (lv' := [(3, .int 0), (2, .int 0), (0, .int x0), (1, .ref a1)]) hx hb dX1_spread_3 rfl hl (by decide) rfl (fun ls hl => ?_)
  exact wX1_spread_4 X hr  h hw (lv_sub hl [2, 3, 1, 0] rfl)

/-! FifthCard$Low.index([ILFifthCard$Trick;)I -/
theorem ydX7_index : yX7_index.cls = "FifthCard$Low" ∧ yX7_index.cls ≠ "java/lang/invoke/MethodHandle" ∧ yX7_index.cls ≠ "java/lang/invoke/VarHandle" ∧ (parseMethodDescriptor yX7_index.desc).map (fun d => d.parameters.length) = some 2 := by decide +kernel
def rmX7_index (mc ms : Nat) : Room := { frames := 0, cells := mc, slots := ms, locals := 0 }
set_option maxHeartbeats 4000000 in
theorem mX7_index (l : Launch) (G : GT) (u : Hp) (a0 : Nat) (a1 : Nat) (a2 : Nat) (K : Int32 → Prop) (h : pX7_index a0 a1 a2 K) : Met l yX7_index (ws_ yX7_index cX7_index 3 (some .int)) (rmX7_index 0 0) (va_Pc [.ref a0, .ref a1, .ref a2] (GB G u)) (va_Qi (fun r v => v = u ∧ K r) (fun u t => GH G u t.heap) (GA G)) 0 0 (GA G) := by
  refine Met.ofW (cc := cX7_index) (maxL := 3) (ret := (some .int)) (by decide) rfl ?_
  intro p e s m args below meth c s₁ B hml hv
  obtain ⟨rfl, hv⟩ := hv
  have X := Mc_of (own := RX7) B hml rfl hv
  have hw : GW G u s s.heap [] := ⟨hv.2.1, va_S.rf⟩
  have hr := B.returns
  obtain ⟨hx, hb, hml, hown, hts, -⟩ := id X
  have hl := lv_entry ([.ref a0, .ref a1, .ref a2]) (n := 3) (Nat.le_of_ble_eq_true rfl)
  rw [lg_entry_eq]
  generalize (lg_sl ([.ref a0, .ref a1, .ref a2]) ++ List.replicate (3 - (lg_sl ([.ref a0, .ref a1, .ref a2])).length) Slot.unset).toArray = ls at hl ⊢
  have hl : lv_has ls 3 [(0, .ref a0), (1, .ref a1), (2, .ref a2)] := hl
  change W p l e (rmX7_index 0 0) s m _ below meth c s.heap [] 0 0 (QI G below (fun r v => v = u ∧ K r) _ s 0 0) (F0 m 0 ls [])
  unfold pX7_index at h
  refine lv_iconst (v := 0) hx hb dX7_index_0 (by decide) ?_
  exact g_iret X hw hr ⟨rfl, h⟩ (Nat.le_refl _) (Nat.le_refl _) dX7_index_1

/-! FifthCard$High.index([ILFifthCard$Trick;)I -/
theorem ydX8_index : yX8_index.cls = "FifthCard$High" ∧ yX8_index.cls ≠ "java/lang/invoke/MethodHandle" ∧ yX8_index.cls ≠ "java/lang/invoke/VarHandle" ∧ (parseMethodDescriptor yX8_index.desc).map (fun d => d.parameters.length) = some 2 := by decide +kernel
def rmX8_index (mc ms : Nat) : Room := { frames := 0, cells := mc, slots := ms, locals := 0 }
set_option maxHeartbeats 4000000 in
theorem mX8_index (l : Launch) (G : GT) (u : Hp) (a0 : Nat) (a1 : Nat) (a2 : Nat) (K : Int32 → Prop) (h : pX8_index u a0 a1 a2 K) : Met l yX8_index (ws_ yX8_index cX8_index 3 (some .int)) (rmX8_index 0 0) (va_Pc [.ref a0, .ref a1, .ref a2] (GB G u)) (va_Qi (fun r v => v = u ∧ K r) (fun u t => GH G u t.heap) (GA G)) 0 0 (GA G) := by
  refine Met.ofW (cc := cX8_index) (maxL := 3) (ret := (some .int)) (by decide) rfl ?_
  intro p e s m args below meth c s₁ B hml hv
  obtain ⟨rfl, hv⟩ := hv
  have X := Mc_of (own := RX8) B hml rfl hv
  have hw : GW G u s s.heap [] := ⟨hv.2.1, va_S.rf⟩
  have hr := B.returns
  obtain ⟨hx, hb, hml, hown, hts, -⟩ := id X
  have hl := lv_entry ([.ref a0, .ref a1, .ref a2]) (n := 3) (Nat.le_of_ble_eq_true rfl)
  rw [lg_entry_eq]
  generalize (lg_sl ([.ref a0, .ref a1, .ref a2]) ++ List.replicate (3 - (lg_sl ([.ref a0, .ref a1, .ref a2])).length) Slot.unset).toArray = ls at hl ⊢
  have hl : lv_has ls 3 [(0, .ref a0), (1, .ref a1), (2, .ref a2)] := hl
  change W p l e (rmX8_index 0 0) s m _ below meth c s.heap [] 0 0 (QI G below (fun r v => v = u ∧ K r) _ s 0 0) (F0 m 0 ls [])
  unfold pX8_index at h
  refine lv_aload_n hx hb dX8_index_0 rfl (lv_at hl 2 rfl) ?_
  have hk_1 : kd u a2 = 17 := h.1
  have h := h.2
  refine g_getI X hw in_X20 hk_1 rfl 5 rfl (by decide) q577 (fun _ z => z) dX8_index_1 ?_
  refine lv_iconst (v := 1) hx hb dX8_index_4 (by decide) ?_
  refine lv_isub hx hb dX8_index_5 ?_
  exact g_iret X hw hr ⟨rfl, h⟩ (Nat.le_refl _) (Nat.le_refl _) dX8_index_6

/-! FifthCard$Mid.index([ILFifthCard$Trick;)I -/
theorem ydX9_index : yX9_index.cls = "FifthCard$Mid" ∧ yX9_index.cls ≠ "java/lang/invoke/MethodHandle" ∧ yX9_index.cls ≠ "java/lang/invoke/VarHandle" ∧ (parseMethodDescriptor yX9_index.desc).map (fun d => d.parameters.length) = some 2 := by decide +kernel
def rmX9_index (mc ms : Nat) : Room := { frames := 0, cells := mc, slots := ms, locals := 0 }
set_option maxHeartbeats 4000000 in
theorem mX9_index (l : Launch) (G : GT) (u : Hp) (a0 : Nat) (a1 : Nat) (a2 : Nat) (K : Int32 → Prop) (h : pX9_index u a0 a1 a2 K) : Met l yX9_index (ws_ yX9_index cX9_index 3 (some .int)) (rmX9_index 0 0) (va_Pc [.ref a0, .ref a1, .ref a2] (GB G u)) (va_Qi (fun r v => v = u ∧ K r) (fun u t => GH G u t.heap) (GA G)) 0 0 (GA G) := by
  refine Met.ofW (cc := cX9_index) (maxL := 3) (ret := (some .int)) (by decide) rfl ?_
  intro p e s m args below meth c s₁ B hml hv
  obtain ⟨rfl, hv⟩ := hv
  have X := Mc_of (own := RX9) B hml rfl hv
  have hw : GW G u s s.heap [] := ⟨hv.2.1, va_S.rf⟩
  have hr := B.returns
  obtain ⟨hx, hb, hml, hown, hts, -⟩ := id X
  have hl := lv_entry ([.ref a0, .ref a1, .ref a2]) (n := 3) (Nat.le_of_ble_eq_true rfl)
  rw [lg_entry_eq]
  generalize (lg_sl ([.ref a0, .ref a1, .ref a2]) ++ List.replicate (3 - (lg_sl ([.ref a0, .ref a1, .ref a2])).length) Slot.unset).toArray = ls at hl ⊢
  have hl : lv_has ls 3 [(0, .ref a0), (1, .ref a1), (2, .ref a2)] := hl
  change W p l e (rmX9_index 0 0) s m _ below meth c s.heap [] 0 0 (QI G below (fun r v => v = u ∧ K r) _ s 0 0) (F0 m 0 ls [])
  unfold pX9_index at h
  refine lv_aload_n hx hb dX9_index_0 rfl (lv_at hl 2 rfl) ?_
  have hk_1 : kd u a2 = 17 := h.1
  have h := h.2
  refine g_getI X hw in_X20 hk_1 rfl 5 rfl (by decide) q578 (fun _ z => z) dX9_index_1 ?_
  refine lv_aload_n hx hb dX9_index_4 rfl (lv_at hl 2 rfl) ?_
  refine g_getI X hw in_X20 hk_1 rfl 6 rfl (by decide) q587 (fun _ z => z) dX9_index_5 ?_
  refine lv_isub hx hb dX9_index_8 ?_
  refine lv_iconst (v := 2) hx hb dX9_index_9 (by decide) ?_
  refine lv_idiv hx hb dX9_index_10 (by decide) ?_
  exact g_iret X hw hr ⟨rfl, h⟩ (Nat.le_refl _) (Nat.le_refl _) dX9_index_11

/-! FifthCard$BySum.index([ILFifthCard$Trick;)I -/
theorem ydX10_index : yX10_index.cls = "FifthCard$BySum" ∧ yX10_index.cls ≠ "java/lang/invoke/MethodHandle" ∧ yX10_index.cls ≠ "java/lang/invoke/VarHandle" ∧ (parseMethodDescriptor yX10_index.desc).map (fun d => d.parameters.length) = some 2 := by decide +kernel
def rmX10_index (mc ms : Nat) : Room := { frames := 0, cells := mc, slots := ms, locals := 0 }
set_option maxHeartbeats 4000000 in
theorem wX10_index_5 {G : GT} {p : Program} {l : Launch} {e : Env} {s : State} {m : MethodId} {args : Array Value} {below : List Frame} {meth : Method} {c : Code} {H : Heap} {locs : List Loc} {ls : Array Slot} {a1 : Nat} {a2 : Nat} {u : Hp} {x3 : Int32} {x4 : Int32} {K : Int32 → Prop} (X : Mc G p s m args meth c RX10 cX10_index 5) (hr : meth.sig.returnType = (some .int)) (h : jl2 (bX10_index_5 K a1 a2 u) x3 x4) (hw : GW G u s H locs) (hl : lv_has ls 5 [(1, .ref a1), (2, .ref a2), (3, .int x3), (4, .int x4)]) : W p l e (rmX10_index 0 0) s m args below meth c H locs 0 0 (QI G below (fun r v => v = u ∧ K r) args s 0 0) (F0 m 5 ls []) := by
  obtain ⟨hx, hb, hml, hown, hts, -⟩ := id X
  obtain ⟨I, μ, h0, hs⟩ := h
  have key : ∀ (n : Nat) (x3 : Int32) (x4 : Int32) (H : Heap) (locs : List Loc) (ls : Array Slot) , μ x3 x4 < n → I x3 x4 → GW G u s H locs → lv_has ls 5 [(1, .ref a1), (2, .ref a2), (3, .int x3), (4, .int x4)] → W p l e (rmX10_index 0 0) s m args below meth c H locs 0 0 (QI G below (fun r v => v = u ∧ K r) args s 0 0) (F0 m 5 ls []) := by
    intro n
    induction n with
    | zero =>
      intro x3 x4 H locs ls hn
      exact absurd hn (Nat.not_lt_zero _)
    | succ n ih =>
      intro x3 x4 H locs ls hn hI hw hl
      have h := hs x3 x4 hI
      unfold bX10_index_5 at h
      have hJ5 : ∀ (x3' : Int32) (x4' : Int32) (H : Heap) (locs : List Loc) (ls : Array Slot) , (I x3' x4' ∧ μ x3' x4' < μ x3 x4) → GW G u s H locs → lv_has ls 5 [(1, .ref a1), (2, .ref a2), (3, .int x3'), (4, .int x4')] → W p l e (rmX10_index 0 0) s m args below meth c H locs 0 0 (QI G below (fun r v => v = u ∧ K r) args s 0 0) (F0 m 5 ls []) := fun x3' x4' H locs ls h hw hl => ih x3' x4' H locs ls (Nat.lt_of_lt_of_le h.2 (Nat.le_of_lt_succ hn)) h.1 hw hl
      refine lv_iload hx hb dX10_index_5 (lv_at hl 3 rfl) ?_
      refine lv_aload_n hx hb dX10_index_7 rfl (lv_at hl 1 rfl) ?_
      have hk_1 : kd u a2 = 17 := h.1
      have h := h.2
      refine g_getI X hw in_X20 hk_1 rfl 5 rfl (by decide) q579 (fun _ z => z) dX10_index_8 ?_
      refine lv_icmp_ge (tgt := 27) hx hb dX10_index_11 rfl (fun c_3 => ?_) (fun c_3 => ?_)
      · have h := h.1 c_3
        refine lv_iload_n hx hb dX10_index_27 rfl (lv_at hl 2 rfl) ?_
        refine lv_aload_n hx hb dX10_index_28 rfl (lv_at hl 1 rfl) ?_
        refine g_getI X hw in_X20 hk_1 rfl 5 rfl (by decide) q579 (fun _ z => z) dX10_index_29 ?_
        refine lv_irem hx hb dX10_index_32 h.1 ?_
        have h := h.2
        exact g_iret X hw hr ⟨rfl, h⟩ (Nat.le_refl _) (Nat.le_refl _) dX10_index_33
      · have h := h.2 c_3
        refine lv_iload_n hx hb dX10_index_14 rfl (lv_at hl 2 rfl) ?_
        refine lv_aload_n hx hb dX10_index_15 rfl (lv_at hl 0 rfl) ?_
        refine lv_iload hx hb dX10_index_16 (lv_at hl 3 rfl) ?_
        have hk_2 : kd u a1 = 101 := h.1
        have h := h.2
        refine g_iald X hw hk_2 h.1 dX10_index_18 ?_
        have h := h.2
        refine lv_iadd hx hb dX10_index_19 ?_
        refine lv_istore_n (lv' := [(3, .int (x3 + (AI u a1 (tn x4)))), (1, .ref a1), (2, .ref a2), (4, .int x4)]) hx hb dX10_index_20 rfl hl (by decide) rfl (fun ls hl => ?_)
        refine lv_iinc (v := x4 + 1) (lv' := [(4, .int (x4 + 1)), (3, .int (x3 + (AI u a1 (tn x4)))), (1, .ref a1), (2, .ref a2)]) hx hb dX10_index_21 hl (k := 3) rfl rfl (by decide) rfl (fun ls hl => ?_)
        refine lv_goto (tgt := 5) hx hb dX10_index_24 rfl ?_
        exact hJ5 _ _ _ _ _ h hw (lv_sub hl [2, 3, 1, 0] rfl)
  exact key _ _ _ _ _ _ (Nat.lt_succ_self _) h0 hw hl
set_option maxHeartbeats 4000000 in
theorem mX10_index (l : Launch) (G : GT) (u : Hp) (a0 : Nat) (a1 : Nat) (a2 : Nat) (K : Int32 → Prop) (h : pX10_index u a0 a1 a2 K) : Met l yX10_index (ws_ yX10_index cX10_index 5 (some .int)) (rmX10_index 0 0) (va_Pc [.ref a0, .ref a1, .ref a2] (GB G u)) (va_Qi (fun r v => v = u ∧ K r) (fun u t => GH G u t.heap) (GA G)) 0 0 (GA G) := by
  refine Met.ofW (cc := cX10_index) (maxL := 5) (ret := (some .int)) (by decide) rfl ?_
  intro p e s m args below meth c s₁ B hml hv
  obtain ⟨rfl, hv⟩ := hv
  have X := Mc_of (own := RX10) B hml rfl hv
  have hw : GW G u s s.heap [] := ⟨hv.2.1, va_S.rf⟩
  have hr := B.returns
  obtain ⟨hx, hb, hml, hown, hts, -⟩ := id X
  have hl := lv_entry ([.ref a0, .ref a1, .ref a2]) (n := 5) (Nat.le_of_ble_eq_true rfl)
  rw [lg_entry_eq]
  generalize (lg_sl ([.ref a0, .ref a1, .ref a2]) ++ List.replicate (5 - (lg_sl ([.ref a0, .ref a1, .ref a2])).length) Slot.unset).toArray = ls at hl ⊢
  have hl : lv_has ls 5 [(0, .ref a0), (1, .ref a1), (2, .ref a2)] := hl
  change W p l e (rmX10_index 0 0) s m _ below meth c s.heap [] 0 0 (QI G below (fun r v => v = u ∧ K r) _ s 0 0) (F0 m 0 ls [])
  unfold pX10_index at h
  refine lv_iconst (v := 0) hx hb dX10_index_0 (by decide) ?_
  refine lv_istore_n (lv' := [(3, .int 0), (0, .ref a0), (1, .ref a1), (2, .ref a2)]) hx hb dX10_index_1 rfl hl (by decide) rfl (fun ls hl => ?_)
  refine lv_iconst (v := 0) hx hb dX10_index_2 (by decide) ?_
  refine lv_istore (lv' := [(4, .int 0), (3, .int 0), (0, .ref a0), (1, .ref a1), (2, .ref a2)]) hx hb dX10_index_3 hl (by decide) rfl (fun ls hl => ?_)
  exact wX10_index_5 X hr  h hw (lv_sub hl [3, 4, 1, 0] rfl)

/-! FifthCard$Place.of(IIILFifthCard$Trick;)I -/
theorem ydX12_of : yX12_of.cls = "FifthCard$Place" ∧ yX12_of.cls ≠ "java/lang/invoke/MethodHandle" ∧ yX12_of.cls ≠ "java/lang/invoke/VarHandle" ∧ (parseMethodDescriptor yX12_of.desc).map (fun d => d.parameters.length) = some 4 := by decide +kernel
def rmX12_of (mc ms : Nat) : Room := { frames := 0, cells := mc, slots := ms, locals := 0 }
set_option maxHeartbeats 4000000 in
theorem mX12_of (l : Launch) (G : GT) (u : Hp) (a0 : Nat) (x1 : Int32) (x2 : Int32) (x3 : Int32) (a4 : Nat) (K : Int32 → Prop) (h : pX12_of a0 x1 x2 x3 a4 K) : Met l yX12_of (ws_ yX12_of cX12_of 5 (some .int)) (rmX12_of 0 0) (va_Pc [.ref a0, .int x1, .int x2, .int x3, .ref a4] (GB G u)) (va_Qi (fun r v => v = u ∧ K r) (fun u t => GH G u t.heap) (GA G)) 0 0 (GA G) := by
  refine Met.ofW (cc := cX12_of) (maxL := 5) (ret := (some .int)) (by decide) rfl ?_
  intro p e s m args below meth c s₁ B hml hv
  obtain ⟨rfl, hv⟩ := hv
  have X := Mc_of (own := RX12) B hml rfl hv
  have hw : GW G u s s.heap [] := ⟨hv.2.1, va_S.rf⟩
  have hr := B.returns
  obtain ⟨hx, hb, hml, hown, hts, -⟩ := id X
  have hl := lv_entry ([.ref a0, .int x1, .int x2, .int x3, .ref a4]) (n := 5) (Nat.le_of_ble_eq_true rfl)
  rw [lg_entry_eq]
  generalize (lg_sl ([.ref a0, .int x1, .int x2, .int x3, .ref a4]) ++ List.replicate (5 - (lg_sl ([.ref a0, .int x1, .int x2, .int x3, .ref a4])).length) Slot.unset).toArray = ls at hl ⊢
  have hl : lv_has ls 5 [(0, .ref a0), (1, .int x1), (2, .int x2), (3, .int x3), (4, .ref a4)] := hl
  change W p l e (rmX12_of 0 0) s m _ below meth c s.heap [] 0 0 (QI G below (fun r v => v = u ∧ K r) _ s 0 0) (F0 m 0 ls [])
  unfold pX12_of at h
  refine lv_iload_n hx hb dX12_of_0 rfl (lv_at hl 1 rfl) ?_
  exact g_iret X hw hr ⟨rfl, h⟩ (Nat.le_refl _) (Nat.le_refl _) dX12_of_1

/-! FifthCard$Trick.ranks()I -/
theorem ydX20_ranks : yX20_ranks.cls = "FifthCard$Trick" ∧ yX20_ranks.cls ≠ "java/lang/invoke/MethodHandle" ∧ yX20_ranks.cls ≠ "java/lang/invoke/VarHandle" ∧ (parseMethodDescriptor yX20_ranks.desc).map (fun d => d.parameters.length) = some 0 := by decide +kernel
def rmX20_ranks (mc ms : Nat) : Room := { frames := 0, cells := mc, slots := ms, locals := 0 }
set_option maxHeartbeats 4000000 in
theorem mX20_ranks (l : Launch) (G : GT) (u : Hp) (a0 : Nat) (K : Int32 → Prop) (h : pX20_ranks u a0 K) : Met l yX20_ranks (ws_ yX20_ranks cX20_ranks 1 (some .int)) (rmX20_ranks 0 0) (va_Pc [.ref a0] (GB G u)) (va_Qi (fun r v => v = u ∧ K r) (fun u t => GH G u t.heap) (GA G)) 0 0 (GA G) := by
  refine Met.ofW (cc := cX20_ranks) (maxL := 1) (ret := (some .int)) (by decide) rfl ?_
  intro p e s m args below meth c s₁ B hml hv
  obtain ⟨rfl, hv⟩ := hv
  have X := Mc_of (own := RX20) B hml rfl hv
  have hw : GW G u s s.heap [] := ⟨hv.2.1, va_S.rf⟩
  have hr := B.returns
  obtain ⟨hx, hb, hml, hown, hts, -⟩ := id X
  have hl := lv_entry ([.ref a0]) (n := 1) (Nat.le_of_ble_eq_true rfl)
  rw [lg_entry_eq]
  generalize (lg_sl ([.ref a0]) ++ List.replicate (1 - (lg_sl ([.ref a0])).length) Slot.unset).toArray = ls at hl ⊢
  have hl : lv_has ls 1 [(0, .ref a0)] := hl
  change W p l e (rmX20_ranks 0 0) s m _ below meth c s.heap [] 0 0 (QI G below (fun r v => v = u ∧ K r) _ s 0 0) (F0 m 0 ls [])
  unfold pX20_ranks at h
  refine lv_aload_n hx hb dX20_ranks_0 rfl (lv_at hl 0 rfl) ?_
  have hk_1 : kd u a0 = 17 := h.1
  have h := h.2
  refine g_getI X hw in_X20 hk_1 rfl 3 rfl (by decide) q569 (fun _ z => z) dX20_ranks_1 ?_
  refine lv_aload_n hx hb dX20_ranks_4 rfl (lv_at hl 0 rfl) ?_
  refine g_getI X hw in_X20 hk_1 rfl 4 rfl (by decide) q573 (fun _ z => z) dX20_ranks_5 ?_
  refine lv_idiv hx hb dX20_ranks_8 h.1 ?_
  have h := h.2
  exact g_iret X hw hr ⟨rfl, h⟩ (Nat.le_refl _) (Nat.le_refl _) dX20_ranks_9

/-! FifthCard$Rank.of(IIILFifthCard$Trick;)I -/
theorem ydX13_of : yX13_of.cls = "FifthCard$Rank" ∧ yX13_of.cls ≠ "java/lang/invoke/MethodHandle" ∧ yX13_of.cls ≠ "java/lang/invoke/VarHandle" ∧ (parseMethodDescriptor yX13_of.desc).map (fun d => d.parameters.length) = some 4 := by decide +kernel
def rmX13_of (mc ms : Nat) : Room := { frames := 1, cells := mc, slots := ms, locals := 20 }
set_option maxHeartbeats 4000000 in
theorem mX13_of (l : Launch) (G : GT) (u : Hp) (a0 : Nat) (x1 : Int32) (x2 : Int32) (x3 : Int32) (a4 : Nat) (K : Int32 → Prop) (h : pX13_of u a0 x1 x2 x3 a4 K) : Met l yX13_of (ws_ yX13_of cX13_of 5 (some .int)) (rmX13_of 0 0) (va_Pc [.ref a0, .int x1, .int x2, .int x3, .ref a4] (GB G u)) (va_Qi (fun r v => v = u ∧ K r) (fun u t => GH G u t.heap) (GA G)) 0 0 (GA G) := by
  refine Met.ofW (cc := cX13_of) (maxL := 5) (ret := (some .int)) (by decide) rfl ?_
  intro p e s m args below meth c s₁ B hml hv
  obtain ⟨rfl, hv⟩ := hv
  have X := Mc_of (own := RX13) B hml rfl hv
  have hw : GW G u s s.heap [] := ⟨hv.2.1, va_S.rf⟩
  have hr := B.returns
  obtain ⟨hx, hb, hml, hown, hts, -⟩ := id X
  have hl := lv_entry ([.ref a0, .int x1, .int x2, .int x3, .ref a4]) (n := 5) (Nat.le_of_ble_eq_true rfl)
  rw [lg_entry_eq]
  generalize (lg_sl ([.ref a0, .int x1, .int x2, .int x3, .ref a4]) ++ List.replicate (5 - (lg_sl ([.ref a0, .int x1, .int x2, .int x3, .ref a4])).length) Slot.unset).toArray = ls at hl ⊢
  have hl : lv_has ls 5 [(0, .ref a0), (1, .int x1), (2, .int x2), (3, .int x3), (4, .ref a4)] := hl
  change W p l e (rmX13_of 0 0) s m _ below meth c s.heap [] 0 0 (QI G below (fun r v => v = u ∧ K r) _ s 0 0) (F0 m 0 ls [])
  unfold pX13_of at h
  refine lv_iload_n hx hb dX13_of_0 rfl (lv_at hl 1 rfl) ?_
  refine lv_aload hx hb dX13_of_1 (lv_at hl 4 rfl) ?_
  have hk_1 : kd u a4 = 17 := h.1
  have h := h.2
  refine g_callio hw (g_V X hw (mX20_ranks l G _ _ _ h) 0 (lw_V q1159 q1160 q1161 q144 q1162) rfl rfl ydX20_ranks ⟨Nat.le_of_ble_eq_true rfl, Nat.le_of_ble_eq_true rfl⟩ (g_recv X hw (ci := 16) (q := (RX20, TX20, 13)) hk_1 rfl) (As := []) (rest := [.int x1]) rfl hl.1 rfl (Nat.le_of_ble_eq_true rfl) dX13_of_3 ⟨Nat.le_refl _, Nat.le_refl _⟩) (fun r_2 H locs h hw => ?_)
  refine lv_irem hx hb dX13_of_6 h.1 ?_
  have h := h.2
  exact g_iret X hw hr ⟨rfl, h⟩ (Nat.le_refl _) (Nat.le_refl _) dX13_of_7

/-! FifthCard$Gap.of(IIILFifthCard$Trick;)I -/
theorem ydX14_of : yX14_of.cls = "FifthCard$Gap" ∧ yX14_of.cls ≠ "java/lang/invoke/MethodHandle" ∧ yX14_of.cls ≠ "java/lang/invoke/VarHandle" ∧ (parseMethodDescriptor yX14_of.desc).map (fun d => d.parameters.length) = some 4 := by decide +kernel
def rmX14_of (mc ms : Nat) : Room := { frames := 1, cells := mc, slots := ms, locals := 21 }
set_option maxHeartbeats 4000000 in
theorem wX14_of_3 {G : GT} {p : Program} {l : Launch} {e : Env} {s : State} {m : MethodId} {args : Array Value} {below : List Frame} {meth : Method} {c : Code} {H : Heap} {locs : List Loc} {ls : Array Slot} {x1 : Int32} {x2 : Int32} {a4 : Nat} {u : Hp} {x5 : Int32} {K : Int32 → Prop} (X : Mc G p s m args meth c RX14 cX14_of 6) (hr : meth.sig.returnType = (some .int)) (h : jl1 (bX14_of_3 K x1 x2 a4 u) x5) (hw : GW G u s H locs) (hl : lv_has ls 6 [(1, .int x1), (2, .int x2), (4, .ref a4), (5, .int x5)]) : W p l e (rmX14_of 0 0) s m args below meth c H locs 0 0 (QI G below (fun r v => v = u ∧ K r) args s 0 0) (F0 m 3 ls []) := by
  obtain ⟨hx, hb, hml, hown, hts, -⟩ := id X
  obtain ⟨I, μ, h0, hs⟩ := h
  have key : ∀ (n : Nat) (x5 : Int32) (H : Heap) (locs : List Loc) (ls : Array Slot) , μ x5 < n → I x5 → GW G u s H locs → lv_has ls 6 [(1, .int x1), (2, .int x2), (4, .ref a4), (5, .int x5)] → W p l e (rmX14_of 0 0) s m args below meth c H locs 0 0 (QI G below (fun r v => v = u ∧ K r) args s 0 0) (F0 m 3 ls []) := by
    intro n
    induction n with
    | zero =>
      intro x5 H locs ls hn
      exact absurd hn (Nat.not_lt_zero _)
    | succ n ih =>
      intro x5 H locs ls hn hI hw hl
      have h := hs x5 hI
      unfold bX14_of_3 at h
      have hJ3 : ∀ (x5' : Int32) (H : Heap) (locs : List Loc) (ls : Array Slot) , (I x5' ∧ μ x5' < μ x5) → GW G u s H locs → lv_has ls 6 [(1, .int x1), (2, .int x2), (4, .ref a4), (5, .int x5')] → W p l e (rmX14_of 0 0) s m args below meth c H locs 0 0 (QI G below (fun r v => v = u ∧ K r) args s 0 0) (F0 m 3 ls []) := fun x5' H locs ls h hw hl => ih x5' H locs ls (Nat.lt_of_lt_of_le h.2 (Nat.le_of_lt_succ hn)) h.1 hw hl
      refine lv_iload_n hx hb dX14_of_3 rfl (lv_at hl 1 rfl) ?_
      refine lv_iload_n hx hb dX14_of_4 rfl (lv_at hl 0 rfl) ?_
      refine lv_iload hx hb dX14_of_5 (lv_at hl 3 rfl) ?_
      refine lv_isub hx hb dX14_of_7 ?_
      refine lv_aload hx hb dX14_of_8 (lv_at hl 2 rfl) ?_
      have hk_1 : kd u a4 = 17 := h.1
      have h := h.2
      refine g_getI X hw in_X20 hk_1 rfl 3 rfl (by decide) q567 (fun _ z => z) dX14_of_10 ?_
      refine lv_iadd hx hb dX14_of_13 ?_
      refine lv_aload hx hb dX14_of_14 (lv_at hl 2 rfl) ?_
      refine g_getI X hw in_X20 hk_1 rfl 3 rfl (by decide) q567 (fun _ z => z) dX14_of_16 ?_
      refine lv_irem hx hb dX14_of_19 h.1 ?_
      have h := h.2
      refine g_callio hw (g_SN X hw (mX1_has l G _ _ _ _ h) 2 q939 q122 (List.mem_of_getElem? (i := 14) rfl) q938 rfl rfl ydX1_has ⟨Nat.le_of_ble_eq_true rfl, Nat.le_of_ble_eq_true rfl⟩ (As := [.int x2, .int (jrem ((x1 - x5) + (FI u 2003 a4)) (FI u 2003 a4))]) (rest := []) rfl hl.1 rfl (Nat.le_of_ble_eq_true rfl) dX14_of_20 ⟨Nat.le_refl _, Nat.le_refl _⟩) (fun r_2 H locs h hw => ?_)
      refine lv_if_ne (tgt := 32) hx hb dX14_of_23 rfl (fun c_3 => ?_) (fun c_3 => ?_)
      · have h := h.2 c_3
        refine lv_iload hx hb dX14_of_32 (lv_at hl 3 rfl) ?_
        exact g_iret X hw hr ⟨rfl, h⟩ (Nat.le_refl _) (Nat.le_refl _) dX14_of_34
      · have h := h.1 c_3
        refine lv_iinc (v := x5 + 1) (lv' := [(5, .int (x5 + 1)), (1, .int x1), (2, .int x2), (4, .ref a4)]) hx hb dX14_of_26 hl (k := 3) rfl rfl (by decide) rfl (fun ls hl => ?_)
        refine lv_goto (tgt := 3) hx hb dX14_of_29 rfl ?_
        exact hJ3 _ _ _ _ h hw (lv_sub hl [1, 2, 3, 0] rfl)
  exact key _ _ _ _ _ (Nat.lt_succ_self _) h0 hw hl
set_option maxHeartbeats 4000000 in
theorem mX14_of (l : Launch) (G : GT) (u : Hp) (a0 : Nat) (x1 : Int32) (x2 : Int32) (x3 : Int32) (a4 : Nat) (K : Int32 → Prop) (h : pX14_of u a0 x1 x2 x3 a4 K) : Met l yX14_of (ws_ yX14_of cX14_of 6 (some .int)) (rmX14_of 0 0) (va_Pc [.ref a0, .int x1, .int x2, .int x3, .ref a4] (GB G u)) (va_Qi (fun r v => v = u ∧ K r) (fun u t => GH G u t.heap) (GA G)) 0 0 (GA G) := by
  refine Met.ofW (cc := cX14_of) (maxL := 6) (ret := (some .int)) (by decide) rfl ?_
  intro p e s m args below meth c s₁ B hml hv
  obtain ⟨rfl, hv⟩ := hv
  have X := Mc_of (own := RX14) B hml rfl hv
  have hw : GW G u s s.heap [] := ⟨hv.2.1, va_S.rf⟩
  have hr := B.returns
  obtain ⟨hx, hb, hml, hown, hts, -⟩ := id X
  have hl := lv_entry ([.ref a0, .int x1, .int x2, .int x3, .ref a4]) (n := 6) (Nat.le_of_ble_eq_true rfl)
  rw [lg_entry_eq]
  generalize (lg_sl ([.ref a0, .int x1, .int x2, .int x3, .ref a4]) ++ List.replicate (6 - (lg_sl ([.ref a0, .int x1, .int x2, .int x3, .ref a4])).length) Slot.unset).toArray = ls at hl ⊢
  have hl : lv_has ls 6 [(0, .ref a0), (1, .int x1), (2, .int x2), (3, .int x3), (4, .ref a4)] := hl
  change W p l e (rmX14_of 0 0) s m _ below meth c s.heap [] 0 0 (QI G below (fun r v => v = u ∧ K r) _ s 0 0) (F0 m 0 ls [])
  unfold pX14_of at h
  refine lv_iconst (v := 1) hx hb dX14_of_0 (by decide) ?_
  refine lv_istore (lv' := [(5, .int 1), (0, .ref a0), (1, .int x1), (2, .int x2), (3, .int x3), (4, .ref a4)]) hx hb dX14_of_1 hl (by decide) rfl (fun ls hl => ?_)
  exact wX14_of_3 X hr  h hw (lv_sub hl [2, 3, 5, 0] rfl)

/-! FifthCard$Ring.of(IIILFifthCard$Trick;)I -/
theorem ydX15_of : yX15_of.cls = "FifthCard$Ring" ∧ yX15_of.cls ≠ "java/lang/invoke/MethodHandle" ∧ yX15_of.cls ≠ "java/lang/invoke/VarHandle" ∧ (parseMethodDescriptor yX15_of.desc).map (fun d => d.parameters.length) = some 4 := by decide +kernel
def rmX15_of (mc ms : Nat) : Room := { frames := 1, cells := mc, slots := ms, locals := 21 }
set_option maxHeartbeats 4000000 in
theorem wX15_of_6 {G : GT} {p : Program} {l : Launch} {e : Env} {s : State} {m : MethodId} {args : Array Value} {below : List Frame} {meth : Method} {c : Code} {H : Heap} {locs : List Loc} {ls : Array Slot} {x1 : Int32} {x2 : Int32} {a4 : Nat} {u : Hp} {x5 : Int32} {x6 : Int32} {K : Int32 → Prop} (X : Mc G p s m args meth c RX15 cX15_of 7) (hr : meth.sig.returnType = (some .int)) (h : jl2 (bX15_of_6 K x1 x2 a4 u) x5 x6) (hw : GW G u s H locs) (hl : lv_has ls 7 [(1, .int x1), (2, .int x2), (4, .ref a4), (5, .int x5), (6, .int x6)]) : W p l e (rmX15_of 0 0) s m args below meth c H locs 0 0 (QI G below (fun r v => v = u ∧ K r) args s 0 0) (F0 m 6 ls []) := by
  obtain ⟨hx, hb, hml, hown, hts, -⟩ := id X
  obtain ⟨I, μ, h0, hs⟩ := h
  have key : ∀ (n : Nat) (x5 : Int32) (x6 : Int32) (H : Heap) (locs : List Loc) (ls : Array Slot) , μ x5 x6 < n → I x5 x6 → GW G u s H locs → lv_has ls 7 [(1, .int x1), (2, .int x2), (4, .ref a4), (5, .int x5), (6, .int x6)] → W p l e (rmX15_of 0 0) s m args below meth c H locs 0 0 (QI G below (fun r v => v = u ∧ K r) args s 0 0) (F0 m 6 ls []) := by
    intro n
    induction n with
    | zero =>
      intro x5 x6 H locs ls hn
      exact absurd hn (Nat.not_lt_zero _)
    | succ n ih =>
      intro x5 x6 H locs ls hn hI hw hl
      have h := hs x5 x6 hI
      unfold bX15_of_6 at h
      have hJ6 : ∀ (x5' : Int32) (x6' : Int32) (H : Heap) (locs : List Loc) (ls : Array Slot) , (I x5' x6' ∧ μ x5' x6' < μ x5 x6) → GW G u s H locs → lv_has ls 7 [(1, .int x1), (2, .int x2), (4, .ref a4), (5, .int x5'), (6, .int x6')] → W p l e (rmX15_of 0 0) s m args below meth c H locs 0 0 (QI G below (fun r v => v = u ∧ K r) args s 0 0) (F0 m 6 ls []) := fun x5' x6' H locs ls h hw hl => ih x5' x6' H locs ls (Nat.lt_of_lt_of_le h.2 (Nat.le_of_lt_succ hn)) h.1 hw hl
      refine lv_iload hx hb dX15_of_6 (lv_at hl 4 rfl) ?_
      refine lv_iload_n hx hb dX15_of_8 rfl (lv_at hl 0 rfl) ?_
      refine lv_icmp_ge (tgt := 37) hx hb dX15_of_9 rfl (fun c_4 => ?_) (fun c_4 => ?_)
      · have h := h.1 c_4
        refine lv_iload hx hb dX15_of_37 (lv_at hl 3 rfl) ?_
        refine lv_aload hx hb dX15_of_39 (lv_at hl 2 rfl) ?_
        have hk_1 : kd u a4 = 17 := h.1
        have h := h.2
        refine g_getI X hw in_X20 hk_1 rfl 5 rfl (by decide) q581 (fun _ z => z) dX15_of_41 ?_
        refine lv_idiv hx hb dX15_of_44 h.1 ?_
        have h := h.2
        exact g_iret X hw hr ⟨rfl, h⟩ (Nat.le_refl _) (Nat.le_refl _) dX15_of_45
      · have h := h.2 c_4
        refine lv_iload hx hb dX15_of_12 (lv_at hl 3 rfl) ?_
        refine lv_iload_n hx hb dX15_of_14 rfl (lv_at hl 1 rfl) ?_
        refine lv_iload hx hb dX15_of_15 (lv_at hl 4 rfl) ?_
        refine g_callio hw (g_SN X hw (mX1_has l G _ _ _ _ h) 2 q939 q122 (List.mem_of_getElem? (i := 31) rfl) q938 rfl rfl ydX1_has ⟨Nat.le_of_ble_eq_true rfl, Nat.le_of_ble_eq_true rfl⟩ (As := [.int x2, .int x6]) (rest := [.int x5]) rfl hl.1 rfl (Nat.le_of_ble_eq_true rfl) dX15_of_17 ⟨Nat.le_refl _, Nat.le_refl _⟩) (fun r_2 H locs h hw => ?_)
        refine lv_if_eq (tgt := 27) hx hb dX15_of_20 rfl (fun c_3 => ?_) (fun c_3 => ?_)
        · have h := h.1 c_3
          refine lv_iconst (v := 1) hx hb dX15_of_27 (by decide) ?_
          refine lv_iadd hx hb dX15_of_28 ?_
          refine lv_istore (lv' := [(5, .int (x5 + 1)), (1, .int x1), (2, .int x2), (4, .ref a4), (6, .int x6)]) hx hb dX15_of_29 hl (by decide) rfl (fun ls hl => ?_)
          refine lv_iinc (v := x6 + 1) (lv' := [(6, .int (x6 + 1)), (5, .int (x5 + 1)), (1, .int x1), (2, .int x2), (4, .ref a4)]) hx hb dX15_of_31 hl (k := 4) rfl rfl (by decide) rfl (fun ls hl => ?_)
          refine lv_goto (tgt := 6) hx hb dX15_of_34 rfl ?_
          exact hJ6 _ _ _ _ _ h hw (lv_sub hl [2, 3, 4, 1, 0] rfl)
        · have h := h.2 c_3
          refine lv_iconst (v := 0) hx hb dX15_of_23 (by decide) ?_
          refine lv_goto (tgt := 28) hx hb dX15_of_24 rfl ?_
          refine lv_iadd hx hb dX15_of_28 ?_
          refine lv_istore (lv' := [(5, .int (x5 + 0)), (1, .int x1), (2, .int x2), (4, .ref a4), (6, .int x6)]) hx hb dX15_of_29 hl (by decide) rfl (fun ls hl => ?_)
          refine lv_iinc (v := x6 + 1) (lv' := [(6, .int (x6 + 1)), (5, .int (x5 + 0)), (1, .int x1), (2, .int x2), (4, .ref a4)]) hx hb dX15_of_31 hl (k := 4) rfl rfl (by decide) rfl (fun ls hl => ?_)
          refine lv_goto (tgt := 6) hx hb dX15_of_34 rfl ?_
          exact hJ6 _ _ _ _ _ h hw (lv_sub hl [2, 3, 4, 1, 0] rfl)
  exact key _ _ _ _ _ _ (Nat.lt_succ_self _) h0 hw hl
set_option maxHeartbeats 4000000 in
theorem mX15_of (l : Launch) (G : GT) (u : Hp) (a0 : Nat) (x1 : Int32) (x2 : Int32) (x3 : Int32) (a4 : Nat) (K : Int32 → Prop) (h : pX15_of u a0 x1 x2 x3 a4 K) : Met l yX15_of (ws_ yX15_of cX15_of 7 (some .int)) (rmX15_of 0 0) (va_Pc [.ref a0, .int x1, .int x2, .int x3, .ref a4] (GB G u)) (va_Qi (fun r v => v = u ∧ K r) (fun u t => GH G u t.heap) (GA G)) 0 0 (GA G) := by
  refine Met.ofW (cc := cX15_of) (maxL := 7) (ret := (some .int)) (by decide) rfl ?_
  intro p e s m args below meth c s₁ B hml hv
  obtain ⟨rfl, hv⟩ := hv
  have X := Mc_of (own := RX15) B hml rfl hv
  have hw : GW G u s s.heap [] := ⟨hv.2.1, va_S.rf⟩
  have hr := B.returns
  obtain ⟨hx, hb, hml, hown, hts, -⟩ := id X
  have hl := lv_entry ([.ref a0, .int x1, .int x2, .int x3, .ref a4]) (n := 7) (Nat.le_of_ble_eq_true rfl)
  rw [lg_entry_eq]
  generalize (lg_sl ([.ref a0, .int x1, .int x2, .int x3, .ref a4]) ++ List.replicate (7 - (lg_sl ([.ref a0, .int x1, .int x2, .int x3, .ref a4])).length) Slot.unset).toArray = ls at hl ⊢
  have hl : lv_has ls 7 [(0, .ref a0), (1, .int x1), (2, .int x2), (3, .int x3), (4, .ref a4)] := hl
  change W p l e (rmX15_of 0 0) s m _ below meth c s.heap [] 0 0 (QI G below (fun r v => v = u ∧ K r) _ s 0 0) (F0 m 0 ls [])
  unfold pX15_of at h
  refine lv_iconst (v := 0) hx hb dX15_of_0 (by decide) ?_
  refine lv_istore (lv' := [(5, .int 0), (0, .ref a0), (1, .int x1), (2, .int x2), (3, .int x3), (4, .ref a4)]) hx hb dX15_of_1 hl (by decide) rfl (fun ls hl => ?_)
  refine lv_iconst (v := 0) hx hb dX15_of_3 (by decide) ?_
  refine lv_istore (lv' := [(6, .int 0), (5, .int 0), (0, .ref a0), (1, .int x1), (2, .int x2), (3, .int x3), (4, .ref a4)]) hx hb dX15_of_4 hl (by decide) rfl (fun ls hl => ?_)
  exact wX15_of_6 X hr  h hw (lv_sub hl [3, 4, 6, 1, 0] rfl)

/-! FifthCard$KeptSum.of(IIILFifthCard$Trick;)I -/
theorem ydX16_of : yX16_of.cls = "FifthCard$KeptSum" ∧ yX16_of.cls ≠ "java/lang/invoke/MethodHandle" ∧ yX16_of.cls ≠ "java/lang/invoke/VarHandle" ∧ (parseMethodDescriptor yX16_of.desc).map (fun d => d.parameters.length) = some 4 := by decide +kernel
def rmX16_of (mc ms : Nat) : Room := { frames := 1, cells := mc, slots := ms, locals := 21 }
set_option maxHeartbeats 4000000 in
theorem wX16_of_6 {G : GT} {p : Program} {l : Launch} {e : Env} {s : State} {m : MethodId} {args : Array Value} {below : List Frame} {meth : Method} {c : Code} {H : Heap} {locs : List Loc} {ls : Array Slot} {x2 : Int32} {x3 : Int32} {a4 : Nat} {u : Hp} {x5 : Int32} {x6 : Int32} {K : Int32 → Prop} (X : Mc G p s m args meth c RX16 cX16_of 7) (hr : meth.sig.returnType = (some .int)) (h : jl2 (bX16_of_6 K x2 x3 a4 u) x5 x6) (hw : GW G u s H locs) (hl : lv_has ls 7 [(2, .int x2), (3, .int x3), (4, .ref a4), (5, .int x5), (6, .int x6)]) : W p l e (rmX16_of 0 0) s m args below meth c H locs 0 0 (QI G below (fun r v => v = u ∧ K r) args s 0 0) (F0 m 6 ls []) := by
  obtain ⟨hx, hb, hml, hown, hts, -⟩ := id X
  obtain ⟨I, μ, h0, hs⟩ := h
  have key : ∀ (n : Nat) (x5 : Int32) (x6 : Int32) (H : Heap) (locs : List Loc) (ls : Array Slot) , μ x5 x6 < n → I x5 x6 → GW G u s H locs → lv_has ls 7 [(2, .int x2), (3, .int x3), (4, .ref a4), (5, .int x5), (6, .int x6)] → W p l e (rmX16_of 0 0) s m args below meth c H locs 0 0 (QI G below (fun r v => v = u ∧ K r) args s 0 0) (F0 m 6 ls []) := by
    intro n
    induction n with
    | zero =>
      intro x5 x6 H locs ls hn
      exact absurd hn (Nat.not_lt_zero _)
    | succ n ih =>
      intro x5 x6 H locs ls hn hI hw hl
      have h := hs x5 x6 hI
      unfold bX16_of_6 at h
      have hJ6 : ∀ (x5' : Int32) (x6' : Int32) (H : Heap) (locs : List Loc) (ls : Array Slot) , (I x5' x6' ∧ μ x5' x6' < μ x5 x6) → GW G u s H locs → lv_has ls 7 [(2, .int x2), (3, .int x3), (4, .ref a4), (5, .int x5'), (6, .int x6')] → W p l e (rmX16_of 0 0) s m args below meth c H locs 0 0 (QI G below (fun r v => v = u ∧ K r) args s 0 0) (F0 m 6 ls []) := fun x5' x6' H locs ls h hw hl => ih x5' x6' H locs ls (Nat.lt_of_lt_of_le h.2 (Nat.le_of_lt_succ hn)) h.1 hw hl
      refine lv_iload hx hb dX16_of_6 (lv_at hl 4 rfl) ?_
      refine lv_aload hx hb dX16_of_8 (lv_at hl 2 rfl) ?_
      have hk_1 : kd u a4 = 17 := h.1
      have h := h.2
      refine g_getI X hw in_X20 hk_1 rfl 3 rfl (by decide) q568 (fun _ z => z) dX16_of_10 ?_
      refine lv_icmp_ge (tgt := 51) hx hb dX16_of_13 rfl (fun c_6 => ?_) (fun c_6 => ?_)
      · have h := h.1 c_6
        refine lv_iload hx hb dX16_of_51 (lv_at hl 3 rfl) ?_
        refine lv_aload hx hb dX16_of_53 (lv_at hl 2 rfl) ?_
        refine g_getI X hw in_X20 hk_1 rfl 3 rfl (by decide) q568 (fun _ z => z) dX16_of_55 ?_
        refine lv_irem hx hb dX16_of_58 h.1 ?_
        have h := h.2
        exact g_iret X hw hr ⟨rfl, h⟩ (Nat.le_refl _) (Nat.le_refl _) dX16_of_59
      · have h := h.2 c_6
        refine lv_iload hx hb dX16_of_16 (lv_at hl 3 rfl) ?_
        refine lv_iload_n hx hb dX16_of_18 rfl (lv_at hl 1 rfl) ?_
        refine lv_iload hx hb dX16_of_19 (lv_at hl 4 rfl) ?_
        refine g_callio hw (g_SN X hw (mX1_has l G _ _ _ _ h) 2 q939 q122 (List.mem_of_getElem? (i := 17) rfl) q938 rfl rfl ydX1_has ⟨Nat.le_of_ble_eq_true rfl, Nat.le_of_ble_eq_true rfl⟩ (As := [.int x3, .int x6]) (rest := [.int x5]) rfl hl.1 rfl (Nat.le_of_ble_eq_true rfl) dX16_of_21 ⟨Nat.le_refl _, Nat.le_refl _⟩) (fun r_2 H locs h hw => ?_)
        refine lv_if_eq (tgt := 41) hx hb dX16_of_24 rfl (fun c_5 => ?_) (fun c_5 => ?_)
        · have h := h.1 c_5
          refine lv_iconst (v := 0) hx hb dX16_of_41 (by decide) ?_
          refine lv_iadd hx hb dX16_of_42 ?_
          refine lv_istore (lv' := [(5, .int (x5 + 0)), (2, .int x2), (3, .int x3), (4, .ref a4), (6, .int x6)]) hx hb dX16_of_43 hl (by decide) rfl (fun ls hl => ?_)
          refine lv_iinc (v := x6 + 1) (lv' := [(6, .int (x6 + 1)), (5, .int (x5 + 0)), (2, .int x2), (3, .int x3), (4, .ref a4)]) hx hb dX16_of_45 hl (k := 4) rfl rfl (by decide) rfl (fun ls hl => ?_)
          refine lv_goto (tgt := 6) hx hb dX16_of_48 rfl ?_
          exact hJ6 _ _ _ _ _ h hw (lv_sub hl [2, 3, 4, 1, 0] rfl)
        · have h := h.2 c_5
          refine lv_iload_n hx hb dX16_of_27 rfl (lv_at hl 0 rfl) ?_
          refine lv_iload hx hb dX16_of_28 (lv_at hl 4 rfl) ?_
          refine g_callio hw (g_SN X hw (mX1_has l G _ _ _ _ h) 2 q939 q122 (List.mem_of_getElem? (i := 17) rfl) q938 rfl rfl ydX1_has ⟨Nat.le_of_ble_eq_true rfl, Nat.le_of_ble_eq_true rfl⟩ (As := [.int x2, .int x6]) (rest := [.int x5]) rfl hl.1 rfl (Nat.le_of_ble_eq_true rfl) dX16_of_30 ⟨Nat.le_refl _, Nat.le_refl _⟩) (fun r_3 H locs h hw => ?_)
          refine lv_if_ne (tgt := 41) hx hb dX16_of_33 rfl (fun c_4 => ?_) (fun c_4 => ?_)
          · have h := h.2 c_4
            refine lv_iconst (v := 0) hx hb dX16_of_41 (by decide) ?_
            refine lv_iadd hx hb dX16_of_42 ?_
            refine lv_istore (lv' := [(5, .int (x5 + 0)), (2, .int x2), (3, .int x3), (4, .ref a4), (6, .int x6)]) hx hb dX16_of_43 hl (by decide) rfl (fun ls hl => ?_)
            refine lv_iinc (v := x6 + 1) (lv' := [(6, .int (x6 + 1)), (5, .int (x5 + 0)), (2, .int x2), (3, .int x3), (4, .ref a4)]) hx hb dX16_of_45 hl (k := 4) rfl rfl (by decide) rfl (fun ls hl => ?_)
            refine lv_goto (tgt := 6) hx hb dX16_of_48 rfl ?_
            exact hJ6 _ _ _ _ _ h hw (lv_sub hl [2, 3, 4, 1, 0] rfl)
          · have h := h.1 c_4
            refine lv_iload hx hb dX16_of_36 (lv_at hl 4 rfl) ?_
            refine lv_goto (tgt := 42) hx hb dX16_of_38 rfl ?_
            refine lv_iadd hx hb dX16_of_42 ?_
            refine lv_istore (lv' := [(5, .int (x5 + x6)), (2, .int x2), (3, .int x3), (4, .ref a4), (6, .int x6)]) hx hb dX16_of_43 hl (by decide) rfl (fun ls hl => ?_)
            refine lv_iinc (v := x6 + 1) (lv' := [(6, .int (x6 + 1)), (5, .int (x5 + x6)), (2, .int x2), (3, .int x3), (4, .ref a4)]) hx hb dX16_of_45 hl (k := 4) rfl rfl (by decide) rfl (fun ls hl => ?_)
            refine lv_goto (tgt := 6) hx hb dX16_of_48 rfl ?_
            exact hJ6 _ _ _ _ _ h hw (lv_sub hl [2, 3, 4, 1, 0] rfl)
  exact key _ _ _ _ _ _ (Nat.lt_succ_self _) h0 hw hl
set_option maxHeartbeats 4000000 in
theorem mX16_of (l : Launch) (G : GT) (u : Hp) (a0 : Nat) (x1 : Int32) (x2 : Int32) (x3 : Int32) (a4 : Nat) (K : Int32 → Prop) (h : pX16_of u a0 x1 x2 x3 a4 K) : Met l yX16_of (ws_ yX16_of cX16_of 7 (some .int)) (rmX16_of 0 0) (va_Pc [.ref a0, .int x1, .int x2, .int x3, .ref a4] (GB G u)) (va_Qi (fun r v => v = u ∧ K r) (fun u t => GH G u t.heap) (GA G)) 0 0 (GA G) := by
  refine Met.ofW (cc := cX16_of) (maxL := 7) (ret := (some .int)) (by decide) rfl ?_
  intro p e s m args below meth c s₁ B hml hv
  obtain ⟨rfl, hv⟩ := hv
  have X := Mc_of (own := RX16) B hml rfl hv
  have hw : GW G u s s.heap [] := ⟨hv.2.1, va_S.rf⟩
  have hr := B.returns
  obtain ⟨hx, hb, hml, hown, hts, -⟩ := id X
  have hl := lv_entry ([.ref a0, .int x1, .int x2, .int x3, .ref a4]) (n := 7) (Nat.le_of_ble_eq_true rfl)
  rw [lg_entry_eq]
  generalize (lg_sl ([.ref a0, .int x1, .int x2, .int x3, .ref a4]) ++ List.replicate (7 - (lg_sl ([.ref a0, .int x1, .int x2, .int x3, .ref a4])).length) Slot.unset).toArray = ls at hl ⊢
  have hl : lv_has ls 7 [(0, .ref a0), (1, .int x1), (2, .int x2), (3, .int x3), (4, .ref a4)] := hl
  change W p l e (rmX16_of 0 0) s m _ below meth c s.heap [] 0 0 (QI G below (fun r v => v = u ∧ K r) _ s 0 0) (F0 m 0 ls [])
  unfold pX16_of at h
  refine lv_iconst (v := 0) hx hb dX16_of_0 (by decide) ?_
  refine lv_istore (lv' := [(5, .int 0), (0, .ref a0), (1, .int x1), (2, .int x2), (3, .int x3), (4, .ref a4)]) hx hb dX16_of_1 hl (by decide) rfl (fun ls hl => ?_)
  refine lv_iconst (v := 0) hx hb dX16_of_3 (by decide) ?_
  refine lv_istore (lv' := [(6, .int 0), (5, .int 0), (0, .ref a0), (1, .int x1), (2, .int x2), (3, .int x3), (4, .ref a4)]) hx hb dX16_of_4 hl (by decide) rfl (fun ls hl => ?_)
  exact wX16_of_6 X hr  h hw (lv_sub hl [4, 5, 6, 1, 0] rfl)

/-! FifthCard.arrange([IIII[I)V -/
theorem ydX1_arrange : yX1_arrange.cls = "FifthCard" ∧ yX1_arrange.cls ≠ "java/lang/invoke/MethodHandle" ∧ yX1_arrange.cls ≠ "java/lang/invoke/VarHandle" ∧ (parseMethodDescriptor yX1_arrange.desc).map (fun d => d.parameters.length) = some 5 := by decide +kernel
def rmX1_arrange (mc ms : Nat) : Room := { frames := 2, cells := mc, slots := ms, locals := 44 }
set_option maxHeartbeats 4000000 in
theorem wX1_arrange_58 {G : GT} {p : Program} {l : Launch} {e : Env} {s : State} {m : MethodId} {args : Array Value} {below : List Frame} {meth : Method} {c : Code} {H : Heap} {locs : List Loc} {ls : Array Slot} {a0 : Nat} {x1 : Int32} {x2 : Int32} {a4 : Nat} {x5 : Int32} {x6 : Int32} {x7 : Int32} {x9 : Int32} {x10 : Int32} {u : Hp} {K : Hp → Prop} {J9 : Int32 → Int32 → Int32 → Hp → Prop} {J43 : Int32 → Int32 → Prop} (X : Mc G p s m args meth c RX1 cX1_arrange 11) (hr : meth.sig.returnType = none) (hJ9 : ∀ (x5 : Int32) (x6 : Int32) (x7 : Int32) (u : Hp) (H : Heap) (locs : List Loc) (ls : Array Slot) , J9 x5 x6 x7 u → GW G u s H locs → lv_has ls 11 [(0, .ref a0), (1, .int x1), (2, .int x2), (4, .ref a4), (5, .int x5), (6, .int x6), (7, .int x7)] → W p l e (rmX1_arrange 0 0) s m args below meth c H locs 0 0 (QV G below K args s 0 0) (F0 m 9 ls [])) (hJ43 : ∀ (x9 : Int32) (x10 : Int32) (H : Heap) (locs : List Loc) (ls : Array Slot) , J43 x9 x10 → GW G u s H locs → lv_has ls 11 [(0, .ref a0), (1, .int x1), (2, .int x2), (4, .ref a4), (5, .int x5), (6, .int x6), (7, .int x7), (9, .int x9), (10, .int x10)] → W p l e (rmX1_arrange 0 0) s m args below meth c H locs 0 0 (QV G below K args s 0 0) (F0 m 43 ls [])) (h : bX1_arrange_58 K J9 J43 a0 x1 x2 a4 x5 x6 x7 x9 x10 u) (hw : GW G u s H locs) (hl : lv_has ls 11 [(0, .ref a0), (1, .int x1), (2, .int x2), (4, .ref a4), (5, .int x5), (6, .int x6), (7, .int x7), (9, .int x9), (10, .int x10)]) : W p l e (rmX1_arrange 0 0) s m args below meth c H locs 0 0 (QV G below K args s 0 0) (F0 m 58 ls []) := by
  obtain ⟨hx, hb, hml, hown, hts, -⟩ := id X
  unfold bX1_arrange_58 at h
  refine lv_iload hx hb dX1_arrange_58 (lv_at hl 7 rfl) ?_
  refine lv_iload hx hb dX1_arrange_60 (lv_at hl 4 rfl) ?_
  refine lv_iload hx hb dX1_arrange_62 (lv_at hl 8 rfl) ?_
  refine g_callio hw (g_S X hw (mX1_has l G _ _ _ _ h) 2 (lw_S q1125 q938 q122 q939) rfl rfl ydX1_has ⟨Nat.le_of_ble_eq_true rfl, Nat.le_of_ble_eq_true rfl⟩ (As := [.int x5, .int x10]) (rest := [.int x9]) rfl hl.1 rfl (Nat.le_of_ble_eq_true rfl) dX1_arrange_64 ⟨Nat.le_refl _, Nat.le_refl _⟩) (fun r_1 H locs h hw => ?_)
  refine lv_if_eq (tgt := 74) hx hb dX1_arrange_67 rfl (fun c_2 => ?_) (fun c_2 => ?_)
  · have h := h.1 c_2
    refine lv_iconst (v := 1) hx hb dX1_arrange_74 (by decide) ?_
    refine lv_isub hx hb dX1_arrange_75 ?_
    refine lv_istore (lv' := [(9, .int (x9 - 1)), (0, .ref a0), (1, .int x1), (2, .int x2), (4, .ref a4), (5, .int x5), (6, .int x6), (7, .int x7), (10, .int x10)]) hx hb dX1_arrange_76 hl (by decide) rfl (fun ls hl => ?_)
    refine lv_iinc (v := x10 + 1) (lv' := [(10, .int (x10 + 1)), (9, .int (x9 - 1)), (0, .ref a0), (1, .int x1), (2, .int x2), (4, .ref a4), (5, .int x5), (6, .int x6), (7, .int x7)]) hx hb dX1_arrange_78 hl (k := 8) rfl rfl (by decide) rfl (fun ls hl => ?_)
    refine lv_goto (tgt := 43) hx hb dX1_arrange_81 rfl ?_
    exact hJ43 _ _ _ _ _ h hw (lv_sub hl [2, 3, 4, 5, 6, 7, 8, 1, 0] rfl)
  · have h := h.2 c_2
    refine lv_iconst (v := 0) hx hb dX1_arrange_70 (by decide) ?_
    refine lv_goto (tgt := 75) hx hb dX1_arrange_71 rfl ?_
    refine lv_isub hx hb dX1_arrange_75 ?_
    refine lv_istore (lv' := [(9, .int (x9 - 0)), (0, .ref a0), (1, .int x1), (2, .int x2), (4, .ref a4), (5, .int x5), (6, .int x6), (7, .int x7), (10, .int x10)]) hx hb dX1_arrange_76 hl (by decide) rfl (fun ls hl => ?_)
    refine lv_iinc (v := x10 + 1) (lv' := [(10, .int (x10 + 1)), (9, .int (x9 - 0)), (0, .ref a0), (1, .int x1), (2, .int x2), (4, .ref a4), (5, .int x5), (6, .int x6), (7, .int x7)]) hx hb dX1_arrange_78 hl (k := 8) rfl rfl (by decide) rfl (fun ls hl => ?_)
    refine lv_goto (tgt := 43) hx hb dX1_arrange_81 rfl ?_
    exact hJ43 _ _ _ _ _ h hw (lv_sub hl [2, 3, 4, 5, 6, 7, 8, 1, 0] rfl)
set_option maxHeartbeats 4000000 in
theorem wX1_arrange_43 {G : GT} {p : Program} {l : Launch} {e : Env} {s : State} {m : MethodId} {args : Array Value} {below : List Frame} {meth : Method} {c : Code} {H : Heap} {locs : List Loc} {ls : Array Slot} {a0 : Nat} {x1 : Int32} {x2 : Int32} {a4 : Nat} {x5 : Int32} {x6 : Int32} {x7 : Int32} {u : Hp} {x9 : Int32} {x10 : Int32} {K : Hp → Prop} {J9 : Int32 → Int32 → Int32 → Hp → Prop} (X : Mc G p s m args meth c RX1 cX1_arrange 11) (hr : meth.sig.returnType = none) (hJ9 : ∀ (x5 : Int32) (x6 : Int32) (x7 : Int32) (u : Hp) (H : Heap) (locs : List Loc) (ls : Array Slot) , J9 x5 x6 x7 u → GW G u s H locs → lv_has ls 11 [(0, .ref a0), (1, .int x1), (2, .int x2), (4, .ref a4), (5, .int x5), (6, .int x6), (7, .int x7)] → W p l e (rmX1_arrange 0 0) s m args below meth c H locs 0 0 (QV G below K args s 0 0) (F0 m 9 ls [])) (h : jl2 (bX1_arrange_43 K J9 a0 x1 x2 a4 x5 x6 x7 u) x9 x10) (hw : GW G u s H locs) (hl : lv_has ls 11 [(0, .ref a0), (1, .int x1), (2, .int x2), (4, .ref a4), (5, .int x5), (6, .int x6), (7, .int x7), (9, .int x9), (10, .int x10)]) : W p l e (rmX1_arrange 0 0) s m args below meth c H locs 0 0 (QV G below K args s 0 0) (F0 m 43 ls []) := by
  obtain ⟨hx, hb, hml, hown, hts, -⟩ := id X
  obtain ⟨I, μ, h0, hs⟩ := h
  have key : ∀ (n : Nat) (x9 : Int32) (x10 : Int32) (H : Heap) (locs : List Loc) (ls : Array Slot) , μ x9 x10 < n → I x9 x10 → GW G u s H locs → lv_has ls 11 [(0, .ref a0), (1, .int x1), (2, .int x2), (4, .ref a4), (5, .int x5), (6, .int x6), (7, .int x7), (9, .int x9), (10, .int x10)] → W p l e (rmX1_arrange 0 0) s m args below meth c H locs 0 0 (QV G below K args s 0 0) (F0 m 43 ls []) := by
    intro n
    induction n with
    | zero =>
      intro x9 x10 H locs ls hn
      exact absurd hn (Nat.not_lt_zero _)
    | succ n ih =>
      intro x9 x10 H locs ls hn hI hw hl
      have h := hs x9 x10 hI
      unfold bX1_arrange_43 at h
      have hJ43 : ∀ (x9' : Int32) (x10' : Int32) (H : Heap) (locs : List Loc) (ls : Array Slot) , (I x9' x10' ∧ μ x9' x10' < μ x9 x10) → GW G u s H locs → lv_has ls 11 [(0, .ref a0), (1, .int x1), (2, .int x2), (4, .ref a4), (5, .int x5), (6, .int x6), (7, .int x7), (9, .int x9'), (10, .int x10')] → W p l e (rmX1_arrange 0 0) s m args below meth c H locs 0 0 (QV G below K args s 0 0) (F0 m 43 ls []) := fun x9' x10' H locs ls h hw hl => ih x9' x10' H locs ls (Nat.lt_of_lt_of_le h.2 (Nat.le_of_lt_succ hn)) h.1 hw hl
      refine lv_iload hx hb dX1_arrange_43 (lv_at hl 4 rfl) ?_
      refine lv_iload hx hb dX1_arrange_45 (lv_at hl 8 rfl) ?_
      refine g_callio hw (g_S X hw (mX1_has l G _ _ _ _ h) 2 (lw_S q1125 q938 q122 q939) rfl rfl ydX1_has ⟨Nat.le_of_ble_eq_true rfl, Nat.le_of_ble_eq_true rfl⟩ (As := [.int x5, .int x10]) (rest := []) rfl hl.1 rfl (Nat.le_of_ble_eq_true rfl) dX1_arrange_47 ⟨Nat.le_refl _, Nat.le_refl _⟩) (fun r_3 H locs h hw => ?_)
      refine lv_if_ne (tgt := 58) hx hb dX1_arrange_50 rfl (fun c_7 => ?_) (fun c_7 => ?_)
      · have h := h.2 c_7
        exact wX1_arrange_58 X hr hJ9 hJ43  h hw (lv_sub hl [0, 1, 2, 3, 4, 5, 6, 7, 8] rfl)
      · have h := h.1 c_7
        refine lv_iload hx hb dX1_arrange_53 (lv_at hl 7 rfl) ?_
        refine lv_if_le (tgt := 84) hx hb dX1_arrange_55 rfl (fun c_6 => ?_) (fun c_6 => ?_)
        · have h := h.1 c_6
          refine lv_aload hx hb dX1_arrange_84 (lv_at hl 3 rfl) ?_
          refine lv_iload_n hx hb dX1_arrange_86 rfl (lv_at hl 1 rfl) ?_
          refine lv_iload hx hb dX1_arrange_87 (lv_at hl 6 rfl) ?_
          refine lv_iadd hx hb dX1_arrange_89 ?_
          refine lv_aload_n hx hb dX1_arrange_90 rfl (lv_at hl 0 rfl) ?_
          refine lv_iload hx hb dX1_arrange_91 (lv_at hl 8 rfl) ?_
          have hk_4 : kd u a0 = 101 := h.1
          have h := h.2
          refine g_iald X hw hk_4 h.1 dX1_arrange_93 ?_
          have h := h.2
          have hk_5 : kd u a4 = 101 := h.1
          have h := h.2
          refine g_iast X hw hk_5 h.1 dX1_arrange_94 (fun H locs hw => ?_)
          have h := h.2
          refine lv_iload hx hb dX1_arrange_95 (lv_at hl 4 rfl) ?_
          refine lv_iconst (v := 1) hx hb dX1_arrange_97 (by decide) ?_
          refine lv_iload hx hb dX1_arrange_98 (lv_at hl 8 rfl) ?_
          refine lv_ishl hx hb dX1_arrange_100 ?_
          refine lv_ior hx hb dX1_arrange_101 ?_
          refine lv_istore (lv' := [(5, .int (x5 ||| (jshl 1 x10))), (0, .ref a0), (1, .int x1), (2, .int x2), (4, .ref a4), (6, .int x6), (7, .int x7), (9, .int x9), (10, .int x10)]) hx hb dX1_arrange_102 hl (by decide) rfl (fun ls hl => ?_)
          refine lv_iinc (v := x7 + 1) (lv' := [(7, .int (x7 + 1)), (5, .int (x5 ||| (jshl 1 x10))), (0, .ref a0), (1, .int x1), (2, .int x2), (4, .ref a4), (6, .int x6), (9, .int x9), (10, .int x10)]) hx hb dX1_arrange_104 hl (k := 6) rfl rfl (by decide) rfl (fun ls hl => ?_)
          refine lv_goto (tgt := 9) hx hb dX1_arrange_107 rfl ?_
          exact hJ9 _ _ _ _ _ _ _ h hw (lv_sub hl [2, 3, 4, 5, 1, 6, 0] rfl)
        · have h := h.2 c_6
          exact wX1_arrange_58 X hr hJ9 hJ43  h hw (lv_sub hl [0, 1, 2, 3, 4, 5, 6, 7, 8] rfl)
  exact key _ _ _ _ _ _ (Nat.lt_succ_self _) h0 hw hl
set_option maxHeartbeats 4000000 in
theorem wX1_arrange_9 {G : GT} {p : Program} {l : Launch} {e : Env} {s : State} {m : MethodId} {args : Array Value} {below : List Frame} {meth : Method} {c : Code} {H : Heap} {locs : List Loc} {ls : Array Slot} {a0 : Nat} {x1 : Int32} {x2 : Int32} {a4 : Nat} {x5 : Int32} {x6 : Int32} {x7 : Int32} {u : Hp} {K : Hp → Prop} (X : Mc G p s m args meth c RX1 cX1_arrange 11) (hr : meth.sig.returnType = none) (h : jl4 (bX1_arrange_9 K a0 x1 x2 a4) x5 x6 x7 u) (hw : GW G u s H locs) (hl : lv_has ls 11 [(0, .ref a0), (1, .int x1), (2, .int x2), (4, .ref a4), (5, .int x5), (6, .int x6), (7, .int x7)]) : W p l e (rmX1_arrange 0 0) s m args below meth c H locs 0 0 (QV G below K args s 0 0) (F0 m 9 ls []) := by
  obtain ⟨hx, hb, hml, hown, hts, -⟩ := id X
  obtain ⟨I, μ, h0, hs⟩ := h
  have key : ∀ (n : Nat) (x5 : Int32) (x6 : Int32) (x7 : Int32) (u : Hp) (H : Heap) (locs : List Loc) (ls : Array Slot) , μ x5 x6 x7 u < n → I x5 x6 x7 u → GW G u s H locs → lv_has ls 11 [(0, .ref a0), (1, .int x1), (2, .int x2), (4, .ref a4), (5, .int x5), (6, .int x6), (7, .int x7)] → W p l e (rmX1_arrange 0 0) s m args below meth c H locs 0 0 (QV G below K args s 0 0) (F0 m 9 ls []) := by
    intro n
    induction n with
    | zero =>
      intro x5 x6 x7 u H locs ls hn
      exact absurd hn (Nat.not_lt_zero _)
    | succ n ih =>
      intro x5 x6 x7 u H locs ls hn hI hw hl
      have h := hs x5 x6 x7 u hI
      unfold bX1_arrange_9 at h
      have hJ9 : ∀ (x5' : Int32) (x6' : Int32) (x7' : Int32) (u' : Hp) (H : Heap) (locs : List Loc) (ls : Array Slot) , (I x5' x6' x7' u' ∧ μ x5' x6' x7' u' < μ x5 x6 x7 u) → GW G u' s H locs → lv_has ls 11 [(0, .ref a0), (1, .int x1), (2, .int x2), (4, .ref a4), (5, .int x5'), (6, .int x6'), (7, .int x7')] → W p l e (rmX1_arrange 0 0) s m args below meth c H locs 0 0 (QV G below K args s 0 0) (F0 m 9 ls []) := fun x5' x6' x7' u' H locs ls h hw hl => ih x5' x6' x7' u' H locs ls (Nat.lt_of_lt_of_le h.2 (Nat.le_of_lt_succ hn)) h.1 hw hl
      refine lv_iload hx hb dX1_arrange_9 (lv_at hl 6 rfl) ?_
      refine lv_iload_n hx hb dX1_arrange_11 rfl (lv_at hl 2 rfl) ?_
      refine lv_icmp_ge (tgt := 110) hx hb dX1_arrange_12 rfl (fun c_9 => ?_) (fun c_9 => ?_)
      · have h := h.1 c_9
        exact g_vret X hw hr h (Nat.le_refl _) (Nat.le_refl _) dX1_arrange_110
      · have h := h.2 c_9
        refine lv_iload_n hx hb dX1_arrange_15 rfl (lv_at hl 2 rfl) ?_
        refine lv_iconst (v := 1) hx hb dX1_arrange_16 (by decide) ?_
        refine lv_isub hx hb dX1_arrange_17 ?_
        refine lv_iload hx hb dX1_arrange_18 (lv_at hl 6 rfl) ?_
        refine lv_isub hx hb dX1_arrange_20 ?_
        refine g_callio hw (g_S X hw (mX1_factorial l G _ _ _ h) 1 (lw_S q1173 q851 q122 q852) rfl rfl ydX1_factorial ⟨Nat.le_of_ble_eq_true rfl, Nat.le_of_ble_eq_true rfl⟩ (As := [.int ((x2 - 1) - x7)]) (rest := []) rfl hl.1 rfl (Nat.le_of_ble_eq_true rfl) dX1_arrange_21 ⟨Nat.le_refl _, Nat.le_refl _⟩) (fun r_8 H locs h hw => ?_)
        refine lv_istore (lv' := [(8, .int r_8), (0, .ref a0), (1, .int x1), (2, .int x2), (4, .ref a4), (5, .int x5), (6, .int x6), (7, .int x7)]) hx hb dX1_arrange_24 hl (by decide) rfl (fun ls hl => ?_)
        refine lv_iload hx hb dX1_arrange_26 (lv_at hl 6 rfl) ?_
        refine lv_iload hx hb dX1_arrange_28 (lv_at hl 0 rfl) ?_
        refine lv_idiv hx hb dX1_arrange_30 h.1 ?_
        have h := h.2
        refine lv_istore (lv' := [(9, .int (x6 / r_8)), (8, .int r_8), (0, .ref a0), (1, .int x1), (2, .int x2), (4, .ref a4), (5, .int x5), (6, .int x6), (7, .int x7)]) hx hb dX1_arrange_31 hl (by decide) rfl (fun ls hl => ?_)
        refine lv_iload hx hb dX1_arrange_33 (lv_at hl 7 rfl) ?_
        refine lv_iload hx hb dX1_arrange_35 (lv_at hl 1 rfl) ?_
        refine lv_irem hx hb dX1_arrange_37 h.1 ?_
        have h := h.2
        refine lv_istore (lv' := [(6, .int (jrem x6 r_8)), (9, .int (x6 / r_8)), (8, .int r_8), (0, .ref a0), (1, .int x1), (2, .int x2), (4, .ref a4), (5, .int x5), (7, .int x7)]) hx hb dX1_arrange_38 hl (by decide) rfl (fun ls hl => ?_)
        refine lv_iconst (v := 0) hx hb dX1_arrange_40 (by decide) ?_
        refine lv_istore (lv' := [(10, .int 0), (6, .int (jrem x6 r_8)), (9, .int (x6 / r_8)), (8, .int r_8), (0, .ref a0), (1, .int x1), (2, .int x2), (4, .ref a4), (5, .int x5), (7, .int x7)]) hx hb dX1_arrange_41 hl (by decide) rfl (fun ls hl => ?_)
        exact wX1_arrange_43 X hr hJ9  h hw (lv_sub hl [4, 5, 6, 7, 8, 1, 9, 2, 0] rfl)
  exact key _ _ _ _ _ _ _ _ (Nat.lt_succ_self _) h0 hw hl
set_option maxHeartbeats 4000000 in
theorem mX1_arrange (l : Launch) (G : GT) (u : Hp) (a0 : Nat) (x1 : Int32) (x2 : Int32) (x3 : Int32) (a4 : Nat) (K : Hp → Prop) (h : pX1_arrange u a0 x1 x2 x3 a4 K) : Met l yX1_arrange (ws_ yX1_arrange cX1_arrange 11 none) (rmX1_arrange 0 0) (va_Pc [.ref a0, .int x1, .int x2, .int x3, .ref a4] (GB G u)) (va_Qv K (fun u t => GH G u t.heap) (GA G)) 0 0 (GA G) := by
  refine Met.ofW (cc := cX1_arrange) (maxL := 11) (ret := none) (by decide) rfl ?_
  intro p e s m args below meth c s₁ B hml hv
  obtain ⟨rfl, hv⟩ := hv
  have X := Mc_of (own := RX1) B hml rfl hv
  have hw : GW G u s s.heap [] := ⟨hv.2.1, va_S.rf⟩
  have hr := B.returns
  obtain ⟨hx, hb, hml, hown, hts, -⟩ := id X
  have hl := lv_entry ([.ref a0, .int x1, .int x2, .int x3, .ref a4]) (n := 11) (Nat.le_of_ble_eq_true rfl)
  rw [lg_entry_eq]
  generalize (lg_sl ([.ref a0, .int x1, .int x2, .int x3, .ref a4]) ++ List.replicate (11 - (lg_sl ([.ref a0, .int x1, .int x2, .int x3, .ref a4])).length) Slot.unset).toArray = ls at hl ⊢
  have hl : lv_has ls 11 [(0, .ref a0), (1, .int x1), (2, .int x2), (3, .int x3), (4, .ref a4)] := hl
  change W p l e (rmX1_arrange 0 0) s m _ below meth c s.heap [] 0 0 (QV G below K _ s 0 0) (F0 m 0 ls [])
  unfold pX1_arrange at h
  refine lv_iconst (v := 0) hx hb dX1_arrange_0 (by decide) ?_
  refine lv_istore (lv' := [(5, .int 0), (0, .ref a0), (1, .int x1), (2, .int x2), (3, .int x3), (4, .ref a4)]) hx hb dX1_arrange_1 hl (by decide) rfl (fun ls hl => ?_)
  refine lv_iload_n hx hb dX1_arrange_3 rfl (lv_at hl 4 rfl) ?_
  refine lv_istore (lv' := [(6, .int x3), (5, .int 0), (0, .ref a0), (1, .int x1), (2, .int x2), (3, .int x3), (4, .ref a4)]) hx hb dX1_arrange_4 hl (by decide) rfl (fun ls hl => ?_)
  refine lv_iconst (v := 0) hx hb dX1_arrange_6 (by decide) ?_
  refine lv_istore (lv' := [(7, .int 0), (6, .int x3), (5, .int 0), (0, .ref a0), (1, .int x1), (2, .int x2), (3, .int x3), (4, .ref a4)]) hx hb dX1_arrange_7 hl (by decide) rfl (fun ls hl => ?_)
  exact wX1_arrange_9 X hr  h hw (lv_sub hl [3, 4, 5, 7, 2, 1, 0] rfl)

/-! FifthCard$Spoken.lay([ILFifthCard$Trick;)I -/
theorem ydX18_lay : yX18_lay.cls = "FifthCard$Spoken" ∧ yX18_lay.cls ≠ "java/lang/invoke/MethodHandle" ∧ yX18_lay.cls ≠ "java/lang/invoke/VarHandle" ∧ (parseMethodDescriptor yX18_lay.desc).map (fun d => d.parameters.length) = some 2 := by decide +kernel
def rmX18_lay (mc ms : Nat) : Room := { frames := 3, cells := mc, slots := ms, locals := 74 }
set_option maxHeartbeats 4000000 in
theorem wX18_lay_218 {G : GT} {p : Program} {l : Launch} {e : Env} {s : State} {m : MethodId} {args : Array Value} {below : List Frame} {meth : Method} {c : Code} {H : Heap} {locs : List Loc} {ls : Array Slot} {a0 : Nat} {a2 : Nat} {x7 : Int32} {x8 : Int32} {u : Hp} {K : Int32 → Hp → Prop} (X : Mc G p s m args meth c RX18 cX18_lay 10) (hr : meth.sig.returnType = (some .int)) (h : bX18_lay_218 K a0 a2 x7 x8 u) (hw : GW G u s H locs) (hl : lv_has ls 10 [(0, .ref a0), (2, .ref a2), (7, .int x7), (8, .int x8)]) : W p l e (rmX18_lay 0 0) s m args below meth c H locs 0 0 (QI G below K args s 0 0) (F0 m 218 ls []) := by
  obtain ⟨hx, hb, hml, hown, hts, -⟩ := id X
  unfold bX18_lay_218 at h
  refine lv_aload_n hx hb dX18_lay_218 rfl (lv_at hl 1 rfl) ?_
  refine lv_aload_n hx hb dX18_lay_219 rfl (lv_at hl 0 rfl) ?_
  have hk_1 : kd u a0 = 15 := h.1
  have h := h.2
  obtain ⟨b_2, e_3, h⟩ := h
  refine g_getR X hw in_X18 hk_1 rfl 8 rfl (by decide) q444 (fun _ z => z) e_3 dX18_lay_220 ?_
  refine lv_iload hx hb dX18_lay_223 (lv_at hl 3 rfl) ?_
  have hk_4 : kd u a2 = 17 := h.1
  have h := h.2
  refine g_callio hw (g_V X hw (mX20_rank l G _ _ _ _ _ h) 2 (lw_V q1167 q941 q942 q144 q943) rfl rfl ydX20_rank ⟨Nat.le_of_ble_eq_true rfl, Nat.le_of_ble_eq_true rfl⟩ (g_recv X hw (ci := 16) (q := (RX20, TX20, 13)) hk_4 rfl) (As := [.ref b_2, .int x8]) (rest := []) rfl hl.1 rfl (Nat.le_of_ble_eq_true rfl) dX18_lay_225 ⟨Nat.le_refl _, Nat.le_refl _⟩) (fun r_5 H locs h hw => ?_)
  refine lv_aload_n hx hb dX18_lay_228 rfl (lv_at hl 1 rfl) ?_
  refine g_callio hw (g_V X hw (mX20_tiltings l G _ _ _ h) 0 (lw_V q1168 q954 q955 q144 q956) rfl rfl ydX20_tiltings ⟨Nat.le_of_ble_eq_true rfl, Nat.le_of_ble_eq_true rfl⟩ (g_recv X hw (ci := 16) (q := (RX20, TX20, 13)) hk_4 rfl) (As := []) (rest := [.int r_5]) rfl hl.1 rfl (Nat.le_of_ble_eq_true rfl) dX18_lay_229 ⟨Nat.le_refl _, Nat.le_refl _⟩) (fun r_6 H locs h hw => ?_)
  refine lv_imul hx hb dX18_lay_232 ?_
  refine lv_iload hx hb dX18_lay_233 (lv_at hl 2 rfl) ?_
  refine lv_aload_n hx hb dX18_lay_235 rfl (lv_at hl 1 rfl) ?_
  refine g_callio hw (g_V X hw (mX20_tiltings l G _ _ _ h) 0 (lw_V q1168 q954 q955 q144 q956) rfl rfl ydX20_tiltings ⟨Nat.le_of_ble_eq_true rfl, Nat.le_of_ble_eq_true rfl⟩ (g_recv X hw (ci := 16) (q := (RX20, TX20, 13)) hk_4 rfl) (As := []) (rest := [.int x7, .int (r_5 * r_6)]) rfl hl.1 rfl (Nat.le_of_ble_eq_true rfl) dX18_lay_236 ⟨Nat.le_refl _, Nat.le_refl _⟩) (fun r_7 H locs h hw => ?_)
  refine lv_irem hx hb dX18_lay_239 h.1 ?_
  have h := h.2
  refine lv_iadd hx hb dX18_lay_240 ?_
  exact g_iret X hw hr h (Nat.le_refl _) (Nat.le_refl _) dX18_lay_241
set_option maxHeartbeats 4000000 in
theorem wX18_lay_160 {G : GT} {p : Program} {l : Launch} {e : Env} {s : State} {m : MethodId} {args : Array Value} {below : List Frame} {meth : Method} {c : Code} {H : Heap} {locs : List Loc} {ls : Array Slot} {a0 : Nat} {a1 : Nat} {a2 : Nat} {x6 : Int32} {x7 : Int32} {x8 : Int32} {x9 : Int32} {u : Hp} {K : Int32 → Hp → Prop} (X : Mc G p s m args meth c RX18 cX18_lay 10) (hr : meth.sig.returnType = (some .int)) (h : jl3 (bX18_lay_160 K a0 a1 a2 x6 x7) x8 x9 u) (hw : GW G u s H locs) (hl : lv_has ls 10 [(0, .ref a0), (1, .ref a1), (2, .ref a2), (6, .int x6), (7, .int x7), (8, .int x8), (9, .int x9)]) : W p l e (rmX18_lay 0 0) s m args below meth c H locs 0 0 (QI G below K args s 0 0) (F0 m 160 ls []) := by
  obtain ⟨hx, hb, hml, hown, hts, -⟩ := id X
  obtain ⟨I, μ, h0, hs⟩ := h
  have key : ∀ (n : Nat) (x8 : Int32) (x9 : Int32) (u : Hp) (H : Heap) (locs : List Loc) (ls : Array Slot) , μ x8 x9 u < n → I x8 x9 u → GW G u s H locs → lv_has ls 10 [(0, .ref a0), (1, .ref a1), (2, .ref a2), (6, .int x6), (7, .int x7), (8, .int x8), (9, .int x9)] → W p l e (rmX18_lay 0 0) s m args below meth c H locs 0 0 (QI G below K args s 0 0) (F0 m 160 ls []) := by
    intro n
    induction n with
    | zero =>
      intro x8 x9 u H locs ls hn
      exact absurd hn (Nat.not_lt_zero _)
    | succ n ih =>
      intro x8 x9 u H locs ls hn hI hw hl
      have h := hs x8 x9 u hI
      unfold bX18_lay_160 at h
      have hJ160 : ∀ (x8' : Int32) (x9' : Int32) (u' : Hp) (H : Heap) (locs : List Loc) (ls : Array Slot) , (I x8' x9' u' ∧ μ x8' x9' u' < μ x8 x9 u) → GW G u' s H locs → lv_has ls 10 [(0, .ref a0), (1, .ref a1), (2, .ref a2), (6, .int x6), (7, .int x7), (8, .int x8'), (9, .int x9')] → W p l e (rmX18_lay 0 0) s m args below meth c H locs 0 0 (QI G below K args s 0 0) (F0 m 160 ls []) := fun x8' x9' u' H locs ls h hw hl => ih x8' x9' u' H locs ls (Nat.lt_of_lt_of_le h.2 (Nat.le_of_lt_succ hn)) h.1 hw hl
      refine lv_iload hx hb dX18_lay_160 (lv_at hl 6 rfl) ?_
      refine lv_aload_n hx hb dX18_lay_162 rfl (lv_at hl 2 rfl) ?_
      have hk_8 : kd u a2 = 17 := h.1
      have h := h.2
      refine g_getI X hw in_X20 hk_8 rfl 5 rfl (by decide) q582 (fun _ z => z) dX18_lay_163 ?_
      refine lv_icmp_ge (tgt := 204) hx hb dX18_lay_166 rfl (fun c_32 => ?_) (fun c_32 => ?_)
      · have h := h.1 c_32
        refine lv_aload_n hx hb dX18_lay_204 rfl (lv_at hl 2 rfl) ?_
        refine g_getI X hw in_X20 hk_8 rfl 9 rfl (by decide) q599 (fun _ z => z) dX18_lay_205 ?_
        refine lv_if_ne (tgt := 218) hx hb dX18_lay_208 rfl (fun c_24 => ?_) (fun c_24 => ?_)
        · have h := h.2 c_24
          exact wX18_lay_218 X hr  h hw (lv_sub hl [0, 2, 4, 5] rfl)
        · have h := h.1 c_24
          refine lv_aload_n hx hb dX18_lay_211 rfl (lv_at hl 2 rfl) ?_
          refine g_getI X hw in_X20 hk_8 rfl 10 rfl (by decide) q605 (fun _ z => z) dX18_lay_212 ?_
          refine lv_if_eq (tgt := 242) hx hb dX18_lay_215 rfl (fun c_23 => ?_) (fun c_23 => ?_)
          · have h := h.1 c_23
            refine lv_iload hx hb dX18_lay_242 (lv_at hl 5 rfl) ?_
            refine g_callio hw (g_SN X hw (mX1_factorial l G _ _ _ h) 1 q852 q122 (List.mem_of_getElem? (i := 34) rfl) q851 rfl rfl ydX1_factorial ⟨Nat.le_of_ble_eq_true rfl, Nat.le_of_ble_eq_true rfl⟩ (As := [.int x8]) (rest := []) rfl hl.1 rfl (Nat.le_of_ble_eq_true rfl) dX18_lay_244 ⟨Nat.le_refl _, Nat.le_refl _⟩) (fun r_9 H locs h hw => ?_)
            refine lv_istore (lv' := [(9, .int r_9), (0, .ref a0), (1, .ref a1), (2, .ref a2), (6, .int x6), (7, .int x7), (8, .int x8)]) hx hb dX18_lay_247 hl (by decide) rfl (fun ls hl => ?_)
            refine lv_aload_n hx hb dX18_lay_249 rfl (lv_at hl 1 rfl) ?_
            have hk_10 : kd u a0 = 15 := h.1
            have h := h.2
            obtain ⟨b_11, e_12, h⟩ := h
            refine g_getR X hw in_X18 hk_10 rfl 8 rfl (by decide) q444 (fun _ z => z) e_12 dX18_lay_250 ?_
            refine lv_iconst (v := 0) hx hb dX18_lay_253 (by decide) ?_
            refine lv_iload hx hb dX18_lay_254 (lv_at hl 6 rfl) ?_
            refine lv_iload hx hb dX18_lay_256 (lv_at hl 5 rfl) ?_
            refine lv_iload hx hb dX18_lay_258 (lv_at hl 0 rfl) ?_
            refine lv_irem hx hb dX18_lay_260 h.1 ?_
            have h := h.2
            refine lv_aload_n hx hb dX18_lay_261 rfl (lv_at hl 1 rfl) ?_
            obtain ⟨b_13, e_14, h⟩ := h
            refine g_getR X hw in_X18 hk_10 rfl 9 rfl (by decide) q445 (fun _ z => z) e_14 dX18_lay_262 ?_
            refine g_callv hw (g_SN X hw (mX1_arrange l G _ _ _ _ _ _ _ h) 5 q1172 q122 (List.mem_of_getElem? (i := 35) rfl) q1171 rfl rfl ydX1_arrange ⟨Nat.le_of_ble_eq_true rfl, Nat.le_of_ble_eq_true rfl⟩ (As := [.ref b_11, .int 0, .int x8, .int (jrem x7 r_9), .ref b_13]) (rest := []) rfl hl.1 rfl (Nat.le_of_ble_eq_true rfl) dX18_lay_265 ⟨Nat.le_refl _, Nat.le_refl _⟩) (fun u_15 H locs h hw => ?_)
            refine lv_aload_n hx hb dX18_lay_268 rfl (lv_at hl 3 rfl) ?_
            refine lv_aload_n hx hb dX18_lay_269 rfl (lv_at hl 1 rfl) ?_
            have hk_16 : kd u_15 a0 = 15 := h.1
            have h := h.2
            obtain ⟨b_17, e_18, h⟩ := h
            refine g_getR X hw in_X18 hk_16 rfl 9 rfl (by decide) q445 (fun _ z => z) e_18 dX18_lay_270 ?_
            refine lv_iload hx hb dX18_lay_273 (lv_at hl 6 rfl) ?_
            have hk_19 : kd u_15 a2 = 17 := h.1
            have h := h.2
            refine g_callio hw (g_V X hw (mX20_rank l G _ _ _ _ _ h) 2 (lw_V q1167 q941 q942 q144 q943) rfl rfl ydX20_rank ⟨Nat.le_of_ble_eq_true rfl, Nat.le_of_ble_eq_true rfl⟩ (g_recv X hw (ci := 16) (q := (RX20, TX20, 13)) hk_19 rfl) (As := [.ref b_17, .int x8]) (rest := []) rfl hl.1 rfl (Nat.le_of_ble_eq_true rfl) dX18_lay_275 ⟨Nat.le_refl _, Nat.le_refl _⟩) (fun r_20 H locs h hw => ?_)
            refine lv_aload_n hx hb dX18_lay_278 rfl (lv_at hl 3 rfl) ?_
            refine g_callio hw (g_V X hw (mX20_tiltings l G _ _ _ h) 0 (lw_V q1168 q954 q955 q144 q956) rfl rfl ydX20_tiltings ⟨Nat.le_of_ble_eq_true rfl, Nat.le_of_ble_eq_true rfl⟩ (g_recv X hw (ci := 16) (q := (RX20, TX20, 13)) hk_19 rfl) (As := []) (rest := [.int r_20]) rfl hl.1 rfl (Nat.le_of_ble_eq_true rfl) dX18_lay_279 ⟨Nat.le_refl _, Nat.le_refl _⟩) (fun r_21 H locs h hw => ?_)
            refine lv_imul hx hb dX18_lay_282 ?_
            refine lv_iload hx hb dX18_lay_283 (lv_at hl 5 rfl) ?_
            refine lv_iload hx hb dX18_lay_285 (lv_at hl 0 rfl) ?_
            refine lv_idiv hx hb dX18_lay_287 h.1 ?_
            have h := h.2
            refine lv_aload_n hx hb dX18_lay_288 rfl (lv_at hl 3 rfl) ?_
            refine g_callio hw (g_V X hw (mX20_tiltings l G _ _ _ h) 0 (lw_V q1168 q954 q955 q144 q956) rfl rfl ydX20_tiltings ⟨Nat.le_of_ble_eq_true rfl, Nat.le_of_ble_eq_true rfl⟩ (g_recv X hw (ci := 16) (q := (RX20, TX20, 13)) hk_19 rfl) (As := []) (rest := [.int (x7 / r_9), .int (r_20 * r_21)]) rfl hl.1 rfl (Nat.le_of_ble_eq_true rfl) dX18_lay_289 ⟨Nat.le_refl _, Nat.le_refl _⟩) (fun r_22 H locs h hw => ?_)
            refine lv_irem hx hb dX18_lay_292 h.1 ?_
            have h := h.2
            refine lv_iadd hx hb dX18_lay_293 ?_
            exact g_iret X hw hr h (Nat.le_refl _) (Nat.le_refl _) dX18_lay_294
          · have h := h.2 c_23
            exact wX18_lay_218 X hr  h hw (lv_sub hl [0, 2, 4, 5] rfl)
      · have h := h.2 c_32
        refine lv_iload hx hb dX18_lay_169 (lv_at hl 3 rfl) ?_
        refine lv_aload_n hx hb dX18_lay_171 rfl (lv_at hl 1 rfl) ?_
        refine lv_iload hx hb dX18_lay_172 (lv_at hl 6 rfl) ?_
        have hk_25 : kd u a1 = 101 := h.1
        have h := h.2
        refine g_iald X hw hk_25 h.1 dX18_lay_174 ?_
        have h := h.2
        refine g_callio hw (g_SN X hw (mX1_has l G _ _ _ _ h) 2 q939 q122 (List.mem_of_getElem? (i := 33) rfl) q938 rfl rfl ydX1_has ⟨Nat.le_of_ble_eq_true rfl, Nat.le_of_ble_eq_true rfl⟩ (As := [.int x6, .int (AI u a1 (tn x9))]) (rest := []) rfl hl.1 rfl (Nat.le_of_ble_eq_true rfl) dX18_lay_175 ⟨Nat.le_refl _, Nat.le_refl _⟩) (fun r_26 H locs h hw => ?_)
        refine lv_if_ne (tgt := 184) hx hb dX18_lay_178 rfl (fun c_31 => ?_) (fun c_31 => ?_)
        · have h := h.2 c_31
          refine lv_aload_n hx hb dX18_lay_184 rfl (lv_at hl 0 rfl) ?_
          have hk_27 : kd u a0 = 15 := h.1
          have h := h.2
          obtain ⟨b_28, e_29, h⟩ := h
          refine g_getR X hw in_X18 hk_27 rfl 8 rfl (by decide) q444 (fun _ z => z) e_29 dX18_lay_185 ?_
          refine lv_iload hx hb dX18_lay_188 (lv_at hl 5 rfl) ?_
          refine lv_aload_n hx hb dX18_lay_190 rfl (lv_at hl 1 rfl) ?_
          refine lv_iload hx hb dX18_lay_191 (lv_at hl 6 rfl) ?_
          refine g_iald X hw hk_25 h.1 dX18_lay_193 ?_
          have h := h.2
          have hk_30 : kd u b_28 = 101 := h.1
          have h := h.2
          refine g_iast X hw hk_30 h.1 dX18_lay_194 (fun H locs hw => ?_)
          have h := h.2
          refine lv_iinc (v := x8 + 1) (lv' := [(8, .int (x8 + 1)), (0, .ref a0), (1, .ref a1), (2, .ref a2), (6, .int x6), (7, .int x7), (9, .int x9)]) hx hb dX18_lay_195 hl (k := 5) rfl rfl (by decide) rfl (fun ls hl => ?_)
          refine lv_iinc (v := x9 + 1) (lv' := [(9, .int (x9 + 1)), (8, .int (x8 + 1)), (0, .ref a0), (1, .ref a1), (2, .ref a2), (6, .int x6), (7, .int x7)]) hx hb dX18_lay_198 hl (k := 6) rfl rfl (by decide) rfl (fun ls hl => ?_)
          refine lv_goto (tgt := 160) hx hb dX18_lay_201 rfl ?_
          exact hJ160 _ _ _ _ _ _ h hw (lv_sub hl [2, 3, 4, 5, 6, 1, 0] rfl)
        · have h := h.1 c_31
          refine lv_goto (tgt := 198) hx hb dX18_lay_181 rfl ?_
          refine lv_iinc (v := x9 + 1) (lv' := [(9, .int (x9 + 1)), (0, .ref a0), (1, .ref a1), (2, .ref a2), (6, .int x6), (7, .int x7), (8, .int x8)]) hx hb dX18_lay_198 hl (k := 6) rfl rfl (by decide) rfl (fun ls hl => ?_)
          refine lv_goto (tgt := 160) hx hb dX18_lay_201 rfl ?_
          exact hJ160 _ _ _ _ _ _ h hw (lv_sub hl [1, 2, 3, 4, 5, 6, 0] rfl)
  exact key _ _ _ _ _ _ _ (Nat.lt_succ_self _) h0 hw hl
set_option maxHeartbeats 4000000 in
theorem wX18_lay_145 {G : GT} {p : Program} {l : Launch} {e : Env} {s : State} {m : MethodId} {args : Array Value} {below : List Frame} {meth : Method} {c : Code} {H : Heap} {locs : List Loc} {ls : Array Slot} {a0 : Nat} {a1 : Nat} {a2 : Nat} {x3 : Int32} {x5 : Int32} {x6 : Int32} {x8 : Int32} {z0 : Int32} {z1 : Int32} {u : Hp} {K : Int32 → Hp → Prop} {J106 : Int32 → Int32 → Prop} (X : Mc G p s m args meth c RX18 cX18_lay 10) (hr : meth.sig.returnType = (some .int)) (hJ106 : ∀ (x7 : Int32) (x8 : Int32) (H : Heap) (locs : List Loc) (ls : Array Slot) , J106 x7 x8 → GW G u s H locs → lv_has ls 10 [(0, .ref a0), (1, .ref a1), (2, .ref a2), (3, .int x3), (5, .int x5), (6, .int x6), (7, .int x7), (8, .int x8)] → W p l e (rmX18_lay 0 0) s m args below meth c H locs 0 0 (QI G below K args s 0 0) (F0 m 106 ls [])) (h : bX18_lay_145 K J106 a0 a1 a2 x3 x5 x6 x8 z0 z1 u) (hw : GW G u s H locs) (hl : lv_has ls 10 [(0, .ref a0), (1, .ref a1), (2, .ref a2), (3, .int x3), (5, .int x5), (6, .int x6), (8, .int x8)]) : W p l e (rmX18_lay 0 0) s m args below meth c H locs 0 0 (QI G below K args s 0 0) (F0 m 145 ls [.int z0, .int z1]) := by
  obtain ⟨hx, hb, hml, hown, hts, -⟩ := id X
  unfold bX18_lay_145 at h
  refine lv_iadd hx hb dX18_lay_145 ?_
  refine lv_istore (lv' := [(7, .int (z1 + z0)), (0, .ref a0), (1, .ref a1), (2, .ref a2), (3, .int x3), (5, .int x5), (6, .int x6), (8, .int x8)]) hx hb dX18_lay_146 hl (by decide) rfl (fun ls hl => ?_)
  refine lv_iinc (v := x8 + 1) (lv' := [(8, .int (x8 + 1)), (7, .int (z1 + z0)), (0, .ref a0), (1, .ref a1), (2, .ref a2), (3, .int x3), (5, .int x5), (6, .int x6)]) hx hb dX18_lay_148 hl (k := 7) rfl rfl (by decide) rfl (fun ls hl => ?_)
  refine lv_goto (tgt := 106) hx hb dX18_lay_151 rfl ?_
  exact hJ106 _ _ _ _ _ h hw (lv_sub hl [2, 3, 4, 5, 6, 7, 1, 0] rfl)
set_option maxHeartbeats 4000000 in
theorem wX18_lay_106 {G : GT} {p : Program} {l : Launch} {e : Env} {s : State} {m : MethodId} {args : Array Value} {below : List Frame} {meth : Method} {c : Code} {H : Heap} {locs : List Loc} {ls : Array Slot} {a0 : Nat} {a1 : Nat} {a2 : Nat} {x3 : Int32} {x5 : Int32} {x6 : Int32} {u : Hp} {x7 : Int32} {x8 : Int32} {K : Int32 → Hp → Prop} (X : Mc G p s m args meth c RX18 cX18_lay 10) (hr : meth.sig.returnType = (some .int)) (h : jl2 (bX18_lay_106 K a0 a1 a2 x3 x5 x6 u) x7 x8) (hw : GW G u s H locs) (hl : lv_has ls 10 [(0, .ref a0), (1, .ref a1), (2, .ref a2), (3, .int x3), (5, .int x5), (6, .int x6), (7, .int x7), (8, .int x8)]) : W p l e (rmX18_lay 0 0) s m args below meth c H locs 0 0 (QI G below K args s 0 0) (F0 m 106 ls []) := by
  obtain ⟨hx, hb, hml, hown, hts, -⟩ := id X
  obtain ⟨I, μ, h0, hs⟩ := h
  have key : ∀ (n : Nat) (x7 : Int32) (x8 : Int32) (H : Heap) (locs : List Loc) (ls : Array Slot) , μ x7 x8 < n → I x7 x8 → GW G u s H locs → lv_has ls 10 [(0, .ref a0), (1, .ref a1), (2, .ref a2), (3, .int x3), (5, .int x5), (6, .int x6), (7, .int x7), (8, .int x8)] → W p l e (rmX18_lay 0 0) s m args below meth c H locs 0 0 (QI G below K args s 0 0) (F0 m 106 ls []) := by
    intro n
    induction n with
    | zero =>
      intro x7 x8 H locs ls hn
      exact absurd hn (Nat.not_lt_zero _)
    | succ n ih =>
      intro x7 x8 H locs ls hn hI hw hl
      have h := hs x7 x8 hI
      unfold bX18_lay_106 at h
      have hJ106 : ∀ (x7' : Int32) (x8' : Int32) (H : Heap) (locs : List Loc) (ls : Array Slot) , (I x7' x8' ∧ μ x7' x8' < μ x7 x8) → GW G u s H locs → lv_has ls 10 [(0, .ref a0), (1, .ref a1), (2, .ref a2), (3, .int x3), (5, .int x5), (6, .int x6), (7, .int x7'), (8, .int x8')] → W p l e (rmX18_lay 0 0) s m args below meth c H locs 0 0 (QI G below K args s 0 0) (F0 m 106 ls []) := fun x7' x8' H locs ls h hw hl => ih x7' x8' H locs ls (Nat.lt_of_lt_of_le h.2 (Nat.le_of_lt_succ hn)) h.1 hw hl
      refine lv_iload hx hb dX18_lay_106 (lv_at hl 7 rfl) ?_
      refine lv_aload_n hx hb dX18_lay_108 rfl (lv_at hl 2 rfl) ?_
      have hk_33 : kd u a2 = 17 := h.1
      have h := h.2
      refine g_getI X hw in_X20 hk_33 rfl 3 rfl (by decide) q570 (fun _ z => z) dX18_lay_109 ?_
      refine lv_icmp_ge (tgt := 154) hx hb dX18_lay_112 rfl (fun c_49 => ?_) (fun c_49 => ?_)
      · have h := h.1 c_49
        refine lv_iconst (v := 0) hx hb dX18_lay_154 (by decide) ?_
        refine lv_istore (lv' := [(8, .int 0), (0, .ref a0), (1, .ref a1), (2, .ref a2), (3, .int x3), (5, .int x5), (6, .int x6), (7, .int x7)]) hx hb dX18_lay_155 hl (by decide) rfl (fun ls hl => ?_)
        refine lv_iconst (v := 0) hx hb dX18_lay_157 (by decide) ?_
        refine lv_istore (lv' := [(9, .int 0), (8, .int 0), (0, .ref a0), (1, .ref a1), (2, .ref a2), (3, .int x3), (5, .int x5), (6, .int x6), (7, .int x7)]) hx hb dX18_lay_158 hl (by decide) rfl (fun ls hl => ?_)
        exact wX18_lay_160 X hr  h hw (lv_sub hl [2, 3, 4, 7, 8, 1, 0] rfl)
      · have h := h.2 c_49
        refine lv_iload hx hb dX18_lay_115 (lv_at hl 4 rfl) ?_
        refine lv_iload hx hb dX18_lay_117 (lv_at hl 7 rfl) ?_
        refine g_callio hw (g_SN X hw (mX1_has l G _ _ _ _ h) 2 q939 q122 (List.mem_of_getElem? (i := 33) rfl) q938 rfl rfl ydX1_has ⟨Nat.le_of_ble_eq_true rfl, Nat.le_of_ble_eq_true rfl⟩ (As := [.int x5, .int x8]) (rest := []) rfl hl.1 rfl (Nat.le_of_ble_eq_true rfl) dX18_lay_119 ⟨Nat.le_refl _, Nat.le_refl _⟩) (fun r_34 H locs h hw => ?_)
        refine lv_if_eq (tgt := 148) hx hb dX18_lay_122 rfl (fun c_48 => ?_) (fun c_48 => ?_)
        · have h := h.1 c_48
          refine lv_iinc (v := x8 + 1) (lv' := [(8, .int (x8 + 1)), (0, .ref a0), (1, .ref a1), (2, .ref a2), (3, .int x3), (5, .int x5), (6, .int x6), (7, .int x7)]) hx hb dX18_lay_148 hl (k := 7) rfl rfl (by decide) rfl (fun ls hl => ?_)
          refine lv_goto (tgt := 106) hx hb dX18_lay_151 rfl ?_
          exact hJ106 _ _ _ _ _ h hw (lv_sub hl [1, 2, 3, 4, 5, 6, 7, 0] rfl)
        · have h := h.2 c_48
          refine lv_iload hx hb dX18_lay_125 (lv_at hl 6 rfl) ?_
          refine lv_aload_n hx hb dX18_lay_127 rfl (lv_at hl 2 rfl) ?_
          refine g_getI X hw in_X20 hk_33 rfl 3 rfl (by decide) q570 (fun _ z => z) dX18_lay_128 ?_
          refine lv_imul hx hb dX18_lay_131 ?_
          refine lv_aload_n hx hb dX18_lay_132 rfl (lv_at hl 0 rfl) ?_
          have hk_35 : kd u a0 = 15 := h.1
          have h := h.2
          obtain ⟨b_36, e_37, h⟩ := h
          refine g_getR X hw in_X18 hk_35 rfl 5 rfl (by decide) q441 (fun _ z => z) e_37 dX18_lay_133 ?_
          refine lv_iload hx hb dX18_lay_136 (lv_at hl 7 rfl) ?_
          refine lv_iload hx hb dX18_lay_138 (lv_at hl 5 rfl) ?_
          refine lv_iload_n hx hb dX18_lay_140 rfl (lv_at hl 3 rfl) ?_
          refine lv_aload_n hx hb dX18_lay_141 rfl (lv_at hl 2 rfl) ?_
          obtain ⟨hd_, h⟩ := h
          rcases hd_ with hk_38 | hk_40 | hk_42 | hk_44 | hk_46
          · have h := h.1 hk_38
            refine g_callio hw (g_O X hw (mX12_of l G _ _ _ _ _ _ _ h) 4 q1142 q1144 (List.mem_of_getElem? (i := 2) rfl) q1153 q1154 q136 q1155 rfl rfl yxG2 ⟨Nat.le_of_ble_eq_true rfl, Nat.le_of_ble_eq_true rfl⟩ (g_recv X hw (ci := 9) (q := (RX12, T0, 0)) hk_38 rfl) (As := [.int x8, .int x6, .int x3, .ref a2]) (rest := [.int (x7 * (FI u 2003 a2))]) rfl hl.1 rfl (Nat.le_of_ble_eq_true rfl) dX18_lay_142 ⟨Nat.le_refl _, Nat.le_refl _⟩) (fun r_39 H locs h hw => ?_)
            exact wX18_lay_145 X hr hJ106  h hw (lv_sub hl [0, 1, 2, 3, 4, 5, 7] rfl)
          · have h := h.2.1 hk_40
            refine g_callio hw (g_O X hw (mX13_of l G _ _ _ _ _ _ _ h) 4 q1142 q1144 (List.mem_of_getElem? (i := 2) rfl) q1156 q1157 q137 q1158 rfl rfl yxG2 ⟨Nat.le_of_ble_eq_true rfl, Nat.le_of_ble_eq_true rfl⟩ (g_recv X hw (ci := 10) (q := (RX13, T0, 0)) hk_40 rfl) (As := [.int x8, .int x6, .int x3, .ref a2]) (rest := [.int (x7 * (FI u 2003 a2))]) rfl hl.1 rfl (Nat.le_of_ble_eq_true rfl) dX18_lay_142 ⟨Nat.le_refl _, Nat.le_refl _⟩) (fun r_41 H locs h hw => ?_)
            exact wX18_lay_145 X hr hJ106  h hw (lv_sub hl [0, 1, 2, 3, 4, 5, 7] rfl)
          · have h := h.2.2.1 hk_42
            refine g_callio hw (g_O X hw (mX14_of l G _ _ _ _ _ _ _ h) 4 q1142 q1144 (List.mem_of_getElem? (i := 2) rfl) q1145 q1146 q138 q1147 rfl rfl yxG2 ⟨Nat.le_of_ble_eq_true rfl, Nat.le_of_ble_eq_true rfl⟩ (g_recv X hw (ci := 11) (q := (RX14, T0, 0)) hk_42 rfl) (As := [.int x8, .int x6, .int x3, .ref a2]) (rest := [.int (x7 * (FI u 2003 a2))]) rfl hl.1 rfl (Nat.le_of_ble_eq_true rfl) dX18_lay_142 ⟨Nat.le_refl _, Nat.le_refl _⟩) (fun r_43 H locs h hw => ?_)
            exact wX18_lay_145 X hr hJ106  h hw (lv_sub hl [0, 1, 2, 3, 4, 5, 7] rfl)
          · have h := h.2.2.2.1 hk_44
            refine g_callio hw (g_O X hw (mX15_of l G _ _ _ _ _ _ _ h) 4 q1142 q1144 (List.mem_of_getElem? (i := 2) rfl) q1163 q1164 q139 q1165 rfl rfl yxG2 ⟨Nat.le_of_ble_eq_true rfl, Nat.le_of_ble_eq_true rfl⟩ (g_recv X hw (ci := 12) (q := (RX15, T0, 0)) hk_44 rfl) (As := [.int x8, .int x6, .int x3, .ref a2]) (rest := [.int (x7 * (FI u 2003 a2))]) rfl hl.1 rfl (Nat.le_of_ble_eq_true rfl) dX18_lay_142 ⟨Nat.le_refl _, Nat.le_refl _⟩) (fun r_45 H locs h hw => ?_)
            exact wX18_lay_145 X hr hJ106  h hw (lv_sub hl [0, 1, 2, 3, 4, 5, 7] rfl)
          · have h := h.2.2.2.2 hk_46
            refine g_callio hw (g_O X hw (mX16_of l G _ _ _ _ _ _ _ h) 4 q1142 q1144 (List.mem_of_getElem? (i := 2) rfl) q1149 q1150 q140 q1151 rfl rfl yxG2 ⟨Nat.le_of_ble_eq_true rfl, Nat.le_of_ble_eq_true rfl⟩ (g_recv X hw (ci := 13) (q := (RX16, T0, 0)) hk_46 rfl) (As := [.int x8, .int x6, .int x3, .ref a2]) (rest := [.int (x7 * (FI u 2003 a2))]) rfl hl.1 rfl (Nat.le_of_ble_eq_true rfl) dX18_lay_142 ⟨Nat.le_refl _, Nat.le_refl _⟩) (fun r_47 H locs h hw => ?_)
            exact wX18_lay_145 X hr hJ106  h hw (lv_sub hl [0, 1, 2, 3, 4, 5, 7] rfl)
  exact key _ _ _ _ _ _ (Nat.lt_succ_self _) h0 hw hl
set_option maxHeartbeats 4000000 in
theorem wX18_lay_50 {G : GT} {p : Program} {l : Launch} {e : Env} {s : State} {m : MethodId} {args : Array Value} {below : List Frame} {meth : Method} {c : Code} {H : Heap} {locs : List Loc} {ls : Array Slot} {a0 : Nat} {a1 : Nat} {a2 : Nat} {x3 : Int32} {z0 : Int32} {u : Hp} {K : Int32 → Hp → Prop} (X : Mc G p s m args meth c RX18 cX18_lay 10) (hr : meth.sig.returnType = (some .int)) (h : bX18_lay_50 K a0 a1 a2 x3 z0 u) (hw : GW G u s H locs) (hl : lv_has ls 10 [(0, .ref a0), (1, .ref a1), (2, .ref a2), (3, .int x3)]) : W p l e (rmX18_lay 0 0) s m args below meth c H locs 0 0 (QI G below K args s 0 0) (F0 m 50 ls [.int z0]) := by
  obtain ⟨hx, hb, hml, hown, hts, -⟩ := id X
  unfold bX18_lay_50 at h
  refine lv_istore (lv' := [(4, .int z0), (0, .ref a0), (1, .ref a1), (2, .ref a2), (3, .int x3)]) hx hb dX18_lay_50 hl (by decide) rfl (fun ls hl => ?_)
  refine lv_iconst (v := 1) hx hb dX18_lay_52 (by decide) ?_
  refine lv_aload_n hx hb dX18_lay_53 rfl (lv_at hl 1 rfl) ?_
  have hk_50 : kd u a0 = 15 := h.1
  have h := h.2
  obtain ⟨b_51, e_52, h⟩ := h
  refine g_getR X hw in_X18 hk_50 rfl 7 rfl (by decide) q443 (fun _ z => z) e_52 dX18_lay_54 ?_
  refine lv_iload hx hb dX18_lay_57 (lv_at hl 0 rfl) ?_
  have hk_53 : kd u b_51 = 101 := h.1
  have h := h.2
  refine g_iald X hw hk_53 h.1 dX18_lay_59 ?_
  have h := h.2
  refine lv_ishl hx hb dX18_lay_60 ?_
  refine lv_istore (lv' := [(5, .int (jshl 1 (AI u b_51 (tn z0)))), (4, .int z0), (0, .ref a0), (1, .ref a1), (2, .ref a2), (3, .int x3)]) hx hb dX18_lay_61 hl (by decide) rfl (fun ls hl => ?_)
  refine lv_aload_n hx hb dX18_lay_63 rfl (lv_at hl 4 rfl) ?_
  have hk_54 : kd u a2 = 17 := h.1
  have h := h.2
  refine g_getI X hw in_X20 hk_54 rfl 6 rfl (by decide) q589 (fun _ z => z) dX18_lay_64 ?_
  refine lv_iconst (v := 2) hx hb dX18_lay_67 (by decide) ?_
  refine lv_icmp_ne (tgt := 92) hx hb dX18_lay_68 rfl (fun c_59 => ?_) (fun c_59 => ?_)
  · have h := h.2 c_59
    refine lv_iload_n hx hb dX18_lay_92 rfl (lv_at hl 5 rfl) ?_
    refine lv_iload hx hb dX18_lay_93 (lv_at hl 0 rfl) ?_
    refine lv_iconst (v := (-1)) hx hb dX18_lay_95 (by decide) ?_
    refine lv_ixor hx hb dX18_lay_96 ?_
    refine lv_iand hx hb dX18_lay_97 ?_
    refine lv_topi (fun x6_55 e_56 => ?_)
    have h := h x6_55 e_56
    refine lv_istore (lv' := [(6, .int x6_55), (5, .int (jshl 1 (AI u b_51 (tn z0)))), (4, .int z0), (0, .ref a0), (1, .ref a1), (2, .ref a2), (3, .int x3)]) hx hb dX18_lay_98 hl (by decide) rfl (fun ls hl => ?_)
    refine lv_iconst (v := 0) hx hb dX18_lay_100 (by decide) ?_
    refine lv_istore (lv' := [(7, .int 0), (6, .int x6_55), (5, .int (jshl 1 (AI u b_51 (tn z0)))), (4, .int z0), (0, .ref a0), (1, .ref a1), (2, .ref a2), (3, .int x3)]) hx hb dX18_lay_101 hl (by decide) rfl (fun ls hl => ?_)
    refine lv_iconst (v := 0) hx hb dX18_lay_103 (by decide) ?_
    refine lv_istore (lv' := [(8, .int 0), (7, .int 0), (6, .int x6_55), (5, .int (jshl 1 (AI u b_51 (tn z0)))), (4, .int z0), (0, .ref a0), (1, .ref a1), (2, .ref a2), (3, .int x3)]) hx hb dX18_lay_104 hl (by decide) rfl (fun ls hl => ?_)
    exact wX18_lay_106 X hr  h hw (lv_sub hl [5, 6, 7, 8, 3, 2, 1, 0] rfl)
  · have h := h.1 c_59
    refine lv_iload hx hb dX18_lay_71 (lv_at hl 0 rfl) ?_
    refine lv_iconst (v := 1) hx hb dX18_lay_73 (by decide) ?_
    refine lv_aload_n hx hb dX18_lay_74 rfl (lv_at hl 2 rfl) ?_
    refine g_getR X hw in_X18 hk_50 rfl 7 rfl (by decide) q443 (fun _ z => z) e_52 dX18_lay_75 ?_
    refine lv_iload hx hb dX18_lay_78 (lv_at hl 1 rfl) ?_
    refine lv_iconst (v := 1) hx hb dX18_lay_80 (by decide) ?_
    refine lv_iadd hx hb dX18_lay_81 ?_
    refine lv_aload_n hx hb dX18_lay_82 rfl (lv_at hl 4 rfl) ?_
    refine g_getI X hw in_X20 hk_54 rfl 5 rfl (by decide) q582 (fun _ z => z) dX18_lay_83 ?_
    refine lv_irem hx hb dX18_lay_86 h.1 ?_
    have h := h.2
    refine g_iald X hw hk_53 h.1 dX18_lay_87 ?_
    have h := h.2
    refine lv_ishl hx hb dX18_lay_88 ?_
    refine lv_ior hx hb dX18_lay_89 ?_
    refine lv_topi (fun x5_57 e_58 => ?_)
    have h := h x5_57 e_58
    refine lv_istore (lv' := [(5, .int x5_57), (4, .int z0), (0, .ref a0), (1, .ref a1), (2, .ref a2), (3, .int x3)]) hx hb dX18_lay_90 hl (by decide) rfl (fun ls hl => ?_)
    refine lv_iload_n hx hb dX18_lay_92 rfl (lv_at hl 5 rfl) ?_
    refine lv_iload hx hb dX18_lay_93 (lv_at hl 0 rfl) ?_
    refine lv_iconst (v := (-1)) hx hb dX18_lay_95 (by decide) ?_
    refine lv_ixor hx hb dX18_lay_96 ?_
    refine lv_iand hx hb dX18_lay_97 ?_
    refine lv_istore (lv' := [(6, .int (x3 &&& (x5_57 ^^^ (-1)))), (5, .int x5_57), (4, .int z0), (0, .ref a0), (1, .ref a1), (2, .ref a2), (3, .int x3)]) hx hb dX18_lay_98 hl (by decide) rfl (fun ls hl => ?_)
    refine lv_iconst (v := 0) hx hb dX18_lay_100 (by decide) ?_
    refine lv_istore (lv' := [(7, .int 0), (6, .int (x3 &&& (x5_57 ^^^ (-1)))), (5, .int x5_57), (4, .int z0), (0, .ref a0), (1, .ref a1), (2, .ref a2), (3, .int x3)]) hx hb dX18_lay_101 hl (by decide) rfl (fun ls hl => ?_)
    refine lv_iconst (v := 0) hx hb dX18_lay_103 (by decide) ?_
    refine lv_istore (lv' := [(8, .int 0), (7, .int 0), (6, .int (x3 &&& (x5_57 ^^^ (-1)))), (5, .int x5_57), (4, .int z0), (0, .ref a0), (1, .ref a1), (2, .ref a2), (3, .int x3)]) hx hb dX18_lay_104 hl (by decide) rfl (fun ls hl => ?_)
    exact wX18_lay_106 X hr  h hw (lv_sub hl [5, 6, 7, 8, 3, 2, 1, 0] rfl)
set_option maxHeartbeats 4000000 in
theorem wX18_lay_5 {G : GT} {p : Program} {l : Launch} {e : Env} {s : State} {m : MethodId} {args : Array Value} {below : List Frame} {meth : Method} {c : Code} {H : Heap} {locs : List Loc} {ls : Array Slot} {a0 : Nat} {a1 : Nat} {a2 : Nat} {u : Hp} {x3 : Int32} {x4 : Int32} {K : Int32 → Hp → Prop} (X : Mc G p s m args meth c RX18 cX18_lay 10) (hr : meth.sig.returnType = (some .int)) (h : jl2 (bX18_lay_5 K a0 a1 a2 u) x3 x4) (hw : GW G u s H locs) (hl : lv_has ls 10 [(0, .ref a0), (1, .ref a1), (2, .ref a2), (3, .int x3), (4, .int x4)]) : W p l e (rmX18_lay 0 0) s m args below meth c H locs 0 0 (QI G below K args s 0 0) (F0 m 5 ls []) := by
  obtain ⟨hx, hb, hml, hown, hts, -⟩ := id X
  obtain ⟨I, μ, h0, hs⟩ := h
  have key : ∀ (n : Nat) (x3 : Int32) (x4 : Int32) (H : Heap) (locs : List Loc) (ls : Array Slot) , μ x3 x4 < n → I x3 x4 → GW G u s H locs → lv_has ls 10 [(0, .ref a0), (1, .ref a1), (2, .ref a2), (3, .int x3), (4, .int x4)] → W p l e (rmX18_lay 0 0) s m args below meth c H locs 0 0 (QI G below K args s 0 0) (F0 m 5 ls []) := by
    intro n
    induction n with
    | zero =>
      intro x3 x4 H locs ls hn
      exact absurd hn (Nat.not_lt_zero _)
    | succ n ih =>
      intro x3 x4 H locs ls hn hI hw hl
      have h := hs x3 x4 hI
      unfold bX18_lay_5 at h
      have hJ5 : ∀ (x3' : Int32) (x4' : Int32) (H : Heap) (locs : List Loc) (ls : Array Slot) , (I x3' x4' ∧ μ x3' x4' < μ x3 x4) → GW G u s H locs → lv_has ls 10 [(0, .ref a0), (1, .ref a1), (2, .ref a2), (3, .int x3'), (4, .int x4')] → W p l e (rmX18_lay 0 0) s m args below meth c H locs 0 0 (QI G below K args s 0 0) (F0 m 5 ls []) := fun x3' x4' H locs ls h hw hl => ih x3' x4' H locs ls (Nat.lt_of_lt_of_le h.2 (Nat.le_of_lt_succ hn)) h.1 hw hl
      refine lv_iload hx hb dX18_lay_5 (lv_at hl 4 rfl) ?_
      refine lv_aload_n hx hb dX18_lay_7 rfl (lv_at hl 2 rfl) ?_
      have hk_60 : kd u a2 = 17 := h.1
      have h := h.2
      refine g_getI X hw in_X20 hk_60 rfl 5 rfl (by decide) q582 (fun _ z => z) dX18_lay_8 ?_
      refine lv_icmp_ge (tgt := 29) hx hb dX18_lay_11 rfl (fun c_82 => ?_) (fun c_82 => ?_)
      · have h := h.1 c_82
        refine lv_iload_n hx hb dX18_lay_29 rfl (lv_at hl 3 rfl) ?_
        refine lv_aload_n hx hb dX18_lay_30 rfl (lv_at hl 0 rfl) ?_
        have hk_61 : kd u a0 = 15 := h.1
        have h := h.2
        obtain ⟨b_62, e_63, h⟩ := h
        refine g_getR X hw in_X18 hk_61 rfl 7 rfl (by decide) q443 (fun _ z => z) e_63 dX18_lay_31 ?_
        refine g_calli hw (g_SN X hw (mX1_spread l G _ _ _ _ h) 2 q1124 q122 (List.mem_of_getElem? (i := 32) rfl) q1123 rfl rfl ydX1_spread ⟨Nat.le_of_ble_eq_true rfl, Nat.le_of_ble_eq_true rfl⟩ (As := [.int x3, .ref b_62]) (rest := []) rfl hl.1 rfl (Nat.le_of_ble_eq_true rfl) dX18_lay_34 ⟨Nat.le_refl _, Nat.le_refl _⟩) (fun r_64 u_65 H locs h hw => ?_)
        refine lv_pop hx hb dX18_lay_37 rfl ?_
        refine lv_aload_n hx hb dX18_lay_38 rfl (lv_at hl 0 rfl) ?_
        have hk_66 : kd u_65 a0 = 15 := h.1
        have h := h.2
        obtain ⟨b_67, e_68, h⟩ := h
        refine g_getR X hw in_X18 hk_66 rfl 4 rfl (by decide) q440 (fun _ z => z) e_68 dX18_lay_39 ?_
        refine lv_aload_n hx hb dX18_lay_42 rfl (lv_at hl 0 rfl) ?_
        obtain ⟨b_69, e_70, h⟩ := h
        refine g_getR X hw in_X18 hk_66 rfl 7 rfl (by decide) q443 (fun _ z => z) e_70 dX18_lay_43 ?_
        refine lv_aload_n hx hb dX18_lay_46 rfl (lv_at hl 2 rfl) ?_
        obtain ⟨hd_, h⟩ := h
        rcases hd_ with hk_71 | hk_73 | hk_75 | hk_77
        · have h := h.1 hk_71
          refine g_callio hw (g_O X hw (mX7_index l G _ _ _ _ _ h) 2 q1126 q1128 (List.mem_of_getElem? (i := 1) rfl) q1135 q1136 q131 q1137 rfl rfl yxG1 ⟨Nat.le_of_ble_eq_true rfl, Nat.le_of_ble_eq_true rfl⟩ (g_recv X hw (ci := 5) (q := (RX7, T0, 0)) hk_71 rfl) (As := [.ref b_69, .ref a2]) (rest := []) rfl hl.1 rfl (Nat.le_of_ble_eq_true rfl) dX18_lay_47 ⟨Nat.le_refl _, Nat.le_refl _⟩) (fun r_72 H locs h hw => ?_)
          exact wX18_lay_50 X hr  h hw (lv_sub hl [0, 1, 2, 3] rfl)
        · have h := h.2.1 hk_73
          refine g_callio hw (g_O X hw (mX8_index l G _ _ _ _ _ h) 2 q1126 q1128 (List.mem_of_getElem? (i := 1) rfl) q1132 q1133 q132 q1134 rfl rfl yxG1 ⟨Nat.le_of_ble_eq_true rfl, Nat.le_of_ble_eq_true rfl⟩ (g_recv X hw (ci := 6) (q := (RX8, T0, 0)) hk_73 rfl) (As := [.ref b_69, .ref a2]) (rest := []) rfl hl.1 rfl (Nat.le_of_ble_eq_true rfl) dX18_lay_47 ⟨Nat.le_refl _, Nat.le_refl _⟩) (fun r_74 H locs h hw => ?_)
          exact wX18_lay_50 X hr  h hw (lv_sub hl [0, 1, 2, 3] rfl)
        · have h := h.2.2.1 hk_75
          refine g_callio hw (g_O X hw (mX9_index l G _ _ _ _ _ h) 2 q1126 q1128 (List.mem_of_getElem? (i := 1) rfl) q1138 q1139 q133 q1140 rfl rfl yxG1 ⟨Nat.le_of_ble_eq_true rfl, Nat.le_of_ble_eq_true rfl⟩ (g_recv X hw (ci := 7) (q := (RX9, T0, 0)) hk_75 rfl) (As := [.ref b_69, .ref a2]) (rest := []) rfl hl.1 rfl (Nat.le_of_ble_eq_true rfl) dX18_lay_47 ⟨Nat.le_refl _, Nat.le_refl _⟩) (fun r_76 H locs h hw => ?_)
          exact wX18_lay_50 X hr  h hw (lv_sub hl [0, 1, 2, 3] rfl)
        · have h := h.2.2.2 hk_77
          refine g_callio hw (g_O X hw (mX10_index l G _ _ _ _ _ h) 2 q1126 q1128 (List.mem_of_getElem? (i := 1) rfl) q1129 q1130 q134 q1131 rfl rfl yxG1 ⟨Nat.le_of_ble_eq_true rfl, Nat.le_of_ble_eq_true rfl⟩ (g_recv X hw (ci := 8) (q := (RX10, T0, 0)) hk_77 rfl) (As := [.ref b_69, .ref a2]) (rest := []) rfl hl.1 rfl (Nat.le_of_ble_eq_true rfl) dX18_lay_47 ⟨Nat.le_refl _, Nat.le_refl _⟩) (fun r_78 H locs h hw => ?_)
          exact wX18_lay_50 X hr  h hw (lv_sub hl [0, 1, 2, 3] rfl)
      · have h := h.2 c_82
        refine lv_iload_n hx hb dX18_lay_14 rfl (lv_at hl 3 rfl) ?_
        refine lv_iconst (v := 1) hx hb dX18_lay_15 (by decide) ?_
        refine lv_aload_n hx hb dX18_lay_16 rfl (lv_at hl 1 rfl) ?_
        refine lv_iload hx hb dX18_lay_17 (lv_at hl 4 rfl) ?_
        have hk_79 : kd u a1 = 101 := h.1
        have h := h.2
        refine g_iald X hw hk_79 h.1 dX18_lay_19 ?_
        have h := h.2
        refine lv_ishl hx hb dX18_lay_20 ?_
        refine lv_ior hx hb dX18_lay_21 ?_
        refine lv_topi (fun x3_80 e_81 => ?_)
        have h := h x3_80 e_81
        refine lv_istore_n (lv' := [(3, .int x3_80), (0, .ref a0), (1, .ref a1), (2, .ref a2), (4, .int x4)]) hx hb dX18_lay_22 rfl hl (by decide) rfl (fun ls hl => ?_)
        refine lv_iinc (v := x4 + 1) (lv' := [(4, .int (x4 + 1)), (3, .int x3_80), (0, .ref a0), (1, .ref a1), (2, .ref a2)]) hx hb dX18_lay_23 hl (k := 4) rfl rfl (by decide) rfl (fun ls hl => ?_)
        refine lv_goto (tgt := 5) hx hb dX18_lay_26 rfl ?_
        exact hJ5 _ _ _ _ _ h hw (lv_sub hl [2, 3, 4, 1, 0] rfl)
  exact key _ _ _ _ _ _ (Nat.lt_succ_self _) h0 hw hl
set_option maxHeartbeats 4000000 in
theorem mX18_lay (l : Launch) (G : GT) (u : Hp) (a0 : Nat) (a1 : Nat) (a2 : Nat) (K : Int32 → Hp → Prop) (h : pX18_lay u a0 a1 a2 K) : Met l yX18_lay (ws_ yX18_lay cX18_lay 10 (some .int)) (rmX18_lay 0 0) (va_Pc [.ref a0, .ref a1, .ref a2] (GB G u)) (va_Qi K (fun u t => GH G u t.heap) (GA G)) 0 0 (GA G) := by
  refine Met.ofW (cc := cX18_lay) (maxL := 10) (ret := (some .int)) (by decide) rfl ?_
  intro p e s m args below meth c s₁ B hml hv
  obtain ⟨rfl, hv⟩ := hv
  have X := Mc_of (own := RX18) B hml rfl hv
  have hw : GW G u s s.heap [] := ⟨hv.2.1, va_S.rf⟩
  have hr := B.returns
  obtain ⟨hx, hb, hml, hown, hts, -⟩ := id X
  have hl := lv_entry ([.ref a0, .ref a1, .ref a2]) (n := 10) (Nat.le_of_ble_eq_true rfl)
  rw [lg_entry_eq]
  generalize (lg_sl ([.ref a0, .ref a1, .ref a2]) ++ List.replicate (10 - (lg_sl ([.ref a0, .ref a1, .ref a2])).length) Slot.unset).toArray = ls at hl ⊢
  have hl : lv_has ls 10 [(0, .ref a0), (1, .ref a1), (2, .ref a2)] := hl
  change W p l e (rmX18_lay 0 0) s m _ below meth c s.heap [] 0 0 (QI G below K _ s 0 0) (F0 m 0 ls [])
  unfold pX18_lay at h
  refine lv_iconst (v := 0) hx hb dX18_lay_0 (by decide) ?_
  refine lv_istore_n (lv' := [(3, .int 0), (0, .ref a0), (1, .ref a1), (2, .ref a2)]) hx hb dX18_lay_1 rfl hl (by decide) rfl (fun ls hl => ?_)
  refine lv_iconst (v := 0) hx hb dX18_lay_2 (by decide) ?_
  refine lv_istore (lv' := [(4, .int 0), (3, .int 0), (0, .ref a0), (1, .ref a1), (2, .ref a2)]) hx hb dX18_lay_3 hl (by decide) rfl (fun ls hl => ?_)
  exact wX18_lay_5 X hr  h hw (lv_sub hl [2, 3, 4, 1, 0] rfl)

/-! FifthCard$Suited.laysBy([IIILFifthCard$Trick;)I -/
theorem ydX21_laysBy : yX21_laysBy.cls = "FifthCard$Suited" ∧ yX21_laysBy.cls ≠ "java/lang/invoke/MethodHandle" ∧ yX21_laysBy.cls ≠ "java/lang/invoke/VarHandle" ∧ (parseMethodDescriptor yX21_laysBy.desc).map (fun d => d.parameters.length) = some 4 := by decide +kernel
def rmX21_laysBy (mc ms : Nat) : Room := { frames := 3, cells := mc, slots := ms, locals := 74 }
set_option maxHeartbeats 4000000 in
theorem wX21_laysBy_64 {G : GT} {p : Program} {l : Launch} {e : Env} {s : State} {m : MethodId} {args : Array Value} {below : List Frame} {meth : Method} {c : Code} {H : Heap} {locs : List Loc} {ls : Array Slot} {a0 : Nat} {a1 : Nat} {x2 : Int32} {x3 : Int32} {a4 : Nat} {x6 : Int32} {x7 : Int32} {x8 : Int32} {x9 : Int32} {u : Hp} {K : Int32 → Hp → Prop} (X : Mc G p s m args meth c RX21 cX21_laysBy 10) (hr : meth.sig.returnType = (some .int)) (h : jl3 (bX21_laysBy_64 K a0 a1 x2 x3 a4 x6 x7) x8 x9 u) (hw : GW G u s H locs) (hl : lv_has ls 10 [(0, .ref a0), (1, .ref a1), (2, .int x2), (3, .int x3), (4, .ref a4), (6, .int x6), (7, .int x7), (8, .int x8), (9, .int x9)]) : W p l e (rmX21_laysBy 0 0) s m args below meth c H locs 0 0 (QI G below K args s 0 0) (F0 m 64 ls []) := by
  obtain ⟨hx, hb, hml, hown, hts, -⟩ := id X
  obtain ⟨I, μ, h0, hs⟩ := h
  have key : ∀ (n : Nat) (x8 : Int32) (x9 : Int32) (u : Hp) (H : Heap) (locs : List Loc) (ls : Array Slot) , μ x8 x9 u < n → I x8 x9 u → GW G u s H locs → lv_has ls 10 [(0, .ref a0), (1, .ref a1), (2, .int x2), (3, .int x3), (4, .ref a4), (6, .int x6), (7, .int x7), (8, .int x8), (9, .int x9)] → W p l e (rmX21_laysBy 0 0) s m args below meth c H locs 0 0 (QI G below K args s 0 0) (F0 m 64 ls []) := by
    intro n
    induction n with
    | zero =>
      intro x8 x9 u H locs ls hn
      exact absurd hn (Nat.not_lt_zero _)
    | succ n ih =>
      intro x8 x9 u H locs ls hn hI hw hl
      have h := hs x8 x9 u hI
      unfold bX21_laysBy_64 at h
      have hJ64 : ∀ (x8' : Int32) (x9' : Int32) (u' : Hp) (H : Heap) (locs : List Loc) (ls : Array Slot) , (I x8' x9' u' ∧ μ x8' x9' u' < μ x8 x9 u) → GW G u' s H locs → lv_has ls 10 [(0, .ref a0), (1, .ref a1), (2, .int x2), (3, .int x3), (4, .ref a4), (6, .int x6), (7, .int x7), (8, .int x8'), (9, .int x9')] → W p l e (rmX21_laysBy 0 0) s m args below meth c H locs 0 0 (QI G below K args s 0 0) (F0 m 64 ls []) := fun x8' x9' u' H locs ls h hw hl => ih x8' x9' u' H locs ls (Nat.lt_of_lt_of_le h.2 (Nat.le_of_lt_succ hn)) h.1 hw hl
      refine lv_iload hx hb dX21_laysBy_64 (lv_at hl 8 rfl) ?_
      refine lv_aload hx hb dX21_laysBy_66 (lv_at hl 4 rfl) ?_
      have hk_1 : kd u a4 = 17 := h.1
      have h := h.2
      refine g_getI X hw in_X20 hk_1 rfl 5 rfl (by decide) q583 (fun _ z => z) dX21_laysBy_68 ?_
      refine lv_icmp_ge (tgt := 113) hx hb dX21_laysBy_71 rfl (fun c_24 => ?_) (fun c_24 => ?_)
      · have h := h.1 c_24
        refine lv_iload hx hb dX21_laysBy_113 (lv_at hl 5 rfl) ?_
        refine lv_iload hx hb dX21_laysBy_115 (lv_at hl 7 rfl) ?_
        refine g_callio hw (g_SN X hw (mX1_factorial l G _ _ _ h) 1 q852 q122 (List.mem_of_getElem? (i := 36) rfl) q851 rfl rfl ydX1_factorial ⟨Nat.le_of_ble_eq_true rfl, Nat.le_of_ble_eq_true rfl⟩ (As := [.int x8]) (rest := [.int x6]) rfl hl.1 rfl (Nat.le_of_ble_eq_true rfl) dX21_laysBy_117 ⟨Nat.le_refl _, Nat.le_refl _⟩) (fun r_2 H locs h hw => ?_)
        refine lv_icmp_le (tgt := 126) hx hb dX21_laysBy_120 rfl (fun c_16 => ?_) (fun c_16 => ?_)
        · have h := h.1 c_16
          refine lv_aload_n hx hb dX21_laysBy_126 rfl (lv_at hl 0 rfl) ?_
          have hk_3 : kd u a0 = 18 := h.1
          have h := h.2
          obtain ⟨b_4, e_5, h⟩ := h
          refine g_getR X hw in_X21 hk_3 rfl 5 rfl (by decide) q888 (fun _ z => z) e_5 dX21_laysBy_127 ?_
          refine lv_iconst (v := 0) hx hb dX21_laysBy_130 (by decide) ?_
          refine lv_iload hx hb dX21_laysBy_131 (lv_at hl 6 rfl) ?_
          have hk_6 : kd u b_4 = 101 := h.1
          have h := h.2
          refine g_iast X hw hk_6 h.1 dX21_laysBy_133 (fun H locs hw => ?_)
          have h := h.2
          refine lv_aload_n hx hb dX21_laysBy_134 rfl (lv_at hl 0 rfl) ?_
          obtain ⟨b_7, e_8, h⟩ := h
          refine g_getR X hw in_X21 hk_3 rfl 4 rfl (by decide) q887 (fun _ z => z) e_8 dX21_laysBy_135 ?_
          refine lv_iconst (v := 1) hx hb dX21_laysBy_138 (by decide) ?_
          refine lv_iload hx hb dX21_laysBy_139 (lv_at hl 7 rfl) ?_
          refine lv_iload hx hb dX21_laysBy_141 (lv_at hl 5 rfl) ?_
          refine lv_iconst (v := 1) hx hb dX21_laysBy_143 (by decide) ?_
          refine lv_isub hx hb dX21_laysBy_144 ?_
          refine lv_aload_n hx hb dX21_laysBy_145 rfl (lv_at hl 0 rfl) ?_
          refine g_getR X hw in_X21 hk_3 rfl 5 rfl (by decide) q888 (fun _ z => z) e_5 dX21_laysBy_146 ?_
          refine g_callv hw (g_SN X hw (mX1_arrange l G _ _ _ _ _ _ _ h) 5 q1172 q122 (List.mem_of_getElem? (i := 37) rfl) q1171 rfl rfl ydX1_arrange ⟨Nat.le_of_ble_eq_true rfl, Nat.le_of_ble_eq_true rfl⟩ (As := [.ref b_7, .int 1, .int x8, .int (x6 - 1), .ref b_4]) (rest := []) rfl hl.1 rfl (Nat.le_of_ble_eq_true rfl) dX21_laysBy_149 ⟨Nat.le_refl _, Nat.le_refl _⟩) (fun u_9 H locs h hw => ?_)
          refine lv_aload hx hb dX21_laysBy_152 (lv_at hl 4 rfl) ?_
          refine lv_aload_n hx hb dX21_laysBy_154 rfl (lv_at hl 0 rfl) ?_
          have hk_10 : kd u_9 a0 = 18 := h.1
          have h := h.2
          obtain ⟨b_11, e_12, h⟩ := h
          refine g_getR X hw in_X21 hk_10 rfl 5 rfl (by decide) q888 (fun _ z => z) e_12 dX21_laysBy_155 ?_
          refine lv_iload hx hb dX21_laysBy_158 (lv_at hl 7 rfl) ?_
          refine lv_iconst (v := 1) hx hb dX21_laysBy_160 (by decide) ?_
          refine lv_iadd hx hb dX21_laysBy_161 ?_
          have hk_13 : kd u_9 a4 = 17 := h.1
          have h := h.2
          refine g_callio hw (g_V X hw (mX20_rank l G _ _ _ _ _ h) 2 (lw_V q1184 q941 q942 q144 q943) rfl rfl ydX20_rank ⟨Nat.le_of_ble_eq_true rfl, Nat.le_of_ble_eq_true rfl⟩ (g_recv X hw (ci := 16) (q := (RX20, TX20, 13)) hk_13 rfl) (As := [.ref b_11, .int (x8 + 1)]) (rest := []) rfl hl.1 rfl (Nat.le_of_ble_eq_true rfl) dX21_laysBy_162 ⟨Nat.le_refl _, Nat.le_refl _⟩) (fun r_14 H locs h hw => ?_)
          refine lv_aload hx hb dX21_laysBy_165 (lv_at hl 4 rfl) ?_
          refine g_callio hw (g_V X hw (mX20_tiltings l G _ _ _ h) 0 (lw_V q1185 q954 q955 q144 q956) rfl rfl ydX20_tiltings ⟨Nat.le_of_ble_eq_true rfl, Nat.le_of_ble_eq_true rfl⟩ (g_recv X hw (ci := 16) (q := (RX20, TX20, 13)) hk_13 rfl) (As := []) (rest := [.int r_14]) rfl hl.1 rfl (Nat.le_of_ble_eq_true rfl) dX21_laysBy_167 ⟨Nat.le_refl _, Nat.le_refl _⟩) (fun r_15 H locs h hw => ?_)
          refine lv_imul hx hb dX21_laysBy_170 ?_
          exact g_iret X hw hr h (Nat.le_refl _) (Nat.le_refl _) dX21_laysBy_171
        · have h := h.2 c_16
          refine lv_bipush (v := (-2)) hx hb dX21_laysBy_123 (by decide) ?_
          exact g_iret X hw hr h (Nat.le_refl _) (Nat.le_refl _) dX21_laysBy_125
      · have h := h.2 c_24
        refine lv_aload_n hx hb dX21_laysBy_74 rfl (lv_at hl 1 rfl) ?_
        refine lv_iload hx hb dX21_laysBy_75 (lv_at hl 8 rfl) ?_
        have hk_17 : kd u a1 = 101 := h.1
        have h := h.2
        refine g_iald X hw hk_17 h.1 dX21_laysBy_77 ?_
        have h := h.2
        refine lv_iload_n hx hb dX21_laysBy_78 rfl (lv_at hl 2 rfl) ?_
        refine lv_icmp_eq (tgt := 107) hx hb dX21_laysBy_79 rfl (fun c_23 => ?_) (fun c_23 => ?_)
        · have h := h.1 c_23
          refine lv_iinc (v := x9 + 1) (lv' := [(9, .int (x9 + 1)), (0, .ref a0), (1, .ref a1), (2, .int x2), (3, .int x3), (4, .ref a4), (6, .int x6), (7, .int x7), (8, .int x8)]) hx hb dX21_laysBy_107 hl (k := 8) rfl rfl (by decide) rfl (fun ls hl => ?_)
          refine lv_goto (tgt := 64) hx hb dX21_laysBy_110 rfl ?_
          exact hJ64 _ _ _ _ _ _ h hw (lv_sub hl [1, 2, 3, 4, 5, 6, 7, 8, 0] rfl)
        · have h := h.2 c_23
          refine lv_aload_n hx hb dX21_laysBy_82 rfl (lv_at hl 1 rfl) ?_
          refine lv_iload hx hb dX21_laysBy_83 (lv_at hl 8 rfl) ?_
          refine g_iald X hw hk_17 h.1 dX21_laysBy_85 ?_
          have h := h.2
          refine lv_iload_n hx hb dX21_laysBy_86 rfl (lv_at hl 3 rfl) ?_
          refine lv_icmp_ne (tgt := 93) hx hb dX21_laysBy_87 rfl (fun c_22 => ?_) (fun c_22 => ?_)
          · have h := h.2 c_22
            refine lv_aload_n hx hb dX21_laysBy_93 rfl (lv_at hl 0 rfl) ?_
            have hk_18 : kd u a0 = 18 := h.1
            have h := h.2
            obtain ⟨b_19, e_20, h⟩ := h
            refine g_getR X hw in_X21 hk_18 rfl 4 rfl (by decide) q887 (fun _ z => z) e_20 dX21_laysBy_94 ?_
            refine lv_iload hx hb dX21_laysBy_97 (lv_at hl 7 rfl) ?_
            refine lv_aload_n hx hb dX21_laysBy_99 rfl (lv_at hl 1 rfl) ?_
            refine lv_iload hx hb dX21_laysBy_100 (lv_at hl 8 rfl) ?_
            refine g_iald X hw hk_17 h.1 dX21_laysBy_102 ?_
            have h := h.2
            have hk_21 : kd u b_19 = 101 := h.1
            have h := h.2
            refine g_iast X hw hk_21 h.1 dX21_laysBy_103 (fun H locs hw => ?_)
            have h := h.2
            refine lv_iinc (v := x8 + 1) (lv' := [(8, .int (x8 + 1)), (0, .ref a0), (1, .ref a1), (2, .int x2), (3, .int x3), (4, .ref a4), (6, .int x6), (7, .int x7), (9, .int x9)]) hx hb dX21_laysBy_104 hl (k := 7) rfl rfl (by decide) rfl (fun ls hl => ?_)
            refine lv_iinc (v := x9 + 1) (lv' := [(9, .int (x9 + 1)), (8, .int (x8 + 1)), (0, .ref a0), (1, .ref a1), (2, .int x2), (3, .int x3), (4, .ref a4), (6, .int x6), (7, .int x7)]) hx hb dX21_laysBy_107 hl (k := 8) rfl rfl (by decide) rfl (fun ls hl => ?_)
            refine lv_goto (tgt := 64) hx hb dX21_laysBy_110 rfl ?_
            exact hJ64 _ _ _ _ _ _ h hw (lv_sub hl [2, 3, 4, 5, 6, 7, 8, 1, 0] rfl)
          · have h := h.1 c_22
            refine lv_goto (tgt := 107) hx hb dX21_laysBy_90 rfl ?_
            refine lv_iinc (v := x9 + 1) (lv' := [(9, .int (x9 + 1)), (0, .ref a0), (1, .ref a1), (2, .int x2), (3, .int x3), (4, .ref a4), (6, .int x6), (7, .int x7), (8, .int x8)]) hx hb dX21_laysBy_107 hl (k := 8) rfl rfl (by decide) rfl (fun ls hl => ?_)
            refine lv_goto (tgt := 64) hx hb dX21_laysBy_110 rfl ?_
            exact hJ64 _ _ _ _ _ _ h hw (lv_sub hl [1, 2, 3, 4, 5, 6, 7, 8, 0] rfl)
  exact key _ _ _ _ _ _ _ (Nat.lt_succ_self _) h0 hw hl
set_option maxHeartbeats 4000000 in
theorem wX21_laysBy_38 {G : GT} {p : Program} {l : Launch} {e : Env} {s : State} {m : MethodId} {args : Array Value} {below : List Frame} {meth : Method} {c : Code} {H : Heap} {locs : List Loc} {ls : Array Slot} {a0 : Nat} {a1 : Nat} {x2 : Int32} {x3 : Int32} {a4 : Nat} {x5 : Int32} {x6 : Int32} {z0 : Int32} {u : Hp} {K : Int32 → Hp → Prop} (X : Mc G p s m args meth c RX21 cX21_laysBy 10) (hr : meth.sig.returnType = (some .int)) (h : bX21_laysBy_38 K a0 a1 x2 x3 a4 x5 x6 z0 u) (hw : GW G u s H locs) (hl : lv_has ls 10 [(0, .ref a0), (1, .ref a1), (2, .int x2), (3, .int x3), (4, .ref a4), (5, .int x5), (6, .int x6)]) : W p l e (rmX21_laysBy 0 0) s m args below meth c H locs 0 0 (QI G below K args s 0 0) (F0 m 38 ls [.int z0]) := by
  obtain ⟨hx, hb, hml, hown, hts, -⟩ := id X
  unfold bX21_laysBy_38 at h
  refine lv_istore (lv' := [(7, .int z0), (0, .ref a0), (1, .ref a1), (2, .int x2), (3, .int x3), (4, .ref a4), (5, .int x5), (6, .int x6)]) hx hb dX21_laysBy_38 hl (by decide) rfl (fun ls hl => ?_)
  refine lv_iload hx hb dX21_laysBy_40 (lv_at hl 0 rfl) ?_
  refine lv_iload_n hx hb dX21_laysBy_42 rfl (lv_at hl 3 rfl) ?_
  refine lv_icmp_ne (tgt := 51) hx hb dX21_laysBy_43 rfl (fun c_25 => ?_) (fun c_25 => ?_)
  · have h := h.2 c_25
    refine lv_iload hx hb dX21_laysBy_51 (lv_at hl 6 rfl) ?_
    refine lv_iload hx hb dX21_laysBy_53 (lv_at hl 7 rfl) ?_
    refine lv_isub hx hb dX21_laysBy_55 ?_
    refine lv_istore (lv' := [(6, .int (x5 - x6)), (7, .int z0), (0, .ref a0), (1, .ref a1), (2, .int x2), (3, .int x3), (4, .ref a4), (5, .int x5)]) hx hb dX21_laysBy_56 hl (by decide) rfl (fun ls hl => ?_)
    refine lv_iconst (v := 0) hx hb dX21_laysBy_58 (by decide) ?_
    refine lv_istore (lv' := [(8, .int 0), (6, .int (x5 - x6)), (7, .int z0), (0, .ref a0), (1, .ref a1), (2, .int x2), (3, .int x3), (4, .ref a4), (5, .int x5)]) hx hb dX21_laysBy_59 hl (by decide) rfl (fun ls hl => ?_)
    refine lv_iconst (v := 0) hx hb dX21_laysBy_61 (by decide) ?_
    refine lv_istore (lv' := [(9, .int 0), (8, .int 0), (6, .int (x5 - x6)), (7, .int z0), (0, .ref a0), (1, .ref a1), (2, .int x2), (3, .int x3), (4, .ref a4), (5, .int x5)]) hx hb dX21_laysBy_62 hl (by decide) rfl (fun ls hl => ?_)
    exact wX21_laysBy_64 X hr  h hw (lv_sub hl [4, 5, 6, 7, 8, 2, 3, 1, 0] rfl)
  · have h := h.1 c_25
    refine lv_iload hx hb dX21_laysBy_46 (lv_at hl 7 rfl) ?_
    refine lv_goto (tgt := 56) hx hb dX21_laysBy_48 rfl ?_
    refine lv_istore (lv' := [(6, .int x6), (7, .int z0), (0, .ref a0), (1, .ref a1), (2, .int x2), (3, .int x3), (4, .ref a4), (5, .int x5)]) hx hb dX21_laysBy_56 hl (by decide) rfl (fun ls hl => ?_)
    refine lv_iconst (v := 0) hx hb dX21_laysBy_58 (by decide) ?_
    refine lv_istore (lv' := [(8, .int 0), (6, .int x6), (7, .int z0), (0, .ref a0), (1, .ref a1), (2, .int x2), (3, .int x3), (4, .ref a4), (5, .int x5)]) hx hb dX21_laysBy_59 hl (by decide) rfl (fun ls hl => ?_)
    refine lv_iconst (v := 0) hx hb dX21_laysBy_61 (by decide) ?_
    refine lv_istore (lv' := [(9, .int 0), (8, .int 0), (6, .int x6), (7, .int z0), (0, .ref a0), (1, .ref a1), (2, .int x2), (3, .int x3), (4, .ref a4), (5, .int x5)]) hx hb dX21_laysBy_62 hl (by decide) rfl (fun ls hl => ?_)
    exact wX21_laysBy_64 X hr  h hw (lv_sub hl [4, 5, 6, 7, 8, 2, 3, 1, 0] rfl)
set_option maxHeartbeats 4000000 in
theorem mX21_laysBy (l : Launch) (G : GT) (u : Hp) (a0 : Nat) (a1 : Nat) (x2 : Int32) (x3 : Int32) (a4 : Nat) (K : Int32 → Hp → Prop) (h : pX21_laysBy u a0 a1 x2 x3 a4 K) : Met l yX21_laysBy (ws_ yX21_laysBy cX21_laysBy 10 (some .int)) (rmX21_laysBy 0 0) (va_Pc [.ref a0, .ref a1, .int x2, .int x3, .ref a4] (GB G u)) (va_Qi K (fun u t => GH G u t.heap) (GA G)) 0 0 (GA G) := by
  refine Met.ofW (cc := cX21_laysBy) (maxL := 10) (ret := (some .int)) (by decide) rfl ?_
  intro p e s m args below meth c s₁ B hml hv
  obtain ⟨rfl, hv⟩ := hv
  have X := Mc_of (own := RX21) B hml rfl hv
  have hw : GW G u s s.heap [] := ⟨hv.2.1, va_S.rf⟩
  have hr := B.returns
  obtain ⟨hx, hb, hml, hown, hts, -⟩ := id X
  have hl := lv_entry ([.ref a0, .ref a1, .int x2, .int x3, .ref a4]) (n := 10) (Nat.le_of_ble_eq_true rfl)
  rw [lg_entry_eq]
  generalize (lg_sl ([.ref a0, .ref a1, .int x2, .int x3, .ref a4]) ++ List.replicate (10 - (lg_sl ([.ref a0, .ref a1, .int x2, .int x3, .ref a4])).length) Slot.unset).toArray = ls at hl ⊢
  have hl : lv_has ls 10 [(0, .ref a0), (1, .ref a1), (2, .int x2), (3, .int x3), (4, .ref a4)] := hl
  change W p l e (rmX21_laysBy 0 0) s m _ below meth c s.heap [] 0 0 (QI G below K _ s 0 0) (F0 m 0 ls [])
  unfold pX21_laysBy at h
  refine lv_aload hx hb dX21_laysBy_0 (lv_at hl 4 rfl) ?_
  have hk_26 : kd u a4 = 17 := h.1
  have h := h.2
  refine g_callio hw (g_V X hw (mX20_ranks l G _ _ _ h) 0 (lw_V q1177 q1160 q1161 q144 q1162) rfl rfl ydX20_ranks ⟨Nat.le_of_ble_eq_true rfl, Nat.le_of_ble_eq_true rfl⟩ (g_recv X hw (ci := 16) (q := (RX20, TX20, 13)) hk_26 rfl) (As := []) (rest := []) rfl hl.1 rfl (Nat.le_of_ble_eq_true rfl) dX21_laysBy_2 ⟨Nat.le_refl _, Nat.le_refl _⟩) (fun r_27 H locs h hw => ?_)
  refine lv_istore (lv' := [(5, .int r_27), (0, .ref a0), (1, .ref a1), (2, .int x2), (3, .int x3), (4, .ref a4)]) hx hb dX21_laysBy_5 hl (by decide) rfl (fun ls hl => ?_)
  refine lv_iload_n hx hb dX21_laysBy_7 rfl (lv_at hl 4 rfl) ?_
  refine lv_iload hx hb dX21_laysBy_8 (lv_at hl 0 rfl) ?_
  refine lv_irem hx hb dX21_laysBy_10 h.1 ?_
  have h := h.2
  refine lv_iload_n hx hb dX21_laysBy_11 rfl (lv_at hl 3 rfl) ?_
  refine lv_iload hx hb dX21_laysBy_12 (lv_at hl 0 rfl) ?_
  refine lv_irem hx hb dX21_laysBy_14 h.1 ?_
  have h := h.2
  refine lv_isub hx hb dX21_laysBy_15 ?_
  refine lv_iload hx hb dX21_laysBy_16 (lv_at hl 0 rfl) ?_
  refine lv_iadd hx hb dX21_laysBy_18 ?_
  refine lv_iload hx hb dX21_laysBy_19 (lv_at hl 0 rfl) ?_
  refine lv_irem hx hb dX21_laysBy_21 h.1 ?_
  have h := h.2
  refine lv_topi (fun x6_28 e_29 => ?_)
  have h := h x6_28 e_29
  refine lv_istore (lv' := [(6, .int x6_28), (5, .int r_27), (0, .ref a0), (1, .ref a1), (2, .int x2), (3, .int x3), (4, .ref a4)]) hx hb dX21_laysBy_22 hl (by decide) rfl (fun ls hl => ?_)
  refine lv_iconst (v := 2) hx hb dX21_laysBy_24 (by decide) ?_
  refine lv_iload hx hb dX21_laysBy_25 (lv_at hl 0 rfl) ?_
  refine lv_imul hx hb dX21_laysBy_27 ?_
  refine lv_iload hx hb dX21_laysBy_28 (lv_at hl 1 rfl) ?_
  refine lv_icmp_gt (tgt := 37) hx hb dX21_laysBy_30 rfl (fun c_30 => ?_) (fun c_30 => ?_)
  · have h := h.1 c_30
    refine lv_iload_n hx hb dX21_laysBy_37 rfl (lv_at hl 5 rfl) ?_
    exact wX21_laysBy_38 X hr  h hw (lv_sub hl [2, 3, 4, 5, 6, 1, 0] rfl)
  · have h := h.2 c_30
    refine lv_iload_n hx hb dX21_laysBy_33 rfl (lv_at hl 4 rfl) ?_
    refine lv_goto (tgt := 38) hx hb dX21_laysBy_34 rfl ?_
    exact wX21_laysBy_38 X hr  h hw (lv_sub hl [2, 3, 4, 5, 6, 1, 0] rfl)

/-! FifthCard$Suited.lay([ILFifthCard$Trick;)I -/
theorem ydX21_lay : yX21_lay.cls = "FifthCard$Suited" ∧ yX21_lay.cls ≠ "java/lang/invoke/MethodHandle" ∧ yX21_lay.cls ≠ "java/lang/invoke/VarHandle" ∧ (parseMethodDescriptor yX21_lay.desc).map (fun d => d.parameters.length) = some 2 := by decide +kernel
def rmX21_lay (mc ms : Nat) : Room := { frames := 4, cells := mc, slots := ms, locals := 103 }
set_option maxHeartbeats 4000000 in
theorem wX21_lay_48 {G : GT} {p : Program} {l : Launch} {e : Env} {s : State} {m : MethodId} {args : Array Value} {below : List Frame} {meth : Method} {c : Code} {H : Heap} {locs : List Loc} {ls : Array Slot} {a0 : Nat} {a1 : Nat} {a2 : Nat} {x3 : Int32} {x4 : Int32} {u : Hp} {x5 : Int32} {K : Int32 → Hp → Prop} {J33 : Int32 → Prop} (X : Mc G p s m args meth c RX21 cX21_lay 6) (hr : meth.sig.returnType = (some .int)) (hJ33 : ∀ (x4 : Int32) (H : Heap) (locs : List Loc) (ls : Array Slot) , J33 x4 → GW G u s H locs → lv_has ls 6 [(0, .ref a0), (1, .ref a1), (2, .ref a2), (3, .int x3), (4, .int x4)] → W p l e (rmX21_lay 0 0) s m args below meth c H locs 0 0 (QI G below K args s 0 0) (F0 m 33 ls [])) (h : jl1 (bX21_lay_48 K J33 a0 a1 a2 x3 x4 u) x5) (hw : GW G u s H locs) (hl : lv_has ls 6 [(0, .ref a0), (1, .ref a1), (2, .ref a2), (3, .int x3), (4, .int x4), (5, .int x5)]) : W p l e (rmX21_lay 0 0) s m args below meth c H locs 0 0 (QI G below K args s 0 0) (F0 m 48 ls []) := by
  obtain ⟨hx, hb, hml, hown, hts, -⟩ := id X
  obtain ⟨I, μ, h0, hs⟩ := h
  have key : ∀ (n : Nat) (x5 : Int32) (H : Heap) (locs : List Loc) (ls : Array Slot) , μ x5 < n → I x5 → GW G u s H locs → lv_has ls 6 [(0, .ref a0), (1, .ref a1), (2, .ref a2), (3, .int x3), (4, .int x4), (5, .int x5)] → W p l e (rmX21_lay 0 0) s m args below meth c H locs 0 0 (QI G below K args s 0 0) (F0 m 48 ls []) := by
    intro n
    induction n with
    | zero =>
      intro x5 H locs ls hn
      exact absurd hn (Nat.not_lt_zero _)
    | succ n ih =>
      intro x5 H locs ls hn hI hw hl
      have h := hs x5 hI
      unfold bX21_lay_48 at h
      have hJ48 : ∀ (x5' : Int32) (H : Heap) (locs : List Loc) (ls : Array Slot) , (I x5' ∧ μ x5' < μ x5) → GW G u s H locs → lv_has ls 6 [(0, .ref a0), (1, .ref a1), (2, .ref a2), (3, .int x3), (4, .int x4), (5, .int x5')] → W p l e (rmX21_lay 0 0) s m args below meth c H locs 0 0 (QI G below K args s 0 0) (F0 m 48 ls []) := fun x5' H locs ls h hw hl => ih x5' H locs ls (Nat.lt_of_lt_of_le h.2 (Nat.le_of_lt_succ hn)) h.1 hw hl
      refine lv_iload hx hb dX21_lay_48 (lv_at hl 5 rfl) ?_
      refine lv_aload_n hx hb dX21_lay_50 rfl (lv_at hl 2 rfl) ?_
      have hk_1 : kd u a2 = 17 := h.1
      have h := h.2
      refine g_getI X hw in_X20 hk_1 rfl 5 rfl (by decide) q583 (fun _ z => z) dX21_lay_51 ?_
      refine lv_icmp_ge (tgt := 93) hx hb dX21_lay_54 rfl (fun c_7 => ?_) (fun c_7 => ?_)
      · have h := h.1 c_7
        refine lv_iinc (v := x4 + 1) (lv' := [(4, .int (x4 + 1)), (0, .ref a0), (1, .ref a1), (2, .ref a2), (3, .int x3), (5, .int x5)]) hx hb dX21_lay_93 hl (k := 4) rfl rfl (by decide) rfl (fun ls hl => ?_)
        refine lv_goto (tgt := 33) hx hb dX21_lay_96 rfl ?_
        exact hJ33 _ _ _ _ h hw (lv_sub hl [1, 2, 3, 4, 0] rfl)
      · have h := h.2 c_7
        refine lv_aload_n hx hb dX21_lay_57 rfl (lv_at hl 1 rfl) ?_
        refine lv_iload hx hb dX21_lay_58 (lv_at hl 4 rfl) ?_
        have hk_2 : kd u a1 = 101 := h.1
        have h := h.2
        refine g_iald X hw hk_2 h.1 dX21_lay_60 ?_
        have h := h.2
        refine lv_iload_n hx hb dX21_lay_61 rfl (lv_at hl 3 rfl) ?_
        refine lv_idiv hx hb dX21_lay_62 h.1 ?_
        have h := h.2
        refine lv_aload_n hx hb dX21_lay_63 rfl (lv_at hl 1 rfl) ?_
        refine lv_iload hx hb dX21_lay_64 (lv_at hl 5 rfl) ?_
        refine g_iald X hw hk_2 h.1 dX21_lay_66 ?_
        have h := h.2
        refine lv_iload_n hx hb dX21_lay_67 rfl (lv_at hl 3 rfl) ?_
        refine lv_idiv hx hb dX21_lay_68 h.1 ?_
        have h := h.2
        refine lv_icmp_ne (tgt := 87) hx hb dX21_lay_69 rfl (fun c_6 => ?_) (fun c_6 => ?_)
        · have h := h.2 c_6
          refine lv_iinc (v := x5 + 1) (lv' := [(5, .int (x5 + 1)), (0, .ref a0), (1, .ref a1), (2, .ref a2), (3, .int x3), (4, .int x4)]) hx hb dX21_lay_87 hl (k := 5) rfl rfl (by decide) rfl (fun ls hl => ?_)
          refine lv_goto (tgt := 48) hx hb dX21_lay_90 rfl ?_
          exact hJ48 _ _ _ _ h hw (lv_sub hl [1, 2, 3, 4, 5, 0] rfl)
        · have h := h.1 c_6
          refine lv_aload_n hx hb dX21_lay_72 rfl (lv_at hl 0 rfl) ?_
          refine lv_aload_n hx hb dX21_lay_73 rfl (lv_at hl 1 rfl) ?_
          refine lv_aload_n hx hb dX21_lay_74 rfl (lv_at hl 1 rfl) ?_
          refine lv_iload hx hb dX21_lay_75 (lv_at hl 4 rfl) ?_
          refine g_iald X hw hk_2 h.1 dX21_lay_77 ?_
          have h := h.2
          refine lv_aload_n hx hb dX21_lay_78 rfl (lv_at hl 1 rfl) ?_
          refine lv_iload hx hb dX21_lay_79 (lv_at hl 5 rfl) ?_
          refine g_iald X hw hk_2 h.1 dX21_lay_81 ?_
          have h := h.2
          refine lv_aload_n hx hb dX21_lay_82 rfl (lv_at hl 2 rfl) ?_
          have hk_3 : kd u a0 = 18 := h.1
          have h := h.2
          refine g_calli hw (g_V X hw (mX21_laysBy l G _ _ _ _ _ _ _ h) 4 (lw_V q1178 q1180 qs34 q151 q1181) rfl rfl ydX21_laysBy ⟨Nat.le_of_ble_eq_true rfl, Nat.le_of_ble_eq_true rfl⟩ (g_recv X hw (ci := 17) (q := (RX21, TX21, 6)) hk_3 rfl) (As := [.ref a1, .int (AI u a1 (tn x4)), .int (AI u a1 (tn x5)), .ref a2]) (rest := []) rfl hl.1 rfl (Nat.le_of_ble_eq_true rfl) dX21_lay_83 ⟨Nat.le_refl _, Nat.le_refl _⟩) (fun r_4 u_5 H locs h hw => ?_)
          exact g_iret X hw hr h (Nat.le_refl _) (Nat.le_refl _) dX21_lay_86
  exact key _ _ _ _ _ (Nat.lt_succ_self _) h0 hw hl
set_option maxHeartbeats 4000000 in
theorem wX21_lay_33 {G : GT} {p : Program} {l : Launch} {e : Env} {s : State} {m : MethodId} {args : Array Value} {below : List Frame} {meth : Method} {c : Code} {H : Heap} {locs : List Loc} {ls : Array Slot} {a0 : Nat} {a1 : Nat} {a2 : Nat} {x3 : Int32} {u : Hp} {x4 : Int32} {K : Int32 → Hp → Prop} (X : Mc G p s m args meth c RX21 cX21_lay 6) (hr : meth.sig.returnType = (some .int)) (h : jl1 (bX21_lay_33 K a0 a1 a2 x3 u) x4) (hw : GW G u s H locs) (hl : lv_has ls 6 [(0, .ref a0), (1, .ref a1), (2, .ref a2), (3, .int x3), (4, .int x4)]) : W p l e (rmX21_lay 0 0) s m args below meth c H locs 0 0 (QI G below K args s 0 0) (F0 m 33 ls []) := by
  obtain ⟨hx, hb, hml, hown, hts, -⟩ := id X
  obtain ⟨I, μ, h0, hs⟩ := h
  have key : ∀ (n : Nat) (x4 : Int32) (H : Heap) (locs : List Loc) (ls : Array Slot) , μ x4 < n → I x4 → GW G u s H locs → lv_has ls 6 [(0, .ref a0), (1, .ref a1), (2, .ref a2), (3, .int x3), (4, .int x4)] → W p l e (rmX21_lay 0 0) s m args below meth c H locs 0 0 (QI G below K args s 0 0) (F0 m 33 ls []) := by
    intro n
    induction n with
    | zero =>
      intro x4 H locs ls hn
      exact absurd hn (Nat.not_lt_zero _)
    | succ n ih =>
      intro x4 H locs ls hn hI hw hl
      have h := hs x4 hI
      unfold bX21_lay_33 at h
      have hJ33 : ∀ (x4' : Int32) (H : Heap) (locs : List Loc) (ls : Array Slot) , (I x4' ∧ μ x4' < μ x4) → GW G u s H locs → lv_has ls 6 [(0, .ref a0), (1, .ref a1), (2, .ref a2), (3, .int x3), (4, .int x4')] → W p l e (rmX21_lay 0 0) s m args below meth c H locs 0 0 (QI G below K args s 0 0) (F0 m 33 ls []) := fun x4' H locs ls h hw hl => ih x4' H locs ls (Nat.lt_of_lt_of_le h.2 (Nat.le_of_lt_succ hn)) h.1 hw hl
      refine lv_iload hx hb dX21_lay_33 (lv_at hl 4 rfl) ?_
      refine lv_aload_n hx hb dX21_lay_35 rfl (lv_at hl 2 rfl) ?_
      have hk_8 : kd u a2 = 17 := h.1
      have h := h.2
      refine g_getI X hw in_X20 hk_8 rfl 5 rfl (by decide) q583 (fun _ z => z) dX21_lay_36 ?_
      refine lv_icmp_ge (tgt := 99) hx hb dX21_lay_39 rfl (fun c_9 => ?_) (fun c_9 => ?_)
      · have h := h.1 c_9
        refine lv_bipush (v := (-2)) hx hb dX21_lay_99 (by decide) ?_
        exact g_iret X hw hr h (Nat.le_refl _) (Nat.le_refl _) dX21_lay_101
      · have h := h.2 c_9
        refine lv_iload hx hb dX21_lay_42 (lv_at hl 4 rfl) ?_
        refine lv_iconst (v := 1) hx hb dX21_lay_44 (by decide) ?_
        refine lv_iadd hx hb dX21_lay_45 ?_
        refine lv_istore (lv' := [(5, .int (x4 + 1)), (0, .ref a0), (1, .ref a1), (2, .ref a2), (3, .int x3), (4, .int x4)]) hx hb dX21_lay_46 hl (by decide) rfl (fun ls hl => ?_)
        exact wX21_lay_48 X hr hJ33  h hw (lv_sub hl [1, 2, 3, 4, 5, 0] rfl)
  exact key _ _ _ _ _ (Nat.lt_succ_self _) h0 hw hl
set_option maxHeartbeats 4000000 in
theorem mX21_lay (l : Launch) (G : GT) (u : Hp) (a0 : Nat) (a1 : Nat) (a2 : Nat) (K : Int32 → Hp → Prop) (h : pX21_lay u a0 a1 a2 K) : Met l yX21_lay (ws_ yX21_lay cX21_lay 6 (some .int)) (rmX21_lay 0 0) (va_Pc [.ref a0, .ref a1, .ref a2] (GB G u)) (va_Qi K (fun u t => GH G u t.heap) (GA G)) 0 0 (GA G) := by
  refine Met.ofW (cc := cX21_lay) (maxL := 6) (ret := (some .int)) (by decide) rfl ?_
  intro p e s m args below meth c s₁ B hml hv
  obtain ⟨rfl, hv⟩ := hv
  have X := Mc_of (own := RX21) B hml rfl hv
  have hw : GW G u s s.heap [] := ⟨hv.2.1, va_S.rf⟩
  have hr := B.returns
  obtain ⟨hx, hb, hml, hown, hts, -⟩ := id X
  have hl := lv_entry ([.ref a0, .ref a1, .ref a2]) (n := 6) (Nat.le_of_ble_eq_true rfl)
  rw [lg_entry_eq]
  generalize (lg_sl ([.ref a0, .ref a1, .ref a2]) ++ List.replicate (6 - (lg_sl ([.ref a0, .ref a1, .ref a2])).length) Slot.unset).toArray = ls at hl ⊢
  have hl : lv_has ls 6 [(0, .ref a0), (1, .ref a1), (2, .ref a2)] := hl
  change W p l e (rmX21_lay 0 0) s m _ below meth c s.heap [] 0 0 (QI G below K _ s 0 0) (F0 m 0 ls [])
  unfold pX21_lay at h
  refine lv_aload_n hx hb dX21_lay_0 rfl (lv_at hl 2 rfl) ?_
  have hk_10 : kd u a2 = 17 := h.1
  have h := h.2
  refine g_getI X hw in_X20 hk_10 rfl 9 rfl (by decide) q598 (fun _ z => z) dX21_lay_1 ?_
  refine lv_if_ne (tgt := 22) hx hb dX21_lay_4 rfl (fun c_14 => ?_) (fun c_14 => ?_)
  · have h := h.2 c_14
    refine lv_bipush (v := (-2)) hx hb dX21_lay_22 (by decide) ?_
    exact g_iret X hw hr h (Nat.le_refl _) (Nat.le_refl _) dX21_lay_24
  · have h := h.1 c_14
    refine lv_aload_n hx hb dX21_lay_7 rfl (lv_at hl 2 rfl) ?_
    refine g_getI X hw in_X20 hk_10 rfl 10 rfl (by decide) q604 (fun _ z => z) dX21_lay_8 ?_
    refine lv_if_ne (tgt := 22) hx hb dX21_lay_11 rfl (fun c_13 => ?_) (fun c_13 => ?_)
    · have h := h.2 c_13
      refine lv_bipush (v := (-2)) hx hb dX21_lay_22 (by decide) ?_
      exact g_iret X hw hr h (Nat.le_refl _) (Nat.le_refl _) dX21_lay_24
    · have h := h.1 c_13
      refine lv_aload_n hx hb dX21_lay_14 rfl (lv_at hl 2 rfl) ?_
      refine g_getI X hw in_X20 hk_10 rfl 6 rfl (by decide) q588 (fun _ z => z) dX21_lay_15 ?_
      refine lv_iconst (v := 1) hx hb dX21_lay_18 (by decide) ?_
      refine lv_icmp_eq (tgt := 25) hx hb dX21_lay_19 rfl (fun c_12 => ?_) (fun c_12 => ?_)
      · have h := h.1 c_12
        refine lv_aload_n hx hb dX21_lay_25 rfl (lv_at hl 2 rfl) ?_
        refine g_callio hw (g_V X hw (mX20_ranks l G _ _ _ h) 0 (lw_V q1177 q1160 q1161 q144 q1162) rfl rfl ydX20_ranks ⟨Nat.le_of_ble_eq_true rfl, Nat.le_of_ble_eq_true rfl⟩ (g_recv X hw (ci := 16) (q := (RX20, TX20, 13)) hk_10 rfl) (As := []) (rest := []) rfl hl.1 rfl (Nat.le_of_ble_eq_true rfl) dX21_lay_26 ⟨Nat.le_refl _, Nat.le_refl _⟩) (fun r_11 H locs h hw => ?_)
        refine lv_istore_n (lv' := [(3, .int r_11), (0, .ref a0), (1, .ref a1), (2, .ref a2)]) hx hb dX21_lay_29 rfl hl (by decide) rfl (fun ls hl => ?_)
        refine lv_iconst (v := 0) hx hb dX21_lay_30 (by decide) ?_
        refine lv_istore (lv' := [(4, .int 0), (3, .int r_11), (0, .ref a0), (1, .ref a1), (2, .ref a2)]) hx hb dX21_lay_31 hl (by decide) rfl (fun ls hl => ?_)
        exact wX21_lay_33 X hr  h hw (lv_sub hl [2, 3, 4, 1, 0] rfl)
      · have h := h.2 c_12
        refine lv_bipush (v := (-2)) hx hb dX21_lay_22 (by decide) ?_
        exact g_iret X hw hr h (Nat.le_refl _) (Nat.le_refl _) dX21_lay_24

/-! FifthCard$Tabled.lay([ILFifthCard$Trick;)I -/
theorem ydX22_lay : yX22_lay.cls = "FifthCard$Tabled" ∧ yX22_lay.cls ≠ "java/lang/invoke/MethodHandle" ∧ yX22_lay.cls ≠ "java/lang/invoke/VarHandle" ∧ (parseMethodDescriptor yX22_lay.desc).map (fun d => d.parameters.length) = some 2 := by decide +kernel
def rmX22_lay (mc ms : Nat) : Room := { frames := 0, cells := mc, slots := ms, locals := 0 }
set_option maxHeartbeats 4000000 in
theorem mX22_lay (l : Launch) (G : GT) (u : Hp) (a0 : Nat) (a1 : Nat) (a2 : Nat) (K : Int32 → Prop) (h : pX22_lay a0 a1 a2 K) : Met l yX22_lay (ws_ yX22_lay cX22_lay 3 (some .int)) (rmX22_lay 0 0) (va_Pc [.ref a0, .ref a1, .ref a2] (GB G u)) (va_Qi (fun r v => v = u ∧ K r) (fun u t => GH G u t.heap) (GA G)) 0 0 (GA G) := by
  refine Met.ofW (cc := cX22_lay) (maxL := 3) (ret := (some .int)) (by decide) rfl ?_
  intro p e s m args below meth c s₁ B hml hv
  obtain ⟨rfl, hv⟩ := hv
  have X := Mc_of (own := RX22) B hml rfl hv
  have hw : GW G u s s.heap [] := ⟨hv.2.1, va_S.rf⟩
  have hr := B.returns
  obtain ⟨hx, hb, hml, hown, hts, -⟩ := id X
  have hl := lv_entry ([.ref a0, .ref a1, .ref a2]) (n := 3) (Nat.le_of_ble_eq_true rfl)
  rw [lg_entry_eq]
  generalize (lg_sl ([.ref a0, .ref a1, .ref a2]) ++ List.replicate (3 - (lg_sl ([.ref a0, .ref a1, .ref a2])).length) Slot.unset).toArray = ls at hl ⊢
  have hl : lv_has ls 3 [(0, .ref a0), (1, .ref a1), (2, .ref a2)] := hl
  change W p l e (rmX22_lay 0 0) s m _ below meth c s.heap [] 0 0 (QI G below (fun r v => v = u ∧ K r) _ s 0 0) (F0 m 0 ls [])
  unfold pX22_lay at h
  refine lv_bipush (v := (-2)) hx hb dX22_lay_0 (by decide) ?_
  exact g_iret X hw hr ⟨rfl, h⟩ (Nat.le_refl _) (Nat.le_refl _) dX22_lay_2

/-! FifthCard.lay(LFifthCard$Rule;)V -/
theorem ydX1_lay : yX1_lay.cls = "FifthCard" ∧ yX1_lay.cls ≠ "java/lang/invoke/MethodHandle" ∧ yX1_lay.cls ≠ "java/lang/invoke/VarHandle" ∧ (parseMethodDescriptor yX1_lay.desc).map (fun d => d.parameters.length) = some 1 := by decide +kernel
def rmX1_lay (mc ms : Nat) : Room := { frames := 5, cells := mc, slots := ms, locals := 128 }
set_option maxHeartbeats 4000000 in
theorem wX1_lay_85 {G : GT} {p : Program} {l : Launch} {e : Env} {s : State} {m : MethodId} {args : Array Value} {below : List Frame} {meth : Method} {c : Code} {H : Heap} {locs : List Loc} {ls : Array Slot} {a0 : Nat} {a1 : Nat} {x2 : Int32} {x3 : Int32} {z0 : Int32} {z1 : Int32} {z2 : Nat} {u : Hp} {K : Hp → Prop} {J33 : Int32 → Hp → Prop} (X : Mc G p s m args meth c RX1 cX1_lay 4) (hr : meth.sig.returnType = none) (hJ33 : ∀ (x3 : Int32) (u : Hp) (H : Heap) (locs : List Loc) (ls : Array Slot) , J33 x3 u → GW G u s H locs → lv_has ls 4 [(0, .ref a0), (1, .ref a1), (2, .int x2), (3, .int x3)] → W p l e (rmX1_lay 0 0) s m args below meth c H locs 0 0 (QV G below K args s 0 0) (F0 m 33 ls [])) (h : bX1_lay_85 K J33 a0 a1 x2 x3 z0 z1 z2 u) (hw : GW G u s H locs) (hl : lv_has ls 4 [(0, .ref a0), (1, .ref a1), (2, .int x2), (3, .int x3)]) : W p l e (rmX1_lay 0 0) s m args below meth c H locs 0 0 (QV G below K args s 0 0) (F0 m 85 ls [.int z0, .int z1, .ref z2]) := by
  obtain ⟨hx, hb, hml, hown, hts, -⟩ := id X
  unfold bX1_lay_85 at h
  have hk_1 : kd u z2 = 101 := h.1
  have h := h.2
  refine g_iast X hw hk_1 h.1 dX1_lay_85 (fun H locs hw => ?_)
  have h := h.2
  refine lv_iinc (v := x3 + 1) (lv' := [(3, .int (x3 + 1)), (0, .ref a0), (1, .ref a1), (2, .int x2)]) hx hb dX1_lay_86 hl (k := 3) rfl rfl (by decide) rfl (fun ls hl => ?_)
  refine lv_goto (tgt := 33) hx hb dX1_lay_89 rfl ?_
  exact hJ33 _ _ _ _ _ h hw (lv_sub hl [1, 2, 3, 0] rfl)
set_option maxHeartbeats 4000000 in
theorem wX1_lay_33 {G : GT} {p : Program} {l : Launch} {e : Env} {s : State} {m : MethodId} {args : Array Value} {below : List Frame} {meth : Method} {c : Code} {H : Heap} {locs : List Loc} {ls : Array Slot} {a0 : Nat} {a1 : Nat} {x2 : Int32} {x3 : Int32} {u : Hp} {K : Hp → Prop} (X : Mc G p s m args meth c RX1 cX1_lay 4) (hr : meth.sig.returnType = none) (h : jl2 (bX1_lay_33 K a0 a1 x2) x3 u) (hw : GW G u s H locs) (hl : lv_has ls 4 [(0, .ref a0), (1, .ref a1), (2, .int x2), (3, .int x3)]) : W p l e (rmX1_lay 0 0) s m args below meth c H locs 0 0 (QV G below K args s 0 0) (F0 m 33 ls []) := by
  obtain ⟨hx, hb, hml, hown, hts, -⟩ := id X
  obtain ⟨I, μ, h0, hs⟩ := h
  have key : ∀ (n : Nat) (x3 : Int32) (u : Hp) (H : Heap) (locs : List Loc) (ls : Array Slot) , μ x3 u < n → I x3 u → GW G u s H locs → lv_has ls 4 [(0, .ref a0), (1, .ref a1), (2, .int x2), (3, .int x3)] → W p l e (rmX1_lay 0 0) s m args below meth c H locs 0 0 (QV G below K args s 0 0) (F0 m 33 ls []) := by
    intro n
    induction n with
    | zero =>
      intro x3 u H locs ls hn
      exact absurd hn (Nat.not_lt_zero _)
    | succ n ih =>
      intro x3 u H locs ls hn hI hw hl
      have h := hs x3 u hI
      unfold bX1_lay_33 at h
      have hJ33 : ∀ (x3' : Int32) (u' : Hp) (H : Heap) (locs : List Loc) (ls : Array Slot) , (I x3' u' ∧ μ x3' u' < μ x3 u) → GW G u' s H locs → lv_has ls 4 [(0, .ref a0), (1, .ref a1), (2, .int x2), (3, .int x3')] → W p l e (rmX1_lay 0 0) s m args below meth c H locs 0 0 (QV G below K args s 0 0) (F0 m 33 ls []) := fun x3' u' H locs ls h hw hl => ih x3' u' H locs ls (Nat.lt_of_lt_of_le h.2 (Nat.le_of_lt_succ hn)) h.1 hw hl
      refine lv_iload_n hx hb dX1_lay_33 rfl (lv_at hl 3 rfl) ?_
      refine lv_aload_n hx hb dX1_lay_34 rfl (lv_at hl 0 rfl) ?_
      have hk_2 : kd u a0 = 1 := h.1
      have h := h.2
      refine g_getI X hw in_X1 hk_2 rfl 8 rfl (by decide) q481 (fun _ z => z) dX1_lay_35 ?_
      refine lv_icmp_ge (tgt := 92) hx hb dX1_lay_38 rfl (fun c_32 => ?_) (fun c_32 => ?_)
      · have h := h.1 c_32
        refine lv_aload_n hx hb dX1_lay_92 rfl (lv_at hl 1 rfl) ?_
        refine lv_iconst (v := 1) hx hb dX1_lay_93 (by decide) ?_
        have hk_3 : isRu (kd u a1) := h.1
        have h := h.2
        refine g_putRu3I X hw hk_3 q451 rfl rfl dX1_lay_94 (fun H locs hw => ?_)
        exact g_vret X hw hr h (Nat.le_refl _) (Nat.le_refl _) dX1_lay_97
      · have h := h.2 c_32
        refine lv_aload_n hx hb dX1_lay_41 rfl (lv_at hl 0 rfl) ?_
        obtain ⟨b_4, e_5, h⟩ := h
        refine g_getR X hw in_X1 hk_2 rfl 3 rfl (by decide) q476 (fun _ z => z) e_5 dX1_lay_42 ?_
        refine lv_iload_n hx hb dX1_lay_45 rfl (lv_at hl 3 rfl) ?_
        refine lv_aload_n hx hb dX1_lay_46 rfl (lv_at hl 0 rfl) ?_
        obtain ⟨b_6, e_7, h⟩ := h
        refine g_getR X hw in_X1 hk_2 rfl 13 rfl (by decide) q486 (fun _ z => z) e_7 dX1_lay_47 ?_
        have hk_8 : kd u b_4 = 17 := h.1
        have h := h.2
        refine g_callv hw (g_V X hw (mX20_layHand l G _ _ _ _ _ h) 2 (lw_V q1023 q969 q970 q144 q971) rfl rfl ydX20_layHand ⟨Nat.le_of_ble_eq_true rfl, Nat.le_of_ble_eq_true rfl⟩ (g_recv X hw (ci := 16) (q := (RX20, TX20, 13)) hk_8 rfl) (As := [.int x3, .ref b_6]) (rest := []) rfl hl.1 rfl (Nat.le_of_ble_eq_true rfl) dX1_lay_50 ⟨Nat.le_refl _, Nat.le_refl _⟩) (fun u_9 H locs h hw => ?_)
        refine lv_aload_n hx hb dX1_lay_53 rfl (lv_at hl 1 rfl) ?_
        have hk_10 : isRu (kd u_9 a1) := h.1
        have h := h.2
        obtain ⟨b_11, e_12, h⟩ := h
        refine g_getRu2R X hw hk_10 q450 e_12 dX1_lay_54 ?_
        refine lv_iload_n hx hb dX1_lay_57 rfl (lv_at hl 3 rfl) ?_
        refine lv_iload_n hx hb dX1_lay_58 rfl (lv_at hl 2 rfl) ?_
        refine lv_if_eq (tgt := 73) hx hb dX1_lay_59 rfl (fun c_31 => ?_) (fun c_31 => ?_)
        · have h := h.1 c_31
          refine lv_aload_n hx hb dX1_lay_73 rfl (lv_at hl 1 rfl) ?_
          refine lv_aload_n hx hb dX1_lay_74 rfl (lv_at hl 0 rfl) ?_
          have hk_13 : kd u_9 a0 = 1 := h.1
          have h := h.2
          obtain ⟨b_14, e_15, h⟩ := h
          refine g_getR X hw in_X1 hk_13 rfl 13 rfl (by decide) q486 (fun _ z => z) e_15 dX1_lay_75 ?_
          refine lv_aload_n hx hb dX1_lay_78 rfl (lv_at hl 0 rfl) ?_
          obtain ⟨b_16, e_17, h⟩ := h
          refine g_getR X hw in_X1 hk_13 rfl 3 rfl (by decide) q476 (fun _ z => z) e_17 dX1_lay_79 ?_
          obtain ⟨hd_, h⟩ := h
          rcases hd_ with hk_18 | hk_21 | hk_24
          · have h := h.1 hk_18
            refine g_calli hw (g_O X hw (mX18_lay l G _ _ _ _ _ h) 2 q1116 q1118 (List.mem_of_getElem? (i := 0) rfl) q1119 q1120 q142 q1121 rfl rfl yxG0 ⟨Nat.le_of_ble_eq_true rfl, Nat.le_of_ble_eq_true rfl⟩ (g_recv X hw (ci := 14) (q := (RX18, TX18, 10)) hk_18 rfl) (As := [.ref b_14, .ref b_16]) (rest := [.int x3, .ref b_11]) rfl hl.1 rfl (Nat.le_of_ble_eq_true rfl) dX1_lay_82 ⟨Nat.le_refl _, Nat.le_refl _⟩) (fun r_19 u_20 H locs h hw => ?_)
            exact wX1_lay_85 X hr hJ33  h hw (lv_sub hl [0, 1, 2, 3] rfl)
          · have h := h.2.1 hk_21
            refine g_calli hw (g_O X hw (mX21_lay l G _ _ _ _ _ h) 2 q1116 q1118 (List.mem_of_getElem? (i := 0) rfl) q1174 q1175 q151 q1176 rfl rfl yxG0 ⟨Nat.le_of_ble_eq_true rfl, Nat.le_of_ble_eq_true rfl⟩ (g_recv X hw (ci := 17) (q := (RX21, TX21, 6)) hk_21 rfl) (As := [.ref b_14, .ref b_16]) (rest := [.int x3, .ref b_11]) rfl hl.1 rfl (Nat.le_of_ble_eq_true rfl) dX1_lay_82 ⟨Nat.le_refl _, Nat.le_refl _⟩) (fun r_22 u_23 H locs h hw => ?_)
            exact wX1_lay_85 X hr hJ33  h hw (lv_sub hl [0, 1, 2, 3] rfl)
          · have h := h.2.2 hk_24
            refine g_callio hw (g_O X hw (mX22_lay l G _ _ _ _ _ h) 2 q1116 q1118 (List.mem_of_getElem? (i := 0) rfl) q1186 q1187 q152 q1188 rfl rfl yxG0 ⟨Nat.le_of_ble_eq_true rfl, Nat.le_of_ble_eq_true rfl⟩ (g_recv X hw (ci := 18) (q := (RX22, TX22, 4)) hk_24 rfl) (As := [.ref b_14, .ref b_16]) (rest := [.int x3, .ref b_11]) rfl hl.1 rfl (Nat.le_of_ble_eq_true rfl) dX1_lay_82 ⟨Nat.le_refl _, Nat.le_refl _⟩) (fun r_25 H locs h hw => ?_)
            exact wX1_lay_85 X hr hJ33  h hw (lv_sub hl [0, 1, 2, 3] rfl)
        · have h := h.2 c_31
          refine lv_aload_n hx hb dX1_lay_62 rfl (lv_at hl 0 rfl) ?_
          have hk_26 : kd u_9 a0 = 1 := h.1
          have h := h.2
          obtain ⟨b_27, e_28, h⟩ := h
          refine g_getR X hw in_X1 hk_26 rfl 9 rfl (by decide) q482 (fun _ z => z) e_28 dX1_lay_63 ?_
          refine lv_iload_n hx hb dX1_lay_66 rfl (lv_at hl 3 rfl) ?_
          have hk_29 : kd u_9 b_27 = 4 := h.1
          have h := h.2
          refine g_callio hw (g_V X hw (mX4_rowOf l G _ _ _ _ h) 1 (lw_V q1112 q1113 q1114 q128 q1115) rfl rfl ydX4_rowOf ⟨Nat.le_of_ble_eq_true rfl, Nat.le_of_ble_eq_true rfl⟩ (g_recv X hw (ci := 3) (q := (RX4, TX4, 14)) hk_29 rfl) (As := [.int x3]) (rest := [.int x3, .ref b_11]) rfl hl.1 rfl (Nat.le_of_ble_eq_true rfl) dX1_lay_67 ⟨Nat.le_refl _, Nat.le_refl _⟩) (fun r_30 H locs h hw => ?_)
          refine lv_goto (tgt := 85) hx hb dX1_lay_70 rfl ?_
          exact wX1_lay_85 X hr hJ33  h hw (lv_sub hl [0, 1, 2, 3] rfl)
  exact key _ _ _ _ _ _ (Nat.lt_succ_self _) h0 hw hl
set_option maxHeartbeats 4000000 in
theorem mX1_lay (l : Launch) (G : GT) (u : Hp) (a0 : Nat) (a1 : Nat) (K : Hp → Prop) (h : pX1_lay u a0 a1 K) : Met l yX1_lay (ws_ yX1_lay cX1_lay 4 none) (rmX1_lay 0 0) (va_Pc [.ref a0, .ref a1] (GB G u)) (va_Qv K (fun u t => GH G u t.heap) (GA G)) 0 0 (GA G) := by
  refine Met.ofW (cc := cX1_lay) (maxL := 4) (ret := none) (by decide) rfl ?_
  intro p e s m args below meth c s₁ B hml hv
  obtain ⟨rfl, hv⟩ := hv
  have X := Mc_of (own := RX1) B hml rfl hv
  have hw : GW G u s s.heap [] := ⟨hv.2.1, va_S.rf⟩
  have hr := B.returns
  obtain ⟨hx, hb, hml, hown, hts, -⟩ := id X
  have hl := lv_entry ([.ref a0, .ref a1]) (n := 4) (Nat.le_of_ble_eq_true rfl)
  rw [lg_entry_eq]
  generalize (lg_sl ([.ref a0, .ref a1]) ++ List.replicate (4 - (lg_sl ([.ref a0, .ref a1])).length) Slot.unset).toArray = ls at hl ⊢
  have hl : lv_has ls 4 [(0, .ref a0), (1, .ref a1)] := hl
  change W p l e (rmX1_lay 0 0) s m _ below meth c s.heap [] 0 0 (QV G below K _ s 0 0) (F0 m 0 ls [])
  unfold pX1_lay at h
  refine lv_aload_n hx hb dX1_lay_0 rfl (lv_at hl 1 rfl) ?_
  have hk_33 : isRu (kd u a1) := h.1
  have h := h.2
  refine g_getRu3I X hw hk_33 q451 dX1_lay_1 ?_
  refine lv_if_eq (tgt := 8) hx hb dX1_lay_4 rfl (fun c_42 => ?_) (fun c_42 => ?_)
  · have h := h.1 c_42
    refine lv_aload_n hx hb dX1_lay_8 rfl (lv_at hl 1 rfl) ?_
    refine g_instTab X hw hk_33 q1086 dX1_lay_9 ?_
    refine lv_if_eq (tgt := 29) hx hb dX1_lay_12 rfl (fun c_41 => ?_) (fun c_41 => ?_)
    · have h := h.1 c_41
      refine lv_iconst (v := 0) hx hb dX1_lay_29 (by decide) ?_
      refine lv_istore_n (lv' := [(2, .int 0), (0, .ref a0), (1, .ref a1)]) hx hb dX1_lay_30 rfl hl (by decide) rfl (fun ls hl => ?_)
      refine lv_iconst (v := 0) hx hb dX1_lay_31 (by decide) ?_
      refine lv_istore_n (lv' := [(3, .int 0), (2, .int 0), (0, .ref a0), (1, .ref a1)]) hx hb dX1_lay_32 rfl hl (by decide) rfl (fun ls hl => ?_)
      exact wX1_lay_33 X hr  h hw (lv_sub hl [2, 3, 1, 0] rfl)
    · have h := h.2 c_41
      refine lv_aload_n hx hb dX1_lay_15 rfl (lv_at hl 0 rfl) ?_
      have hk_34 : kd u a0 = 1 := h.1
      have h := h.2
      obtain ⟨b_35, e_36, h⟩ := h
      refine g_getR X hw in_X1 hk_34 rfl 9 rfl (by decide) q482 (fun _ z => z) e_36 dX1_lay_16 ?_
      have hk_37 : kd u b_35 = 4 := h.1
      have h := h.2
      refine g_calli hw (g_V X hw (mX4_least l G _ _ _ h) 0 (lw_V q1087 q1088 q1089 q128 q1090) rfl rfl ydX4_least ⟨Nat.le_of_ble_eq_true rfl, Nat.le_of_ble_eq_true rfl⟩ (g_recv X hw (ci := 3) (q := (RX4, TX4, 14)) hk_37 rfl) (As := []) (rest := []) rfl hl.1 rfl (Nat.le_of_ble_eq_true rfl) dX1_lay_19 ⟨Nat.le_refl _, Nat.le_refl _⟩) (fun r_38 u_39 H locs h hw => ?_)
      refine lv_if_eq (tgt := 29) hx hb dX1_lay_22 rfl (fun c_40 => ?_) (fun c_40 => ?_)
      · have h := h.1 c_40
        refine lv_iconst (v := 0) hx hb dX1_lay_29 (by decide) ?_
        refine lv_istore_n (lv' := [(2, .int 0), (0, .ref a0), (1, .ref a1)]) hx hb dX1_lay_30 rfl hl (by decide) rfl (fun ls hl => ?_)
        refine lv_iconst (v := 0) hx hb dX1_lay_31 (by decide) ?_
        refine lv_istore_n (lv' := [(3, .int 0), (2, .int 0), (0, .ref a0), (1, .ref a1)]) hx hb dX1_lay_32 rfl hl (by decide) rfl (fun ls hl => ?_)
        exact wX1_lay_33 X hr  h hw (lv_sub hl [2, 3, 1, 0] rfl)
      · have h := h.2 c_40
        refine lv_iconst (v := 1) hx hb dX1_lay_25 (by decide) ?_
        refine lv_goto (tgt := 30) hx hb dX1_lay_26 rfl ?_
        refine lv_istore_n (lv' := [(2, .int 1), (0, .ref a0), (1, .ref a1)]) hx hb dX1_lay_30 rfl hl (by decide) rfl (fun ls hl => ?_)
        refine lv_iconst (v := 0) hx hb dX1_lay_31 (by decide) ?_
        refine lv_istore_n (lv' := [(3, .int 0), (2, .int 1), (0, .ref a0), (1, .ref a1)]) hx hb dX1_lay_32 rfl hl (by decide) rfl (fun ls hl => ?_)
        exact wX1_lay_33 X hr  h hw (lv_sub hl [2, 3, 1, 0] rfl)
  · have h := h.2 c_42
    exact g_vret X hw hr h (Nat.le_refl _) (Nat.le_refl _) dX1_lay_7

/-! FifthCard.rowOf(II)I -/
theorem ydX1_rowOf : yX1_rowOf.cls = "FifthCard" ∧ yX1_rowOf.cls ≠ "java/lang/invoke/MethodHandle" ∧ yX1_rowOf.cls ≠ "java/lang/invoke/VarHandle" ∧ (parseMethodDescriptor yX1_rowOf.desc).map (fun d => d.parameters.length) = some 2 := by decide +kernel
def rmX1_rowOf (mc ms : Nat) : Room := { frames := 6, cells := mc, slots := ms, locals := 151 }
set_option maxHeartbeats 4000000 in
theorem mX1_rowOf (l : Launch) (G : GT) (u : Hp) (a0 : Nat) (x1 : Int32) (x2 : Int32) (K : Int32 → Hp → Prop) (h : pX1_rowOf u a0 x1 x2 K) : Met l yX1_rowOf (ws_ yX1_rowOf cX1_rowOf 3 (some .int)) (rmX1_rowOf 0 0) (va_Pc [.ref a0, .int x1, .int x2] (GB G u)) (va_Qi K (fun u t => GH G u t.heap) (GA G)) 0 0 (GA G) := by
  refine Met.ofW (cc := cX1_rowOf) (maxL := 3) (ret := (some .int)) (by decide) rfl ?_
  intro p e s m args below meth c s₁ B hml hv
  obtain ⟨rfl, hv⟩ := hv
  have X := Mc_of (own := RX1) B hml rfl hv
  have hw : GW G u s s.heap [] := ⟨hv.2.1, va_S.rf⟩
  have hr := B.returns
  obtain ⟨hx, hb, hml, hown, hts, -⟩ := id X
  have hl := lv_entry ([.ref a0, .int x1, .int x2]) (n := 3) (Nat.le_of_ble_eq_true rfl)
  rw [lg_entry_eq]
  generalize (lg_sl ([.ref a0, .int x1, .int x2]) ++ List.replicate (3 - (lg_sl ([.ref a0, .int x1, .int x2])).length) Slot.unset).toArray = ls at hl ⊢
  have hl : lv_has ls 3 [(0, .ref a0), (1, .int x1), (2, .int x2)] := hl
  change W p l e (rmX1_rowOf 0 0) s m _ below meth c s.heap [] 0 0 (QI G below K _ s 0 0) (F0 m 0 ls [])
  unfold pX1_rowOf at h
  refine lv_aload_n hx hb dX1_rowOf_0 rfl (lv_at hl 0 rfl) ?_
  refine lv_aload_n hx hb dX1_rowOf_1 rfl (lv_at hl 0 rfl) ?_
  have hk_1 : kd u a0 = 1 := h.1
  have h := h.2
  obtain ⟨b_2, e_3, h⟩ := h
  refine g_getR X hw in_X1 hk_1 rfl 3 rfl (by decide) q476 (fun _ z => z) e_3 dX1_rowOf_2 ?_
  have hk_4 : kd u b_2 = 17 := h.1
  have h := h.2
  obtain ⟨b_5, e_6, h⟩ := h
  refine g_getR X hw in_X20 hk_4 rfl 0 rfl (by decide) q559 (fun _ z => z) e_6 dX1_rowOf_5 ?_
  refine lv_iload_n hx hb dX1_rowOf_8 rfl (lv_at hl 1 rfl) ?_
  have hk_7 : kd u b_5 = 106 ∨ kd u b_5 = 107 := h.1
  have h := h.2
  obtain ⟨hi_10, b_8, e_9, h⟩ := h
  refine g_aald X hw hk_7 hi_10 e_9 dX1_rowOf_9 ?_
  refine g_callv hw (g_V X hw (mX1_lay l G _ _ _ _ h) 1 (lw_V q1082 q1084 qs30 q122 q1085) rfl rfl ydX1_lay ⟨Nat.le_of_ble_eq_true rfl, Nat.le_of_ble_eq_true rfl⟩ (g_recv X hw (ci := 0) (q := (RX1, TX1, 16)) hk_1 rfl) (As := [.ref b_8]) (rest := []) rfl hl.1 rfl (Nat.le_of_ble_eq_true rfl) dX1_rowOf_10 ⟨Nat.le_refl _, Nat.le_refl _⟩) (fun u_11 H locs h hw => ?_)
  refine lv_aload_n hx hb dX1_rowOf_13 rfl (lv_at hl 0 rfl) ?_
  have hk_12 : kd u_11 a0 = 1 := h.1
  have h := h.2
  obtain ⟨b_13, e_14, h⟩ := h
  refine g_getR X hw in_X1 hk_12 rfl 3 rfl (by decide) q476 (fun _ z => z) e_14 dX1_rowOf_14 ?_
  have hk_15 : kd u_11 b_13 = 17 := h.1
  have h := h.2
  obtain ⟨b_16, e_17, h⟩ := h
  refine g_getR X hw in_X20 hk_15 rfl 0 rfl (by decide) q559 (fun _ z => z) e_17 dX1_rowOf_17 ?_
  refine lv_iload_n hx hb dX1_rowOf_20 rfl (lv_at hl 1 rfl) ?_
  have hk_18 : kd u_11 b_16 = 106 ∨ kd u_11 b_16 = 107 := h.1
  have h := h.2
  obtain ⟨hi_21, b_19, e_20, h⟩ := h
  refine g_aald X hw hk_18 hi_21 e_20 dX1_rowOf_21 ?_
  have hk_22 : isRu (kd u_11 b_19) := h.1
  have h := h.2
  obtain ⟨b_23, e_24, h⟩ := h
  refine g_getRu2R X hw hk_22 q450 e_24 dX1_rowOf_22 ?_
  refine lv_iload_n hx hb dX1_rowOf_25 rfl (lv_at hl 2 rfl) ?_
  have hk_25 : kd u_11 b_23 = 101 := h.1
  have h := h.2
  refine g_iald X hw hk_25 h.1 dX1_rowOf_26 ?_
  have h := h.2
  exact g_iret X hw hr h (Nat.le_refl _) (Nat.le_refl _) dX1_rowOf_27

/-! FifthCard.lays(II)I -/
theorem ydX1_lays : yX1_lays.cls = "FifthCard" ∧ yX1_lays.cls ≠ "java/lang/invoke/MethodHandle" ∧ yX1_lays.cls ≠ "java/lang/invoke/VarHandle" ∧ (parseMethodDescriptor yX1_lays.desc).map (fun d => d.parameters.length) = some 2 := by decide +kernel
def rmX1_lays (mc ms : Nat) : Room := { frames := 7, cells := mc, slots := ms, locals := 173 }
set_option maxHeartbeats 4000000 in
theorem mX1_lays (l : Launch) (G : GT) (u : Hp) (a0 : Nat) (x1 : Int32) (x2 : Int32) (K : Int32 → Hp → Prop) (h : pX1_lays u a0 x1 x2 K) : Met l yX1_lays (ws_ yX1_lays cX1_lays 3 (some .int)) (rmX1_lays 0 0) (va_Pc [.ref a0, .int x1, .int x2] (GB G u)) (va_Qi K (fun u t => GH G u t.heap) (GA G)) 0 0 (GA G) := by
  refine Met.ofW (cc := cX1_lays) (maxL := 3) (ret := (some .int)) (by decide) rfl ?_
  intro p e s m args below meth c s₁ B hml hv
  obtain ⟨rfl, hv⟩ := hv
  have X := Mc_of (own := RX1) B hml rfl hv
  have hw : GW G u s s.heap [] := ⟨hv.2.1, va_S.rf⟩
  have hr := B.returns
  obtain ⟨hx, hb, hml, hown, hts, -⟩ := id X
  have hl := lv_entry ([.ref a0, .int x1, .int x2]) (n := 3) (Nat.le_of_ble_eq_true rfl)
  rw [lg_entry_eq]
  generalize (lg_sl ([.ref a0, .int x1, .int x2]) ++ List.replicate (3 - (lg_sl ([.ref a0, .int x1, .int x2])).length) Slot.unset).toArray = ls at hl ⊢
  have hl : lv_has ls 3 [(0, .ref a0), (1, .int x1), (2, .int x2)] := hl
  change W p l e (rmX1_lays 0 0) s m _ below meth c s.heap [] 0 0 (QI G below K _ s 0 0) (F0 m 0 ls [])
  unfold pX1_lays at h
  refine lv_aload_n hx hb dX1_lays_0 rfl (lv_at hl 0 rfl) ?_
  have hk_1 : kd u a0 = 1 := h.1
  have h := h.2
  refine g_callv hw (g_V X hw (mX1_anew l G _ _ _ h) 0 (lw_V q535 q537 qs2 q122 q538) rfl rfl ydX1_anew ⟨Nat.le_of_ble_eq_true rfl, Nat.le_of_ble_eq_true rfl⟩ (g_recv X hw (ci := 0) (q := (RX1, TX1, 16)) hk_1 rfl) (As := []) (rest := []) rfl hl.1 rfl (Nat.le_of_ble_eq_true rfl) dX1_lays_1 ⟨Nat.le_refl _, Nat.le_refl _⟩) (fun u_2 H locs h hw => ?_)
  refine lv_aload_n hx hb dX1_lays_4 rfl (lv_at hl 0 rfl) ?_
  refine lv_iload_n hx hb dX1_lays_5 rfl (lv_at hl 1 rfl) ?_
  have hk_3 : kd u_2 a0 = 1 := h.1
  have h := h.2
  refine g_callio hw (g_V X hw (mX1_isRule l G _ _ _ _ h) 1 (lw_V q1074 q1076 qs28 q122 q1077) rfl rfl ydX1_isRule ⟨Nat.le_of_ble_eq_true rfl, Nat.le_of_ble_eq_true rfl⟩ (g_recv X hw (ci := 0) (q := (RX1, TX1, 16)) hk_3 rfl) (As := [.int x1]) (rest := []) rfl hl.1 rfl (Nat.le_of_ble_eq_true rfl) dX1_lays_6 ⟨Nat.le_refl _, Nat.le_refl _⟩) (fun r_4 H locs h hw => ?_)
  refine lv_if_eq (tgt := 29) hx hb dX1_lays_9 rfl (fun c_13 => ?_) (fun c_13 => ?_)
  · have h := h.1 c_13
    refine lv_aload_n hx hb dX1_lays_29 rfl (lv_at hl 0 rfl) ?_
    refine lv_iconst (v := 1) hx hb dX1_lays_30 (by decide) ?_
    refine g_calli hw (g_V X hw (mX1_no l G _ _ _ _ h) 1 (lw_V q542 q544 qs3 q122 q545) rfl rfl ydX1_no ⟨Nat.le_of_ble_eq_true rfl, Nat.le_of_ble_eq_true rfl⟩ (g_recv X hw (ci := 0) (q := (RX1, TX1, 16)) hk_3 rfl) (As := [.int 1]) (rest := []) rfl hl.1 rfl (Nat.le_of_ble_eq_true rfl) dX1_lays_31 ⟨Nat.le_refl _, Nat.le_refl _⟩) (fun r_5 u_6 H locs h hw => ?_)
    exact g_iret X hw hr h (Nat.le_refl _) (Nat.le_refl _) dX1_lays_34
  · have h := h.2 c_13
    refine lv_aload_n hx hb dX1_lays_12 rfl (lv_at hl 0 rfl) ?_
    refine lv_iload_n hx hb dX1_lays_13 rfl (lv_at hl 2 rfl) ?_
    refine g_callio hw (g_V X hw (mX1_isHand l G _ _ _ _ h) 1 (lw_V q1019 q1021 qs25 q122 q1022) rfl rfl ydX1_isHand ⟨Nat.le_of_ble_eq_true rfl, Nat.le_of_ble_eq_true rfl⟩ (g_recv X hw (ci := 0) (q := (RX1, TX1, 16)) hk_3 rfl) (As := [.int x2]) (rest := []) rfl hl.1 rfl (Nat.le_of_ble_eq_true rfl) dX1_lays_14 ⟨Nat.le_refl _, Nat.le_refl _⟩) (fun r_7 H locs h hw => ?_)
    refine lv_if_eq (tgt := 29) hx hb dX1_lays_17 rfl (fun c_12 => ?_) (fun c_12 => ?_)
    · have h := h.1 c_12
      refine lv_aload_n hx hb dX1_lays_29 rfl (lv_at hl 0 rfl) ?_
      refine lv_iconst (v := 1) hx hb dX1_lays_30 (by decide) ?_
      refine g_calli hw (g_V X hw (mX1_no l G _ _ _ _ h) 1 (lw_V q542 q544 qs3 q122 q545) rfl rfl ydX1_no ⟨Nat.le_of_ble_eq_true rfl, Nat.le_of_ble_eq_true rfl⟩ (g_recv X hw (ci := 0) (q := (RX1, TX1, 16)) hk_3 rfl) (As := [.int 1]) (rest := []) rfl hl.1 rfl (Nat.le_of_ble_eq_true rfl) dX1_lays_31 ⟨Nat.le_refl _, Nat.le_refl _⟩) (fun r_8 u_9 H locs h hw => ?_)
      exact g_iret X hw hr h (Nat.le_refl _) (Nat.le_refl _) dX1_lays_34
    · have h := h.2 c_12
      refine lv_aload_n hx hb dX1_lays_20 rfl (lv_at hl 0 rfl) ?_
      refine lv_iload_n hx hb dX1_lays_21 rfl (lv_at hl 1 rfl) ?_
      refine lv_iload_n hx hb dX1_lays_22 rfl (lv_at hl 2 rfl) ?_
      refine g_calli hw (g_V X hw (mX1_rowOf l G _ _ _ _ _ h) 2 (lw_V q1078 q1080 qs29 q122 q1081) rfl rfl ydX1_rowOf ⟨Nat.le_of_ble_eq_true rfl, Nat.le_of_ble_eq_true rfl⟩ (g_recv X hw (ci := 0) (q := (RX1, TX1, 16)) hk_3 rfl) (As := [.int x1, .int x2]) (rest := []) rfl hl.1 rfl (Nat.le_of_ble_eq_true rfl) dX1_lays_23 ⟨Nat.le_refl _, Nat.le_refl _⟩) (fun r_10 u_11 H locs h hw => ?_)
      refine lv_goto (tgt := 34) hx hb dX1_lays_26 rfl ?_
      exact g_iret X hw hr h (Nat.le_refl _) (Nat.le_refl _) dX1_lays_34

/-! FifthCardModel.isRule(I)Z -/
theorem ydX19_isRule : yX19_isRule.cls = "FifthCardModel" ∧ yX19_isRule.cls ≠ "java/lang/invoke/MethodHandle" ∧ yX19_isRule.cls ≠ "java/lang/invoke/VarHandle" ∧ (parseMethodDescriptor yX19_isRule.desc).map (fun d => d.parameters.length) = some 1 := by decide +kernel
def rmX19_isRule (mc ms : Nat) : Room := { frames := 0, cells := mc, slots := ms, locals := 0 }
set_option maxHeartbeats 4000000 in
theorem mX19_isRule (l : Launch) (G : GT) (u : Hp) (a0 : Nat) (x1 : Int32) (K : Int32 → Prop) (h : pX19_isRule u a0 x1 K) : Met l yX19_isRule (ws_ yX19_isRule cX19_isRule 2 (some .boolean)) (rmX19_isRule 0 0) (va_Pc [.ref a0, .int x1] (GB G u)) (va_Qi (fun r v => v = u ∧ K r) (fun u t => GH G u t.heap) (GA G)) 0 0 (GA G) := by
  refine Met.ofW (cc := cX19_isRule) (maxL := 2) (ret := (some .boolean)) (by decide) rfl ?_
  intro p e s m args below meth c s₁ B hml hv
  obtain ⟨rfl, hv⟩ := hv
  have X := Mc_of (own := RX19) B hml rfl hv
  have hw : GW G u s s.heap [] := ⟨hv.2.1, va_S.rf⟩
  have hr := B.returns
  obtain ⟨hx, hb, hml, hown, hts, -⟩ := id X
  have hl := lv_entry ([.ref a0, .int x1]) (n := 2) (Nat.le_of_ble_eq_true rfl)
  rw [lg_entry_eq]
  generalize (lg_sl ([.ref a0, .int x1]) ++ List.replicate (2 - (lg_sl ([.ref a0, .int x1])).length) Slot.unset).toArray = ls at hl ⊢
  have hl : lv_has ls 2 [(0, .ref a0), (1, .int x1)] := hl
  change W p l e (rmX19_isRule 0 0) s m _ below meth c s.heap [] 0 0 (QI G below (fun r v => v = u ∧ K r) _ s 0 0) (F0 m 0 ls [])
  unfold pX19_isRule at h
  refine lv_aload_n hx hb dX19_isRule_0 rfl (lv_at hl 0 rfl) ?_
  have hk_1 : kd u a0 = 16 := h.1
  have h := h.2
  refine g_getO X hw in_X19 hk_1 rfl 3 rfl (by decide) q1454 (fun _ z => z) dX19_isRule_1 ?_
  refine g_ifnull X dX19_isRule_4 rfl (fun e_3 => ?_) (fun b_2 e_3 => ?_)
  · have h := h.1 e_3
    refine lv_iconst (v := 0) hx hb dX19_isRule_26 (by decide) ?_
    exact g_zret X hw hr rfl ⟨rfl, h⟩ (Nat.le_refl _) (Nat.le_refl _) dX19_isRule_27
  · have h := h.2 b_2 e_3
    refine lv_iload_n hx hb dX19_isRule_7 rfl (lv_at hl 1 rfl) ?_
    refine lv_if_lt (tgt := 26) hx hb dX19_isRule_8 rfl (fun c_8 => ?_) (fun c_8 => ?_)
    · have h := h.1 c_8
      refine lv_iconst (v := 0) hx hb dX19_isRule_26 (by decide) ?_
      exact g_zret X hw hr rfl ⟨rfl, h⟩ (Nat.le_refl _) (Nat.le_refl _) dX19_isRule_27
    · have h := h.2 c_8
      refine lv_iload_n hx hb dX19_isRule_11 rfl (lv_at hl 1 rfl) ?_
      refine lv_aload_n hx hb dX19_isRule_12 rfl (lv_at hl 0 rfl) ?_
      obtain ⟨b_4, e_5, h⟩ := h
      refine g_getR X hw in_X19 hk_1 rfl 3 rfl (by decide) q1454 (fun _ z => z) e_5 dX19_isRule_13 ?_
      have hk_6 : kd u b_4 = 20 := h.1
      have h := h.2
      refine g_getNI X hw (host := "FifthCardModel") in_X23 hk_6 rfl 5 rfl (by decide) (List.mem_of_getElem? (i := 8) rfl) (fun _ z => z) dX19_isRule_16 ?_
      refine lv_icmp_ge (tgt := 26) hx hb dX19_isRule_19 rfl (fun c_7 => ?_) (fun c_7 => ?_)
      · have h := h.1 c_7
        refine lv_iconst (v := 0) hx hb dX19_isRule_26 (by decide) ?_
        exact g_zret X hw hr rfl ⟨rfl, h⟩ (Nat.le_refl _) (Nat.le_refl _) dX19_isRule_27
      · have h := h.2 c_7
        refine lv_iconst (v := 1) hx hb dX19_isRule_22 (by decide) ?_
        refine lv_goto (tgt := 27) hx hb dX19_isRule_23 rfl ?_
        exact g_zret X hw hr rfl ⟨rfl, h⟩ (Nat.le_refl _) (Nat.le_refl _) dX19_isRule_27

/-! FifthCardModel.orders(II)V -/
theorem ydX19_orders : yX19_orders.cls = "FifthCardModel" ∧ yX19_orders.cls ≠ "java/lang/invoke/MethodHandle" ∧ yX19_orders.cls ≠ "java/lang/invoke/VarHandle" ∧ (parseMethodDescriptor yX19_orders.desc).map (fun d => d.parameters.length) = some 2 := by decide +kernel
def rmX19_orders (mc ms : Nat) : Room := { frames := 1, cells := mc, slots := ms, locals := 24 }
set_option maxHeartbeats 4000000 in
theorem wX19_orders_84 {G : GT} {p : Program} {l : Launch} {e : Env} {s : State} {m : MethodId} {args : Array Value} {below : List Frame} {meth : Method} {c : Code} {H : Heap} {locs : List Loc} {ls : Array Slot} {a0 : Nat} {x4 : Int32} {x5 : Int32} {x8 : Int32} {x7 : Int32} {u : Hp} {K : Hp → Prop} {J16 : Int32 → Int32 → Hp → Prop} (X : Mc G p s m args meth c RX19 cX19_orders 9) (hr : meth.sig.returnType = none) (hJ16 : ∀ (x4 : Int32) (x5 : Int32) (u : Hp) (H : Heap) (locs : List Loc) (ls : Array Slot) , J16 x4 x5 u → GW G u s H locs → lv_has ls 9 [(0, .ref a0), (4, .int x4), (5, .int x5)] → W p l e (rmX19_orders 0 0) s m args below meth c H locs 0 0 (QV G below K args s 0 0) (F0 m 16 ls [])) (h : jl2 (bX19_orders_84 K J16 a0 x4 x5 x8) x7 u) (hw : GW G u s H locs) (hl : lv_has ls 9 [(0, .ref a0), (4, .int x4), (5, .int x5), (7, .int x7), (8, .int x8)]) : W p l e (rmX19_orders 0 0) s m args below meth c H locs 0 0 (QV G below K args s 0 0) (F0 m 84 ls []) := by
  obtain ⟨hx, hb, hml, hown, hts, -⟩ := id X
  obtain ⟨I, μ, h0, hs⟩ := h
  have key : ∀ (n : Nat) (x7 : Int32) (u : Hp) (H : Heap) (locs : List Loc) (ls : Array Slot) , μ x7 u < n → I x7 u → GW G u s H locs → lv_has ls 9 [(0, .ref a0), (4, .int x4), (5, .int x5), (7, .int x7), (8, .int x8)] → W p l e (rmX19_orders 0 0) s m args below meth c H locs 0 0 (QV G below K args s 0 0) (F0 m 84 ls []) := by
    intro n
    induction n with
    | zero =>
      intro x7 u H locs ls hn
      exact absurd hn (Nat.not_lt_zero _)
    | succ n ih =>
      intro x7 u H locs ls hn hI hw hl
      have h := hs x7 u hI
      unfold bX19_orders_84 at h
      have hJ84 : ∀ (x7' : Int32) (u' : Hp) (H : Heap) (locs : List Loc) (ls : Array Slot) , (I x7' u' ∧ μ x7' u' < μ x7 u) → GW G u' s H locs → lv_has ls 9 [(0, .ref a0), (4, .int x4), (5, .int x5), (7, .int x7'), (8, .int x8)] → W p l e (rmX19_orders 0 0) s m args below meth c H locs 0 0 (QV G below K args s 0 0) (F0 m 84 ls []) := fun x7' u' H locs ls h hw hl => ih x7' u' H locs ls (Nat.lt_of_lt_of_le h.2 (Nat.le_of_lt_succ hn)) h.1 hw hl
      refine lv_iload hx hb dX19_orders_84 (lv_at hl 3 rfl) ?_
      refine lv_iload hx hb dX19_orders_86 (lv_at hl 2 rfl) ?_
      refine lv_icmp_le (tgt := 113) hx hb dX19_orders_88 rfl (fun c_9 => ?_) (fun c_9 => ?_)
      · have h := h.1 c_9
        refine lv_aload_n hx hb dX19_orders_113 rfl (lv_at hl 0 rfl) ?_
        have hk_1 : kd u a0 = 16 := h.1
        have h := h.2
        obtain ⟨b_2, e_3, h⟩ := h
        refine g_getR X hw in_X19 hk_1 rfl 19 rfl (by decide) q1470 (fun _ z => z) e_3 dX19_orders_114 ?_
        refine lv_iload hx hb dX19_orders_117 (lv_at hl 2 rfl) ?_
        refine lv_iload hx hb dX19_orders_119 (lv_at hl 4 rfl) ?_
        have hk_4 : kd u b_2 = 101 := h.1
        have h := h.2
        refine g_iast X hw hk_4 h.1 dX19_orders_121 (fun H locs hw => ?_)
        have h := h.2
        refine lv_iinc (v := x5 + 1) (lv' := [(5, .int (x5 + 1)), (0, .ref a0), (4, .int x4), (7, .int x7), (8, .int x8)]) hx hb dX19_orders_122 hl (k := 2) rfl rfl (by decide) rfl (fun ls hl => ?_)
        refine lv_goto (tgt := 16) hx hb dX19_orders_125 rfl ?_
        exact hJ16 _ _ _ _ _ _ h hw (lv_sub hl [1, 2, 0] rfl)
      · have h := h.2 c_9
        refine lv_aload_n hx hb dX19_orders_91 rfl (lv_at hl 0 rfl) ?_
        have hk_5 : kd u a0 = 16 := h.1
        have h := h.2
        obtain ⟨b_6, e_7, h⟩ := h
        refine g_getR X hw in_X19 hk_5 rfl 19 rfl (by decide) q1470 (fun _ z => z) e_7 dX19_orders_92 ?_
        refine lv_iload hx hb dX19_orders_95 (lv_at hl 3 rfl) ?_
        refine lv_aload_n hx hb dX19_orders_97 rfl (lv_at hl 0 rfl) ?_
        refine g_getR X hw in_X19 hk_5 rfl 19 rfl (by decide) q1470 (fun _ z => z) e_7 dX19_orders_98 ?_
        refine lv_iload hx hb dX19_orders_101 (lv_at hl 3 rfl) ?_
        refine lv_iconst (v := 1) hx hb dX19_orders_103 (by decide) ?_
        refine lv_isub hx hb dX19_orders_104 ?_
        have hk_8 : kd u b_6 = 101 := h.1
        have h := h.2
        refine g_iald X hw hk_8 h.1 dX19_orders_105 ?_
        have h := h.2
        refine g_iast X hw hk_8 h.1 dX19_orders_106 (fun H locs hw => ?_)
        have h := h.2
        refine lv_iinc (v := x7 + (-1)) (lv' := [(7, .int (x7 + (-1))), (0, .ref a0), (4, .int x4), (5, .int x5), (8, .int x8)]) hx hb dX19_orders_107 hl (k := 3) rfl rfl (by decide) rfl (fun ls hl => ?_)
        refine lv_goto (tgt := 84) hx hb dX19_orders_110 rfl ?_
        exact hJ84 _ _ _ _ _ h hw (lv_sub hl [1, 2, 3, 0, 4] rfl)
  exact key _ _ _ _ _ _ (Nat.lt_succ_self _) h0 hw hl
set_option maxHeartbeats 4000000 in
theorem wX19_orders_16 {G : GT} {p : Program} {l : Launch} {e : Env} {s : State} {m : MethodId} {args : Array Value} {below : List Frame} {meth : Method} {c : Code} {H : Heap} {locs : List Loc} {ls : Array Slot} {a0 : Nat} {x4 : Int32} {x5 : Int32} {u : Hp} {K : Hp → Prop} (X : Mc G p s m args meth c RX19 cX19_orders 9) (hr : meth.sig.returnType = none) (h : jl3 (bX19_orders_16 K a0) x4 x5 u) (hw : GW G u s H locs) (hl : lv_has ls 9 [(0, .ref a0), (4, .int x4), (5, .int x5)]) : W p l e (rmX19_orders 0 0) s m args below meth c H locs 0 0 (QV G below K args s 0 0) (F0 m 16 ls []) := by
  obtain ⟨hx, hb, hml, hown, hts, -⟩ := id X
  obtain ⟨I, μ, h0, hs⟩ := h
  have key : ∀ (n : Nat) (x4 : Int32) (x5 : Int32) (u : Hp) (H : Heap) (locs : List Loc) (ls : Array Slot) , μ x4 x5 u < n → I x4 x5 u → GW G u s H locs → lv_has ls 9 [(0, .ref a0), (4, .int x4), (5, .int x5)] → W p l e (rmX19_orders 0 0) s m args below meth c H locs 0 0 (QV G below K args s 0 0) (F0 m 16 ls []) := by
    intro n
    induction n with
    | zero =>
      intro x4 x5 u H locs ls hn
      exact absurd hn (Nat.not_lt_zero _)
    | succ n ih =>
      intro x4 x5 u H locs ls hn hI hw hl
      have h := hs x4 x5 u hI
      unfold bX19_orders_16 at h
      have hJ16 : ∀ (x4' : Int32) (x5' : Int32) (u' : Hp) (H : Heap) (locs : List Loc) (ls : Array Slot) , (I x4' x5' u' ∧ μ x4' x5' u' < μ x4 x5 u) → GW G u' s H locs → lv_has ls 9 [(0, .ref a0), (4, .int x4'), (5, .int x5')] → W p l e (rmX19_orders 0 0) s m args below meth c H locs 0 0 (QV G below K args s 0 0) (F0 m 16 ls []) := fun x4' x5' u' H locs ls h hw hl => ih x4' x5' u' H locs ls (Nat.lt_of_lt_of_le h.2 (Nat.le_of_lt_succ hn)) h.1 hw hl
      refine lv_iload hx hb dX19_orders_16 (lv_at hl 2 rfl) ?_
      refine lv_aload_n hx hb dX19_orders_18 rfl (lv_at hl 0 rfl) ?_
      have hk_10 : kd u a0 = 16 := h.1
      have h := h.2
      obtain ⟨b_11, e_12, h⟩ := h
      refine g_getR X hw in_X19 hk_10 rfl 3 rfl (by decide) q1454 (fun _ z => z) e_12 dX19_orders_19 ?_
      have hk_13 : kd u b_11 = 20 := h.1
      have h := h.2
      refine g_getNI X hw (host := "FifthCardModel") in_X23 hk_13 rfl 4 rfl (by decide) (List.mem_of_getElem? (i := 7) rfl) (fun _ z => z) dX19_orders_22 ?_
      refine lv_icmp_ge (tgt := 128) hx hb dX19_orders_25 rfl (fun c_20 => ?_) (fun c_20 => ?_)
      · have h := h.1 c_20
        exact g_vret X hw hr h (Nat.le_refl _) (Nat.le_refl _) dX19_orders_128
      · have h := h.2 c_20
        refine lv_aload_n hx hb dX19_orders_28 rfl (lv_at hl 0 rfl) ?_
        refine g_getR X hw in_X19 hk_10 rfl 3 rfl (by decide) q1454 (fun _ z => z) e_12 dX19_orders_29 ?_
        refine g_getNI X hw (host := "FifthCardModel") in_X23 hk_13 rfl 4 rfl (by decide) (List.mem_of_getElem? (i := 7) rfl) (fun _ z => z) dX19_orders_32 ?_
        refine lv_iconst (v := 1) hx hb dX19_orders_35 (by decide) ?_
        refine lv_isub hx hb dX19_orders_36 ?_
        refine lv_iload hx hb dX19_orders_37 (lv_at hl 2 rfl) ?_
        refine lv_isub hx hb dX19_orders_39 ?_
        refine lv_aload_n hx hb dX19_orders_40 rfl (lv_at hl 0 rfl) ?_
        refine g_getR X hw in_X19 hk_10 rfl 3 rfl (by decide) q1454 (fun _ z => z) e_12 dX19_orders_41 ?_
        refine g_getNI X hw (host := "FifthCardModel") in_X23 hk_13 rfl 4 rfl (by decide) (List.mem_of_getElem? (i := 7) rfl) (fun _ z => z) dX19_orders_44 ?_
        refine lv_iconst (v := 1) hx hb dX19_orders_47 (by decide) ?_
        refine lv_isub hx hb dX19_orders_48 ?_
        refine lv_iload hx hb dX19_orders_49 (lv_at hl 2 rfl) ?_
        refine lv_isub hx hb dX19_orders_51 ?_
        refine g_calllo hw (g_S X hw (mX19_rowsOf l G _ _ _ _ h) 2 (lw_S q1767 q1762 q143 q1763) rfl rfl ydX19_rowsOf ⟨Nat.le_of_ble_eq_true rfl, Nat.le_of_ble_eq_true rfl⟩ (As := [.int (((FI u 2304 b_11) - 1) - x5), .int (((FI u 2304 b_11) - 1) - x5)]) (rest := []) rfl hl.1 rfl (Nat.le_of_ble_eq_true rfl) dX19_orders_52 ⟨Nat.le_refl _, Nat.le_refl _⟩) (fun r_14 H locs h hw => ?_)
        refine lv_l2i hx hb dX19_orders_55 rfl ?_
        refine lv_istore (lv' := [(6, .int (r_14.toInt32)), (0, .ref a0), (4, .int x4), (5, .int x5)]) hx hb dX19_orders_56 hl (by decide) rfl (fun ls hl => ?_)
        refine lv_iload hx hb dX19_orders_58 (lv_at hl 3 rfl) ?_
        refine lv_iload hx hb dX19_orders_60 (lv_at hl 2 rfl) ?_
        refine lv_iload hx hb dX19_orders_62 (lv_at hl 0 rfl) ?_
        refine lv_idiv hx hb dX19_orders_64 h.1 ?_
        have h := h.2
        refine lv_iadd hx hb dX19_orders_65 ?_
        refine lv_istore (lv' := [(7, .int (x5 + (x4 / (r_14.toInt32)))), (6, .int (r_14.toInt32)), (0, .ref a0), (4, .int x4), (5, .int x5)]) hx hb dX19_orders_66 hl (by decide) rfl (fun ls hl => ?_)
        refine lv_iload hx hb dX19_orders_68 (lv_at hl 3 rfl) ?_
        refine lv_iload hx hb dX19_orders_70 (lv_at hl 1 rfl) ?_
        refine lv_irem hx hb dX19_orders_72 h.1 ?_
        have h := h.2
        refine lv_istore (lv' := [(4, .int (jrem x4 (r_14.toInt32))), (7, .int (x5 + (x4 / (r_14.toInt32)))), (6, .int (r_14.toInt32)), (0, .ref a0), (5, .int x5)]) hx hb dX19_orders_73 hl (by decide) rfl (fun ls hl => ?_)
        refine lv_aload_n hx hb dX19_orders_75 rfl (lv_at hl 3 rfl) ?_
        obtain ⟨b_15, e_16, h⟩ := h
        refine g_getR X hw in_X19 hk_10 rfl 19 rfl (by decide) q1470 (fun _ z => z) e_16 dX19_orders_76 ?_
        refine lv_iload hx hb dX19_orders_79 (lv_at hl 1 rfl) ?_
        have hk_17 : kd u b_15 = 101 := h.1
        have h := h.2
        refine g_iald X hw hk_17 h.1 dX19_orders_81 ?_
        have h := h.2
        refine lv_topi (fun x8_18 e_19 => ?_)
        have h := h x8_18 e_19
        refine lv_istore (lv' := [(8, .int x8_18), (4, .int (jrem x4 (r_14.toInt32))), (7, .int (x5 + (x4 / (r_14.toInt32)))), (6, .int (r_14.toInt32)), (0, .ref a0), (5, .int x5)]) hx hb dX19_orders_82 hl (by decide) rfl (fun ls hl => ?_)
        exact wX19_orders_84 X hr hJ16  h hw (lv_sub hl [4, 1, 5, 2, 0] rfl)
  exact key _ _ _ _ _ _ _ (Nat.lt_succ_self _) h0 hw hl
set_option maxHeartbeats 4000000 in
theorem mX19_orders (l : Launch) (G : GT) (u : Hp) (a0 : Nat) (x1 : Int32) (x2 : Int32) (K : Hp → Prop) (h : pX19_orders u a0 x1 x2 K) : Met l yX19_orders (ws_ yX19_orders cX19_orders 9 none) (rmX19_orders 0 0) (va_Pc [.ref a0, .int x1, .int x2] (GB G u)) (va_Qv K (fun u t => GH G u t.heap) (GA G)) 0 0 (GA G) := by
  refine Met.ofW (cc := cX19_orders) (maxL := 9) (ret := none) (by decide) rfl ?_
  intro p e s m args below meth c s₁ B hml hv
  obtain ⟨rfl, hv⟩ := hv
  have X := Mc_of (own := RX19) B hml rfl hv
  have hw : GW G u s s.heap [] := ⟨hv.2.1, va_S.rf⟩
  have hr := B.returns
  obtain ⟨hx, hb, hml, hown, hts, -⟩ := id X
  have hl := lv_entry ([.ref a0, .int x1, .int x2]) (n := 9) (Nat.le_of_ble_eq_true rfl)
  rw [lg_entry_eq]
  generalize (lg_sl ([.ref a0, .int x1, .int x2]) ++ List.replicate (9 - (lg_sl ([.ref a0, .int x1, .int x2])).length) Slot.unset).toArray = ls at hl ⊢
  have hl : lv_has ls 9 [(0, .ref a0), (1, .int x1), (2, .int x2)] := hl
  change W p l e (rmX19_orders 0 0) s m _ below meth c s.heap [] 0 0 (QV G below K _ s 0 0) (F0 m 0 ls [])
  unfold pX19_orders at h
  refine lv_aload_n hx hb dX19_orders_0 rfl (lv_at hl 0 rfl) ?_
  have hk_21 : kd u a0 = 16 := h.1
  have h := h.2
  obtain ⟨b_22, e_23, h⟩ := h
  refine g_getR X hw in_X19 hk_21 rfl 3 rfl (by decide) q1454 (fun _ z => z) e_23 dX19_orders_1 ?_
  have hk_24 : kd u b_22 = 20 := h.1
  have h := h.2
  refine g_getNI X hw (host := "FifthCardModel") in_X23 hk_24 rfl 4 rfl (by decide) (List.mem_of_getElem? (i := 7) rfl) (fun _ z => z) dX19_orders_4 ?_
  refine lv_iload_n hx hb dX19_orders_7 rfl (lv_at hl 2 rfl) ?_
  refine lv_isub hx hb dX19_orders_8 ?_
  refine lv_istore_n (lv' := [(3, .int ((FI u 2304 b_22) - x2)), (0, .ref a0), (1, .int x1), (2, .int x2)]) hx hb dX19_orders_9 rfl hl (by decide) rfl (fun ls hl => ?_)
  refine lv_iload_n hx hb dX19_orders_10 rfl (lv_at hl 2 rfl) ?_
  refine lv_istore (lv' := [(4, .int x1), (3, .int ((FI u 2304 b_22) - x2)), (0, .ref a0), (1, .int x1), (2, .int x2)]) hx hb dX19_orders_11 hl (by decide) rfl (fun ls hl => ?_)
  refine lv_iload_n hx hb dX19_orders_13 rfl (lv_at hl 4 rfl) ?_
  refine lv_istore (lv' := [(5, .int x2), (4, .int x1), (3, .int ((FI u 2304 b_22) - x2)), (0, .ref a0), (1, .int x1), (2, .int x2)]) hx hb dX19_orders_14 hl (by decide) rfl (fun ls hl => ?_)
  exact wX19_orders_16 X hr  h hw (lv_sub hl [3, 1, 0] rfl)

/-! FifthCardModel.laysSuit(I)I -/
theorem ydX19_laysSuit : yX19_laysSuit.cls = "FifthCardModel" ∧ yX19_laysSuit.cls ≠ "java/lang/invoke/MethodHandle" ∧ yX19_laysSuit.cls ≠ "java/lang/invoke/VarHandle" ∧ (parseMethodDescriptor yX19_laysSuit.desc).map (fun d => d.parameters.length) = some 1 := by decide +kernel
def rmX19_laysSuit (mc ms : Nat) : Room := { frames := 2, cells := mc, slots := ms, locals := 52 }
set_option maxHeartbeats 4000000 in
theorem wX19_laysSuit_197 {G : GT} {p : Program} {l : Launch} {e : Env} {s : State} {m : MethodId} {args : Array Value} {below : List Frame} {meth : Method} {c : Code} {H : Heap} {locs : List Loc} {ls : Array Slot} {a0 : Nat} {x1 : Int32} {x3 : Int32} {x4 : Int32} {x10 : Int32} {x11 : Int32} {x12 : Int32} {u : Hp} {K : Int32 → Hp → Prop} (X : Mc G p s m args meth c RX19 cX19_laysSuit 13) (hr : meth.sig.returnType = (some .int)) (h : jl3 (bX19_laysSuit_197 K a0 x1 x3 x4 x10) x11 x12 u) (hw : GW G u s H locs) (hl : lv_has ls 13 [(0, .ref a0), (1, .int x1), (3, .int x3), (4, .int x4), (10, .int x10), (11, .int x11), (12, .int x12)]) : W p l e (rmX19_laysSuit 0 0) s m args below meth c H locs 0 0 (QI G below K args s 0 0) (F0 m 197 ls []) := by
  obtain ⟨hx, hb, hml, hown, hts, -⟩ := id X
  obtain ⟨I, μ, h0, hs⟩ := h
  have key : ∀ (n : Nat) (x11 : Int32) (x12 : Int32) (u : Hp) (H : Heap) (locs : List Loc) (ls : Array Slot) , μ x11 x12 u < n → I x11 x12 u → GW G u s H locs → lv_has ls 13 [(0, .ref a0), (1, .int x1), (3, .int x3), (4, .int x4), (10, .int x10), (11, .int x11), (12, .int x12)] → W p l e (rmX19_laysSuit 0 0) s m args below meth c H locs 0 0 (QI G below K args s 0 0) (F0 m 197 ls []) := by
    intro n
    induction n with
    | zero =>
      intro x11 x12 u H locs ls hn
      exact absurd hn (Nat.not_lt_zero _)
    | succ n ih =>
      intro x11 x12 u H locs ls hn hI hw hl
      have h := hs x11 x12 u hI
      unfold bX19_laysSuit_197 at h
      have hJ197 : ∀ (x11' : Int32) (x12' : Int32) (u' : Hp) (H : Heap) (locs : List Loc) (ls : Array Slot) , (I x11' x12' u' ∧ μ x11' x12' u' < μ x11 x12 u) → GW G u' s H locs → lv_has ls 13 [(0, .ref a0), (1, .int x1), (3, .int x3), (4, .int x4), (10, .int x10), (11, .int x11'), (12, .int x12')] → W p l e (rmX19_laysSuit 0 0) s m args below meth c H locs 0 0 (QI G below K args s 0 0) (F0 m 197 ls []) := fun x11' x12' u' H locs ls h hw hl => ih x11' x12' u' H locs ls (Nat.lt_of_lt_of_le h.2 (Nat.le_of_lt_succ hn)) h.1 hw hl
      refine lv_iload hx hb dX19_laysSuit_197 (lv_at hl 6 rfl) ?_
      refine lv_aload_n hx hb dX19_laysSuit_199 rfl (lv_at hl 0 rfl) ?_
      have hk_1 : kd u a0 = 16 := h.1
      have h := h.2
      obtain ⟨b_2, e_3, h⟩ := h
      refine g_getR X hw in_X19 hk_1 rfl 3 rfl (by decide) q1454 (fun _ z => z) e_3 dX19_laysSuit_200 ?_
      have hk_4 : kd u b_2 = 20 := h.1
      have h := h.2
      refine g_getNI X hw (host := "FifthCardModel") in_X23 hk_4 rfl 2 rfl (by decide) (List.mem_of_getElem? (i := 2) rfl) (fun _ z => z) dX19_laysSuit_203 ?_
      refine lv_icmp_ge (tgt := 248) hx hb dX19_laysSuit_206 rfl (fun c_20 => ?_) (fun c_20 => ?_)
      · have h := h.1 c_20
        refine lv_aload_n hx hb dX19_laysSuit_248 rfl (lv_at hl 0 rfl) ?_
        refine lv_iload hx hb dX19_laysSuit_249 (lv_at hl 4 rfl) ?_
        refine lv_iconst (v := 1) hx hb dX19_laysSuit_251 (by decide) ?_
        refine g_callv hw (g_V X hw (mX19_orders l G _ _ _ _ _ h) 2 (lw_V q1952 q1954 qs87 q143 q1955) rfl rfl ydX19_orders ⟨Nat.le_of_ble_eq_true rfl, Nat.le_of_ble_eq_true rfl⟩ (g_recv X hw (ci := 15) (q := (RX19, TX19, 46)) hk_1 rfl) (As := [.int x10, .int 1]) (rest := []) rfl hl.1 rfl (Nat.le_of_ble_eq_true rfl) dX19_laysSuit_252 ⟨Nat.le_refl _, Nat.le_refl _⟩) (fun u_5 H locs h hw => ?_)
        refine lv_aload_n hx hb dX19_laysSuit_255 rfl (lv_at hl 0 rfl) ?_
        refine lv_aload_n hx hb dX19_laysSuit_256 rfl (lv_at hl 0 rfl) ?_
        have hk_6 : kd u_5 a0 = 16 := h.1
        have h := h.2
        obtain ⟨b_7, e_8, h⟩ := h
        refine g_getR X hw in_X19 hk_6 rfl 19 rfl (by decide) q1470 (fun _ z => z) e_8 dX19_laysSuit_257 ?_
        refine lv_iconst (v := 0) hx hb dX19_laysSuit_260 (by decide) ?_
        refine g_callio hw (g_V X hw (mX19_rowNumber l G _ _ _ _ _ h) 2 (lw_V q1859 q1861 qs76 q143 q1862) rfl rfl ydX19_rowNumber ⟨Nat.le_of_ble_eq_true rfl, Nat.le_of_ble_eq_true rfl⟩ (g_recv X hw (ci := 15) (q := (RX19, TX19, 46)) hk_6 rfl) (As := [.ref b_7, .int 0]) (rest := []) rfl hl.1 rfl (Nat.le_of_ble_eq_true rfl) dX19_laysSuit_261 ⟨Nat.le_refl _, Nat.le_refl _⟩) (fun r_9 H locs h hw => ?_)
        refine lv_aload_n hx hb dX19_laysSuit_264 rfl (lv_at hl 0 rfl) ?_
        obtain ⟨b_10, e_11, h⟩ := h
        refine g_getR X hw in_X19 hk_6 rfl 3 rfl (by decide) q1454 (fun _ z => z) e_11 dX19_laysSuit_265 ?_
        have hk_12 : kd u_5 b_10 = 20 := h.1
        have h := h.2
        refine g_callio hw (g_V X hw (mX23_tilts l G _ _ _ h) 0 (lw_V q1863 q1864 q1865 q153 q1866) rfl rfl ydX23_tilts ⟨Nat.le_of_ble_eq_true rfl, Nat.le_of_ble_eq_true rfl⟩ (g_recv X hw (ci := 19) (q := (RX23, TX23, 15)) hk_12 rfl) (As := []) (rest := [.int r_9]) rfl hl.1 rfl (Nat.le_of_ble_eq_true rfl) dX19_laysSuit_268 ⟨Nat.le_refl _, Nat.le_refl _⟩) (fun r_13 H locs h hw => ?_)
        refine lv_imul hx hb dX19_laysSuit_271 ?_
        exact g_iret X hw hr h (Nat.le_refl _) (Nat.le_refl _) dX19_laysSuit_272
      · have h := h.2 c_20
        refine lv_iload hx hb dX19_laysSuit_209 (lv_at hl 6 rfl) ?_
        refine lv_iload_n hx hb dX19_laysSuit_211 rfl (lv_at hl 2 rfl) ?_
        refine lv_icmp_eq (tgt := 242) hx hb dX19_laysSuit_212 rfl (fun c_19 => ?_) (fun c_19 => ?_)
        · have h := h.1 c_19
          refine lv_iinc (v := x12 + 1) (lv' := [(12, .int (x12 + 1)), (0, .ref a0), (1, .int x1), (3, .int x3), (4, .int x4), (10, .int x10), (11, .int x11)]) hx hb dX19_laysSuit_242 hl (k := 6) rfl rfl (by decide) rfl (fun ls hl => ?_)
          refine lv_goto (tgt := 197) hx hb dX19_laysSuit_245 rfl ?_
          exact hJ197 _ _ _ _ _ _ h hw (lv_sub hl [1, 2, 3, 4, 5, 6, 0] rfl)
        · have h := h.2 c_19
          refine lv_iload hx hb dX19_laysSuit_215 (lv_at hl 6 rfl) ?_
          refine lv_iload hx hb dX19_laysSuit_217 (lv_at hl 3 rfl) ?_
          refine lv_icmp_ne (tgt := 225) hx hb dX19_laysSuit_219 rfl (fun c_18 => ?_) (fun c_18 => ?_)
          · have h := h.2 c_18
            refine lv_aload_n hx hb dX19_laysSuit_225 rfl (lv_at hl 0 rfl) ?_
            obtain ⟨b_14, e_15, h⟩ := h
            refine g_getR X hw in_X19 hk_1 rfl 19 rfl (by decide) q1470 (fun _ z => z) e_15 dX19_laysSuit_226 ?_
            refine lv_iload hx hb dX19_laysSuit_229 (lv_at hl 5 rfl) ?_
            refine lv_aload_n hx hb dX19_laysSuit_231 rfl (lv_at hl 0 rfl) ?_
            refine lv_iload_n hx hb dX19_laysSuit_232 rfl (lv_at hl 1 rfl) ?_
            refine lv_iload hx hb dX19_laysSuit_233 (lv_at hl 6 rfl) ?_
            refine g_callio hw (g_V X hw (mX19_cardOf l G _ _ _ _ _ h) 2 (lw_V q1851 q1853 qs74 q143 q1854) rfl rfl ydX19_cardOf ⟨Nat.le_of_ble_eq_true rfl, Nat.le_of_ble_eq_true rfl⟩ (g_recv X hw (ci := 15) (q := (RX19, TX19, 46)) hk_1 rfl) (As := [.int x1, .int x12]) (rest := [.int x11, .ref b_14]) rfl hl.1 rfl (Nat.le_of_ble_eq_true rfl) dX19_laysSuit_235 ⟨Nat.le_refl _, Nat.le_refl _⟩) (fun r_16 H locs h hw => ?_)
            have hk_17 : kd u b_14 = 101 := h.1
            have h := h.2
            refine g_iast X hw hk_17 h.1 dX19_laysSuit_238 (fun H locs hw => ?_)
            have h := h.2
            refine lv_iinc (v := x11 + 1) (lv' := [(11, .int (x11 + 1)), (0, .ref a0), (1, .int x1), (3, .int x3), (4, .int x4), (10, .int x10), (12, .int x12)]) hx hb dX19_laysSuit_239 hl (k := 5) rfl rfl (by decide) rfl (fun ls hl => ?_)
            refine lv_iinc (v := x12 + 1) (lv' := [(12, .int (x12 + 1)), (11, .int (x11 + 1)), (0, .ref a0), (1, .int x1), (3, .int x3), (4, .int x4), (10, .int x10)]) hx hb dX19_laysSuit_242 hl (k := 6) rfl rfl (by decide) rfl (fun ls hl => ?_)
            refine lv_goto (tgt := 197) hx hb dX19_laysSuit_245 rfl ?_
            exact hJ197 _ _ _ _ _ _ h hw (lv_sub hl [2, 3, 4, 5, 6, 1, 0] rfl)
          · have h := h.1 c_18
            refine lv_goto (tgt := 242) hx hb dX19_laysSuit_222 rfl ?_
            refine lv_iinc (v := x12 + 1) (lv' := [(12, .int (x12 + 1)), (0, .ref a0), (1, .int x1), (3, .int x3), (4, .int x4), (10, .int x10), (11, .int x11)]) hx hb dX19_laysSuit_242 hl (k := 6) rfl rfl (by decide) rfl (fun ls hl => ?_)
            refine lv_goto (tgt := 197) hx hb dX19_laysSuit_245 rfl ?_
            exact hJ197 _ _ _ _ _ _ h hw (lv_sub hl [1, 2, 3, 4, 5, 6, 0] rfl)
  exact key _ _ _ _ _ _ _ (Nat.lt_succ_self _) h0 hw hl
set_option maxHeartbeats 4000000 in
theorem wX19_laysSuit_148 {G : GT} {p : Program} {l : Launch} {e : Env} {s : State} {m : MethodId} {args : Array Value} {below : List Frame} {meth : Method} {c : Code} {H : Heap} {locs : List Loc} {ls : Array Slot} {a0 : Nat} {x1 : Int32} {x3 : Int32} {x4 : Int32} {x9 : Int32} {z0 : Int32} {u : Hp} {K : Int32 → Hp → Prop} (X : Mc G p s m args meth c RX19 cX19_laysSuit 13) (hr : meth.sig.returnType = (some .int)) (h : bX19_laysSuit_148 K a0 x1 x3 x4 x9 z0 u) (hw : GW G u s H locs) (hl : lv_has ls 13 [(0, .ref a0), (1, .int x1), (3, .int x3), (4, .int x4), (9, .int x9)]) : W p l e (rmX19_laysSuit 0 0) s m args below meth c H locs 0 0 (QI G below K args s 0 0) (F0 m 148 ls [.int z0]) := by
  obtain ⟨hx, hb, hml, hown, hts, -⟩ := id X
  unfold bX19_laysSuit_148 at h
  refine lv_iconst (v := 1) hx hb dX19_laysSuit_148 (by decide) ?_
  refine lv_isub hx hb dX19_laysSuit_149 ?_
  refine lv_istore (lv' := [(10, .int (z0 - 1)), (0, .ref a0), (1, .int x1), (3, .int x3), (4, .int x4), (9, .int x9)]) hx hb dX19_laysSuit_150 hl (by decide) rfl (fun ls hl => ?_)
  refine lv_iload hx hb dX19_laysSuit_152 (lv_at hl 0 rfl) ?_
  refine lv_i2l hx hb dX19_laysSuit_154 rfl ?_
  refine lv_aload_n hx hb dX19_laysSuit_155 rfl (lv_at hl 1 rfl) ?_
  have hk_21 : kd u a0 = 16 := h.1
  have h := h.2
  obtain ⟨b_22, e_23, h⟩ := h
  refine g_getR X hw in_X19 hk_21 rfl 3 rfl (by decide) q1454 (fun _ z => z) e_23 dX19_laysSuit_156 ?_
  have hk_24 : kd u b_22 = 20 := h.1
  have h := h.2
  refine g_getNI X hw (host := "FifthCardModel") in_X23 hk_24 rfl 4 rfl (by decide) (List.mem_of_getElem? (i := 7) rfl) (fun _ z => z) dX19_laysSuit_159 ?_
  refine lv_iconst (v := 1) hx hb dX19_laysSuit_162 (by decide) ?_
  refine lv_isub hx hb dX19_laysSuit_163 ?_
  refine lv_aload_n hx hb dX19_laysSuit_164 rfl (lv_at hl 1 rfl) ?_
  refine g_getR X hw in_X19 hk_21 rfl 3 rfl (by decide) q1454 (fun _ z => z) e_23 dX19_laysSuit_165 ?_
  refine g_getNI X hw (host := "FifthCardModel") in_X23 hk_24 rfl 4 rfl (by decide) (List.mem_of_getElem? (i := 7) rfl) (fun _ z => z) dX19_laysSuit_168 ?_
  refine lv_iconst (v := 1) hx hb dX19_laysSuit_171 (by decide) ?_
  refine lv_isub hx hb dX19_laysSuit_172 ?_
  refine g_calllo hw (g_S X hw (mX19_rowsOf l G _ _ _ _ h) 2 (lw_S q1767 q1762 q143 q1763) rfl rfl ydX19_rowsOf ⟨Nat.le_of_ble_eq_true rfl, Nat.le_of_ble_eq_true rfl⟩ (As := [.int ((FI u 2304 b_22) - 1), .int ((FI u 2304 b_22) - 1)]) (rest := [.long ((z0 - 1).toInt64)]) rfl hl.1 rfl (Nat.le_of_ble_eq_true rfl) dX19_laysSuit_173 ⟨Nat.le_refl _, Nat.le_refl _⟩) (fun r_25 H locs h hw => ?_)
  refine W.lcmp hx hb dX19_laysSuit_176 ?_
  refine lv_if_lt (tgt := 183) hx hb dX19_laysSuit_177 rfl (fun c_29 => ?_) (fun c_29 => ?_)
  · have h := h.1 c_29
    refine lv_aload_n hx hb dX19_laysSuit_183 rfl (lv_at hl 1 rfl) ?_
    obtain ⟨b_26, e_27, h⟩ := h
    refine g_getR X hw in_X19 hk_21 rfl 19 rfl (by decide) q1470 (fun _ z => z) e_27 dX19_laysSuit_184 ?_
    refine lv_iconst (v := 0) hx hb dX19_laysSuit_187 (by decide) ?_
    refine lv_iload hx hb dX19_laysSuit_188 (lv_at hl 5 rfl) ?_
    have hk_28 : kd u b_26 = 101 := h.1
    have h := h.2
    refine g_iast X hw hk_28 h.1 dX19_laysSuit_190 (fun H locs hw => ?_)
    have h := h.2
    refine lv_iconst (v := 1) hx hb dX19_laysSuit_191 (by decide) ?_
    refine lv_istore (lv' := [(11, .int 1), (10, .int (z0 - 1)), (0, .ref a0), (1, .int x1), (3, .int x3), (4, .int x4), (9, .int x9)]) hx hb dX19_laysSuit_192 hl (by decide) rfl (fun ls hl => ?_)
    refine lv_iconst (v := 0) hx hb dX19_laysSuit_194 (by decide) ?_
    refine lv_istore (lv' := [(12, .int 0), (11, .int 1), (10, .int (z0 - 1)), (0, .ref a0), (1, .int x1), (3, .int x3), (4, .int x4), (9, .int x9)]) hx hb dX19_laysSuit_195 hl (by decide) rfl (fun ls hl => ?_)
    exact wX19_laysSuit_197 X hr  h hw (lv_sub hl [3, 4, 5, 6, 2, 1, 0] rfl)
  · have h := h.2 c_29
    refine lv_bipush (v := (-2)) hx hb dX19_laysSuit_180 (by decide) ?_
    exact g_iret X hw hr h (Nat.le_refl _) (Nat.le_refl _) dX19_laysSuit_182
set_option maxHeartbeats 4000000 in
theorem wX19_laysSuit_118 {G : GT} {p : Program} {l : Launch} {e : Env} {s : State} {m : MethodId} {args : Array Value} {below : List Frame} {meth : Method} {c : Code} {H : Heap} {locs : List Loc} {ls : Array Slot} {a0 : Nat} {x1 : Int32} {x2 : Int32} {x3 : Int32} {x4 : Int32} {x5 : Int32} {x6 : Int32} {x7 : Int32} {z0 : Int32} {u : Hp} {K : Int32 → Hp → Prop} (X : Mc G p s m args meth c RX19 cX19_laysSuit 13) (hr : meth.sig.returnType = (some .int)) (h : bX19_laysSuit_118 K a0 x1 x2 x3 x4 x5 x6 x7 z0 u) (hw : GW G u s H locs) (hl : lv_has ls 13 [(0, .ref a0), (1, .int x1), (2, .int x2), (3, .int x3), (4, .int x4), (5, .int x5), (6, .int x6), (7, .int x7)]) : W p l e (rmX19_laysSuit 0 0) s m args below meth c H locs 0 0 (QI G below K args s 0 0) (F0 m 118 ls [.int z0]) := by
  obtain ⟨hx, hb, hml, hown, hts, -⟩ := id X
  unfold bX19_laysSuit_118 at h
  refine lv_istore (lv' := [(8, .int z0), (0, .ref a0), (1, .int x1), (2, .int x2), (3, .int x3), (4, .int x4), (5, .int x5), (6, .int x6), (7, .int x7)]) hx hb dX19_laysSuit_118 hl (by decide) rfl (fun ls hl => ?_)
  refine lv_iload hx hb dX19_laysSuit_120 (lv_at hl 0 rfl) ?_
  refine lv_if_eq (tgt := 130) hx hb dX19_laysSuit_122 rfl (fun c_32 => ?_) (fun c_32 => ?_)
  · have h := h.1 c_32
    refine lv_iload hx hb dX19_laysSuit_130 (lv_at hl 7 rfl) ?_
    refine lv_istore (lv' := [(9, .int x6), (8, .int z0), (0, .ref a0), (1, .int x1), (2, .int x2), (3, .int x3), (4, .int x4), (5, .int x5), (6, .int x6), (7, .int x7)]) hx hb dX19_laysSuit_132 hl (by decide) rfl (fun ls hl => ?_)
    refine lv_iload hx hb dX19_laysSuit_134 (lv_at hl 1 rfl) ?_
    refine lv_if_eq (tgt := 144) hx hb dX19_laysSuit_136 rfl (fun c_30 => ?_) (fun c_30 => ?_)
    · have h := h.1 c_30
      refine lv_iload_n hx hb dX19_laysSuit_144 rfl (lv_at hl 4 rfl) ?_
      refine lv_iload hx hb dX19_laysSuit_145 (lv_at hl 9 rfl) ?_
      refine lv_isub hx hb dX19_laysSuit_147 ?_
      exact wX19_laysSuit_148 X hr  h hw (lv_sub hl [2, 3, 5, 6, 0] rfl)
    · have h := h.2 c_30
      refine lv_iload hx hb dX19_laysSuit_139 (lv_at hl 9 rfl) ?_
      refine lv_goto (tgt := 148) hx hb dX19_laysSuit_141 rfl ?_
      exact wX19_laysSuit_148 X hr  h hw (lv_sub hl [2, 3, 5, 6, 0] rfl)
  · have h := h.2 c_32
    refine lv_iload hx hb dX19_laysSuit_125 (lv_at hl 6 rfl) ?_
    refine lv_goto (tgt := 132) hx hb dX19_laysSuit_127 rfl ?_
    refine lv_istore (lv' := [(9, .int x5), (8, .int z0), (0, .ref a0), (1, .int x1), (2, .int x2), (3, .int x3), (4, .int x4), (5, .int x5), (6, .int x6), (7, .int x7)]) hx hb dX19_laysSuit_132 hl (by decide) rfl (fun ls hl => ?_)
    refine lv_iload hx hb dX19_laysSuit_134 (lv_at hl 1 rfl) ?_
    refine lv_if_eq (tgt := 144) hx hb dX19_laysSuit_136 rfl (fun c_31 => ?_) (fun c_31 => ?_)
    · have h := h.1 c_31
      refine lv_iload_n hx hb dX19_laysSuit_144 rfl (lv_at hl 4 rfl) ?_
      refine lv_iload hx hb dX19_laysSuit_145 (lv_at hl 9 rfl) ?_
      refine lv_isub hx hb dX19_laysSuit_147 ?_
      exact wX19_laysSuit_148 X hr  h hw (lv_sub hl [2, 3, 5, 6, 0] rfl)
    · have h := h.2 c_31
      refine lv_iload hx hb dX19_laysSuit_139 (lv_at hl 9 rfl) ?_
      refine lv_goto (tgt := 148) hx hb dX19_laysSuit_141 rfl ?_
      exact wX19_laysSuit_148 X hr  h hw (lv_sub hl [2, 3, 5, 6, 0] rfl)
set_option maxHeartbeats 4000000 in
theorem wX19_laysSuit_55 {G : GT} {p : Program} {l : Launch} {e : Env} {s : State} {m : MethodId} {args : Array Value} {below : List Frame} {meth : Method} {c : Code} {H : Heap} {locs : List Loc} {ls : Array Slot} {a0 : Nat} {x1 : Int32} {x2 : Int32} {x3 : Int32} {u : Hp} {x4 : Int32} {K : Int32 → Hp → Prop} {J39 : Int32 → Prop} (X : Mc G p s m args meth c RX19 cX19_laysSuit 13) (hr : meth.sig.returnType = (some .int)) (hJ39 : ∀ (x3 : Int32) (H : Heap) (locs : List Loc) (ls : Array Slot) , J39 x3 → GW G u s H locs → lv_has ls 13 [(0, .ref a0), (1, .int x1), (2, .int x2), (3, .int x3)] → W p l e (rmX19_laysSuit 0 0) s m args below meth c H locs 0 0 (QI G below K args s 0 0) (F0 m 39 ls [])) (h : jl1 (bX19_laysSuit_55 K J39 a0 x1 x2 x3 u) x4) (hw : GW G u s H locs) (hl : lv_has ls 13 [(0, .ref a0), (1, .int x1), (2, .int x2), (3, .int x3), (4, .int x4)]) : W p l e (rmX19_laysSuit 0 0) s m args below meth c H locs 0 0 (QI G below K args s 0 0) (F0 m 55 ls []) := by
  obtain ⟨hx, hb, hml, hown, hts, -⟩ := id X
  obtain ⟨I, μ, h0, hs⟩ := h
  have key : ∀ (n : Nat) (x4 : Int32) (H : Heap) (locs : List Loc) (ls : Array Slot) , μ x4 < n → I x4 → GW G u s H locs → lv_has ls 13 [(0, .ref a0), (1, .int x1), (2, .int x2), (3, .int x3), (4, .int x4)] → W p l e (rmX19_laysSuit 0 0) s m args below meth c H locs 0 0 (QI G below K args s 0 0) (F0 m 55 ls []) := by
    intro n
    induction n with
    | zero =>
      intro x4 H locs ls hn
      exact absurd hn (Nat.not_lt_zero _)
    | succ n ih =>
      intro x4 H locs ls hn hI hw hl
      have h := hs x4 hI
      unfold bX19_laysSuit_55 at h
      have hJ55 : ∀ (x4' : Int32) (H : Heap) (locs : List Loc) (ls : Array Slot) , (I x4' ∧ μ x4' < μ x4) → GW G u s H locs → lv_has ls 13 [(0, .ref a0), (1, .int x1), (2, .int x2), (3, .int x3), (4, .int x4')] → W p l e (rmX19_laysSuit 0 0) s m args below meth c H locs 0 0 (QI G below K args s 0 0) (F0 m 55 ls []) := fun x4' H locs ls h hw hl => ih x4' H locs ls (Nat.lt_of_lt_of_le h.2 (Nat.le_of_lt_succ hn)) h.1 hw hl
      refine lv_iload hx hb dX19_laysSuit_55 (lv_at hl 4 rfl) ?_
      refine lv_aload_n hx hb dX19_laysSuit_57 rfl (lv_at hl 0 rfl) ?_
      have hk_33 : kd u a0 = 16 := h.1
      have h := h.2
      obtain ⟨b_34, e_35, h⟩ := h
      refine g_getR X hw in_X19 hk_33 rfl 3 rfl (by decide) q1454 (fun _ z => z) e_35 dX19_laysSuit_58 ?_
      have hk_36 : kd u b_34 = 20 := h.1
      have h := h.2
      refine g_getNI X hw (host := "FifthCardModel") in_X23 hk_36 rfl 2 rfl (by decide) (List.mem_of_getElem? (i := 2) rfl) (fun _ z => z) dX19_laysSuit_61 ?_
      refine lv_icmp_ge (tgt := 279) hx hb dX19_laysSuit_64 rfl (fun c_41 => ?_) (fun c_41 => ?_)
      · have h := h.1 c_41
        refine lv_iinc (v := x3 + 1) (lv' := [(3, .int (x3 + 1)), (0, .ref a0), (1, .int x1), (2, .int x2), (4, .int x4)]) hx hb dX19_laysSuit_279 hl (k := 3) rfl rfl (by decide) rfl (fun ls hl => ?_)
        refine lv_goto (tgt := 39) hx hb dX19_laysSuit_282 rfl ?_
        exact hJ39 _ _ _ _ h hw (lv_sub hl [1, 2, 3, 0] rfl)
      · have h := h.2 c_41
        refine lv_aload_n hx hb dX19_laysSuit_67 rfl (lv_at hl 0 rfl) ?_
        refine lv_iload_n hx hb dX19_laysSuit_68 rfl (lv_at hl 1 rfl) ?_
        refine lv_iload_n hx hb dX19_laysSuit_69 rfl (lv_at hl 3 rfl) ?_
        refine g_callio hw (g_V X hw (mX19_cardOf l G _ _ _ _ _ h) 2 (lw_V q1851 q1853 qs74 q143 q1854) rfl rfl ydX19_cardOf ⟨Nat.le_of_ble_eq_true rfl, Nat.le_of_ble_eq_true rfl⟩ (g_recv X hw (ci := 15) (q := (RX19, TX19, 46)) hk_33 rfl) (As := [.int x1, .int x3]) (rest := []) rfl hl.1 rfl (Nat.le_of_ble_eq_true rfl) dX19_laysSuit_70 ⟨Nat.le_refl _, Nat.le_refl _⟩) (fun r_37 H locs h hw => ?_)
        refine lv_istore (lv' := [(5, .int r_37), (0, .ref a0), (1, .int x1), (2, .int x2), (3, .int x3), (4, .int x4)]) hx hb dX19_laysSuit_73 hl (by decide) rfl (fun ls hl => ?_)
        refine lv_aload_n hx hb dX19_laysSuit_75 rfl (lv_at hl 1 rfl) ?_
        refine lv_iload_n hx hb dX19_laysSuit_76 rfl (lv_at hl 2 rfl) ?_
        refine lv_iload hx hb dX19_laysSuit_77 (lv_at hl 5 rfl) ?_
        refine g_callio hw (g_V X hw (mX19_cardOf l G _ _ _ _ _ h) 2 (lw_V q1851 q1853 qs74 q143 q1854) rfl rfl ydX19_cardOf ⟨Nat.le_of_ble_eq_true rfl, Nat.le_of_ble_eq_true rfl⟩ (g_recv X hw (ci := 15) (q := (RX19, TX19, 46)) hk_33 rfl) (As := [.int x1, .int x4]) (rest := []) rfl hl.1 rfl (Nat.le_of_ble_eq_true rfl) dX19_laysSuit_79 ⟨Nat.le_refl _, Nat.le_refl _⟩) (fun r_38 H locs h hw => ?_)
        refine lv_istore (lv' := [(6, .int r_38), (5, .int r_37), (0, .ref a0), (1, .int x1), (2, .int x2), (3, .int x3), (4, .int x4)]) hx hb dX19_laysSuit_82 hl (by decide) rfl (fun ls hl => ?_)
        refine lv_iload hx hb dX19_laysSuit_84 (lv_at hl 1 rfl) ?_
        refine lv_iload_n hx hb dX19_laysSuit_86 rfl (lv_at hl 4 rfl) ?_
        refine lv_idiv hx hb dX19_laysSuit_87 h.1 ?_
        have h := h.2
        refine lv_iload hx hb dX19_laysSuit_88 (lv_at hl 0 rfl) ?_
        refine lv_iload_n hx hb dX19_laysSuit_90 rfl (lv_at hl 4 rfl) ?_
        refine lv_idiv hx hb dX19_laysSuit_91 h.1 ?_
        have h := h.2
        refine lv_icmp_eq (tgt := 98) hx hb dX19_laysSuit_92 rfl (fun c_40 => ?_) (fun c_40 => ?_)
        · have h := h.1 c_40
          refine lv_iload hx hb dX19_laysSuit_98 (lv_at hl 0 rfl) ?_
          refine lv_iload hx hb dX19_laysSuit_100 (lv_at hl 1 rfl) ?_
          refine lv_isub hx hb dX19_laysSuit_102 ?_
          refine lv_istore (lv' := [(7, .int (r_38 - r_37)), (6, .int r_38), (5, .int r_37), (0, .ref a0), (1, .int x1), (2, .int x2), (3, .int x3), (4, .int x4)]) hx hb dX19_laysSuit_103 hl (by decide) rfl (fun ls hl => ?_)
          refine lv_iconst (v := 2) hx hb dX19_laysSuit_105 (by decide) ?_
          refine lv_iload hx hb dX19_laysSuit_106 (lv_at hl 0 rfl) ?_
          refine lv_imul hx hb dX19_laysSuit_108 ?_
          refine lv_iload_n hx hb dX19_laysSuit_109 rfl (lv_at hl 5 rfl) ?_
          refine lv_icmp_gt (tgt := 117) hx hb dX19_laysSuit_110 rfl (fun c_39 => ?_) (fun c_39 => ?_)
          · have h := h.1 c_39
            refine lv_iconst (v := 0) hx hb dX19_laysSuit_117 (by decide) ?_
            exact wX19_laysSuit_118 X hr  h hw (lv_sub hl [3, 4, 5, 6, 7, 2, 1, 0] rfl)
          · have h := h.2 c_39
            refine lv_iconst (v := 1) hx hb dX19_laysSuit_113 (by decide) ?_
            refine lv_goto (tgt := 118) hx hb dX19_laysSuit_114 rfl ?_
            exact wX19_laysSuit_118 X hr  h hw (lv_sub hl [3, 4, 5, 6, 7, 2, 1, 0] rfl)
        · have h := h.2 c_40
          refine lv_goto (tgt := 273) hx hb dX19_laysSuit_95 rfl ?_
          refine lv_iinc (v := x4 + 1) (lv' := [(4, .int (x4 + 1)), (6, .int r_38), (5, .int r_37), (0, .ref a0), (1, .int x1), (2, .int x2), (3, .int x3)]) hx hb dX19_laysSuit_273 hl (k := 6) rfl rfl (by decide) rfl (fun ls hl => ?_)
          refine lv_goto (tgt := 55) hx hb dX19_laysSuit_276 rfl ?_
          exact hJ55 _ _ _ _ h hw (lv_sub hl [3, 4, 5, 6, 0] rfl)
  exact key _ _ _ _ _ (Nat.lt_succ_self _) h0 hw hl
set_option maxHeartbeats 4000000 in
theorem wX19_laysSuit_39 {G : GT} {p : Program} {l : Launch} {e : Env} {s : State} {m : MethodId} {args : Array Value} {below : List Frame} {meth : Method} {c : Code} {H : Heap} {locs : List Loc} {ls : Array Slot} {a0 : Nat} {x1 : Int32} {x2 : Int32} {u : Hp} {x3 : Int32} {K : Int32 → Hp → Prop} (X : Mc G p s m args meth c RX19 cX19_laysSuit 13) (hr : meth.sig.returnType = (some .int)) (h : jl1 (bX19_laysSuit_39 K a0 x1 x2 u) x3) (hw : GW G u s H locs) (hl : lv_has ls 13 [(0, .ref a0), (1, .int x1), (2, .int x2), (3, .int x3)]) : W p l e (rmX19_laysSuit 0 0) s m args below meth c H locs 0 0 (QI G below K args s 0 0) (F0 m 39 ls []) := by
  obtain ⟨hx, hb, hml, hown, hts, -⟩ := id X
  obtain ⟨I, μ, h0, hs⟩ := h
  have key : ∀ (n : Nat) (x3 : Int32) (H : Heap) (locs : List Loc) (ls : Array Slot) , μ x3 < n → I x3 → GW G u s H locs → lv_has ls 13 [(0, .ref a0), (1, .int x1), (2, .int x2), (3, .int x3)] → W p l e (rmX19_laysSuit 0 0) s m args below meth c H locs 0 0 (QI G below K args s 0 0) (F0 m 39 ls []) := by
    intro n
    induction n with
    | zero =>
      intro x3 H locs ls hn
      exact absurd hn (Nat.not_lt_zero _)
    | succ n ih =>
      intro x3 H locs ls hn hI hw hl
      have h := hs x3 hI
      unfold bX19_laysSuit_39 at h
      have hJ39 : ∀ (x3' : Int32) (H : Heap) (locs : List Loc) (ls : Array Slot) , (I x3' ∧ μ x3' < μ x3) → GW G u s H locs → lv_has ls 13 [(0, .ref a0), (1, .int x1), (2, .int x2), (3, .int x3')] → W p l e (rmX19_laysSuit 0 0) s m args below meth c H locs 0 0 (QI G below K args s 0 0) (F0 m 39 ls []) := fun x3' H locs ls h hw hl => ih x3' H locs ls (Nat.lt_of_lt_of_le h.2 (Nat.le_of_lt_succ hn)) h.1 hw hl
      refine lv_iload_n hx hb dX19_laysSuit_39 rfl (lv_at hl 3 rfl) ?_
      refine lv_aload_n hx hb dX19_laysSuit_40 rfl (lv_at hl 0 rfl) ?_
      have hk_42 : kd u a0 = 16 := h.1
      have h := h.2
      obtain ⟨b_43, e_44, h⟩ := h
      refine g_getR X hw in_X19 hk_42 rfl 3 rfl (by decide) q1454 (fun _ z => z) e_44 dX19_laysSuit_41 ?_
      have hk_45 : kd u b_43 = 20 := h.1
      have h := h.2
      refine g_getNI X hw (host := "FifthCardModel") in_X23 hk_45 rfl 2 rfl (by decide) (List.mem_of_getElem? (i := 2) rfl) (fun _ z => z) dX19_laysSuit_44 ?_
      refine lv_icmp_ge (tgt := 285) hx hb dX19_laysSuit_47 rfl (fun c_46 => ?_) (fun c_46 => ?_)
      · have h := h.1 c_46
        refine lv_bipush (v := (-2)) hx hb dX19_laysSuit_285 (by decide) ?_
        exact g_iret X hw hr h (Nat.le_refl _) (Nat.le_refl _) dX19_laysSuit_287
      · have h := h.2 c_46
        refine lv_iload_n hx hb dX19_laysSuit_50 rfl (lv_at hl 3 rfl) ?_
        refine lv_iconst (v := 1) hx hb dX19_laysSuit_51 (by decide) ?_
        refine lv_iadd hx hb dX19_laysSuit_52 ?_
        refine lv_istore (lv' := [(4, .int (x3 + 1)), (0, .ref a0), (1, .int x1), (2, .int x2), (3, .int x3)]) hx hb dX19_laysSuit_53 hl (by decide) rfl (fun ls hl => ?_)
        exact wX19_laysSuit_55 X hr hJ39  h hw (lv_sub hl [1, 2, 3, 4, 0] rfl)
  exact key _ _ _ _ _ (Nat.lt_succ_self _) h0 hw hl
set_option maxHeartbeats 4000000 in
theorem mX19_laysSuit (l : Launch) (G : GT) (u : Hp) (a0 : Nat) (x1 : Int32) (K : Int32 → Hp → Prop) (h : pX19_laysSuit u a0 x1 K) : Met l yX19_laysSuit (ws_ yX19_laysSuit cX19_laysSuit 13 (some .int)) (rmX19_laysSuit 0 0) (va_Pc [.ref a0, .int x1] (GB G u)) (va_Qi K (fun u t => GH G u t.heap) (GA G)) 0 0 (GA G) := by
  refine Met.ofW (cc := cX19_laysSuit) (maxL := 13) (ret := (some .int)) (by decide) rfl ?_
  intro p e s m args below meth c s₁ B hml hv
  obtain ⟨rfl, hv⟩ := hv
  have X := Mc_of (own := RX19) B hml rfl hv
  have hw : GW G u s s.heap [] := ⟨hv.2.1, va_S.rf⟩
  have hr := B.returns
  obtain ⟨hx, hb, hml, hown, hts, -⟩ := id X
  have hl := lv_entry ([.ref a0, .int x1]) (n := 13) (Nat.le_of_ble_eq_true rfl)
  rw [lg_entry_eq]
  generalize (lg_sl ([.ref a0, .int x1]) ++ List.replicate (13 - (lg_sl ([.ref a0, .int x1])).length) Slot.unset).toArray = ls at hl ⊢
  have hl : lv_has ls 13 [(0, .ref a0), (1, .int x1)] := hl
  change W p l e (rmX19_laysSuit 0 0) s m _ below meth c s.heap [] 0 0 (QI G below K _ s 0 0) (F0 m 0 ls [])
  unfold pX19_laysSuit at h
  refine lv_aload_n hx hb dX19_laysSuit_0 rfl (lv_at hl 0 rfl) ?_
  have hk_47 : kd u a0 = 16 := h.1
  have h := h.2
  refine g_callio hw (g_V X hw (mX19_isOneOrder l G _ _ _ h) 0 (lw_V q1843 q1845 qs72 q143 q1846) rfl rfl ydX19_isOneOrder ⟨Nat.le_of_ble_eq_true rfl, Nat.le_of_ble_eq_true rfl⟩ (g_recv X hw (ci := 15) (q := (RX19, TX19, 46)) hk_47 rfl) (As := []) (rest := []) rfl hl.1 rfl (Nat.le_of_ble_eq_true rfl) dX19_laysSuit_1 ⟨Nat.le_refl _, Nat.le_refl _⟩) (fun r_48 H locs h hw => ?_)
  refine lv_if_ne (tgt := 18) hx hb dX19_laysSuit_4 rfl (fun c_55 => ?_) (fun c_55 => ?_)
  · have h := h.2 c_55
    refine lv_bipush (v := (-2)) hx hb dX19_laysSuit_18 (by decide) ?_
    exact g_iret X hw hr h (Nat.le_refl _) (Nat.le_refl _) dX19_laysSuit_20
  · have h := h.1 c_55
    refine lv_aload_n hx hb dX19_laysSuit_7 rfl (lv_at hl 0 rfl) ?_
    obtain ⟨b_49, e_50, h⟩ := h
    refine g_getR X hw in_X19 hk_47 rfl 3 rfl (by decide) q1454 (fun _ z => z) e_50 dX19_laysSuit_8 ?_
    have hk_51 : kd u b_49 = 20 := h.1
    have h := h.2
    refine g_getNI X hw (host := "FifthCardModel") in_X23 hk_51 rfl 3 rfl (by decide) (List.mem_of_getElem? (i := 6) rfl) (fun _ z => z) dX19_laysSuit_11 ?_
    refine lv_iconst (v := 1) hx hb dX19_laysSuit_14 (by decide) ?_
    refine lv_icmp_eq (tgt := 21) hx hb dX19_laysSuit_15 rfl (fun c_54 => ?_) (fun c_54 => ?_)
    · have h := h.1 c_54
      refine lv_aload_n hx hb dX19_laysSuit_21 rfl (lv_at hl 0 rfl) ?_
      refine g_getR X hw in_X19 hk_47 rfl 3 rfl (by decide) q1454 (fun _ z => z) e_50 dX19_laysSuit_22 ?_
      refine g_getNI X hw (host := "FifthCardModel") in_X23 hk_51 rfl 0 rfl (by decide) (List.mem_of_getElem? (i := 0) rfl) (fun _ z => z) dX19_laysSuit_25 ?_
      refine lv_aload_n hx hb dX19_laysSuit_28 rfl (lv_at hl 0 rfl) ?_
      refine g_getR X hw in_X19 hk_47 rfl 3 rfl (by decide) q1454 (fun _ z => z) e_50 dX19_laysSuit_29 ?_
      refine g_getNI X hw (host := "FifthCardModel") in_X23 hk_51 rfl 1 rfl (by decide) (List.mem_of_getElem? (i := 5) rfl) (fun _ z => z) dX19_laysSuit_32 ?_
      refine lv_idiv hx hb dX19_laysSuit_35 h.1 ?_
      have h := h.2
      refine lv_topi (fun x2_52 e_53 => ?_)
      have h := h x2_52 e_53
      refine lv_istore_n (lv' := [(2, .int x2_52), (0, .ref a0), (1, .int x1)]) hx hb dX19_laysSuit_36 rfl hl (by decide) rfl (fun ls hl => ?_)
      refine lv_iconst (v := 0) hx hb dX19_laysSuit_37 (by decide) ?_
      refine lv_istore_n (lv' := [(3, .int 0), (2, .int x2_52), (0, .ref a0), (1, .int x1)]) hx hb dX19_laysSuit_38 rfl hl (by decide) rfl (fun ls hl => ?_)
      exact wX19_laysSuit_39 X hr  h hw (lv_sub hl [2, 3, 1, 0] rfl)
    · have h := h.2 c_54
      refine lv_bipush (v := (-2)) hx hb dX19_laysSuit_18 (by decide) ?_
      exact g_iret X hw hr h (Nat.le_refl _) (Nat.le_refl _) dX19_laysSuit_20

/-! FifthCardModel.sorts(I)V -/
theorem ydX19_sorts : yX19_sorts.cls = "FifthCardModel" ∧ yX19_sorts.cls ≠ "java/lang/invoke/MethodHandle" ∧ yX19_sorts.cls ≠ "java/lang/invoke/VarHandle" ∧ (parseMethodDescriptor yX19_sorts.desc).map (fun d => d.parameters.length) = some 1 := by decide +kernel
def rmX19_sorts (mc ms : Nat) : Room := { frames := 1, cells := mc, slots := ms, locals := 22 }
set_option maxHeartbeats 4000000 in
theorem wX19_sorts_23 {G : GT} {p : Program} {l : Launch} {e : Env} {s : State} {m : MethodId} {args : Array Value} {below : List Frame} {meth : Method} {c : Code} {H : Heap} {locs : List Loc} {ls : Array Slot} {a0 : Nat} {x1 : Int32} {x2 : Int32} {x4 : Int32} {x3 : Int32} {u : Hp} {K : Hp → Prop} {J2 : Int32 → Hp → Prop} (X : Mc G p s m args meth c RX19 cX19_sorts 5) (hr : meth.sig.returnType = none) (hJ2 : ∀ (x2 : Int32) (u : Hp) (H : Heap) (locs : List Loc) (ls : Array Slot) , J2 x2 u → GW G u s H locs → lv_has ls 5 [(0, .ref a0), (1, .int x1), (2, .int x2)] → W p l e (rmX19_sorts 0 0) s m args below meth c H locs 0 0 (QV G below K args s 0 0) (F0 m 2 ls [])) (h : jl2 (bX19_sorts_23 K J2 a0 x1 x2 x4) x3 u) (hw : GW G u s H locs) (hl : lv_has ls 5 [(0, .ref a0), (1, .int x1), (2, .int x2), (3, .int x3), (4, .int x4)]) : W p l e (rmX19_sorts 0 0) s m args below meth c H locs 0 0 (QV G below K args s 0 0) (F0 m 23 ls []) := by
  obtain ⟨hx, hb, hml, hown, hts, -⟩ := id X
  obtain ⟨I, μ, h0, hs⟩ := h
  have key : ∀ (n : Nat) (x3 : Int32) (u : Hp) (H : Heap) (locs : List Loc) (ls : Array Slot) , μ x3 u < n → I x3 u → GW G u s H locs → lv_has ls 5 [(0, .ref a0), (1, .int x1), (2, .int x2), (3, .int x3), (4, .int x4)] → W p l e (rmX19_sorts 0 0) s m args below meth c H locs 0 0 (QV G below K args s 0 0) (F0 m 23 ls []) := by
    intro n
    induction n with
    | zero =>
      intro x3 u H locs ls hn
      exact absurd hn (Nat.not_lt_zero _)
    | succ n ih =>
      intro x3 u H locs ls hn hI hw hl
      have h := hs x3 u hI
      unfold bX19_sorts_23 at h
      have hJ23 : ∀ (x3' : Int32) (u' : Hp) (H : Heap) (locs : List Loc) (ls : Array Slot) , (I x3' u' ∧ μ x3' u' < μ x3 u) → GW G u' s H locs → lv_has ls 5 [(0, .ref a0), (1, .int x1), (2, .int x2), (3, .int x3'), (4, .int x4)] → W p l e (rmX19_sorts 0 0) s m args below meth c H locs 0 0 (QV G below K args s 0 0) (F0 m 23 ls []) := fun x3' u' H locs ls h hw hl => ih x3' u' H locs ls (Nat.lt_of_lt_of_le h.2 (Nat.le_of_lt_succ hn)) h.1 hw hl
      refine lv_iload_n hx hb dX19_sorts_23 rfl (lv_at hl 3 rfl) ?_
      refine lv_if_le (tgt := 60) hx hb dX19_sorts_24 rfl (fun c_10 => ?_) (fun c_10 => ?_)
      · have h := h.1 c_10
        refine lv_aload_n hx hb dX19_sorts_60 rfl (lv_at hl 0 rfl) ?_
        have hk_1 : kd u a0 = 16 := h.1
        have h := h.2
        obtain ⟨b_2, e_3, h⟩ := h
        refine g_getR X hw in_X19 hk_1 rfl 20 rfl (by decide) q1471 (fun _ z => z) e_3 dX19_sorts_61 ?_
        refine lv_iload_n hx hb dX19_sorts_64 rfl (lv_at hl 3 rfl) ?_
        refine lv_iload hx hb dX19_sorts_65 (lv_at hl 4 rfl) ?_
        have hk_4 : kd u b_2 = 101 := h.1
        have h := h.2
        refine g_iast X hw hk_4 h.1 dX19_sorts_67 (fun H locs hw => ?_)
        have h := h.2
        refine lv_iinc (v := x2 + 1) (lv' := [(2, .int (x2 + 1)), (0, .ref a0), (1, .int x1), (3, .int x3), (4, .int x4)]) hx hb dX19_sorts_68 hl (k := 2) rfl rfl (by decide) rfl (fun ls hl => ?_)
        refine lv_goto (tgt := 2) hx hb dX19_sorts_71 rfl ?_
        exact hJ2 _ _ _ _ _ h hw (lv_sub hl [1, 2, 0] rfl)
      · have h := h.2 c_10
        refine lv_aload_n hx hb dX19_sorts_27 rfl (lv_at hl 0 rfl) ?_
        have hk_5 : kd u a0 = 16 := h.1
        have h := h.2
        obtain ⟨b_6, e_7, h⟩ := h
        refine g_getR X hw in_X19 hk_5 rfl 20 rfl (by decide) q1471 (fun _ z => z) e_7 dX19_sorts_28 ?_
        refine lv_iload_n hx hb dX19_sorts_31 rfl (lv_at hl 3 rfl) ?_
        refine lv_iconst (v := 1) hx hb dX19_sorts_32 (by decide) ?_
        refine lv_isub hx hb dX19_sorts_33 ?_
        have hk_8 : kd u b_6 = 101 := h.1
        have h := h.2
        refine g_iald X hw hk_8 h.1 dX19_sorts_34 ?_
        have h := h.2
        refine lv_iload hx hb dX19_sorts_35 (lv_at hl 4 rfl) ?_
        refine lv_icmp_le (tgt := 60) hx hb dX19_sorts_37 rfl (fun c_9 => ?_) (fun c_9 => ?_)
        · have h := h.1 c_9
          refine lv_aload_n hx hb dX19_sorts_60 rfl (lv_at hl 0 rfl) ?_
          refine g_getR X hw in_X19 hk_5 rfl 20 rfl (by decide) q1471 (fun _ z => z) e_7 dX19_sorts_61 ?_
          refine lv_iload_n hx hb dX19_sorts_64 rfl (lv_at hl 3 rfl) ?_
          refine lv_iload hx hb dX19_sorts_65 (lv_at hl 4 rfl) ?_
          refine g_iast X hw hk_8 h.1 dX19_sorts_67 (fun H locs hw => ?_)
          have h := h.2
          refine lv_iinc (v := x2 + 1) (lv' := [(2, .int (x2 + 1)), (0, .ref a0), (1, .int x1), (3, .int x3), (4, .int x4)]) hx hb dX19_sorts_68 hl (k := 2) rfl rfl (by decide) rfl (fun ls hl => ?_)
          refine lv_goto (tgt := 2) hx hb dX19_sorts_71 rfl ?_
          exact hJ2 _ _ _ _ _ h hw (lv_sub hl [1, 2, 0] rfl)
        · have h := h.2 c_9
          refine lv_aload_n hx hb dX19_sorts_40 rfl (lv_at hl 0 rfl) ?_
          refine g_getR X hw in_X19 hk_5 rfl 20 rfl (by decide) q1471 (fun _ z => z) e_7 dX19_sorts_41 ?_
          refine lv_iload_n hx hb dX19_sorts_44 rfl (lv_at hl 3 rfl) ?_
          refine lv_aload_n hx hb dX19_sorts_45 rfl (lv_at hl 0 rfl) ?_
          refine g_getR X hw in_X19 hk_5 rfl 20 rfl (by decide) q1471 (fun _ z => z) e_7 dX19_sorts_46 ?_
          refine lv_iload_n hx hb dX19_sorts_49 rfl (lv_at hl 3 rfl) ?_
          refine lv_iconst (v := 1) hx hb dX19_sorts_50 (by decide) ?_
          refine lv_isub hx hb dX19_sorts_51 ?_
          refine g_iald X hw hk_8 h.1 dX19_sorts_52 ?_
          have h := h.2
          refine g_iast X hw hk_8 h.1 dX19_sorts_53 (fun H locs hw => ?_)
          have h := h.2
          refine lv_iinc (v := x3 + (-1)) (lv' := [(3, .int (x3 + (-1))), (0, .ref a0), (1, .int x1), (2, .int x2), (4, .int x4)]) hx hb dX19_sorts_54 hl (k := 3) rfl rfl (by decide) rfl (fun ls hl => ?_)
          refine lv_goto (tgt := 23) hx hb dX19_sorts_57 rfl ?_
          exact hJ23 _ _ _ _ _ h hw (lv_sub hl [1, 2, 3, 0, 4] rfl)
  exact key _ _ _ _ _ _ (Nat.lt_succ_self _) h0 hw hl
set_option maxHeartbeats 4000000 in
theorem wX19_sorts_2 {G : GT} {p : Program} {l : Launch} {e : Env} {s : State} {m : MethodId} {args : Array Value} {below : List Frame} {meth : Method} {c : Code} {H : Heap} {locs : List Loc} {ls : Array Slot} {a0 : Nat} {x1 : Int32} {x2 : Int32} {u : Hp} {K : Hp → Prop} (X : Mc G p s m args meth c RX19 cX19_sorts 5) (hr : meth.sig.returnType = none) (h : jl2 (bX19_sorts_2 K a0 x1) x2 u) (hw : GW G u s H locs) (hl : lv_has ls 5 [(0, .ref a0), (1, .int x1), (2, .int x2)]) : W p l e (rmX19_sorts 0 0) s m args below meth c H locs 0 0 (QV G below K args s 0 0) (F0 m 2 ls []) := by
  obtain ⟨hx, hb, hml, hown, hts, -⟩ := id X
  obtain ⟨I, μ, h0, hs⟩ := h
  have key : ∀ (n : Nat) (x2 : Int32) (u : Hp) (H : Heap) (locs : List Loc) (ls : Array Slot) , μ x2 u < n → I x2 u → GW G u s H locs → lv_has ls 5 [(0, .ref a0), (1, .int x1), (2, .int x2)] → W p l e (rmX19_sorts 0 0) s m args below meth c H locs 0 0 (QV G below K args s 0 0) (F0 m 2 ls []) := by
    intro n
    induction n with
    | zero =>
      intro x2 u H locs ls hn
      exact absurd hn (Nat.not_lt_zero _)
    | succ n ih =>
      intro x2 u H locs ls hn hI hw hl
      have h := hs x2 u hI
      unfold bX19_sorts_2 at h
      have hJ2 : ∀ (x2' : Int32) (u' : Hp) (H : Heap) (locs : List Loc) (ls : Array Slot) , (I x2' u' ∧ μ x2' u' < μ x2 u) → GW G u' s H locs → lv_has ls 5 [(0, .ref a0), (1, .int x1), (2, .int x2')] → W p l e (rmX19_sorts 0 0) s m args below meth c H locs 0 0 (QV G below K args s 0 0) (F0 m 2 ls []) := fun x2' u' H locs ls h hw hl => ih x2' u' H locs ls (Nat.lt_of_lt_of_le h.2 (Nat.le_of_lt_succ hn)) h.1 hw hl
      refine lv_iload_n hx hb dX19_sorts_2 rfl (lv_at hl 2 rfl) ?_
      refine lv_aload_n hx hb dX19_sorts_3 rfl (lv_at hl 0 rfl) ?_
      have hk_11 : kd u a0 = 16 := h.1
      have h := h.2
      obtain ⟨b_12, e_13, h⟩ := h
      refine g_getR X hw in_X19 hk_11 rfl 3 rfl (by decide) q1454 (fun _ z => z) e_13 dX19_sorts_4 ?_
      have hk_14 : kd u b_12 = 20 := h.1
      have h := h.2
      refine g_getNI X hw (host := "FifthCardModel") in_X23 hk_14 rfl 2 rfl (by decide) (List.mem_of_getElem? (i := 2) rfl) (fun _ z => z) dX19_sorts_7 ?_
      refine lv_icmp_ge (tgt := 74) hx hb dX19_sorts_10 rfl (fun c_16 => ?_) (fun c_16 => ?_)
      · have h := h.1 c_16
        exact g_vret X hw hr h (Nat.le_refl _) (Nat.le_refl _) dX19_sorts_74
      · have h := h.2 c_16
        refine lv_iload_n hx hb dX19_sorts_13 rfl (lv_at hl 2 rfl) ?_
        refine lv_istore_n (lv' := [(3, .int x2), (0, .ref a0), (1, .int x1), (2, .int x2)]) hx hb dX19_sorts_14 rfl hl (by decide) rfl (fun ls hl => ?_)
        refine lv_aload_n hx hb dX19_sorts_15 rfl (lv_at hl 1 rfl) ?_
        refine lv_iload_n hx hb dX19_sorts_16 rfl (lv_at hl 2 rfl) ?_
        refine lv_iload_n hx hb dX19_sorts_17 rfl (lv_at hl 3 rfl) ?_
        refine g_callio hw (g_V X hw (mX19_cardOf l G _ _ _ _ _ h) 2 (lw_V q1851 q1853 qs74 q143 q1854) rfl rfl ydX19_cardOf ⟨Nat.le_of_ble_eq_true rfl, Nat.le_of_ble_eq_true rfl⟩ (g_recv X hw (ci := 15) (q := (RX19, TX19, 46)) hk_11 rfl) (As := [.int x1, .int x2]) (rest := []) rfl hl.1 rfl (Nat.le_of_ble_eq_true rfl) dX19_sorts_18 ⟨Nat.le_refl _, Nat.le_refl _⟩) (fun r_15 H locs h hw => ?_)
        refine lv_istore (lv' := [(4, .int r_15), (3, .int x2), (0, .ref a0), (1, .int x1), (2, .int x2)]) hx hb dX19_sorts_21 hl (by decide) rfl (fun ls hl => ?_)
        exact wX19_sorts_23 X hr hJ2  h hw (lv_sub hl [2, 3, 4, 1, 0] rfl)
  exact key _ _ _ _ _ _ (Nat.lt_succ_self _) h0 hw hl
set_option maxHeartbeats 4000000 in
theorem mX19_sorts (l : Launch) (G : GT) (u : Hp) (a0 : Nat) (x1 : Int32) (K : Hp → Prop) (h : pX19_sorts u a0 x1 K) : Met l yX19_sorts (ws_ yX19_sorts cX19_sorts 5 none) (rmX19_sorts 0 0) (va_Pc [.ref a0, .int x1] (GB G u)) (va_Qv K (fun u t => GH G u t.heap) (GA G)) 0 0 (GA G) := by
  refine Met.ofW (cc := cX19_sorts) (maxL := 5) (ret := none) (by decide) rfl ?_
  intro p e s m args below meth c s₁ B hml hv
  obtain ⟨rfl, hv⟩ := hv
  have X := Mc_of (own := RX19) B hml rfl hv
  have hw : GW G u s s.heap [] := ⟨hv.2.1, va_S.rf⟩
  have hr := B.returns
  obtain ⟨hx, hb, hml, hown, hts, -⟩ := id X
  have hl := lv_entry ([.ref a0, .int x1]) (n := 5) (Nat.le_of_ble_eq_true rfl)
  rw [lg_entry_eq]
  generalize (lg_sl ([.ref a0, .int x1]) ++ List.replicate (5 - (lg_sl ([.ref a0, .int x1])).length) Slot.unset).toArray = ls at hl ⊢
  have hl : lv_has ls 5 [(0, .ref a0), (1, .int x1)] := hl
  change W p l e (rmX19_sorts 0 0) s m _ below meth c s.heap [] 0 0 (QV G below K _ s 0 0) (F0 m 0 ls [])
  unfold pX19_sorts at h
  refine lv_iconst (v := 0) hx hb dX19_sorts_0 (by decide) ?_
  refine lv_istore_n (lv' := [(2, .int 0), (0, .ref a0), (1, .int x1)]) hx hb dX19_sorts_1 rfl hl (by decide) rfl (fun ls hl => ?_)
  exact wX19_sorts_2 X hr  h hw (lv_sub hl [1, 2, 0] rfl)

/-! FifthCardModel.keepsAt(I)I -/
theorem ydX19_keepsAt : yX19_keepsAt.cls = "FifthCardModel" ∧ yX19_keepsAt.cls ≠ "java/lang/invoke/MethodHandle" ∧ yX19_keepsAt.cls ≠ "java/lang/invoke/VarHandle" ∧ (parseMethodDescriptor yX19_keepsAt.desc).map (fun d => d.parameters.length) = some 1 := by decide +kernel
def rmX19_keepsAt (mc ms : Nat) : Room := { frames := 0, cells := mc, slots := ms, locals := 0 }
set_option maxHeartbeats 4000000 in
theorem wX19_keepsAt_13 {G : GT} {p : Program} {l : Launch} {e : Env} {s : State} {m : MethodId} {args : Array Value} {below : List Frame} {meth : Method} {c : Code} {H : Heap} {locs : List Loc} {ls : Array Slot} {a0 : Nat} {x1 : Int32} {x2 : Int32} {u : Hp} {x3 : Int32} {x4 : Int32} {K : Int32 → Prop} (X : Mc G p s m args meth c RX19 cX19_keepsAt 5) (hr : meth.sig.returnType = (some .int)) (h : jl2 (bX19_keepsAt_13 K a0 x1 x2 u) x3 x4) (hw : GW G u s H locs) (hl : lv_has ls 5 [(0, .ref a0), (1, .int x1), (2, .int x2), (3, .int x3), (4, .int x4)]) : W p l e (rmX19_keepsAt 0 0) s m args below meth c H locs 0 0 (QI G below (fun r v => v = u ∧ K r) args s 0 0) (F0 m 13 ls []) := by
  obtain ⟨hx, hb, hml, hown, hts, -⟩ := id X
  obtain ⟨I, μ, h0, hs⟩ := h
  have key : ∀ (n : Nat) (x3 : Int32) (x4 : Int32) (H : Heap) (locs : List Loc) (ls : Array Slot) , μ x3 x4 < n → I x3 x4 → GW G u s H locs → lv_has ls 5 [(0, .ref a0), (1, .int x1), (2, .int x2), (3, .int x3), (4, .int x4)] → W p l e (rmX19_keepsAt 0 0) s m args below meth c H locs 0 0 (QI G below (fun r v => v = u ∧ K r) args s 0 0) (F0 m 13 ls []) := by
    intro n
    induction n with
    | zero =>
      intro x3 x4 H locs ls hn
      exact absurd hn (Nat.not_lt_zero _)
    | succ n ih =>
      intro x3 x4 H locs ls hn hI hw hl
      have h := hs x3 x4 hI
      unfold bX19_keepsAt_13 at h
      have hJ13 : ∀ (x3' : Int32) (x4' : Int32) (H : Heap) (locs : List Loc) (ls : Array Slot) , (I x3' x4' ∧ μ x3' x4' < μ x3 x4) → GW G u s H locs → lv_has ls 5 [(0, .ref a0), (1, .int x1), (2, .int x2), (3, .int x3'), (4, .int x4')] → W p l e (rmX19_keepsAt 0 0) s m args below meth c H locs 0 0 (QI G below (fun r v => v = u ∧ K r) args s 0 0) (F0 m 13 ls []) := fun x3' x4' H locs ls h hw hl => ih x3' x4' H locs ls (Nat.lt_of_lt_of_le h.2 (Nat.le_of_lt_succ hn)) h.1 hw hl
      refine lv_iload hx hb dX19_keepsAt_13 (lv_at hl 4 rfl) ?_
      refine lv_iload_n hx hb dX19_keepsAt_15 rfl (lv_at hl 2 rfl) ?_
      refine lv_icmp_ge (tgt := 35) hx hb dX19_keepsAt_16 rfl (fun c_12 => ?_) (fun c_12 => ?_)
      · have h := h.1 c_12
        refine lv_iload_n hx hb dX19_keepsAt_35 rfl (lv_at hl 1 rfl) ?_
        refine lv_if_ne (tgt := 43) hx hb dX19_keepsAt_36 rfl (fun c_7 => ?_) (fun c_7 => ?_)
        · have h := h.2 c_7
          refine lv_iload_n hx hb dX19_keepsAt_43 rfl (lv_at hl 1 rfl) ?_
          refine lv_iconst (v := 1) hx hb dX19_keepsAt_44 (by decide) ?_
          refine lv_icmp_ne (tgt := 54) hx hb dX19_keepsAt_45 rfl (fun c_6 => ?_) (fun c_6 => ?_)
          · have h := h.2 c_6
            refine lv_iload_n hx hb dX19_keepsAt_54 rfl (lv_at hl 1 rfl) ?_
            refine lv_iconst (v := 2) hx hb dX19_keepsAt_55 (by decide) ?_
            refine lv_icmp_ne (tgt := 73) hx hb dX19_keepsAt_56 rfl (fun c_5 => ?_) (fun c_5 => ?_)
            · have h := h.2 c_5
              refine lv_iload_n hx hb dX19_keepsAt_73 rfl (lv_at hl 3 rfl) ?_
              refine lv_iload_n hx hb dX19_keepsAt_74 rfl (lv_at hl 2 rfl) ?_
              refine lv_irem hx hb dX19_keepsAt_75 h.1 ?_
              have h := h.2
              exact g_iret X hw hr ⟨rfl, h⟩ (Nat.le_refl _) (Nat.le_refl _) dX19_keepsAt_76
            · have h := h.1 c_5
              refine lv_iload_n hx hb dX19_keepsAt_59 rfl (lv_at hl 2 rfl) ?_
              refine lv_aload_n hx hb dX19_keepsAt_60 rfl (lv_at hl 0 rfl) ?_
              have hk_1 : kd u a0 = 16 := h.1
              have h := h.2
              obtain ⟨b_2, e_3, h⟩ := h
              refine g_getR X hw in_X19 hk_1 rfl 3 rfl (by decide) q1454 (fun _ z => z) e_3 dX19_keepsAt_61 ?_
              have hk_4 : kd u b_2 = 20 := h.1
              have h := h.2
              refine g_getNI X hw (host := "FifthCardModel") in_X23 hk_4 rfl 3 rfl (by decide) (List.mem_of_getElem? (i := 6) rfl) (fun _ z => z) dX19_keepsAt_64 ?_
              refine lv_isub hx hb dX19_keepsAt_67 ?_
              refine lv_iconst (v := 2) hx hb dX19_keepsAt_68 (by decide) ?_
              refine lv_idiv hx hb dX19_keepsAt_69 (by decide) ?_
              refine lv_goto (tgt := 76) hx hb dX19_keepsAt_70 rfl ?_
              exact g_iret X hw hr ⟨rfl, h⟩ (Nat.le_refl _) (Nat.le_refl _) dX19_keepsAt_76
          · have h := h.1 c_6
            refine lv_iload_n hx hb dX19_keepsAt_48 rfl (lv_at hl 2 rfl) ?_
            refine lv_iconst (v := 1) hx hb dX19_keepsAt_49 (by decide) ?_
            refine lv_isub hx hb dX19_keepsAt_50 ?_
            refine lv_goto (tgt := 76) hx hb dX19_keepsAt_51 rfl ?_
            exact g_iret X hw hr ⟨rfl, h⟩ (Nat.le_refl _) (Nat.le_refl _) dX19_keepsAt_76
        · have h := h.1 c_7
          refine lv_iconst (v := 0) hx hb dX19_keepsAt_39 (by decide) ?_
          refine lv_goto (tgt := 76) hx hb dX19_keepsAt_40 rfl ?_
          exact g_iret X hw hr ⟨rfl, h⟩ (Nat.le_refl _) (Nat.le_refl _) dX19_keepsAt_76
      · have h := h.2 c_12
        refine lv_iload_n hx hb dX19_keepsAt_19 rfl (lv_at hl 3 rfl) ?_
        refine lv_aload_n hx hb dX19_keepsAt_20 rfl (lv_at hl 0 rfl) ?_
        have hk_8 : kd u a0 = 16 := h.1
        have h := h.2
        obtain ⟨b_9, e_10, h⟩ := h
        refine g_getR X hw in_X19 hk_8 rfl 20 rfl (by decide) q1471 (fun _ z => z) e_10 dX19_keepsAt_21 ?_
        refine lv_iload hx hb dX19_keepsAt_24 (lv_at hl 4 rfl) ?_
        have hk_11 : kd u b_9 = 101 := h.1
        have h := h.2
        refine g_iald X hw hk_11 h.1 dX19_keepsAt_26 ?_
        have h := h.2
        refine lv_iadd hx hb dX19_keepsAt_27 ?_
        refine lv_istore_n (lv' := [(3, .int (x3 + (AI u b_9 (tn x4)))), (0, .ref a0), (1, .int x1), (2, .int x2), (4, .int x4)]) hx hb dX19_keepsAt_28 rfl hl (by decide) rfl (fun ls hl => ?_)
        refine lv_iinc (v := x4 + 1) (lv' := [(4, .int (x4 + 1)), (3, .int (x3 + (AI u b_9 (tn x4)))), (0, .ref a0), (1, .int x1), (2, .int x2)]) hx hb dX19_keepsAt_29 hl (k := 4) rfl rfl (by decide) rfl (fun ls hl => ?_)
        refine lv_goto (tgt := 13) hx hb dX19_keepsAt_32 rfl ?_
        exact hJ13 _ _ _ _ _ h hw (lv_sub hl [2, 3, 4, 1, 0] rfl)
  exact key _ _ _ _ _ _ (Nat.lt_succ_self _) h0 hw hl
set_option maxHeartbeats 4000000 in
theorem mX19_keepsAt (l : Launch) (G : GT) (u : Hp) (a0 : Nat) (x1 : Int32) (K : Int32 → Prop) (h : pX19_keepsAt u a0 x1 K) : Met l yX19_keepsAt (ws_ yX19_keepsAt cX19_keepsAt 5 (some .int)) (rmX19_keepsAt 0 0) (va_Pc [.ref a0, .int x1] (GB G u)) (va_Qi (fun r v => v = u ∧ K r) (fun u t => GH G u t.heap) (GA G)) 0 0 (GA G) := by
  refine Met.ofW (cc := cX19_keepsAt) (maxL := 5) (ret := (some .int)) (by decide) rfl ?_
  intro p e s m args below meth c s₁ B hml hv
  obtain ⟨rfl, hv⟩ := hv
  have X := Mc_of (own := RX19) B hml rfl hv
  have hw : GW G u s s.heap [] := ⟨hv.2.1, va_S.rf⟩
  have hr := B.returns
  obtain ⟨hx, hb, hml, hown, hts, -⟩ := id X
  have hl := lv_entry ([.ref a0, .int x1]) (n := 5) (Nat.le_of_ble_eq_true rfl)
  rw [lg_entry_eq]
  generalize (lg_sl ([.ref a0, .int x1]) ++ List.replicate (5 - (lg_sl ([.ref a0, .int x1])).length) Slot.unset).toArray = ls at hl ⊢
  have hl : lv_has ls 5 [(0, .ref a0), (1, .int x1)] := hl
  change W p l e (rmX19_keepsAt 0 0) s m _ below meth c s.heap [] 0 0 (QI G below (fun r v => v = u ∧ K r) _ s 0 0) (F0 m 0 ls [])
  unfold pX19_keepsAt at h
  refine lv_aload_n hx hb dX19_keepsAt_0 rfl (lv_at hl 0 rfl) ?_
  have hk_13 : kd u a0 = 16 := h.1
  have h := h.2
  obtain ⟨b_14, e_15, h⟩ := h
  refine g_getR X hw in_X19 hk_13 rfl 3 rfl (by decide) q1454 (fun _ z => z) e_15 dX19_keepsAt_1 ?_
  have hk_16 : kd u b_14 = 20 := h.1
  have h := h.2
  refine g_getNI X hw (host := "FifthCardModel") in_X23 hk_16 rfl 2 rfl (by decide) (List.mem_of_getElem? (i := 2) rfl) (fun _ z => z) dX19_keepsAt_4 ?_
  refine lv_istore_n (lv' := [(2, .int (FI u 2302 b_14)), (0, .ref a0), (1, .int x1)]) hx hb dX19_keepsAt_7 rfl hl (by decide) rfl (fun ls hl => ?_)
  refine lv_iconst (v := 0) hx hb dX19_keepsAt_8 (by decide) ?_
  refine lv_istore_n (lv' := [(3, .int 0), (2, .int (FI u 2302 b_14)), (0, .ref a0), (1, .int x1)]) hx hb dX19_keepsAt_9 rfl hl (by decide) rfl (fun ls hl => ?_)
  refine lv_iconst (v := 0) hx hb dX19_keepsAt_10 (by decide) ?_
  refine lv_istore (lv' := [(4, .int 0), (3, .int 0), (2, .int (FI u 2302 b_14)), (0, .ref a0), (1, .int x1)]) hx hb dX19_keepsAt_11 hl (by decide) rfl (fun ls hl => ?_)
  exact wX19_keepsAt_13 X hr  h hw (lv_sub hl [3, 4, 2, 1, 0] rfl)

/-! FifthCardModel.tells(IIII)I -/
theorem ydX19_tells : yX19_tells.cls = "FifthCardModel" ∧ yX19_tells.cls ≠ "java/lang/invoke/MethodHandle" ∧ yX19_tells.cls ≠ "java/lang/invoke/VarHandle" ∧ (parseMethodDescriptor yX19_tells.desc).map (fun d => d.parameters.length) = some 4 := by decide +kernel
def rmX19_tells (mc ms : Nat) : Room := { frames := 2, cells := mc, slots := ms, locals := 45 }
set_option maxHeartbeats 4000000 in
theorem wX19_tells_189 {G : GT} {p : Program} {l : Launch} {e : Env} {s : State} {m : MethodId} {args : Array Value} {below : List Frame} {meth : Method} {c : Code} {H : Heap} {locs : List Loc} {ls : Array Slot} {x4 : Int32} {x5 : Int32} {u : Hp} {x6 : Int32} {x7 : Int32} {K : Int32 → Prop} (X : Mc G p s m args meth c RX19 cX19_tells 10) (hr : meth.sig.returnType = (some .int)) (h : jl2 (bX19_tells_189 K x4 x5 u) x6 x7) (hw : GW G u s H locs) (hl : lv_has ls 10 [(4, .int x4), (5, .int x5), (6, .int x6), (7, .int x7)]) : W p l e (rmX19_tells 0 0) s m args below meth c H locs 0 0 (QI G below (fun r v => v = u ∧ K r) args s 0 0) (F0 m 189 ls []) := by
  obtain ⟨hx, hb, hml, hown, hts, -⟩ := id X
  obtain ⟨I, μ, h0, hs⟩ := h
  have key : ∀ (n : Nat) (x6 : Int32) (x7 : Int32) (H : Heap) (locs : List Loc) (ls : Array Slot) , μ x6 x7 < n → I x6 x7 → GW G u s H locs → lv_has ls 10 [(4, .int x4), (5, .int x5), (6, .int x6), (7, .int x7)] → W p l e (rmX19_tells 0 0) s m args below meth c H locs 0 0 (QI G below (fun r v => v = u ∧ K r) args s 0 0) (F0 m 189 ls []) := by
    intro n
    induction n with
    | zero =>
      intro x6 x7 H locs ls hn
      exact absurd hn (Nat.not_lt_zero _)
    | succ n ih =>
      intro x6 x7 H locs ls hn hI hw hl
      have h := hs x6 x7 hI
      unfold bX19_tells_189 at h
      have hJ189 : ∀ (x6' : Int32) (x7' : Int32) (H : Heap) (locs : List Loc) (ls : Array Slot) , (I x6' x7' ∧ μ x6' x7' < μ x6 x7) → GW G u s H locs → lv_has ls 10 [(4, .int x4), (5, .int x5), (6, .int x6'), (7, .int x7')] → W p l e (rmX19_tells 0 0) s m args below meth c H locs 0 0 (QI G below (fun r v => v = u ∧ K r) args s 0 0) (F0 m 189 ls []) := fun x6' x7' H locs ls h hw hl => ih x6' x7' H locs ls (Nat.lt_of_lt_of_le h.2 (Nat.le_of_lt_succ hn)) h.1 hw hl
      refine lv_iload hx hb dX19_tells_189 (lv_at hl 3 rfl) ?_
      refine lv_iload hx hb dX19_tells_191 (lv_at hl 1 rfl) ?_
      refine lv_icmp_ge (tgt := 224) hx hb dX19_tells_193 rfl (fun c_2 => ?_) (fun c_2 => ?_)
      · have h := h.1 c_2
        refine lv_iload hx hb dX19_tells_224 (lv_at hl 2 rfl) ?_
        refine lv_iload hx hb dX19_tells_226 (lv_at hl 1 rfl) ?_
        refine lv_irem hx hb dX19_tells_228 h.1 ?_
        have h := h.2
        exact g_iret X hw hr ⟨rfl, h⟩ (Nat.le_refl _) (Nat.le_refl _) dX19_tells_229
      · have h := h.2 c_2
        refine lv_iload hx hb dX19_tells_196 (lv_at hl 2 rfl) ?_
        refine lv_iload hx hb dX19_tells_198 (lv_at hl 0 rfl) ?_
        refine lv_iload hx hb dX19_tells_200 (lv_at hl 3 rfl) ?_
        refine lv_ishr hx hb dX19_tells_202 ?_
        refine lv_iconst (v := 1) hx hb dX19_tells_203 (by decide) ?_
        refine lv_iand hx hb dX19_tells_204 ?_
        refine lv_iconst (v := 1) hx hb dX19_tells_205 (by decide) ?_
        refine lv_icmp_ne (tgt := 214) hx hb dX19_tells_206 rfl (fun c_1 => ?_) (fun c_1 => ?_)
        · have h := h.2 c_1
          refine lv_iconst (v := 0) hx hb dX19_tells_214 (by decide) ?_
          refine lv_iadd hx hb dX19_tells_215 ?_
          refine lv_istore (lv' := [(6, .int (x6 + 0)), (4, .int x4), (5, .int x5), (7, .int x7)]) hx hb dX19_tells_216 hl (by decide) rfl (fun ls hl => ?_)
          refine lv_iinc (v := x7 + 1) (lv' := [(7, .int (x7 + 1)), (6, .int (x6 + 0)), (4, .int x4), (5, .int x5)]) hx hb dX19_tells_218 hl (k := 3) rfl rfl (by decide) rfl (fun ls hl => ?_)
          refine lv_goto (tgt := 189) hx hb dX19_tells_221 rfl ?_
          exact hJ189 _ _ _ _ _ h hw (lv_sub hl [2, 3, 1, 0] rfl)
        · have h := h.1 c_1
          refine lv_iload hx hb dX19_tells_209 (lv_at hl 3 rfl) ?_
          refine lv_goto (tgt := 215) hx hb dX19_tells_211 rfl ?_
          refine lv_iadd hx hb dX19_tells_215 ?_
          refine lv_istore (lv' := [(6, .int (x6 + x7)), (4, .int x4), (5, .int x5), (7, .int x7)]) hx hb dX19_tells_216 hl (by decide) rfl (fun ls hl => ?_)
          refine lv_iinc (v := x7 + 1) (lv' := [(7, .int (x7 + 1)), (6, .int (x6 + x7)), (4, .int x4), (5, .int x5)]) hx hb dX19_tells_218 hl (k := 3) rfl rfl (by decide) rfl (fun ls hl => ?_)
          refine lv_goto (tgt := 189) hx hb dX19_tells_221 rfl ?_
          exact hJ189 _ _ _ _ _ h hw (lv_sub hl [2, 3, 1, 0] rfl)
  exact key _ _ _ _ _ _ (Nat.lt_succ_self _) h0 hw hl
set_option maxHeartbeats 4000000 in
theorem wX19_tells_132 {G : GT} {p : Program} {l : Launch} {e : Env} {s : State} {m : MethodId} {args : Array Value} {below : List Frame} {meth : Method} {c : Code} {H : Heap} {locs : List Loc} {ls : Array Slot} {a0 : Nat} {x2 : Int32} {x3 : Int32} {x4 : Int32} {u : Hp} {x6 : Int32} {x7 : Int32} {K : Int32 → Prop} (X : Mc G p s m args meth c RX19 cX19_tells 10) (hr : meth.sig.returnType = (some .int)) (h : jl2 (bX19_tells_132 K a0 x2 x3 x4 u) x6 x7) (hw : GW G u s H locs) (hl : lv_has ls 10 [(0, .ref a0), (2, .int x2), (3, .int x3), (4, .int x4), (6, .int x6), (7, .int x7)]) : W p l e (rmX19_tells 0 0) s m args below meth c H locs 0 0 (QI G below (fun r v => v = u ∧ K r) args s 0 0) (F0 m 132 ls []) := by
  obtain ⟨hx, hb, hml, hown, hts, -⟩ := id X
  obtain ⟨I, μ, h0, hs⟩ := h
  have key : ∀ (n : Nat) (x6 : Int32) (x7 : Int32) (H : Heap) (locs : List Loc) (ls : Array Slot) , μ x6 x7 < n → I x6 x7 → GW G u s H locs → lv_has ls 10 [(0, .ref a0), (2, .int x2), (3, .int x3), (4, .int x4), (6, .int x6), (7, .int x7)] → W p l e (rmX19_tells 0 0) s m args below meth c H locs 0 0 (QI G below (fun r v => v = u ∧ K r) args s 0 0) (F0 m 132 ls []) := by
    intro n
    induction n with
    | zero =>
      intro x6 x7 H locs ls hn
      exact absurd hn (Nat.not_lt_zero _)
    | succ n ih =>
      intro x6 x7 H locs ls hn hI hw hl
      have h := hs x6 x7 hI
      unfold bX19_tells_132 at h
      have hJ132 : ∀ (x6' : Int32) (x7' : Int32) (H : Heap) (locs : List Loc) (ls : Array Slot) , (I x6' x7' ∧ μ x6' x7' < μ x6 x7) → GW G u s H locs → lv_has ls 10 [(0, .ref a0), (2, .int x2), (3, .int x3), (4, .int x4), (6, .int x6'), (7, .int x7')] → W p l e (rmX19_tells 0 0) s m args below meth c H locs 0 0 (QI G below (fun r v => v = u ∧ K r) args s 0 0) (F0 m 132 ls []) := fun x6' x7' H locs ls h hw hl => ih x6' x7' H locs ls (Nat.lt_of_lt_of_le h.2 (Nat.le_of_lt_succ hn)) h.1 hw hl
      refine lv_iload hx hb dX19_tells_132 (lv_at hl 5 rfl) ?_
      refine lv_iload_n hx hb dX19_tells_134 rfl (lv_at hl 1 rfl) ?_
      refine lv_icmp_ge (tgt := 175) hx hb dX19_tells_135 rfl (fun c_11 => ?_) (fun c_11 => ?_)
      · have h := h.1 c_11
        refine lv_iload hx hb dX19_tells_175 (lv_at hl 4 rfl) ?_
        refine lv_aload_n hx hb dX19_tells_177 rfl (lv_at hl 0 rfl) ?_
        have hk_3 : kd u a0 = 16 := h.1
        have h := h.2
        obtain ⟨b_4, e_5, h⟩ := h
        refine g_getR X hw in_X19 hk_3 rfl 3 rfl (by decide) q1454 (fun _ z => z) e_5 dX19_tells_178 ?_
        have hk_6 : kd u b_4 = 20 := h.1
        have h := h.2
        refine g_getNI X hw (host := "FifthCardModel") in_X23 hk_6 rfl 2 rfl (by decide) (List.mem_of_getElem? (i := 2) rfl) (fun _ z => z) dX19_tells_181 ?_
        refine lv_idiv hx hb dX19_tells_184 h.1 ?_
        have h := h.2
        exact g_iret X hw hr ⟨rfl, h⟩ (Nat.le_refl _) (Nat.le_refl _) dX19_tells_185
      · have h := h.2 c_11
        refine lv_iload hx hb dX19_tells_138 (lv_at hl 4 rfl) ?_
        refine lv_aload_n hx hb dX19_tells_140 rfl (lv_at hl 0 rfl) ?_
        refine lv_iload_n hx hb dX19_tells_141 rfl (lv_at hl 2 rfl) ?_
        refine lv_iload hx hb dX19_tells_142 (lv_at hl 5 rfl) ?_
        have hk_7 : kd u a0 = 16 := h.1
        have h := h.2
        refine g_callio hw (g_V X hw (mX19_has l G _ _ _ _ _ h) 2 (lw_V q1855 q1857 qs75 q143 q1858) rfl rfl ydX19_has ⟨Nat.le_of_ble_eq_true rfl, Nat.le_of_ble_eq_true rfl⟩ (g_recv X hw (ci := 15) (q := (RX19, TX19, 46)) hk_7 rfl) (As := [.int x3, .int x7]) (rest := [.int x6]) rfl hl.1 rfl (Nat.le_of_ble_eq_true rfl) dX19_tells_144 ⟨Nat.le_refl _, Nat.le_refl _⟩) (fun r_8 H locs h hw => ?_)
        refine lv_if_eq (tgt := 161) hx hb dX19_tells_147 rfl (fun c_10 => ?_) (fun c_10 => ?_)
        · have h := h.1 c_10
          refine lv_iconst (v := 1) hx hb dX19_tells_161 (by decide) ?_
          refine lv_goto (tgt := 166) hx hb dX19_tells_162 rfl ?_
          refine lv_iadd hx hb dX19_tells_166 ?_
          refine lv_istore (lv' := [(6, .int (x6 + 1)), (0, .ref a0), (2, .int x2), (3, .int x3), (4, .int x4), (7, .int x7)]) hx hb dX19_tells_167 hl (by decide) rfl (fun ls hl => ?_)
          refine lv_iinc (v := x7 + 1) (lv' := [(7, .int (x7 + 1)), (6, .int (x6 + 1)), (0, .ref a0), (2, .int x2), (3, .int x3), (4, .int x4)]) hx hb dX19_tells_169 hl (k := 5) rfl rfl (by decide) rfl (fun ls hl => ?_)
          refine lv_goto (tgt := 132) hx hb dX19_tells_172 rfl ?_
          exact hJ132 _ _ _ _ _ h hw (lv_sub hl [2, 3, 4, 5, 1, 0] rfl)
        · have h := h.2 c_10
          refine lv_iload hx hb dX19_tells_150 (lv_at hl 3 rfl) ?_
          refine lv_iload hx hb dX19_tells_152 (lv_at hl 5 rfl) ?_
          refine lv_ishr hx hb dX19_tells_154 ?_
          refine lv_iconst (v := 1) hx hb dX19_tells_155 (by decide) ?_
          refine lv_iand hx hb dX19_tells_156 ?_
          refine lv_iconst (v := 1) hx hb dX19_tells_157 (by decide) ?_
          refine lv_icmp_ne (tgt := 165) hx hb dX19_tells_158 rfl (fun c_9 => ?_) (fun c_9 => ?_)
          · have h := h.2 c_9
            refine lv_iconst (v := 0) hx hb dX19_tells_165 (by decide) ?_
            refine lv_iadd hx hb dX19_tells_166 ?_
            refine lv_istore (lv' := [(6, .int (x6 + 0)), (0, .ref a0), (2, .int x2), (3, .int x3), (4, .int x4), (7, .int x7)]) hx hb dX19_tells_167 hl (by decide) rfl (fun ls hl => ?_)
            refine lv_iinc (v := x7 + 1) (lv' := [(7, .int (x7 + 1)), (6, .int (x6 + 0)), (0, .ref a0), (2, .int x2), (3, .int x3), (4, .int x4)]) hx hb dX19_tells_169 hl (k := 5) rfl rfl (by decide) rfl (fun ls hl => ?_)
            refine lv_goto (tgt := 132) hx hb dX19_tells_172 rfl ?_
            exact hJ132 _ _ _ _ _ h hw (lv_sub hl [2, 3, 4, 5, 1, 0] rfl)
          · have h := h.1 c_9
            refine lv_iconst (v := 1) hx hb dX19_tells_161 (by decide) ?_
            refine lv_goto (tgt := 166) hx hb dX19_tells_162 rfl ?_
            refine lv_iadd hx hb dX19_tells_166 ?_
            refine lv_istore (lv' := [(6, .int (x6 + 1)), (0, .ref a0), (2, .int x2), (3, .int x3), (4, .int x4), (7, .int x7)]) hx hb dX19_tells_167 hl (by decide) rfl (fun ls hl => ?_)
            refine lv_iinc (v := x7 + 1) (lv' := [(7, .int (x7 + 1)), (6, .int (x6 + 1)), (0, .ref a0), (2, .int x2), (3, .int x3), (4, .int x4)]) hx hb dX19_tells_169 hl (k := 5) rfl rfl (by decide) rfl (fun ls hl => ?_)
            refine lv_goto (tgt := 132) hx hb dX19_tells_172 rfl ?_
            exact hJ132 _ _ _ _ _ h hw (lv_sub hl [2, 3, 4, 5, 1, 0] rfl)
  exact key _ _ _ _ _ _ (Nat.lt_succ_self _) h0 hw hl
set_option maxHeartbeats 4000000 in
theorem wX19_tells_66 {G : GT} {p : Program} {l : Launch} {e : Env} {s : State} {m : MethodId} {args : Array Value} {below : List Frame} {meth : Method} {c : Code} {H : Heap} {locs : List Loc} {ls : Array Slot} {a0 : Nat} {x2 : Int32} {x3 : Int32} {x4 : Int32} {x5 : Int32} {u : Hp} {x6 : Int32} {x7 : Int32} {K : Int32 → Prop} (X : Mc G p s m args meth c RX19 cX19_tells 10) (hr : meth.sig.returnType = (some .int)) (h : jl2 (bX19_tells_66 K a0 x2 x3 x4 x5 u) x6 x7) (hw : GW G u s H locs) (hl : lv_has ls 10 [(0, .ref a0), (2, .int x2), (3, .int x3), (4, .int x4), (5, .int x5), (6, .int x6), (7, .int x7)]) : W p l e (rmX19_tells 0 0) s m args below meth c H locs 0 0 (QI G below (fun r v => v = u ∧ K r) args s 0 0) (F0 m 66 ls []) := by
  obtain ⟨hx, hb, hml, hown, hts, -⟩ := id X
  obtain ⟨I, μ, h0, hs⟩ := h
  have key : ∀ (n : Nat) (x6 : Int32) (x7 : Int32) (H : Heap) (locs : List Loc) (ls : Array Slot) , μ x6 x7 < n → I x6 x7 → GW G u s H locs → lv_has ls 10 [(0, .ref a0), (2, .int x2), (3, .int x3), (4, .int x4), (5, .int x5), (6, .int x6), (7, .int x7)] → W p l e (rmX19_tells 0 0) s m args below meth c H locs 0 0 (QI G below (fun r v => v = u ∧ K r) args s 0 0) (F0 m 66 ls []) := by
    intro n
    induction n with
    | zero =>
      intro x6 x7 H locs ls hn
      exact absurd hn (Nat.not_lt_zero _)
    | succ n ih =>
      intro x6 x7 H locs ls hn hI hw hl
      have h := hs x6 x7 hI
      unfold bX19_tells_66 at h
      have hJ66 : ∀ (x6' : Int32) (x7' : Int32) (H : Heap) (locs : List Loc) (ls : Array Slot) , (I x6' x7' ∧ μ x6' x7' < μ x6 x7) → GW G u s H locs → lv_has ls 10 [(0, .ref a0), (2, .int x2), (3, .int x3), (4, .int x4), (5, .int x5), (6, .int x6'), (7, .int x7')] → W p l e (rmX19_tells 0 0) s m args below meth c H locs 0 0 (QI G below (fun r v => v = u ∧ K r) args s 0 0) (F0 m 66 ls []) := fun x6' x7' H locs ls h hw hl => ih x6' x7' H locs ls (Nat.lt_of_lt_of_le h.2 (Nat.le_of_lt_succ hn)) h.1 hw hl
      refine lv_iload hx hb dX19_tells_66 (lv_at hl 6 rfl) ?_
      refine lv_aload_n hx hb dX19_tells_68 rfl (lv_at hl 0 rfl) ?_
      have hk_12 : kd u a0 = 16 := h.1
      have h := h.2
      obtain ⟨b_13, e_14, h⟩ := h
      refine g_getR X hw in_X19 hk_12 rfl 3 rfl (by decide) q1454 (fun _ z => z) e_14 dX19_tells_69 ?_
      have hk_15 : kd u b_13 = 20 := h.1
      have h := h.2
      refine g_getNI X hw (host := "FifthCardModel") in_X23 hk_15 rfl 2 rfl (by decide) (List.mem_of_getElem? (i := 2) rfl) (fun _ z => z) dX19_tells_72 ?_
      refine lv_icmp_ge (tgt := 126) hx hb dX19_tells_75 rfl (fun c_19 => ?_) (fun c_19 => ?_)
      · have h := h.1 c_19
        refine lv_iload hx hb dX19_tells_126 (lv_at hl 5 rfl) ?_
        exact g_iret X hw hr ⟨rfl, h⟩ (Nat.le_refl _) (Nat.le_refl _) dX19_tells_128
      · have h := h.2 c_19
        refine lv_aload_n hx hb dX19_tells_78 rfl (lv_at hl 0 rfl) ?_
        refine lv_iload_n hx hb dX19_tells_79 rfl (lv_at hl 2 rfl) ?_
        refine lv_iload hx hb dX19_tells_80 (lv_at hl 6 rfl) ?_
        refine g_callio hw (g_V X hw (mX19_cardOf l G _ _ _ _ _ h) 2 (lw_V q1851 q1853 qs74 q143 q1854) rfl rfl ydX19_cardOf ⟨Nat.le_of_ble_eq_true rfl, Nat.le_of_ble_eq_true rfl⟩ (g_recv X hw (ci := 15) (q := (RX19, TX19, 46)) hk_12 rfl) (As := [.int x3, .int x7]) (rest := []) rfl hl.1 rfl (Nat.le_of_ble_eq_true rfl) dX19_tells_82 ⟨Nat.le_refl _, Nat.le_refl _⟩) (fun r_16 H locs h hw => ?_)
        refine lv_istore (lv' := [(8, .int r_16), (0, .ref a0), (2, .int x2), (3, .int x3), (4, .int x4), (5, .int x5), (6, .int x6), (7, .int x7)]) hx hb dX19_tells_85 hl (by decide) rfl (fun ls hl => ?_)
        refine lv_iload_n hx hb dX19_tells_87 rfl (lv_at hl 2 rfl) ?_
        refine lv_iload hx hb dX19_tells_88 (lv_at hl 0 rfl) ?_
        refine lv_isub hx hb dX19_tells_90 ?_
        refine lv_iload hx hb dX19_tells_91 (lv_at hl 5 rfl) ?_
        refine lv_iadd hx hb dX19_tells_93 ?_
        refine lv_iload hx hb dX19_tells_94 (lv_at hl 5 rfl) ?_
        refine lv_irem hx hb dX19_tells_96 h.1 ?_
        have h := h.2
        refine lv_istore (lv' := [(9, .int (jrem ((x2 - r_16) + x5) x5)), (8, .int r_16), (0, .ref a0), (2, .int x2), (3, .int x3), (4, .int x4), (5, .int x5), (6, .int x6), (7, .int x7)]) hx hb dX19_tells_97 hl (by decide) rfl (fun ls hl => ?_)
        refine lv_iload hx hb dX19_tells_99 (lv_at hl 5 rfl) ?_
        refine lv_iload hx hb dX19_tells_101 (lv_at hl 1 rfl) ?_
        refine lv_ishr hx hb dX19_tells_103 ?_
        refine lv_iconst (v := 1) hx hb dX19_tells_104 (by decide) ?_
        refine lv_iand hx hb dX19_tells_105 ?_
        refine lv_if_ne (tgt := 120) hx hb dX19_tells_106 rfl (fun c_18 => ?_) (fun c_18 => ?_)
        · have h := h.2 c_18
          refine lv_iinc (v := x7 + 1) (lv' := [(7, .int (x7 + 1)), (9, .int (jrem ((x2 - r_16) + x5) x5)), (8, .int r_16), (0, .ref a0), (2, .int x2), (3, .int x3), (4, .int x4), (5, .int x5), (6, .int x6)]) hx hb dX19_tells_120 hl (k := 8) rfl rfl (by decide) rfl (fun ls hl => ?_)
          refine lv_goto (tgt := 66) hx hb dX19_tells_123 rfl ?_
          exact hJ66 _ _ _ _ _ h hw (lv_sub hl [3, 4, 5, 6, 7, 8, 0] rfl)
        · have h := h.1 c_18
          refine lv_iload hx hb dX19_tells_109 (lv_at hl 0 rfl) ?_
          refine lv_iload hx hb dX19_tells_111 (lv_at hl 7 rfl) ?_
          refine lv_icmp_ge (tgt := 120) hx hb dX19_tells_113 rfl (fun c_17 => ?_) (fun c_17 => ?_)
          · have h := h.1 c_17
            refine lv_iinc (v := x7 + 1) (lv' := [(7, .int (x7 + 1)), (9, .int (jrem ((x2 - r_16) + x5) x5)), (8, .int r_16), (0, .ref a0), (2, .int x2), (3, .int x3), (4, .int x4), (5, .int x5), (6, .int x6)]) hx hb dX19_tells_120 hl (k := 8) rfl rfl (by decide) rfl (fun ls hl => ?_)
            refine lv_goto (tgt := 66) hx hb dX19_tells_123 rfl ?_
            exact hJ66 _ _ _ _ _ h hw (lv_sub hl [3, 4, 5, 6, 7, 8, 0] rfl)
          · have h := h.2 c_17
            refine lv_iload hx hb dX19_tells_116 (lv_at hl 0 rfl) ?_
            refine lv_istore (lv' := [(6, .int (jrem ((x2 - r_16) + x5) x5)), (9, .int (jrem ((x2 - r_16) + x5) x5)), (8, .int r_16), (0, .ref a0), (2, .int x2), (3, .int x3), (4, .int x4), (5, .int x5), (7, .int x7)]) hx hb dX19_tells_118 hl (by decide) rfl (fun ls hl => ?_)
            refine lv_iinc (v := x7 + 1) (lv' := [(7, .int (x7 + 1)), (6, .int (jrem ((x2 - r_16) + x5) x5)), (9, .int (jrem ((x2 - r_16) + x5) x5)), (8, .int r_16), (0, .ref a0), (2, .int x2), (3, .int x3), (4, .int x4), (5, .int x5)]) hx hb dX19_tells_120 hl (k := 8) rfl rfl (by decide) rfl (fun ls hl => ?_)
            refine lv_goto (tgt := 66) hx hb dX19_tells_123 rfl ?_
            exact hJ66 _ _ _ _ _ h hw (lv_sub hl [4, 5, 6, 7, 8, 1, 0] rfl)
  exact key _ _ _ _ _ _ (Nat.lt_succ_self _) h0 hw hl
set_option maxHeartbeats 4000000 in
theorem mX19_tells (l : Launch) (G : GT) (u : Hp) (a0 : Nat) (x1 : Int32) (x2 : Int32) (x3 : Int32) (x4 : Int32) (K : Int32 → Prop) (h : pX19_tells u a0 x1 x2 x3 x4 K) : Met l yX19_tells (ws_ yX19_tells cX19_tells 10 (some .int)) (rmX19_tells 0 0) (va_Pc [.ref a0, .int x1, .int x2, .int x3, .int x4] (GB G u)) (va_Qi (fun r v => v = u ∧ K r) (fun u t => GH G u t.heap) (GA G)) 0 0 (GA G) := by
  refine Met.ofW (cc := cX19_tells) (maxL := 10) (ret := (some .int)) (by decide) rfl ?_
  intro p e s m args below meth c s₁ B hml hv
  obtain ⟨rfl, hv⟩ := hv
  have X := Mc_of (own := RX19) B hml rfl hv
  have hw : GW G u s s.heap [] := ⟨hv.2.1, va_S.rf⟩
  have hr := B.returns
  obtain ⟨hx, hb, hml, hown, hts, -⟩ := id X
  have hl := lv_entry ([.ref a0, .int x1, .int x2, .int x3, .int x4]) (n := 10) (Nat.le_of_ble_eq_true rfl)
  rw [lg_entry_eq]
  generalize (lg_sl ([.ref a0, .int x1, .int x2, .int x3, .int x4]) ++ List.replicate (10 - (lg_sl ([.ref a0, .int x1, .int x2, .int x3, .int x4])).length) Slot.unset).toArray = ls at hl ⊢
  have hl : lv_has ls 10 [(0, .ref a0), (1, .int x1), (2, .int x2), (3, .int x3), (4, .int x4)] := hl
  change W p l e (rmX19_tells 0 0) s m _ below meth c s.heap [] 0 0 (QI G below (fun r v => v = u ∧ K r) _ s 0 0) (F0 m 0 ls [])
  unfold pX19_tells at h
  refine lv_aload_n hx hb dX19_tells_0 rfl (lv_at hl 0 rfl) ?_
  have hk_20 : kd u a0 = 16 := h.1
  have h := h.2
  obtain ⟨b_21, e_22, h⟩ := h
  refine g_getR X hw in_X19 hk_20 rfl 3 rfl (by decide) q1454 (fun _ z => z) e_22 dX19_tells_1 ?_
  have hk_23 : kd u b_21 = 20 := h.1
  have h := h.2
  refine g_getNI X hw (host := "FifthCardModel") in_X23 hk_23 rfl 0 rfl (by decide) (List.mem_of_getElem? (i := 0) rfl) (fun _ z => z) dX19_tells_4 ?_
  refine lv_istore (lv' := [(5, .int (FI u 2300 b_21)), (0, .ref a0), (1, .int x1), (2, .int x2), (3, .int x3), (4, .int x4)]) hx hb dX19_tells_7 hl (by decide) rfl (fun ls hl => ?_)
  refine lv_iconst (v := 0) hx hb dX19_tells_9 (by decide) ?_
  refine lv_istore (lv' := [(6, .int 0), (5, .int (FI u 2300 b_21)), (0, .ref a0), (1, .int x1), (2, .int x2), (3, .int x3), (4, .int x4)]) hx hb dX19_tells_10 hl (by decide) rfl (fun ls hl => ?_)
  refine lv_iload_n hx hb dX19_tells_12 rfl (lv_at hl 3 rfl) ?_
  by_cases c_24 : x1 = 0
  · refine lv_tableIn (tgt := 44) hx hb dX19_tells_13 (by rw [c_24]; decide) (by rw [c_24]; decide) (by first | (rw [c_24]; done) | (rw [c_24]; rfl)) rfl ?_
    have h := h.1 c_24
    refine lv_iload_n hx hb dX19_tells_44 rfl (lv_at hl 4 rfl) ?_
    exact g_iret X hw hr ⟨rfl, h⟩ (Nat.le_refl _) (Nat.le_refl _) dX19_tells_45
  have h := h.2
  by_cases c_25 : x1 = 1
  · refine lv_tableIn (tgt := 46) hx hb dX19_tells_13 (by rw [c_25]; decide) (by rw [c_25]; decide) (by first | (rw [c_25]; done) | (rw [c_25]; rfl)) rfl ?_
    have h := h.1 c_25
    refine lv_iload_n hx hb dX19_tells_46 rfl (lv_at hl 4 rfl) ?_
    refine lv_iload hx hb dX19_tells_47 (lv_at hl 1 rfl) ?_
    refine lv_aload_n hx hb dX19_tells_49 rfl (lv_at hl 2 rfl) ?_
    refine g_getR X hw in_X19 hk_20 rfl 3 rfl (by decide) q1454 (fun _ z => z) e_22 dX19_tells_50 ?_
    refine g_getNI X hw (host := "FifthCardModel") in_X23 hk_23 rfl 1 rfl (by decide) (List.mem_of_getElem? (i := 5) rfl) (fun _ z => z) dX19_tells_53 ?_
    refine lv_idiv hx hb dX19_tells_56 h.1 ?_
    have h := h.2
    refine lv_irem hx hb dX19_tells_57 h.1 ?_
    have h := h.2
    exact g_iret X hw hr ⟨rfl, h⟩ (Nat.le_refl _) (Nat.le_refl _) dX19_tells_58
  have h := h.2
  by_cases c_26 : x1 = 2
  · refine lv_tableIn (tgt := 59) hx hb dX19_tells_13 (by rw [c_26]; decide) (by rw [c_26]; decide) (by first | (rw [c_26]; done) | (rw [c_26]; rfl)) rfl ?_
    have h := h.1 c_26
    refine lv_iload hx hb dX19_tells_59 (lv_at hl 1 rfl) ?_
    refine lv_istore (lv' := [(6, .int (FI u 2300 b_21)), (5, .int (FI u 2300 b_21)), (0, .ref a0), (1, .int x1), (2, .int x2), (3, .int x3), (4, .int x4)]) hx hb dX19_tells_61 hl (by decide) rfl (fun ls hl => ?_)
    refine lv_iconst (v := 0) hx hb dX19_tells_63 (by decide) ?_
    refine lv_istore (lv' := [(7, .int 0), (6, .int (FI u 2300 b_21)), (5, .int (FI u 2300 b_21)), (0, .ref a0), (1, .int x1), (2, .int x2), (3, .int x3), (4, .int x4)]) hx hb dX19_tells_64 hl (by decide) rfl (fun ls hl => ?_)
    exact wX19_tells_66 X hr  h hw (lv_sub hl [3, 5, 6, 7, 2, 1, 0] rfl)
  have h := h.2
  by_cases c_27 : x1 = 3
  · refine lv_tableIn (tgt := 129) hx hb dX19_tells_13 (by rw [c_27]; decide) (by rw [c_27]; decide) (by first | (rw [c_27]; done) | (rw [c_27]; rfl)) rfl ?_
    have h := h.1 c_27
    refine lv_iconst (v := 0) hx hb dX19_tells_129 (by decide) ?_
    refine lv_istore (lv' := [(7, .int 0), (6, .int 0), (5, .int (FI u 2300 b_21)), (0, .ref a0), (1, .int x1), (2, .int x2), (3, .int x3), (4, .int x4)]) hx hb dX19_tells_130 hl (by decide) rfl (fun ls hl => ?_)
    exact wX19_tells_132 X hr  h hw (lv_sub hl [3, 5, 6, 7, 1, 0] rfl)
  have h := h.2
  have h := h ⟨c_24, c_25, c_26, c_27⟩
  refine lv_tableOut (tgt := 186) hx hb dX19_tells_13 (tbl_out 0 4 (by decide) (by decide) (fun i hi => by match i, hi with | 0, _ => exact c_24 | 1, _ => exact c_25 | 2, _ => exact c_26 | 3, _ => exact c_27 | n + 4, hi => exact absurd hi (by omega))) rfl ?_
  refine lv_iconst (v := 0) hx hb dX19_tells_186 (by decide) ?_
  refine lv_istore (lv' := [(7, .int 0), (6, .int 0), (5, .int (FI u 2300 b_21)), (0, .ref a0), (1, .int x1), (2, .int x2), (3, .int x3), (4, .int x4)]) hx hb dX19_tells_187 hl (by decide) rfl (fun ls hl => ?_)
  exact wX19_tells_189 X hr  h hw (lv_sub hl [7, 2, 1, 0] rfl)

