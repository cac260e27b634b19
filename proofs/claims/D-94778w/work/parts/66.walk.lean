/-! printed by tools/genparts.py: the walks (m..): the machine runs as the predicates say -/
set_option maxRecDepth 100000
/-! FifthCardModel.hardest()I -/
theorem ydX19_hardest : yX19_hardest.cls = "FifthCardModel" ∧ yX19_hardest.cls ≠ "java/lang/invoke/MethodHandle" ∧ yX19_hardest.cls ≠ "java/lang/invoke/VarHandle" ∧ (parseMethodDescriptor yX19_hardest.desc).map (fun d => d.parameters.length) = some 0 := by decide +kernel
def rmX19_hardest (mc ms : Nat) : Room := { frames := 8, cells := mc, slots := ms, locals := 193 }
set_option maxHeartbeats 4000000 in
theorem wX19_hardest_56 {G : GT} {p : Program} {l : Launch} {e : Env} {s : State} {m : MethodId} {args : Array Value} {below : List Frame} {meth : Method} {c : Code} {H : Heap} {locs : List Loc} {ls : Array Slot} {a0 : Nat} {x3 : Int32} {x1 : Int32} {x2 : Int32} {x4 : Int32} {u : Hp} {K : Int32 → Hp → Prop} {J42 : Int32 → Int32 → Int32 → Hp → Prop} (X : Mc G p s m args meth c RX19 cX19_hardest 6) (hr : meth.sig.returnType = (some .int)) (hJ42 : ∀ (x1 : Int32) (x2 : Int32) (x3 : Int32) (u : Hp) (H : Heap) (locs : List Loc) (ls : Array Slot) , J42 x1 x2 x3 u → GW G u s H locs → lv_has ls 6 [(0, .ref a0), (1, .int x1), (2, .int x2), (3, .int x3)] → W p l e (rmX19_hardest 0 0) s m args below meth c H locs 0 0 (QI G below K args s 0 0) (F0 m 42 ls [])) (h : jl4 (bX19_hardest_56 K J42 a0 x3) x1 x2 x4 u) (hw : GW G u s H locs) (hl : lv_has ls 6 [(0, .ref a0), (1, .int x1), (2, .int x2), (3, .int x3), (4, .int x4)]) : W p l e (rmX19_hardest 0 0) s m args below meth c H locs 0 0 (QI G below K args s 0 0) (F0 m 56 ls []) := by
  obtain ⟨hx, hb, hml, hown, hts, -⟩ := id X
  obtain ⟨I, μ, h0, hs⟩ := h
  have key : ∀ (n : Nat) (x1 : Int32) (x2 : Int32) (x4 : Int32) (u : Hp) (H : Heap) (locs : List Loc) (ls : Array Slot) , μ x1 x2 x4 u < n → I x1 x2 x4 u → GW G u s H locs → lv_has ls 6 [(0, .ref a0), (1, .int x1), (2, .int x2), (3, .int x3), (4, .int x4)] → W p l e (rmX19_hardest 0 0) s m args below meth c H locs 0 0 (QI G below K args s 0 0) (F0 m 56 ls []) := by
    intro n
    induction n with
    | zero =>
      intro x1 x2 x4 u H locs ls hn
      exact absurd hn (Nat.not_lt_zero _)
    | succ n ih =>
      intro x1 x2 x4 u H locs ls hn hI hw hl
      have h := hs x1 x2 x4 u hI
      unfold bX19_hardest_56 at h
      have hJ56 : ∀ (x1' : Int32) (x2' : Int32) (x4' : Int32) (u' : Hp) (H : Heap) (locs : List Loc) (ls : Array Slot) , (I x1' x2' x4' u' ∧ μ x1' x2' x4' u' < μ x1 x2 x4 u) → GW G u' s H locs → lv_has ls 6 [(0, .ref a0), (1, .int x1'), (2, .int x2'), (3, .int x3), (4, .int x4')] → W p l e (rmX19_hardest 0 0) s m args below meth c H locs 0 0 (QI G below K args s 0 0) (F0 m 56 ls []) := fun x1' x2' x4' u' H locs ls h hw hl => ih x1' x2' x4' u' H locs ls (Nat.lt_of_lt_of_le h.2 (Nat.le_of_lt_succ hn)) h.1 hw hl
      refine lv_iload hx hb dX19_hardest_56 (lv_at hl 4 rfl) ?_
      refine lv_aload_n hx hb dX19_hardest_58 rfl (lv_at hl 0 rfl) ?_
      have hk_1 : kd u a0 = 16 := h.1
      have h := h.2
      obtain ⟨b_2, e_3, h⟩ := h
      refine g_getR X hw in_X19 hk_1 rfl 3 rfl (by decide) q1454 (fun _ z => z) e_3 dX19_hardest_59 ?_
      have hk_4 : kd u b_2 = 20 := h.1
      have h := h.2
      refine g_getNI X hw (host := "FifthCardModel") in_X23 hk_4 rfl 5 rfl (by decide) (List.mem_of_getElem? (i := 8) rfl) (fun _ z => z) dX19_hardest_62 ?_
      refine lv_icmp_ge (tgt := 111) hx hb dX19_hardest_65 rfl (fun c_10 => ?_) (fun c_10 => ?_)
      · have h := h.1 c_10
        refine lv_iinc (v := x3 + 1) (lv' := [(3, .int (x3 + 1)), (0, .ref a0), (1, .int x1), (2, .int x2), (4, .int x4)]) hx hb dX19_hardest_111 hl (k := 3) rfl rfl (by decide) rfl (fun ls hl => ?_)
        refine lv_goto (tgt := 42) hx hb dX19_hardest_114 rfl ?_
        exact hJ42 _ _ _ _ _ _ _ h hw (lv_sub hl [1, 2, 3, 0] rfl)
      · have h := h.2 c_10
        refine lv_iload_n hx hb dX19_hardest_68 rfl (lv_at hl 3 rfl) ?_
        refine lv_iload hx hb dX19_hardest_69 (lv_at hl 4 rfl) ?_
        refine lv_icmp_ne (tgt := 77) hx hb dX19_hardest_71 rfl (fun c_9 => ?_) (fun c_9 => ?_)
        · have h := h.2 c_9
          refine lv_aload_n hx hb dX19_hardest_77 rfl (lv_at hl 0 rfl) ?_
          refine lv_iload_n hx hb dX19_hardest_78 rfl (lv_at hl 3 rfl) ?_
          refine lv_iload hx hb dX19_hardest_79 (lv_at hl 4 rfl) ?_
          refine g_calli hw (g_V X hw (mX19_apartNow l G _ _ _ _ _ h) 2 (lw_V q2157 q2159 qs118 q143 q2160) rfl rfl ydX19_apartNow ⟨Nat.le_of_ble_eq_true rfl, Nat.le_of_ble_eq_true rfl⟩ (g_recv X hw (ci := 15) (q := (RX19, TX19, 46)) hk_1 rfl) (As := [.int x3, .int x4]) (rest := []) rfl hl.1 rfl (Nat.le_of_ble_eq_true rfl) dX19_hardest_81 ⟨Nat.le_refl _, Nat.le_refl _⟩) (fun r_5 u_6 H locs h hw => ?_)
          refine lv_istore (lv' := [(5, .int r_5), (0, .ref a0), (1, .int x1), (2, .int x2), (3, .int x3), (4, .int x4)]) hx hb dX19_hardest_84 hl (by decide) rfl (fun ls hl => ?_)
          refine lv_iload_n hx hb dX19_hardest_86 rfl (lv_at hl 2 rfl) ?_
          refine lv_iconst (v := (-1)) hx hb dX19_hardest_87 (by decide) ?_
          refine lv_icmp_eq (tgt := 100) hx hb dX19_hardest_88 rfl (fun c_8 => ?_) (fun c_8 => ?_)
          · have h := h.1 c_8
            refine lv_iload_n hx hb dX19_hardest_100 rfl (lv_at hl 4 rfl) ?_
            refine lv_istore_n (lv' := [(1, .int x3), (5, .int r_5), (0, .ref a0), (2, .int x2), (3, .int x3), (4, .int x4)]) hx hb dX19_hardest_101 rfl hl (by decide) rfl (fun ls hl => ?_)
            refine lv_iload hx hb dX19_hardest_102 (lv_at hl 1 rfl) ?_
            refine lv_istore_n (lv' := [(2, .int r_5), (1, .int x3), (5, .int r_5), (0, .ref a0), (3, .int x3), (4, .int x4)]) hx hb dX19_hardest_104 rfl hl (by decide) rfl (fun ls hl => ?_)
            refine lv_iinc (v := x4 + 1) (lv' := [(4, .int (x4 + 1)), (2, .int r_5), (1, .int x3), (5, .int r_5), (0, .ref a0), (3, .int x3)]) hx hb dX19_hardest_105 hl (k := 5) rfl rfl (by decide) rfl (fun ls hl => ?_)
            refine lv_goto (tgt := 56) hx hb dX19_hardest_108 rfl ?_
            exact hJ56 _ _ _ _ _ _ _ h hw (lv_sub hl [4, 2, 1, 5, 0] rfl)
          · have h := h.2 c_8
            refine lv_iload hx hb dX19_hardest_91 (lv_at hl 0 rfl) ?_
            refine lv_iload_n hx hb dX19_hardest_93 rfl (lv_at hl 3 rfl) ?_
            refine lv_icmp_lt (tgt := 100) hx hb dX19_hardest_94 rfl (fun c_7 => ?_) (fun c_7 => ?_)
            · have h := h.1 c_7
              refine lv_iload_n hx hb dX19_hardest_100 rfl (lv_at hl 4 rfl) ?_
              refine lv_istore_n (lv' := [(1, .int x3), (5, .int r_5), (0, .ref a0), (2, .int x2), (3, .int x3), (4, .int x4)]) hx hb dX19_hardest_101 rfl hl (by decide) rfl (fun ls hl => ?_)
              refine lv_iload hx hb dX19_hardest_102 (lv_at hl 1 rfl) ?_
              refine lv_istore_n (lv' := [(2, .int r_5), (1, .int x3), (5, .int r_5), (0, .ref a0), (3, .int x3), (4, .int x4)]) hx hb dX19_hardest_104 rfl hl (by decide) rfl (fun ls hl => ?_)
              refine lv_iinc (v := x4 + 1) (lv' := [(4, .int (x4 + 1)), (2, .int r_5), (1, .int x3), (5, .int r_5), (0, .ref a0), (3, .int x3)]) hx hb dX19_hardest_105 hl (k := 5) rfl rfl (by decide) rfl (fun ls hl => ?_)
              refine lv_goto (tgt := 56) hx hb dX19_hardest_108 rfl ?_
              exact hJ56 _ _ _ _ _ _ _ h hw (lv_sub hl [4, 2, 1, 5, 0] rfl)
            · have h := h.2 c_7
              refine lv_goto (tgt := 105) hx hb dX19_hardest_97 rfl ?_
              refine lv_iinc (v := x4 + 1) (lv' := [(4, .int (x4 + 1)), (5, .int r_5), (0, .ref a0), (1, .int x1), (2, .int x2), (3, .int x3)]) hx hb dX19_hardest_105 hl (k := 5) rfl rfl (by decide) rfl (fun ls hl => ?_)
              refine lv_goto (tgt := 56) hx hb dX19_hardest_108 rfl ?_
              exact hJ56 _ _ _ _ _ _ _ h hw (lv_sub hl [2, 3, 4, 5, 0] rfl)
        · have h := h.1 c_9
          refine lv_goto (tgt := 105) hx hb dX19_hardest_74 rfl ?_
          refine lv_iinc (v := x4 + 1) (lv' := [(4, .int (x4 + 1)), (0, .ref a0), (1, .int x1), (2, .int x2), (3, .int x3)]) hx hb dX19_hardest_105 hl (k := 4) rfl rfl (by decide) rfl (fun ls hl => ?_)
          refine lv_goto (tgt := 56) hx hb dX19_hardest_108 rfl ?_
          exact hJ56 _ _ _ _ _ _ _ h hw (lv_sub hl [1, 2, 3, 4, 0] rfl)
  exact key _ _ _ _ _ _ _ _ (Nat.lt_succ_self _) h0 hw hl
set_option maxHeartbeats 4000000 in
theorem wX19_hardest_42 {G : GT} {p : Program} {l : Launch} {e : Env} {s : State} {m : MethodId} {args : Array Value} {below : List Frame} {meth : Method} {c : Code} {H : Heap} {locs : List Loc} {ls : Array Slot} {a0 : Nat} {x1 : Int32} {x2 : Int32} {x3 : Int32} {u : Hp} {K : Int32 → Hp → Prop} (X : Mc G p s m args meth c RX19 cX19_hardest 6) (hr : meth.sig.returnType = (some .int)) (h : jl4 (bX19_hardest_42 K a0) x1 x2 x3 u) (hw : GW G u s H locs) (hl : lv_has ls 6 [(0, .ref a0), (1, .int x1), (2, .int x2), (3, .int x3)]) : W p l e (rmX19_hardest 0 0) s m args below meth c H locs 0 0 (QI G below K args s 0 0) (F0 m 42 ls []) := by
  obtain ⟨hx, hb, hml, hown, hts, -⟩ := id X
  obtain ⟨I, μ, h0, hs⟩ := h
  have key : ∀ (n : Nat) (x1 : Int32) (x2 : Int32) (x3 : Int32) (u : Hp) (H : Heap) (locs : List Loc) (ls : Array Slot) , μ x1 x2 x3 u < n → I x1 x2 x3 u → GW G u s H locs → lv_has ls 6 [(0, .ref a0), (1, .int x1), (2, .int x2), (3, .int x3)] → W p l e (rmX19_hardest 0 0) s m args below meth c H locs 0 0 (QI G below K args s 0 0) (F0 m 42 ls []) := by
    intro n
    induction n with
    | zero =>
      intro x1 x2 x3 u H locs ls hn
      exact absurd hn (Nat.not_lt_zero _)
    | succ n ih =>
      intro x1 x2 x3 u H locs ls hn hI hw hl
      have h := hs x1 x2 x3 u hI
      unfold bX19_hardest_42 at h
      have hJ42 : ∀ (x1' : Int32) (x2' : Int32) (x3' : Int32) (u' : Hp) (H : Heap) (locs : List Loc) (ls : Array Slot) , (I x1' x2' x3' u' ∧ μ x1' x2' x3' u' < μ x1 x2 x3 u) → GW G u' s H locs → lv_has ls 6 [(0, .ref a0), (1, .int x1'), (2, .int x2'), (3, .int x3')] → W p l e (rmX19_hardest 0 0) s m args below meth c H locs 0 0 (QI G below K args s 0 0) (F0 m 42 ls []) := fun x1' x2' x3' u' H locs ls h hw hl => ih x1' x2' x3' u' H locs ls (Nat.lt_of_lt_of_le h.2 (Nat.le_of_lt_succ hn)) h.1 hw hl
      refine lv_iload_n hx hb dX19_hardest_42 rfl (lv_at hl 3 rfl) ?_
      refine lv_aload_n hx hb dX19_hardest_43 rfl (lv_at hl 0 rfl) ?_
      have hk_11 : kd u a0 = 16 := h.1
      have h := h.2
      obtain ⟨b_12, e_13, h⟩ := h
      refine g_getR X hw in_X19 hk_11 rfl 3 rfl (by decide) q1454 (fun _ z => z) e_13 dX19_hardest_44 ?_
      have hk_14 : kd u b_12 = 20 := h.1
      have h := h.2
      refine g_getNI X hw (host := "FifthCardModel") in_X23 hk_14 rfl 5 rfl (by decide) (List.mem_of_getElem? (i := 8) rfl) (fun _ z => z) dX19_hardest_47 ?_
      refine lv_icmp_ge (tgt := 117) hx hb dX19_hardest_50 rfl (fun c_17 => ?_) (fun c_17 => ?_)
      · have h := h.1 c_17
        refine lv_aload_n hx hb dX19_hardest_117 rfl (lv_at hl 0 rfl) ?_
        refine lv_iload_n hx hb dX19_hardest_118 rfl (lv_at hl 1 rfl) ?_
        refine g_calli hw (g_V X hw (mX19_good l G _ _ _ _ h) 1 (lw_V q1867 q1869 qs77 q143 q1870) rfl rfl ydX19_good ⟨Nat.le_of_ble_eq_true rfl, Nat.le_of_ble_eq_true rfl⟩ (g_recv X hw (ci := 15) (q := (RX19, TX19, 46)) hk_11 rfl) (As := [.int x1]) (rest := []) rfl hl.1 rfl (Nat.le_of_ble_eq_true rfl) dX19_hardest_119 ⟨Nat.le_refl _, Nat.le_refl _⟩) (fun r_15 u_16 H locs h hw => ?_)
        exact g_iret X hw hr h (Nat.le_refl _) (Nat.le_refl _) dX19_hardest_122
      · have h := h.2 c_17
        refine lv_iconst (v := 0) hx hb dX19_hardest_53 (by decide) ?_
        refine lv_istore (lv' := [(4, .int 0), (0, .ref a0), (1, .int x1), (2, .int x2), (3, .int x3)]) hx hb dX19_hardest_54 hl (by decide) rfl (fun ls hl => ?_)
        exact wX19_hardest_56 X hr hJ42  h hw (lv_sub hl [1, 2, 3, 4, 0] rfl)
  exact key _ _ _ _ _ _ _ _ (Nat.lt_succ_self _) h0 hw hl
set_option maxHeartbeats 4000000 in
theorem mX19_hardest (l : Launch) (G : GT) (u : Hp) (a0 : Nat) (K : Int32 → Hp → Prop) (h : pX19_hardest u a0 K) : Met l yX19_hardest (ws_ yX19_hardest cX19_hardest 6 (some .int)) (rmX19_hardest 0 0) (va_Pc [.ref a0] (GB G u)) (va_Qi K (fun u t => GH G u t.heap) (GA G)) 0 0 (GA G) := by
  refine Met.ofW (cc := cX19_hardest) (maxL := 6) (ret := (some .int)) (by decide) rfl ?_
  intro p e s m args below meth c s₁ B hml hv
  obtain ⟨rfl, hv⟩ := hv
  have X := Mc_of (own := RX19) B hml rfl hv
  have hw : GW G u s s.heap [] := ⟨hv.2.1, va_S.rf⟩
  have hr := B.returns
  obtain ⟨hx, hb, hml, hown, hts, -⟩ := id X
  have hl := lv_entry ([.ref a0]) (n := 6) (Nat.le_of_ble_eq_true rfl)
  rw [lg_entry_eq]
  generalize (lg_sl ([.ref a0]) ++ List.replicate (6 - (lg_sl ([.ref a0])).length) Slot.unset).toArray = ls at hl ⊢
  have hl : lv_has ls 6 [(0, .ref a0)] := hl
  change W p l e (rmX19_hardest 0 0) s m _ below meth c s.heap [] 0 0 (QI G below K _ s 0 0) (F0 m 0 ls [])
  unfold pX19_hardest at h
  refine lv_aload_n hx hb dX19_hardest_0 rfl (lv_at hl 0 rfl) ?_
  refine lv_iconst (v := 0) hx hb dX19_hardest_1 (by decide) ?_
  have hk_18 : kd u a0 = 16 := h.1
  have h := h.2
  refine g_putI (v := 0) X hw in_X19 tyX19_ok nmX19 hk_18 rfl 0 rfl (by decide) q1451 (fun _ z => z) rfl rfl rfl dX19_hardest_2 (fun H locs hw => ?_)
  refine lv_aload_n hx hb dX19_hardest_5 rfl (lv_at hl 0 rfl) ?_
  refine g_getO X hw in_X19 hk_18 rfl 3 rfl (by decide) q1454 (fun _ z => z) dX19_hardest_6 ?_
  refine g_ifnonnull X (tgt := 18) dX19_hardest_9 rfl (fun b_19 e_20 => ?_) (fun e_20 => ?_)
  · have h := h.2 b_19 e_20
    refine lv_aload_n hx hb dX19_hardest_18 rfl (lv_at hl 0 rfl) ?_
    obtain ⟨b_23, e_24, h⟩ := h
    refine g_getR X hw in_X19 hk_18 rfl 3 rfl (by decide) q1454 (fun _ z => z) e_24 dX19_hardest_19 ?_
    have hk_25 : kd u b_23 = 20 := h.1
    have h := h.2
    refine g_getNI X hw (host := "FifthCardModel") in_X23 hk_25 rfl 5 rfl (by decide) (List.mem_of_getElem? (i := 8) rfl) (fun _ z => z) dX19_hardest_22 ?_
    refine lv_iconst (v := 2) hx hb dX19_hardest_25 (by decide) ?_
    refine lv_icmp_ge (tgt := 36) hx hb dX19_hardest_26 rfl (fun c_28 => ?_) (fun c_28 => ?_)
    · have h := h.1 c_28
      refine lv_iconst (v := (-1)) hx hb dX19_hardest_36 (by decide) ?_
      refine lv_istore_n (lv' := [(1, .int (-1)), (0, .ref a0)]) hx hb dX19_hardest_37 rfl hl (by decide) rfl (fun ls hl => ?_)
      refine lv_iconst (v := 0) hx hb dX19_hardest_38 (by decide) ?_
      refine lv_istore_n (lv' := [(2, .int 0), (1, .int (-1)), (0, .ref a0)]) hx hb dX19_hardest_39 rfl hl (by decide) rfl (fun ls hl => ?_)
      refine lv_iconst (v := 0) hx hb dX19_hardest_40 (by decide) ?_
      refine lv_istore_n (lv' := [(3, .int 0), (2, .int 0), (1, .int (-1)), (0, .ref a0)]) hx hb dX19_hardest_41 rfl hl (by decide) rfl (fun ls hl => ?_)
      exact wX19_hardest_42 X hr  h hw (lv_sub hl [3, 2, 1, 0] rfl)
    · have h := h.2 c_28
      refine lv_aload_n hx hb dX19_hardest_29 rfl (lv_at hl 0 rfl) ?_
      refine lv_bipush (v := 6) hx hb dX19_hardest_30 (by decide) ?_
      refine g_calli hw (g_V X hw (mX19_refused l G _ _ _ _ h) 1 (lw_V q1603 q1605 qs47 q143 q1606) rfl rfl ydX19_refused ⟨Nat.le_of_ble_eq_true rfl, Nat.le_of_ble_eq_true rfl⟩ (g_recv X hw (ci := 15) (q := (RX19, TX19, 46)) hk_18 rfl) (As := [.int 6]) (rest := []) rfl hl.1 rfl (Nat.le_of_ble_eq_true rfl) dX19_hardest_32 ⟨Nat.le_refl _, Nat.le_refl _⟩) (fun r_26 u_27 H locs h hw => ?_)
      exact g_iret X hw hr h (Nat.le_refl _) (Nat.le_refl _) dX19_hardest_35
  · have h := h.1 e_20
    refine lv_aload_n hx hb dX19_hardest_12 rfl (lv_at hl 0 rfl) ?_
    refine lv_iconst (v := 1) hx hb dX19_hardest_13 (by decide) ?_
    refine g_calli hw (g_V X hw (mX19_refused l G _ _ _ _ h) 1 (lw_V q1603 q1605 qs47 q143 q1606) rfl rfl ydX19_refused ⟨Nat.le_of_ble_eq_true rfl, Nat.le_of_ble_eq_true rfl⟩ (g_recv X hw (ci := 15) (q := (RX19, TX19, 46)) hk_18 rfl) (As := [.int 1]) (rest := []) rfl hl.1 rfl (Nat.le_of_ble_eq_true rfl) dX19_hardest_14 ⟨Nat.le_refl _, Nat.le_refl _⟩) (fun r_21 u_22 H locs h hw => ?_)
    exact g_iret X hw hr h (Nat.le_refl _) (Nat.le_refl _) dX19_hardest_17

/-! FifthCard.shows(II)I -/
theorem ydX1_shows : yX1_shows.cls = "FifthCard" ∧ yX1_shows.cls ≠ "java/lang/invoke/MethodHandle" ∧ yX1_shows.cls ≠ "java/lang/invoke/VarHandle" ∧ (parseMethodDescriptor yX1_shows.desc).map (fun d => d.parameters.length) = some 2 := by decide +kernel
def rmX1_shows (mc ms : Nat) : Room := { frames := 7, cells := mc, slots := ms, locals := 173 }
set_option maxHeartbeats 4000000 in
theorem mX1_shows (l : Launch) (G : GT) (u : Hp) (a0 : Nat) (x1 : Int32) (x2 : Int32) (K : Int32 → Hp → Prop) (h : pX1_shows u a0 x1 x2 K) : Met l yX1_shows (ws_ yX1_shows cX1_shows 4 (some .int)) (rmX1_shows 0 0) (va_Pc [.ref a0, .int x1, .int x2] (GB G u)) (va_Qi K (fun u t => GH G u t.heap) (GA G)) 0 0 (GA G) := by
  refine Met.ofW (cc := cX1_shows) (maxL := 4) (ret := (some .int)) (by decide) rfl ?_
  intro p e s m args below meth c s₁ B hml hv
  obtain ⟨rfl, hv⟩ := hv
  have X := Mc_of (own := RX1) B hml rfl hv
  have hw : GW G u s s.heap [] := ⟨hv.2.1, va_S.rf⟩
  have hr := B.returns
  obtain ⟨hx, hb, hml, hown, hts, -⟩ := id X
  have hl := lv_entry ([.ref a0, .int x1, .int x2]) (n := 4) (Nat.le_of_ble_eq_true rfl)
  rw [lg_entry_eq]
  generalize (lg_sl ([.ref a0, .int x1, .int x2]) ++ List.replicate (4 - (lg_sl ([.ref a0, .int x1, .int x2])).length) Slot.unset).toArray = ls at hl ⊢
  have hl : lv_has ls 4 [(0, .ref a0), (1, .int x1), (2, .int x2)] := hl
  change W p l e (rmX1_shows 0 0) s m _ below meth c s.heap [] 0 0 (QI G below K _ s 0 0) (F0 m 0 ls [])
  unfold pX1_shows at h
  refine lv_aload_n hx hb dX1_shows_0 rfl (lv_at hl 0 rfl) ?_
  have hk_1 : kd u a0 = 1 := h.1
  have h := h.2
  refine g_callv hw (g_V X hw (mX1_anew l G _ _ _ h) 0 (lw_V q535 q537 qs2 q122 q538) rfl rfl ydX1_anew ⟨Nat.le_of_ble_eq_true rfl, Nat.le_of_ble_eq_true rfl⟩ (g_recv X hw (ci := 0) (q := (RX1, TX1, 16)) hk_1 rfl) (As := []) (rest := []) rfl hl.1 rfl (Nat.le_of_ble_eq_true rfl) dX1_shows_1 ⟨Nat.le_refl _, Nat.le_refl _⟩) (fun u_2 H locs h hw => ?_)
  refine lv_aload_n hx hb dX1_shows_4 rfl (lv_at hl 0 rfl) ?_
  refine lv_iload_n hx hb dX1_shows_5 rfl (lv_at hl 1 rfl) ?_
  have hk_3 : kd u_2 a0 = 1 := h.1
  have h := h.2
  refine g_callio hw (g_V X hw (mX1_isRule l G _ _ _ _ h) 1 (lw_V q1074 q1076 qs28 q122 q1077) rfl rfl ydX1_isRule ⟨Nat.le_of_ble_eq_true rfl, Nat.le_of_ble_eq_true rfl⟩ (g_recv X hw (ci := 0) (q := (RX1, TX1, 16)) hk_3 rfl) (As := [.int x1]) (rest := []) rfl hl.1 rfl (Nat.le_of_ble_eq_true rfl) dX1_shows_6 ⟨Nat.le_refl _, Nat.le_refl _⟩) (fun r_4 H locs h hw => ?_)
  refine lv_if_eq (tgt := 20) hx hb dX1_shows_9 rfl (fun c_29 => ?_) (fun c_29 => ?_)
  · have h := h.1 c_29
    refine lv_aload_n hx hb dX1_shows_20 rfl (lv_at hl 0 rfl) ?_
    refine lv_iconst (v := 1) hx hb dX1_shows_21 (by decide) ?_
    refine g_calli hw (g_V X hw (mX1_no l G _ _ _ _ h) 1 (lw_V q542 q544 qs3 q122 q545) rfl rfl ydX1_no ⟨Nat.le_of_ble_eq_true rfl, Nat.le_of_ble_eq_true rfl⟩ (g_recv X hw (ci := 0) (q := (RX1, TX1, 16)) hk_3 rfl) (As := [.int 1]) (rest := []) rfl hl.1 rfl (Nat.le_of_ble_eq_true rfl) dX1_shows_22 ⟨Nat.le_refl _, Nat.le_refl _⟩) (fun r_5 u_6 H locs h hw => ?_)
    exact g_iret X hw hr h (Nat.le_refl _) (Nat.le_refl _) dX1_shows_25
  · have h := h.2 c_29
    refine lv_aload_n hx hb dX1_shows_12 rfl (lv_at hl 0 rfl) ?_
    refine lv_iload_n hx hb dX1_shows_13 rfl (lv_at hl 2 rfl) ?_
    refine g_callio hw (g_V X hw (mX1_isHand l G _ _ _ _ h) 1 (lw_V q1019 q1021 qs25 q122 q1022) rfl rfl ydX1_isHand ⟨Nat.le_of_ble_eq_true rfl, Nat.le_of_ble_eq_true rfl⟩ (g_recv X hw (ci := 0) (q := (RX1, TX1, 16)) hk_3 rfl) (As := [.int x2]) (rest := []) rfl hl.1 rfl (Nat.le_of_ble_eq_true rfl) dX1_shows_14 ⟨Nat.le_refl _, Nat.le_refl _⟩) (fun r_7 H locs h hw => ?_)
    refine lv_if_ne (tgt := 26) hx hb dX1_shows_17 rfl (fun c_28 => ?_) (fun c_28 => ?_)
    · have h := h.2 c_28
      refine lv_aload_n hx hb dX1_shows_26 rfl (lv_at hl 0 rfl) ?_
      refine lv_iload_n hx hb dX1_shows_27 rfl (lv_at hl 1 rfl) ?_
      refine lv_iload_n hx hb dX1_shows_28 rfl (lv_at hl 2 rfl) ?_
      refine g_calli hw (g_V X hw (mX1_rowOf l G _ _ _ _ _ h) 2 (lw_V q1078 q1080 qs29 q122 q1081) rfl rfl ydX1_rowOf ⟨Nat.le_of_ble_eq_true rfl, Nat.le_of_ble_eq_true rfl⟩ (g_recv X hw (ci := 0) (q := (RX1, TX1, 16)) hk_3 rfl) (As := [.int x1, .int x2]) (rest := []) rfl hl.1 rfl (Nat.le_of_ble_eq_true rfl) dX1_shows_29 ⟨Nat.le_refl _, Nat.le_refl _⟩) (fun r_8 u_9 H locs h hw => ?_)
      refine lv_istore_n (lv' := [(3, .int r_8), (0, .ref a0), (1, .int x1), (2, .int x2)]) hx hb dX1_shows_32 rfl hl (by decide) rfl (fun ls hl => ?_)
      refine lv_iload_n hx hb dX1_shows_33 rfl (lv_at hl 0 rfl) ?_
      refine lv_bipush (v := (-2)) hx hb dX1_shows_34 (by decide) ?_
      refine lv_icmp_ne (tgt := 46) hx hb dX1_shows_36 rfl (fun c_25 => ?_) (fun c_25 => ?_)
      · have h := h.2 c_25
        refine lv_aload_n hx hb dX1_shows_46 rfl (lv_at hl 1 rfl) ?_
        have hk_10 : kd u_9 a0 = 1 := h.1
        have h := h.2
        obtain ⟨b_11, e_12, h⟩ := h
        refine g_getR X hw in_X1 hk_10 rfl 11 rfl (by decide) q484 (fun _ z => z) e_12 dX1_shows_47 ?_
        have hk_13 : kd u_9 b_11 = 5 := h.1
        have h := h.2
        refine g_getI X hw in_X5 hk_13 rfl 2 rfl (by decide) q345 (fun _ z => z) dX1_shows_50 ?_
        refine lv_bipush (v := 20) hx hb dX1_shows_53 (by decide) ?_
        refine lv_icmp_ne (tgt := 64) hx hb dX1_shows_55 rfl (fun c_21 => ?_) (fun c_21 => ?_)
        · have h := h.2 c_21
          refine lv_aload_n hx hb dX1_shows_64 rfl (lv_at hl 1 rfl) ?_
          refine g_getR X hw in_X1 hk_10 rfl 11 rfl (by decide) q484 (fun _ z => z) e_12 dX1_shows_65 ?_
          refine lv_iload_n hx hb dX1_shows_68 rfl (lv_at hl 3 rfl) ?_
          refine lv_iload_n hx hb dX1_shows_69 rfl (lv_at hl 0 rfl) ?_
          refine g_callv hw (g_V X hw (mX5_add l G _ _ _ _ _ h) 2 (lw_V q989 q990 q991 q129 q992) rfl rfl ydX5_add ⟨Nat.le_of_ble_eq_true rfl, Nat.le_of_ble_eq_true rfl⟩ (g_recv X hw (ci := 4) (q := (RX5, TX5, 4)) hk_13 rfl) (As := [.int x2, .int r_8]) (rest := []) rfl hl.1 rfl (Nat.le_of_ble_eq_true rfl) dX1_shows_70 ⟨Nat.le_refl _, Nat.le_refl _⟩) (fun u_14 H locs h hw => ?_)
          refine lv_aload_n hx hb dX1_shows_73 rfl (lv_at hl 1 rfl) ?_
          have hk_15 : kd u_14 a0 = 1 := h.1
          have h := h.2
          obtain ⟨b_16, e_17, h⟩ := h
          refine g_getR X hw in_X1 hk_15 rfl 11 rfl (by decide) q484 (fun _ z => z) e_17 dX1_shows_74 ?_
          have hk_18 : kd u_14 b_16 = 5 := h.1
          have h := h.2
          refine g_getI X hw in_X5 hk_18 rfl 2 rfl (by decide) q345 (fun _ z => z) dX1_shows_77 ?_
          refine lv_iconst (v := 1) hx hb dX1_shows_80 (by decide) ?_
          refine lv_isub hx hb dX1_shows_81 ?_
          exact g_iret X hw hr h (Nat.le_refl _) (Nat.le_refl _) dX1_shows_82
        · have h := h.1 c_21
          refine lv_aload_n hx hb dX1_shows_58 rfl (lv_at hl 1 rfl) ?_
          refine lv_iconst (v := 3) hx hb dX1_shows_59 (by decide) ?_
          refine g_calli hw (g_V X hw (mX1_no l G _ _ _ _ h) 1 (lw_V q542 q544 qs3 q122 q545) rfl rfl ydX1_no ⟨Nat.le_of_ble_eq_true rfl, Nat.le_of_ble_eq_true rfl⟩ (g_recv X hw (ci := 0) (q := (RX1, TX1, 16)) hk_10 rfl) (As := [.int 3]) (rest := []) rfl hl.1 rfl (Nat.le_of_ble_eq_true rfl) dX1_shows_60 ⟨Nat.le_refl _, Nat.le_refl _⟩) (fun r_19 u_20 H locs h hw => ?_)
          exact g_iret X hw hr h (Nat.le_refl _) (Nat.le_refl _) dX1_shows_63
      · have h := h.1 c_25
        refine lv_aload_n hx hb dX1_shows_39 rfl (lv_at hl 1 rfl) ?_
        refine lv_bipush (v := 6) hx hb dX1_shows_40 (by decide) ?_
        have hk_22 : kd u_9 a0 = 1 := h.1
        have h := h.2
        refine g_calli hw (g_V X hw (mX1_no l G _ _ _ _ h) 1 (lw_V q542 q544 qs3 q122 q545) rfl rfl ydX1_no ⟨Nat.le_of_ble_eq_true rfl, Nat.le_of_ble_eq_true rfl⟩ (g_recv X hw (ci := 0) (q := (RX1, TX1, 16)) hk_22 rfl) (As := [.int 6]) (rest := []) rfl hl.1 rfl (Nat.le_of_ble_eq_true rfl) dX1_shows_42 ⟨Nat.le_refl _, Nat.le_refl _⟩) (fun r_23 u_24 H locs h hw => ?_)
        exact g_iret X hw hr h (Nat.le_refl _) (Nat.le_refl _) dX1_shows_45
    · have h := h.1 c_28
      refine lv_aload_n hx hb dX1_shows_20 rfl (lv_at hl 0 rfl) ?_
      refine lv_iconst (v := 1) hx hb dX1_shows_21 (by decide) ?_
      refine g_calli hw (g_V X hw (mX1_no l G _ _ _ _ h) 1 (lw_V q542 q544 qs3 q122 q545) rfl rfl ydX1_no ⟨Nat.le_of_ble_eq_true rfl, Nat.le_of_ble_eq_true rfl⟩ (g_recv X hw (ci := 0) (q := (RX1, TX1, 16)) hk_3 rfl) (As := [.int 1]) (rest := []) rfl hl.1 rfl (Nat.le_of_ble_eq_true rfl) dX1_shows_22 ⟨Nat.le_refl _, Nat.le_refl _⟩) (fun r_26 u_27 H locs h hw => ?_)
      exact g_iret X hw hr h (Nat.le_refl _) (Nat.le_refl _) dX1_shows_25

/-! FifthCardModel.shows(II)I -/
theorem ydX19_shows : yX19_shows.cls = "FifthCardModel" ∧ yX19_shows.cls ≠ "java/lang/invoke/MethodHandle" ∧ yX19_shows.cls ≠ "java/lang/invoke/VarHandle" ∧ (parseMethodDescriptor yX19_shows.desc).map (fun d => d.parameters.length) = some 2 := by decide +kernel
def rmX19_shows (mc ms : Nat) : Room := { frames := 7, cells := mc, slots := ms, locals := 169 }
set_option maxHeartbeats 4000000 in
theorem mX19_shows (l : Launch) (G : GT) (u : Hp) (a0 : Nat) (x1 : Int32) (x2 : Int32) (K : Int32 → Hp → Prop) (h : pX19_shows u a0 x1 x2 K) : Met l yX19_shows (ws_ yX19_shows cX19_shows 4 (some .int)) (rmX19_shows 0 0) (va_Pc [.ref a0, .int x1, .int x2] (GB G u)) (va_Qi K (fun u t => GH G u t.heap) (GA G)) 0 0 (GA G) := by
  refine Met.ofW (cc := cX19_shows) (maxL := 4) (ret := (some .int)) (by decide) rfl ?_
  intro p e s m args below meth c s₁ B hml hv
  obtain ⟨rfl, hv⟩ := hv
  have X := Mc_of (own := RX19) B hml rfl hv
  have hw : GW G u s s.heap [] := ⟨hv.2.1, va_S.rf⟩
  have hr := B.returns
  obtain ⟨hx, hb, hml, hown, hts, -⟩ := id X
  have hl := lv_entry ([.ref a0, .int x1, .int x2]) (n := 4) (Nat.le_of_ble_eq_true rfl)
  rw [lg_entry_eq]
  generalize (lg_sl ([.ref a0, .int x1, .int x2]) ++ List.replicate (4 - (lg_sl ([.ref a0, .int x1, .int x2])).length) Slot.unset).toArray = ls at hl ⊢
  have hl : lv_has ls 4 [(0, .ref a0), (1, .int x1), (2, .int x2)] := hl
  change W p l e (rmX19_shows 0 0) s m _ below meth c s.heap [] 0 0 (QI G below K _ s 0 0) (F0 m 0 ls [])
  unfold pX19_shows at h
  refine lv_aload_n hx hb dX19_shows_0 rfl (lv_at hl 0 rfl) ?_
  refine lv_iconst (v := 0) hx hb dX19_shows_1 (by decide) ?_
  have hk_1 : kd u a0 = 16 := h.1
  have h := h.2
  refine g_putI (v := 0) X hw in_X19 tyX19_ok nmX19 hk_1 rfl 0 rfl (by decide) q1451 (fun _ z => z) rfl rfl rfl dX19_shows_2 (fun H locs hw => ?_)
  refine lv_aload_n hx hb dX19_shows_5 rfl (lv_at hl 0 rfl) ?_
  refine lv_iload_n hx hb dX19_shows_6 rfl (lv_at hl 1 rfl) ?_
  refine g_callio hw (g_V X hw (mX19_isRule l G _ _ _ _ h) 1 (lw_V q1940 q1942 qs84 q143 q1943) rfl rfl ydX19_isRule ⟨Nat.le_of_ble_eq_true rfl, Nat.le_of_ble_eq_true rfl⟩ (g_recv X hw (ci := 15) (q := (RX19, TX19, 46)) hk_1 rfl) (As := [.int x1]) (rest := []) rfl hl.1 rfl (Nat.le_of_ble_eq_true rfl) dX19_shows_7 ⟨Nat.le_refl _, Nat.le_refl _⟩) (fun r_2 H locs h hw => ?_)
  refine lv_if_eq (tgt := 21) hx hb dX19_shows_10 rfl (fun c_27 => ?_) (fun c_27 => ?_)
  · have h := h.1 c_27
    refine lv_aload_n hx hb dX19_shows_21 rfl (lv_at hl 0 rfl) ?_
    refine lv_iconst (v := 1) hx hb dX19_shows_22 (by decide) ?_
    refine g_calli hw (g_V X hw (mX19_refused l G _ _ _ _ h) 1 (lw_V q1603 q1605 qs47 q143 q1606) rfl rfl ydX19_refused ⟨Nat.le_of_ble_eq_true rfl, Nat.le_of_ble_eq_true rfl⟩ (g_recv X hw (ci := 15) (q := (RX19, TX19, 46)) hk_1 rfl) (As := [.int 1]) (rest := []) rfl hl.1 rfl (Nat.le_of_ble_eq_true rfl) dX19_shows_23 ⟨Nat.le_refl _, Nat.le_refl _⟩) (fun r_3 u_4 H locs h hw => ?_)
    exact g_iret X hw hr h (Nat.le_refl _) (Nat.le_refl _) dX19_shows_26
  · have h := h.2 c_27
    refine lv_aload_n hx hb dX19_shows_13 rfl (lv_at hl 0 rfl) ?_
    refine lv_iload_n hx hb dX19_shows_14 rfl (lv_at hl 2 rfl) ?_
    refine g_callio hw (g_V X hw (mX19_isHand l G _ _ _ _ h) 1 (lw_V q1895 q1897 qs79 q143 q1898) rfl rfl ydX19_isHand ⟨Nat.le_of_ble_eq_true rfl, Nat.le_of_ble_eq_true rfl⟩ (g_recv X hw (ci := 15) (q := (RX19, TX19, 46)) hk_1 rfl) (As := [.int x2]) (rest := []) rfl hl.1 rfl (Nat.le_of_ble_eq_true rfl) dX19_shows_15 ⟨Nat.le_refl _, Nat.le_refl _⟩) (fun r_5 H locs h hw => ?_)
    refine lv_if_ne (tgt := 27) hx hb dX19_shows_18 rfl (fun c_26 => ?_) (fun c_26 => ?_)
    · have h := h.2 c_26
      refine lv_aload_n hx hb dX19_shows_27 rfl (lv_at hl 0 rfl) ?_
      refine lv_iload_n hx hb dX19_shows_28 rfl (lv_at hl 1 rfl) ?_
      refine lv_iload_n hx hb dX19_shows_29 rfl (lv_at hl 2 rfl) ?_
      refine g_calli hw (g_V X hw (mX19_laysNow l G _ _ _ _ _ h) 2 (lw_V q1944 q1946 qs85 q143 q1947) rfl rfl ydX19_laysNow ⟨Nat.le_of_ble_eq_true rfl, Nat.le_of_ble_eq_true rfl⟩ (g_recv X hw (ci := 15) (q := (RX19, TX19, 46)) hk_1 rfl) (As := [.int x1, .int x2]) (rest := []) rfl hl.1 rfl (Nat.le_of_ble_eq_true rfl) dX19_shows_30 ⟨Nat.le_refl _, Nat.le_refl _⟩) (fun r_6 u_7 H locs h hw => ?_)
      refine lv_istore_n (lv' := [(3, .int r_6), (0, .ref a0), (1, .int x1), (2, .int x2)]) hx hb dX19_shows_33 rfl hl (by decide) rfl (fun ls hl => ?_)
      refine lv_iload_n hx hb dX19_shows_34 rfl (lv_at hl 0 rfl) ?_
      refine lv_bipush (v := (-2)) hx hb dX19_shows_35 (by decide) ?_
      refine lv_icmp_ne (tgt := 47) hx hb dX19_shows_37 rfl (fun c_23 => ?_) (fun c_23 => ?_)
      · have h := h.2 c_23
        refine lv_aload_n hx hb dX19_shows_47 rfl (lv_at hl 1 rfl) ?_
        have hk_8 : kd u_7 a0 = 16 := h.1
        have h := h.2
        refine g_getI X hw in_X19 hk_8 rfl 43 rfl (by decide) q1494 (fun _ z => z) dX19_shows_48 ?_
        refine lv_bipush (v := 20) hx hb dX19_shows_51 (by decide) ?_
        refine lv_icmp_ne (tgt := 62) hx hb dX19_shows_53 rfl (fun c_19 => ?_) (fun c_19 => ?_)
        · have h := h.2 c_19
          refine lv_aload_n hx hb dX19_shows_62 rfl (lv_at hl 1 rfl) ?_
          obtain ⟨b_9, e_10, h⟩ := h
          refine g_getR X hw in_X19 hk_8 rfl 37 rfl (by decide) q1488 (fun _ z => z) e_10 dX19_shows_63 ?_
          refine lv_aload_n hx hb dX19_shows_66 rfl (lv_at hl 1 rfl) ?_
          refine g_getI X hw in_X19 hk_8 rfl 43 rfl (by decide) q1494 (fun _ z => z) dX19_shows_67 ?_
          refine lv_iload_n hx hb dX19_shows_70 rfl (lv_at hl 3 rfl) ?_
          have hk_11 : kd u_7 b_9 = 101 := h.1
          have h := h.2
          refine g_iast X hw hk_11 h.1 dX19_shows_71 (fun H locs hw => ?_)
          have h := h.2
          refine lv_aload_n hx hb dX19_shows_72 rfl (lv_at hl 1 rfl) ?_
          obtain ⟨b_12, e_13, h⟩ := h
          refine g_getR X hw in_X19 hk_8 rfl 38 rfl (by decide) q1489 (fun _ z => z) e_13 dX19_shows_73 ?_
          refine lv_aload_n hx hb dX19_shows_76 rfl (lv_at hl 1 rfl) ?_
          refine g_getI X hw in_X19 hk_8 rfl 43 rfl (by decide) q1494 (fun _ z => z) dX19_shows_77 ?_
          refine lv_iload_n hx hb dX19_shows_80 rfl (lv_at hl 0 rfl) ?_
          have hk_14 : kd u_7 b_12 = 101 := h.1
          have h := h.2
          refine g_iast X hw hk_14 h.1 dX19_shows_81 (fun H locs hw => ?_)
          have h := h.2
          refine lv_aload_n hx hb dX19_shows_82 rfl (lv_at hl 1 rfl) ?_
          refine lv_dup hx hb dX19_shows_83 rfl ?_
          refine g_getI X hw in_X19 hk_8 rfl 43 rfl (by decide) q1494 (fun _ z => z) dX19_shows_84 ?_
          refine lv_iconst (v := 1) hx hb dX19_shows_87 (by decide) ?_
          refine lv_iadd hx hb dX19_shows_88 ?_
          refine g_putI (v := (FI u_7 1943 a0) + 1) X hw in_X19 tyX19_ok nmX19 hk_8 rfl 43 rfl (by decide) q1494 (fun _ z => z) rfl rfl rfl dX19_shows_89 (fun H locs hw => ?_)
          refine lv_aload_n hx hb dX19_shows_92 rfl (lv_at hl 1 rfl) ?_
          refine lv_aload_n hx hb dX19_shows_93 rfl (lv_at hl 1 rfl) ?_
          refine g_getI X hw in_X19 hk_8 rfl 43 rfl (by decide) q1494 (fun _ z => z) dX19_shows_94 ?_
          refine lv_iconst (v := 1) hx hb dX19_shows_97 (by decide) ?_
          refine lv_isub hx hb dX19_shows_98 ?_
          refine g_calli hw (g_V X hw (mX19_good l G _ _ _ _ h) 1 (lw_V q1867 q1869 qs77 q143 q1870) rfl rfl ydX19_good ⟨Nat.le_of_ble_eq_true rfl, Nat.le_of_ble_eq_true rfl⟩ (g_recv X hw (ci := 15) (q := (RX19, TX19, 46)) hk_8 rfl) (As := [.int ((FI (sFI (sAI (sAI u_7 b_9 (upd (AI u_7 b_9) (tn (FI u_7 1943 a0)) x2)) b_12 (upd (AI (sAI u_7 b_9 (upd (AI u_7 b_9) (tn (FI u_7 1943 a0)) x2)) b_12) (tn (FI u_7 1943 a0)) r_6)) 1943 a0 ((FI u_7 1943 a0) + 1)) 1943 a0) - 1)]) (rest := []) rfl hl.1 rfl (Nat.le_of_ble_eq_true rfl) dX19_shows_99 ⟨Nat.le_refl _, Nat.le_refl _⟩) (fun r_15 u_16 H locs h hw => ?_)
          exact g_iret X hw hr h (Nat.le_refl _) (Nat.le_refl _) dX19_shows_102
        · have h := h.1 c_19
          refine lv_aload_n hx hb dX19_shows_56 rfl (lv_at hl 1 rfl) ?_
          refine lv_iconst (v := 3) hx hb dX19_shows_57 (by decide) ?_
          refine g_calli hw (g_V X hw (mX19_refused l G _ _ _ _ h) 1 (lw_V q1603 q1605 qs47 q143 q1606) rfl rfl ydX19_refused ⟨Nat.le_of_ble_eq_true rfl, Nat.le_of_ble_eq_true rfl⟩ (g_recv X hw (ci := 15) (q := (RX19, TX19, 46)) hk_8 rfl) (As := [.int 3]) (rest := []) rfl hl.1 rfl (Nat.le_of_ble_eq_true rfl) dX19_shows_58 ⟨Nat.le_refl _, Nat.le_refl _⟩) (fun r_17 u_18 H locs h hw => ?_)
          exact g_iret X hw hr h (Nat.le_refl _) (Nat.le_refl _) dX19_shows_61
      · have h := h.1 c_23
        refine lv_aload_n hx hb dX19_shows_40 rfl (lv_at hl 1 rfl) ?_
        refine lv_bipush (v := 6) hx hb dX19_shows_41 (by decide) ?_
        have hk_20 : kd u_7 a0 = 16 := h.1
        have h := h.2
        refine g_calli hw (g_V X hw (mX19_refused l G _ _ _ _ h) 1 (lw_V q1603 q1605 qs47 q143 q1606) rfl rfl ydX19_refused ⟨Nat.le_of_ble_eq_true rfl, Nat.le_of_ble_eq_true rfl⟩ (g_recv X hw (ci := 15) (q := (RX19, TX19, 46)) hk_20 rfl) (As := [.int 6]) (rest := []) rfl hl.1 rfl (Nat.le_of_ble_eq_true rfl) dX19_shows_43 ⟨Nat.le_refl _, Nat.le_refl _⟩) (fun r_21 u_22 H locs h hw => ?_)
        exact g_iret X hw hr h (Nat.le_refl _) (Nat.le_refl _) dX19_shows_46
    · have h := h.1 c_26
      refine lv_aload_n hx hb dX19_shows_21 rfl (lv_at hl 0 rfl) ?_
      refine lv_iconst (v := 1) hx hb dX19_shows_22 (by decide) ?_
      refine g_calli hw (g_V X hw (mX19_refused l G _ _ _ _ h) 1 (lw_V q1603 q1605 qs47 q143 q1606) rfl rfl ydX19_refused ⟨Nat.le_of_ble_eq_true rfl, Nat.le_of_ble_eq_true rfl⟩ (g_recv X hw (ci := 15) (q := (RX19, TX19, 46)) hk_1 rfl) (As := [.int 1]) (rest := []) rfl hl.1 rfl (Nat.le_of_ble_eq_true rfl) dX19_shows_23 ⟨Nat.le_refl _, Nat.le_refl _⟩) (fun r_24 u_25 H locs h hw => ?_)
      exact g_iret X hw hr h (Nat.le_refl _) (Nat.le_refl _) dX19_shows_26

/-! FifthCard.yes(I)Z -/
theorem ydX1_yes : yX1_yes.cls = "FifthCard" ∧ yX1_yes.cls ≠ "java/lang/invoke/MethodHandle" ∧ yX1_yes.cls ≠ "java/lang/invoke/VarHandle" ∧ (parseMethodDescriptor yX1_yes.desc).map (fun d => d.parameters.length) = some 1 := by decide +kernel
def rmX1_yes (mc ms : Nat) : Room := { frames := 1, cells := mc, slots := ms, locals := 20 }
set_option maxHeartbeats 4000000 in
theorem mX1_yes (l : Launch) (G : GT) (u : Hp) (a0 : Nat) (x1 : Int32) (K : Int32 → Hp → Prop) (h : pX1_yes u a0 x1 K) : Met l yX1_yes (ws_ yX1_yes cX1_yes 2 (some .boolean)) (rmX1_yes 0 0) (va_Pc [.ref a0, .int x1] (GB G u)) (va_Qi K (fun u t => GH G u t.heap) (GA G)) 0 0 (GA G) := by
  refine Met.ofW (cc := cX1_yes) (maxL := 2) (ret := (some .boolean)) (by decide) rfl ?_
  intro p e s m args below meth c s₁ B hml hv
  obtain ⟨rfl, hv⟩ := hv
  have X := Mc_of (own := RX1) B hml rfl hv
  have hw : GW G u s s.heap [] := ⟨hv.2.1, va_S.rf⟩
  have hr := B.returns
  obtain ⟨hx, hb, hml, hown, hts, -⟩ := id X
  have hl := lv_entry ([.ref a0, .int x1]) (n := 2) (Nat.le_of_ble_eq_true rfl)
  rw [lg_entry_eq]
  generalize (lg_sl ([.ref a0, .int x1]) ++ List.replicate (2 - (lg_sl ([.ref a0, .int x1])).length) Slot.unset).toArray = ls at hl ⊢
  have hl : lv_has ls 2 [(0, .ref a0), (1, .int x1)] := hl
  change W p l e (rmX1_yes 0 0) s m _ below meth c s.heap [] 0 0 (QI G below K _ s 0 0) (F0 m 0 ls [])
  unfold pX1_yes at h
  refine lv_aload_n hx hb dX1_yes_0 rfl (lv_at hl 0 rfl) ?_
  have hk_1 : kd u a0 = 1 := h.1
  have h := h.2
  refine g_callv hw (g_V X hw (mX1_anew l G _ _ _ h) 0 (lw_V q535 q537 qs2 q122 q538) rfl rfl ydX1_anew ⟨Nat.le_of_ble_eq_true rfl, Nat.le_of_ble_eq_true rfl⟩ (g_recv X hw (ci := 0) (q := (RX1, TX1, 16)) hk_1 rfl) (As := []) (rest := []) rfl hl.1 rfl (Nat.le_of_ble_eq_true rfl) dX1_yes_1 ⟨Nat.le_refl _, Nat.le_refl _⟩) (fun u_2 H locs h hw => ?_)
  refine lv_aload_n hx hb dX1_yes_4 rfl (lv_at hl 0 rfl) ?_
  refine lv_iload_n hx hb dX1_yes_5 rfl (lv_at hl 1 rfl) ?_
  have hk_3 : kd u_2 a0 = 1 := h.1
  have h := h.2
  refine g_putI (v := x1) X hw in_X1 tyX1_ok nmX1 hk_3 rfl 4 rfl (by decide) q477 (fun _ z => z) rfl rfl rfl dX1_yes_6 (fun H locs hw => ?_)
  refine lv_iload_n hx hb dX1_yes_9 rfl (lv_at hl 1 rfl) ?_
  refine lv_if_ne (tgt := 17) hx hb dX1_yes_10 rfl (fun c_4 => ?_) (fun c_4 => ?_)
  · have h := h.2 c_4
    refine lv_iconst (v := 0) hx hb dX1_yes_17 (by decide) ?_
    exact g_zret X hw hr rfl h (Nat.le_refl _) (Nat.le_refl _) dX1_yes_18
  · have h := h.1 c_4
    refine lv_iconst (v := 1) hx hb dX1_yes_13 (by decide) ?_
    refine lv_goto (tgt := 18) hx hb dX1_yes_14 rfl ?_
    exact g_zret X hw hr rfl h (Nat.le_refl _) (Nat.le_refl _) dX1_yes_18

/-! FifthCard.seed(I)Z -/
theorem ydX1_seed : yX1_seed.cls = "FifthCard" ∧ yX1_seed.cls ≠ "java/lang/invoke/MethodHandle" ∧ yX1_seed.cls ≠ "java/lang/invoke/VarHandle" ∧ (parseMethodDescriptor yX1_seed.desc).map (fun d => d.parameters.length) = some 1 := by decide +kernel
def rmX1_seed (mc ms : Nat) : Room := { frames := 2, cells := mc, slots := ms, locals := 41 }
set_option maxHeartbeats 4000000 in
theorem wX1_seed_28 {G : GT} {p : Program} {l : Launch} {e : Env} {s : State} {m : MethodId} {args : Array Value} {below : List Frame} {meth : Method} {c : Code} {H : Heap} {locs : List Loc} {ls : Array Slot} {a0 : Nat} {x1 : Int32} {z0 : Int32} {z1 : Nat} {u : Hp} {K : Int32 → Hp → Prop} (X : Mc G p s m args meth c RX1 cX1_seed 2) (hr : meth.sig.returnType = (some .boolean)) (h : bX1_seed_28 K a0 x1 z0 z1 u) (hw : GW G u s H locs) (hl : lv_has ls 2 [(0, .ref a0), (1, .int x1)]) : W p l e (rmX1_seed 0 0) s m args below meth c H locs 0 0 (QI G below K args s 0 0) (F0 m 28 ls [.int z0, .ref z1]) := by
  obtain ⟨hx, hb, hml, hown, hts, -⟩ := id X
  unfold bX1_seed_28 at h
  have hk_1 : kd u z1 = 1 := h.1
  have h := h.2
  refine g_calli hw (g_V X hw (mX1_yes l G _ _ _ _ h) 1 (lw_V q1363 q1365 qs46 q122 q1366) rfl rfl ydX1_yes ⟨Nat.le_of_ble_eq_true rfl, Nat.le_of_ble_eq_true rfl⟩ (g_recv X hw (ci := 0) (q := (RX1, TX1, 16)) hk_1 rfl) (As := [.int z0]) (rest := []) rfl hl.1 rfl (Nat.le_of_ble_eq_true rfl) dX1_seed_28 ⟨Nat.le_refl _, Nat.le_refl _⟩) (fun r_2 u_3 H locs h hw => ?_)
  refine lv_if_ne (tgt := 36) hx hb dX1_seed_31 rfl (fun c_8 => ?_) (fun c_8 => ?_)
  · have h := h.2 c_8
    refine lv_aload_n hx hb dX1_seed_36 rfl (lv_at hl 0 rfl) ?_
    have hk_4 : kd u_3 a0 = 1 := h.1
    have h := h.2
    obtain ⟨b_5, e_6, h⟩ := h
    refine g_getR X hw in_X1 hk_4 rfl 11 rfl (by decide) q484 (fun _ z => z) e_6 dX1_seed_37 ?_
    refine lv_iload_n hx hb dX1_seed_40 rfl (lv_at hl 1 rfl) ?_
    have hk_7 : kd u_3 b_5 = 5 := h.1
    have h := h.2
    refine g_putI (v := x1) X hw in_X5 tyX5_ok nmX5 hk_7 rfl 3 rfl (by decide) q347 (fun _ z => z) rfl rfl rfl dX1_seed_41 (fun H locs hw => ?_)
    refine lv_iconst (v := 1) hx hb dX1_seed_44 (by decide) ?_
    exact g_zret X hw hr rfl h (Nat.le_refl _) (Nat.le_refl _) dX1_seed_45
  · have h := h.1 c_8
    refine lv_iconst (v := 0) hx hb dX1_seed_34 (by decide) ?_
    exact g_zret X hw hr rfl h (Nat.le_refl _) (Nat.le_refl _) dX1_seed_35
set_option maxHeartbeats 4000000 in
theorem mX1_seed (l : Launch) (G : GT) (u : Hp) (a0 : Nat) (x1 : Int32) (K : Int32 → Hp → Prop) (h : pX1_seed u a0 x1 K) : Met l yX1_seed (ws_ yX1_seed cX1_seed 2 (some .boolean)) (rmX1_seed 0 0) (va_Pc [.ref a0, .int x1] (GB G u)) (va_Qi K (fun u t => GH G u t.heap) (GA G)) 0 0 (GA G) := by
  refine Met.ofW (cc := cX1_seed) (maxL := 2) (ret := (some .boolean)) (by decide) rfl ?_
  intro p e s m args below meth c s₁ B hml hv
  obtain ⟨rfl, hv⟩ := hv
  have X := Mc_of (own := RX1) B hml rfl hv
  have hw : GW G u s s.heap [] := ⟨hv.2.1, va_S.rf⟩
  have hr := B.returns
  obtain ⟨hx, hb, hml, hown, hts, -⟩ := id X
  have hl := lv_entry ([.ref a0, .int x1]) (n := 2) (Nat.le_of_ble_eq_true rfl)
  rw [lg_entry_eq]
  generalize (lg_sl ([.ref a0, .int x1]) ++ List.replicate (2 - (lg_sl ([.ref a0, .int x1])).length) Slot.unset).toArray = ls at hl ⊢
  have hl : lv_has ls 2 [(0, .ref a0), (1, .int x1)] := hl
  change W p l e (rmX1_seed 0 0) s m _ below meth c s.heap [] 0 0 (QI G below K _ s 0 0) (F0 m 0 ls [])
  unfold pX1_seed at h
  refine lv_aload_n hx hb dX1_seed_0 rfl (lv_at hl 0 rfl) ?_
  refine lv_aload_n hx hb dX1_seed_1 rfl (lv_at hl 0 rfl) ?_
  have hk_9 : kd u a0 = 1 := h.1
  have h := h.2
  refine g_getO X hw in_X1 hk_9 rfl 3 rfl (by decide) q476 (fun _ z => z) dX1_seed_2 ?_
  refine g_ifnonnull X (tgt := 12) dX1_seed_5 rfl (fun b_10 e_11 => ?_) (fun e_11 => ?_)
  · have h := h.2 b_10 e_11
    refine lv_iload_n hx hb dX1_seed_12 rfl (lv_at hl 1 rfl) ?_
    refine lv_iconst (v := 0) hx hb dX1_seed_13 (by decide) ?_
    refine lv_ldcw hx hb hown (hts _ q1362) dX1_seed_14 ?_
    refine g_callio hw (g_S X hw (mX1_in l G _ _ _ _ _ h) 3 (lw_S q539 q540 q122 q541) rfl rfl ydX1_in ⟨Nat.le_of_ble_eq_true rfl, Nat.le_of_ble_eq_true rfl⟩ (As := [.int x1, .int 0, .int 65536]) (rest := [.ref a0]) rfl hl.1 rfl (Nat.le_of_ble_eq_true rfl) dX1_seed_17 ⟨Nat.le_refl _, Nat.le_refl _⟩) (fun r_12 H locs h hw => ?_)
    refine lv_if_eq (tgt := 27) hx hb dX1_seed_20 rfl (fun c_13 => ?_) (fun c_13 => ?_)
    · have h := h.1 c_13
      refine lv_iconst (v := 2) hx hb dX1_seed_27 (by decide) ?_
      exact wX1_seed_28 X hr  h hw (lv_sub hl [0, 1] rfl)
    · have h := h.2 c_13
      refine lv_iconst (v := 0) hx hb dX1_seed_23 (by decide) ?_
      refine lv_goto (tgt := 28) hx hb dX1_seed_24 rfl ?_
      exact wX1_seed_28 X hr  h hw (lv_sub hl [0, 1] rfl)
  · have h := h.1 e_11
    refine lv_iconst (v := 1) hx hb dX1_seed_8 (by decide) ?_
    refine lv_goto (tgt := 28) hx hb dX1_seed_9 rfl ?_
    exact wX1_seed_28 X hr  h hw (lv_sub hl [0, 1] rfl)

/-! FifthCardModel.denied(I)Z -/
theorem ydX19_denied : yX19_denied.cls = "FifthCardModel" ∧ yX19_denied.cls ≠ "java/lang/invoke/MethodHandle" ∧ yX19_denied.cls ≠ "java/lang/invoke/VarHandle" ∧ (parseMethodDescriptor yX19_denied.desc).map (fun d => d.parameters.length) = some 1 := by decide +kernel
def rmX19_denied (mc ms : Nat) : Room := { frames := 1, cells := mc, slots := ms, locals := 21 }
set_option maxHeartbeats 4000000 in
theorem mX19_denied (l : Launch) (G : GT) (u : Hp) (a0 : Nat) (x1 : Int32) (K : Int32 → Hp → Prop) (h : pX19_denied u a0 x1 K) : Met l yX19_denied (ws_ yX19_denied cX19_denied 2 (some .boolean)) (rmX19_denied 0 0) (va_Pc [.ref a0, .int x1] (GB G u)) (va_Qi K (fun u t => GH G u t.heap) (GA G)) 0 0 (GA G) := by
  refine Met.ofW (cc := cX19_denied) (maxL := 2) (ret := (some .boolean)) (by decide) rfl ?_
  intro p e s m args below meth c s₁ B hml hv
  obtain ⟨rfl, hv⟩ := hv
  have X := Mc_of (own := RX19) B hml rfl hv
  have hw : GW G u s s.heap [] := ⟨hv.2.1, va_S.rf⟩
  have hr := B.returns
  obtain ⟨hx, hb, hml, hown, hts, -⟩ := id X
  have hl := lv_entry ([.ref a0, .int x1]) (n := 2) (Nat.le_of_ble_eq_true rfl)
  rw [lg_entry_eq]
  generalize (lg_sl ([.ref a0, .int x1]) ++ List.replicate (2 - (lg_sl ([.ref a0, .int x1])).length) Slot.unset).toArray = ls at hl ⊢
  have hl : lv_has ls 2 [(0, .ref a0), (1, .int x1)] := hl
  change W p l e (rmX19_denied 0 0) s m _ below meth c s.heap [] 0 0 (QI G below K _ s 0 0) (F0 m 0 ls [])
  unfold pX19_denied at h
  refine lv_aload_n hx hb dX19_denied_0 rfl (lv_at hl 0 rfl) ?_
  refine lv_iload_n hx hb dX19_denied_1 rfl (lv_at hl 1 rfl) ?_
  have hk_1 : kd u a0 = 16 := h.1
  have h := h.2
  refine g_calli hw (g_V X hw (mX19_refused l G _ _ _ _ h) 1 (lw_V q1603 q1605 qs47 q143 q1606) rfl rfl ydX19_refused ⟨Nat.le_of_ble_eq_true rfl, Nat.le_of_ble_eq_true rfl⟩ (g_recv X hw (ci := 15) (q := (RX19, TX19, 46)) hk_1 rfl) (As := [.int x1]) (rest := []) rfl hl.1 rfl (Nat.le_of_ble_eq_true rfl) dX19_denied_2 ⟨Nat.le_refl _, Nat.le_refl _⟩) (fun r_2 u_3 H locs h hw => ?_)
  refine lv_pop hx hb dX19_denied_5 rfl ?_
  refine lv_iconst (v := 0) hx hb dX19_denied_6 (by decide) ?_
  exact g_zret X hw hr rfl h (Nat.le_refl _) (Nat.le_refl _) dX19_denied_7

/-! FifthCardModel.granted()Z -/
theorem ydX19_granted : yX19_granted.cls = "FifthCardModel" ∧ yX19_granted.cls ≠ "java/lang/invoke/MethodHandle" ∧ yX19_granted.cls ≠ "java/lang/invoke/VarHandle" ∧ (parseMethodDescriptor yX19_granted.desc).map (fun d => d.parameters.length) = some 0 := by decide +kernel
def rmX19_granted (mc ms : Nat) : Room := { frames := 1, cells := mc, slots := ms, locals := 21 }
set_option maxHeartbeats 4000000 in
theorem mX19_granted (l : Launch) (G : GT) (u : Hp) (a0 : Nat) (K : Int32 → Hp → Prop) (h : pX19_granted u a0 K) : Met l yX19_granted (ws_ yX19_granted cX19_granted 1 (some .boolean)) (rmX19_granted 0 0) (va_Pc [.ref a0] (GB G u)) (va_Qi K (fun u t => GH G u t.heap) (GA G)) 0 0 (GA G) := by
  refine Met.ofW (cc := cX19_granted) (maxL := 1) (ret := (some .boolean)) (by decide) rfl ?_
  intro p e s m args below meth c s₁ B hml hv
  obtain ⟨rfl, hv⟩ := hv
  have X := Mc_of (own := RX19) B hml rfl hv
  have hw : GW G u s s.heap [] := ⟨hv.2.1, va_S.rf⟩
  have hr := B.returns
  obtain ⟨hx, hb, hml, hown, hts, -⟩ := id X
  have hl := lv_entry ([.ref a0]) (n := 1) (Nat.le_of_ble_eq_true rfl)
  rw [lg_entry_eq]
  generalize (lg_sl ([.ref a0]) ++ List.replicate (1 - (lg_sl ([.ref a0])).length) Slot.unset).toArray = ls at hl ⊢
  have hl : lv_has ls 1 [(0, .ref a0)] := hl
  change W p l e (rmX19_granted 0 0) s m _ below meth c s.heap [] 0 0 (QI G below K _ s 0 0) (F0 m 0 ls [])
  unfold pX19_granted at h
  refine lv_aload_n hx hb dX19_granted_0 rfl (lv_at hl 0 rfl) ?_
  refine lv_iconst (v := 0) hx hb dX19_granted_1 (by decide) ?_
  have hk_1 : kd u a0 = 16 := h.1
  have h := h.2
  refine g_calli hw (g_V X hw (mX19_good l G _ _ _ _ h) 1 (lw_V q1867 q1869 qs77 q143 q1870) rfl rfl ydX19_good ⟨Nat.le_of_ble_eq_true rfl, Nat.le_of_ble_eq_true rfl⟩ (g_recv X hw (ci := 15) (q := (RX19, TX19, 46)) hk_1 rfl) (As := [.int 0]) (rest := []) rfl hl.1 rfl (Nat.le_of_ble_eq_true rfl) dX19_granted_2 ⟨Nat.le_refl _, Nat.le_refl _⟩) (fun r_2 u_3 H locs h hw => ?_)
  refine lv_pop hx hb dX19_granted_5 rfl ?_
  refine lv_iconst (v := 1) hx hb dX19_granted_6 (by decide) ?_
  exact g_zret X hw hr rfl h (Nat.le_refl _) (Nat.le_refl _) dX19_granted_7

/-! FifthCardModel.seed(I)Z -/
theorem ydX19_seed : yX19_seed.cls = "FifthCardModel" ∧ yX19_seed.cls ≠ "java/lang/invoke/MethodHandle" ∧ yX19_seed.cls ≠ "java/lang/invoke/VarHandle" ∧ (parseMethodDescriptor yX19_seed.desc).map (fun d => d.parameters.length) = some 1 := by decide +kernel
def rmX19_seed (mc ms : Nat) : Room := { frames := 2, cells := mc, slots := ms, locals := 42 }
set_option maxHeartbeats 4000000 in
theorem mX19_seed (l : Launch) (G : GT) (u : Hp) (a0 : Nat) (x1 : Int32) (K : Int32 → Hp → Prop) (h : pX19_seed u a0 x1 K) : Met l yX19_seed (ws_ yX19_seed cX19_seed 2 (some .boolean)) (rmX19_seed 0 0) (va_Pc [.ref a0, .int x1] (GB G u)) (va_Qi K (fun u t => GH G u t.heap) (GA G)) 0 0 (GA G) := by
  refine Met.ofW (cc := cX19_seed) (maxL := 2) (ret := (some .boolean)) (by decide) rfl ?_
  intro p e s m args below meth c s₁ B hml hv
  obtain ⟨rfl, hv⟩ := hv
  have X := Mc_of (own := RX19) B hml rfl hv
  have hw : GW G u s s.heap [] := ⟨hv.2.1, va_S.rf⟩
  have hr := B.returns
  obtain ⟨hx, hb, hml, hown, hts, -⟩ := id X
  have hl := lv_entry ([.ref a0, .int x1]) (n := 2) (Nat.le_of_ble_eq_true rfl)
  rw [lg_entry_eq]
  generalize (lg_sl ([.ref a0, .int x1]) ++ List.replicate (2 - (lg_sl ([.ref a0, .int x1])).length) Slot.unset).toArray = ls at hl ⊢
  have hl : lv_has ls 2 [(0, .ref a0), (1, .int x1)] := hl
  change W p l e (rmX19_seed 0 0) s m _ below meth c s.heap [] 0 0 (QI G below K _ s 0 0) (F0 m 0 ls [])
  unfold pX19_seed at h
  refine lv_aload_n hx hb dX19_seed_0 rfl (lv_at hl 0 rfl) ?_
  refine lv_iconst (v := 0) hx hb dX19_seed_1 (by decide) ?_
  have hk_1 : kd u a0 = 16 := h.1
  have h := h.2
  refine g_putI (v := 0) X hw in_X19 tyX19_ok nmX19 hk_1 rfl 0 rfl (by decide) q1451 (fun _ z => z) rfl rfl rfl dX19_seed_2 (fun H locs hw => ?_)
  refine lv_aload_n hx hb dX19_seed_5 rfl (lv_at hl 0 rfl) ?_
  refine g_getO X hw in_X19 hk_1 rfl 3 rfl (by decide) q1454 (fun _ z => z) dX19_seed_6 ?_
  refine g_ifnonnull X (tgt := 18) dX19_seed_9 rfl (fun b_2 e_3 => ?_) (fun e_3 => ?_)
  · have h := h.2 b_2 e_3
    refine lv_iload_n hx hb dX19_seed_18 rfl (lv_at hl 1 rfl) ?_
    refine lv_iconst (v := 0) hx hb dX19_seed_19 (by decide) ?_
    refine lv_ldcw hx hb hown (hts _ q2184) dX19_seed_20 ?_
    refine g_callio hw (g_S X hw (mX19_in l G _ _ _ _ _ h) 3 (lw_S q1749 q1750 q143 q1751) rfl rfl ydX19_in ⟨Nat.le_of_ble_eq_true rfl, Nat.le_of_ble_eq_true rfl⟩ (As := [.int x1, .int 0, .int 65536]) (rest := []) rfl hl.1 rfl (Nat.le_of_ble_eq_true rfl) dX19_seed_23 ⟨Nat.le_refl _, Nat.le_refl _⟩) (fun r_6 H locs h hw => ?_)
    refine lv_if_ne (tgt := 35) hx hb dX19_seed_26 rfl (fun c_11 => ?_) (fun c_11 => ?_)
    · have h := h.2 c_11
      refine lv_aload_n hx hb dX19_seed_35 rfl (lv_at hl 0 rfl) ?_
      refine lv_iload_n hx hb dX19_seed_36 rfl (lv_at hl 1 rfl) ?_
      refine g_putI (v := x1) X hw in_X19 tyX19_ok nmX19 hk_1 rfl 45 rfl (by decide) q1496 (fun _ z => z) rfl rfl rfl dX19_seed_37 (fun H locs hw => ?_)
      refine lv_aload_n hx hb dX19_seed_40 rfl (lv_at hl 0 rfl) ?_
      refine g_calli hw (g_V X hw (mX19_granted l G _ _ _ h) 0 (lw_V q2185 q2187 qs120 q143 q2188) rfl rfl ydX19_granted ⟨Nat.le_of_ble_eq_true rfl, Nat.le_of_ble_eq_true rfl⟩ (g_recv X hw (ci := 15) (q := (RX19, TX19, 46)) hk_1 rfl) (As := []) (rest := []) rfl hl.1 rfl (Nat.le_of_ble_eq_true rfl) dX19_seed_41 ⟨Nat.le_refl _, Nat.le_refl _⟩) (fun r_7 u_8 H locs h hw => ?_)
      exact g_zret X hw hr h.1 h.2 (Nat.le_refl _) (Nat.le_refl _) dX19_seed_44
    · have h := h.1 c_11
      refine lv_aload_n hx hb dX19_seed_29 rfl (lv_at hl 0 rfl) ?_
      refine lv_iconst (v := 2) hx hb dX19_seed_30 (by decide) ?_
      refine g_calli hw (g_V X hw (mX19_denied l G _ _ _ _ h) 1 (lw_V q2180 q2182 qs119 q143 q2183) rfl rfl ydX19_denied ⟨Nat.le_of_ble_eq_true rfl, Nat.le_of_ble_eq_true rfl⟩ (g_recv X hw (ci := 15) (q := (RX19, TX19, 46)) hk_1 rfl) (As := [.int 2]) (rest := []) rfl hl.1 rfl (Nat.le_of_ble_eq_true rfl) dX19_seed_31 ⟨Nat.le_refl _, Nat.le_refl _⟩) (fun r_9 u_10 H locs h hw => ?_)
      exact g_zret X hw hr h.1 h.2 (Nat.le_refl _) (Nat.le_refl _) dX19_seed_34
  · have h := h.1 e_3
    refine lv_aload_n hx hb dX19_seed_12 rfl (lv_at hl 0 rfl) ?_
    refine lv_iconst (v := 1) hx hb dX19_seed_13 (by decide) ?_
    refine g_calli hw (g_V X hw (mX19_denied l G _ _ _ _ h) 1 (lw_V q2180 q2182 qs119 q143 q2183) rfl rfl ydX19_denied ⟨Nat.le_of_ble_eq_true rfl, Nat.le_of_ble_eq_true rfl⟩ (g_recv X hw (ci := 15) (q := (RX19, TX19, 46)) hk_1 rfl) (As := [.int 1]) (rest := []) rfl hl.1 rfl (Nat.le_of_ble_eq_true rfl) dX19_seed_14 ⟨Nat.le_refl _, Nat.le_refl _⟩) (fun r_4 u_5 H locs h hw => ?_)
    exact g_zret X hw hr h.1 h.2 (Nat.le_refl _) (Nat.le_refl _) dX19_seed_17

/-! FifthCard.draw()I -/
theorem ydX1_draw : yX1_draw.cls = "FifthCard" ∧ yX1_draw.cls ≠ "java/lang/invoke/MethodHandle" ∧ yX1_draw.cls ≠ "java/lang/invoke/VarHandle" ∧ (parseMethodDescriptor yX1_draw.desc).map (fun d => d.parameters.length) = some 0 := by decide +kernel
def rmX1_draw (mc ms : Nat) : Room := { frames := 1, cells := mc, slots := ms, locals := 21 }
set_option maxHeartbeats 4000000 in
theorem mX1_draw (l : Launch) (G : GT) (u : Hp) (a0 : Nat) (K : Int32 → Hp → Prop) (h : pX1_draw u a0 K) : Met l yX1_draw (ws_ yX1_draw cX1_draw 1 (some .int)) (rmX1_draw 0 0) (va_Pc [.ref a0] (GB G u)) (va_Qi K (fun u t => GH G u t.heap) (GA G)) 0 0 (GA G) := by
  refine Met.ofW (cc := cX1_draw) (maxL := 1) (ret := (some .int)) (by decide) rfl ?_
  intro p e s m args below meth c s₁ B hml hv
  obtain ⟨rfl, hv⟩ := hv
  have X := Mc_of (own := RX1) B hml rfl hv
  have hw : GW G u s s.heap [] := ⟨hv.2.1, va_S.rf⟩
  have hr := B.returns
  obtain ⟨hx, hb, hml, hown, hts, -⟩ := id X
  have hl := lv_entry ([.ref a0]) (n := 1) (Nat.le_of_ble_eq_true rfl)
  rw [lg_entry_eq]
  generalize (lg_sl ([.ref a0]) ++ List.replicate (1 - (lg_sl ([.ref a0])).length) Slot.unset).toArray = ls at hl ⊢
  have hl : lv_has ls 1 [(0, .ref a0)] := hl
  change W p l e (rmX1_draw 0 0) s m _ below meth c s.heap [] 0 0 (QI G below K _ s 0 0) (F0 m 0 ls [])
  unfold pX1_draw at h
  refine lv_aload_n hx hb dX1_draw_0 rfl (lv_at hl 0 rfl) ?_
  have hk_1 : kd u a0 = 1 := h.1
  have h := h.2
  refine g_callv hw (g_V X hw (mX1_anew l G _ _ _ h) 0 (lw_V q535 q537 qs2 q122 q538) rfl rfl ydX1_anew ⟨Nat.le_of_ble_eq_true rfl, Nat.le_of_ble_eq_true rfl⟩ (g_recv X hw (ci := 0) (q := (RX1, TX1, 16)) hk_1 rfl) (As := []) (rest := []) rfl hl.1 rfl (Nat.le_of_ble_eq_true rfl) dX1_draw_1 ⟨Nat.le_refl _, Nat.le_refl _⟩) (fun u_2 H locs h hw => ?_)
  refine lv_aload_n hx hb dX1_draw_4 rfl (lv_at hl 0 rfl) ?_
  have hk_3 : kd u_2 a0 = 1 := h.1
  have h := h.2
  refine g_getO X hw in_X1 hk_3 rfl 3 rfl (by decide) q476 (fun _ z => z) dX1_draw_5 ?_
  refine g_ifnonnull X (tgt := 17) dX1_draw_8 rfl (fun b_4 e_5 => ?_) (fun e_5 => ?_)
  · have h := h.2 b_4 e_5
    refine lv_aload_n hx hb dX1_draw_17 rfl (lv_at hl 0 rfl) ?_
    obtain ⟨b_8, e_9, h⟩ := h
    refine g_getR X hw in_X1 hk_3 rfl 11 rfl (by decide) q484 (fun _ z => z) e_9 dX1_draw_18 ?_
    refine lv_bipush (v := 75) hx hb dX1_draw_21 (by decide) ?_
    refine lv_aload_n hx hb dX1_draw_23 rfl (lv_at hl 0 rfl) ?_
    refine g_getR X hw in_X1 hk_3 rfl 11 rfl (by decide) q484 (fun _ z => z) e_9 dX1_draw_24 ?_
    have hk_10 : kd u_2 b_8 = 5 := h.1
    have h := h.2
    refine g_getI X hw in_X5 hk_10 rfl 3 rfl (by decide) q347 (fun _ z => z) dX1_draw_27 ?_
    refine lv_imul hx hb dX1_draw_30 ?_
    refine lv_bipush (v := 74) hx hb dX1_draw_31 (by decide) ?_
    refine lv_iadd hx hb dX1_draw_33 ?_
    refine lv_ldcw hx hb hown (hts _ q1371) dX1_draw_34 ?_
    refine lv_irem hx hb dX1_draw_37 (by decide) ?_
    refine g_putI (v := jrem ((75 * (FI u_2 503 b_8)) + 74) 65537) X hw in_X5 tyX5_ok nmX5 hk_10 rfl 3 rfl (by decide) q347 (fun _ z => z) rfl rfl rfl dX1_draw_38 (fun H locs hw => ?_)
    refine lv_aload_n hx hb dX1_draw_41 rfl (lv_at hl 0 rfl) ?_
    refine g_getR X hw in_X1 hk_3 rfl 11 rfl (by decide) q484 (fun _ z => z) e_9 dX1_draw_42 ?_
    refine g_getI X hw in_X5 hk_10 rfl 3 rfl (by decide) q347 (fun _ z => z) dX1_draw_45 ?_
    refine lv_aload_n hx hb dX1_draw_48 rfl (lv_at hl 0 rfl) ?_
    refine g_getI X hw in_X1 hk_3 rfl 8 rfl (by decide) q481 (fun _ z => z) dX1_draw_49 ?_
    refine lv_irem hx hb dX1_draw_52 h.1 ?_
    have h := h.2
    exact g_iret X hw hr h (Nat.le_refl _) (Nat.le_refl _) dX1_draw_53
  · have h := h.1 e_5
    refine lv_aload_n hx hb dX1_draw_11 rfl (lv_at hl 0 rfl) ?_
    refine lv_iconst (v := 1) hx hb dX1_draw_12 (by decide) ?_
    refine g_calli hw (g_V X hw (mX1_no l G _ _ _ _ h) 1 (lw_V q542 q544 qs3 q122 q545) rfl rfl ydX1_no ⟨Nat.le_of_ble_eq_true rfl, Nat.le_of_ble_eq_true rfl⟩ (g_recv X hw (ci := 0) (q := (RX1, TX1, 16)) hk_3 rfl) (As := [.int 1]) (rest := []) rfl hl.1 rfl (Nat.le_of_ble_eq_true rfl) dX1_draw_13 ⟨Nat.le_refl _, Nat.le_refl _⟩) (fun r_6 u_7 H locs h hw => ?_)
    exact g_iret X hw hr h (Nat.le_refl _) (Nat.le_refl _) dX1_draw_16

/-! FifthCardModel.draw()I -/
theorem ydX19_draw : yX19_draw.cls = "FifthCardModel" ∧ yX19_draw.cls ≠ "java/lang/invoke/MethodHandle" ∧ yX19_draw.cls ≠ "java/lang/invoke/VarHandle" ∧ (parseMethodDescriptor yX19_draw.desc).map (fun d => d.parameters.length) = some 0 := by decide +kernel
def rmX19_draw (mc ms : Nat) : Room := { frames := 1, cells := mc, slots := ms, locals := 21 }
set_option maxHeartbeats 4000000 in
theorem mX19_draw (l : Launch) (G : GT) (u : Hp) (a0 : Nat) (K : Int32 → Hp → Prop) (h : pX19_draw u a0 K) : Met l yX19_draw (ws_ yX19_draw cX19_draw 1 (some .int)) (rmX19_draw 0 0) (va_Pc [.ref a0] (GB G u)) (va_Qi K (fun u t => GH G u t.heap) (GA G)) 0 0 (GA G) := by
  refine Met.ofW (cc := cX19_draw) (maxL := 1) (ret := (some .int)) (by decide) rfl ?_
  intro p e s m args below meth c s₁ B hml hv
  obtain ⟨rfl, hv⟩ := hv
  have X := Mc_of (own := RX19) B hml rfl hv
  have hw : GW G u s s.heap [] := ⟨hv.2.1, va_S.rf⟩
  have hr := B.returns
  obtain ⟨hx, hb, hml, hown, hts, -⟩ := id X
  have hl := lv_entry ([.ref a0]) (n := 1) (Nat.le_of_ble_eq_true rfl)
  rw [lg_entry_eq]
  generalize (lg_sl ([.ref a0]) ++ List.replicate (1 - (lg_sl ([.ref a0])).length) Slot.unset).toArray = ls at hl ⊢
  have hl : lv_has ls 1 [(0, .ref a0)] := hl
  change W p l e (rmX19_draw 0 0) s m _ below meth c s.heap [] 0 0 (QI G below K _ s 0 0) (F0 m 0 ls [])
  unfold pX19_draw at h
  refine lv_aload_n hx hb dX19_draw_0 rfl (lv_at hl 0 rfl) ?_
  refine lv_iconst (v := 0) hx hb dX19_draw_1 (by decide) ?_
  have hk_1 : kd u a0 = 16 := h.1
  have h := h.2
  refine g_putI (v := 0) X hw in_X19 tyX19_ok nmX19 hk_1 rfl 0 rfl (by decide) q1451 (fun _ z => z) rfl rfl rfl dX19_draw_2 (fun H locs hw => ?_)
  refine lv_aload_n hx hb dX19_draw_5 rfl (lv_at hl 0 rfl) ?_
  refine g_getO X hw in_X19 hk_1 rfl 3 rfl (by decide) q1454 (fun _ z => z) dX19_draw_6 ?_
  refine g_ifnonnull X (tgt := 18) dX19_draw_9 rfl (fun b_2 e_3 => ?_) (fun e_3 => ?_)
  · have h := h.2 b_2 e_3
    refine lv_aload_n hx hb dX19_draw_18 rfl (lv_at hl 0 rfl) ?_
    refine lv_ldc2 hx hb hown (hts _ q2193) dX19_draw_19 ?_
    refine lv_aload_n hx hb dX19_draw_22 rfl (lv_at hl 0 rfl) ?_
    refine g_getI X hw in_X19 hk_1 rfl 45 rfl (by decide) q1496 (fun _ z => z) dX19_draw_23 ?_
    refine lv_i2l hx hb dX19_draw_26 rfl ?_
    refine lv_lmul hx hb dX19_draw_27 ?_
    refine lv_ldc2 hx hb hown (hts _ q2194) dX19_draw_28 ?_
    refine lv_ladd hx hb dX19_draw_31 ?_
    refine lv_ldc2 hx hb hown (hts _ q2195) dX19_draw_32 ?_
    refine lv_lrem hx hb dX19_draw_35 (by decide) ?_
    refine lv_l2i hx hb dX19_draw_36 rfl ?_
    refine g_putI (v := (jremL ((75 * ((FI (sFI u 1900 a0 0) 1945 a0).toInt64)) + 74) 65537).toInt32) X hw in_X19 tyX19_ok nmX19 hk_1 rfl 45 rfl (by decide) q1496 (fun _ z => z) rfl rfl rfl dX19_draw_37 (fun H locs hw => ?_)
    refine lv_aload_n hx hb dX19_draw_40 rfl (lv_at hl 0 rfl) ?_
    refine lv_aload_n hx hb dX19_draw_41 rfl (lv_at hl 0 rfl) ?_
    refine g_getI X hw in_X19 hk_1 rfl 45 rfl (by decide) q1496 (fun _ z => z) dX19_draw_42 ?_
    refine lv_aload_n hx hb dX19_draw_45 rfl (lv_at hl 0 rfl) ?_
    refine g_getI X hw in_X19 hk_1 rfl 17 rfl (by decide) q1468 (fun _ z => z) dX19_draw_46 ?_
    refine lv_irem hx hb dX19_draw_49 h.1 ?_
    have h := h.2
    refine g_calli hw (g_V X hw (mX19_good l G _ _ _ _ h) 1 (lw_V q1867 q1869 qs77 q143 q1870) rfl rfl ydX19_good ⟨Nat.le_of_ble_eq_true rfl, Nat.le_of_ble_eq_true rfl⟩ (g_recv X hw (ci := 15) (q := (RX19, TX19, 46)) hk_1 rfl) (As := [.int (jrem (FI (sFI (sFI u 1900 a0 0) 1945 a0 ((jremL ((75 * ((FI (sFI u 1900 a0 0) 1945 a0).toInt64)) + 74) 65537).toInt32)) 1945 a0) (FI (sFI (sFI u 1900 a0 0) 1945 a0 ((jremL ((75 * ((FI (sFI u 1900 a0 0) 1945 a0).toInt64)) + 74) 65537).toInt32)) 1917 a0))]) (rest := []) rfl hl.1 rfl (Nat.le_of_ble_eq_true rfl) dX19_draw_50 ⟨Nat.le_refl _, Nat.le_refl _⟩) (fun r_6 u_7 H locs h hw => ?_)
    exact g_iret X hw hr h (Nat.le_refl _) (Nat.le_refl _) dX19_draw_53
  · have h := h.1 e_3
    refine lv_aload_n hx hb dX19_draw_12 rfl (lv_at hl 0 rfl) ?_
    refine lv_iconst (v := 1) hx hb dX19_draw_13 (by decide) ?_
    refine g_calli hw (g_V X hw (mX19_refused l G _ _ _ _ h) 1 (lw_V q1603 q1605 qs47 q143 q1606) rfl rfl ydX19_refused ⟨Nat.le_of_ble_eq_true rfl, Nat.le_of_ble_eq_true rfl⟩ (g_recv X hw (ci := 15) (q := (RX19, TX19, 46)) hk_1 rfl) (As := [.int 1]) (rest := []) rfl hl.1 rfl (Nat.le_of_ble_eq_true rfl) dX19_draw_14 ⟨Nat.le_refl _, Nat.le_refl _⟩) (fun r_4 u_5 H locs h hw => ?_)
    exact g_iret X hw hr h (Nat.le_refl _) (Nat.le_refl _) dX19_draw_17

/-! FifthCard.strike()Z -/
theorem ydX1_strike : yX1_strike.cls = "FifthCard" ∧ yX1_strike.cls ≠ "java/lang/invoke/MethodHandle" ∧ yX1_strike.cls ≠ "java/lang/invoke/VarHandle" ∧ (parseMethodDescriptor yX1_strike.desc).map (fun d => d.parameters.length) = some 0 := by decide +kernel
def rmX1_strike (mc ms : Nat) : Room := { frames := 2, cells := mc, slots := ms, locals := 41 }
set_option maxHeartbeats 4000000 in
theorem wX1_strike_17 {G : GT} {p : Program} {l : Launch} {e : Env} {s : State} {m : MethodId} {args : Array Value} {below : List Frame} {meth : Method} {c : Code} {H : Heap} {locs : List Loc} {ls : Array Slot} {a0 : Nat} {z0 : Int32} {z1 : Nat} {u : Hp} {K : Int32 → Hp → Prop} (X : Mc G p s m args meth c RX1 cX1_strike 1) (hr : meth.sig.returnType = (some .boolean)) (h : bX1_strike_17 K a0 z0 z1 u) (hw : GW G u s H locs) (hl : lv_has ls 1 [(0, .ref a0)]) : W p l e (rmX1_strike 0 0) s m args below meth c H locs 0 0 (QI G below K args s 0 0) (F0 m 17 ls [.int z0, .ref z1]) := by
  obtain ⟨hx, hb, hml, hown, hts, -⟩ := id X
  unfold bX1_strike_17 at h
  have hk_1 : kd u z1 = 1 := h.1
  have h := h.2
  refine g_calli hw (g_V X hw (mX1_yes l G _ _ _ _ h) 1 (lw_V q1363 q1365 qs46 q122 q1366) rfl rfl ydX1_yes ⟨Nat.le_of_ble_eq_true rfl, Nat.le_of_ble_eq_true rfl⟩ (g_recv X hw (ci := 0) (q := (RX1, TX1, 16)) hk_1 rfl) (As := [.int z0]) (rest := []) rfl hl.1 rfl (Nat.le_of_ble_eq_true rfl) dX1_strike_17 ⟨Nat.le_refl _, Nat.le_refl _⟩) (fun r_2 u_3 H locs h hw => ?_)
  refine lv_if_ne (tgt := 25) hx hb dX1_strike_20 rfl (fun c_8 => ?_) (fun c_8 => ?_)
  · have h := h.2 c_8
    refine lv_aload_n hx hb dX1_strike_25 rfl (lv_at hl 0 rfl) ?_
    have hk_4 : kd u_3 a0 = 1 := h.1
    have h := h.2
    obtain ⟨b_5, e_6, h⟩ := h
    refine g_getR X hw in_X1 hk_4 rfl 11 rfl (by decide) q484 (fun _ z => z) e_6 dX1_strike_26 ?_
    refine lv_dup hx hb dX1_strike_29 rfl ?_
    have hk_7 : kd u_3 b_5 = 5 := h.1
    have h := h.2
    refine g_getI X hw in_X5 hk_7 rfl 2 rfl (by decide) q345 (fun _ z => z) dX1_strike_30 ?_
    refine lv_iconst (v := 1) hx hb dX1_strike_33 (by decide) ?_
    refine lv_isub hx hb dX1_strike_34 ?_
    refine g_putI (v := (FI u_3 502 b_5) - 1) X hw in_X5 tyX5_ok nmX5 hk_7 rfl 2 rfl (by decide) q345 (fun _ z => z) rfl rfl rfl dX1_strike_35 (fun H locs hw => ?_)
    refine lv_iconst (v := 1) hx hb dX1_strike_38 (by decide) ?_
    exact g_zret X hw hr rfl h (Nat.le_refl _) (Nat.le_refl _) dX1_strike_39
  · have h := h.1 c_8
    refine lv_iconst (v := 0) hx hb dX1_strike_23 (by decide) ?_
    exact g_zret X hw hr rfl h (Nat.le_refl _) (Nat.le_refl _) dX1_strike_24
set_option maxHeartbeats 4000000 in
theorem mX1_strike (l : Launch) (G : GT) (u : Hp) (a0 : Nat) (K : Int32 → Hp → Prop) (h : pX1_strike u a0 K) : Met l yX1_strike (ws_ yX1_strike cX1_strike 1 (some .boolean)) (rmX1_strike 0 0) (va_Pc [.ref a0] (GB G u)) (va_Qi K (fun u t => GH G u t.heap) (GA G)) 0 0 (GA G) := by
  refine Met.ofW (cc := cX1_strike) (maxL := 1) (ret := (some .boolean)) (by decide) rfl ?_
  intro p e s m args below meth c s₁ B hml hv
  obtain ⟨rfl, hv⟩ := hv
  have X := Mc_of (own := RX1) B hml rfl hv
  have hw : GW G u s s.heap [] := ⟨hv.2.1, va_S.rf⟩
  have hr := B.returns
  obtain ⟨hx, hb, hml, hown, hts, -⟩ := id X
  have hl := lv_entry ([.ref a0]) (n := 1) (Nat.le_of_ble_eq_true rfl)
  rw [lg_entry_eq]
  generalize (lg_sl ([.ref a0]) ++ List.replicate (1 - (lg_sl ([.ref a0])).length) Slot.unset).toArray = ls at hl ⊢
  have hl : lv_has ls 1 [(0, .ref a0)] := hl
  change W p l e (rmX1_strike 0 0) s m _ below meth c s.heap [] 0 0 (QI G below K _ s 0 0) (F0 m 0 ls [])
  unfold pX1_strike at h
  refine lv_aload_n hx hb dX1_strike_0 rfl (lv_at hl 0 rfl) ?_
  refine lv_aload_n hx hb dX1_strike_1 rfl (lv_at hl 0 rfl) ?_
  have hk_9 : kd u a0 = 1 := h.1
  have h := h.2
  obtain ⟨b_10, e_11, h⟩ := h
  refine g_getR X hw in_X1 hk_9 rfl 11 rfl (by decide) q484 (fun _ z => z) e_11 dX1_strike_2 ?_
  have hk_12 : kd u b_10 = 5 := h.1
  have h := h.2
  refine g_getI X hw in_X5 hk_12 rfl 2 rfl (by decide) q345 (fun _ z => z) dX1_strike_5 ?_
  refine lv_if_ne (tgt := 16) hx hb dX1_strike_8 rfl (fun c_13 => ?_) (fun c_13 => ?_)
  · have h := h.2 c_13
    refine lv_iconst (v := 0) hx hb dX1_strike_16 (by decide) ?_
    exact wX1_strike_17 X hr  h hw (lv_sub hl [0] rfl)
  · have h := h.1 c_13
    refine lv_bipush (v := 6) hx hb dX1_strike_11 (by decide) ?_
    refine lv_goto (tgt := 17) hx hb dX1_strike_13 rfl ?_
    exact wX1_strike_17 X hr  h hw (lv_sub hl [0] rfl)

/-! FifthCardModel.strike()Z -/
theorem ydX19_strike : yX19_strike.cls = "FifthCardModel" ∧ yX19_strike.cls ≠ "java/lang/invoke/MethodHandle" ∧ yX19_strike.cls ≠ "java/lang/invoke/VarHandle" ∧ (parseMethodDescriptor yX19_strike.desc).map (fun d => d.parameters.length) = some 0 := by decide +kernel
def rmX19_strike (mc ms : Nat) : Room := { frames := 2, cells := mc, slots := ms, locals := 42 }
set_option maxHeartbeats 4000000 in
theorem mX19_strike (l : Launch) (G : GT) (u : Hp) (a0 : Nat) (K : Int32 → Hp → Prop) (h : pX19_strike u a0 K) : Met l yX19_strike (ws_ yX19_strike cX19_strike 1 (some .boolean)) (rmX19_strike 0 0) (va_Pc [.ref a0] (GB G u)) (va_Qi K (fun u t => GH G u t.heap) (GA G)) 0 0 (GA G) := by
  refine Met.ofW (cc := cX19_strike) (maxL := 1) (ret := (some .boolean)) (by decide) rfl ?_
  intro p e s m args below meth c s₁ B hml hv
  obtain ⟨rfl, hv⟩ := hv
  have X := Mc_of (own := RX19) B hml rfl hv
  have hw : GW G u s s.heap [] := ⟨hv.2.1, va_S.rf⟩
  have hr := B.returns
  obtain ⟨hx, hb, hml, hown, hts, -⟩ := id X
  have hl := lv_entry ([.ref a0]) (n := 1) (Nat.le_of_ble_eq_true rfl)
  rw [lg_entry_eq]
  generalize (lg_sl ([.ref a0]) ++ List.replicate (1 - (lg_sl ([.ref a0])).length) Slot.unset).toArray = ls at hl ⊢
  have hl : lv_has ls 1 [(0, .ref a0)] := hl
  change W p l e (rmX19_strike 0 0) s m _ below meth c s.heap [] 0 0 (QI G below K _ s 0 0) (F0 m 0 ls [])
  unfold pX19_strike at h
  refine lv_aload_n hx hb dX19_strike_0 rfl (lv_at hl 0 rfl) ?_
  refine lv_iconst (v := 0) hx hb dX19_strike_1 (by decide) ?_
  have hk_1 : kd u a0 = 16 := h.1
  have h := h.2
  refine g_putI (v := 0) X hw in_X19 tyX19_ok nmX19 hk_1 rfl 0 rfl (by decide) q1451 (fun _ z => z) rfl rfl rfl dX19_strike_2 (fun H locs hw => ?_)
  refine lv_aload_n hx hb dX19_strike_5 rfl (lv_at hl 0 rfl) ?_
  refine g_getO X hw in_X19 hk_1 rfl 3 rfl (by decide) q1454 (fun _ z => z) dX19_strike_6 ?_
  refine g_ifnull X dX19_strike_9 rfl (fun e_3 => ?_) (fun b_2 e_3 => ?_)
  · have h := h.1 e_3
    refine lv_aload_n hx hb dX19_strike_19 rfl (lv_at hl 0 rfl) ?_
    refine lv_bipush (v := 6) hx hb dX19_strike_20 (by decide) ?_
    refine g_calli hw (g_V X hw (mX19_denied l G _ _ _ _ h) 1 (lw_V q2180 q2182 qs119 q143 q2183) rfl rfl ydX19_denied ⟨Nat.le_of_ble_eq_true rfl, Nat.le_of_ble_eq_true rfl⟩ (g_recv X hw (ci := 15) (q := (RX19, TX19, 46)) hk_1 rfl) (As := [.int 6]) (rest := []) rfl hl.1 rfl (Nat.le_of_ble_eq_true rfl) dX19_strike_22 ⟨Nat.le_refl _, Nat.le_refl _⟩) (fun r_4 u_5 H locs h hw => ?_)
    exact g_zret X hw hr h.1 h.2 (Nat.le_refl _) (Nat.le_refl _) dX19_strike_25
  · have h := h.2 b_2 e_3
    refine lv_aload_n hx hb dX19_strike_12 rfl (lv_at hl 0 rfl) ?_
    refine g_getI X hw in_X19 hk_1 rfl 43 rfl (by decide) q1494 (fun _ z => z) dX19_strike_13 ?_
    refine lv_if_ne (tgt := 26) hx hb dX19_strike_16 rfl (fun c_10 => ?_) (fun c_10 => ?_)
    · have h := h.2 c_10
      refine lv_aload_n hx hb dX19_strike_26 rfl (lv_at hl 0 rfl) ?_
      refine lv_dup hx hb dX19_strike_27 rfl ?_
      refine g_getI X hw in_X19 hk_1 rfl 43 rfl (by decide) q1494 (fun _ z => z) dX19_strike_28 ?_
      refine lv_iconst (v := 1) hx hb dX19_strike_31 (by decide) ?_
      refine lv_isub hx hb dX19_strike_32 ?_
      refine g_putI (v := (FI (sFI u 1900 a0 0) 1943 a0) - 1) X hw in_X19 tyX19_ok nmX19 hk_1 rfl 43 rfl (by decide) q1494 (fun _ z => z) rfl rfl rfl dX19_strike_33 (fun H locs hw => ?_)
      refine lv_aload_n hx hb dX19_strike_36 rfl (lv_at hl 0 rfl) ?_
      refine g_calli hw (g_V X hw (mX19_granted l G _ _ _ h) 0 (lw_V q2185 q2187 qs120 q143 q2188) rfl rfl ydX19_granted ⟨Nat.le_of_ble_eq_true rfl, Nat.le_of_ble_eq_true rfl⟩ (g_recv X hw (ci := 15) (q := (RX19, TX19, 46)) hk_1 rfl) (As := []) (rest := []) rfl hl.1 rfl (Nat.le_of_ble_eq_true rfl) dX19_strike_37 ⟨Nat.le_refl _, Nat.le_refl _⟩) (fun r_6 u_7 H locs h hw => ?_)
      exact g_zret X hw hr h.1 h.2 (Nat.le_refl _) (Nat.le_refl _) dX19_strike_40
    · have h := h.1 c_10
      refine lv_aload_n hx hb dX19_strike_19 rfl (lv_at hl 0 rfl) ?_
      refine lv_bipush (v := 6) hx hb dX19_strike_20 (by decide) ?_
      refine g_calli hw (g_V X hw (mX19_denied l G _ _ _ _ h) 1 (lw_V q2180 q2182 qs119 q143 q2183) rfl rfl ydX19_denied ⟨Nat.le_of_ble_eq_true rfl, Nat.le_of_ble_eq_true rfl⟩ (g_recv X hw (ci := 15) (q := (RX19, TX19, 46)) hk_1 rfl) (As := [.int 6]) (rest := []) rfl hl.1 rfl (Nat.le_of_ble_eq_true rfl) dX19_strike_22 ⟨Nat.le_refl _, Nat.le_refl _⟩) (fun r_8 u_9 H locs h hw => ?_)
      exact g_zret X hw hr h.1 h.2 (Nat.le_refl _) (Nat.le_refl _) dX19_strike_25

/-! FifthCard$Log.become(LFifthCard$Log;)V -/
theorem ydX5_become : yX5_become.cls = "FifthCard$Log" ∧ yX5_become.cls ≠ "java/lang/invoke/MethodHandle" ∧ yX5_become.cls ≠ "java/lang/invoke/VarHandle" ∧ (parseMethodDescriptor yX5_become.desc).map (fun d => d.parameters.length) = some 1 := by decide +kernel
def rmX5_become (mc ms : Nat) : Room := { frames := 1, cells := mc, slots := ms, locals := 40 }
set_option maxHeartbeats 4000000 in
theorem mX5_become (l : Launch) (G : GT) (u : Hp) (a0 : Nat) (a1 : Nat) (K : Hp → Prop) (h : pX5_become u a0 a1 K) : Met l yX5_become (ws_ yX5_become cX5_become 2 none) (rmX5_become 0 0) (va_Pc [.ref a0, .ref a1] (GB G u)) (va_Qv K (fun u t => GH G u t.heap) (GA G)) 0 0 (GA G) := by
  refine Met.ofW (cc := cX5_become) (maxL := 2) (ret := none) (by decide) rfl ?_
  intro p e s m args below meth c s₁ B hml hv
  obtain ⟨rfl, hv⟩ := hv
  have X := Mc_of (own := RX5) B hml rfl hv
  have hw : GW G u s s.heap [] := ⟨hv.2.1, va_S.rf⟩
  have hr := B.returns
  obtain ⟨hx, hb, hml, hown, hts, -⟩ := id X
  have hl := lv_entry ([.ref a0, .ref a1]) (n := 2) (Nat.le_of_ble_eq_true rfl)
  rw [lg_entry_eq]
  generalize (lg_sl ([.ref a0, .ref a1]) ++ List.replicate (2 - (lg_sl ([.ref a0, .ref a1])).length) Slot.unset).toArray = ls at hl ⊢
  have hl : lv_has ls 2 [(0, .ref a0), (1, .ref a1)] := hl
  change W p l e (rmX5_become 0 0) s m _ below meth c s.heap [] 0 0 (QV G below K _ s 0 0) (F0 m 0 ls [])
  unfold pX5_become at h
  refine lv_aload_n hx hb dX5_become_0 rfl (lv_at hl 0 rfl) ?_
  refine lv_aload_n hx hb dX5_become_1 rfl (lv_at hl 1 rfl) ?_
  have hk_1 : kd u a1 = 5 := h.1
  have h := h.2
  refine g_getI X hw in_X5 hk_1 rfl 2 rfl (by decide) q344 (fun _ z => z) dX5_become_2 ?_
  have hk_2 : kd u a0 = 5 := h.1
  have h := h.2
  refine g_putI (v := FI u 502 a1) X hw in_X5 tyX5_ok nmX5 hk_2 rfl 2 rfl (by decide) q344 (fun _ z => z) rfl rfl rfl dX5_become_5 (fun H locs hw => ?_)
  refine lv_aload_n hx hb dX5_become_8 rfl (lv_at hl 0 rfl) ?_
  refine lv_aload_n hx hb dX5_become_9 rfl (lv_at hl 1 rfl) ?_
  refine g_getI X hw in_X5 hk_1 rfl 3 rfl (by decide) q346 (fun _ z => z) dX5_become_10 ?_
  refine g_putI (v := FI (sFI u 502 a0 (FI u 502 a1)) 503 a1) X hw in_X5 tyX5_ok nmX5 hk_2 rfl 3 rfl (by decide) q346 (fun _ z => z) rfl rfl rfl dX5_become_13 (fun H locs hw => ?_)
  refine lv_aload_n hx hb dX5_become_16 rfl (lv_at hl 1 rfl) ?_
  obtain ⟨b_3, e_4, h⟩ := h
  refine g_getR X hw in_X5 hk_1 rfl 0 rfl (by decide) q340 (fun _ z => z) e_4 dX5_become_17 ?_
  refine lv_iconst (v := 0) hx hb dX5_become_20 (by decide) ?_
  refine lv_aload_n hx hb dX5_become_21 rfl (lv_at hl 0 rfl) ?_
  obtain ⟨b_5, e_6, h⟩ := h
  refine g_getR X hw in_X5 hk_2 rfl 0 rfl (by decide) q340 (fun _ z => z) e_6 dX5_become_22 ?_
  refine lv_iconst (v := 0) hx hb dX5_become_25 (by decide) ?_
  refine lv_bipush (v := 20) hx hb dX5_become_26 (by decide) ?_
  have hk_7 : kd u b_3 = 101 := h.1
  have h := h.2
  have hk_8 : kd u b_5 = 101 := h.1
  have h := h.2
  have hc_9 := h.1
  have h := h.2
  refine g_copyi X hl.1 hw q1384 q1386 q1385 q154 hk_7 hk_8 hc_9 (Nat.le_of_ble_eq_true rfl) (Nat.le_of_ble_eq_true rfl) dX5_become_28 (fun H locs hw => ?_)
  refine lv_aload_n hx hb dX5_become_31 rfl (lv_at hl 1 rfl) ?_
  obtain ⟨b_10, e_11, h⟩ := h
  refine g_getR X hw in_X5 hk_1 rfl 1 rfl (by decide) q342 (fun _ z => z) e_11 dX5_become_32 ?_
  refine lv_iconst (v := 0) hx hb dX5_become_35 (by decide) ?_
  refine lv_aload_n hx hb dX5_become_36 rfl (lv_at hl 0 rfl) ?_
  obtain ⟨b_12, e_13, h⟩ := h
  refine g_getR X hw in_X5 hk_2 rfl 1 rfl (by decide) q342 (fun _ z => z) e_13 dX5_become_37 ?_
  refine lv_iconst (v := 0) hx hb dX5_become_40 (by decide) ?_
  refine lv_bipush (v := 20) hx hb dX5_become_41 (by decide) ?_
  obtain ⟨u_14, e_15⟩ : ∃ v : Hp, v = (sAI (sFI (sFI u 502 a0 (FI u 502 a1)) 503 a0 (FI (sFI u 502 a0 (FI u 502 a1)) 503 a1)) b_5 (va_cpy (AI u b_3) (AI u b_5) (tn 0) (tn 0) (tn 20))) := ⟨_, rfl⟩
  have h := h u_14 e_15
  have hw : GW G u_14 s H locs := by rw [e_15]; exact hw
  have hk_16 : kd u_14 a1 = 5 := by rw [e_15]; exact hk_1
  have hk_17 : kd u_14 a0 = 5 := by rw [e_15]; exact hk_2
  have hk_18 : kd u_14 b_3 = 101 := by rw [e_15]; exact hk_7
  have hk_19 : kd u_14 b_5 = 101 := by rw [e_15]; exact hk_8
  have hk_20 : kd u_14 b_10 = 101 := h.1
  have h := h.2
  have hk_21 : kd u_14 b_12 = 101 := h.1
  have h := h.2
  have hc_22 := h.1
  have h := h.2
  refine g_copyi X hl.1 hw q1384 q1386 q1385 q154 hk_20 hk_21 hc_22 (Nat.le_of_ble_eq_true rfl) (Nat.le_of_ble_eq_true rfl) dX5_become_43 (fun H locs hw => ?_)
  exact g_vret X hw hr h (Nat.le_refl _) (Nat.le_refl _) dX5_become_46

/-! FifthCard.image()I -/
theorem ydX1_image : yX1_image.cls = "FifthCard" ∧ yX1_image.cls ≠ "java/lang/invoke/MethodHandle" ∧ yX1_image.cls ≠ "java/lang/invoke/VarHandle" ∧ (parseMethodDescriptor yX1_image.desc).map (fun d => d.parameters.length) = some 0 := by decide +kernel
def rmX1_image (mc ms : Nat) : Room := { frames := 2, cells := mc, slots := ms, locals := 61 }
set_option maxHeartbeats 4000000 in
theorem mX1_image (l : Launch) (G : GT) (u : Hp) (a0 : Nat) (K : Int32 → Hp → Prop) (h : pX1_image u a0 K) : Met l yX1_image (ws_ yX1_image cX1_image 1 (some .int)) (rmX1_image 0 0) (va_Pc [.ref a0] (GB G u)) (va_Qi K (fun u t => GH G u t.heap) (GA G)) 0 0 (GA G) := by
  refine Met.ofW (cc := cX1_image) (maxL := 1) (ret := (some .int)) (by decide) rfl ?_
  intro p e s m args below meth c s₁ B hml hv
  obtain ⟨rfl, hv⟩ := hv
  have X := Mc_of (own := RX1) B hml rfl hv
  have hw : GW G u s s.heap [] := ⟨hv.2.1, va_S.rf⟩
  have hr := B.returns
  obtain ⟨hx, hb, hml, hown, hts, -⟩ := id X
  have hl := lv_entry ([.ref a0]) (n := 1) (Nat.le_of_ble_eq_true rfl)
  rw [lg_entry_eq]
  generalize (lg_sl ([.ref a0]) ++ List.replicate (1 - (lg_sl ([.ref a0])).length) Slot.unset).toArray = ls at hl ⊢
  have hl : lv_has ls 1 [(0, .ref a0)] := hl
  change W p l e (rmX1_image 0 0) s m _ below meth c s.heap [] 0 0 (QI G below K _ s 0 0) (F0 m 0 ls [])
  unfold pX1_image at h
  refine lv_aload_n hx hb dX1_image_0 rfl (lv_at hl 0 rfl) ?_
  have hk_1 : kd u a0 = 1 := h.1
  have h := h.2
  refine g_callv hw (g_V X hw (mX1_anew l G _ _ _ h) 0 (lw_V q535 q537 qs2 q122 q538) rfl rfl ydX1_anew ⟨Nat.le_of_ble_eq_true rfl, Nat.le_of_ble_eq_true rfl⟩ (g_recv X hw (ci := 0) (q := (RX1, TX1, 16)) hk_1 rfl) (As := []) (rest := []) rfl hl.1 rfl (Nat.le_of_ble_eq_true rfl) dX1_image_1 ⟨Nat.le_refl _, Nat.le_refl _⟩) (fun u_2 H locs h hw => ?_)
  refine lv_aload_n hx hb dX1_image_4 rfl (lv_at hl 0 rfl) ?_
  have hk_3 : kd u_2 a0 = 1 := h.1
  have h := h.2
  refine g_getO X hw in_X1 hk_3 rfl 3 rfl (by decide) q476 (fun _ z => z) dX1_image_5 ?_
  refine g_ifnonnull X (tgt := 17) dX1_image_8 rfl (fun b_4 e_5 => ?_) (fun e_5 => ?_)
  · have h := h.2 b_4 e_5
    refine lv_aload_n hx hb dX1_image_17 rfl (lv_at hl 0 rfl) ?_
    refine g_getI X hw in_X1 hk_3 rfl 7 rfl (by decide) q480 (fun _ z => z) dX1_image_18 ?_
    refine lv_iconst (v := 3) hx hb dX1_image_21 (by decide) ?_
    refine lv_icmp_ne (tgt := 31) hx hb dX1_image_22 rfl (fun c_21 => ?_) (fun c_21 => ?_)
    · have h := h.2 c_21
      refine lv_aload_n hx hb dX1_image_31 rfl (lv_at hl 0 rfl) ?_
      obtain ⟨b_8, e_9, h⟩ := h
      refine g_getR X hw in_X1 hk_3 rfl 12 rfl (by decide) q485 (fun _ z => z) e_9 dX1_image_32 ?_
      refine lv_aload_n hx hb dX1_image_35 rfl (lv_at hl 0 rfl) ?_
      refine g_getI X hw in_X1 hk_3 rfl 7 rfl (by decide) q480 (fun _ z => z) dX1_image_36 ?_
      have hk_10 : kd u_2 b_8 = 106 ∨ kd u_2 b_8 = 107 := h.1
      have h := h.2
      obtain ⟨hi_13, b_11, e_12, h⟩ := h
      refine g_aald X hw hk_10 hi_13 e_12 dX1_image_39 ?_
      refine lv_aload_n hx hb dX1_image_40 rfl (lv_at hl 0 rfl) ?_
      obtain ⟨b_14, e_15, h⟩ := h
      refine g_getR X hw in_X1 hk_3 rfl 11 rfl (by decide) q484 (fun _ z => z) e_15 dX1_image_41 ?_
      have hk_16 : kd u_2 b_11 = 5 := h.1
      have h := h.2
      refine g_callv hw (g_V X hw (mX5_become l G _ _ _ _ h) 1 (lw_V q1380 q1381 q1382 q129 q1383) rfl rfl ydX5_become ⟨Nat.le_of_ble_eq_true rfl, Nat.le_of_ble_eq_true rfl⟩ (g_recv X hw (ci := 4) (q := (RX5, TX5, 4)) hk_16 rfl) (As := [.ref b_14]) (rest := []) rfl hl.1 rfl (Nat.le_of_ble_eq_true rfl) dX1_image_44 ⟨Nat.le_refl _, Nat.le_refl _⟩) (fun u_17 H locs h hw => ?_)
      refine lv_aload_n hx hb dX1_image_47 rfl (lv_at hl 0 rfl) ?_
      refine lv_dup hx hb dX1_image_48 rfl ?_
      have hk_18 : kd u_17 a0 = 1 := h.1
      have h := h.2
      refine g_getI X hw in_X1 hk_18 rfl 7 rfl (by decide) q480 (fun _ z => z) dX1_image_49 ?_
      refine lv_iconst (v := 1) hx hb dX1_image_52 (by decide) ?_
      refine lv_iadd hx hb dX1_image_53 ?_
      refine g_putI (v := (FI u_17 107 a0) + 1) X hw in_X1 tyX1_ok nmX1 hk_18 rfl 7 rfl (by decide) q480 (fun _ z => z) rfl rfl rfl dX1_image_54 (fun H locs hw => ?_)
      refine lv_aload_n hx hb dX1_image_57 rfl (lv_at hl 0 rfl) ?_
      refine g_getI X hw in_X1 hk_18 rfl 7 rfl (by decide) q480 (fun _ z => z) dX1_image_58 ?_
      refine lv_iconst (v := 1) hx hb dX1_image_61 (by decide) ?_
      refine lv_isub hx hb dX1_image_62 ?_
      exact g_iret X hw hr h (Nat.le_refl _) (Nat.le_refl _) dX1_image_63
    · have h := h.1 c_21
      refine lv_aload_n hx hb dX1_image_25 rfl (lv_at hl 0 rfl) ?_
      refine lv_iconst (v := 3) hx hb dX1_image_26 (by decide) ?_
      refine g_calli hw (g_V X hw (mX1_no l G _ _ _ _ h) 1 (lw_V q542 q544 qs3 q122 q545) rfl rfl ydX1_no ⟨Nat.le_of_ble_eq_true rfl, Nat.le_of_ble_eq_true rfl⟩ (g_recv X hw (ci := 0) (q := (RX1, TX1, 16)) hk_3 rfl) (As := [.int 3]) (rest := []) rfl hl.1 rfl (Nat.le_of_ble_eq_true rfl) dX1_image_27 ⟨Nat.le_refl _, Nat.le_refl _⟩) (fun r_19 u_20 H locs h hw => ?_)
      exact g_iret X hw hr h (Nat.le_refl _) (Nat.le_refl _) dX1_image_30
  · have h := h.1 e_5
    refine lv_aload_n hx hb dX1_image_11 rfl (lv_at hl 0 rfl) ?_
    refine lv_iconst (v := 1) hx hb dX1_image_12 (by decide) ?_
    refine g_calli hw (g_V X hw (mX1_no l G _ _ _ _ h) 1 (lw_V q542 q544 qs3 q122 q545) rfl rfl ydX1_no ⟨Nat.le_of_ble_eq_true rfl, Nat.le_of_ble_eq_true rfl⟩ (g_recv X hw (ci := 0) (q := (RX1, TX1, 16)) hk_3 rfl) (As := [.int 1]) (rest := []) rfl hl.1 rfl (Nat.le_of_ble_eq_true rfl) dX1_image_13 ⟨Nat.le_refl _, Nat.le_refl _⟩) (fun r_6 u_7 H locs h hw => ?_)
    exact g_iret X hw hr h (Nat.le_refl _) (Nat.le_refl _) dX1_image_16

/-! FifthCardModel.image()I -/
theorem ydX19_image : yX19_image.cls = "FifthCardModel" ∧ yX19_image.cls ≠ "java/lang/invoke/MethodHandle" ∧ yX19_image.cls ≠ "java/lang/invoke/VarHandle" ∧ (parseMethodDescriptor yX19_image.desc).map (fun d => d.parameters.length) = some 0 := by decide +kernel
def rmX19_image (mc ms : Nat) : Room := { frames := 1, cells := mc, slots := ms, locals := 21 }
set_option maxHeartbeats 4000000 in
theorem wX19_image_34 {G : GT} {p : Program} {l : Launch} {e : Env} {s : State} {m : MethodId} {args : Array Value} {below : List Frame} {meth : Method} {c : Code} {H : Heap} {locs : List Loc} {ls : Array Slot} {a0 : Nat} {x1 : Int32} {u : Hp} {K : Int32 → Hp → Prop} (X : Mc G p s m args meth c RX19 cX19_image 2) (hr : meth.sig.returnType = (some .int)) (h : jl2 (bX19_image_34 K a0) x1 u) (hw : GW G u s H locs) (hl : lv_has ls 2 [(0, .ref a0), (1, .int x1)]) : W p l e (rmX19_image 0 0) s m args below meth c H locs 0 0 (QI G below K args s 0 0) (F0 m 34 ls []) := by
  obtain ⟨hx, hb, hml, hown, hts, -⟩ := id X
  obtain ⟨I, μ, h0, hs⟩ := h
  have key : ∀ (n : Nat) (x1 : Int32) (u : Hp) (H : Heap) (locs : List Loc) (ls : Array Slot) , μ x1 u < n → I x1 u → GW G u s H locs → lv_has ls 2 [(0, .ref a0), (1, .int x1)] → W p l e (rmX19_image 0 0) s m args below meth c H locs 0 0 (QI G below K args s 0 0) (F0 m 34 ls []) := by
    intro n
    induction n with
    | zero =>
      intro x1 u H locs ls hn
      exact absurd hn (Nat.not_lt_zero _)
    | succ n ih =>
      intro x1 u H locs ls hn hI hw hl
      have h := hs x1 u hI
      unfold bX19_image_34 at h
      have hJ34 : ∀ (x1' : Int32) (u' : Hp) (H : Heap) (locs : List Loc) (ls : Array Slot) , (I x1' u' ∧ μ x1' u' < μ x1 u) → GW G u' s H locs → lv_has ls 2 [(0, .ref a0), (1, .int x1')] → W p l e (rmX19_image 0 0) s m args below meth c H locs 0 0 (QI G below K args s 0 0) (F0 m 34 ls []) := fun x1' u' H locs ls h hw hl => ih x1' u' H locs ls (Nat.lt_of_lt_of_le h.2 (Nat.le_of_lt_succ hn)) h.1 hw hl
      refine lv_iload_n hx hb dX19_image_34 rfl (lv_at hl 1 rfl) ?_
      refine lv_aload_n hx hb dX19_image_35 rfl (lv_at hl 0 rfl) ?_
      have hk_1 : kd u a0 = 16 := h.1
      have h := h.2
      refine g_getI X hw in_X19 hk_1 rfl 43 rfl (by decide) q1494 (fun _ z => z) dX19_image_36 ?_
      refine lv_icmp_ge (tgt := 88) hx hb dX19_image_39 rfl (fun c_22 => ?_) (fun c_22 => ?_)
      · have h := h.1 c_22
        refine lv_aload_n hx hb dX19_image_88 rfl (lv_at hl 0 rfl) ?_
        obtain ⟨b_2, e_3, h⟩ := h
        refine g_getR X hw in_X19 hk_1 rfl 41 rfl (by decide) q1492 (fun _ z => z) e_3 dX19_image_89 ?_
        refine lv_aload_n hx hb dX19_image_92 rfl (lv_at hl 0 rfl) ?_
        refine g_getI X hw in_X19 hk_1 rfl 44 rfl (by decide) q1495 (fun _ z => z) dX19_image_93 ?_
        refine lv_aload_n hx hb dX19_image_96 rfl (lv_at hl 0 rfl) ?_
        refine g_getI X hw in_X19 hk_1 rfl 43 rfl (by decide) q1494 (fun _ z => z) dX19_image_97 ?_
        have hk_4 : kd u b_2 = 101 := h.1
        have h := h.2
        refine g_iast X hw hk_4 h.1 dX19_image_100 (fun H locs hw => ?_)
        have h := h.2
        refine lv_aload_n hx hb dX19_image_101 rfl (lv_at hl 0 rfl) ?_
        obtain ⟨b_5, e_6, h⟩ := h
        refine g_getR X hw in_X19 hk_1 rfl 42 rfl (by decide) q1493 (fun _ z => z) e_6 dX19_image_102 ?_
        refine lv_aload_n hx hb dX19_image_105 rfl (lv_at hl 0 rfl) ?_
        refine g_getI X hw in_X19 hk_1 rfl 44 rfl (by decide) q1495 (fun _ z => z) dX19_image_106 ?_
        refine lv_aload_n hx hb dX19_image_109 rfl (lv_at hl 0 rfl) ?_
        refine g_getI X hw in_X19 hk_1 rfl 45 rfl (by decide) q1496 (fun _ z => z) dX19_image_110 ?_
        have hk_7 : kd u b_5 = 101 := h.1
        have h := h.2
        refine g_iast X hw hk_7 h.1 dX19_image_113 (fun H locs hw => ?_)
        have h := h.2
        refine lv_aload_n hx hb dX19_image_114 rfl (lv_at hl 0 rfl) ?_
        refine lv_dup hx hb dX19_image_115 rfl ?_
        refine g_getI X hw in_X19 hk_1 rfl 44 rfl (by decide) q1495 (fun _ z => z) dX19_image_116 ?_
        refine lv_iconst (v := 1) hx hb dX19_image_119 (by decide) ?_
        refine lv_iadd hx hb dX19_image_120 ?_
        refine g_putI (v := (FI u 1944 a0) + 1) X hw in_X19 tyX19_ok nmX19 hk_1 rfl 44 rfl (by decide) q1495 (fun _ z => z) rfl rfl rfl dX19_image_121 (fun H locs hw => ?_)
        refine lv_aload_n hx hb dX19_image_124 rfl (lv_at hl 0 rfl) ?_
        refine lv_aload_n hx hb dX19_image_125 rfl (lv_at hl 0 rfl) ?_
        refine g_getI X hw in_X19 hk_1 rfl 44 rfl (by decide) q1495 (fun _ z => z) dX19_image_126 ?_
        refine lv_iconst (v := 1) hx hb dX19_image_129 (by decide) ?_
        refine lv_isub hx hb dX19_image_130 ?_
        refine g_calli hw (g_V X hw (mX19_good l G _ _ _ _ h) 1 (lw_V q1867 q1869 qs77 q143 q1870) rfl rfl ydX19_good ⟨Nat.le_of_ble_eq_true rfl, Nat.le_of_ble_eq_true rfl⟩ (g_recv X hw (ci := 15) (q := (RX19, TX19, 46)) hk_1 rfl) (As := [.int ((FI (sFI (sAI (sAI u b_2 (upd (AI u b_2) (tn (FI u 1944 a0)) (FI u 1943 a0))) b_5 (upd (AI (sAI u b_2 (upd (AI u b_2) (tn (FI u 1944 a0)) (FI u 1943 a0))) b_5) (tn (FI u 1944 a0)) (FI u 1945 a0))) 1944 a0 ((FI u 1944 a0) + 1)) 1944 a0) - 1)]) (rest := []) rfl hl.1 rfl (Nat.le_of_ble_eq_true rfl) dX19_image_131 ⟨Nat.le_refl _, Nat.le_refl _⟩) (fun r_8 u_9 H locs h hw => ?_)
        exact g_iret X hw hr h (Nat.le_refl _) (Nat.le_refl _) dX19_image_134
      · have h := h.2 c_22
        refine lv_aload_n hx hb dX19_image_42 rfl (lv_at hl 0 rfl) ?_
        obtain ⟨b_10, e_11, h⟩ := h
        refine g_getR X hw in_X19 hk_1 rfl 39 rfl (by decide) q1490 (fun _ z => z) e_11 dX19_image_43 ?_
        refine lv_bipush (v := 20) hx hb dX19_image_46 (by decide) ?_
        refine lv_aload_n hx hb dX19_image_48 rfl (lv_at hl 0 rfl) ?_
        refine g_getI X hw in_X19 hk_1 rfl 44 rfl (by decide) q1495 (fun _ z => z) dX19_image_49 ?_
        refine lv_imul hx hb dX19_image_52 ?_
        refine lv_iload_n hx hb dX19_image_53 rfl (lv_at hl 1 rfl) ?_
        refine lv_iadd hx hb dX19_image_54 ?_
        refine lv_aload_n hx hb dX19_image_55 rfl (lv_at hl 0 rfl) ?_
        obtain ⟨b_12, e_13, h⟩ := h
        refine g_getR X hw in_X19 hk_1 rfl 37 rfl (by decide) q1488 (fun _ z => z) e_13 dX19_image_56 ?_
        refine lv_iload_n hx hb dX19_image_59 rfl (lv_at hl 1 rfl) ?_
        have hk_14 : kd u b_12 = 101 := h.1
        have h := h.2
        refine g_iald X hw hk_14 h.1 dX19_image_60 ?_
        have h := h.2
        have hk_15 : kd u b_10 = 101 := h.1
        have h := h.2
        refine g_iast X hw hk_15 h.1 dX19_image_61 (fun H locs hw => ?_)
        have h := h.2
        refine lv_aload_n hx hb dX19_image_62 rfl (lv_at hl 0 rfl) ?_
        obtain ⟨b_16, e_17, h⟩ := h
        refine g_getR X hw in_X19 hk_1 rfl 40 rfl (by decide) q1491 (fun _ z => z) e_17 dX19_image_63 ?_
        refine lv_bipush (v := 20) hx hb dX19_image_66 (by decide) ?_
        refine lv_aload_n hx hb dX19_image_68 rfl (lv_at hl 0 rfl) ?_
        refine g_getI X hw in_X19 hk_1 rfl 44 rfl (by decide) q1495 (fun _ z => z) dX19_image_69 ?_
        refine lv_imul hx hb dX19_image_72 ?_
        refine lv_iload_n hx hb dX19_image_73 rfl (lv_at hl 1 rfl) ?_
        refine lv_iadd hx hb dX19_image_74 ?_
        refine lv_aload_n hx hb dX19_image_75 rfl (lv_at hl 0 rfl) ?_
        obtain ⟨b_18, e_19, h⟩ := h
        refine g_getR X hw in_X19 hk_1 rfl 38 rfl (by decide) q1489 (fun _ z => z) e_19 dX19_image_76 ?_
        refine lv_iload_n hx hb dX19_image_79 rfl (lv_at hl 1 rfl) ?_
        have hk_20 : kd u b_18 = 101 := h.1
        have h := h.2
        refine g_iald X hw hk_20 h.1 dX19_image_80 ?_
        have h := h.2
        have hk_21 : kd u b_16 = 101 := h.1
        have h := h.2
        refine g_iast X hw hk_21 h.1 dX19_image_81 (fun H locs hw => ?_)
        have h := h.2
        refine lv_iinc (v := x1 + 1) (lv' := [(1, .int (x1 + 1)), (0, .ref a0)]) hx hb dX19_image_82 hl (k := 1) rfl rfl (by decide) rfl (fun ls hl => ?_)
        refine lv_goto (tgt := 34) hx hb dX19_image_85 rfl ?_
        exact hJ34 _ _ _ _ _ h hw (lv_sub hl [1, 0] rfl)
  exact key _ _ _ _ _ _ (Nat.lt_succ_self _) h0 hw hl
set_option maxHeartbeats 4000000 in
theorem mX19_image (l : Launch) (G : GT) (u : Hp) (a0 : Nat) (K : Int32 → Hp → Prop) (h : pX19_image u a0 K) : Met l yX19_image (ws_ yX19_image cX19_image 2 (some .int)) (rmX19_image 0 0) (va_Pc [.ref a0] (GB G u)) (va_Qi K (fun u t => GH G u t.heap) (GA G)) 0 0 (GA G) := by
  refine Met.ofW (cc := cX19_image) (maxL := 2) (ret := (some .int)) (by decide) rfl ?_
  intro p e s m args below meth c s₁ B hml hv
  obtain ⟨rfl, hv⟩ := hv
  have X := Mc_of (own := RX19) B hml rfl hv
  have hw : GW G u s s.heap [] := ⟨hv.2.1, va_S.rf⟩
  have hr := B.returns
  obtain ⟨hx, hb, hml, hown, hts, -⟩ := id X
  have hl := lv_entry ([.ref a0]) (n := 2) (Nat.le_of_ble_eq_true rfl)
  rw [lg_entry_eq]
  generalize (lg_sl ([.ref a0]) ++ List.replicate (2 - (lg_sl ([.ref a0])).length) Slot.unset).toArray = ls at hl ⊢
  have hl : lv_has ls 2 [(0, .ref a0)] := hl
  change W p l e (rmX19_image 0 0) s m _ below meth c s.heap [] 0 0 (QI G below K _ s 0 0) (F0 m 0 ls [])
  unfold pX19_image at h
  refine lv_aload_n hx hb dX19_image_0 rfl (lv_at hl 0 rfl) ?_
  refine lv_iconst (v := 0) hx hb dX19_image_1 (by decide) ?_
  have hk_23 : kd u a0 = 16 := h.1
  have h := h.2
  refine g_putI (v := 0) X hw in_X19 tyX19_ok nmX19 hk_23 rfl 0 rfl (by decide) q1451 (fun _ z => z) rfl rfl rfl dX19_image_2 (fun H locs hw => ?_)
  refine lv_aload_n hx hb dX19_image_5 rfl (lv_at hl 0 rfl) ?_
  refine g_getO X hw in_X19 hk_23 rfl 3 rfl (by decide) q1454 (fun _ z => z) dX19_image_6 ?_
  refine g_ifnonnull X (tgt := 18) dX19_image_9 rfl (fun b_24 e_25 => ?_) (fun e_25 => ?_)
  · have h := h.2 b_24 e_25
    refine lv_aload_n hx hb dX19_image_18 rfl (lv_at hl 0 rfl) ?_
    refine g_getI X hw in_X19 hk_23 rfl 44 rfl (by decide) q1495 (fun _ z => z) dX19_image_19 ?_
    refine lv_iconst (v := 3) hx hb dX19_image_22 (by decide) ?_
    refine lv_icmp_ne (tgt := 32) hx hb dX19_image_23 rfl (fun c_30 => ?_) (fun c_30 => ?_)
    · have h := h.2 c_30
      refine lv_iconst (v := 0) hx hb dX19_image_32 (by decide) ?_
      refine lv_istore_n (lv' := [(1, .int 0), (0, .ref a0)]) hx hb dX19_image_33 rfl hl (by decide) rfl (fun ls hl => ?_)
      exact wX19_image_34 X hr  h hw (lv_sub hl [1, 0] rfl)
    · have h := h.1 c_30
      refine lv_aload_n hx hb dX19_image_26 rfl (lv_at hl 0 rfl) ?_
      refine lv_iconst (v := 3) hx hb dX19_image_27 (by decide) ?_
      refine g_calli hw (g_V X hw (mX19_refused l G _ _ _ _ h) 1 (lw_V q1603 q1605 qs47 q143 q1606) rfl rfl ydX19_refused ⟨Nat.le_of_ble_eq_true rfl, Nat.le_of_ble_eq_true rfl⟩ (g_recv X hw (ci := 15) (q := (RX19, TX19, 46)) hk_23 rfl) (As := [.int 3]) (rest := []) rfl hl.1 rfl (Nat.le_of_ble_eq_true rfl) dX19_image_28 ⟨Nat.le_refl _, Nat.le_refl _⟩) (fun r_28 u_29 H locs h hw => ?_)
      exact g_iret X hw hr h (Nat.le_refl _) (Nat.le_refl _) dX19_image_31
  · have h := h.1 e_25
    refine lv_aload_n hx hb dX19_image_12 rfl (lv_at hl 0 rfl) ?_
    refine lv_iconst (v := 1) hx hb dX19_image_13 (by decide) ?_
    refine g_calli hw (g_V X hw (mX19_refused l G _ _ _ _ h) 1 (lw_V q1603 q1605 qs47 q143 q1606) rfl rfl ydX19_refused ⟨Nat.le_of_ble_eq_true rfl, Nat.le_of_ble_eq_true rfl⟩ (g_recv X hw (ci := 15) (q := (RX19, TX19, 46)) hk_23 rfl) (As := [.int 1]) (rest := []) rfl hl.1 rfl (Nat.le_of_ble_eq_true rfl) dX19_image_14 ⟨Nat.le_refl _, Nat.le_refl _⟩) (fun r_26 u_27 H locs h hw => ?_)
    exact g_iret X hw hr h (Nat.le_refl _) (Nat.le_refl _) dX19_image_17

/-! FifthCard.back(I)Z -/
theorem ydX1_back : yX1_back.cls = "FifthCard" ∧ yX1_back.cls ≠ "java/lang/invoke/MethodHandle" ∧ yX1_back.cls ≠ "java/lang/invoke/VarHandle" ∧ (parseMethodDescriptor yX1_back.desc).map (fun d => d.parameters.length) = some 1 := by decide +kernel
def rmX1_back (mc ms : Nat) : Room := { frames := 2, cells := mc, slots := ms, locals := 61 }
set_option maxHeartbeats 4000000 in
theorem wX1_back_20 {G : GT} {p : Program} {l : Launch} {e : Env} {s : State} {m : MethodId} {args : Array Value} {below : List Frame} {meth : Method} {c : Code} {H : Heap} {locs : List Loc} {ls : Array Slot} {a0 : Nat} {x1 : Int32} {z0 : Int32} {z1 : Nat} {u : Hp} {K : Int32 → Hp → Prop} (X : Mc G p s m args meth c RX1 cX1_back 2) (hr : meth.sig.returnType = (some .boolean)) (h : bX1_back_20 K a0 x1 z0 z1 u) (hw : GW G u s H locs) (hl : lv_has ls 2 [(0, .ref a0), (1, .int x1)]) : W p l e (rmX1_back 0 0) s m args below meth c H locs 0 0 (QI G below K args s 0 0) (F0 m 20 ls [.int z0, .ref z1]) := by
  obtain ⟨hx, hb, hml, hown, hts, -⟩ := id X
  unfold bX1_back_20 at h
  have hk_1 : kd u z1 = 1 := h.1
  have h := h.2
  refine g_calli hw (g_V X hw (mX1_yes l G _ _ _ _ h) 1 (lw_V q1363 q1365 qs46 q122 q1366) rfl rfl ydX1_yes ⟨Nat.le_of_ble_eq_true rfl, Nat.le_of_ble_eq_true rfl⟩ (g_recv X hw (ci := 0) (q := (RX1, TX1, 16)) hk_1 rfl) (As := [.int z0]) (rest := []) rfl hl.1 rfl (Nat.le_of_ble_eq_true rfl) dX1_back_20 ⟨Nat.le_refl _, Nat.le_refl _⟩) (fun r_2 u_3 H locs h hw => ?_)
  refine lv_if_ne (tgt := 28) hx hb dX1_back_23 rfl (fun c_15 => ?_) (fun c_15 => ?_)
  · have h := h.2 c_15
    refine lv_aload_n hx hb dX1_back_28 rfl (lv_at hl 0 rfl) ?_
    have hk_4 : kd u_3 a0 = 1 := h.1
    have h := h.2
    obtain ⟨b_5, e_6, h⟩ := h
    refine g_getR X hw in_X1 hk_4 rfl 11 rfl (by decide) q484 (fun _ z => z) e_6 dX1_back_29 ?_
    refine lv_aload_n hx hb dX1_back_32 rfl (lv_at hl 0 rfl) ?_
    obtain ⟨b_7, e_8, h⟩ := h
    refine g_getR X hw in_X1 hk_4 rfl 12 rfl (by decide) q485 (fun _ z => z) e_8 dX1_back_33 ?_
    refine lv_iload_n hx hb dX1_back_36 rfl (lv_at hl 1 rfl) ?_
    have hk_9 : kd u_3 b_7 = 106 ∨ kd u_3 b_7 = 107 := h.1
    have h := h.2
    obtain ⟨hi_12, b_10, e_11, h⟩ := h
    refine g_aald X hw hk_9 hi_12 e_11 dX1_back_37 ?_
    have hk_13 : kd u_3 b_5 = 5 := h.1
    have h := h.2
    refine g_callv hw (g_V X hw (mX5_become l G _ _ _ _ h) 1 (lw_V q1380 q1381 q1382 q129 q1383) rfl rfl ydX5_become ⟨Nat.le_of_ble_eq_true rfl, Nat.le_of_ble_eq_true rfl⟩ (g_recv X hw (ci := 4) (q := (RX5, TX5, 4)) hk_13 rfl) (As := [.ref b_10]) (rest := []) rfl hl.1 rfl (Nat.le_of_ble_eq_true rfl) dX1_back_38 ⟨Nat.le_refl _, Nat.le_refl _⟩) (fun u_14 H locs h hw => ?_)
    refine lv_iconst (v := 1) hx hb dX1_back_41 (by decide) ?_
    exact g_zret X hw hr rfl h (Nat.le_refl _) (Nat.le_refl _) dX1_back_42
  · have h := h.1 c_15
    refine lv_iconst (v := 0) hx hb dX1_back_26 (by decide) ?_
    exact g_zret X hw hr rfl h (Nat.le_refl _) (Nat.le_refl _) dX1_back_27
set_option maxHeartbeats 4000000 in
theorem mX1_back (l : Launch) (G : GT) (u : Hp) (a0 : Nat) (x1 : Int32) (K : Int32 → Hp → Prop) (h : pX1_back u a0 x1 K) : Met l yX1_back (ws_ yX1_back cX1_back 2 (some .boolean)) (rmX1_back 0 0) (va_Pc [.ref a0, .int x1] (GB G u)) (va_Qi K (fun u t => GH G u t.heap) (GA G)) 0 0 (GA G) := by
  refine Met.ofW (cc := cX1_back) (maxL := 2) (ret := (some .boolean)) (by decide) rfl ?_
  intro p e s m args below meth c s₁ B hml hv
  obtain ⟨rfl, hv⟩ := hv
  have X := Mc_of (own := RX1) B hml rfl hv
  have hw : GW G u s s.heap [] := ⟨hv.2.1, va_S.rf⟩
  have hr := B.returns
  obtain ⟨hx, hb, hml, hown, hts, -⟩ := id X
  have hl := lv_entry ([.ref a0, .int x1]) (n := 2) (Nat.le_of_ble_eq_true rfl)
  rw [lg_entry_eq]
  generalize (lg_sl ([.ref a0, .int x1]) ++ List.replicate (2 - (lg_sl ([.ref a0, .int x1])).length) Slot.unset).toArray = ls at hl ⊢
  have hl : lv_has ls 2 [(0, .ref a0), (1, .int x1)] := hl
  change W p l e (rmX1_back 0 0) s m _ below meth c s.heap [] 0 0 (QI G below K _ s 0 0) (F0 m 0 ls [])
  unfold pX1_back at h
  refine lv_aload_n hx hb dX1_back_0 rfl (lv_at hl 0 rfl) ?_
  refine lv_iload_n hx hb dX1_back_1 rfl (lv_at hl 1 rfl) ?_
  refine lv_iconst (v := 0) hx hb dX1_back_2 (by decide) ?_
  refine lv_aload_n hx hb dX1_back_3 rfl (lv_at hl 0 rfl) ?_
  have hk_16 : kd u a0 = 1 := h.1
  have h := h.2
  refine g_getI X hw in_X1 hk_16 rfl 7 rfl (by decide) q480 (fun _ z => z) dX1_back_4 ?_
  refine lv_iconst (v := 1) hx hb dX1_back_7 (by decide) ?_
  refine lv_isub hx hb dX1_back_8 ?_
  refine g_callio hw (g_S X hw (mX1_in l G _ _ _ _ _ h) 3 (lw_S q539 q540 q122 q541) rfl rfl ydX1_in ⟨Nat.le_of_ble_eq_true rfl, Nat.le_of_ble_eq_true rfl⟩ (As := [.int x1, .int 0, .int ((FI u 107 a0) - 1)]) (rest := [.ref a0]) rfl hl.1 rfl (Nat.le_of_ble_eq_true rfl) dX1_back_9 ⟨Nat.le_refl _, Nat.le_refl _⟩) (fun r_17 H locs h hw => ?_)
  refine lv_if_eq (tgt := 19) hx hb dX1_back_12 rfl (fun c_18 => ?_) (fun c_18 => ?_)
  · have h := h.1 c_18
    refine lv_iconst (v := 1) hx hb dX1_back_19 (by decide) ?_
    exact wX1_back_20 X hr  h hw (lv_sub hl [0, 1] rfl)
  · have h := h.2 c_18
    refine lv_iconst (v := 0) hx hb dX1_back_15 (by decide) ?_
    refine lv_goto (tgt := 20) hx hb dX1_back_16 rfl ?_
    exact wX1_back_20 X hr  h hw (lv_sub hl [0, 1] rfl)

/-! FifthCardModel.back(I)Z -/
theorem ydX19_back : yX19_back.cls = "FifthCardModel" ∧ yX19_back.cls ≠ "java/lang/invoke/MethodHandle" ∧ yX19_back.cls ≠ "java/lang/invoke/VarHandle" ∧ (parseMethodDescriptor yX19_back.desc).map (fun d => d.parameters.length) = some 1 := by decide +kernel
def rmX19_back (mc ms : Nat) : Room := { frames := 2, cells := mc, slots := ms, locals := 42 }
set_option maxHeartbeats 4000000 in
theorem wX19_back_52 {G : GT} {p : Program} {l : Launch} {e : Env} {s : State} {m : MethodId} {args : Array Value} {below : List Frame} {meth : Method} {c : Code} {H : Heap} {locs : List Loc} {ls : Array Slot} {a0 : Nat} {x1 : Int32} {x2 : Int32} {u : Hp} {K : Int32 → Hp → Prop} (X : Mc G p s m args meth c RX19 cX19_back 3) (hr : meth.sig.returnType = (some .boolean)) (h : jl2 (bX19_back_52 K a0 x1) x2 u) (hw : GW G u s H locs) (hl : lv_has ls 3 [(0, .ref a0), (1, .int x1), (2, .int x2)]) : W p l e (rmX19_back 0 0) s m args below meth c H locs 0 0 (QI G below K args s 0 0) (F0 m 52 ls []) := by
  obtain ⟨hx, hb, hml, hown, hts, -⟩ := id X
  obtain ⟨I, μ, h0, hs⟩ := h
  have key : ∀ (n : Nat) (x2 : Int32) (u : Hp) (H : Heap) (locs : List Loc) (ls : Array Slot) , μ x2 u < n → I x2 u → GW G u s H locs → lv_has ls 3 [(0, .ref a0), (1, .int x1), (2, .int x2)] → W p l e (rmX19_back 0 0) s m args below meth c H locs 0 0 (QI G below K args s 0 0) (F0 m 52 ls []) := by
    intro n
    induction n with
    | zero =>
      intro x2 u H locs ls hn
      exact absurd hn (Nat.not_lt_zero _)
    | succ n ih =>
      intro x2 u H locs ls hn hI hw hl
      have h := hs x2 u hI
      unfold bX19_back_52 at h
      have hJ52 : ∀ (x2' : Int32) (u' : Hp) (H : Heap) (locs : List Loc) (ls : Array Slot) , (I x2' u' ∧ μ x2' u' < μ x2 u) → GW G u' s H locs → lv_has ls 3 [(0, .ref a0), (1, .int x1), (2, .int x2')] → W p l e (rmX19_back 0 0) s m args below meth c H locs 0 0 (QI G below K args s 0 0) (F0 m 52 ls []) := fun x2' u' H locs ls h hw hl => ih x2' u' H locs ls (Nat.lt_of_lt_of_le h.2 (Nat.le_of_lt_succ hn)) h.1 hw hl
      refine lv_iload_n hx hb dX19_back_52 rfl (lv_at hl 2 rfl) ?_
      refine lv_aload_n hx hb dX19_back_53 rfl (lv_at hl 0 rfl) ?_
      have hk_1 : kd u a0 = 16 := h.1
      have h := h.2
      refine g_getI X hw in_X19 hk_1 rfl 43 rfl (by decide) q1494 (fun _ z => z) dX19_back_54 ?_
      refine lv_icmp_ge (tgt := 100) hx hb dX19_back_57 rfl (fun c_16 => ?_) (fun c_16 => ?_)
      · have h := h.1 c_16
        refine lv_aload_n hx hb dX19_back_100 rfl (lv_at hl 0 rfl) ?_
        refine g_calli hw (g_V X hw (mX19_granted l G _ _ _ h) 0 (lw_V q2185 q2187 qs120 q143 q2188) rfl rfl ydX19_granted ⟨Nat.le_of_ble_eq_true rfl, Nat.le_of_ble_eq_true rfl⟩ (g_recv X hw (ci := 15) (q := (RX19, TX19, 46)) hk_1 rfl) (As := []) (rest := []) rfl hl.1 rfl (Nat.le_of_ble_eq_true rfl) dX19_back_101 ⟨Nat.le_refl _, Nat.le_refl _⟩) (fun r_2 u_3 H locs h hw => ?_)
        exact g_zret X hw hr h.1 h.2 (Nat.le_refl _) (Nat.le_refl _) dX19_back_104
      · have h := h.2 c_16
        refine lv_aload_n hx hb dX19_back_60 rfl (lv_at hl 0 rfl) ?_
        obtain ⟨b_4, e_5, h⟩ := h
        refine g_getR X hw in_X19 hk_1 rfl 37 rfl (by decide) q1488 (fun _ z => z) e_5 dX19_back_61 ?_
        refine lv_iload_n hx hb dX19_back_64 rfl (lv_at hl 2 rfl) ?_
        refine lv_aload_n hx hb dX19_back_65 rfl (lv_at hl 0 rfl) ?_
        obtain ⟨b_6, e_7, h⟩ := h
        refine g_getR X hw in_X19 hk_1 rfl 39 rfl (by decide) q1490 (fun _ z => z) e_7 dX19_back_66 ?_
        refine lv_bipush (v := 20) hx hb dX19_back_69 (by decide) ?_
        refine lv_iload_n hx hb dX19_back_71 rfl (lv_at hl 1 rfl) ?_
        refine lv_imul hx hb dX19_back_72 ?_
        refine lv_iload_n hx hb dX19_back_73 rfl (lv_at hl 2 rfl) ?_
        refine lv_iadd hx hb dX19_back_74 ?_
        have hk_8 : kd u b_6 = 101 := h.1
        have h := h.2
        refine g_iald X hw hk_8 h.1 dX19_back_75 ?_
        have h := h.2
        have hk_9 : kd u b_4 = 101 := h.1
        have h := h.2
        refine g_iast X hw hk_9 h.1 dX19_back_76 (fun H locs hw => ?_)
        have h := h.2
        refine lv_aload_n hx hb dX19_back_77 rfl (lv_at hl 0 rfl) ?_
        obtain ⟨b_10, e_11, h⟩ := h
        refine g_getR X hw in_X19 hk_1 rfl 38 rfl (by decide) q1489 (fun _ z => z) e_11 dX19_back_78 ?_
        refine lv_iload_n hx hb dX19_back_81 rfl (lv_at hl 2 rfl) ?_
        refine lv_aload_n hx hb dX19_back_82 rfl (lv_at hl 0 rfl) ?_
        obtain ⟨b_12, e_13, h⟩ := h
        refine g_getR X hw in_X19 hk_1 rfl 40 rfl (by decide) q1491 (fun _ z => z) e_13 dX19_back_83 ?_
        refine lv_bipush (v := 20) hx hb dX19_back_86 (by decide) ?_
        refine lv_iload_n hx hb dX19_back_88 rfl (lv_at hl 1 rfl) ?_
        refine lv_imul hx hb dX19_back_89 ?_
        refine lv_iload_n hx hb dX19_back_90 rfl (lv_at hl 2 rfl) ?_
        refine lv_iadd hx hb dX19_back_91 ?_
        have hk_14 : kd u b_12 = 101 := h.1
        have h := h.2
        refine g_iald X hw hk_14 h.1 dX19_back_92 ?_
        have h := h.2
        have hk_15 : kd u b_10 = 101 := h.1
        have h := h.2
        refine g_iast X hw hk_15 h.1 dX19_back_93 (fun H locs hw => ?_)
        have h := h.2
        refine lv_iinc (v := x2 + 1) (lv' := [(2, .int (x2 + 1)), (0, .ref a0), (1, .int x1)]) hx hb dX19_back_94 hl (k := 2) rfl rfl (by decide) rfl (fun ls hl => ?_)
        refine lv_goto (tgt := 52) hx hb dX19_back_97 rfl ?_
        exact hJ52 _ _ _ _ _ h hw (lv_sub hl [1, 2, 0] rfl)
  exact key _ _ _ _ _ _ (Nat.lt_succ_self _) h0 hw hl
set_option maxHeartbeats 4000000 in
theorem mX19_back (l : Launch) (G : GT) (u : Hp) (a0 : Nat) (x1 : Int32) (K : Int32 → Hp → Prop) (h : pX19_back u a0 x1 K) : Met l yX19_back (ws_ yX19_back cX19_back 3 (some .boolean)) (rmX19_back 0 0) (va_Pc [.ref a0, .int x1] (GB G u)) (va_Qi K (fun u t => GH G u t.heap) (GA G)) 0 0 (GA G) := by
  refine Met.ofW (cc := cX19_back) (maxL := 3) (ret := (some .boolean)) (by decide) rfl ?_
  intro p e s m args below meth c s₁ B hml hv
  obtain ⟨rfl, hv⟩ := hv
  have X := Mc_of (own := RX19) B hml rfl hv
  have hw : GW G u s s.heap [] := ⟨hv.2.1, va_S.rf⟩
  have hr := B.returns
  obtain ⟨hx, hb, hml, hown, hts, -⟩ := id X
  have hl := lv_entry ([.ref a0, .int x1]) (n := 3) (Nat.le_of_ble_eq_true rfl)
  rw [lg_entry_eq]
  generalize (lg_sl ([.ref a0, .int x1]) ++ List.replicate (3 - (lg_sl ([.ref a0, .int x1])).length) Slot.unset).toArray = ls at hl ⊢
  have hl : lv_has ls 3 [(0, .ref a0), (1, .int x1)] := hl
  change W p l e (rmX19_back 0 0) s m _ below meth c s.heap [] 0 0 (QI G below K _ s 0 0) (F0 m 0 ls [])
  unfold pX19_back at h
  refine lv_aload_n hx hb dX19_back_0 rfl (lv_at hl 0 rfl) ?_
  refine lv_iconst (v := 0) hx hb dX19_back_1 (by decide) ?_
  have hk_17 : kd u a0 = 16 := h.1
  have h := h.2
  refine g_putI (v := 0) X hw in_X19 tyX19_ok nmX19 hk_17 rfl 0 rfl (by decide) q1451 (fun _ z => z) rfl rfl rfl dX19_back_2 (fun H locs hw => ?_)
  refine lv_aload_n hx hb dX19_back_5 rfl (lv_at hl 0 rfl) ?_
  refine g_getO X hw in_X19 hk_17 rfl 3 rfl (by decide) q1454 (fun _ z => z) dX19_back_6 ?_
  refine g_ifnull X dX19_back_9 rfl (fun e_19 => ?_) (fun b_18 e_19 => ?_)
  · have h := h.1 e_19
    refine lv_aload_n hx hb dX19_back_24 rfl (lv_at hl 0 rfl) ?_
    refine lv_iconst (v := 1) hx hb dX19_back_25 (by decide) ?_
    refine g_calli hw (g_V X hw (mX19_denied l G _ _ _ _ h) 1 (lw_V q2180 q2182 qs119 q143 q2183) rfl rfl ydX19_denied ⟨Nat.le_of_ble_eq_true rfl, Nat.le_of_ble_eq_true rfl⟩ (g_recv X hw (ci := 15) (q := (RX19, TX19, 46)) hk_17 rfl) (As := [.int 1]) (rest := []) rfl hl.1 rfl (Nat.le_of_ble_eq_true rfl) dX19_back_26 ⟨Nat.le_refl _, Nat.le_refl _⟩) (fun r_20 u_21 H locs h hw => ?_)
    exact g_zret X hw hr h.1 h.2 (Nat.le_refl _) (Nat.le_refl _) dX19_back_29
  · have h := h.2 b_18 e_19
    refine lv_iload_n hx hb dX19_back_12 rfl (lv_at hl 1 rfl) ?_
    refine lv_if_lt (tgt := 24) hx hb dX19_back_13 rfl (fun c_33 => ?_) (fun c_33 => ?_)
    · have h := h.1 c_33
      refine lv_aload_n hx hb dX19_back_24 rfl (lv_at hl 0 rfl) ?_
      refine lv_iconst (v := 1) hx hb dX19_back_25 (by decide) ?_
      refine g_calli hw (g_V X hw (mX19_denied l G _ _ _ _ h) 1 (lw_V q2180 q2182 qs119 q143 q2183) rfl rfl ydX19_denied ⟨Nat.le_of_ble_eq_true rfl, Nat.le_of_ble_eq_true rfl⟩ (g_recv X hw (ci := 15) (q := (RX19, TX19, 46)) hk_17 rfl) (As := [.int 1]) (rest := []) rfl hl.1 rfl (Nat.le_of_ble_eq_true rfl) dX19_back_26 ⟨Nat.le_refl _, Nat.le_refl _⟩) (fun r_22 u_23 H locs h hw => ?_)
      exact g_zret X hw hr h.1 h.2 (Nat.le_refl _) (Nat.le_refl _) dX19_back_29
    · have h := h.2 c_33
      refine lv_iload_n hx hb dX19_back_16 rfl (lv_at hl 1 rfl) ?_
      refine lv_aload_n hx hb dX19_back_17 rfl (lv_at hl 0 rfl) ?_
      refine g_getI X hw in_X19 hk_17 rfl 44 rfl (by decide) q1495 (fun _ z => z) dX19_back_18 ?_
      refine lv_icmp_lt (tgt := 30) hx hb dX19_back_21 rfl (fun c_32 => ?_) (fun c_32 => ?_)
      · have h := h.1 c_32
        refine lv_aload_n hx hb dX19_back_30 rfl (lv_at hl 0 rfl) ?_
        refine lv_aload_n hx hb dX19_back_31 rfl (lv_at hl 0 rfl) ?_
        obtain ⟨b_24, e_25, h⟩ := h
        refine g_getR X hw in_X19 hk_17 rfl 41 rfl (by decide) q1492 (fun _ z => z) e_25 dX19_back_32 ?_
        refine lv_iload_n hx hb dX19_back_35 rfl (lv_at hl 1 rfl) ?_
        have hk_26 : kd u b_24 = 101 := h.1
        have h := h.2
        refine g_iald X hw hk_26 h.1 dX19_back_36 ?_
        have h := h.2
        refine g_putI (v := AI u b_24 (tn x1)) X hw in_X19 tyX19_ok nmX19 hk_17 rfl 43 rfl (by decide) q1494 (fun _ z => z) rfl rfl rfl dX19_back_37 (fun H locs hw => ?_)
        refine lv_aload_n hx hb dX19_back_40 rfl (lv_at hl 0 rfl) ?_
        refine lv_aload_n hx hb dX19_back_41 rfl (lv_at hl 0 rfl) ?_
        obtain ⟨b_27, e_28, h⟩ := h
        refine g_getR X hw in_X19 hk_17 rfl 42 rfl (by decide) q1493 (fun _ z => z) e_28 dX19_back_42 ?_
        refine lv_iload_n hx hb dX19_back_45 rfl (lv_at hl 1 rfl) ?_
        have hk_29 : kd u b_27 = 101 := h.1
        have h := h.2
        refine g_iald X hw hk_29 h.1 dX19_back_46 ?_
        have h := h.2
        refine g_putI (v := AI u b_27 (tn x1)) X hw in_X19 tyX19_ok nmX19 hk_17 rfl 45 rfl (by decide) q1496 (fun _ z => z) rfl rfl rfl dX19_back_47 (fun H locs hw => ?_)
        refine lv_iconst (v := 0) hx hb dX19_back_50 (by decide) ?_
        refine lv_istore_n (lv' := [(2, .int 0), (0, .ref a0), (1, .int x1)]) hx hb dX19_back_51 rfl hl (by decide) rfl (fun ls hl => ?_)
        exact wX19_back_52 X hr  h hw (lv_sub hl [1, 2, 0] rfl)
      · have h := h.2 c_32
        refine lv_aload_n hx hb dX19_back_24 rfl (lv_at hl 0 rfl) ?_
        refine lv_iconst (v := 1) hx hb dX19_back_25 (by decide) ?_
        refine g_calli hw (g_V X hw (mX19_denied l G _ _ _ _ h) 1 (lw_V q2180 q2182 qs119 q143 q2183) rfl rfl ydX19_denied ⟨Nat.le_of_ble_eq_true rfl, Nat.le_of_ble_eq_true rfl⟩ (g_recv X hw (ci := 15) (q := (RX19, TX19, 46)) hk_17 rfl) (As := [.int 1]) (rest := []) rfl hl.1 rfl (Nat.le_of_ble_eq_true rfl) dX19_back_26 ⟨Nat.le_refl _, Nat.le_refl _⟩) (fun r_30 u_31 H locs h hw => ?_)
        exact g_zret X hw hr h.1 h.2 (Nat.le_refl _) (Nat.le_refl _) dX19_back_29

/-! FifthCardModel.led(II)I -/
theorem ydX19_led : yX19_led.cls = "FifthCardModel" ∧ yX19_led.cls ≠ "java/lang/invoke/MethodHandle" ∧ yX19_led.cls ≠ "java/lang/invoke/VarHandle" ∧ (parseMethodDescriptor yX19_led.desc).map (fun d => d.parameters.length) = some 2 := by decide +kernel
def rmX19_led (mc ms : Nat) : Room := { frames := 7, cells := mc, slots := ms, locals := 169 }
set_option maxHeartbeats 4000000 in
theorem wX19_led_10 {G : GT} {p : Program} {l : Launch} {e : Env} {s : State} {m : MethodId} {args : Array Value} {below : List Frame} {meth : Method} {c : Code} {H : Heap} {locs : List Loc} {ls : Array Slot} {a0 : Nat} {x1 : Int32} {x2 : Int32} {x3 : Int32} {x4 : Int32} {u : Hp} {K : Int32 → Hp → Prop} (X : Mc G p s m args meth c RX19 cX19_led 5) (hr : meth.sig.returnType = (some .int)) (h : jl3 (bX19_led_10 K a0 x1 x2) x3 x4 u) (hw : GW G u s H locs) (hl : lv_has ls 5 [(0, .ref a0), (1, .int x1), (2, .int x2), (3, .int x3), (4, .int x4)]) : W p l e (rmX19_led 0 0) s m args below meth c H locs 0 0 (QI G below K args s 0 0) (F0 m 10 ls []) := by
  obtain ⟨hx, hb, hml, hown, hts, -⟩ := id X
  obtain ⟨I, μ, h0, hs⟩ := h
  have key : ∀ (n : Nat) (x3 : Int32) (x4 : Int32) (u : Hp) (H : Heap) (locs : List Loc) (ls : Array Slot) , μ x3 x4 u < n → I x3 x4 u → GW G u s H locs → lv_has ls 5 [(0, .ref a0), (1, .int x1), (2, .int x2), (3, .int x3), (4, .int x4)] → W p l e (rmX19_led 0 0) s m args below meth c H locs 0 0 (QI G below K args s 0 0) (F0 m 10 ls []) := by
    intro n
    induction n with
    | zero =>
      intro x3 x4 u H locs ls hn
      exact absurd hn (Nat.not_lt_zero _)
    | succ n ih =>
      intro x3 x4 u H locs ls hn hI hw hl
      have h := hs x3 x4 u hI
      unfold bX19_led_10 at h
      have hJ10 : ∀ (x3' : Int32) (x4' : Int32) (u' : Hp) (H : Heap) (locs : List Loc) (ls : Array Slot) , (I x3' x4' u' ∧ μ x3' x4' u' < μ x3 x4 u) → GW G u' s H locs → lv_has ls 5 [(0, .ref a0), (1, .int x1), (2, .int x2), (3, .int x3'), (4, .int x4')] → W p l e (rmX19_led 0 0) s m args below meth c H locs 0 0 (QI G below K args s 0 0) (F0 m 10 ls []) := fun x3' x4' u' H locs ls h hw hl => ih x3' x4' u' H locs ls (Nat.lt_of_lt_of_le h.2 (Nat.le_of_lt_succ hn)) h.1 hw hl
      refine lv_aload_n hx hb dX19_led_10 rfl (lv_at hl 0 rfl) ?_
      refine lv_iload_n hx hb dX19_led_11 rfl (lv_at hl 1 rfl) ?_
      have hk_1 : kd u a0 = 16 := h.1
      have h := h.2
      refine g_callio hw (g_V X hw (mX19_isRule l G _ _ _ _ h) 1 (lw_V q1940 q1942 qs84 q143 q1943) rfl rfl ydX19_isRule ⟨Nat.le_of_ble_eq_true rfl, Nat.le_of_ble_eq_true rfl⟩ (g_recv X hw (ci := 15) (q := (RX19, TX19, 46)) hk_1 rfl) (As := [.int x1]) (rest := []) rfl hl.1 rfl (Nat.le_of_ble_eq_true rfl) dX19_led_12 ⟨Nat.le_refl _, Nat.le_refl _⟩) (fun r_2 H locs h hw => ?_)
      refine lv_if_eq (tgt := 59) hx hb dX19_led_15 rfl (fun c_8 => ?_) (fun c_8 => ?_)
      · have h := h.1 c_8
        refine lv_aload_n hx hb dX19_led_59 rfl (lv_at hl 0 rfl) ?_
        refine lv_iconst (v := 1) hx hb dX19_led_60 (by decide) ?_
        refine g_putI (v := 1) X hw in_X19 tyX19_ok nmX19 hk_1 rfl 0 rfl (by decide) q1451 (fun _ z => z) rfl rfl rfl dX19_led_61 (fun H locs hw => ?_)
        refine lv_iconst (v := 0) hx hb dX19_led_64 (by decide) ?_
        exact g_iret X hw hr h (Nat.le_refl _) (Nat.le_refl _) dX19_led_65
      · have h := h.2 c_8
        refine lv_iload hx hb dX19_led_18 (lv_at hl 4 rfl) ?_
        refine lv_aload_n hx hb dX19_led_20 rfl (lv_at hl 0 rfl) ?_
        refine g_getI X hw in_X19 hk_1 rfl 17 rfl (by decide) q1468 (fun _ z => z) dX19_led_21 ?_
        refine lv_icmp_ge (tgt := 59) hx hb dX19_led_24 rfl (fun c_7 => ?_) (fun c_7 => ?_)
        · have h := h.1 c_7
          refine lv_aload_n hx hb dX19_led_59 rfl (lv_at hl 0 rfl) ?_
          refine lv_iconst (v := 1) hx hb dX19_led_60 (by decide) ?_
          refine g_putI (v := 1) X hw in_X19 tyX19_ok nmX19 hk_1 rfl 0 rfl (by decide) q1451 (fun _ z => z) rfl rfl rfl dX19_led_61 (fun H locs hw => ?_)
          refine lv_iconst (v := 0) hx hb dX19_led_64 (by decide) ?_
          exact g_iret X hw hr h (Nat.le_refl _) (Nat.le_refl _) dX19_led_65
        · have h := h.2 c_7
          refine lv_aload_n hx hb dX19_led_27 rfl (lv_at hl 0 rfl) ?_
          refine lv_iload_n hx hb dX19_led_28 rfl (lv_at hl 1 rfl) ?_
          refine lv_iload hx hb dX19_led_29 (lv_at hl 4 rfl) ?_
          refine g_calli hw (g_V X hw (mX19_laysNow l G _ _ _ _ _ h) 2 (lw_V q1944 q1946 qs85 q143 q1947) rfl rfl ydX19_laysNow ⟨Nat.le_of_ble_eq_true rfl, Nat.le_of_ble_eq_true rfl⟩ (g_recv X hw (ci := 15) (q := (RX19, TX19, 46)) hk_1 rfl) (As := [.int x1, .int x4]) (rest := []) rfl hl.1 rfl (Nat.le_of_ble_eq_true rfl) dX19_led_31 ⟨Nat.le_refl _, Nat.le_refl _⟩) (fun r_3 u_4 H locs h hw => ?_)
          refine lv_bipush (v := (-2)) hx hb dX19_led_34 (by decide) ?_
          refine lv_icmp_eq (tgt := 42) hx hb dX19_led_36 rfl (fun c_6 => ?_) (fun c_6 => ?_)
          · have h := h.1 c_6
            refine lv_iload_n hx hb dX19_led_42 rfl (lv_at hl 3 rfl) ?_
            refine lv_iload_n hx hb dX19_led_43 rfl (lv_at hl 2 rfl) ?_
            refine lv_icmp_ne (tgt := 50) hx hb dX19_led_44 rfl (fun c_5 => ?_) (fun c_5 => ?_)
            · have h := h.2 c_5
              refine lv_iinc (v := x3 + 1) (lv' := [(3, .int (x3 + 1)), (0, .ref a0), (1, .int x1), (2, .int x2), (4, .int x4)]) hx hb dX19_led_50 hl (k := 3) rfl rfl (by decide) rfl (fun ls hl => ?_)
              refine lv_iinc (v := x4 + 1) (lv' := [(4, .int (x4 + 1)), (3, .int (x3 + 1)), (0, .ref a0), (1, .int x1), (2, .int x2)]) hx hb dX19_led_53 hl (k := 4) rfl rfl (by decide) rfl (fun ls hl => ?_)
              refine lv_goto (tgt := 10) hx hb dX19_led_56 rfl ?_
              exact hJ10 _ _ _ _ _ _ h hw (lv_sub hl [2, 3, 4, 1, 0] rfl)
            · have h := h.1 c_5
              refine lv_iload hx hb dX19_led_47 (lv_at hl 4 rfl) ?_
              exact g_iret X hw hr h (Nat.le_refl _) (Nat.le_refl _) dX19_led_49
          · have h := h.2 c_6
            refine lv_goto (tgt := 53) hx hb dX19_led_39 rfl ?_
            refine lv_iinc (v := x4 + 1) (lv' := [(4, .int (x4 + 1)), (0, .ref a0), (1, .int x1), (2, .int x2), (3, .int x3)]) hx hb dX19_led_53 hl (k := 4) rfl rfl (by decide) rfl (fun ls hl => ?_)
            refine lv_goto (tgt := 10) hx hb dX19_led_56 rfl ?_
            exact hJ10 _ _ _ _ _ _ h hw (lv_sub hl [1, 2, 3, 4, 0] rfl)
  exact key _ _ _ _ _ _ _ (Nat.lt_succ_self _) h0 hw hl
set_option maxHeartbeats 4000000 in
theorem mX19_led (l : Launch) (G : GT) (u : Hp) (a0 : Nat) (x1 : Int32) (x2 : Int32) (K : Int32 → Hp → Prop) (h : pX19_led u a0 x1 x2 K) : Met l yX19_led (ws_ yX19_led cX19_led 5 (some .int)) (rmX19_led 0 0) (va_Pc [.ref a0, .int x1, .int x2] (GB G u)) (va_Qi K (fun u t => GH G u t.heap) (GA G)) 0 0 (GA G) := by
  refine Met.ofW (cc := cX19_led) (maxL := 5) (ret := (some .int)) (by decide) rfl ?_
  intro p e s m args below meth c s₁ B hml hv
  obtain ⟨rfl, hv⟩ := hv
  have X := Mc_of (own := RX19) B hml rfl hv
  have hw : GW G u s s.heap [] := ⟨hv.2.1, va_S.rf⟩
  have hr := B.returns
  obtain ⟨hx, hb, hml, hown, hts, -⟩ := id X
  have hl := lv_entry ([.ref a0, .int x1, .int x2]) (n := 5) (Nat.le_of_ble_eq_true rfl)
  rw [lg_entry_eq]
  generalize (lg_sl ([.ref a0, .int x1, .int x2]) ++ List.replicate (5 - (lg_sl ([.ref a0, .int x1, .int x2])).length) Slot.unset).toArray = ls at hl ⊢
  have hl : lv_has ls 5 [(0, .ref a0), (1, .int x1), (2, .int x2)] := hl
  change W p l e (rmX19_led 0 0) s m _ below meth c s.heap [] 0 0 (QI G below K _ s 0 0) (F0 m 0 ls [])
  unfold pX19_led at h
  refine lv_aload_n hx hb dX19_led_0 rfl (lv_at hl 0 rfl) ?_
  refine lv_iconst (v := 0) hx hb dX19_led_1 (by decide) ?_
  have hk_9 : kd u a0 = 16 := h.1
  have h := h.2
  refine g_putI (v := 0) X hw in_X19 tyX19_ok nmX19 hk_9 rfl 0 rfl (by decide) q1451 (fun _ z => z) rfl rfl rfl dX19_led_2 (fun H locs hw => ?_)
  refine lv_iconst (v := 0) hx hb dX19_led_5 (by decide) ?_
  refine lv_istore_n (lv' := [(3, .int 0), (0, .ref a0), (1, .int x1), (2, .int x2)]) hx hb dX19_led_6 rfl hl (by decide) rfl (fun ls hl => ?_)
  refine lv_iconst (v := 0) hx hb dX19_led_7 (by decide) ?_
  refine lv_istore (lv' := [(4, .int 0), (3, .int 0), (0, .ref a0), (1, .int x1), (2, .int x2)]) hx hb dX19_led_8 hl (by decide) rfl (fun ls hl => ?_)
  exact wX19_led_10 X hr  h hw (lv_sub hl [2, 3, 4, 1, 0] rfl)

/-! FifthCardModel.thrown()I -/
theorem ydX19_thrown : yX19_thrown.cls = "FifthCardModel" ∧ yX19_thrown.cls ≠ "java/lang/invoke/MethodHandle" ∧ yX19_thrown.cls ≠ "java/lang/invoke/VarHandle" ∧ (parseMethodDescriptor yX19_thrown.desc).map (fun d => d.parameters.length) = some 0 := by decide +kernel
def rmX19_thrown (mc ms : Nat) : Room := { frames := 0, cells := mc, slots := ms, locals := 0 }
set_option maxHeartbeats 4000000 in
theorem mX19_thrown (l : Launch) (G : GT) (u : Hp) (a0 : Nat) (K : Int32 → Prop) (h : pX19_thrown u a0 K) : Met l yX19_thrown (ws_ yX19_thrown cX19_thrown 1 (some .int)) (rmX19_thrown 0 0) (va_Pc [.ref a0] (GB G u)) (va_Qi (fun r v => v = u ∧ K r) (fun u t => GH G u t.heap) (GA G)) 0 0 (GA G) := by
  refine Met.ofW (cc := cX19_thrown) (maxL := 1) (ret := (some .int)) (by decide) rfl ?_
  intro p e s m args below meth c s₁ B hml hv
  obtain ⟨rfl, hv⟩ := hv
  have X := Mc_of (own := RX19) B hml rfl hv
  have hw : GW G u s s.heap [] := ⟨hv.2.1, va_S.rf⟩
  have hr := B.returns
  obtain ⟨hx, hb, hml, hown, hts, -⟩ := id X
  have hl := lv_entry ([.ref a0]) (n := 1) (Nat.le_of_ble_eq_true rfl)
  rw [lg_entry_eq]
  generalize (lg_sl ([.ref a0]) ++ List.replicate (1 - (lg_sl ([.ref a0])).length) Slot.unset).toArray = ls at hl ⊢
  have hl : lv_has ls 1 [(0, .ref a0)] := hl
  change W p l e (rmX19_thrown 0 0) s m _ below meth c s.heap [] 0 0 (QI G below (fun r v => v = u ∧ K r) _ s 0 0) (F0 m 0 ls [])
  unfold pX19_thrown at h
  refine lv_aload_n hx hb dX19_thrown_0 rfl (lv_at hl 0 rfl) ?_
  have hk_1 : kd u a0 = 16 := h.1
  have h := h.2
  refine g_getI X hw in_X19 hk_1 rfl 0 rfl (by decide) q1451 (fun _ z => z) dX19_thrown_1 ?_
  exact g_iret X hw hr ⟨rfl, h⟩ (Nat.le_refl _) (Nat.le_refl _) dX19_thrown_4

/-! FifthCard.size(I)I -/
theorem ydX1_size : yX1_size.cls = "FifthCard" ∧ yX1_size.cls ≠ "java/lang/invoke/MethodHandle" ∧ yX1_size.cls ≠ "java/lang/invoke/VarHandle" ∧ (parseMethodDescriptor yX1_size.desc).map (fun d => d.parameters.length) = some 1 := by decide +kernel
def rmX1_size (mc ms : Nat) : Room := { frames := 1, cells := mc, slots := ms, locals := 22 }
set_option maxHeartbeats 4000000 in
theorem mX1_size (l : Launch) (G : GT) (u : Hp) (a0 : Nat) (x1 : Int32) (K : Int32 → Prop) (h : pX1_size u a0 x1 K) : Met l yX1_size (ws_ yX1_size cX1_size 2 (some .int)) (rmX1_size 0 0) (va_Pc [.ref a0, .int x1] (GB G u)) (va_Qi (fun r v => v = u ∧ K r) (fun u t => GH G u t.heap) (GA G)) 0 0 (GA G) := by
  refine Met.ofW (cc := cX1_size) (maxL := 2) (ret := (some .int)) (by decide) rfl ?_
  intro p e s m args below meth c s₁ B hml hv
  obtain ⟨rfl, hv⟩ := hv
  have X := Mc_of (own := RX1) B hml rfl hv
  have hw : GW G u s s.heap [] := ⟨hv.2.1, va_S.rf⟩
  have hr := B.returns
  obtain ⟨hx, hb, hml, hown, hts, -⟩ := id X
  have hl := lv_entry ([.ref a0, .int x1]) (n := 2) (Nat.le_of_ble_eq_true rfl)
  rw [lg_entry_eq]
  generalize (lg_sl ([.ref a0, .int x1]) ++ List.replicate (2 - (lg_sl ([.ref a0, .int x1])).length) Slot.unset).toArray = ls at hl ⊢
  have hl : lv_has ls 2 [(0, .ref a0), (1, .int x1)] := hl
  change W p l e (rmX1_size 0 0) s m _ below meth c s.heap [] 0 0 (QI G below (fun r v => v = u ∧ K r) _ s 0 0) (F0 m 0 ls [])
  unfold pX1_size at h
  refine lv_iload_n hx hb dX1_size_0 rfl (lv_at hl 1 rfl) ?_
  refine lv_bipush (v := 11) hx hb dX1_size_1 (by decide) ?_
  refine lv_icmp_ne (tgt := 11) hx hb dX1_size_3 rfl (fun c_51 => ?_) (fun c_51 => ?_)
  · have h := h.2 c_51
    refine lv_aload_n hx hb dX1_size_11 rfl (lv_at hl 0 rfl) ?_
    have hk_1 : kd u a0 = 1 := h.1
    have h := h.2
    refine g_getO X hw in_X1 hk_1 rfl 3 rfl (by decide) q476 (fun _ z => z) dX1_size_12 ?_
    refine g_ifnonnull X (tgt := 34) dX1_size_15 rfl (fun b_2 e_3 => ?_) (fun e_3 => ?_)
    · have h := h.2 b_2 e_3
      refine lv_iload_n hx hb dX1_size_34 rfl (lv_at hl 1 rfl) ?_
      by_cases c_9 : x1 = 0
      · refine lv_tableIn (tgt := 92) hx hb dX1_size_35 (by rw [c_9]; decide) (by rw [c_9]; decide) (by first | (rw [c_9]; done) | (rw [c_9]; rfl)) rfl ?_
        have h := h.1 c_9
        refine lv_aload_n hx hb dX1_size_92 rfl (lv_at hl 0 rfl) ?_
        obtain ⟨b_6, e_7, h⟩ := h
        refine g_getR X hw in_X1 hk_1 rfl 3 rfl (by decide) q476 (fun _ z => z) e_7 dX1_size_93 ?_
        have hk_8 : kd u b_6 = 17 := h.1
        have h := h.2
        refine g_getI X hw in_X20 hk_8 rfl 3 rfl (by decide) q572 (fun _ z => z) dX1_size_96 ?_
        exact g_iret X hw hr ⟨rfl, h⟩ (Nat.le_refl _) (Nat.le_refl _) dX1_size_99
      have h := h.2
      by_cases c_13 : x1 = 1
      · refine lv_tableIn (tgt := 100) hx hb dX1_size_35 (by rw [c_13]; decide) (by rw [c_13]; decide) (by first | (rw [c_13]; done) | (rw [c_13]; rfl)) rfl ?_
        have h := h.1 c_13
        refine lv_aload_n hx hb dX1_size_100 rfl (lv_at hl 0 rfl) ?_
        obtain ⟨b_10, e_11, h⟩ := h
        refine g_getR X hw in_X1 hk_1 rfl 3 rfl (by decide) q476 (fun _ z => z) e_11 dX1_size_101 ?_
        have hk_12 : kd u b_10 = 17 := h.1
        have h := h.2
        refine g_getI X hw in_X20 hk_12 rfl 4 rfl (by decide) q575 (fun _ z => z) dX1_size_104 ?_
        exact g_iret X hw hr ⟨rfl, h⟩ (Nat.le_refl _) (Nat.le_refl _) dX1_size_107
      have h := h.2
      by_cases c_17 : x1 = 2
      · refine lv_tableIn (tgt := 108) hx hb dX1_size_35 (by rw [c_17]; decide) (by rw [c_17]; decide) (by first | (rw [c_17]; done) | (rw [c_17]; rfl)) rfl ?_
        have h := h.1 c_17
        refine lv_aload_n hx hb dX1_size_108 rfl (lv_at hl 0 rfl) ?_
        obtain ⟨b_14, e_15, h⟩ := h
        refine g_getR X hw in_X1 hk_1 rfl 3 rfl (by decide) q476 (fun _ z => z) e_15 dX1_size_109 ?_
        have hk_16 : kd u b_14 = 17 := h.1
        have h := h.2
        refine g_getI X hw in_X20 hk_16 rfl 5 rfl (by decide) q585 (fun _ z => z) dX1_size_112 ?_
        exact g_iret X hw hr ⟨rfl, h⟩ (Nat.le_refl _) (Nat.le_refl _) dX1_size_115
      have h := h.2
      by_cases c_21 : x1 = 3
      · refine lv_tableIn (tgt := 116) hx hb dX1_size_35 (by rw [c_21]; decide) (by rw [c_21]; decide) (by first | (rw [c_21]; done) | (rw [c_21]; rfl)) rfl ?_
        have h := h.1 c_21
        refine lv_aload_n hx hb dX1_size_116 rfl (lv_at hl 0 rfl) ?_
        obtain ⟨b_18, e_19, h⟩ := h
        refine g_getR X hw in_X1 hk_1 rfl 3 rfl (by decide) q476 (fun _ z => z) e_19 dX1_size_117 ?_
        have hk_20 : kd u b_18 = 17 := h.1
        have h := h.2
        refine g_getI X hw in_X20 hk_20 rfl 6 rfl (by decide) q591 (fun _ z => z) dX1_size_120 ?_
        exact g_iret X hw hr ⟨rfl, h⟩ (Nat.le_refl _) (Nat.le_refl _) dX1_size_123
      have h := h.2
      by_cases c_26 : x1 = 4
      · refine lv_tableIn (tgt := 124) hx hb dX1_size_35 (by rw [c_26]; decide) (by rw [c_26]; decide) (by first | (rw [c_26]; done) | (rw [c_26]; rfl)) rfl ?_
        have h := h.1 c_26
        refine lv_aload_n hx hb dX1_size_124 rfl (lv_at hl 0 rfl) ?_
        obtain ⟨b_22, e_23, h⟩ := h
        refine g_getR X hw in_X1 hk_1 rfl 3 rfl (by decide) q476 (fun _ z => z) e_23 dX1_size_125 ?_
        have hk_24 : kd u b_22 = 17 := h.1
        have h := h.2
        refine g_getI X hw in_X20 hk_24 rfl 9 rfl (by decide) q602 (fun _ z => z) dX1_size_128 ?_
        refine lv_if_eq (tgt := 138) hx hb dX1_size_131 rfl (fun c_25 => ?_) (fun c_25 => ?_)
        · have h := h.1 c_25
          refine lv_iconst (v := 0) hx hb dX1_size_138 (by decide) ?_
          exact g_iret X hw hr ⟨rfl, h⟩ (Nat.le_refl _) (Nat.le_refl _) dX1_size_139
        · have h := h.2 c_25
          refine lv_iconst (v := 1) hx hb dX1_size_134 (by decide) ?_
          refine lv_goto (tgt := 139) hx hb dX1_size_135 rfl ?_
          exact g_iret X hw hr ⟨rfl, h⟩ (Nat.le_refl _) (Nat.le_refl _) dX1_size_139
      have h := h.2
      by_cases c_31 : x1 = 5
      · refine lv_tableIn (tgt := 140) hx hb dX1_size_35 (by rw [c_31]; decide) (by rw [c_31]; decide) (by first | (rw [c_31]; done) | (rw [c_31]; rfl)) rfl ?_
        have h := h.1 c_31
        refine lv_aload_n hx hb dX1_size_140 rfl (lv_at hl 0 rfl) ?_
        obtain ⟨b_27, e_28, h⟩ := h
        refine g_getR X hw in_X1 hk_1 rfl 3 rfl (by decide) q476 (fun _ z => z) e_28 dX1_size_141 ?_
        have hk_29 : kd u b_27 = 17 := h.1
        have h := h.2
        refine g_getI X hw in_X20 hk_29 rfl 10 rfl (by decide) q608 (fun _ z => z) dX1_size_144 ?_
        refine lv_if_eq (tgt := 154) hx hb dX1_size_147 rfl (fun c_30 => ?_) (fun c_30 => ?_)
        · have h := h.1 c_30
          refine lv_iconst (v := 0) hx hb dX1_size_154 (by decide) ?_
          exact g_iret X hw hr ⟨rfl, h⟩ (Nat.le_refl _) (Nat.le_refl _) dX1_size_155
        · have h := h.2 c_30
          refine lv_iconst (v := 1) hx hb dX1_size_150 (by decide) ?_
          refine lv_goto (tgt := 155) hx hb dX1_size_151 rfl ?_
          exact g_iret X hw hr ⟨rfl, h⟩ (Nat.le_refl _) (Nat.le_refl _) dX1_size_155
      have h := h.2
      by_cases c_36 : x1 = 6
      · refine lv_tableIn (tgt := 156) hx hb dX1_size_35 (by rw [c_36]; decide) (by rw [c_36]; decide) (by first | (rw [c_36]; done) | (rw [c_36]; rfl)) rfl ?_
        have h := h.1 c_36
        refine lv_aload_n hx hb dX1_size_156 rfl (lv_at hl 0 rfl) ?_
        obtain ⟨b_32, e_33, h⟩ := h
        refine g_getR X hw in_X1 hk_1 rfl 3 rfl (by decide) q476 (fun _ z => z) e_33 dX1_size_157 ?_
        have hk_34 : kd u b_32 = 17 := h.1
        have h := h.2
        refine g_getI X hw in_X20 hk_34 rfl 11 rfl (by decide) q611 (fun _ z => z) dX1_size_160 ?_
        refine lv_if_eq (tgt := 170) hx hb dX1_size_163 rfl (fun c_35 => ?_) (fun c_35 => ?_)
        · have h := h.1 c_35
          refine lv_iconst (v := 0) hx hb dX1_size_170 (by decide) ?_
          exact g_iret X hw hr ⟨rfl, h⟩ (Nat.le_refl _) (Nat.le_refl _) dX1_size_171
        · have h := h.2 c_35
          refine lv_iconst (v := 1) hx hb dX1_size_166 (by decide) ?_
          refine lv_goto (tgt := 171) hx hb dX1_size_167 rfl ?_
          exact g_iret X hw hr ⟨rfl, h⟩ (Nat.le_refl _) (Nat.le_refl _) dX1_size_171
      have h := h.2
      by_cases c_40 : x1 = 7
      · refine lv_tableIn (tgt := 172) hx hb dX1_size_35 (by rw [c_40]; decide) (by rw [c_40]; decide) (by first | (rw [c_40]; done) | (rw [c_40]; rfl)) rfl ?_
        have h := h.1 c_40
        refine lv_aload_n hx hb dX1_size_172 rfl (lv_at hl 0 rfl) ?_
        obtain ⟨b_37, e_38, h⟩ := h
        refine g_getR X hw in_X1 hk_1 rfl 3 rfl (by decide) q476 (fun _ z => z) e_38 dX1_size_173 ?_
        have hk_39 : kd u b_37 = 17 := h.1
        have h := h.2
        refine g_getI X hw in_X20 hk_39 rfl 7 rfl (by decide) q593 (fun _ z => z) dX1_size_176 ?_
        exact g_iret X hw hr ⟨rfl, h⟩ (Nat.le_refl _) (Nat.le_refl _) dX1_size_179
      have h := h.2
      by_cases c_44 : x1 = 8
      · refine lv_tableIn (tgt := 180) hx hb dX1_size_35 (by rw [c_44]; decide) (by rw [c_44]; decide) (by first | (rw [c_44]; done) | (rw [c_44]; rfl)) rfl ?_
        have h := h.1 c_44
        refine lv_aload_n hx hb dX1_size_180 rfl (lv_at hl 0 rfl) ?_
        obtain ⟨b_41, e_42, h⟩ := h
        refine g_getR X hw in_X1 hk_1 rfl 11 rfl (by decide) q484 (fun _ z => z) e_42 dX1_size_181 ?_
        have hk_43 : kd u b_41 = 5 := h.1
        have h := h.2
        refine g_getI X hw in_X5 hk_43 rfl 2 rfl (by decide) q345 (fun _ z => z) dX1_size_184 ?_
        exact g_iret X hw hr ⟨rfl, h⟩ (Nat.le_refl _) (Nat.le_refl _) dX1_size_187
      have h := h.2
      by_cases c_48 : x1 = 9
      · refine lv_tableIn (tgt := 188) hx hb dX1_size_35 (by rw [c_48]; decide) (by rw [c_48]; decide) (by first | (rw [c_48]; done) | (rw [c_48]; rfl)) rfl ?_
        have h := h.1 c_48
        refine lv_aload_n hx hb dX1_size_188 rfl (lv_at hl 0 rfl) ?_
        obtain ⟨b_45, e_46, h⟩ := h
        refine g_getR X hw in_X1 hk_1 rfl 11 rfl (by decide) q484 (fun _ z => z) e_46 dX1_size_189 ?_
        have hk_47 : kd u b_45 = 5 := h.1
        have h := h.2
        refine g_getI X hw in_X5 hk_47 rfl 3 rfl (by decide) q347 (fun _ z => z) dX1_size_192 ?_
        exact g_iret X hw hr ⟨rfl, h⟩ (Nat.le_refl _) (Nat.le_refl _) dX1_size_195
      have h := h.2
      by_cases c_49 : x1 = 10
      · refine lv_tableIn (tgt := 196) hx hb dX1_size_35 (by rw [c_49]; decide) (by rw [c_49]; decide) (by first | (rw [c_49]; done) | (rw [c_49]; rfl)) rfl ?_
        have h := h.1 c_49
        refine lv_aload_n hx hb dX1_size_196 rfl (lv_at hl 0 rfl) ?_
        refine g_getI X hw in_X1 hk_1 rfl 7 rfl (by decide) q480 (fun _ z => z) dX1_size_197 ?_
        exact g_iret X hw hr ⟨rfl, h⟩ (Nat.le_refl _) (Nat.le_refl _) dX1_size_200
      have h := h.2
      have h := h ⟨c_9, c_13, c_17, c_21, c_26, c_31, c_36, c_40, c_44, c_48, c_49⟩
      refine lv_tableOut (tgt := 201) hx hb dX1_size_35 (tbl_out 0 11 (by decide) (by decide) (fun i hi => by match i, hi with | 0, _ => exact c_9 | 1, _ => exact c_13 | 2, _ => exact c_17 | 3, _ => exact c_21 | 4, _ => exact c_26 | 5, _ => exact c_31 | 6, _ => exact c_36 | 7, _ => exact c_40 | 8, _ => exact c_44 | 9, _ => exact c_48 | 10, _ => exact c_49 | n + 11, hi => exact absurd hi (by omega))) rfl ?_
      refine lv_iconst (v := (-1)) hx hb dX1_size_201 (by decide) ?_
      exact g_iret X hw hr ⟨rfl, h⟩ (Nat.le_refl _) (Nat.le_refl _) dX1_size_202
    · have h := h.1 e_3
      refine lv_iload_n hx hb dX1_size_18 rfl (lv_at hl 1 rfl) ?_
      refine lv_iconst (v := 0) hx hb dX1_size_19 (by decide) ?_
      refine lv_bipush (v := 10) hx hb dX1_size_20 (by decide) ?_
      refine g_callio hw (g_S X hw (mX1_in l G _ _ _ _ _ h) 3 (lw_S q539 q540 q122 q541) rfl rfl ydX1_in ⟨Nat.le_of_ble_eq_true rfl, Nat.le_of_ble_eq_true rfl⟩ (As := [.int x1, .int 0, .int 10]) (rest := []) rfl hl.1 rfl (Nat.le_of_ble_eq_true rfl) dX1_size_22 ⟨Nat.le_refl _, Nat.le_refl _⟩) (fun r_4 H locs h hw => ?_)
      refine lv_if_eq (tgt := 32) hx hb dX1_size_25 rfl (fun c_5 => ?_) (fun c_5 => ?_)
      · have h := h.1 c_5
        refine lv_iconst (v := (-1)) hx hb dX1_size_32 (by decide) ?_
        exact g_iret X hw hr ⟨rfl, h⟩ (Nat.le_refl _) (Nat.le_refl _) dX1_size_33
      · have h := h.2 c_5
        refine lv_iconst (v := 0) hx hb dX1_size_28 (by decide) ?_
        refine lv_goto (tgt := 33) hx hb dX1_size_29 rfl ?_
        exact g_iret X hw hr ⟨rfl, h⟩ (Nat.le_refl _) (Nat.le_refl _) dX1_size_33
  · have h := h.1 c_51
    refine lv_aload_n hx hb dX1_size_6 rfl (lv_at hl 0 rfl) ?_
    have hk_50 : kd u a0 = 1 := h.1
    have h := h.2
    refine g_getI X hw in_X1 hk_50 rfl 1 rfl (by decide) q474 (fun _ z => z) dX1_size_7 ?_
    exact g_iret X hw hr ⟨rfl, h⟩ (Nat.le_refl _) (Nat.le_refl _) dX1_size_10

/-! FifthCardModel.size(I)I -/
theorem ydX19_size : yX19_size.cls = "FifthCardModel" ∧ yX19_size.cls ≠ "java/lang/invoke/MethodHandle" ∧ yX19_size.cls ≠ "java/lang/invoke/VarHandle" ∧ (parseMethodDescriptor yX19_size.desc).map (fun d => d.parameters.length) = some 1 := by decide +kernel
def rmX19_size (mc ms : Nat) : Room := { frames := 1, cells := mc, slots := ms, locals := 22 }
set_option maxHeartbeats 4000000 in
theorem mX19_size (l : Launch) (G : GT) (u : Hp) (a0 : Nat) (x1 : Int32) (K : Int32 → Hp → Prop) (h : pX19_size u a0 x1 K) : Met l yX19_size (ws_ yX19_size cX19_size 2 (some .int)) (rmX19_size 0 0) (va_Pc [.ref a0, .int x1] (GB G u)) (va_Qi K (fun u t => GH G u t.heap) (GA G)) 0 0 (GA G) := by
  refine Met.ofW (cc := cX19_size) (maxL := 2) (ret := (some .int)) (by decide) rfl ?_
  intro p e s m args below meth c s₁ B hml hv
  obtain ⟨rfl, hv⟩ := hv
  have X := Mc_of (own := RX19) B hml rfl hv
  have hw : GW G u s s.heap [] := ⟨hv.2.1, va_S.rf⟩
  have hr := B.returns
  obtain ⟨hx, hb, hml, hown, hts, -⟩ := id X
  have hl := lv_entry ([.ref a0, .int x1]) (n := 2) (Nat.le_of_ble_eq_true rfl)
  rw [lg_entry_eq]
  generalize (lg_sl ([.ref a0, .int x1]) ++ List.replicate (2 - (lg_sl ([.ref a0, .int x1])).length) Slot.unset).toArray = ls at hl ⊢
  have hl : lv_has ls 2 [(0, .ref a0), (1, .int x1)] := hl
  change W p l e (rmX19_size 0 0) s m _ below meth c s.heap [] 0 0 (QI G below K _ s 0 0) (F0 m 0 ls [])
  unfold pX19_size at h
  refine lv_aload_n hx hb dX19_size_0 rfl (lv_at hl 0 rfl) ?_
  refine lv_iconst (v := 0) hx hb dX19_size_1 (by decide) ?_
  have hk_1 : kd u a0 = 16 := h.1
  have h := h.2
  refine g_putI (v := 0) X hw in_X19 tyX19_ok nmX19 hk_1 rfl 0 rfl (by decide) q1451 (fun _ z => z) rfl rfl rfl dX19_size_2 (fun H locs hw => ?_)
  refine lv_iload_n hx hb dX19_size_5 rfl (lv_at hl 1 rfl) ?_
  refine lv_bipush (v := 11) hx hb dX19_size_6 (by decide) ?_
  refine lv_icmp_ne (tgt := 16) hx hb dX19_size_8 rfl (fun c_43 => ?_) (fun c_43 => ?_)
  · have h := h.2 c_43
    refine lv_iload_n hx hb dX19_size_16 rfl (lv_at hl 1 rfl) ?_
    refine lv_iconst (v := 0) hx hb dX19_size_17 (by decide) ?_
    refine lv_bipush (v := 10) hx hb dX19_size_18 (by decide) ?_
    refine g_callio hw (g_S X hw (mX19_in l G _ _ _ _ _ h) 3 (lw_S q1749 q1750 q143 q1751) rfl rfl ydX19_in ⟨Nat.le_of_ble_eq_true rfl, Nat.le_of_ble_eq_true rfl⟩ (As := [.int x1, .int 0, .int 10]) (rest := []) rfl hl.1 rfl (Nat.le_of_ble_eq_true rfl) dX19_size_20 ⟨Nat.le_refl _, Nat.le_refl _⟩) (fun r_2 H locs h hw => ?_)
    refine lv_if_ne (tgt := 28) hx hb dX19_size_23 rfl (fun c_42 => ?_) (fun c_42 => ?_)
    · have h := h.2 c_42
      refine lv_aload_n hx hb dX19_size_28 rfl (lv_at hl 0 rfl) ?_
      refine g_getO X hw in_X19 hk_1 rfl 3 rfl (by decide) q1454 (fun _ z => z) dX19_size_29 ?_
      refine g_ifnonnull X (tgt := 37) dX19_size_32 rfl (fun b_3 e_4 => ?_) (fun e_4 => ?_)
      · have h := h.2 b_3 e_4
        refine lv_iload_n hx hb dX19_size_37 rfl (lv_at hl 1 rfl) ?_
        by_cases c_8 : x1 = 0
        · refine lv_tableIn (tgt := 92) hx hb dX19_size_38 (by rw [c_8]; decide) (by rw [c_8]; decide) (by first | (rw [c_8]; done) | (rw [c_8]; rfl)) rfl ?_
          have h := h.1 c_8
          refine lv_aload_n hx hb dX19_size_92 rfl (lv_at hl 0 rfl) ?_
          obtain ⟨b_5, e_6, h⟩ := h
          refine g_getR X hw in_X19 hk_1 rfl 3 rfl (by decide) q1454 (fun _ z => z) e_6 dX19_size_93 ?_
          have hk_7 : kd u b_5 = 20 := h.1
          have h := h.2
          refine g_getNI X hw (host := "FifthCardModel") in_X23 hk_7 rfl 0 rfl (by decide) (List.mem_of_getElem? (i := 0) rfl) (fun _ z => z) dX19_size_96 ?_
          exact g_iret X hw hr h (Nat.le_refl _) (Nat.le_refl _) dX19_size_99
        have h := h.2
        by_cases c_12 : x1 = 1
        · refine lv_tableIn (tgt := 100) hx hb dX19_size_38 (by rw [c_12]; decide) (by rw [c_12]; decide) (by first | (rw [c_12]; done) | (rw [c_12]; rfl)) rfl ?_
          have h := h.1 c_12
          refine lv_aload_n hx hb dX19_size_100 rfl (lv_at hl 0 rfl) ?_
          obtain ⟨b_9, e_10, h⟩ := h
          refine g_getR X hw in_X19 hk_1 rfl 3 rfl (by decide) q1454 (fun _ z => z) e_10 dX19_size_101 ?_
          have hk_11 : kd u b_9 = 20 := h.1
          have h := h.2
          refine g_getNI X hw (host := "FifthCardModel") in_X23 hk_11 rfl 1 rfl (by decide) (List.mem_of_getElem? (i := 5) rfl) (fun _ z => z) dX19_size_104 ?_
          exact g_iret X hw hr h (Nat.le_refl _) (Nat.le_refl _) dX19_size_107
        have h := h.2
        by_cases c_16 : x1 = 2
        · refine lv_tableIn (tgt := 108) hx hb dX19_size_38 (by rw [c_16]; decide) (by rw [c_16]; decide) (by first | (rw [c_16]; done) | (rw [c_16]; rfl)) rfl ?_
          have h := h.1 c_16
          refine lv_aload_n hx hb dX19_size_108 rfl (lv_at hl 0 rfl) ?_
          obtain ⟨b_13, e_14, h⟩ := h
          refine g_getR X hw in_X19 hk_1 rfl 3 rfl (by decide) q1454 (fun _ z => z) e_14 dX19_size_109 ?_
          have hk_15 : kd u b_13 = 20 := h.1
          have h := h.2
          refine g_getNI X hw (host := "FifthCardModel") in_X23 hk_15 rfl 2 rfl (by decide) (List.mem_of_getElem? (i := 2) rfl) (fun _ z => z) dX19_size_112 ?_
          exact g_iret X hw hr h (Nat.le_refl _) (Nat.le_refl _) dX19_size_115
        have h := h.2
        by_cases c_20 : x1 = 3
        · refine lv_tableIn (tgt := 116) hx hb dX19_size_38 (by rw [c_20]; decide) (by rw [c_20]; decide) (by first | (rw [c_20]; done) | (rw [c_20]; rfl)) rfl ?_
          have h := h.1 c_20
          refine lv_aload_n hx hb dX19_size_116 rfl (lv_at hl 0 rfl) ?_
          obtain ⟨b_17, e_18, h⟩ := h
          refine g_getR X hw in_X19 hk_1 rfl 3 rfl (by decide) q1454 (fun _ z => z) e_18 dX19_size_117 ?_
          have hk_19 : kd u b_17 = 20 := h.1
          have h := h.2
          refine g_getNI X hw (host := "FifthCardModel") in_X23 hk_19 rfl 3 rfl (by decide) (List.mem_of_getElem? (i := 6) rfl) (fun _ z => z) dX19_size_120 ?_
          exact g_iret X hw hr h (Nat.le_refl _) (Nat.le_refl _) dX19_size_123
        have h := h.2
        by_cases c_25 : x1 = 4
        · refine lv_tableIn (tgt := 124) hx hb dX19_size_38 (by rw [c_25]; decide) (by rw [c_25]; decide) (by first | (rw [c_25]; done) | (rw [c_25]; rfl)) rfl ?_
          have h := h.1 c_25
          refine lv_aload_n hx hb dX19_size_124 rfl (lv_at hl 0 rfl) ?_
          obtain ⟨b_21, e_22, h⟩ := h
          refine g_getR X hw in_X19 hk_1 rfl 3 rfl (by decide) q1454 (fun _ z => z) e_22 dX19_size_125 ?_
          have hk_23 : kd u b_21 = 20 := h.1
          have h := h.2
          refine g_getNI X hw (host := "FifthCardModel") in_X23 hk_23 rfl 7 rfl (by decide) (List.mem_of_getElem? (i := 1) rfl) (fun _ z => z) dX19_size_128 ?_
          refine lv_if_eq (tgt := 138) hx hb dX19_size_131 rfl (fun c_24 => ?_) (fun c_24 => ?_)
          · have h := h.1 c_24
            refine lv_iconst (v := 0) hx hb dX19_size_138 (by decide) ?_
            exact g_iret X hw hr h (Nat.le_refl _) (Nat.le_refl _) dX19_size_139
          · have h := h.2 c_24
            refine lv_iconst (v := 1) hx hb dX19_size_134 (by decide) ?_
            refine lv_goto (tgt := 139) hx hb dX19_size_135 rfl ?_
            exact g_iret X hw hr h (Nat.le_refl _) (Nat.le_refl _) dX19_size_139
        have h := h.2
        by_cases c_30 : x1 = 5
        · refine lv_tableIn (tgt := 140) hx hb dX19_size_38 (by rw [c_30]; decide) (by rw [c_30]; decide) (by first | (rw [c_30]; done) | (rw [c_30]; rfl)) rfl ?_
          have h := h.1 c_30
          refine lv_aload_n hx hb dX19_size_140 rfl (lv_at hl 0 rfl) ?_
          obtain ⟨b_26, e_27, h⟩ := h
          refine g_getR X hw in_X19 hk_1 rfl 3 rfl (by decide) q1454 (fun _ z => z) e_27 dX19_size_141 ?_
          have hk_28 : kd u b_26 = 20 := h.1
          have h := h.2
          refine g_getNI X hw (host := "FifthCardModel") in_X23 hk_28 rfl 8 rfl (by decide) (List.mem_of_getElem? (i := 3) rfl) (fun _ z => z) dX19_size_144 ?_
          refine lv_if_eq (tgt := 154) hx hb dX19_size_147 rfl (fun c_29 => ?_) (fun c_29 => ?_)
          · have h := h.1 c_29
            refine lv_iconst (v := 0) hx hb dX19_size_154 (by decide) ?_
            exact g_iret X hw hr h (Nat.le_refl _) (Nat.le_refl _) dX19_size_155
          · have h := h.2 c_29
            refine lv_iconst (v := 1) hx hb dX19_size_150 (by decide) ?_
            refine lv_goto (tgt := 155) hx hb dX19_size_151 rfl ?_
            exact g_iret X hw hr h (Nat.le_refl _) (Nat.le_refl _) dX19_size_155
        have h := h.2
        by_cases c_35 : x1 = 6
        · refine lv_tableIn (tgt := 156) hx hb dX19_size_38 (by rw [c_35]; decide) (by rw [c_35]; decide) (by first | (rw [c_35]; done) | (rw [c_35]; rfl)) rfl ?_
          have h := h.1 c_35
          refine lv_aload_n hx hb dX19_size_156 rfl (lv_at hl 0 rfl) ?_
          obtain ⟨b_31, e_32, h⟩ := h
          refine g_getR X hw in_X19 hk_1 rfl 3 rfl (by decide) q1454 (fun _ z => z) e_32 dX19_size_157 ?_
          have hk_33 : kd u b_31 = 20 := h.1
          have h := h.2
          refine g_getNI X hw (host := "FifthCardModel") in_X23 hk_33 rfl 9 rfl (by decide) (List.mem_of_getElem? (i := 4) rfl) (fun _ z => z) dX19_size_160 ?_
          refine lv_if_eq (tgt := 170) hx hb dX19_size_163 rfl (fun c_34 => ?_) (fun c_34 => ?_)
          · have h := h.1 c_34
            refine lv_iconst (v := 0) hx hb dX19_size_170 (by decide) ?_
            exact g_iret X hw hr h (Nat.le_refl _) (Nat.le_refl _) dX19_size_171
          · have h := h.2 c_34
            refine lv_iconst (v := 1) hx hb dX19_size_166 (by decide) ?_
            refine lv_goto (tgt := 171) hx hb dX19_size_167 rfl ?_
            exact g_iret X hw hr h (Nat.le_refl _) (Nat.le_refl _) dX19_size_171
        have h := h.2
        by_cases c_39 : x1 = 7
        · refine lv_tableIn (tgt := 172) hx hb dX19_size_38 (by rw [c_39]; decide) (by rw [c_39]; decide) (by first | (rw [c_39]; done) | (rw [c_39]; rfl)) rfl ?_
          have h := h.1 c_39
          refine lv_aload_n hx hb dX19_size_172 rfl (lv_at hl 0 rfl) ?_
          obtain ⟨b_36, e_37, h⟩ := h
          refine g_getR X hw in_X19 hk_1 rfl 3 rfl (by decide) q1454 (fun _ z => z) e_37 dX19_size_173 ?_
          have hk_38 : kd u b_36 = 20 := h.1
          have h := h.2
          refine g_getNI X hw (host := "FifthCardModel") in_X23 hk_38 rfl 5 rfl (by decide) (List.mem_of_getElem? (i := 8) rfl) (fun _ z => z) dX19_size_176 ?_
          exact g_iret X hw hr h (Nat.le_refl _) (Nat.le_refl _) dX19_size_179
        have h := h.2
        by_cases c_40 : x1 = 8
        · refine lv_tableIn (tgt := 180) hx hb dX19_size_38 (by rw [c_40]; decide) (by rw [c_40]; decide) (by first | (rw [c_40]; done) | (rw [c_40]; rfl)) rfl ?_
          have h := h.1 c_40
          refine lv_aload_n hx hb dX19_size_180 rfl (lv_at hl 0 rfl) ?_
          refine g_getI X hw in_X19 hk_1 rfl 43 rfl (by decide) q1494 (fun _ z => z) dX19_size_181 ?_
          exact g_iret X hw hr h (Nat.le_refl _) (Nat.le_refl _) dX19_size_184
        have h := h.2
        by_cases c_41 : x1 = 9
        · refine lv_tableIn (tgt := 185) hx hb dX19_size_38 (by rw [c_41]; decide) (by rw [c_41]; decide) (by first | (rw [c_41]; done) | (rw [c_41]; rfl)) rfl ?_
          have h := h.1 c_41
          refine lv_aload_n hx hb dX19_size_185 rfl (lv_at hl 0 rfl) ?_
          refine g_getI X hw in_X19 hk_1 rfl 45 rfl (by decide) q1496 (fun _ z => z) dX19_size_186 ?_
          exact g_iret X hw hr h (Nat.le_refl _) (Nat.le_refl _) dX19_size_189
        have h := h.2
        have h := h ⟨c_8, c_12, c_16, c_20, c_25, c_30, c_35, c_39, c_40, c_41⟩
        refine lv_tableOut (tgt := 190) hx hb dX19_size_38 (tbl_out 0 10 (by decide) (by decide) (fun i hi => by match i, hi with | 0, _ => exact c_8 | 1, _ => exact c_12 | 2, _ => exact c_16 | 3, _ => exact c_20 | 4, _ => exact c_25 | 5, _ => exact c_30 | 6, _ => exact c_35 | 7, _ => exact c_39 | 8, _ => exact c_40 | 9, _ => exact c_41 | n + 10, hi => exact absurd hi (by omega))) rfl ?_
        refine lv_aload_n hx hb dX19_size_190 rfl (lv_at hl 0 rfl) ?_
        refine g_getI X hw in_X19 hk_1 rfl 44 rfl (by decide) q1495 (fun _ z => z) dX19_size_191 ?_
        exact g_iret X hw hr h (Nat.le_refl _) (Nat.le_refl _) dX19_size_194
      · have h := h.1 e_4
        refine lv_iconst (v := 0) hx hb dX19_size_35 (by decide) ?_
        exact g_iret X hw hr h (Nat.le_refl _) (Nat.le_refl _) dX19_size_36
    · have h := h.1 c_42
      refine lv_iconst (v := (-1)) hx hb dX19_size_26 (by decide) ?_
      exact g_iret X hw hr h (Nat.le_refl _) (Nat.le_refl _) dX19_size_27
  · have h := h.1 c_43
    refine lv_aload_n hx hb dX19_size_11 rfl (lv_at hl 0 rfl) ?_
    refine g_getI X hw in_X19 hk_1 rfl 6 rfl (by decide) q1457 (fun _ z => z) dX19_size_12 ?_
    exact g_iret X hw hr h (Nat.le_refl _) (Nat.le_refl _) dX19_size_15

/-! FifthCard$Spoken.words()I -/
theorem ydX18_words : yX18_words.cls = "FifthCard$Spoken" ∧ yX18_words.cls ≠ "java/lang/invoke/MethodHandle" ∧ yX18_words.cls ≠ "java/lang/invoke/VarHandle" ∧ (parseMethodDescriptor yX18_words.desc).map (fun d => d.parameters.length) = some 0 := by decide +kernel
def rmX18_words (mc ms : Nat) : Room := { frames := 0, cells := mc, slots := ms, locals := 0 }
set_option maxHeartbeats 4000000 in
theorem mX18_words (l : Launch) (G : GT) (u : Hp) (a0 : Nat) (K : Int32 → Prop) (h : pX18_words u a0 K) : Met l yX18_words (ws_ yX18_words cX18_words 1 (some .int)) (rmX18_words 0 0) (va_Pc [.ref a0] (GB G u)) (va_Qi (fun r v => v = u ∧ K r) (fun u t => GH G u t.heap) (GA G)) 0 0 (GA G) := by
  refine Met.ofW (cc := cX18_words) (maxL := 1) (ret := (some .int)) (by decide) rfl ?_
  intro p e s m args below meth c s₁ B hml hv
  obtain ⟨rfl, hv⟩ := hv
  have X := Mc_of (own := RX18) B hml rfl hv
  have hw : GW G u s s.heap [] := ⟨hv.2.1, va_S.rf⟩
  have hr := B.returns
  obtain ⟨hx, hb, hml, hown, hts, -⟩ := id X
  have hl := lv_entry ([.ref a0]) (n := 1) (Nat.le_of_ble_eq_true rfl)
  rw [lg_entry_eq]
  generalize (lg_sl ([.ref a0]) ++ List.replicate (1 - (lg_sl ([.ref a0])).length) Slot.unset).toArray = ls at hl ⊢
  have hl : lv_has ls 1 [(0, .ref a0)] := hl
  change W p l e (rmX18_words 0 0) s m _ below meth c s.heap [] 0 0 (QI G below (fun r v => v = u ∧ K r) _ s 0 0) (F0 m 0 ls [])
  unfold pX18_words at h
  refine lv_aload_n hx hb dX18_words_0 rfl (lv_at hl 0 rfl) ?_
  have hk_1 : kd u a0 = 15 := h.1
  have h := h.2
  refine g_getI X hw in_X18 hk_1 rfl 6 rfl (by decide) q442 (fun _ z => z) dX18_words_1 ?_
  exact g_iret X hw hr ⟨rfl, h⟩ (Nat.le_refl _) (Nat.le_refl _) dX18_words_4

/-! FifthCard$Suited.words()I -/
theorem ydX21_words : yX21_words.cls = "FifthCard$Suited" ∧ yX21_words.cls ≠ "java/lang/invoke/MethodHandle" ∧ yX21_words.cls ≠ "java/lang/invoke/VarHandle" ∧ (parseMethodDescriptor yX21_words.desc).map (fun d => d.parameters.length) = some 0 := by decide +kernel
def rmX21_words (mc ms : Nat) : Room := { frames := 0, cells := mc, slots := ms, locals := 0 }
set_option maxHeartbeats 4000000 in
theorem mX21_words (l : Launch) (G : GT) (u : Hp) (a0 : Nat) (K : Int32 → Prop) (h : pX21_words a0 K) : Met l yX21_words (ws_ yX21_words cX21_words 1 (some .int)) (rmX21_words 0 0) (va_Pc [.ref a0] (GB G u)) (va_Qi (fun r v => v = u ∧ K r) (fun u t => GH G u t.heap) (GA G)) 0 0 (GA G) := by
  refine Met.ofW (cc := cX21_words) (maxL := 1) (ret := (some .int)) (by decide) rfl ?_
  intro p e s m args below meth c s₁ B hml hv
  obtain ⟨rfl, hv⟩ := hv
  have X := Mc_of (own := RX21) B hml rfl hv
  have hw : GW G u s s.heap [] := ⟨hv.2.1, va_S.rf⟩
  have hr := B.returns
  obtain ⟨hx, hb, hml, hown, hts, -⟩ := id X
  have hl := lv_entry ([.ref a0]) (n := 1) (Nat.le_of_ble_eq_true rfl)
  rw [lg_entry_eq]
  generalize (lg_sl ([.ref a0]) ++ List.replicate (1 - (lg_sl ([.ref a0])).length) Slot.unset).toArray = ls at hl ⊢
  have hl : lv_has ls 1 [(0, .ref a0)] := hl
  change W p l e (rmX21_words 0 0) s m _ below meth c s.heap [] 0 0 (QI G below (fun r v => v = u ∧ K r) _ s 0 0) (F0 m 0 ls [])
  unfold pX21_words at h
  refine lv_bipush (v := 20) hx hb dX21_words_0 (by decide) ?_
  exact g_iret X hw hr ⟨rfl, h⟩ (Nat.le_refl _) (Nat.le_refl _) dX21_words_2

/-! FifthCard$Tabled.words()I -/
theorem ydX22_words : yX22_words.cls = "FifthCard$Tabled" ∧ yX22_words.cls ≠ "java/lang/invoke/MethodHandle" ∧ yX22_words.cls ≠ "java/lang/invoke/VarHandle" ∧ (parseMethodDescriptor yX22_words.desc).map (fun d => d.parameters.length) = some 0 := by decide +kernel
def rmX22_words (mc ms : Nat) : Room := { frames := 0, cells := mc, slots := ms, locals := 0 }
set_option maxHeartbeats 4000000 in
theorem mX22_words (l : Launch) (G : GT) (u : Hp) (a0 : Nat) (K : Int32 → Prop) (h : pX22_words a0 K) : Met l yX22_words (ws_ yX22_words cX22_words 1 (some .int)) (rmX22_words 0 0) (va_Pc [.ref a0] (GB G u)) (va_Qi (fun r v => v = u ∧ K r) (fun u t => GH G u t.heap) (GA G)) 0 0 (GA G) := by
  refine Met.ofW (cc := cX22_words) (maxL := 1) (ret := (some .int)) (by decide) rfl ?_
  intro p e s m args below meth c s₁ B hml hv
  obtain ⟨rfl, hv⟩ := hv
  have X := Mc_of (own := RX22) B hml rfl hv
  have hw : GW G u s s.heap [] := ⟨hv.2.1, va_S.rf⟩
  have hr := B.returns
  obtain ⟨hx, hb, hml, hown, hts, -⟩ := id X
  have hl := lv_entry ([.ref a0]) (n := 1) (Nat.le_of_ble_eq_true rfl)
  rw [lg_entry_eq]
  generalize (lg_sl ([.ref a0]) ++ List.replicate (1 - (lg_sl ([.ref a0])).length) Slot.unset).toArray = ls at hl ⊢
  have hl : lv_has ls 1 [(0, .ref a0)] := hl
  change W p l e (rmX22_words 0 0) s m _ below meth c s.heap [] 0 0 (QI G below (fun r v => v = u ∧ K r) _ s 0 0) (F0 m 0 ls [])
  unfold pX22_words at h
  refine lv_bipush (v := 21) hx hb dX22_words_0 (by decide) ?_
  exact g_iret X hw hr ⟨rfl, h⟩ (Nat.le_refl _) (Nat.le_refl _) dX22_words_2

/-! FifthCard.words(I)I -/
theorem ydX1_words : yX1_words.cls = "FifthCard" ∧ yX1_words.cls ≠ "java/lang/invoke/MethodHandle" ∧ yX1_words.cls ≠ "java/lang/invoke/VarHandle" ∧ (parseMethodDescriptor yX1_words.desc).map (fun d => d.parameters.length) = some 1 := by decide +kernel
def rmX1_words (mc ms : Nat) : Room := { frames := 2, cells := mc, slots := ms, locals := 43 }
set_option maxHeartbeats 4000000 in
theorem wX1_words_20 {G : GT} {p : Program} {l : Launch} {e : Env} {s : State} {m : MethodId} {args : Array Value} {below : List Frame} {meth : Method} {c : Code} {H : Heap} {locs : List Loc} {ls : Array Slot} {u : Hp} {z0 : Int32} {K : Int32 → Prop} (X : Mc G p s m args meth c RX1 cX1_words 2) (hr : meth.sig.returnType = (some .int)) (h : bX1_words_20 K u z0) (hw : GW G u s H locs) (hl : lv_has ls 2 []) : W p l e (rmX1_words 0 0) s m args below meth c H locs 0 0 (QI G below (fun r v => v = u ∧ K r) args s 0 0) (F0 m 20 ls [.int z0]) := by
  obtain ⟨hx, hb, hml, hown, hts, -⟩ := id X
  unfold bX1_words_20 at h
  refine lv_goto (tgt := 24) hx hb dX1_words_20 rfl ?_
  exact g_iret X hw hr ⟨rfl, h⟩ (Nat.le_refl _) (Nat.le_refl _) dX1_words_24
set_option maxHeartbeats 4000000 in
theorem mX1_words (l : Launch) (G : GT) (u : Hp) (a0 : Nat) (x1 : Int32) (K : Int32 → Prop) (h : pX1_words u a0 x1 K) : Met l yX1_words (ws_ yX1_words cX1_words 2 (some .int)) (rmX1_words 0 0) (va_Pc [.ref a0, .int x1] (GB G u)) (va_Qi (fun r v => v = u ∧ K r) (fun u t => GH G u t.heap) (GA G)) 0 0 (GA G) := by
  refine Met.ofW (cc := cX1_words) (maxL := 2) (ret := (some .int)) (by decide) rfl ?_
  intro p e s m args below meth c s₁ B hml hv
  obtain ⟨rfl, hv⟩ := hv
  have X := Mc_of (own := RX1) B hml rfl hv
  have hw : GW G u s s.heap [] := ⟨hv.2.1, va_S.rf⟩
  have hr := B.returns
  obtain ⟨hx, hb, hml, hown, hts, -⟩ := id X
  have hl := lv_entry ([.ref a0, .int x1]) (n := 2) (Nat.le_of_ble_eq_true rfl)
  rw [lg_entry_eq]
  generalize (lg_sl ([.ref a0, .int x1]) ++ List.replicate (2 - (lg_sl ([.ref a0, .int x1])).length) Slot.unset).toArray = ls at hl ⊢
  have hl : lv_has ls 2 [(0, .ref a0), (1, .int x1)] := hl
  change W p l e (rmX1_words 0 0) s m _ below meth c s.heap [] 0 0 (QI G below (fun r v => v = u ∧ K r) _ s 0 0) (F0 m 0 ls [])
  unfold pX1_words at h
  refine lv_aload_n hx hb dX1_words_0 rfl (lv_at hl 0 rfl) ?_
  refine lv_iload_n hx hb dX1_words_1 rfl (lv_at hl 1 rfl) ?_
  have hk_1 : kd u a0 = 1 := h.1
  have h := h.2
  refine g_callio hw (g_V X hw (mX1_isRule l G _ _ _ _ h) 1 (lw_V q1074 q1076 qs28 q122 q1077) rfl rfl ydX1_isRule ⟨Nat.le_of_ble_eq_true rfl, Nat.le_of_ble_eq_true rfl⟩ (g_recv X hw (ci := 0) (q := (RX1, TX1, 16)) hk_1 rfl) (As := [.int x1]) (rest := []) rfl hl.1 rfl (Nat.le_of_ble_eq_true rfl) dX1_words_2 ⟨Nat.le_refl _, Nat.le_refl _⟩) (fun r_2 H locs h hw => ?_)
  refine lv_if_eq (tgt := 23) hx hb dX1_words_5 rfl (fun c_18 => ?_) (fun c_18 => ?_)
  · have h := h.1 c_18
    refine lv_iconst (v := (-1)) hx hb dX1_words_23 (by decide) ?_
    exact g_iret X hw hr ⟨rfl, h⟩ (Nat.le_refl _) (Nat.le_refl _) dX1_words_24
  · have h := h.2 c_18
    refine lv_aload_n hx hb dX1_words_8 rfl (lv_at hl 0 rfl) ?_
    obtain ⟨b_3, e_4, h⟩ := h
    refine g_getR X hw in_X1 hk_1 rfl 3 rfl (by decide) q476 (fun _ z => z) e_4 dX1_words_9 ?_
    have hk_5 : kd u b_3 = 17 := h.1
    have h := h.2
    obtain ⟨b_6, e_7, h⟩ := h
    refine g_getR X hw in_X20 hk_5 rfl 0 rfl (by decide) q559 (fun _ z => z) e_7 dX1_words_12 ?_
    refine lv_iload_n hx hb dX1_words_15 rfl (lv_at hl 1 rfl) ?_
    have hk_8 : kd u b_6 = 106 ∨ kd u b_6 = 107 := h.1
    have h := h.2
    obtain ⟨hi_11, b_9, e_10, h⟩ := h
    refine g_aald X hw hk_8 hi_11 e_10 dX1_words_16 ?_
    obtain ⟨hd_, h⟩ := h
    rcases hd_ with hk_12 | hk_14 | hk_16
    · have h := h.1 hk_12
      refine g_callio hw (g_O X hw (mX18_words l G _ _ _ h) 0 q1399 q1401 (List.mem_of_getElem? (i := 3) rfl) q1402 q1403 q142 q1404 rfl rfl yxG3 ⟨Nat.le_of_ble_eq_true rfl, Nat.le_of_ble_eq_true rfl⟩ (g_recv X hw (ci := 14) (q := (RX18, TX18, 10)) hk_12 rfl) (As := []) (rest := []) rfl hl.1 rfl (Nat.le_of_ble_eq_true rfl) dX1_words_17 ⟨Nat.le_refl _, Nat.le_refl _⟩) (fun r_13 H locs h hw => ?_)
      exact wX1_words_20 X hr  h hw (lv_sub hl [] rfl)
    · have h := h.2.1 hk_14
      refine g_callio hw (g_O X hw (mX21_words l G _ _ _ h) 0 q1399 q1401 (List.mem_of_getElem? (i := 3) rfl) q1405 q1406 q151 q1407 rfl rfl yxG3 ⟨Nat.le_of_ble_eq_true rfl, Nat.le_of_ble_eq_true rfl⟩ (g_recv X hw (ci := 17) (q := (RX21, TX21, 6)) hk_14 rfl) (As := []) (rest := []) rfl hl.1 rfl (Nat.le_of_ble_eq_true rfl) dX1_words_17 ⟨Nat.le_refl _, Nat.le_refl _⟩) (fun r_15 H locs h hw => ?_)
      exact wX1_words_20 X hr  h hw (lv_sub hl [] rfl)
    · have h := h.2.2 hk_16
      refine g_callio hw (g_O X hw (mX22_words l G _ _ _ h) 0 q1399 q1401 (List.mem_of_getElem? (i := 3) rfl) q1408 q1409 q152 q1410 rfl rfl yxG3 ⟨Nat.le_of_ble_eq_true rfl, Nat.le_of_ble_eq_true rfl⟩ (g_recv X hw (ci := 18) (q := (RX22, TX22, 4)) hk_16 rfl) (As := []) (rest := []) rfl hl.1 rfl (Nat.le_of_ble_eq_true rfl) dX1_words_17 ⟨Nat.le_refl _, Nat.le_refl _⟩) (fun r_17 H locs h hw => ?_)
      exact wX1_words_20 X hr  h hw (lv_sub hl [] rfl)

/-! FifthCardModel.words(I)I -/
theorem ydX19_words : yX19_words.cls = "FifthCardModel" ∧ yX19_words.cls ≠ "java/lang/invoke/MethodHandle" ∧ yX19_words.cls ≠ "java/lang/invoke/VarHandle" ∧ (parseMethodDescriptor yX19_words.desc).map (fun d => d.parameters.length) = some 1 := by decide +kernel
def rmX19_words (mc ms : Nat) : Room := { frames := 1, cells := mc, slots := ms, locals := 21 }
set_option maxHeartbeats 4000000 in
theorem mX19_words (l : Launch) (G : GT) (u : Hp) (a0 : Nat) (x1 : Int32) (K : Int32 → Hp → Prop) (h : pX19_words u a0 x1 K) : Met l yX19_words (ws_ yX19_words cX19_words 2 (some .int)) (rmX19_words 0 0) (va_Pc [.ref a0, .int x1] (GB G u)) (va_Qi K (fun u t => GH G u t.heap) (GA G)) 0 0 (GA G) := by
  refine Met.ofW (cc := cX19_words) (maxL := 2) (ret := (some .int)) (by decide) rfl ?_
  intro p e s m args below meth c s₁ B hml hv
  obtain ⟨rfl, hv⟩ := hv
  have X := Mc_of (own := RX19) B hml rfl hv
  have hw : GW G u s s.heap [] := ⟨hv.2.1, va_S.rf⟩
  have hr := B.returns
  obtain ⟨hx, hb, hml, hown, hts, -⟩ := id X
  have hl := lv_entry ([.ref a0, .int x1]) (n := 2) (Nat.le_of_ble_eq_true rfl)
  rw [lg_entry_eq]
  generalize (lg_sl ([.ref a0, .int x1]) ++ List.replicate (2 - (lg_sl ([.ref a0, .int x1])).length) Slot.unset).toArray = ls at hl ⊢
  have hl : lv_has ls 2 [(0, .ref a0), (1, .int x1)] := hl
  change W p l e (rmX19_words 0 0) s m _ below meth c s.heap [] 0 0 (QI G below K _ s 0 0) (F0 m 0 ls [])
  unfold pX19_words at h
  refine lv_aload_n hx hb dX19_words_0 rfl (lv_at hl 0 rfl) ?_
  refine lv_iconst (v := 0) hx hb dX19_words_1 (by decide) ?_
  have hk_1 : kd u a0 = 16 := h.1
  have h := h.2
  refine g_putI (v := 0) X hw in_X19 tyX19_ok nmX19 hk_1 rfl 0 rfl (by decide) q1451 (fun _ z => z) rfl rfl rfl dX19_words_2 (fun H locs hw => ?_)
  refine lv_aload_n hx hb dX19_words_5 rfl (lv_at hl 0 rfl) ?_
  refine lv_iload_n hx hb dX19_words_6 rfl (lv_at hl 1 rfl) ?_
  refine g_callio hw (g_V X hw (mX19_isRule l G _ _ _ _ h) 1 (lw_V q1940 q1942 qs84 q143 q1943) rfl rfl ydX19_isRule ⟨Nat.le_of_ble_eq_true rfl, Nat.le_of_ble_eq_true rfl⟩ (g_recv X hw (ci := 15) (q := (RX19, TX19, 46)) hk_1 rfl) (As := [.int x1]) (rest := []) rfl hl.1 rfl (Nat.le_of_ble_eq_true rfl) dX19_words_7 ⟨Nat.le_refl _, Nat.le_refl _⟩) (fun r_2 H locs h hw => ?_)
  refine lv_if_eq (tgt := 25) hx hb dX19_words_10 rfl (fun c_9 => ?_) (fun c_9 => ?_)
  · have h := h.1 c_9
    refine lv_iconst (v := (-1)) hx hb dX19_words_25 (by decide) ?_
    exact g_iret X hw hr h (Nat.le_refl _) (Nat.le_refl _) dX19_words_26
  · have h := h.2 c_9
    refine lv_aload_n hx hb dX19_words_13 rfl (lv_at hl 0 rfl) ?_
    obtain ⟨b_3, e_4, h⟩ := h
    refine g_getR X hw in_X19 hk_1 rfl 3 rfl (by decide) q1454 (fun _ z => z) e_4 dX19_words_14 ?_
    have hk_5 : kd u b_3 = 20 := h.1
    have h := h.2
    obtain ⟨b_6, e_7, h⟩ := h
    refine g_getNR X hw (host := "FifthCardModel") in_X23 hk_5 rfl 10 rfl (by decide) (List.mem_of_getElem? (i := 10) rfl) (fun _ z => z) e_7 dX19_words_17 ?_
    refine lv_iload_n hx hb dX19_words_20 rfl (lv_at hl 1 rfl) ?_
    have hk_8 : kd u b_6 = 101 := h.1
    have h := h.2
    refine g_iald X hw hk_8 h.1 dX19_words_21 ?_
    have h := h.2
    refine lv_goto (tgt := 26) hx hb dX19_words_22 rfl ?_
    exact g_iret X hw hr h (Nat.le_refl _) (Nat.le_refl _) dX19_words_26

/-! FifthCard.trouble()I -/
theorem ydX1_trouble : yX1_trouble.cls = "FifthCard" ∧ yX1_trouble.cls ≠ "java/lang/invoke/MethodHandle" ∧ yX1_trouble.cls ≠ "java/lang/invoke/VarHandle" ∧ (parseMethodDescriptor yX1_trouble.desc).map (fun d => d.parameters.length) = some 0 := by decide +kernel
def rmX1_trouble (mc ms : Nat) : Room := { frames := 0, cells := mc, slots := ms, locals := 0 }
set_option maxHeartbeats 4000000 in
theorem mX1_trouble (l : Launch) (G : GT) (u : Hp) (a0 : Nat) (K : Int32 → Prop) (h : pX1_trouble u a0 K) : Met l yX1_trouble (ws_ yX1_trouble cX1_trouble 1 (some .int)) (rmX1_trouble 0 0) (va_Pc [.ref a0] (GB G u)) (va_Qi (fun r v => v = u ∧ K r) (fun u t => GH G u t.heap) (GA G)) 0 0 (GA G) := by
  refine Met.ofW (cc := cX1_trouble) (maxL := 1) (ret := (some .int)) (by decide) rfl ?_
  intro p e s m args below meth c s₁ B hml hv
  obtain ⟨rfl, hv⟩ := hv
  have X := Mc_of (own := RX1) B hml rfl hv
  have hw : GW G u s s.heap [] := ⟨hv.2.1, va_S.rf⟩
  have hr := B.returns
  obtain ⟨hx, hb, hml, hown, hts, -⟩ := id X
  have hl := lv_entry ([.ref a0]) (n := 1) (Nat.le_of_ble_eq_true rfl)
  rw [lg_entry_eq]
  generalize (lg_sl ([.ref a0]) ++ List.replicate (1 - (lg_sl ([.ref a0])).length) Slot.unset).toArray = ls at hl ⊢
  have hl : lv_has ls 1 [(0, .ref a0)] := hl
  change W p l e (rmX1_trouble 0 0) s m _ below meth c s.heap [] 0 0 (QI G below (fun r v => v = u ∧ K r) _ s 0 0) (F0 m 0 ls [])
  unfold pX1_trouble at h
  refine lv_aload_n hx hb dX1_trouble_0 rfl (lv_at hl 0 rfl) ?_
  have hk_1 : kd u a0 = 1 := h.1
  have h := h.2
  refine g_getI X hw in_X1 hk_1 rfl 4 rfl (by decide) q477 (fun _ z => z) dX1_trouble_1 ?_
  exact g_iret X hw hr ⟨rfl, h⟩ (Nat.le_refl _) (Nat.le_refl _) dX1_trouble_4

/-! FifthCardModel.trouble()I -/
theorem ydX19_trouble : yX19_trouble.cls = "FifthCardModel" ∧ yX19_trouble.cls ≠ "java/lang/invoke/MethodHandle" ∧ yX19_trouble.cls ≠ "java/lang/invoke/VarHandle" ∧ (parseMethodDescriptor yX19_trouble.desc).map (fun d => d.parameters.length) = some 0 := by decide +kernel
def rmX19_trouble (mc ms : Nat) : Room := { frames := 0, cells := mc, slots := ms, locals := 0 }
set_option maxHeartbeats 4000000 in
theorem mX19_trouble (l : Launch) (G : GT) (u : Hp) (a0 : Nat) (K : Int32 → Hp → Prop) (h : pX19_trouble u a0 K) : Met l yX19_trouble (ws_ yX19_trouble cX19_trouble 1 (some .int)) (rmX19_trouble 0 0) (va_Pc [.ref a0] (GB G u)) (va_Qi K (fun u t => GH G u t.heap) (GA G)) 0 0 (GA G) := by
  refine Met.ofW (cc := cX19_trouble) (maxL := 1) (ret := (some .int)) (by decide) rfl ?_
  intro p e s m args below meth c s₁ B hml hv
  obtain ⟨rfl, hv⟩ := hv
  have X := Mc_of (own := RX19) B hml rfl hv
  have hw : GW G u s s.heap [] := ⟨hv.2.1, va_S.rf⟩
  have hr := B.returns
  obtain ⟨hx, hb, hml, hown, hts, -⟩ := id X
  have hl := lv_entry ([.ref a0]) (n := 1) (Nat.le_of_ble_eq_true rfl)
  rw [lg_entry_eq]
  generalize (lg_sl ([.ref a0]) ++ List.replicate (1 - (lg_sl ([.ref a0])).length) Slot.unset).toArray = ls at hl ⊢
  have hl : lv_has ls 1 [(0, .ref a0)] := hl
  change W p l e (rmX19_trouble 0 0) s m _ below meth c s.heap [] 0 0 (QI G below K _ s 0 0) (F0 m 0 ls [])
  unfold pX19_trouble at h
  refine lv_aload_n hx hb dX19_trouble_0 rfl (lv_at hl 0 rfl) ?_
  refine lv_iconst (v := 0) hx hb dX19_trouble_1 (by decide) ?_
  have hk_1 : kd u a0 = 16 := h.1
  have h := h.2
  refine g_putI (v := 0) X hw in_X19 tyX19_ok nmX19 hk_1 rfl 0 rfl (by decide) q1451 (fun _ z => z) rfl rfl rfl dX19_trouble_2 (fun H locs hw => ?_)
  refine lv_aload_n hx hb dX19_trouble_5 rfl (lv_at hl 0 rfl) ?_
  refine g_getI X hw in_X19 hk_1 rfl 1 rfl (by decide) q1452 (fun _ z => z) dX19_trouble_6 ?_
  exact g_iret X hw hr h (Nat.le_refl _) (Nat.le_refl _) dX19_trouble_9

