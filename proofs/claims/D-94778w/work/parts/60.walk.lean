/-! printed by tools/genparts.py: the walks (m..): the machine runs as the predicates say -/
set_option maxRecDepth 100000
/-! java/lang/Throwable.<init>()V -/
theorem ydJ0_init : yJ0_init.cls = "java/lang/Throwable" ∧ yJ0_init.cls ≠ "java/lang/invoke/MethodHandle" ∧ yJ0_init.cls ≠ "java/lang/invoke/VarHandle" ∧ (parseMethodDescriptor yJ0_init.desc).map (fun d => d.parameters.length) = some 0 := by decide +kernel
def rmJ0_init (mc ms : Nat) : Room := { frames := 1, cells := mc, slots := ms, locals := 20 }
set_option maxHeartbeats 4000000 in
theorem mJ0_init (l : Launch) (G : GT) (u : Hp) (a0 : Nat) (K : Hp → Prop) (h : pJ0_init u a0 K) : Met l yJ0_init (ws_ yJ0_init cJ0_init 1 none) (rmJ0_init 0 0) (va_Pc [.ref a0] (GB G u)) (va_Qv K (fun u t => GH G u t.heap) (GA G)) 0 0 (GA G) := by
  refine Met.ofW (cc := cJ0_init) (maxL := 1) (ret := none) (by decide) rfl ?_
  intro p e s m args below meth c s₁ B hml hv
  obtain ⟨rfl, hv⟩ := hv
  have X := Mc_of (own := RJ0) B hml rfl hv
  have hw : GW G u s s.heap [] := ⟨hv.2.1, va_S.rf⟩
  have hr := B.returns
  have hin : meth.name = "<init>" := (name_of_methodNamed B.named B.method).1
  obtain ⟨hx, hb, hml, hown, hts, -⟩ := id X
  have hl := lv_entry ([.ref a0]) (n := 1) (Nat.le_of_ble_eq_true rfl)
  rw [lg_entry_eq]
  generalize (lg_sl ([.ref a0]) ++ List.replicate (1 - (lg_sl ([.ref a0])).length) Slot.unset).toArray = ls at hl ⊢
  have hl : lv_has ls 1 [(0, .ref a0)] := hl
  change W p l e (rmJ0_init 0 0) s m _ below meth c s.heap [] 0 0 (QV G below K _ s 0 0) (F0 m 0 ls [])
  unfold pJ0_init at h
  refine lv_aload_n hx hb dJ0_init_0 rfl (lv_at hl 0 rfl) ?_
  refine W.objInit hx hb hown (hts _ q195) (hts _ q162) (hts _ q163) rfl (by rw [hml]; exact hl.1) rfl dJ0_init_1 (Nat.le_of_ble_eq_true rfl) (Nat.le_of_ble_eq_true rfl) ?_
  refine lv_aload_n hx hb dJ0_init_4 rfl (lv_at hl 0 rfl) ?_
  refine lv_aload_n hx hb dJ0_init_5 rfl (lv_at hl 0 rfl) ?_
  have hk_1 : isTh (kd u a0) := h.1
  have h := h.2
  refine g_putTh0 X hw (v := (some a0)) hk_1 q228 dJ0_init_6 (fun H locs hw => ?_)
  refine lv_aload_n hx hb dJ0_init_9 rfl (lv_at hl 0 rfl) ?_
  obtain ⟨o_2, he_o_2⟩ : ∃ z, z = Gst G 0 := ⟨_, rfl⟩
  have h := h o_2
  refine va_gets hx hb (X.2.2.2.2.2.2.1.2.2.2.2.2.2.2.2.1 0 _ rfl) hw.2 hown (hts _ q196) (fun _ z => z) dJ0_init_10 ?_
  rw [← he_o_2]
  refine g_putTh1 X hw (v := o_2) hk_1 q229 dJ0_init_13 (fun H locs hw => ?_)
  refine lv_aload_n hx hb dJ0_init_16 rfl (lv_at hl 0 rfl) ?_
  obtain ⟨o_3, he_o_3⟩ : ∃ z, z = Gst G 1 := ⟨_, rfl⟩
  have h := h o_3
  refine va_gets hx hb (X.2.2.2.2.2.2.1.2.2.2.2.2.2.2.2.1 1 _ rfl) hw.2 hown (hts _ q198) (fun _ z => z) dJ0_init_17 ?_
  rw [← he_o_3]
  refine g_putTh2 X hw (v := o_3) hk_1 q230 dJ0_init_20 (fun H locs hw => ?_)
  refine lv_aload_n hx hb dJ0_init_23 rfl (lv_at hl 0 rfl) ?_
  exact absurd h id

/-! java/lang/Throwable.<init>(Ljava/lang/String;Ljava/lang/Throwable;ZZ)V -/
theorem ydJ0_init_2 : yJ0_init_2.cls = "java/lang/Throwable" ∧ yJ0_init_2.cls ≠ "java/lang/invoke/MethodHandle" ∧ yJ0_init_2.cls ≠ "java/lang/invoke/VarHandle" ∧ (parseMethodDescriptor yJ0_init_2.desc).map (fun d => d.parameters.length) = some 4 := by decide +kernel
def rmJ0_init_2 (mc ms : Nat) : Room := { frames := 1, cells := mc, slots := ms, locals := 20 }
set_option maxHeartbeats 4000000 in
theorem mJ0_init_2 (l : Launch) (G : GT) (u : Hp) (a0 : Nat) (o1 : Option Nat) (o2 : Option Nat) (x3 : Int32) (x4 : Int32) (K : Hp → Prop) (h : pJ0_init_2 u a0 o1 o2 x3 x4 K) : Met l yJ0_init_2 (ws_ yJ0_init_2 cJ0_init_2 5 none) (rmJ0_init_2 0 0) (va_Pc [.ref a0, va_rf o1, va_rf o2, .int x3, .int x4] (GB G u)) (va_Qv K (fun u t => GH G u t.heap) (GA G)) 0 0 (GA G) := by
  refine Met.ofW (cc := cJ0_init_2) (maxL := 5) (ret := none) (by decide) rfl ?_
  intro p e s m args below meth c s₁ B hml hv
  obtain ⟨rfl, hv⟩ := hv
  have X := Mc_of (own := RJ0) B hml rfl hv
  have hw : GW G u s s.heap [] := ⟨hv.2.1, va_S.rf⟩
  have hr := B.returns
  have hin : meth.name = "<init>" := (name_of_methodNamed B.named B.method).1
  obtain ⟨hx, hb, hml, hown, hts, -⟩ := id X
  have hl : lv_has ((lg_sl ([.ref a0, va_rf o1, va_rf o2, .int x3, .int x4]) ++ List.replicate (5 - (lg_sl ([.ref a0, va_rf o1, va_rf o2, .int x3, .int x4])).length) Slot.unset).toArray) 5 [(0, .ref a0), (1, va_rf o1), (2, va_rf o2), (3, .int x3), (4, .int x4)] := by cases o1 <;> cases o2 <;> exact lv_entry _ (Nat.le_of_ble_eq_true rfl)
  rw [lg_entry_eq]
  generalize (lg_sl ([.ref a0, va_rf o1, va_rf o2, .int x3, .int x4]) ++ List.replicate (5 - (lg_sl ([.ref a0, va_rf o1, va_rf o2, .int x3, .int x4])).length) Slot.unset).toArray = ls at hl ⊢
  have hl : lv_has ls 5 [(0, .ref a0), (1, va_rf o1), (2, va_rf o2), (3, .int x3), (4, .int x4)] := hl
  change W p l e (rmJ0_init_2 0 0) s m _ below meth c s.heap [] 0 0 (QV G below K _ s 0 0) (F0 m 0 ls [])
  unfold pJ0_init_2 at h
  refine lv_aload_n hx hb dJ0_init_2_0 rfl (lv_at hl 0 rfl) ?_
  refine W.objInit hx hb hown (hts _ q195) (hts _ q162) (hts _ q163) rfl (by rw [hml]; exact hl.1) rfl dJ0_init_2_1 (Nat.le_of_ble_eq_true rfl) (Nat.le_of_ble_eq_true rfl) ?_
  refine lv_aload_n hx hb dJ0_init_2_4 rfl (lv_at hl 0 rfl) ?_
  refine lv_aload_n hx hb dJ0_init_2_5 rfl (lv_at hl 0 rfl) ?_
  have hk_1 : isTh (kd u a0) := h.1
  have h := h.2
  refine g_putTh0 X hw (v := (some a0)) hk_1 q228 dJ0_init_2_6 (fun H locs hw => ?_)
  refine lv_aload_n hx hb dJ0_init_2_9 rfl (lv_at hl 0 rfl) ?_
  obtain ⟨o_2, he_o_2⟩ : ∃ z, z = Gst G 0 := ⟨_, rfl⟩
  have h := h o_2
  refine va_gets hx hb (X.2.2.2.2.2.2.1.2.2.2.2.2.2.2.2.1 0 _ rfl) hw.2 hown (hts _ q196) (fun _ z => z) dJ0_init_2_10 ?_
  rw [← he_o_2]
  refine g_putTh1 X hw (v := o_2) hk_1 q229 dJ0_init_2_13 (fun H locs hw => ?_)
  refine lv_aload_n hx hb dJ0_init_2_16 rfl (lv_at hl 0 rfl) ?_
  obtain ⟨o_3, he_o_3⟩ : ∃ z, z = Gst G 1 := ⟨_, rfl⟩
  have h := h o_3
  refine va_gets hx hb (X.2.2.2.2.2.2.1.2.2.2.2.2.2.2.2.1 1 _ rfl) hw.2 hown (hts _ q198) (fun _ z => z) dJ0_init_2_17 ?_
  rw [← he_o_3]
  refine g_putTh2 X hw (v := o_3) hk_1 q230 dJ0_init_2_20 (fun H locs hw => ?_)
  refine lv_iload hx hb dJ0_init_2_23 (lv_at hl 4 rfl) ?_
  refine lv_if_eq (tgt := 36) hx hb dJ0_init_2_25 rfl (fun c_11 => ?_) (fun c_11 => ?_)
  · have h := h.1 c_11
    refine lv_aload_n hx hb dJ0_init_2_36 rfl (lv_at hl 0 rfl) ?_
    refine lv_null hx hb dJ0_init_2_37 ?_
    obtain ⟨u_4, e_5⟩ : ∃ v : Hp, v = (sFR (sFR (sFR u 300 a0 (some a0)) 301 a0 o_2) 302 a0 o_3) := ⟨_, rfl⟩
    have h := h u_4 e_5
    have hw : GW G u_4 s H locs := by rw [e_5]; exact hw
    have hk_6 : isTh (kd u_4 a0) := by rw [e_5]; exact hk_1
    refine g_putTh1 X hw (v := none) hk_6 q229 dJ0_init_2_38 (fun H locs hw => ?_)
    refine lv_aload_n hx hb dJ0_init_2_41 rfl (lv_at hl 0 rfl) ?_
    refine g_aload_nO hx hb dJ0_init_2_42 rfl (lv_at hl 1 rfl) ?_
    refine g_putTh3 X hw (v := o1) hk_6 q227 dJ0_init_2_43 (fun H locs hw => ?_)
    refine lv_aload_n hx hb dJ0_init_2_46 rfl (lv_at hl 0 rfl) ?_
    refine g_aload_nO hx hb dJ0_init_2_47 rfl (lv_at hl 2 rfl) ?_
    refine g_putTh0 X hw (v := o2) hk_6 q228 dJ0_init_2_48 (fun H locs hw => ?_)
    refine lv_iload_n hx hb dJ0_init_2_51 rfl (lv_at hl 3 rfl) ?_
    refine lv_if_ne (tgt := 60) hx hb dJ0_init_2_52 rfl (fun c_10 => ?_) (fun c_10 => ?_)
    · have h := h.2 c_10
      exact g_vret X hw hr h (Nat.le_refl _) (Nat.le_refl _) dJ0_init_2_60
    · have h := h.1 c_10
      refine lv_aload_n hx hb dJ0_init_2_55 rfl (lv_at hl 0 rfl) ?_
      refine lv_null hx hb dJ0_init_2_56 ?_
      obtain ⟨u_7, e_8⟩ : ∃ v : Hp, v = (sFR (sFR (sFR u_4 301 a0 none) 303 a0 o1) 300 a0 o2) := ⟨_, rfl⟩
      have h := h u_7 e_8
      have hw : GW G u_7 s H locs := by rw [e_8]; exact hw
      have hk_9 : isTh (kd u_7 a0) := by rw [e_8]; exact hk_6
      refine g_putTh2 X hw (v := none) hk_9 q230 dJ0_init_2_57 (fun H locs hw => ?_)
      exact g_vret X hw hr h (Nat.le_refl _) (Nat.le_refl _) dJ0_init_2_60
  · have h := h.2 c_11
    refine lv_aload_n hx hb dJ0_init_2_28 rfl (lv_at hl 0 rfl) ?_
    exact absurd h id

/-! java/lang/Exception.<init>(Ljava/lang/String;Ljava/lang/Throwable;ZZ)V -/
theorem ydJ1_init : yJ1_init.cls = "java/lang/Exception" ∧ yJ1_init.cls ≠ "java/lang/invoke/MethodHandle" ∧ yJ1_init.cls ≠ "java/lang/invoke/VarHandle" ∧ (parseMethodDescriptor yJ1_init.desc).map (fun d => d.parameters.length) = some 4 := by decide +kernel
def rmJ1_init (mc ms : Nat) : Room := { frames := 2, cells := mc, slots := ms, locals := 44 }
set_option maxHeartbeats 4000000 in
theorem mJ1_init (l : Launch) (G : GT) (u : Hp) (a0 : Nat) (o1 : Option Nat) (o2 : Option Nat) (x3 : Int32) (x4 : Int32) (K : Hp → Prop) (h : pJ1_init u a0 o1 o2 x3 x4 K) : Met l yJ1_init (ws_ yJ1_init cJ1_init 5 none) (rmJ1_init 0 0) (va_Pc [.ref a0, va_rf o1, va_rf o2, .int x3, .int x4] (GB G u)) (va_Qv K (fun u t => GH G u t.heap) (GA G)) 0 0 (GA G) := by
  refine Met.ofW (cc := cJ1_init) (maxL := 5) (ret := none) (by decide) rfl ?_
  intro p e s m args below meth c s₁ B hml hv
  obtain ⟨rfl, hv⟩ := hv
  have X := Mc_of (own := RJ1) B hml rfl hv
  have hw : GW G u s s.heap [] := ⟨hv.2.1, va_S.rf⟩
  have hr := B.returns
  have hin : meth.name = "<init>" := (name_of_methodNamed B.named B.method).1
  obtain ⟨hx, hb, hml, hown, hts, -⟩ := id X
  have hl : lv_has ((lg_sl ([.ref a0, va_rf o1, va_rf o2, .int x3, .int x4]) ++ List.replicate (5 - (lg_sl ([.ref a0, va_rf o1, va_rf o2, .int x3, .int x4])).length) Slot.unset).toArray) 5 [(0, .ref a0), (1, va_rf o1), (2, va_rf o2), (3, .int x3), (4, .int x4)] := by cases o1 <;> cases o2 <;> exact lv_entry _ (Nat.le_of_ble_eq_true rfl)
  rw [lg_entry_eq]
  generalize (lg_sl ([.ref a0, va_rf o1, va_rf o2, .int x3, .int x4]) ++ List.replicate (5 - (lg_sl ([.ref a0, va_rf o1, va_rf o2, .int x3, .int x4])).length) Slot.unset).toArray = ls at hl ⊢
  have hl : lv_has ls 5 [(0, .ref a0), (1, va_rf o1), (2, va_rf o2), (3, .int x3), (4, .int x4)] := hl
  change W p l e (rmJ1_init 0 0) s m _ below meth c s.heap [] 0 0 (QV G below K _ s 0 0) (F0 m 0 ls [])
  unfold pJ1_init at h
  refine lv_aload_n hx hb dJ1_init_0 rfl (lv_at hl 0 rfl) ?_
  refine g_aload_nO hx hb dJ1_init_1 rfl (lv_at hl 1 rfl) ?_
  refine g_aload_nO hx hb dJ1_init_2 rfl (lv_at hl 2 rfl) ?_
  refine lv_iload_n hx hb dJ1_init_3 rfl (lv_at hl 3 rfl) ?_
  refine lv_iload hx hb dJ1_init_4 (lv_at hl 4 rfl) ?_
  refine g_callv hw (g_I X hw (mJ0_init_2 l G _ _ _ _ _ _ _ h) 4 q221 q124 q219 q220 rfl rfl rfl ydJ0_init_2 ⟨Nat.le_of_ble_eq_true rfl, Nat.le_of_ble_eq_true rfl⟩ (As := [va_rf o1, va_rf o2, .int x3, .int x4]) (rest := []) rfl hl.1 rfl (Nat.le_of_ble_eq_true rfl) dJ1_init_6 ⟨Nat.le_refl _, Nat.le_refl _⟩) (fun u_1 H locs h hw => ?_)
  exact g_vret X hw hr h (Nat.le_refl _) (Nat.le_refl _) dJ1_init_9

/-! java/lang/Exception.<init>()V -/
theorem ydJ1_init_2 : yJ1_init_2.cls = "java/lang/Exception" ∧ yJ1_init_2.cls ≠ "java/lang/invoke/MethodHandle" ∧ yJ1_init_2.cls ≠ "java/lang/invoke/VarHandle" ∧ (parseMethodDescriptor yJ1_init_2.desc).map (fun d => d.parameters.length) = some 0 := by decide +kernel
def rmJ1_init_2 (mc ms : Nat) : Room := { frames := 2, cells := mc, slots := ms, locals := 40 }
set_option maxHeartbeats 4000000 in
theorem mJ1_init_2 (l : Launch) (G : GT) (u : Hp) (a0 : Nat) (K : Hp → Prop) (h : pJ1_init_2 u a0 K) : Met l yJ1_init_2 (ws_ yJ1_init_2 cJ1_init_2 1 none) (rmJ1_init_2 0 0) (va_Pc [.ref a0] (GB G u)) (va_Qv K (fun u t => GH G u t.heap) (GA G)) 0 0 (GA G) := by
  refine Met.ofW (cc := cJ1_init_2) (maxL := 1) (ret := none) (by decide) rfl ?_
  intro p e s m args below meth c s₁ B hml hv
  obtain ⟨rfl, hv⟩ := hv
  have X := Mc_of (own := RJ1) B hml rfl hv
  have hw : GW G u s s.heap [] := ⟨hv.2.1, va_S.rf⟩
  have hr := B.returns
  have hin : meth.name = "<init>" := (name_of_methodNamed B.named B.method).1
  obtain ⟨hx, hb, hml, hown, hts, -⟩ := id X
  have hl := lv_entry ([.ref a0]) (n := 1) (Nat.le_of_ble_eq_true rfl)
  rw [lg_entry_eq]
  generalize (lg_sl ([.ref a0]) ++ List.replicate (1 - (lg_sl ([.ref a0])).length) Slot.unset).toArray = ls at hl ⊢
  have hl : lv_has ls 1 [(0, .ref a0)] := hl
  change W p l e (rmJ1_init_2 0 0) s m _ below meth c s.heap [] 0 0 (QV G below K _ s 0 0) (F0 m 0 ls [])
  unfold pJ1_init_2 at h
  refine lv_aload_n hx hb dJ1_init_2_0 rfl (lv_at hl 0 rfl) ?_
  refine g_callv hw (g_I X hw (mJ0_init l G _ _ _ h) 0 q194 q124 q1441 q193 rfl rfl rfl ydJ0_init ⟨Nat.le_of_ble_eq_true rfl, Nat.le_of_ble_eq_true rfl⟩ (As := []) (rest := []) rfl hl.1 rfl (Nat.le_of_ble_eq_true rfl) dJ1_init_2_1 ⟨Nat.le_refl _, Nat.le_refl _⟩) (fun u_1 H locs h hw => ?_)
  exact g_vret X hw hr h (Nat.le_refl _) (Nat.le_refl _) dJ1_init_2_4

/-! java/lang/RuntimeException.<init>(Ljava/lang/String;Ljava/lang/Throwable;ZZ)V -/
theorem ydJ2_init : yJ2_init.cls = "java/lang/RuntimeException" ∧ yJ2_init.cls ≠ "java/lang/invoke/MethodHandle" ∧ yJ2_init.cls ≠ "java/lang/invoke/VarHandle" ∧ (parseMethodDescriptor yJ2_init.desc).map (fun d => d.parameters.length) = some 4 := by decide +kernel
def rmJ2_init (mc ms : Nat) : Room := { frames := 3, cells := mc, slots := ms, locals := 68 }
set_option maxHeartbeats 4000000 in
theorem mJ2_init (l : Launch) (G : GT) (u : Hp) (a0 : Nat) (o1 : Option Nat) (o2 : Option Nat) (x3 : Int32) (x4 : Int32) (K : Hp → Prop) (h : pJ2_init u a0 o1 o2 x3 x4 K) : Met l yJ2_init (ws_ yJ2_init cJ2_init 5 none) (rmJ2_init 0 0) (va_Pc [.ref a0, va_rf o1, va_rf o2, .int x3, .int x4] (GB G u)) (va_Qv K (fun u t => GH G u t.heap) (GA G)) 0 0 (GA G) := by
  refine Met.ofW (cc := cJ2_init) (maxL := 5) (ret := none) (by decide) rfl ?_
  intro p e s m args below meth c s₁ B hml hv
  obtain ⟨rfl, hv⟩ := hv
  have X := Mc_of (own := RJ2) B hml rfl hv
  have hw : GW G u s s.heap [] := ⟨hv.2.1, va_S.rf⟩
  have hr := B.returns
  have hin : meth.name = "<init>" := (name_of_methodNamed B.named B.method).1
  obtain ⟨hx, hb, hml, hown, hts, -⟩ := id X
  have hl : lv_has ((lg_sl ([.ref a0, va_rf o1, va_rf o2, .int x3, .int x4]) ++ List.replicate (5 - (lg_sl ([.ref a0, va_rf o1, va_rf o2, .int x3, .int x4])).length) Slot.unset).toArray) 5 [(0, .ref a0), (1, va_rf o1), (2, va_rf o2), (3, .int x3), (4, .int x4)] := by cases o1 <;> cases o2 <;> exact lv_entry _ (Nat.le_of_ble_eq_true rfl)
  rw [lg_entry_eq]
  generalize (lg_sl ([.ref a0, va_rf o1, va_rf o2, .int x3, .int x4]) ++ List.replicate (5 - (lg_sl ([.ref a0, va_rf o1, va_rf o2, .int x3, .int x4])).length) Slot.unset).toArray = ls at hl ⊢
  have hl : lv_has ls 5 [(0, .ref a0), (1, va_rf o1), (2, va_rf o2), (3, .int x3), (4, .int x4)] := hl
  change W p l e (rmJ2_init 0 0) s m _ below meth c s.heap [] 0 0 (QV G below K _ s 0 0) (F0 m 0 ls [])
  unfold pJ2_init at h
  refine lv_aload_n hx hb dJ2_init_0 rfl (lv_at hl 0 rfl) ?_
  refine g_aload_nO hx hb dJ2_init_1 rfl (lv_at hl 1 rfl) ?_
  refine g_aload_nO hx hb dJ2_init_2 rfl (lv_at hl 2 rfl) ?_
  refine lv_iload_n hx hb dJ2_init_3 rfl (lv_at hl 3 rfl) ?_
  refine lv_iload hx hb dJ2_init_4 (lv_at hl 4 rfl) ?_
  refine g_callv hw (g_I X hw (mJ1_init l G _ _ _ _ _ _ _ h) 4 q218 q125 q216 q217 rfl rfl rfl ydJ1_init ⟨Nat.le_of_ble_eq_true rfl, Nat.le_of_ble_eq_true rfl⟩ (As := [va_rf o1, va_rf o2, .int x3, .int x4]) (rest := []) rfl hl.1 rfl (Nat.le_of_ble_eq_true rfl) dJ2_init_6 ⟨Nat.le_refl _, Nat.le_refl _⟩) (fun u_1 H locs h hw => ?_)
  exact g_vret X hw hr h (Nat.le_refl _) (Nat.le_refl _) dJ2_init_9

/-! java/lang/RuntimeException.<init>()V -/
theorem ydJ2_init_2 : yJ2_init_2.cls = "java/lang/RuntimeException" ∧ yJ2_init_2.cls ≠ "java/lang/invoke/MethodHandle" ∧ yJ2_init_2.cls ≠ "java/lang/invoke/VarHandle" ∧ (parseMethodDescriptor yJ2_init_2.desc).map (fun d => d.parameters.length) = some 0 := by decide +kernel
def rmJ2_init_2 (mc ms : Nat) : Room := { frames := 3, cells := mc, slots := ms, locals := 60 }
set_option maxHeartbeats 4000000 in
theorem mJ2_init_2 (l : Launch) (G : GT) (u : Hp) (a0 : Nat) (K : Hp → Prop) (h : pJ2_init_2 u a0 K) : Met l yJ2_init_2 (ws_ yJ2_init_2 cJ2_init_2 1 none) (rmJ2_init_2 0 0) (va_Pc [.ref a0] (GB G u)) (va_Qv K (fun u t => GH G u t.heap) (GA G)) 0 0 (GA G) := by
  refine Met.ofW (cc := cJ2_init_2) (maxL := 1) (ret := none) (by decide) rfl ?_
  intro p e s m args below meth c s₁ B hml hv
  obtain ⟨rfl, hv⟩ := hv
  have X := Mc_of (own := RJ2) B hml rfl hv
  have hw : GW G u s s.heap [] := ⟨hv.2.1, va_S.rf⟩
  have hr := B.returns
  have hin : meth.name = "<init>" := (name_of_methodNamed B.named B.method).1
  obtain ⟨hx, hb, hml, hown, hts, -⟩ := id X
  have hl := lv_entry ([.ref a0]) (n := 1) (Nat.le_of_ble_eq_true rfl)
  rw [lg_entry_eq]
  generalize (lg_sl ([.ref a0]) ++ List.replicate (1 - (lg_sl ([.ref a0])).length) Slot.unset).toArray = ls at hl ⊢
  have hl : lv_has ls 1 [(0, .ref a0)] := hl
  change W p l e (rmJ2_init_2 0 0) s m _ below meth c s.heap [] 0 0 (QV G below K _ s 0 0) (F0 m 0 ls [])
  unfold pJ2_init_2 at h
  refine lv_aload_n hx hb dJ2_init_2_0 rfl (lv_at hl 0 rfl) ?_
  refine g_callv hw (g_I X hw (mJ1_init_2 l G _ _ _ h) 0 q1440 q125 q1438 q1439 rfl rfl rfl ydJ1_init_2 ⟨Nat.le_of_ble_eq_true rfl, Nat.le_of_ble_eq_true rfl⟩ (As := []) (rest := []) rfl hl.1 rfl (Nat.le_of_ble_eq_true rfl) dJ2_init_2_1 ⟨Nat.le_refl _, Nat.le_refl _⟩) (fun u_1 H locs h hw => ?_)
  exact g_vret X hw hr h (Nat.le_refl _) (Nat.le_refl _) dJ2_init_2_4

/-! java/lang/String.isLatin1()Z -/
theorem ydJ3_isLatin1 : yJ3_isLatin1.cls = "java/lang/String" ∧ yJ3_isLatin1.cls ≠ "java/lang/invoke/MethodHandle" ∧ yJ3_isLatin1.cls ≠ "java/lang/invoke/VarHandle" ∧ (parseMethodDescriptor yJ3_isLatin1.desc).map (fun d => d.parameters.length) = some 0 := by decide +kernel
def rmJ3_isLatin1 (mc ms : Nat) : Room := { frames := 0, cells := mc, slots := ms, locals := 0 }
set_option maxHeartbeats 4000000 in
theorem mJ3_isLatin1 (l : Launch) (G : GT) (u : Hp) (a0 : Nat) (K : Int32 → Prop) (h : pJ3_isLatin1 u a0 K) : Met l yJ3_isLatin1 (ws_ yJ3_isLatin1 cJ3_isLatin1 1 (some .boolean)) (rmJ3_isLatin1 0 0) (va_Pc [.ref a0] (GB G u)) (va_Qi (fun r v => v = u ∧ K r) (fun u t => GH G u t.heap) (GA G)) 0 0 (GA G) := by
  refine Met.ofW (cc := cJ3_isLatin1) (maxL := 1) (ret := (some .boolean)) (by decide) rfl ?_
  intro p e s m args below meth c s₁ B hml hv
  obtain ⟨rfl, hv⟩ := hv
  have X := Mc_of (own := RJ3) B hml rfl hv
  have hw : GW G u s s.heap [] := ⟨hv.2.1, va_S.rf⟩
  have hr := B.returns
  obtain ⟨hx, hb, hml, hown, hts, -⟩ := id X
  have hl := lv_entry ([.ref a0]) (n := 1) (Nat.le_of_ble_eq_true rfl)
  rw [lg_entry_eq]
  generalize (lg_sl ([.ref a0]) ++ List.replicate (1 - (lg_sl ([.ref a0])).length) Slot.unset).toArray = ls at hl ⊢
  have hl : lv_has ls 1 [(0, .ref a0)] := hl
  change W p l e (rmJ3_isLatin1 0 0) s m _ below meth c s.heap [] 0 0 (QI G below (fun r v => v = u ∧ K r) _ s 0 0) (F0 m 0 ls [])
  unfold pJ3_isLatin1 at h
  refine va_gets hx hb (X.2.2.2.2.2.2.1.2.2.2.2.2.2.2.1 _ (List.mem_of_getElem? (i := 0) rfl)) hw.2 hown (hts _ q673) (fun _ z => z) dJ3_isLatin1_0 ?_
  refine lv_if_eq (tgt := 17) hx hb dJ3_isLatin1_3 rfl (fun c_3 => ?_) (fun c_3 => ?_)
  · first | exact absurd c_3 (by decide) | exact absurd (by decide) c_3
  · refine lv_aload_n hx hb dJ3_isLatin1_6 rfl (lv_at hl 0 rfl) ?_
    have hk_1 : kd u a0 = 21 ∨ kd u a0 = 201 := h.1
    have h := h.2
    refine g_getSc X hw hk_1 q718 dJ3_isLatin1_7 ?_
    refine lv_if_ne (tgt := 17) hx hb dJ3_isLatin1_10 rfl (fun c_2 => ?_) (fun c_2 => ?_)
    · have h := h.2 c_2
      refine lv_iconst (v := 0) hx hb dJ3_isLatin1_17 (by decide) ?_
      exact g_zret X hw hr rfl ⟨rfl, h⟩ (Nat.le_refl _) (Nat.le_refl _) dJ3_isLatin1_18
    · have h := h.1 c_2
      refine lv_iconst (v := 1) hx hb dJ3_isLatin1_13 (by decide) ?_
      refine lv_goto (tgt := 18) hx hb dJ3_isLatin1_14 rfl ?_
      exact g_zret X hw hr rfl ⟨rfl, h⟩ (Nat.le_refl _) (Nat.le_refl _) dJ3_isLatin1_18

/-! jdk/internal/util/Preconditions.checkIndex(IILjava/util/function/BiFunction;)I -/
theorem ydJ4_checkIndex : yJ4_checkIndex.cls = "jdk/internal/util/Preconditions" ∧ yJ4_checkIndex.cls ≠ "java/lang/invoke/MethodHandle" ∧ yJ4_checkIndex.cls ≠ "java/lang/invoke/VarHandle" ∧ (parseMethodDescriptor yJ4_checkIndex.desc).map (fun d => d.parameters.length) = some 3 := by decide +kernel
def rmJ4_checkIndex (mc ms : Nat) : Room := { frames := 0, cells := mc, slots := ms, locals := 0 }
set_option maxHeartbeats 4000000 in
theorem mJ4_checkIndex (l : Launch) (G : GT) (u : Hp) (x0 : Int32) (x1 : Int32) (o2 : Option Nat) (K : Int32 → Prop) (h : pJ4_checkIndex x0 x1 o2 K) : Met l yJ4_checkIndex (ws_ yJ4_checkIndex cJ4_checkIndex 3 (some .int)) (rmJ4_checkIndex 0 0) (va_Pc [.int x0, .int x1, va_rf o2] (GB G u)) (va_Qi (fun r v => v = u ∧ K r) (fun u t => GH G u t.heap) (GA G)) 0 0 (GA G) := by
  refine Met.ofW (cc := cJ4_checkIndex) (maxL := 3) (ret := (some .int)) (by decide) rfl ?_
  intro p e s m args below meth c s₁ B hml hv
  obtain ⟨rfl, hv⟩ := hv
  have X := Mc_of (own := RJ4) B hml rfl hv
  have hw : GW G u s s.heap [] := ⟨hv.2.1, va_S.rf⟩
  have hr := B.returns
  obtain ⟨hx, hb, hml, hown, hts, -⟩ := id X
  have hl : lv_has ((lg_sl ([.int x0, .int x1, va_rf o2]) ++ List.replicate (3 - (lg_sl ([.int x0, .int x1, va_rf o2])).length) Slot.unset).toArray) 3 [(0, .int x0), (1, .int x1), (2, va_rf o2)] := by cases o2 <;> exact lv_entry _ (Nat.le_of_ble_eq_true rfl)
  rw [lg_entry_eq]
  generalize (lg_sl ([.int x0, .int x1, va_rf o2]) ++ List.replicate (3 - (lg_sl ([.int x0, .int x1, va_rf o2])).length) Slot.unset).toArray = ls at hl ⊢
  have hl : lv_has ls 3 [(0, .int x0), (1, .int x1), (2, va_rf o2)] := hl
  change W p l e (rmJ4_checkIndex 0 0) s m _ below meth c s.heap [] 0 0 (QI G below (fun r v => v = u ∧ K r) _ s 0 0) (F0 m 0 ls [])
  unfold pJ4_checkIndex at h
  refine lv_iload_n hx hb dJ4_checkIndex_0 rfl (lv_at hl 0 rfl) ?_
  refine lv_if_lt (tgt := 9) hx hb dJ4_checkIndex_1 rfl (fun c_2 => ?_) (fun c_2 => ?_)
  · have h := h.1 c_2
    refine g_aload_nO hx hb dJ4_checkIndex_9 rfl (lv_at hl 2 rfl) ?_
    refine lv_iload_n hx hb dJ4_checkIndex_10 rfl (lv_at hl 0 rfl) ?_
    refine lv_iload_n hx hb dJ4_checkIndex_11 rfl (lv_at hl 1 rfl) ?_
    exact absurd h id
  · have h := h.2 c_2
    refine lv_iload_n hx hb dJ4_checkIndex_4 rfl (lv_at hl 0 rfl) ?_
    refine lv_iload_n hx hb dJ4_checkIndex_5 rfl (lv_at hl 1 rfl) ?_
    refine lv_icmp_lt (tgt := 16) hx hb dJ4_checkIndex_6 rfl (fun c_1 => ?_) (fun c_1 => ?_)
    · have h := h.1 c_1
      refine lv_iload_n hx hb dJ4_checkIndex_16 rfl (lv_at hl 0 rfl) ?_
      exact g_iret X hw hr ⟨rfl, h⟩ (Nat.le_refl _) (Nat.le_refl _) dJ4_checkIndex_17
    · have h := h.2 c_1
      refine g_aload_nO hx hb dJ4_checkIndex_9 rfl (lv_at hl 2 rfl) ?_
      refine lv_iload_n hx hb dJ4_checkIndex_10 rfl (lv_at hl 0 rfl) ?_
      refine lv_iload_n hx hb dJ4_checkIndex_11 rfl (lv_at hl 1 rfl) ?_
      exact absurd h id

/-! java/lang/String.checkIndex(II)V -/
theorem ydJ3_checkIndex : yJ3_checkIndex.cls = "java/lang/String" ∧ yJ3_checkIndex.cls ≠ "java/lang/invoke/MethodHandle" ∧ yJ3_checkIndex.cls ≠ "java/lang/invoke/VarHandle" ∧ (parseMethodDescriptor yJ3_checkIndex.desc).map (fun d => d.parameters.length) = some 2 := by decide +kernel
def rmJ3_checkIndex (mc ms : Nat) : Room := { frames := 1, cells := mc, slots := ms, locals := 22 }
set_option maxHeartbeats 4000000 in
theorem mJ3_checkIndex (l : Launch) (G : GT) (u : Hp) (x0 : Int32) (x1 : Int32) (K : Prop) (h : pJ3_checkIndex x0 x1 K) : Met l yJ3_checkIndex (ws_ yJ3_checkIndex cJ3_checkIndex 2 none) (rmJ3_checkIndex 0 0) (va_Pc [.int x0, .int x1] (GB G u)) (va_Qv (fun v => v = u ∧ K) (fun u t => GH G u t.heap) (GA G)) 0 0 (GA G) := by
  refine Met.ofW (cc := cJ3_checkIndex) (maxL := 2) (ret := none) (by decide) rfl ?_
  intro p e s m args below meth c s₁ B hml hv
  obtain ⟨rfl, hv⟩ := hv
  have X := Mc_of (own := RJ3) B hml rfl hv
  have hw : GW G u s s.heap [] := ⟨hv.2.1, va_S.rf⟩
  have hr := B.returns
  obtain ⟨hx, hb, hml, hown, hts, -⟩ := id X
  have hl := lv_entry ([.int x0, .int x1]) (n := 2) (Nat.le_of_ble_eq_true rfl)
  rw [lg_entry_eq]
  generalize (lg_sl ([.int x0, .int x1]) ++ List.replicate (2 - (lg_sl ([.int x0, .int x1])).length) Slot.unset).toArray = ls at hl ⊢
  have hl : lv_has ls 2 [(0, .int x0), (1, .int x1)] := hl
  change W p l e (rmJ3_checkIndex 0 0) s m _ below meth c s.heap [] 0 0 (QV G below (fun v => v = u ∧ K) _ s 0 0) (F0 m 0 ls [])
  unfold pJ3_checkIndex at h
  refine lv_iload_n hx hb dJ3_checkIndex_0 rfl (lv_at hl 0 rfl) ?_
  refine lv_iload_n hx hb dJ3_checkIndex_1 rfl (lv_at hl 1 rfl) ?_
  obtain ⟨o_1, he_o_1⟩ : ∃ z, z = Gst G 2 := ⟨_, rfl⟩
  have h := h o_1
  refine va_gets hx hb (X.2.2.2.2.2.2.1.2.2.2.2.2.2.2.2.1 2 _ rfl) hw.2 hown (hts _ q663) (fun _ z => z) dJ3_checkIndex_2 ?_
  rw [← he_o_1]
  refine g_callio hw (g_S X hw (mJ4_checkIndex l G _ _ _ _ _ h) 3 (lw_S q1718 q1719 q146 q1720) rfl rfl ydJ4_checkIndex ⟨Nat.le_of_ble_eq_true rfl, Nat.le_of_ble_eq_true rfl⟩ (As := [.int x0, .int x1, va_rf o_1]) (rest := []) rfl hl.1 rfl (Nat.le_of_ble_eq_true rfl) dJ3_checkIndex_5 ⟨Nat.le_refl _, Nat.le_refl _⟩) (fun r_2 H locs h hw => ?_)
  refine lv_pop hx hb dJ3_checkIndex_8 rfl ?_
  exact g_vret X hw hr ⟨rfl, h⟩ (Nat.le_refl _) (Nat.le_refl _) dJ3_checkIndex_9

/-! java/lang/StringLatin1.charAt([BI)C -/
theorem ydJ6_charAt : yJ6_charAt.cls = "java/lang/StringLatin1" ∧ yJ6_charAt.cls ≠ "java/lang/invoke/MethodHandle" ∧ yJ6_charAt.cls ≠ "java/lang/invoke/VarHandle" ∧ (parseMethodDescriptor yJ6_charAt.desc).map (fun d => d.parameters.length) = some 2 := by decide +kernel
def rmJ6_charAt (mc ms : Nat) : Room := { frames := 2, cells := mc, slots := ms, locals := 43 }
set_option maxHeartbeats 4000000 in
theorem mJ6_charAt (l : Launch) (G : GT) (u : Hp) (a0 : Nat) (x1 : Int32) (K : Int32 → Prop) (h : pJ6_charAt u a0 x1 K) : Met l yJ6_charAt (ws_ yJ6_charAt cJ6_charAt 2 (some .char)) (rmJ6_charAt 0 0) (va_Pc [.ref a0, .int x1] (GB G u)) (va_Qi (fun r v => v = u ∧ K r) (fun u t => GH G u t.heap) (GA G)) 0 0 (GA G) := by
  refine Met.ofW (cc := cJ6_charAt) (maxL := 2) (ret := (some .char)) (by decide) rfl ?_
  intro p e s m args below meth c s₁ B hml hv
  obtain ⟨rfl, hv⟩ := hv
  have X := Mc_of (own := RJ6) B hml rfl hv
  have hw : GW G u s s.heap [] := ⟨hv.2.1, va_S.rf⟩
  have hr := B.returns
  obtain ⟨hx, hb, hml, hown, hts, -⟩ := id X
  have hl := lv_entry ([.ref a0, .int x1]) (n := 2) (Nat.le_of_ble_eq_true rfl)
  rw [lg_entry_eq]
  generalize (lg_sl ([.ref a0, .int x1]) ++ List.replicate (2 - (lg_sl ([.ref a0, .int x1])).length) Slot.unset).toArray = ls at hl ⊢
  have hl : lv_has ls 2 [(0, .ref a0), (1, .int x1)] := hl
  change W p l e (rmJ6_charAt 0 0) s m _ below meth c s.heap [] 0 0 (QI G below (fun r v => v = u ∧ K r) _ s 0 0) (F0 m 0 ls [])
  unfold pJ6_charAt at h
  refine lv_iload_n hx hb dJ6_charAt_0 rfl (lv_at hl 1 rfl) ?_
  refine lv_aload_n hx hb dJ6_charAt_1 rfl (lv_at hl 0 rfl) ?_
  have hk_1 : kd u a0 = 102 ∨ kd u a0 = 202 := h.1
  have h := h.2
  refine g_blen X hw hk_1 dJ6_charAt_2 ?_
  refine g_callvo hw (g_S X hw (mJ3_checkIndex l G _ _ _ _ h) 2 (lw_S q1715 q1716 q145 q1717) rfl rfl ydJ3_checkIndex ⟨Nat.le_of_ble_eq_true rfl, Nat.le_of_ble_eq_true rfl⟩ (As := [.int x1, .int (nI (ln u a0))]) (rest := []) rfl hl.1 rfl (Nat.le_of_ble_eq_true rfl) dJ6_charAt_3 ⟨Nat.le_refl _, Nat.le_refl _⟩) (fun  H locs h hw => ?_)
  refine lv_aload_n hx hb dJ6_charAt_6 rfl (lv_at hl 0 rfl) ?_
  refine lv_iload_n hx hb dJ6_charAt_7 rfl (lv_at hl 1 rfl) ?_
  refine g_bald X hw hk_1 h.1 dJ6_charAt_8 ?_
  have h := h.2
  refine lv_sipush (v := 255) hx hb dJ6_charAt_9 (by decide) ?_
  refine lv_iand hx hb dJ6_charAt_12 ?_
  refine lv_i2c hx hb dJ6_charAt_13 rfl ?_
  exact g_zret X hw hr h.1 ⟨rfl, h.2⟩ (Nat.le_refl _) (Nat.le_refl _) dJ6_charAt_14

/-! java/lang/String.charAt(I)C -/
theorem ydJ3_charAt : yJ3_charAt.cls = "java/lang/String" ∧ yJ3_charAt.cls ≠ "java/lang/invoke/MethodHandle" ∧ yJ3_charAt.cls ≠ "java/lang/invoke/VarHandle" ∧ (parseMethodDescriptor yJ3_charAt.desc).map (fun d => d.parameters.length) = some 1 := by decide +kernel
def rmJ3_charAt (mc ms : Nat) : Room := { frames := 3, cells := mc, slots := ms, locals := 64 }
set_option maxHeartbeats 4000000 in
theorem mJ3_charAt (l : Launch) (G : GT) (u : Hp) (a0 : Nat) (x1 : Int32) (K : Int32 → Prop) (h : pJ3_charAt u a0 x1 K) : Met l yJ3_charAt (ws_ yJ3_charAt cJ3_charAt 2 (some .char)) (rmJ3_charAt 0 0) (va_Pc [.ref a0, .int x1] (GB G u)) (va_Qi (fun r v => v = u ∧ K r) (fun u t => GH G u t.heap) (GA G)) 0 0 (GA G) := by
  refine Met.ofW (cc := cJ3_charAt) (maxL := 2) (ret := (some .char)) (by decide) rfl ?_
  intro p e s m args below meth c s₁ B hml hv
  obtain ⟨rfl, hv⟩ := hv
  have X := Mc_of (own := RJ3) B hml rfl hv
  have hw : GW G u s s.heap [] := ⟨hv.2.1, va_S.rf⟩
  have hr := B.returns
  obtain ⟨hx, hb, hml, hown, hts, -⟩ := id X
  have hl := lv_entry ([.ref a0, .int x1]) (n := 2) (Nat.le_of_ble_eq_true rfl)
  rw [lg_entry_eq]
  generalize (lg_sl ([.ref a0, .int x1]) ++ List.replicate (2 - (lg_sl ([.ref a0, .int x1])).length) Slot.unset).toArray = ls at hl ⊢
  have hl : lv_has ls 2 [(0, .ref a0), (1, .int x1)] := hl
  change W p l e (rmJ3_charAt 0 0) s m _ below meth c s.heap [] 0 0 (QI G below (fun r v => v = u ∧ K r) _ s 0 0) (F0 m 0 ls [])
  unfold pJ3_charAt at h
  refine lv_aload_n hx hb dJ3_charAt_0 rfl (lv_at hl 0 rfl) ?_
  have hk_1 : kd u a0 = 21 ∨ kd u a0 = 201 := h.1
  have h := h.2
  refine g_callio hw (g_V X hw (mJ3_isLatin1 l G _ _ _ h) 0 (lw_V q750 q751 q752 q145 q753) rfl rfl ydJ3_isLatin1 ⟨Nat.le_of_ble_eq_true rfl, Nat.le_of_ble_eq_true rfl⟩ (g_recvS X hw hk_1) (As := []) (rest := []) rfl hl.1 rfl (Nat.le_of_ble_eq_true rfl) dJ3_charAt_1 ⟨Nat.le_refl _, Nat.le_refl _⟩) (fun r_2 H locs h hw => ?_)
  refine lv_if_eq (tgt := 16) hx hb dJ3_charAt_4 rfl (fun c_8 => ?_) (fun c_8 => ?_)
  · have h := h.1 c_8
    refine lv_aload_n hx hb dJ3_charAt_16 rfl (lv_at hl 0 rfl) ?_
    obtain ⟨b_3, e_4, h⟩ := h
    refine g_getSv X hw hk_1 q717 e_4 dJ3_charAt_17 ?_
    refine lv_iload_n hx hb dJ3_charAt_20 rfl (lv_at hl 1 rfl) ?_
    exact absurd h id
  · have h := h.2 c_8
    refine lv_aload_n hx hb dJ3_charAt_7 rfl (lv_at hl 0 rfl) ?_
    obtain ⟨b_5, e_6, h⟩ := h
    refine g_getSv X hw hk_1 q717 e_6 dJ3_charAt_8 ?_
    refine lv_iload_n hx hb dJ3_charAt_11 rfl (lv_at hl 1 rfl) ?_
    refine g_callio hw (g_S X hw (mJ6_charAt l G _ _ _ _ h) 2 (lw_S q1712 q1713 q148 q1714) rfl rfl ydJ6_charAt ⟨Nat.le_of_ble_eq_true rfl, Nat.le_of_ble_eq_true rfl⟩ (As := [.ref b_5, .int x1]) (rest := []) rfl hl.1 rfl (Nat.le_of_ble_eq_true rfl) dJ3_charAt_12 ⟨Nat.le_refl _, Nat.le_refl _⟩) (fun r_7 H locs h hw => ?_)
    exact g_zret X hw hr h.1 ⟨rfl, h.2⟩ (Nat.le_refl _) (Nat.le_refl _) dJ3_charAt_15

/-! jdk/internal/util/Preconditions.checkFromIndexSize(IIILjava/util/function/BiFunction;)I -/
theorem ydJ4_checkFromIndexSize : yJ4_checkFromIndexSize.cls = "jdk/internal/util/Preconditions" ∧ yJ4_checkFromIndexSize.cls ≠ "java/lang/invoke/MethodHandle" ∧ yJ4_checkFromIndexSize.cls ≠ "java/lang/invoke/VarHandle" ∧ (parseMethodDescriptor yJ4_checkFromIndexSize.desc).map (fun d => d.parameters.length) = some 4 := by decide +kernel
def rmJ4_checkFromIndexSize (mc ms : Nat) : Room := { frames := 0, cells := mc, slots := ms, locals := 0 }
set_option maxHeartbeats 4000000 in
theorem mJ4_checkFromIndexSize (l : Launch) (G : GT) (u : Hp) (x0 : Int32) (x1 : Int32) (x2 : Int32) (o3 : Option Nat) (K : Int32 → Prop) (h : pJ4_checkFromIndexSize x0 x1 x2 o3 K) : Met l yJ4_checkFromIndexSize (ws_ yJ4_checkFromIndexSize cJ4_checkFromIndexSize 4 (some .int)) (rmJ4_checkFromIndexSize 0 0) (va_Pc [.int x0, .int x1, .int x2, va_rf o3] (GB G u)) (va_Qi (fun r v => v = u ∧ K r) (fun u t => GH G u t.heap) (GA G)) 0 0 (GA G) := by
  refine Met.ofW (cc := cJ4_checkFromIndexSize) (maxL := 4) (ret := (some .int)) (by decide) rfl ?_
  intro p e s m args below meth c s₁ B hml hv
  obtain ⟨rfl, hv⟩ := hv
  have X := Mc_of (own := RJ4) B hml rfl hv
  have hw : GW G u s s.heap [] := ⟨hv.2.1, va_S.rf⟩
  have hr := B.returns
  obtain ⟨hx, hb, hml, hown, hts, -⟩ := id X
  have hl : lv_has ((lg_sl ([.int x0, .int x1, .int x2, va_rf o3]) ++ List.replicate (4 - (lg_sl ([.int x0, .int x1, .int x2, va_rf o3])).length) Slot.unset).toArray) 4 [(0, .int x0), (1, .int x1), (2, .int x2), (3, va_rf o3)] := by cases o3 <;> exact lv_entry _ (Nat.le_of_ble_eq_true rfl)
  rw [lg_entry_eq]
  generalize (lg_sl ([.int x0, .int x1, .int x2, va_rf o3]) ++ List.replicate (4 - (lg_sl ([.int x0, .int x1, .int x2, va_rf o3])).length) Slot.unset).toArray = ls at hl ⊢
  have hl : lv_has ls 4 [(0, .int x0), (1, .int x1), (2, .int x2), (3, va_rf o3)] := hl
  change W p l e (rmJ4_checkFromIndexSize 0 0) s m _ below meth c s.heap [] 0 0 (QI G below (fun r v => v = u ∧ K r) _ s 0 0) (F0 m 0 ls [])
  unfold pJ4_checkFromIndexSize at h
  refine lv_iload_n hx hb dJ4_checkFromIndexSize_0 rfl (lv_at hl 2 rfl) ?_
  refine lv_iload_n hx hb dJ4_checkFromIndexSize_1 rfl (lv_at hl 0 rfl) ?_
  refine lv_ior hx hb dJ4_checkFromIndexSize_2 ?_
  refine lv_iload_n hx hb dJ4_checkFromIndexSize_3 rfl (lv_at hl 1 rfl) ?_
  refine lv_ior hx hb dJ4_checkFromIndexSize_4 ?_
  refine lv_if_lt (tgt := 15) hx hb dJ4_checkFromIndexSize_5 rfl (fun c_2 => ?_) (fun c_2 => ?_)
  · have h := h.1 c_2
    refine g_aload_nO hx hb dJ4_checkFromIndexSize_15 rfl (lv_at hl 3 rfl) ?_
    refine lv_iload_n hx hb dJ4_checkFromIndexSize_16 rfl (lv_at hl 0 rfl) ?_
    refine lv_iload_n hx hb dJ4_checkFromIndexSize_17 rfl (lv_at hl 1 rfl) ?_
    refine lv_iload_n hx hb dJ4_checkFromIndexSize_18 rfl (lv_at hl 2 rfl) ?_
    exact absurd h id
  · have h := h.2 c_2
    refine lv_iload_n hx hb dJ4_checkFromIndexSize_8 rfl (lv_at hl 1 rfl) ?_
    refine lv_iload_n hx hb dJ4_checkFromIndexSize_9 rfl (lv_at hl 2 rfl) ?_
    refine lv_iload_n hx hb dJ4_checkFromIndexSize_10 rfl (lv_at hl 0 rfl) ?_
    refine lv_isub hx hb dJ4_checkFromIndexSize_11 ?_
    refine lv_icmp_le (tgt := 23) hx hb dJ4_checkFromIndexSize_12 rfl (fun c_1 => ?_) (fun c_1 => ?_)
    · have h := h.1 c_1
      refine lv_iload_n hx hb dJ4_checkFromIndexSize_23 rfl (lv_at hl 0 rfl) ?_
      exact g_iret X hw hr ⟨rfl, h⟩ (Nat.le_refl _) (Nat.le_refl _) dJ4_checkFromIndexSize_24
    · have h := h.2 c_1
      refine g_aload_nO hx hb dJ4_checkFromIndexSize_15 rfl (lv_at hl 3 rfl) ?_
      refine lv_iload_n hx hb dJ4_checkFromIndexSize_16 rfl (lv_at hl 0 rfl) ?_
      refine lv_iload_n hx hb dJ4_checkFromIndexSize_17 rfl (lv_at hl 1 rfl) ?_
      refine lv_iload_n hx hb dJ4_checkFromIndexSize_18 rfl (lv_at hl 2 rfl) ?_
      exact absurd h id

/-! java/lang/String.checkBoundsOffCount(III)I -/
theorem ydJ3_checkBoundsOffCount : yJ3_checkBoundsOffCount.cls = "java/lang/String" ∧ yJ3_checkBoundsOffCount.cls ≠ "java/lang/invoke/MethodHandle" ∧ yJ3_checkBoundsOffCount.cls ≠ "java/lang/invoke/VarHandle" ∧ (parseMethodDescriptor yJ3_checkBoundsOffCount.desc).map (fun d => d.parameters.length) = some 3 := by decide +kernel
def rmJ3_checkBoundsOffCount (mc ms : Nat) : Room := { frames := 1, cells := mc, slots := ms, locals := 23 }
set_option maxHeartbeats 4000000 in
theorem mJ3_checkBoundsOffCount (l : Launch) (G : GT) (u : Hp) (x0 : Int32) (x1 : Int32) (x2 : Int32) (K : Int32 → Prop) (h : pJ3_checkBoundsOffCount x0 x1 x2 K) : Met l yJ3_checkBoundsOffCount (ws_ yJ3_checkBoundsOffCount cJ3_checkBoundsOffCount 3 (some .int)) (rmJ3_checkBoundsOffCount 0 0) (va_Pc [.int x0, .int x1, .int x2] (GB G u)) (va_Qi (fun r v => v = u ∧ K r) (fun u t => GH G u t.heap) (GA G)) 0 0 (GA G) := by
  refine Met.ofW (cc := cJ3_checkBoundsOffCount) (maxL := 3) (ret := (some .int)) (by decide) rfl ?_
  intro p e s m args below meth c s₁ B hml hv
  obtain ⟨rfl, hv⟩ := hv
  have X := Mc_of (own := RJ3) B hml rfl hv
  have hw : GW G u s s.heap [] := ⟨hv.2.1, va_S.rf⟩
  have hr := B.returns
  obtain ⟨hx, hb, hml, hown, hts, -⟩ := id X
  have hl := lv_entry ([.int x0, .int x1, .int x2]) (n := 3) (Nat.le_of_ble_eq_true rfl)
  rw [lg_entry_eq]
  generalize (lg_sl ([.int x0, .int x1, .int x2]) ++ List.replicate (3 - (lg_sl ([.int x0, .int x1, .int x2])).length) Slot.unset).toArray = ls at hl ⊢
  have hl : lv_has ls 3 [(0, .int x0), (1, .int x1), (2, .int x2)] := hl
  change W p l e (rmJ3_checkBoundsOffCount 0 0) s m _ below meth c s.heap [] 0 0 (QI G below (fun r v => v = u ∧ K r) _ s 0 0) (F0 m 0 ls [])
  unfold pJ3_checkBoundsOffCount at h
  refine lv_iload_n hx hb dJ3_checkBoundsOffCount_0 rfl (lv_at hl 0 rfl) ?_
  refine lv_iload_n hx hb dJ3_checkBoundsOffCount_1 rfl (lv_at hl 1 rfl) ?_
  refine lv_iload_n hx hb dJ3_checkBoundsOffCount_2 rfl (lv_at hl 2 rfl) ?_
  obtain ⟨o_1, he_o_1⟩ : ∃ z, z = Gst G 2 := ⟨_, rfl⟩
  have h := h o_1
  refine va_gets hx hb (X.2.2.2.2.2.2.1.2.2.2.2.2.2.2.2.1 2 _ rfl) hw.2 hown (hts _ q663) (fun _ z => z) dJ3_checkBoundsOffCount_3 ?_
  rw [← he_o_1]
  refine g_callio hw (g_S X hw (mJ4_checkFromIndexSize l G _ _ _ _ _ _ h) 4 (lw_S q665 q666 q146 q667) rfl rfl ydJ4_checkFromIndexSize ⟨Nat.le_of_ble_eq_true rfl, Nat.le_of_ble_eq_true rfl⟩ (As := [.int x0, .int x1, .int x2, va_rf o_1]) (rest := []) rfl hl.1 rfl (Nat.le_of_ble_eq_true rfl) dJ3_checkBoundsOffCount_6 ⟨Nat.le_refl _, Nat.le_refl _⟩) (fun r_2 H locs h hw => ?_)
  exact g_iret X hw hr ⟨rfl, h⟩ (Nat.le_refl _) (Nat.le_refl _) dJ3_checkBoundsOffCount_9

/-! java/lang/String.coder()B -/
theorem ydJ3_coder : yJ3_coder.cls = "java/lang/String" ∧ yJ3_coder.cls ≠ "java/lang/invoke/MethodHandle" ∧ yJ3_coder.cls ≠ "java/lang/invoke/VarHandle" ∧ (parseMethodDescriptor yJ3_coder.desc).map (fun d => d.parameters.length) = some 0 := by decide +kernel
def rmJ3_coder (mc ms : Nat) : Room := { frames := 0, cells := mc, slots := ms, locals := 0 }
set_option maxHeartbeats 4000000 in
theorem mJ3_coder (l : Launch) (G : GT) (u : Hp) (a0 : Nat) (K : Int32 → Prop) (h : pJ3_coder u a0 K) : Met l yJ3_coder (ws_ yJ3_coder cJ3_coder 1 (some .byte)) (rmJ3_coder 0 0) (va_Pc [.ref a0] (GB G u)) (va_Qi (fun r v => v = u ∧ K r) (fun u t => GH G u t.heap) (GA G)) 0 0 (GA G) := by
  refine Met.ofW (cc := cJ3_coder) (maxL := 1) (ret := (some .byte)) (by decide) rfl ?_
  intro p e s m args below meth c s₁ B hml hv
  obtain ⟨rfl, hv⟩ := hv
  have X := Mc_of (own := RJ3) B hml rfl hv
  have hw : GW G u s s.heap [] := ⟨hv.2.1, va_S.rf⟩
  have hr := B.returns
  obtain ⟨hx, hb, hml, hown, hts, -⟩ := id X
  have hl := lv_entry ([.ref a0]) (n := 1) (Nat.le_of_ble_eq_true rfl)
  rw [lg_entry_eq]
  generalize (lg_sl ([.ref a0]) ++ List.replicate (1 - (lg_sl ([.ref a0])).length) Slot.unset).toArray = ls at hl ⊢
  have hl : lv_has ls 1 [(0, .ref a0)] := hl
  change W p l e (rmJ3_coder 0 0) s m _ below meth c s.heap [] 0 0 (QI G below (fun r v => v = u ∧ K r) _ s 0 0) (F0 m 0 ls [])
  unfold pJ3_coder at h
  refine va_gets hx hb (X.2.2.2.2.2.2.1.2.2.2.2.2.2.2.1 _ (List.mem_of_getElem? (i := 0) rfl)) hw.2 hown (hts _ q673) (fun _ z => z) dJ3_coder_0 ?_
  refine lv_if_eq (tgt := 13) hx hb dJ3_coder_3 rfl (fun c_2 => ?_) (fun c_2 => ?_)
  · first | exact absurd c_2 (by decide) | exact absurd (by decide) c_2
  · refine lv_aload_n hx hb dJ3_coder_6 rfl (lv_at hl 0 rfl) ?_
    have hk_1 : kd u a0 = 21 ∨ kd u a0 = 201 := h.1
    have h := h.2
    refine g_getSc X hw hk_1 q718 dJ3_coder_7 ?_
    refine lv_goto (tgt := 14) hx hb dJ3_coder_10 rfl ?_
    exact g_zret X hw hr h.1 ⟨rfl, h.2⟩ (Nat.le_refl _) (Nat.le_refl _) dJ3_coder_14

/-! java/lang/StringLatin1.equals([B[B)Z -/
theorem ydJ6_equals : yJ6_equals.cls = "java/lang/StringLatin1" ∧ yJ6_equals.cls ≠ "java/lang/invoke/MethodHandle" ∧ yJ6_equals.cls ≠ "java/lang/invoke/VarHandle" ∧ (parseMethodDescriptor yJ6_equals.desc).map (fun d => d.parameters.length) = some 2 := by decide +kernel
def rmJ6_equals (mc ms : Nat) : Room := { frames := 0, cells := mc, slots := ms, locals := 0 }
set_option maxHeartbeats 4000000 in
theorem wJ6_equals_9 {G : GT} {p : Program} {l : Launch} {e : Env} {s : State} {m : MethodId} {args : Array Value} {below : List Frame} {meth : Method} {c : Code} {H : Heap} {locs : List Loc} {ls : Array Slot} {a0 : Nat} {a1 : Nat} {u : Hp} {x2 : Int32} {K : Int32 → Prop} (X : Mc G p s m args meth c RJ6 cJ6_equals 3) (hr : meth.sig.returnType = (some .boolean)) (h : jl1 (bJ6_equals_9 K a0 a1 u) x2) (hw : GW G u s H locs) (hl : lv_has ls 3 [(0, .ref a0), (1, .ref a1), (2, .int x2)]) : W p l e (rmJ6_equals 0 0) s m args below meth c H locs 0 0 (QI G below (fun r v => v = u ∧ K r) args s 0 0) (F0 m 9 ls []) := by
  obtain ⟨hx, hb, hml, hown, hts, -⟩ := id X
  obtain ⟨I, μ, h0, hs⟩ := h
  have key : ∀ (n : Nat) (x2 : Int32) (H : Heap) (locs : List Loc) (ls : Array Slot) , μ x2 < n → I x2 → GW G u s H locs → lv_has ls 3 [(0, .ref a0), (1, .ref a1), (2, .int x2)] → W p l e (rmJ6_equals 0 0) s m args below meth c H locs 0 0 (QI G below (fun r v => v = u ∧ K r) args s 0 0) (F0 m 9 ls []) := by
    intro n
    induction n with
    | zero =>
      intro x2 H locs ls hn
      exact absurd hn (Nat.not_lt_zero _)
    | succ n ih =>
      intro x2 H locs ls hn hI hw hl
      have h := hs x2 hI
      unfold bJ6_equals_9 at h
      have hJ9 : ∀ (x2' : Int32) (H : Heap) (locs : List Loc) (ls : Array Slot) , (I x2' ∧ μ x2' < μ x2) → GW G u s H locs → lv_has ls 3 [(0, .ref a0), (1, .ref a1), (2, .int x2')] → W p l e (rmJ6_equals 0 0) s m args below meth c H locs 0 0 (QI G below (fun r v => v = u ∧ K r) args s 0 0) (F0 m 9 ls []) := fun x2' H locs ls h hw hl => ih x2' H locs ls (Nat.lt_of_lt_of_le h.2 (Nat.le_of_lt_succ hn)) h.1 hw hl
      refine lv_iload_n hx hb dJ6_equals_9 rfl (lv_at hl 2 rfl) ?_
      refine lv_aload_n hx hb dJ6_equals_10 rfl (lv_at hl 0 rfl) ?_
      have hk_1 : kd u a0 = 102 ∨ kd u a0 = 202 := h.1
      have h := h.2
      refine g_blen X hw hk_1 dJ6_equals_11 ?_
      refine lv_icmp_ge (tgt := 32) hx hb dJ6_equals_12 rfl (fun c_4 => ?_) (fun c_4 => ?_)
      · have h := h.1 c_4
        refine lv_iconst (v := 1) hx hb dJ6_equals_32 (by decide) ?_
        exact g_zret X hw hr rfl ⟨rfl, h⟩ (Nat.le_refl _) (Nat.le_refl _) dJ6_equals_33
      · have h := h.2 c_4
        refine lv_aload_n hx hb dJ6_equals_15 rfl (lv_at hl 0 rfl) ?_
        refine lv_iload_n hx hb dJ6_equals_16 rfl (lv_at hl 2 rfl) ?_
        refine g_bald X hw hk_1 h.1 dJ6_equals_17 ?_
        have h := h.2
        refine lv_aload_n hx hb dJ6_equals_18 rfl (lv_at hl 1 rfl) ?_
        refine lv_iload_n hx hb dJ6_equals_19 rfl (lv_at hl 2 rfl) ?_
        have hk_2 : kd u a1 = 102 ∨ kd u a1 = 202 := h.1
        have h := h.2
        refine g_bald X hw hk_2 h.1 dJ6_equals_20 ?_
        have h := h.2
        refine lv_icmp_eq (tgt := 26) hx hb dJ6_equals_21 rfl (fun c_3 => ?_) (fun c_3 => ?_)
        · have h := h.1 c_3
          refine lv_iinc (v := x2 + 1) (lv' := [(2, .int (x2 + 1)), (0, .ref a0), (1, .ref a1)]) hx hb dJ6_equals_26 hl (k := 2) rfl rfl (by decide) rfl (fun ls hl => ?_)
          refine lv_goto (tgt := 9) hx hb dJ6_equals_29 rfl ?_
          exact hJ9 _ _ _ _ h hw (lv_sub hl [1, 2, 0] rfl)
        · have h := h.2 c_3
          refine lv_iconst (v := 0) hx hb dJ6_equals_24 (by decide) ?_
          exact g_zret X hw hr rfl ⟨rfl, h⟩ (Nat.le_refl _) (Nat.le_refl _) dJ6_equals_25
  exact key _ _ _ _ _ (Nat.lt_succ_self _) h0 hw hl
set_option maxHeartbeats 4000000 in
theorem mJ6_equals (l : Launch) (G : GT) (u : Hp) (a0 : Nat) (a1 : Nat) (K : Int32 → Prop) (h : pJ6_equals u a0 a1 K) : Met l yJ6_equals (ws_ yJ6_equals cJ6_equals 3 (some .boolean)) (rmJ6_equals 0 0) (va_Pc [.ref a0, .ref a1] (GB G u)) (va_Qi (fun r v => v = u ∧ K r) (fun u t => GH G u t.heap) (GA G)) 0 0 (GA G) := by
  refine Met.ofW (cc := cJ6_equals) (maxL := 3) (ret := (some .boolean)) (by decide) rfl ?_
  intro p e s m args below meth c s₁ B hml hv
  obtain ⟨rfl, hv⟩ := hv
  have X := Mc_of (own := RJ6) B hml rfl hv
  have hw : GW G u s s.heap [] := ⟨hv.2.1, va_S.rf⟩
  have hr := B.returns
  obtain ⟨hx, hb, hml, hown, hts, -⟩ := id X
  have hl := lv_entry ([.ref a0, .ref a1]) (n := 3) (Nat.le_of_ble_eq_true rfl)
  rw [lg_entry_eq]
  generalize (lg_sl ([.ref a0, .ref a1]) ++ List.replicate (3 - (lg_sl ([.ref a0, .ref a1])).length) Slot.unset).toArray = ls at hl ⊢
  have hl : lv_has ls 3 [(0, .ref a0), (1, .ref a1)] := hl
  change W p l e (rmJ6_equals 0 0) s m _ below meth c s.heap [] 0 0 (QI G below (fun r v => v = u ∧ K r) _ s 0 0) (F0 m 0 ls [])
  unfold pJ6_equals at h
  refine lv_aload_n hx hb dJ6_equals_0 rfl (lv_at hl 0 rfl) ?_
  have hk_5 : kd u a0 = 102 ∨ kd u a0 = 202 := h.1
  have h := h.2
  refine g_blen X hw hk_5 dJ6_equals_1 ?_
  refine lv_aload_n hx hb dJ6_equals_2 rfl (lv_at hl 1 rfl) ?_
  have hk_6 : kd u a1 = 102 ∨ kd u a1 = 202 := h.1
  have h := h.2
  refine g_blen X hw hk_6 dJ6_equals_3 ?_
  refine lv_icmp_ne (tgt := 34) hx hb dJ6_equals_4 rfl (fun c_7 => ?_) (fun c_7 => ?_)
  · have h := h.2 c_7
    refine lv_iconst (v := 0) hx hb dJ6_equals_34 (by decide) ?_
    exact g_zret X hw hr rfl ⟨rfl, h⟩ (Nat.le_refl _) (Nat.le_refl _) dJ6_equals_35
  · have h := h.1 c_7
    refine lv_iconst (v := 0) hx hb dJ6_equals_7 (by decide) ?_
    refine lv_istore_n (lv' := [(2, .int 0), (0, .ref a0), (1, .ref a1)]) hx hb dJ6_equals_8 rfl hl (by decide) rfl (fun ls hl => ?_)
    exact wJ6_equals_9 X hr  h hw (lv_sub hl [1, 2, 0] rfl)

/-! java/lang/String.equals(Ljava/lang/Object;)Z -/
theorem ydJ3_equals : yJ3_equals.cls = "java/lang/String" ∧ yJ3_equals.cls ≠ "java/lang/invoke/MethodHandle" ∧ yJ3_equals.cls ≠ "java/lang/invoke/VarHandle" ∧ (parseMethodDescriptor yJ3_equals.desc).map (fun d => d.parameters.length) = some 1 := by decide +kernel
def rmJ3_equals (mc ms : Nat) : Room := { frames := 1, cells := mc, slots := ms, locals := 22 }
set_option maxHeartbeats 4000000 in
theorem wJ3_equals_36 {G : GT} {p : Program} {l : Launch} {e : Env} {s : State} {m : MethodId} {args : Array Value} {below : List Frame} {meth : Method} {c : Code} {H : Heap} {locs : List Loc} {ls : Array Slot} {u : Hp} {a0 : Nat} {a2 : Nat} {K : Int32 → Prop} (X : Mc G p s m args meth c RJ3 cJ3_equals 3) (hr : meth.sig.returnType = (some .boolean)) (h : bJ3_equals_36 K u a0 a2) (hw : GW G u s H locs) (hl : lv_has ls 3 [(0, .ref a0), (2, .ref a2)]) : W p l e (rmJ3_equals 0 0) s m args below meth c H locs 0 0 (QI G below (fun r v => v = u ∧ K r) args s 0 0) (F0 m 36 ls []) := by
  obtain ⟨hx, hb, hml, hown, hts, -⟩ := id X
  unfold bJ3_equals_36 at h
  refine lv_aload_n hx hb dJ3_equals_36 rfl (lv_at hl 0 rfl) ?_
  have hk_1 : kd u a0 = 21 ∨ kd u a0 = 201 := h.1
  have h := h.2
  obtain ⟨b_2, e_3, h⟩ := h
  refine g_getSv X hw hk_1 q717 e_3 dJ3_equals_37 ?_
  refine lv_aload_n hx hb dJ3_equals_40 rfl (lv_at hl 1 rfl) ?_
  have hk_4 : kd u a2 = 21 ∨ kd u a2 = 201 := h.1
  have h := h.2
  obtain ⟨b_5, e_6, h⟩ := h
  refine g_getSv X hw hk_4 q717 e_6 dJ3_equals_41 ?_
  refine g_callio hw (g_S X hw (mJ6_equals l G _ _ _ _ h) 2 (lw_S q805 q806 q148 q807) rfl rfl ydJ6_equals ⟨Nat.le_of_ble_eq_true rfl, Nat.le_of_ble_eq_true rfl⟩ (As := [.ref b_2, .ref b_5]) (rest := []) rfl hl.1 rfl (Nat.le_of_ble_eq_true rfl) dJ3_equals_44 ⟨Nat.le_refl _, Nat.le_refl _⟩) (fun r_7 H locs h hw => ?_)
  refine lv_if_eq (tgt := 54) hx hb dJ3_equals_47 rfl (fun c_8 => ?_) (fun c_8 => ?_)
  · have h := h.1 c_8
    refine lv_iconst (v := 0) hx hb dJ3_equals_54 (by decide) ?_
    exact g_zret X hw hr rfl ⟨rfl, h⟩ (Nat.le_refl _) (Nat.le_refl _) dJ3_equals_55
  · have h := h.2 c_8
    refine lv_iconst (v := 1) hx hb dJ3_equals_50 (by decide) ?_
    refine lv_goto (tgt := 55) hx hb dJ3_equals_51 rfl ?_
    exact g_zret X hw hr rfl ⟨rfl, h⟩ (Nat.le_refl _) (Nat.le_refl _) dJ3_equals_55
set_option maxHeartbeats 4000000 in
theorem mJ3_equals (l : Launch) (G : GT) (u : Hp) (a0 : Nat) (a1 : Nat) (K : Int32 → Prop) (h : pJ3_equals u a0 a1 K) : Met l yJ3_equals (ws_ yJ3_equals cJ3_equals 3 (some .boolean)) (rmJ3_equals 0 0) (va_Pc [.ref a0, .ref a1] (GB G u)) (va_Qi (fun r v => v = u ∧ K r) (fun u t => GH G u t.heap) (GA G)) 0 0 (GA G) := by
  refine Met.ofW (cc := cJ3_equals) (maxL := 3) (ret := (some .boolean)) (by decide) rfl ?_
  intro p e s m args below meth c s₁ B hml hv
  obtain ⟨rfl, hv⟩ := hv
  have X := Mc_of (own := RJ3) B hml rfl hv
  have hw : GW G u s s.heap [] := ⟨hv.2.1, va_S.rf⟩
  have hr := B.returns
  obtain ⟨hx, hb, hml, hown, hts, -⟩ := id X
  have hl := lv_entry ([.ref a0, .ref a1]) (n := 3) (Nat.le_of_ble_eq_true rfl)
  rw [lg_entry_eq]
  generalize (lg_sl ([.ref a0, .ref a1]) ++ List.replicate (3 - (lg_sl ([.ref a0, .ref a1])).length) Slot.unset).toArray = ls at hl ⊢
  have hl : lv_has ls 3 [(0, .ref a0), (1, .ref a1)] := hl
  change W p l e (rmJ3_equals 0 0) s m _ below meth c s.heap [] 0 0 (QI G below (fun r v => v = u ∧ K r) _ s 0 0) (F0 m 0 ls [])
  unfold pJ3_equals at h
  refine lv_aload_n hx hb dJ3_equals_0 rfl (lv_at hl 0 rfl) ?_
  refine lv_aload_n hx hb dJ3_equals_1 rfl (lv_at hl 1 rfl) ?_
  refine g_acmp_ne (tgt := 7) hx hb dJ3_equals_2 rfl (fun c_14 => ?_) (fun c_14 => ?_)
  · have h := h.2 c_14
    refine lv_aload_n hx hb dJ3_equals_7 rfl (lv_at hl 1 rfl) ?_
    have hk_9 : kd u a1 = 21 ∨ kd u a1 = 201 := h.1
    have h := h.2
    refine va_instE hx hb hown (hts _ q804) (g_recvS X hw hk_9) dJ3_equals_8 ?_
    refine lv_if_eq (tgt := 54) hx hb dJ3_equals_11 rfl (fun c_13 => ?_) (fun c_13 => ?_)
    · first | exact absurd c_13 (by decide) | exact absurd (by decide) c_13
    · refine lv_aload_n hx hb dJ3_equals_14 rfl (lv_at hl 1 rfl) ?_
      refine va_castE hx hb hown (hts _ q804) (g_recvS X hw hk_9) dJ3_equals_15 ?_
      refine lv_astore_n (lv' := [(2, .ref a1), (0, .ref a0), (1, .ref a1)]) hx hb dJ3_equals_18 rfl hl (by decide) rfl (fun ls hl => ?_)
      refine va_gets hx hb (X.2.2.2.2.2.2.1.2.2.2.2.2.2.2.1 _ (List.mem_of_getElem? (i := 0) rfl)) hw.2 hown (hts _ q673) (fun _ z => z) dJ3_equals_19 ?_
      refine lv_if_eq (tgt := 36) hx hb dJ3_equals_22 rfl (fun c_12 => ?_) (fun c_12 => ?_)
      · first | exact absurd c_12 (by decide) | exact absurd (by decide) c_12
      · refine lv_aload_n hx hb dJ3_equals_25 rfl (lv_at hl 1 rfl) ?_
        have hk_10 : kd u a0 = 21 ∨ kd u a0 = 201 := h.1
        have h := h.2
        refine g_getSc X hw hk_10 q718 dJ3_equals_26 ?_
        refine lv_aload_n hx hb dJ3_equals_29 rfl (lv_at hl 0 rfl) ?_
        refine g_getSc X hw hk_9 q718 dJ3_equals_30 ?_
        refine lv_icmp_ne (tgt := 54) hx hb dJ3_equals_33 rfl (fun c_11 => ?_) (fun c_11 => ?_)
        · have h := h.2 c_11
          refine lv_iconst (v := 0) hx hb dJ3_equals_54 (by decide) ?_
          exact g_zret X hw hr rfl ⟨rfl, h⟩ (Nat.le_refl _) (Nat.le_refl _) dJ3_equals_55
        · have h := h.1 c_11
          exact wJ3_equals_36 X hr  h hw (lv_sub hl [1, 0] rfl)
  · have h := h.1 c_14
    refine lv_iconst (v := 1) hx hb dJ3_equals_5 (by decide) ?_
    exact g_zret X hw hr rfl ⟨rfl, h⟩ (Nat.le_refl _) (Nat.le_refl _) dJ3_equals_6

/-! jdk/internal/util/ArraysSupport.signedHashCode(I[BII)I -/
theorem ydJ7_signedHashCode : yJ7_signedHashCode.cls = "jdk/internal/util/ArraysSupport" ∧ yJ7_signedHashCode.cls ≠ "java/lang/invoke/MethodHandle" ∧ yJ7_signedHashCode.cls ≠ "java/lang/invoke/VarHandle" ∧ (parseMethodDescriptor yJ7_signedHashCode.desc).map (fun d => d.parameters.length) = some 4 := by decide +kernel
def rmJ7_signedHashCode (mc ms : Nat) : Room := { frames := 0, cells := mc, slots := ms, locals := 0 }
set_option maxHeartbeats 4000000 in
theorem wJ7_signedHashCode_8 {G : GT} {p : Program} {l : Launch} {e : Env} {s : State} {m : MethodId} {args : Array Value} {below : List Frame} {meth : Method} {c : Code} {H : Heap} {locs : List Loc} {ls : Array Slot} {a1 : Nat} {x4 : Int32} {u : Hp} {x0 : Int32} {x5 : Int32} {K : Int32 → Prop} (X : Mc G p s m args meth c RJ7 cJ7_signedHashCode 6) (hr : meth.sig.returnType = (some .int)) (h : jl2 (bJ7_signedHashCode_8 K a1 x4 u) x0 x5) (hw : GW G u s H locs) (hl : lv_has ls 6 [(0, .int x0), (1, .ref a1), (4, .int x4), (5, .int x5)]) : W p l e (rmJ7_signedHashCode 0 0) s m args below meth c H locs 0 0 (QI G below (fun r v => v = u ∧ K r) args s 0 0) (F0 m 8 ls []) := by
  obtain ⟨hx, hb, hml, hown, hts, -⟩ := id X
  obtain ⟨I, μ, h0, hs⟩ := h
  have key : ∀ (n : Nat) (x0 : Int32) (x5 : Int32) (H : Heap) (locs : List Loc) (ls : Array Slot) , μ x0 x5 < n → I x0 x5 → GW G u s H locs → lv_has ls 6 [(0, .int x0), (1, .ref a1), (4, .int x4), (5, .int x5)] → W p l e (rmJ7_signedHashCode 0 0) s m args below meth c H locs 0 0 (QI G below (fun r v => v = u ∧ K r) args s 0 0) (F0 m 8 ls []) := by
    intro n
    induction n with
    | zero =>
      intro x0 x5 H locs ls hn
      exact absurd hn (Nat.not_lt_zero _)
    | succ n ih =>
      intro x0 x5 H locs ls hn hI hw hl
      have h := hs x0 x5 hI
      unfold bJ7_signedHashCode_8 at h
      have hJ8 : ∀ (x0' : Int32) (x5' : Int32) (H : Heap) (locs : List Loc) (ls : Array Slot) , (I x0' x5' ∧ μ x0' x5' < μ x0 x5) → GW G u s H locs → lv_has ls 6 [(0, .int x0'), (1, .ref a1), (4, .int x4), (5, .int x5')] → W p l e (rmJ7_signedHashCode 0 0) s m args below meth c H locs 0 0 (QI G below (fun r v => v = u ∧ K r) args s 0 0) (F0 m 8 ls []) := fun x0' x5' H locs ls h hw hl => ih x0' x5' H locs ls (Nat.lt_of_lt_of_le h.2 (Nat.le_of_lt_succ hn)) h.1 hw hl
      refine lv_iload hx hb dJ7_signedHashCode_8 (lv_at hl 3 rfl) ?_
      refine lv_iload hx hb dJ7_signedHashCode_10 (lv_at hl 2 rfl) ?_
      refine lv_icmp_ge (tgt := 35) hx hb dJ7_signedHashCode_12 rfl (fun c_4 => ?_) (fun c_4 => ?_)
      · have h := h.1 c_4
        refine lv_iload_n hx hb dJ7_signedHashCode_35 rfl (lv_at hl 0 rfl) ?_
        exact g_iret X hw hr ⟨rfl, h⟩ (Nat.le_refl _) (Nat.le_refl _) dJ7_signedHashCode_36
      · have h := h.2 c_4
        refine lv_bipush (v := 31) hx hb dJ7_signedHashCode_15 (by decide) ?_
        refine lv_iload_n hx hb dJ7_signedHashCode_17 rfl (lv_at hl 0 rfl) ?_
        refine lv_imul hx hb dJ7_signedHashCode_18 ?_
        refine lv_aload_n hx hb dJ7_signedHashCode_19 rfl (lv_at hl 1 rfl) ?_
        refine lv_iload hx hb dJ7_signedHashCode_20 (lv_at hl 3 rfl) ?_
        have hk_1 : kd u a1 = 102 ∨ kd u a1 = 202 := h.1
        have h := h.2
        refine g_bald X hw hk_1 h.1 dJ7_signedHashCode_22 ?_
        have h := h.2
        refine lv_sipush (v := 255) hx hb dJ7_signedHashCode_23 (by decide) ?_
        refine lv_iand hx hb dJ7_signedHashCode_26 ?_
        refine lv_iadd hx hb dJ7_signedHashCode_27 ?_
        refine lv_topi (fun x0_2 e_3 => ?_)
        have h := h x0_2 e_3
        refine lv_istore_n (lv' := [(0, .int x0_2), (1, .ref a1), (4, .int x4), (5, .int x5)]) hx hb dJ7_signedHashCode_28 rfl hl (by decide) rfl (fun ls hl => ?_)
        refine lv_iinc (v := x5 + 1) (lv' := [(5, .int (x5 + 1)), (0, .int x0_2), (1, .ref a1), (4, .int x4)]) hx hb dJ7_signedHashCode_29 hl (k := 3) rfl rfl (by decide) rfl (fun ls hl => ?_)
        refine lv_goto (tgt := 8) hx hb dJ7_signedHashCode_32 rfl ?_
        exact hJ8 _ _ _ _ _ h hw (lv_sub hl [1, 2, 3, 0] rfl)
  exact key _ _ _ _ _ _ (Nat.lt_succ_self _) h0 hw hl
set_option maxHeartbeats 4000000 in
theorem mJ7_signedHashCode (l : Launch) (G : GT) (u : Hp) (x0 : Int32) (a1 : Nat) (x2 : Int32) (x3 : Int32) (K : Int32 → Prop) (h : pJ7_signedHashCode u x0 a1 x2 x3 K) : Met l yJ7_signedHashCode (ws_ yJ7_signedHashCode cJ7_signedHashCode 6 (some .int)) (rmJ7_signedHashCode 0 0) (va_Pc [.int x0, .ref a1, .int x2, .int x3] (GB G u)) (va_Qi (fun r v => v = u ∧ K r) (fun u t => GH G u t.heap) (GA G)) 0 0 (GA G) := by
  refine Met.ofW (cc := cJ7_signedHashCode) (maxL := 6) (ret := (some .int)) (by decide) rfl ?_
  intro p e s m args below meth c s₁ B hml hv
  obtain ⟨rfl, hv⟩ := hv
  have X := Mc_of (own := RJ7) B hml rfl hv
  have hw : GW G u s s.heap [] := ⟨hv.2.1, va_S.rf⟩
  have hr := B.returns
  obtain ⟨hx, hb, hml, hown, hts, -⟩ := id X
  have hl := lv_entry ([.int x0, .ref a1, .int x2, .int x3]) (n := 6) (Nat.le_of_ble_eq_true rfl)
  rw [lg_entry_eq]
  generalize (lg_sl ([.int x0, .ref a1, .int x2, .int x3]) ++ List.replicate (6 - (lg_sl ([.int x0, .ref a1, .int x2, .int x3])).length) Slot.unset).toArray = ls at hl ⊢
  have hl : lv_has ls 6 [(0, .int x0), (1, .ref a1), (2, .int x2), (3, .int x3)] := hl
  change W p l e (rmJ7_signedHashCode 0 0) s m _ below meth c s.heap [] 0 0 (QI G below (fun r v => v = u ∧ K r) _ s 0 0) (F0 m 0 ls [])
  unfold pJ7_signedHashCode at h
  refine lv_iload_n hx hb dJ7_signedHashCode_0 rfl (lv_at hl 2 rfl) ?_
  refine lv_iload_n hx hb dJ7_signedHashCode_1 rfl (lv_at hl 3 rfl) ?_
  refine lv_iadd hx hb dJ7_signedHashCode_2 ?_
  refine lv_istore (lv' := [(4, .int (x2 + x3)), (0, .int x0), (1, .ref a1), (2, .int x2), (3, .int x3)]) hx hb dJ7_signedHashCode_3 hl (by decide) rfl (fun ls hl => ?_)
  refine lv_iload_n hx hb dJ7_signedHashCode_5 rfl (lv_at hl 3 rfl) ?_
  refine lv_istore (lv' := [(5, .int x2), (4, .int (x2 + x3)), (0, .int x0), (1, .ref a1), (2, .int x2), (3, .int x3)]) hx hb dJ7_signedHashCode_6 hl (by decide) rfl (fun ls hl => ?_)
  exact wJ7_signedHashCode_8 X hr  h hw (lv_sub hl [2, 3, 1, 0] rfl)

/-! jdk/internal/util/ArraysSupport.hashCode(I[CII)I -/
theorem ydJ7_hashCode : yJ7_hashCode.cls = "jdk/internal/util/ArraysSupport" ∧ yJ7_hashCode.cls ≠ "java/lang/invoke/MethodHandle" ∧ yJ7_hashCode.cls ≠ "java/lang/invoke/VarHandle" ∧ (parseMethodDescriptor yJ7_hashCode.desc).map (fun d => d.parameters.length) = some 4 := by decide +kernel
def rmJ7_hashCode (mc ms : Nat) : Room := { frames := 0, cells := mc, slots := ms, locals := 0 }
set_option maxHeartbeats 4000000 in
theorem wJ7_hashCode_8 {G : GT} {p : Program} {l : Launch} {e : Env} {s : State} {m : MethodId} {args : Array Value} {below : List Frame} {meth : Method} {c : Code} {H : Heap} {locs : List Loc} {ls : Array Slot} {a1 : Nat} {x4 : Int32} {u : Hp} {x0 : Int32} {x5 : Int32} {K : Int32 → Prop} (X : Mc G p s m args meth c RJ7 cJ7_hashCode 6) (hr : meth.sig.returnType = (some .int)) (h : jl2 (bJ7_hashCode_8 K a1 x4 u) x0 x5) (hw : GW G u s H locs) (hl : lv_has ls 6 [(0, .int x0), (1, .ref a1), (4, .int x4), (5, .int x5)]) : W p l e (rmJ7_hashCode 0 0) s m args below meth c H locs 0 0 (QI G below (fun r v => v = u ∧ K r) args s 0 0) (F0 m 8 ls []) := by
  obtain ⟨hx, hb, hml, hown, hts, -⟩ := id X
  obtain ⟨I, μ, h0, hs⟩ := h
  have key : ∀ (n : Nat) (x0 : Int32) (x5 : Int32) (H : Heap) (locs : List Loc) (ls : Array Slot) , μ x0 x5 < n → I x0 x5 → GW G u s H locs → lv_has ls 6 [(0, .int x0), (1, .ref a1), (4, .int x4), (5, .int x5)] → W p l e (rmJ7_hashCode 0 0) s m args below meth c H locs 0 0 (QI G below (fun r v => v = u ∧ K r) args s 0 0) (F0 m 8 ls []) := by
    intro n
    induction n with
    | zero =>
      intro x0 x5 H locs ls hn
      exact absurd hn (Nat.not_lt_zero _)
    | succ n ih =>
      intro x0 x5 H locs ls hn hI hw hl
      have h := hs x0 x5 hI
      unfold bJ7_hashCode_8 at h
      have hJ8 : ∀ (x0' : Int32) (x5' : Int32) (H : Heap) (locs : List Loc) (ls : Array Slot) , (I x0' x5' ∧ μ x0' x5' < μ x0 x5) → GW G u s H locs → lv_has ls 6 [(0, .int x0'), (1, .ref a1), (4, .int x4), (5, .int x5')] → W p l e (rmJ7_hashCode 0 0) s m args below meth c H locs 0 0 (QI G below (fun r v => v = u ∧ K r) args s 0 0) (F0 m 8 ls []) := fun x0' x5' H locs ls h hw hl => ih x0' x5' H locs ls (Nat.lt_of_lt_of_le h.2 (Nat.le_of_lt_succ hn)) h.1 hw hl
      refine lv_iload hx hb dJ7_hashCode_8 (lv_at hl 3 rfl) ?_
      refine lv_iload hx hb dJ7_hashCode_10 (lv_at hl 2 rfl) ?_
      refine lv_icmp_ge (tgt := 31) hx hb dJ7_hashCode_12 rfl (fun c_2 => ?_) (fun c_2 => ?_)
      · have h := h.1 c_2
        refine lv_iload_n hx hb dJ7_hashCode_31 rfl (lv_at hl 0 rfl) ?_
        exact g_iret X hw hr ⟨rfl, h⟩ (Nat.le_refl _) (Nat.le_refl _) dJ7_hashCode_32
      · have h := h.2 c_2
        refine lv_bipush (v := 31) hx hb dJ7_hashCode_15 (by decide) ?_
        refine lv_iload_n hx hb dJ7_hashCode_17 rfl (lv_at hl 0 rfl) ?_
        refine lv_imul hx hb dJ7_hashCode_18 ?_
        refine lv_aload_n hx hb dJ7_hashCode_19 rfl (lv_at hl 1 rfl) ?_
        refine lv_iload hx hb dJ7_hashCode_20 (lv_at hl 3 rfl) ?_
        have hk_1 : kd u a1 = 103 := h.1
        have h := h.2
        refine g_cald X hw hk_1 h.1 dJ7_hashCode_22 ?_
        have h := h.2
        refine lv_iadd hx hb dJ7_hashCode_23 ?_
        refine lv_istore_n (lv' := [(0, .int ((31 * x0) + (AI u a1 (tn x5)))), (1, .ref a1), (4, .int x4), (5, .int x5)]) hx hb dJ7_hashCode_24 rfl hl (by decide) rfl (fun ls hl => ?_)
        refine lv_iinc (v := x5 + 1) (lv' := [(5, .int (x5 + 1)), (0, .int ((31 * x0) + (AI u a1 (tn x5)))), (1, .ref a1), (4, .int x4)]) hx hb dJ7_hashCode_25 hl (k := 3) rfl rfl (by decide) rfl (fun ls hl => ?_)
        refine lv_goto (tgt := 8) hx hb dJ7_hashCode_28 rfl ?_
        exact hJ8 _ _ _ _ _ h hw (lv_sub hl [1, 2, 3, 0] rfl)
  exact key _ _ _ _ _ _ (Nat.lt_succ_self _) h0 hw hl
set_option maxHeartbeats 4000000 in
theorem mJ7_hashCode (l : Launch) (G : GT) (u : Hp) (x0 : Int32) (a1 : Nat) (x2 : Int32) (x3 : Int32) (K : Int32 → Prop) (h : pJ7_hashCode u x0 a1 x2 x3 K) : Met l yJ7_hashCode (ws_ yJ7_hashCode cJ7_hashCode 6 (some .int)) (rmJ7_hashCode 0 0) (va_Pc [.int x0, .ref a1, .int x2, .int x3] (GB G u)) (va_Qi (fun r v => v = u ∧ K r) (fun u t => GH G u t.heap) (GA G)) 0 0 (GA G) := by
  refine Met.ofW (cc := cJ7_hashCode) (maxL := 6) (ret := (some .int)) (by decide) rfl ?_
  intro p e s m args below meth c s₁ B hml hv
  obtain ⟨rfl, hv⟩ := hv
  have X := Mc_of (own := RJ7) B hml rfl hv
  have hw : GW G u s s.heap [] := ⟨hv.2.1, va_S.rf⟩
  have hr := B.returns
  obtain ⟨hx, hb, hml, hown, hts, -⟩ := id X
  have hl := lv_entry ([.int x0, .ref a1, .int x2, .int x3]) (n := 6) (Nat.le_of_ble_eq_true rfl)
  rw [lg_entry_eq]
  generalize (lg_sl ([.int x0, .ref a1, .int x2, .int x3]) ++ List.replicate (6 - (lg_sl ([.int x0, .ref a1, .int x2, .int x3])).length) Slot.unset).toArray = ls at hl ⊢
  have hl : lv_has ls 6 [(0, .int x0), (1, .ref a1), (2, .int x2), (3, .int x3)] := hl
  change W p l e (rmJ7_hashCode 0 0) s m _ below meth c s.heap [] 0 0 (QI G below (fun r v => v = u ∧ K r) _ s 0 0) (F0 m 0 ls [])
  unfold pJ7_hashCode at h
  refine lv_iload_n hx hb dJ7_hashCode_0 rfl (lv_at hl 2 rfl) ?_
  refine lv_iload_n hx hb dJ7_hashCode_1 rfl (lv_at hl 3 rfl) ?_
  refine lv_iadd hx hb dJ7_hashCode_2 ?_
  refine lv_istore (lv' := [(4, .int (x2 + x3)), (0, .int x0), (1, .ref a1), (2, .int x2), (3, .int x3)]) hx hb dJ7_hashCode_3 hl (by decide) rfl (fun ls hl => ?_)
  refine lv_iload_n hx hb dJ7_hashCode_5 rfl (lv_at hl 3 rfl) ?_
  refine lv_istore (lv' := [(5, .int x2), (4, .int (x2 + x3)), (0, .int x0), (1, .ref a1), (2, .int x2), (3, .int x3)]) hx hb dJ7_hashCode_6 hl (by decide) rfl (fun ls hl => ?_)
  exact wJ7_hashCode_8 X hr  h hw (lv_sub hl [2, 3, 1, 0] rfl)

/-! jdk/internal/util/ArraysSupport.hashCode(I[BII)I -/
theorem ydJ7_hashCode_2 : yJ7_hashCode_2.cls = "jdk/internal/util/ArraysSupport" ∧ yJ7_hashCode_2.cls ≠ "java/lang/invoke/MethodHandle" ∧ yJ7_hashCode_2.cls ≠ "java/lang/invoke/VarHandle" ∧ (parseMethodDescriptor yJ7_hashCode_2.desc).map (fun d => d.parameters.length) = some 4 := by decide +kernel
def rmJ7_hashCode_2 (mc ms : Nat) : Room := { frames := 0, cells := mc, slots := ms, locals := 0 }
set_option maxHeartbeats 4000000 in
theorem wJ7_hashCode_2_8 {G : GT} {p : Program} {l : Launch} {e : Env} {s : State} {m : MethodId} {args : Array Value} {below : List Frame} {meth : Method} {c : Code} {H : Heap} {locs : List Loc} {ls : Array Slot} {a1 : Nat} {x4 : Int32} {u : Hp} {x0 : Int32} {x5 : Int32} {K : Int32 → Prop} (X : Mc G p s m args meth c RJ7 cJ7_hashCode_2 6) (hr : meth.sig.returnType = (some .int)) (h : jl2 (bJ7_hashCode_2_8 K a1 x4 u) x0 x5) (hw : GW G u s H locs) (hl : lv_has ls 6 [(0, .int x0), (1, .ref a1), (4, .int x4), (5, .int x5)]) : W p l e (rmJ7_hashCode_2 0 0) s m args below meth c H locs 0 0 (QI G below (fun r v => v = u ∧ K r) args s 0 0) (F0 m 8 ls []) := by
  obtain ⟨hx, hb, hml, hown, hts, -⟩ := id X
  obtain ⟨I, μ, h0, hs⟩ := h
  have key : ∀ (n : Nat) (x0 : Int32) (x5 : Int32) (H : Heap) (locs : List Loc) (ls : Array Slot) , μ x0 x5 < n → I x0 x5 → GW G u s H locs → lv_has ls 6 [(0, .int x0), (1, .ref a1), (4, .int x4), (5, .int x5)] → W p l e (rmJ7_hashCode_2 0 0) s m args below meth c H locs 0 0 (QI G below (fun r v => v = u ∧ K r) args s 0 0) (F0 m 8 ls []) := by
    intro n
    induction n with
    | zero =>
      intro x0 x5 H locs ls hn
      exact absurd hn (Nat.not_lt_zero _)
    | succ n ih =>
      intro x0 x5 H locs ls hn hI hw hl
      have h := hs x0 x5 hI
      unfold bJ7_hashCode_2_8 at h
      have hJ8 : ∀ (x0' : Int32) (x5' : Int32) (H : Heap) (locs : List Loc) (ls : Array Slot) , (I x0' x5' ∧ μ x0' x5' < μ x0 x5) → GW G u s H locs → lv_has ls 6 [(0, .int x0'), (1, .ref a1), (4, .int x4), (5, .int x5')] → W p l e (rmJ7_hashCode_2 0 0) s m args below meth c H locs 0 0 (QI G below (fun r v => v = u ∧ K r) args s 0 0) (F0 m 8 ls []) := fun x0' x5' H locs ls h hw hl => ih x0' x5' H locs ls (Nat.lt_of_lt_of_le h.2 (Nat.le_of_lt_succ hn)) h.1 hw hl
      refine lv_iload hx hb dJ7_hashCode_2_8 (lv_at hl 3 rfl) ?_
      refine lv_iload hx hb dJ7_hashCode_2_10 (lv_at hl 2 rfl) ?_
      refine lv_icmp_ge (tgt := 31) hx hb dJ7_hashCode_2_12 rfl (fun c_2 => ?_) (fun c_2 => ?_)
      · have h := h.1 c_2
        refine lv_iload_n hx hb dJ7_hashCode_2_31 rfl (lv_at hl 0 rfl) ?_
        exact g_iret X hw hr ⟨rfl, h⟩ (Nat.le_refl _) (Nat.le_refl _) dJ7_hashCode_2_32
      · have h := h.2 c_2
        refine lv_bipush (v := 31) hx hb dJ7_hashCode_2_15 (by decide) ?_
        refine lv_iload_n hx hb dJ7_hashCode_2_17 rfl (lv_at hl 0 rfl) ?_
        refine lv_imul hx hb dJ7_hashCode_2_18 ?_
        refine lv_aload_n hx hb dJ7_hashCode_2_19 rfl (lv_at hl 1 rfl) ?_
        refine lv_iload hx hb dJ7_hashCode_2_20 (lv_at hl 3 rfl) ?_
        have hk_1 : kd u a1 = 102 ∨ kd u a1 = 202 := h.1
        have h := h.2
        refine g_bald X hw hk_1 h.1 dJ7_hashCode_2_22 ?_
        have h := h.2
        refine lv_iadd hx hb dJ7_hashCode_2_23 ?_
        refine lv_istore_n (lv' := [(0, .int ((31 * x0) + (AI u a1 (tn x5)))), (1, .ref a1), (4, .int x4), (5, .int x5)]) hx hb dJ7_hashCode_2_24 rfl hl (by decide) rfl (fun ls hl => ?_)
        refine lv_iinc (v := x5 + 1) (lv' := [(5, .int (x5 + 1)), (0, .int ((31 * x0) + (AI u a1 (tn x5)))), (1, .ref a1), (4, .int x4)]) hx hb dJ7_hashCode_2_25 hl (k := 3) rfl rfl (by decide) rfl (fun ls hl => ?_)
        refine lv_goto (tgt := 8) hx hb dJ7_hashCode_2_28 rfl ?_
        exact hJ8 _ _ _ _ _ h hw (lv_sub hl [1, 2, 3, 0] rfl)
  exact key _ _ _ _ _ _ (Nat.lt_succ_self _) h0 hw hl
set_option maxHeartbeats 4000000 in
theorem mJ7_hashCode_2 (l : Launch) (G : GT) (u : Hp) (x0 : Int32) (a1 : Nat) (x2 : Int32) (x3 : Int32) (K : Int32 → Prop) (h : pJ7_hashCode_2 u x0 a1 x2 x3 K) : Met l yJ7_hashCode_2 (ws_ yJ7_hashCode_2 cJ7_hashCode_2 6 (some .int)) (rmJ7_hashCode_2 0 0) (va_Pc [.int x0, .ref a1, .int x2, .int x3] (GB G u)) (va_Qi (fun r v => v = u ∧ K r) (fun u t => GH G u t.heap) (GA G)) 0 0 (GA G) := by
  refine Met.ofW (cc := cJ7_hashCode_2) (maxL := 6) (ret := (some .int)) (by decide) rfl ?_
  intro p e s m args below meth c s₁ B hml hv
  obtain ⟨rfl, hv⟩ := hv
  have X := Mc_of (own := RJ7) B hml rfl hv
  have hw : GW G u s s.heap [] := ⟨hv.2.1, va_S.rf⟩
  have hr := B.returns
  obtain ⟨hx, hb, hml, hown, hts, -⟩ := id X
  have hl := lv_entry ([.int x0, .ref a1, .int x2, .int x3]) (n := 6) (Nat.le_of_ble_eq_true rfl)
  rw [lg_entry_eq]
  generalize (lg_sl ([.int x0, .ref a1, .int x2, .int x3]) ++ List.replicate (6 - (lg_sl ([.int x0, .ref a1, .int x2, .int x3])).length) Slot.unset).toArray = ls at hl ⊢
  have hl : lv_has ls 6 [(0, .int x0), (1, .ref a1), (2, .int x2), (3, .int x3)] := hl
  change W p l e (rmJ7_hashCode_2 0 0) s m _ below meth c s.heap [] 0 0 (QI G below (fun r v => v = u ∧ K r) _ s 0 0) (F0 m 0 ls [])
  unfold pJ7_hashCode_2 at h
  refine lv_iload_n hx hb dJ7_hashCode_2_0 rfl (lv_at hl 2 rfl) ?_
  refine lv_iload_n hx hb dJ7_hashCode_2_1 rfl (lv_at hl 3 rfl) ?_
  refine lv_iadd hx hb dJ7_hashCode_2_2 ?_
  refine lv_istore (lv' := [(4, .int (x2 + x3)), (0, .int x0), (1, .ref a1), (2, .int x2), (3, .int x3)]) hx hb dJ7_hashCode_2_3 hl (by decide) rfl (fun ls hl => ?_)
  refine lv_iload_n hx hb dJ7_hashCode_2_5 rfl (lv_at hl 3 rfl) ?_
  refine lv_istore (lv' := [(5, .int x2), (4, .int (x2 + x3)), (0, .int x0), (1, .ref a1), (2, .int x2), (3, .int x3)]) hx hb dJ7_hashCode_2_6 hl (by decide) rfl (fun ls hl => ?_)
  exact wJ7_hashCode_2_8 X hr  h hw (lv_sub hl [2, 3, 1, 0] rfl)

/-! jdk/internal/util/ArraysSupport.hashCode(I[SII)I -/
theorem ydJ7_hashCode_3 : yJ7_hashCode_3.cls = "jdk/internal/util/ArraysSupport" ∧ yJ7_hashCode_3.cls ≠ "java/lang/invoke/MethodHandle" ∧ yJ7_hashCode_3.cls ≠ "java/lang/invoke/VarHandle" ∧ (parseMethodDescriptor yJ7_hashCode_3.desc).map (fun d => d.parameters.length) = some 4 := by decide +kernel
def rmJ7_hashCode_3 (mc ms : Nat) : Room := { frames := 0, cells := mc, slots := ms, locals := 0 }
set_option maxHeartbeats 4000000 in
theorem mJ7_hashCode_3 (l : Launch) (G : GT) (u : Hp) (x0 : Int32) (a1 : Nat) (x2 : Int32) (x3 : Int32) (K : Int32 → Prop) (h : pJ7_hashCode_3 u x0 a1 x2 x3 K) : Met l yJ7_hashCode_3 (ws_ yJ7_hashCode_3 cJ7_hashCode_3 6 (some .int)) (rmJ7_hashCode_3 0 0) (va_Pc [.int x0, .ref a1, .int x2, .int x3] (GB G u)) (va_Qi (fun r v => v = u ∧ K r) (fun u t => GH G u t.heap) (GA G)) 0 0 (GA G) := by
  refine Met.ofW (cc := cJ7_hashCode_3) (maxL := 6) (ret := (some .int)) (by decide) rfl ?_
  intro p e s m args below meth c s₁ B hml hv
  obtain ⟨rfl, hv⟩ := hv
  have X := Mc_of (own := RJ7) B hml rfl hv
  have hw : GW G u s s.heap [] := ⟨hv.2.1, va_S.rf⟩
  have hr := B.returns
  obtain ⟨hx, hb, hml, hown, hts, -⟩ := id X
  have hl := lv_entry ([.int x0, .ref a1, .int x2, .int x3]) (n := 6) (Nat.le_of_ble_eq_true rfl)
  rw [lg_entry_eq]
  generalize (lg_sl ([.int x0, .ref a1, .int x2, .int x3]) ++ List.replicate (6 - (lg_sl ([.int x0, .ref a1, .int x2, .int x3])).length) Slot.unset).toArray = ls at hl ⊢
  have hl : lv_has ls 6 [(0, .int x0), (1, .ref a1), (2, .int x2), (3, .int x3)] := hl
  change W p l e (rmJ7_hashCode_3 0 0) s m _ below meth c s.heap [] 0 0 (QI G below (fun r v => v = u ∧ K r) _ s 0 0) (F0 m 0 ls [])
  unfold pJ7_hashCode_3 at h
  refine lv_iload_n hx hb dJ7_hashCode_3_0 rfl (lv_at hl 2 rfl) ?_
  refine lv_iload_n hx hb dJ7_hashCode_3_1 rfl (lv_at hl 3 rfl) ?_
  refine lv_iadd hx hb dJ7_hashCode_3_2 ?_
  refine lv_istore (lv' := [(4, .int (x2 + x3)), (0, .int x0), (1, .ref a1), (2, .int x2), (3, .int x3)]) hx hb dJ7_hashCode_3_3 hl (by decide) rfl (fun ls hl => ?_)
  refine lv_iload_n hx hb dJ7_hashCode_3_5 rfl (lv_at hl 3 rfl) ?_
  refine lv_istore (lv' := [(5, .int x2), (4, .int (x2 + x3)), (0, .int x0), (1, .ref a1), (2, .int x2), (3, .int x3)]) hx hb dJ7_hashCode_3_6 hl (by decide) rfl (fun ls hl => ?_)
  refine lv_iload hx hb dJ7_hashCode_3_8 (lv_at hl 0 rfl) ?_
  refine lv_iload hx hb dJ7_hashCode_3_10 (lv_at hl 1 rfl) ?_
  refine lv_icmp_ge (tgt := 31) hx hb dJ7_hashCode_3_12 rfl (fun c_1 => ?_) (fun c_1 => ?_)
  · have h := h.1 c_1
    refine lv_iload_n hx hb dJ7_hashCode_3_31 rfl (lv_at hl 2 rfl) ?_
    exact g_iret X hw hr ⟨rfl, h⟩ (Nat.le_refl _) (Nat.le_refl _) dJ7_hashCode_3_32
  · have h := h.2 c_1
    refine lv_bipush (v := 31) hx hb dJ7_hashCode_3_15 (by decide) ?_
    refine lv_iload_n hx hb dJ7_hashCode_3_17 rfl (lv_at hl 2 rfl) ?_
    refine lv_imul hx hb dJ7_hashCode_3_18 ?_
    refine lv_aload_n hx hb dJ7_hashCode_3_19 rfl (lv_at hl 3 rfl) ?_
    refine lv_iload hx hb dJ7_hashCode_3_20 (lv_at hl 0 rfl) ?_
    exact absurd h id

/-! jdk/internal/util/ArraysSupport.hashCode(I[III)I -/
theorem ydJ7_hashCode_4 : yJ7_hashCode_4.cls = "jdk/internal/util/ArraysSupport" ∧ yJ7_hashCode_4.cls ≠ "java/lang/invoke/MethodHandle" ∧ yJ7_hashCode_4.cls ≠ "java/lang/invoke/VarHandle" ∧ (parseMethodDescriptor yJ7_hashCode_4.desc).map (fun d => d.parameters.length) = some 4 := by decide +kernel
def rmJ7_hashCode_4 (mc ms : Nat) : Room := { frames := 0, cells := mc, slots := ms, locals := 0 }
set_option maxHeartbeats 4000000 in
theorem wJ7_hashCode_4_8 {G : GT} {p : Program} {l : Launch} {e : Env} {s : State} {m : MethodId} {args : Array Value} {below : List Frame} {meth : Method} {c : Code} {H : Heap} {locs : List Loc} {ls : Array Slot} {a1 : Nat} {x4 : Int32} {u : Hp} {x0 : Int32} {x5 : Int32} {K : Int32 → Prop} (X : Mc G p s m args meth c RJ7 cJ7_hashCode_4 6) (hr : meth.sig.returnType = (some .int)) (h : jl2 (bJ7_hashCode_4_8 K a1 x4 u) x0 x5) (hw : GW G u s H locs) (hl : lv_has ls 6 [(0, .int x0), (1, .ref a1), (4, .int x4), (5, .int x5)]) : W p l e (rmJ7_hashCode_4 0 0) s m args below meth c H locs 0 0 (QI G below (fun r v => v = u ∧ K r) args s 0 0) (F0 m 8 ls []) := by
  obtain ⟨hx, hb, hml, hown, hts, -⟩ := id X
  obtain ⟨I, μ, h0, hs⟩ := h
  have key : ∀ (n : Nat) (x0 : Int32) (x5 : Int32) (H : Heap) (locs : List Loc) (ls : Array Slot) , μ x0 x5 < n → I x0 x5 → GW G u s H locs → lv_has ls 6 [(0, .int x0), (1, .ref a1), (4, .int x4), (5, .int x5)] → W p l e (rmJ7_hashCode_4 0 0) s m args below meth c H locs 0 0 (QI G below (fun r v => v = u ∧ K r) args s 0 0) (F0 m 8 ls []) := by
    intro n
    induction n with
    | zero =>
      intro x0 x5 H locs ls hn
      exact absurd hn (Nat.not_lt_zero _)
    | succ n ih =>
      intro x0 x5 H locs ls hn hI hw hl
      have h := hs x0 x5 hI
      unfold bJ7_hashCode_4_8 at h
      have hJ8 : ∀ (x0' : Int32) (x5' : Int32) (H : Heap) (locs : List Loc) (ls : Array Slot) , (I x0' x5' ∧ μ x0' x5' < μ x0 x5) → GW G u s H locs → lv_has ls 6 [(0, .int x0'), (1, .ref a1), (4, .int x4), (5, .int x5')] → W p l e (rmJ7_hashCode_4 0 0) s m args below meth c H locs 0 0 (QI G below (fun r v => v = u ∧ K r) args s 0 0) (F0 m 8 ls []) := fun x0' x5' H locs ls h hw hl => ih x0' x5' H locs ls (Nat.lt_of_lt_of_le h.2 (Nat.le_of_lt_succ hn)) h.1 hw hl
      refine lv_iload hx hb dJ7_hashCode_4_8 (lv_at hl 3 rfl) ?_
      refine lv_iload hx hb dJ7_hashCode_4_10 (lv_at hl 2 rfl) ?_
      refine lv_icmp_ge (tgt := 31) hx hb dJ7_hashCode_4_12 rfl (fun c_2 => ?_) (fun c_2 => ?_)
      · have h := h.1 c_2
        refine lv_iload_n hx hb dJ7_hashCode_4_31 rfl (lv_at hl 0 rfl) ?_
        exact g_iret X hw hr ⟨rfl, h⟩ (Nat.le_refl _) (Nat.le_refl _) dJ7_hashCode_4_32
      · have h := h.2 c_2
        refine lv_bipush (v := 31) hx hb dJ7_hashCode_4_15 (by decide) ?_
        refine lv_iload_n hx hb dJ7_hashCode_4_17 rfl (lv_at hl 0 rfl) ?_
        refine lv_imul hx hb dJ7_hashCode_4_18 ?_
        refine lv_aload_n hx hb dJ7_hashCode_4_19 rfl (lv_at hl 1 rfl) ?_
        refine lv_iload hx hb dJ7_hashCode_4_20 (lv_at hl 3 rfl) ?_
        have hk_1 : kd u a1 = 101 := h.1
        have h := h.2
        refine g_iald X hw hk_1 h.1 dJ7_hashCode_4_22 ?_
        have h := h.2
        refine lv_iadd hx hb dJ7_hashCode_4_23 ?_
        refine lv_istore_n (lv' := [(0, .int ((31 * x0) + (AI u a1 (tn x5)))), (1, .ref a1), (4, .int x4), (5, .int x5)]) hx hb dJ7_hashCode_4_24 rfl hl (by decide) rfl (fun ls hl => ?_)
        refine lv_iinc (v := x5 + 1) (lv' := [(5, .int (x5 + 1)), (0, .int ((31 * x0) + (AI u a1 (tn x5)))), (1, .ref a1), (4, .int x4)]) hx hb dJ7_hashCode_4_25 hl (k := 3) rfl rfl (by decide) rfl (fun ls hl => ?_)
        refine lv_goto (tgt := 8) hx hb dJ7_hashCode_4_28 rfl ?_
        exact hJ8 _ _ _ _ _ h hw (lv_sub hl [1, 2, 3, 0] rfl)
  exact key _ _ _ _ _ _ (Nat.lt_succ_self _) h0 hw hl
set_option maxHeartbeats 4000000 in
theorem mJ7_hashCode_4 (l : Launch) (G : GT) (u : Hp) (x0 : Int32) (a1 : Nat) (x2 : Int32) (x3 : Int32) (K : Int32 → Prop) (h : pJ7_hashCode_4 u x0 a1 x2 x3 K) : Met l yJ7_hashCode_4 (ws_ yJ7_hashCode_4 cJ7_hashCode_4 6 (some .int)) (rmJ7_hashCode_4 0 0) (va_Pc [.int x0, .ref a1, .int x2, .int x3] (GB G u)) (va_Qi (fun r v => v = u ∧ K r) (fun u t => GH G u t.heap) (GA G)) 0 0 (GA G) := by
  refine Met.ofW (cc := cJ7_hashCode_4) (maxL := 6) (ret := (some .int)) (by decide) rfl ?_
  intro p e s m args below meth c s₁ B hml hv
  obtain ⟨rfl, hv⟩ := hv
  have X := Mc_of (own := RJ7) B hml rfl hv
  have hw : GW G u s s.heap [] := ⟨hv.2.1, va_S.rf⟩
  have hr := B.returns
  obtain ⟨hx, hb, hml, hown, hts, -⟩ := id X
  have hl := lv_entry ([.int x0, .ref a1, .int x2, .int x3]) (n := 6) (Nat.le_of_ble_eq_true rfl)
  rw [lg_entry_eq]
  generalize (lg_sl ([.int x0, .ref a1, .int x2, .int x3]) ++ List.replicate (6 - (lg_sl ([.int x0, .ref a1, .int x2, .int x3])).length) Slot.unset).toArray = ls at hl ⊢
  have hl : lv_has ls 6 [(0, .int x0), (1, .ref a1), (2, .int x2), (3, .int x3)] := hl
  change W p l e (rmJ7_hashCode_4 0 0) s m _ below meth c s.heap [] 0 0 (QI G below (fun r v => v = u ∧ K r) _ s 0 0) (F0 m 0 ls [])
  unfold pJ7_hashCode_4 at h
  refine lv_iload_n hx hb dJ7_hashCode_4_0 rfl (lv_at hl 2 rfl) ?_
  refine lv_iload_n hx hb dJ7_hashCode_4_1 rfl (lv_at hl 3 rfl) ?_
  refine lv_iadd hx hb dJ7_hashCode_4_2 ?_
  refine lv_istore (lv' := [(4, .int (x2 + x3)), (0, .int x0), (1, .ref a1), (2, .int x2), (3, .int x3)]) hx hb dJ7_hashCode_4_3 hl (by decide) rfl (fun ls hl => ?_)
  refine lv_iload_n hx hb dJ7_hashCode_4_5 rfl (lv_at hl 3 rfl) ?_
  refine lv_istore (lv' := [(5, .int x2), (4, .int (x2 + x3)), (0, .int x0), (1, .ref a1), (2, .int x2), (3, .int x3)]) hx hb dJ7_hashCode_4_6 hl (by decide) rfl (fun ls hl => ?_)
  exact wJ7_hashCode_4_8 X hr  h hw (lv_sub hl [2, 3, 1, 0] rfl)

/-! jdk/internal/util/ArraysSupport.vectorizedHashCode(Ljava/lang/Object;IIII)I -/
theorem ydJ7_vectorizedHashCode : yJ7_vectorizedHashCode.cls = "jdk/internal/util/ArraysSupport" ∧ yJ7_vectorizedHashCode.cls ≠ "java/lang/invoke/MethodHandle" ∧ yJ7_vectorizedHashCode.cls ≠ "java/lang/invoke/VarHandle" ∧ (parseMethodDescriptor yJ7_vectorizedHashCode.desc).map (fun d => d.parameters.length) = some 5 := by decide +kernel
def rmJ7_vectorizedHashCode (mc ms : Nat) : Room := { frames := 1, cells := mc, slots := ms, locals := 25 }
set_option maxHeartbeats 4000000 in
theorem mJ7_vectorizedHashCode (l : Launch) (G : GT) (u : Hp) (a0 : Nat) (x1 : Int32) (x2 : Int32) (x3 : Int32) (x4 : Int32) (K : Int32 → Prop) (h : pJ7_vectorizedHashCode u a0 x1 x2 x3 x4 K) : Met l yJ7_vectorizedHashCode (ws_ yJ7_vectorizedHashCode cJ7_vectorizedHashCode 5 (some .int)) (rmJ7_vectorizedHashCode 0 0) (va_Pc [.ref a0, .int x1, .int x2, .int x3, .int x4] (GB G u)) (va_Qi (fun r v => v = u ∧ K r) (fun u t => GH G u t.heap) (GA G)) 0 0 (GA G) := by
  refine Met.ofW (cc := cJ7_vectorizedHashCode) (maxL := 5) (ret := (some .int)) (by decide) rfl ?_
  intro p e s m args below meth c s₁ B hml hv
  obtain ⟨rfl, hv⟩ := hv
  have X := Mc_of (own := RJ7) B hml rfl hv
  have hw : GW G u s s.heap [] := ⟨hv.2.1, va_S.rf⟩
  have hr := B.returns
  obtain ⟨hx, hb, hml, hown, hts, -⟩ := id X
  have hl := lv_entry ([.ref a0, .int x1, .int x2, .int x3, .int x4]) (n := 5) (Nat.le_of_ble_eq_true rfl)
  rw [lg_entry_eq]
  generalize (lg_sl ([.ref a0, .int x1, .int x2, .int x3, .int x4]) ++ List.replicate (5 - (lg_sl ([.ref a0, .int x1, .int x2, .int x3, .int x4])).length) Slot.unset).toArray = ls at hl ⊢
  have hl : lv_has ls 5 [(0, .ref a0), (1, .int x1), (2, .int x2), (3, .int x3), (4, .int x4)] := hl
  change W p l e (rmJ7_vectorizedHashCode 0 0) s m _ below meth c s.heap [] 0 0 (QI G below (fun r v => v = u ∧ K r) _ s 0 0) (F0 m 0 ls [])
  unfold pJ7_vectorizedHashCode at h
  refine lv_iload hx hb dJ7_vectorizedHashCode_0 (lv_at hl 4 rfl) ?_
  by_cases c_3 : x4 = 4
  · refine lv_tableIn (tgt := 44) hx hb dJ7_vectorizedHashCode_2 (by rw [c_3]; decide) (by rw [c_3]; decide) (by first | (rw [c_3]; done) | (rw [c_3]; rfl)) rfl ?_
    have h := h.1 c_3
    refine lv_iload_n hx hb dJ7_vectorizedHashCode_44 rfl (lv_at hl 3 rfl) ?_
    refine lv_aload_n hx hb dJ7_vectorizedHashCode_45 rfl (lv_at hl 0 rfl) ?_
    have hk_1 : kd u a0 = 102 := h.1
    have h := h.2
    refine g_castB X hw hk_1 q760 dJ7_vectorizedHashCode_46 ?_
    refine lv_iload_n hx hb dJ7_vectorizedHashCode_49 rfl (lv_at hl 1 rfl) ?_
    refine lv_iload_n hx hb dJ7_vectorizedHashCode_50 rfl (lv_at hl 2 rfl) ?_
    refine g_callio hw (g_S X hw (mJ7_signedHashCode l G _ _ _ _ _ _ h) 4 (lw_S q761 q762 q149 q763) rfl rfl ydJ7_signedHashCode ⟨Nat.le_of_ble_eq_true rfl, Nat.le_of_ble_eq_true rfl⟩ (As := [.int x3, .ref a0, .int x1, .int x2]) (rest := []) rfl hl.1 rfl (Nat.le_of_ble_eq_true rfl) dJ7_vectorizedHashCode_51 ⟨Nat.le_refl _, Nat.le_refl _⟩) (fun r_2 H locs h hw => ?_)
    refine lv_goto (tgt := 157) hx hb dJ7_vectorizedHashCode_54 rfl ?_
    exact g_iret X hw hr ⟨rfl, h⟩ (Nat.le_refl _) (Nat.le_refl _) dJ7_vectorizedHashCode_157
  have h := h.2
  by_cases c_4 : x4 = 5
  · refine lv_tableIn (tgt := 57) hx hb dJ7_vectorizedHashCode_2 (by rw [c_4]; decide) (by rw [c_4]; decide) (by first | (rw [c_4]; done) | (rw [c_4]; rfl)) rfl ?_
    have h := h.1 c_4
    exact absurd h id
  have h := h.2
  by_cases c_5 : x4 = 6
  · refine lv_tableIn (tgt := 129) hx hb dJ7_vectorizedHashCode_2 (by rw [c_5]; decide) (by rw [c_5]; decide) (by first | (rw [c_5]; done) | (rw [c_5]; rfl)) rfl ?_
    have h := h.1 c_5
    exact absurd h id
  have h := h.2
  by_cases c_6 : x4 = 7
  · refine lv_tableIn (tgt := 129) hx hb dJ7_vectorizedHashCode_2 (by rw [c_6]; decide) (by rw [c_6]; decide) (by first | (rw [c_6]; done) | (rw [c_6]; rfl)) rfl ?_
    have h := h.1 c_6
    exact absurd h id
  have h := h.2
  by_cases c_7 : x4 = 8
  · refine lv_tableIn (tgt := 90) hx hb dJ7_vectorizedHashCode_2 (by rw [c_7]; decide) (by rw [c_7]; decide) (by first | (rw [c_7]; done) | (rw [c_7]; rfl)) rfl ?_
    have h := h.1 c_7
    exact absurd h id
  have h := h.2
  by_cases c_8 : x4 = 9
  · refine lv_tableIn (tgt := 103) hx hb dJ7_vectorizedHashCode_2 (by rw [c_8]; decide) (by rw [c_8]; decide) (by first | (rw [c_8]; done) | (rw [c_8]; rfl)) rfl ?_
    have h := h.1 c_8
    exact absurd h id
  have h := h.2
  by_cases c_9 : x4 = 10
  · refine lv_tableIn (tgt := 116) hx hb dJ7_vectorizedHashCode_2 (by rw [c_9]; decide) (by rw [c_9]; decide) (by first | (rw [c_9]; done) | (rw [c_9]; rfl)) rfl ?_
    have h := h.1 c_9
    exact absurd h id
  have h := h.2
  have h := h ⟨c_3, c_4, c_5, c_6, c_7, c_8, c_9⟩
  refine lv_tableOut (tgt := 129) hx hb dJ7_vectorizedHashCode_2 (tbl_out 4 7 (by decide) (by decide) (fun i hi => by match i, hi with | 0, _ => exact c_3 | 1, _ => exact c_4 | 2, _ => exact c_5 | 3, _ => exact c_6 | 4, _ => exact c_7 | 5, _ => exact c_8 | 6, _ => exact c_9 | n + 7, hi => exact absurd hi (by omega))) rfl ?_
  exact absurd h id

/-! java/lang/StringLatin1.hashCode([B)I -/
theorem ydJ6_hashCode : yJ6_hashCode.cls = "java/lang/StringLatin1" ∧ yJ6_hashCode.cls ≠ "java/lang/invoke/MethodHandle" ∧ yJ6_hashCode.cls ≠ "java/lang/invoke/VarHandle" ∧ (parseMethodDescriptor yJ6_hashCode.desc).map (fun d => d.parameters.length) = some 1 := by decide +kernel
def rmJ6_hashCode (mc ms : Nat) : Room := { frames := 2, cells := mc, slots := ms, locals := 49 }
set_option maxHeartbeats 4000000 in
theorem mJ6_hashCode (l : Launch) (G : GT) (u : Hp) (a0 : Nat) (K : Int32 → Prop) (h : pJ6_hashCode u a0 K) : Met l yJ6_hashCode (ws_ yJ6_hashCode cJ6_hashCode 1 (some .int)) (rmJ6_hashCode 0 0) (va_Pc [.ref a0] (GB G u)) (va_Qi (fun r v => v = u ∧ K r) (fun u t => GH G u t.heap) (GA G)) 0 0 (GA G) := by
  refine Met.ofW (cc := cJ6_hashCode) (maxL := 1) (ret := (some .int)) (by decide) rfl ?_
  intro p e s m args below meth c s₁ B hml hv
  obtain ⟨rfl, hv⟩ := hv
  have X := Mc_of (own := RJ6) B hml rfl hv
  have hw : GW G u s s.heap [] := ⟨hv.2.1, va_S.rf⟩
  have hr := B.returns
  obtain ⟨hx, hb, hml, hown, hts, -⟩ := id X
  have hl := lv_entry ([.ref a0]) (n := 1) (Nat.le_of_ble_eq_true rfl)
  rw [lg_entry_eq]
  generalize (lg_sl ([.ref a0]) ++ List.replicate (1 - (lg_sl ([.ref a0])).length) Slot.unset).toArray = ls at hl ⊢
  have hl : lv_has ls 1 [(0, .ref a0)] := hl
  change W p l e (rmJ6_hashCode 0 0) s m _ below meth c s.heap [] 0 0 (QI G below (fun r v => v = u ∧ K r) _ s 0 0) (F0 m 0 ls [])
  unfold pJ6_hashCode at h
  refine lv_aload_n hx hb dJ6_hashCode_0 rfl (lv_at hl 0 rfl) ?_
  have hk_1 : kd u a0 = 102 ∨ kd u a0 = 202 := h.1
  have h := h.2
  refine g_blen X hw hk_1 dJ6_hashCode_1 ?_
  by_cases c_2 : nI (ln u a0) = 0
  · refine lv_lookup (tgt := 28) hx hb dJ6_hashCode_2 (by decide) (by first | (rw [c_2]; done) | (rw [c_2]; rfl)) rfl ?_
    have h := h.1 c_2
    refine lv_iconst (v := 0) hx hb dJ6_hashCode_28 (by decide) ?_
    refine lv_goto (tgt := 51) hx hb dJ6_hashCode_29 rfl ?_
    exact g_iret X hw hr ⟨rfl, h⟩ (Nat.le_refl _) (Nat.le_refl _) dJ6_hashCode_51
  have h := h.2
  by_cases c_3 : nI (ln u a0) = 1
  · refine lv_lookup (tgt := 32) hx hb dJ6_hashCode_2 (by decide) (by first | (rw [c_3]; done) | (rw [c_3]; rfl)) rfl ?_
    have h := h.1 c_3
    refine lv_aload_n hx hb dJ6_hashCode_32 rfl (lv_at hl 0 rfl) ?_
    refine lv_iconst (v := 0) hx hb dJ6_hashCode_33 (by decide) ?_
    refine g_bald X hw hk_1 h.1 dJ6_hashCode_34 ?_
    have h := h.2
    refine lv_sipush (v := 255) hx hb dJ6_hashCode_35 (by decide) ?_
    refine lv_iand hx hb dJ6_hashCode_38 ?_
    refine lv_goto (tgt := 51) hx hb dJ6_hashCode_39 rfl ?_
    exact g_iret X hw hr ⟨rfl, h⟩ (Nat.le_refl _) (Nat.le_refl _) dJ6_hashCode_51
  have h := h.2
  have h := h ⟨c_2, c_3⟩
  refine lv_lookup (tgt := 42) hx hb dJ6_hashCode_2 (by decide) (by first | (rw [lv_osw c_2 (by decide), lv_osw c_3 (by decide)]; done) | (rw [lv_osw c_2 (by decide), lv_osw c_3 (by decide)]; rfl)) rfl ?_
  refine lv_aload_n hx hb dJ6_hashCode_42 rfl (lv_at hl 0 rfl) ?_
  refine lv_iconst (v := 0) hx hb dJ6_hashCode_43 (by decide) ?_
  refine lv_aload_n hx hb dJ6_hashCode_44 rfl (lv_at hl 0 rfl) ?_
  refine g_blen X hw hk_1 dJ6_hashCode_45 ?_
  refine lv_iconst (v := 0) hx hb dJ6_hashCode_46 (by decide) ?_
  refine lv_iconst (v := 4) hx hb dJ6_hashCode_47 (by decide) ?_
  refine g_callio hw (g_S X hw (mJ7_vectorizedHashCode l G _ _ _ _ _ _ _ h) 5 (lw_S q757 q758 q149 q759) rfl rfl ydJ7_vectorizedHashCode ⟨Nat.le_of_ble_eq_true rfl, Nat.le_of_ble_eq_true rfl⟩ (As := [.ref a0, .int 0, .int (nI (ln u a0)), .int 0, .int 4]) (rest := []) rfl hl.1 rfl (Nat.le_of_ble_eq_true rfl) dJ6_hashCode_48 ⟨Nat.le_refl _, Nat.le_refl _⟩) (fun r_4 H locs h hw => ?_)
  exact g_iret X hw hr ⟨rfl, h⟩ (Nat.le_refl _) (Nat.le_refl _) dJ6_hashCode_51

/-! java/lang/String.hashCode()I -/
theorem ydJ3_hashCode : yJ3_hashCode.cls = "java/lang/String" ∧ yJ3_hashCode.cls ≠ "java/lang/invoke/MethodHandle" ∧ yJ3_hashCode.cls ≠ "java/lang/invoke/VarHandle" ∧ (parseMethodDescriptor yJ3_hashCode.desc).map (fun d => d.parameters.length) = some 0 := by decide +kernel
def rmJ3_hashCode (mc ms : Nat) : Room := { frames := 3, cells := mc, slots := ms, locals := 69 }
set_option maxHeartbeats 4000000 in
theorem mJ3_hashCode (l : Launch) (G : GT) (u : Hp) (a0 : Nat) (K : Int32 → Hp → Prop) (h : pJ3_hashCode u a0 K) : Met l yJ3_hashCode (ws_ yJ3_hashCode cJ3_hashCode 2 (some .int)) (rmJ3_hashCode 0 0) (va_Pc [.ref a0] (GB G u)) (va_Qi K (fun u t => GH G u t.heap) (GA G)) 0 0 (GA G) := by
  refine Met.ofW (cc := cJ3_hashCode) (maxL := 2) (ret := (some .int)) (by decide) rfl ?_
  intro p e s m args below meth c s₁ B hml hv
  obtain ⟨rfl, hv⟩ := hv
  have X := Mc_of (own := RJ3) B hml rfl hv
  have hw : GW G u s s.heap [] := ⟨hv.2.1, va_S.rf⟩
  have hr := B.returns
  obtain ⟨hx, hb, hml, hown, hts, -⟩ := id X
  have hl := lv_entry ([.ref a0]) (n := 2) (Nat.le_of_ble_eq_true rfl)
  rw [lg_entry_eq]
  generalize (lg_sl ([.ref a0]) ++ List.replicate (2 - (lg_sl ([.ref a0])).length) Slot.unset).toArray = ls at hl ⊢
  have hl : lv_has ls 2 [(0, .ref a0)] := hl
  change W p l e (rmJ3_hashCode 0 0) s m _ below meth c s.heap [] 0 0 (QI G below K _ s 0 0) (F0 m 0 ls [])
  unfold pJ3_hashCode at h
  refine lv_aload_n hx hb dJ3_hashCode_0 rfl (lv_at hl 0 rfl) ?_
  have hk_1 : kd u a0 = 21 := h.1
  have h := h.2
  refine g_getI X hw in_J3 hk_1 rfl 2 rfl (by decide) q719 (fun _ z => z) dJ3_hashCode_1 ?_
  refine lv_istore_n (lv' := [(1, .int (FI u 2402 a0)), (0, .ref a0)]) hx hb dJ3_hashCode_4 rfl hl (by decide) rfl (fun ls hl => ?_)
  refine lv_iload_n hx hb dJ3_hashCode_5 rfl (lv_at hl 0 rfl) ?_
  refine lv_if_ne (tgt := 58) hx hb dJ3_hashCode_6 rfl (fun c_12 => ?_) (fun c_12 => ?_)
  · have h := h.2 c_12
    refine lv_iload_n hx hb dJ3_hashCode_58 rfl (lv_at hl 0 rfl) ?_
    exact g_iret X hw hr h (Nat.le_refl _) (Nat.le_refl _) dJ3_hashCode_59
  · have h := h.1 c_12
    refine lv_aload_n hx hb dJ3_hashCode_9 rfl (lv_at hl 1 rfl) ?_
    refine g_getI X hw in_J3 hk_1 rfl 3 rfl (by decide) q720 (fun _ z => z) dJ3_hashCode_10 ?_
    refine lv_if_ne (tgt := 58) hx hb dJ3_hashCode_13 rfl (fun c_11 => ?_) (fun c_11 => ?_)
    · have h := h.2 c_11
      refine lv_iload_n hx hb dJ3_hashCode_58 rfl (lv_at hl 0 rfl) ?_
      exact g_iret X hw hr h (Nat.le_refl _) (Nat.le_refl _) dJ3_hashCode_59
    · have h := h.1 c_11
      refine lv_aload_n hx hb dJ3_hashCode_16 rfl (lv_at hl 1 rfl) ?_
      have hk_2 : kd u a0 = 21 ∨ kd u a0 = 201 := h.1
      have h := h.2
      refine g_callio hw (g_V X hw (mJ3_isLatin1 l G _ _ _ h) 0 (lw_V q750 q751 q752 q145 q753) rfl rfl ydJ3_isLatin1 ⟨Nat.le_of_ble_eq_true rfl, Nat.le_of_ble_eq_true rfl⟩ (g_recvS X hw hk_2) (As := []) (rest := []) rfl hl.1 rfl (Nat.le_of_ble_eq_true rfl) dJ3_hashCode_17 ⟨Nat.le_refl _, Nat.le_refl _⟩) (fun r_3 H locs h hw => ?_)
      refine lv_if_eq (tgt := 33) hx hb dJ3_hashCode_20 rfl (fun c_10 => ?_) (fun c_10 => ?_)
      · have h := h.1 c_10
        refine lv_aload_n hx hb dJ3_hashCode_33 rfl (lv_at hl 1 rfl) ?_
        obtain ⟨b_4, e_5, h⟩ := h
        refine g_getSv X hw hk_2 q717 e_5 dJ3_hashCode_34 ?_
        exact absurd h id
      · have h := h.2 c_10
        refine lv_aload_n hx hb dJ3_hashCode_23 rfl (lv_at hl 1 rfl) ?_
        obtain ⟨b_6, e_7, h⟩ := h
        refine g_getSv X hw hk_2 q717 e_7 dJ3_hashCode_24 ?_
        refine g_callio hw (g_S X hw (mJ6_hashCode l G _ _ _ h) 1 (lw_S q754 q755 q148 q756) rfl rfl ydJ6_hashCode ⟨Nat.le_of_ble_eq_true rfl, Nat.le_of_ble_eq_true rfl⟩ (As := [.ref b_6]) (rest := []) rfl hl.1 rfl (Nat.le_of_ble_eq_true rfl) dJ3_hashCode_27 ⟨Nat.le_refl _, Nat.le_refl _⟩) (fun r_8 H locs h hw => ?_)
        refine lv_goto (tgt := 40) hx hb dJ3_hashCode_30 rfl ?_
        refine lv_istore_n (lv' := [(1, .int r_8), (0, .ref a0)]) hx hb dJ3_hashCode_40 rfl hl (by decide) rfl (fun ls hl => ?_)
        refine lv_iload_n hx hb dJ3_hashCode_41 rfl (lv_at hl 0 rfl) ?_
        refine lv_if_ne (tgt := 53) hx hb dJ3_hashCode_42 rfl (fun c_9 => ?_) (fun c_9 => ?_)
        · have h := h.2 c_9
          refine lv_aload_n hx hb dJ3_hashCode_53 rfl (lv_at hl 1 rfl) ?_
          refine lv_iload_n hx hb dJ3_hashCode_54 rfl (lv_at hl 0 rfl) ?_
          refine g_putI (v := r_8) X hw in_J3 tyJ3_ok nmJ3 hk_1 rfl 2 rfl (by decide) q719 (fun _ z => z) rfl rfl rfl dJ3_hashCode_55 (fun H locs hw => ?_)
          refine lv_iload_n hx hb dJ3_hashCode_58 rfl (lv_at hl 0 rfl) ?_
          exact g_iret X hw hr h (Nat.le_refl _) (Nat.le_refl _) dJ3_hashCode_59
        · have h := h.1 c_9
          refine lv_aload_n hx hb dJ3_hashCode_45 rfl (lv_at hl 1 rfl) ?_
          refine lv_iconst (v := 1) hx hb dJ3_hashCode_46 (by decide) ?_
          refine g_putI (v := 1) X hw in_J3 tyJ3_ok nmJ3 hk_1 rfl 3 rfl (by decide) q720 (fun _ z => z) rfl rfl rfl dJ3_hashCode_47 (fun H locs hw => ?_)
          refine lv_goto (tgt := 58) hx hb dJ3_hashCode_50 rfl ?_
          refine lv_iload_n hx hb dJ3_hashCode_58 rfl (lv_at hl 0 rfl) ?_
          exact g_iret X hw hr h (Nat.le_refl _) (Nat.le_refl _) dJ3_hashCode_59

/-! java/lang/String.rangeCheck([CII)Ljava/lang/Void; -/
theorem ydJ3_rangeCheck : yJ3_rangeCheck.cls = "java/lang/String" ∧ yJ3_rangeCheck.cls ≠ "java/lang/invoke/MethodHandle" ∧ yJ3_rangeCheck.cls ≠ "java/lang/invoke/VarHandle" ∧ (parseMethodDescriptor yJ3_rangeCheck.desc).map (fun d => d.parameters.length) = some 3 := by decide +kernel
def rmJ3_rangeCheck (mc ms : Nat) : Room := { frames := 2, cells := mc, slots := ms, locals := 45 }
set_option maxHeartbeats 4000000 in
theorem mJ3_rangeCheck (l : Launch) (G : GT) (u : Hp) (a0 : Nat) (x1 : Int32) (x2 : Int32) (K : Option Nat → Prop) (h : pJ3_rangeCheck u a0 x1 x2 K) : Met l yJ3_rangeCheck (ws_ yJ3_rangeCheck cJ3_rangeCheck 3 (some (.object "java/lang/Void"))) (rmJ3_rangeCheck 0 0) (va_Pc [.ref a0, .int x1, .int x2] (GB G u)) (va_Qq (fun r v => v = u ∧ K r) (fun u t => GH G u t.heap) (GA G)) 0 0 (GA G) := by
  refine Met.ofW (cc := cJ3_rangeCheck) (maxL := 3) (ret := (some (.object "java/lang/Void"))) (by decide) rfl ?_
  intro p e s m args below meth c s₁ B hml hv
  obtain ⟨rfl, hv⟩ := hv
  have X := Mc_of (own := RJ3) B hml rfl hv
  have hw : GW G u s s.heap [] := ⟨hv.2.1, va_S.rf⟩
  have hr := B.returns
  obtain ⟨hx, hb, hml, hown, hts, -⟩ := id X
  have hl := lv_entry ([.ref a0, .int x1, .int x2]) (n := 3) (Nat.le_of_ble_eq_true rfl)
  rw [lg_entry_eq]
  generalize (lg_sl ([.ref a0, .int x1, .int x2]) ++ List.replicate (3 - (lg_sl ([.ref a0, .int x1, .int x2])).length) Slot.unset).toArray = ls at hl ⊢
  have hl : lv_has ls 3 [(0, .ref a0), (1, .int x1), (2, .int x2)] := hl
  change W p l e (rmJ3_rangeCheck 0 0) s m _ below meth c s.heap [] 0 0 (QR G below (fun r v => v = u ∧ K r) _ s 0 0) (F0 m 0 ls [])
  unfold pJ3_rangeCheck at h
  refine lv_iload_n hx hb dJ3_rangeCheck_0 rfl (lv_at hl 1 rfl) ?_
  refine lv_iload_n hx hb dJ3_rangeCheck_1 rfl (lv_at hl 2 rfl) ?_
  refine lv_aload_n hx hb dJ3_rangeCheck_2 rfl (lv_at hl 0 rfl) ?_
  have hk_1 : kd u a0 = 103 := h.1
  have h := h.2
  refine g_clen X hw hk_1 dJ3_rangeCheck_3 ?_
  refine g_callio hw (g_S X hw (mJ3_checkBoundsOffCount l G _ _ _ _ _ h) 3 (lw_S q660 q661 q145 q662) rfl rfl ydJ3_checkBoundsOffCount ⟨Nat.le_of_ble_eq_true rfl, Nat.le_of_ble_eq_true rfl⟩ (As := [.int x1, .int x2, .int (nI (ln u a0))]) (rest := []) rfl hl.1 rfl (Nat.le_of_ble_eq_true rfl) dJ3_rangeCheck_4 ⟨Nat.le_refl _, Nat.le_refl _⟩) (fun r_2 H locs h hw => ?_)
  refine lv_pop hx hb dJ3_rangeCheck_7 rfl ?_
  refine lv_null hx hb dJ3_rangeCheck_8 ?_
  exact g_aret X hw (v := none) hr (Or.inl ⟨_, rfl⟩) ⟨rfl, h⟩ (Nat.le_refl _) (Nat.le_refl _) dJ3_rangeCheck_9

/-! java/lang/StringUTF16.compress([CI[BII)I -/
theorem ydJ5_compress_2 : yJ5_compress_2.cls = "java/lang/StringUTF16" ∧ yJ5_compress_2.cls ≠ "java/lang/invoke/MethodHandle" ∧ yJ5_compress_2.cls ≠ "java/lang/invoke/VarHandle" ∧ (parseMethodDescriptor yJ5_compress_2.desc).map (fun d => d.parameters.length) = some 5 := by decide +kernel
def rmJ5_compress_2 (mc ms : Nat) : Room := { frames := 0, cells := mc, slots := ms, locals := 0 }
set_option maxHeartbeats 4000000 in
theorem wJ5_compress_2_3 {G : GT} {p : Program} {l : Launch} {e : Env} {s : State} {m : MethodId} {args : Array Value} {below : List Frame} {meth : Method} {c : Code} {H : Heap} {locs : List Loc} {ls : Array Slot} {a0 : Nat} {a2 : Nat} {x4 : Int32} {x1 : Int32} {x3 : Int32} {x5 : Int32} {u : Hp} {K : Int32 → Hp → Prop} (X : Mc G p s m args meth c RJ5 cJ5_compress_2 7) (hr : meth.sig.returnType = (some .int)) (h : jl4 (bJ5_compress_2_3 K a0 a2 x4) x1 x3 x5 u) (hw : GW G u s H locs) (hl : lv_has ls 7 [(0, .ref a0), (1, .int x1), (2, .ref a2), (3, .int x3), (4, .int x4), (5, .int x5)]) : W p l e (rmJ5_compress_2 0 0) s m args below meth c H locs 0 0 (QI G below K args s 0 0) (F0 m 3 ls []) := by
  obtain ⟨hx, hb, hml, hown, hts, -⟩ := id X
  obtain ⟨I, μ, h0, hs⟩ := h
  have key : ∀ (n : Nat) (x1 : Int32) (x3 : Int32) (x5 : Int32) (u : Hp) (H : Heap) (locs : List Loc) (ls : Array Slot) , μ x1 x3 x5 u < n → I x1 x3 x5 u → GW G u s H locs → lv_has ls 7 [(0, .ref a0), (1, .int x1), (2, .ref a2), (3, .int x3), (4, .int x4), (5, .int x5)] → W p l e (rmJ5_compress_2 0 0) s m args below meth c H locs 0 0 (QI G below K args s 0 0) (F0 m 3 ls []) := by
    intro n
    induction n with
    | zero =>
      intro x1 x3 x5 u H locs ls hn
      exact absurd hn (Nat.not_lt_zero _)
    | succ n ih =>
      intro x1 x3 x5 u H locs ls hn hI hw hl
      have h := hs x1 x3 x5 u hI
      unfold bJ5_compress_2_3 at h
      have hJ3 : ∀ (x1' : Int32) (x3' : Int32) (x5' : Int32) (u' : Hp) (H : Heap) (locs : List Loc) (ls : Array Slot) , (I x1' x3' x5' u' ∧ μ x1' x3' x5' u' < μ x1 x3 x5 u) → GW G u' s H locs → lv_has ls 7 [(0, .ref a0), (1, .int x1'), (2, .ref a2), (3, .int x3'), (4, .int x4), (5, .int x5')] → W p l e (rmJ5_compress_2 0 0) s m args below meth c H locs 0 0 (QI G below K args s 0 0) (F0 m 3 ls []) := fun x1' x3' x5' u' H locs ls h hw hl => ih x1' x3' x5' u' H locs ls (Nat.lt_of_lt_of_le h.2 (Nat.le_of_lt_succ hn)) h.1 hw hl
      refine lv_iload hx hb dJ5_compress_2_3 (lv_at hl 5 rfl) ?_
      refine lv_iload hx hb dJ5_compress_2_5 (lv_at hl 4 rfl) ?_
      refine lv_icmp_ge (tgt := 44) hx hb dJ5_compress_2_7 rfl (fun c_4 => ?_) (fun c_4 => ?_)
      · have h := h.1 c_4
        refine lv_iload hx hb dJ5_compress_2_44 (lv_at hl 4 rfl) ?_
        exact g_iret X hw hr h (Nat.le_refl _) (Nat.le_refl _) dJ5_compress_2_46
      · have h := h.2 c_4
        refine lv_aload_n hx hb dJ5_compress_2_10 rfl (lv_at hl 0 rfl) ?_
        refine lv_iload_n hx hb dJ5_compress_2_11 rfl (lv_at hl 1 rfl) ?_
        have hk_1 : kd u a0 = 103 := h.1
        have h := h.2
        refine g_cald X hw hk_1 h.1 dJ5_compress_2_12 ?_
        have h := h.2
        refine lv_istore (lv' := [(6, .int (AI u a0 (tn x1))), (0, .ref a0), (1, .int x1), (2, .ref a2), (3, .int x3), (4, .int x4), (5, .int x5)]) hx hb dJ5_compress_2_13 hl (by decide) rfl (fun ls hl => ?_)
        refine lv_iload hx hb dJ5_compress_2_15 (lv_at hl 0 rfl) ?_
        refine lv_sipush (v := 255) hx hb dJ5_compress_2_17 (by decide) ?_
        refine lv_icmp_le (tgt := 26) hx hb dJ5_compress_2_20 rfl (fun c_3 => ?_) (fun c_3 => ?_)
        · have h := h.1 c_3
          refine lv_aload_n hx hb dJ5_compress_2_26 rfl (lv_at hl 3 rfl) ?_
          refine lv_iload_n hx hb dJ5_compress_2_27 rfl (lv_at hl 4 rfl) ?_
          refine lv_iload hx hb dJ5_compress_2_28 (lv_at hl 0 rfl) ?_
          refine lv_i2b hx hb dJ5_compress_2_30 rfl ?_
          have hk_2 : kd u a2 = 102 := h.1
          have h := h.2
          refine g_bast X hw hk_2 h.1 dJ5_compress_2_31 (fun H locs hw => ?_)
          have h := h.2
          refine lv_iinc (v := x1 + 1) (lv' := [(1, .int (x1 + 1)), (6, .int (AI u a0 (tn x1))), (0, .ref a0), (2, .ref a2), (3, .int x3), (4, .int x4), (5, .int x5)]) hx hb dJ5_compress_2_32 hl (k := 2) rfl rfl (by decide) rfl (fun ls hl => ?_)
          refine lv_iinc (v := x3 + 1) (lv' := [(3, .int (x3 + 1)), (1, .int (x1 + 1)), (6, .int (AI u a0 (tn x1))), (0, .ref a0), (2, .ref a2), (4, .int x4), (5, .int x5)]) hx hb dJ5_compress_2_35 hl (k := 4) rfl rfl (by decide) rfl (fun ls hl => ?_)
          refine lv_iinc (v := x5 + 1) (lv' := [(5, .int (x5 + 1)), (3, .int (x3 + 1)), (1, .int (x1 + 1)), (6, .int (AI u a0 (tn x1))), (0, .ref a0), (2, .ref a2), (4, .int x4)]) hx hb dJ5_compress_2_38 hl (k := 6) rfl rfl (by decide) rfl (fun ls hl => ?_)
          refine lv_goto (tgt := 3) hx hb dJ5_compress_2_41 rfl ?_
          exact hJ3 _ _ _ _ _ _ _ h hw (lv_sub hl [4, 2, 5, 1, 6, 0] rfl)
        · have h := h.2 c_3
          refine lv_iload hx hb dJ5_compress_2_23 (lv_at hl 6 rfl) ?_
          exact g_iret X hw hr h (Nat.le_refl _) (Nat.le_refl _) dJ5_compress_2_25
  exact key _ _ _ _ _ _ _ _ (Nat.lt_succ_self _) h0 hw hl
set_option maxHeartbeats 4000000 in
theorem mJ5_compress_2 (l : Launch) (G : GT) (u : Hp) (a0 : Nat) (x1 : Int32) (a2 : Nat) (x3 : Int32) (x4 : Int32) (K : Int32 → Hp → Prop) (h : pJ5_compress_2 u a0 x1 a2 x3 x4 K) : Met l yJ5_compress_2 (ws_ yJ5_compress_2 cJ5_compress_2 7 (some .int)) (rmJ5_compress_2 0 0) (va_Pc [.ref a0, .int x1, .ref a2, .int x3, .int x4] (GB G u)) (va_Qi K (fun u t => GH G u t.heap) (GA G)) 0 0 (GA G) := by
  refine Met.ofW (cc := cJ5_compress_2) (maxL := 7) (ret := (some .int)) (by decide) rfl ?_
  intro p e s m args below meth c s₁ B hml hv
  obtain ⟨rfl, hv⟩ := hv
  have X := Mc_of (own := RJ5) B hml rfl hv
  have hw : GW G u s s.heap [] := ⟨hv.2.1, va_S.rf⟩
  have hr := B.returns
  obtain ⟨hx, hb, hml, hown, hts, -⟩ := id X
  have hl := lv_entry ([.ref a0, .int x1, .ref a2, .int x3, .int x4]) (n := 7) (Nat.le_of_ble_eq_true rfl)
  rw [lg_entry_eq]
  generalize (lg_sl ([.ref a0, .int x1, .ref a2, .int x3, .int x4]) ++ List.replicate (7 - (lg_sl ([.ref a0, .int x1, .ref a2, .int x3, .int x4])).length) Slot.unset).toArray = ls at hl ⊢
  have hl : lv_has ls 7 [(0, .ref a0), (1, .int x1), (2, .ref a2), (3, .int x3), (4, .int x4)] := hl
  change W p l e (rmJ5_compress_2 0 0) s m _ below meth c s.heap [] 0 0 (QI G below K _ s 0 0) (F0 m 0 ls [])
  unfold pJ5_compress_2 at h
  refine lv_iconst (v := 0) hx hb dJ5_compress_2_0 (by decide) ?_
  refine lv_istore (lv' := [(5, .int 0), (0, .ref a0), (1, .int x1), (2, .ref a2), (3, .int x3), (4, .int x4)]) hx hb dJ5_compress_2_1 hl (by decide) rfl (fun ls hl => ?_)
  exact wJ5_compress_2_3 X hr  h hw (lv_sub hl [1, 2, 3, 4, 5, 0] rfl)

/-! java/lang/StringUTF16.compress([CII)[B -/
theorem ydJ5_compress : yJ5_compress.cls = "java/lang/StringUTF16" ∧ yJ5_compress.cls ≠ "java/lang/invoke/MethodHandle" ∧ yJ5_compress.cls ≠ "java/lang/invoke/VarHandle" ∧ (parseMethodDescriptor yJ5_compress.desc).map (fun d => d.parameters.length) = some 3 := by decide +kernel
def rmJ5_compress (mc ms : Nat) : Room := { frames := 1, cells := mc, slots := ms, locals := 26 }
set_option maxHeartbeats 4000000 in
theorem mJ5_compress (l : Launch) (G : GT) (u : Hp) (a0 : Nat) (x1 : Int32) (x2 : Int32) (MC MS : Nat) (K : Option Nat → Hp → Prop) (h : pJ5_compress u a0 x1 x2 MC MS K) : Met l yJ5_compress (ws_ yJ5_compress cJ5_compress 6 (some (.array .byte))) (rmJ5_compress MC MS) (va_Pc [.ref a0, .int x1, .int x2] (GB G u)) (va_Qq K (fun u t => GH G u t.heap) (GA G)) MC MS (GA G) := by
  refine Met.ofW (cc := cJ5_compress) (maxL := 6) (ret := (some (.array .byte))) (by decide) rfl ?_
  intro p e s m args below meth c s₁ B hml hv
  obtain ⟨rfl, hv⟩ := hv
  have X := Mc_of (own := RJ5) B hml rfl hv
  have hw : GW G u s s.heap [] := ⟨hv.2.1, va_S.rf⟩
  have hr := B.returns
  obtain ⟨hx, hb, hml, hown, hts, -⟩ := id X
  have hl := lv_entry ([.ref a0, .int x1, .int x2]) (n := 6) (Nat.le_of_ble_eq_true rfl)
  rw [lg_entry_eq]
  generalize (lg_sl ([.ref a0, .int x1, .int x2]) ++ List.replicate (6 - (lg_sl ([.ref a0, .int x1, .int x2])).length) Slot.unset).toArray = ls at hl ⊢
  have hl : lv_has ls 6 [(0, .ref a0), (1, .int x1), (2, .int x2)] := hl
  change W p l e (rmJ5_compress MC MS) s m _ below meth c s.heap [] 0 0 (QR G below K _ s MC MS) (F0 m 0 ls [])
  unfold pJ5_compress at h
  have hc1 : 0 + MC ≤ MC := by omega
  have hc2 : 0 + MS ≤ MS := by omega
  refine lv_iload_n hx hb dJ5_compress_0 rfl (lv_at hl 2 rfl) ?_
  obtain ⟨hz_5, h⟩ := h
  obtain ⟨hm_3, hm_4, h⟩ := h
  refine g_newB X hw q243 (N' := (tn x2)) hz_5.1 rfl hz_5.2 (by show _ ≤ MC; omega) (by show _ ≤ MS; omega) dJ5_compress_1 (fun q_1 H hq_2 hw => ?_)
  have h := h q_1 hq_2
  have hk_6 : kd (mkC u q_1 102 (tn x2)) q_1 = 102 := hu1_eq
  refine lv_astore_n (lv' := [(3, .ref q_1), (0, .ref a0), (1, .int x1), (2, .int x2)]) hx hb dJ5_compress_3 rfl hl (by decide) rfl (fun ls hl => ?_)
  refine lv_aload_n hx hb dJ5_compress_4 rfl (lv_at hl 1 rfl) ?_
  refine lv_iload_n hx hb dJ5_compress_5 rfl (lv_at hl 2 rfl) ?_
  refine lv_aload_n hx hb dJ5_compress_6 rfl (lv_at hl 0 rfl) ?_
  refine lv_iconst (v := 0) hx hb dJ5_compress_7 (by decide) ?_
  refine lv_iload_n hx hb dJ5_compress_8 rfl (lv_at hl 3 rfl) ?_
  refine g_calli hw (g_S X hw (mJ5_compress_2 l G _ _ _ _ _ _ _ h) 5 (lw_S q678 q679 q147 q680) rfl rfl ydJ5_compress_2 ⟨Nat.le_of_ble_eq_true rfl, Nat.le_of_ble_eq_true rfl⟩ (As := [.ref a0, .int x1, .ref q_1, .int 0, .int x2]) (rest := []) rfl hl.1 rfl (Nat.le_of_ble_eq_true rfl) dJ5_compress_9 ⟨(by show _ ≤ MC; omega), (by show _ ≤ MS; omega)⟩) (fun r_7 u_8 H locs h hw => ?_)
  refine lv_istore (lv' := [(4, .int r_7), (3, .ref q_1), (0, .ref a0), (1, .int x1), (2, .int x2)]) hx hb dJ5_compress_12 hl (by decide) rfl (fun ls hl => ?_)
  refine lv_iload hx hb dJ5_compress_14 (lv_at hl 0 rfl) ?_
  refine lv_iload_n hx hb dJ5_compress_16 rfl (lv_at hl 4 rfl) ?_
  refine lv_icmp_eq (tgt := 57) hx hb dJ5_compress_17 rfl (fun c_9 => ?_) (fun c_9 => ?_)
  · have h := h.1 c_9
    refine lv_aload_n hx hb dJ5_compress_57 rfl (lv_at hl 1 rfl) ?_
    exact g_aret X hw (v := (some q_1)) hr (Or.inr ⟨_, rfl⟩) h (by omega) (by omega) dJ5_compress_58
  · have h := h.2 c_9
    refine lv_aload_n hx hb dJ5_compress_20 rfl (lv_at hl 2 rfl) ?_
    refine lv_iload_n hx hb dJ5_compress_21 rfl (lv_at hl 3 rfl) ?_
    refine lv_iload_n hx hb dJ5_compress_22 rfl (lv_at hl 4 rfl) ?_
    exact absurd h id

/-! java/lang/StringUTF16.coderFromArrayLen([BI)B -/
theorem ydJ5_coderFromArrayLen : yJ5_coderFromArrayLen.cls = "java/lang/StringUTF16" ∧ yJ5_coderFromArrayLen.cls ≠ "java/lang/invoke/MethodHandle" ∧ yJ5_coderFromArrayLen.cls ≠ "java/lang/invoke/VarHandle" ∧ (parseMethodDescriptor yJ5_coderFromArrayLen.desc).map (fun d => d.parameters.length) = some 2 := by decide +kernel
def rmJ5_coderFromArrayLen (mc ms : Nat) : Room := { frames := 0, cells := mc, slots := ms, locals := 0 }
set_option maxHeartbeats 4000000 in
theorem mJ5_coderFromArrayLen (l : Launch) (G : GT) (u : Hp) (a0 : Nat) (x1 : Int32) (K : Int32 → Prop) (h : pJ5_coderFromArrayLen u a0 x1 K) : Met l yJ5_coderFromArrayLen (ws_ yJ5_coderFromArrayLen cJ5_coderFromArrayLen 2 (some .byte)) (rmJ5_coderFromArrayLen 0 0) (va_Pc [.ref a0, .int x1] (GB G u)) (va_Qi (fun r v => v = u ∧ K r) (fun u t => GH G u t.heap) (GA G)) 0 0 (GA G) := by
  refine Met.ofW (cc := cJ5_coderFromArrayLen) (maxL := 2) (ret := (some .byte)) (by decide) rfl ?_
  intro p e s m args below meth c s₁ B hml hv
  obtain ⟨rfl, hv⟩ := hv
  have X := Mc_of (own := RJ5) B hml rfl hv
  have hw : GW G u s s.heap [] := ⟨hv.2.1, va_S.rf⟩
  have hr := B.returns
  obtain ⟨hx, hb, hml, hown, hts, -⟩ := id X
  have hl := lv_entry ([.ref a0, .int x1]) (n := 2) (Nat.le_of_ble_eq_true rfl)
  rw [lg_entry_eq]
  generalize (lg_sl ([.ref a0, .int x1]) ++ List.replicate (2 - (lg_sl ([.ref a0, .int x1])).length) Slot.unset).toArray = ls at hl ⊢
  have hl : lv_has ls 2 [(0, .ref a0), (1, .int x1)] := hl
  change W p l e (rmJ5_coderFromArrayLen 0 0) s m _ below meth c s.heap [] 0 0 (QI G below (fun r v => v = u ∧ K r) _ s 0 0) (F0 m 0 ls [])
  unfold pJ5_coderFromArrayLen at h
  refine lv_iload_n hx hb dJ5_coderFromArrayLen_0 rfl (lv_at hl 1 rfl) ?_
  refine lv_aload_n hx hb dJ5_coderFromArrayLen_1 rfl (lv_at hl 0 rfl) ?_
  have hk_1 : kd u a0 = 102 ∨ kd u a0 = 202 := h.1
  have h := h.2
  refine g_blen X hw hk_1 dJ5_coderFromArrayLen_2 ?_
  refine lv_isub hx hb dJ5_coderFromArrayLen_3 ?_
  refine lv_bipush (v := 31) hx hb dJ5_coderFromArrayLen_4 (by decide) ?_
  refine lv_iushr (v := jushr (x1 - (nI (ln u a0))) 31) hx hb dJ5_coderFromArrayLen_6 rfl ?_
  refine lv_i2b hx hb dJ5_coderFromArrayLen_7 rfl ?_
  exact g_zret X hw hr h.1 ⟨rfl, h.2⟩ (Nat.le_refl _) (Nat.le_refl _) dJ5_coderFromArrayLen_8

/-! java/lang/String.<init>([CIILjava/lang/Void;)V -/
theorem ydJ3_init_2 : yJ3_init_2.cls = "java/lang/String" ∧ yJ3_init_2.cls ≠ "java/lang/invoke/MethodHandle" ∧ yJ3_init_2.cls ≠ "java/lang/invoke/VarHandle" ∧ (parseMethodDescriptor yJ3_init_2.desc).map (fun d => d.parameters.length) = some 4 := by decide +kernel
def rmJ3_init_2 (mc ms : Nat) : Room := { frames := 2, cells := mc, slots := ms, locals := 51 }
set_option maxHeartbeats 4000000 in
theorem mJ3_init_2 (l : Launch) (G : GT) (u : Hp) (a0 : Nat) (a1 : Nat) (x2 : Int32) (x3 : Int32) (o4 : Option Nat) (MC MS : Nat) (K : Hp → Prop) (h : pJ3_init_2 (Glit G) u a0 a1 x2 x3 o4 MC MS K) : Met l yJ3_init_2 (ws_ yJ3_init_2 cJ3_init_2 6 none) (rmJ3_init_2 MC MS) (va_Pc [.ref a0, .ref a1, .int x2, .int x3, va_rf o4] (GB G u)) (va_Qv K (fun u t => GH G u t.heap) (GA G)) MC MS (GA G) := by
  refine Met.ofW (cc := cJ3_init_2) (maxL := 6) (ret := none) (by decide) rfl ?_
  intro p e s m args below meth c s₁ B hml hv
  obtain ⟨rfl, hv⟩ := hv
  have X := Mc_of (own := RJ3) B hml rfl hv
  have hw : GW G u s s.heap [] := ⟨hv.2.1, va_S.rf⟩
  have hr := B.returns
  have hin : meth.name = "<init>" := (name_of_methodNamed B.named B.method).1
  obtain ⟨hx, hb, hml, hown, hts, -⟩ := id X
  have hl : lv_has ((lg_sl ([.ref a0, .ref a1, .int x2, .int x3, va_rf o4]) ++ List.replicate (6 - (lg_sl ([.ref a0, .ref a1, .int x2, .int x3, va_rf o4])).length) Slot.unset).toArray) 6 [(0, .ref a0), (1, .ref a1), (2, .int x2), (3, .int x3), (4, va_rf o4)] := by cases o4 <;> exact lv_entry _ (Nat.le_of_ble_eq_true rfl)
  rw [lg_entry_eq]
  generalize (lg_sl ([.ref a0, .ref a1, .int x2, .int x3, va_rf o4]) ++ List.replicate (6 - (lg_sl ([.ref a0, .ref a1, .int x2, .int x3, va_rf o4])).length) Slot.unset).toArray = ls at hl ⊢
  have hl : lv_has ls 6 [(0, .ref a0), (1, .ref a1), (2, .int x2), (3, .int x3), (4, va_rf o4)] := hl
  change W p l e (rmJ3_init_2 MC MS) s m _ below meth c s.heap [] 0 0 (QV G below K _ s MC MS) (F0 m 0 ls [])
  unfold pJ3_init_2 at h
  have hc1 : 0 + MC ≤ MC := by omega
  have hc2 : 0 + MS ≤ MS := by omega
  refine lv_aload_n hx hb dJ3_init_2_0 rfl (lv_at hl 0 rfl) ?_
  refine W.objInit hx hb hown (hts _ q671) (hts _ q162) (hts _ q163) rfl (by rw [hml]; exact hl.1) rfl dJ3_init_2_1 (Nat.le_of_ble_eq_true rfl) (Nat.le_of_ble_eq_true rfl) ?_
  refine lv_iload_n hx hb dJ3_init_2_4 rfl (lv_at hl 3 rfl) ?_
  refine lv_if_ne (tgt := 27) hx hb dJ3_init_2_5 rfl (fun c_18 => ?_) (fun c_18 => ?_)
  · have h := h.2 c_18
    refine va_gets hx hb (X.2.2.2.2.2.2.1.2.2.2.2.2.2.2.1 _ (List.mem_of_getElem? (i := 0) rfl)) hw.2 hown (hts _ q673) (fun _ z => z) dJ3_init_2_27 ?_
    refine lv_if_eq (tgt := 58) hx hb dJ3_init_2_30 rfl (fun c_12 => ?_) (fun c_12 => ?_)
    · first | exact absurd c_12 (by decide) | exact absurd (by decide) c_12
    · refine lv_aload_n hx hb dJ3_init_2_33 rfl (lv_at hl 1 rfl) ?_
      refine lv_iload_n hx hb dJ3_init_2_34 rfl (lv_at hl 2 rfl) ?_
      refine lv_iload_n hx hb dJ3_init_2_35 rfl (lv_at hl 3 rfl) ?_
      obtain ⟨q_1, q_2, hq_3, hq_4, h⟩ := h
      refine g_callr hw (g_S X hw (mJ5_compress l G _ _ _ _ _ _ _ h) 3 (lw_S q675 q676 q147 q677) rfl rfl ydJ5_compress ⟨Nat.le_of_ble_eq_true rfl, Nat.le_of_ble_eq_true rfl⟩ (As := [.ref a1, .int x2, .int x3]) (rest := []) rfl hl.1 rfl (Nat.le_of_ble_eq_true rfl) dJ3_init_2_36 ⟨(by show _ ≤ MC; omega), (by show _ ≤ MS; omega)⟩) (fun o_5 u_6 H locs h hw => ?_)
      obtain ⟨b_7, e_8, h⟩ := h
      rw [e_8]
      show W _ _ _ _ _ _ _ _ _ _ _ _ _ _ _ (F0 _ _ _ (.ref _ :: _))
      refine lv_astore (lv' := [(5, .ref b_7), (0, .ref a0), (1, .ref a1), (2, .int x2), (3, .int x3), (4, va_rf o4)]) hx hb dJ3_init_2_39 hl (by decide) (by cases o4 <;> rfl) (fun ls hl => ?_)
      refine lv_aload_n hx hb dJ3_init_2_41 rfl (lv_at hl 1 rfl) ?_
      refine lv_aload hx hb dJ3_init_2_42 (lv_at hl 0 rfl) ?_
      refine lv_iload_n hx hb dJ3_init_2_44 rfl (lv_at hl 4 rfl) ?_
      refine g_callio hw (g_S X hw (mJ5_coderFromArrayLen l G _ _ _ _ h) 2 (lw_S q713 q714 q147 q715) rfl rfl ydJ5_coderFromArrayLen ⟨Nat.le_of_ble_eq_true rfl, Nat.le_of_ble_eq_true rfl⟩ (As := [.ref b_7, .int x3]) (rest := [.ref a0]) rfl hl.1 rfl (Nat.le_of_ble_eq_true rfl) dJ3_init_2_45 ⟨(by show _ ≤ MC; omega), (by show _ ≤ MS; omega)⟩) (fun r_9 H locs h hw => ?_)
      have hk_10 : kd u_6 a0 = 21 := h.1
      have h := h.2
      have ho_11 := h.1
      have h := h.2
      refine g_putFI (v := r_9) X hin hw in_J3 tyJ3_ok nmJ3 hk_10 rfl 1 rfl (by decide) q718 (fun _ z => z) rfl rfl ho_11.1 ho_11.2 dJ3_init_2_48 (fun H locs hw => ?_)
      refine lv_aload_n hx hb dJ3_init_2_51 rfl (lv_at hl 1 rfl) ?_
      refine lv_aload hx hb dJ3_init_2_52 (lv_at hl 0 rfl) ?_
      refine g_putFO (v := (some b_7)) X hin hw in_J3 tyJ3_ok nmJ3 hk_10 rfl 0 rfl (by decide) q717 (fun _ z => z) rfl rfl rfl rfl dJ3_init_2_54 (fun H locs hw => ?_)
      exact g_vret X hw hr h (by omega) (by omega) dJ3_init_2_57
  · have h := h.1 c_18
    refine lv_aload_n hx hb dJ3_init_2_8 rfl (lv_at hl 0 rfl) ?_
    refine va_ldcS (tx := "") hx hb hown (X.2.2.2.2.2.2.1.2.2.2.2.2.2.1 52 ("java/lang/String", 7, "") rfl) dJ3_init_2_9 ?_
    have hk_13 : kd u (Glit G 52) = 21 ∨ kd u (Glit G 52) = 201 := h.1
    have h := h.2
    obtain ⟨b_14, e_15, h⟩ := h
    refine g_getSv X hw hk_13 q717 e_15 dJ3_init_2_11 ?_
    have hk_16 : kd u a0 = 21 := h.1
    have h := h.2
    refine g_putFO (v := (some b_14)) X hin hw in_J3 tyJ3_ok nmJ3 hk_16 rfl 0 rfl (by decide) q717 (fun _ z => z) rfl rfl rfl rfl dJ3_init_2_14 (fun H locs hw => ?_)
    refine lv_aload_n hx hb dJ3_init_2_17 rfl (lv_at hl 0 rfl) ?_
    refine va_ldcS (tx := "") hx hb hown (X.2.2.2.2.2.2.1.2.2.2.2.2.2.1 52 ("java/lang/String", 7, "") rfl) dJ3_init_2_18 ?_
    refine g_getSc X hw hk_13 q718 dJ3_init_2_20 ?_
    have ho_17 := h.1
    have h := h.2
    refine g_putFI (v := FI u 2401 (Glit G 52)) X hin hw in_J3 tyJ3_ok nmJ3 hk_16 rfl 1 rfl (by decide) q718 (fun _ z => z) rfl rfl ho_17.1 ho_17.2 dJ3_init_2_23 (fun H locs hw => ?_)
    exact g_vret X hw hr h (by omega) (by omega) dJ3_init_2_26

/-! java/lang/String.<init>([CII)V -/
theorem ydJ3_init : yJ3_init.cls = "java/lang/String" ∧ yJ3_init.cls ≠ "java/lang/invoke/MethodHandle" ∧ yJ3_init.cls ≠ "java/lang/invoke/VarHandle" ∧ (parseMethodDescriptor yJ3_init.desc).map (fun d => d.parameters.length) = some 3 := by decide +kernel
def rmJ3_init (mc ms : Nat) : Room := { frames := 3, cells := mc, slots := ms, locals := 76 }
set_option maxHeartbeats 4000000 in
theorem mJ3_init (l : Launch) (G : GT) (u : Hp) (a0 : Nat) (a1 : Nat) (x2 : Int32) (x3 : Int32) (MC MS : Nat) (K : Hp → Prop) (h : pJ3_init (Glit G) u a0 a1 x2 x3 MC MS K) : Met l yJ3_init (ws_ yJ3_init cJ3_init 4 none) (rmJ3_init MC MS) (va_Pc [.ref a0, .ref a1, .int x2, .int x3] (GB G u)) (va_Qv K (fun u t => GH G u t.heap) (GA G)) MC MS (GA G) := by
  refine Met.ofW (cc := cJ3_init) (maxL := 4) (ret := none) (by decide) rfl ?_
  intro p e s m args below meth c s₁ B hml hv
  obtain ⟨rfl, hv⟩ := hv
  have X := Mc_of (own := RJ3) B hml rfl hv
  have hw : GW G u s s.heap [] := ⟨hv.2.1, va_S.rf⟩
  have hr := B.returns
  have hin : meth.name = "<init>" := (name_of_methodNamed B.named B.method).1
  obtain ⟨hx, hb, hml, hown, hts, -⟩ := id X
  have hl := lv_entry ([.ref a0, .ref a1, .int x2, .int x3]) (n := 4) (Nat.le_of_ble_eq_true rfl)
  rw [lg_entry_eq]
  generalize (lg_sl ([.ref a0, .ref a1, .int x2, .int x3]) ++ List.replicate (4 - (lg_sl ([.ref a0, .ref a1, .int x2, .int x3])).length) Slot.unset).toArray = ls at hl ⊢
  have hl : lv_has ls 4 [(0, .ref a0), (1, .ref a1), (2, .int x2), (3, .int x3)] := hl
  change W p l e (rmJ3_init MC MS) s m _ below meth c s.heap [] 0 0 (QV G below K _ s MC MS) (F0 m 0 ls [])
  unfold pJ3_init at h
  have hc1 : 0 + MC ≤ MC := by omega
  have hc2 : 0 + MS ≤ MS := by omega
  refine lv_aload_n hx hb dJ3_init_0 rfl (lv_at hl 0 rfl) ?_
  refine lv_aload_n hx hb dJ3_init_1 rfl (lv_at hl 1 rfl) ?_
  refine lv_iload_n hx hb dJ3_init_2 rfl (lv_at hl 2 rfl) ?_
  refine lv_iload_n hx hb dJ3_init_3 rfl (lv_at hl 3 rfl) ?_
  refine lv_aload_n hx hb dJ3_init_4 rfl (lv_at hl 1 rfl) ?_
  refine lv_iload_n hx hb dJ3_init_5 rfl (lv_at hl 2 rfl) ?_
  refine lv_iload_n hx hb dJ3_init_6 rfl (lv_at hl 3 rfl) ?_
  refine g_callro hw (g_S X hw (mJ3_rangeCheck l G _ _ _ _ _ h) 3 (lw_S q657 q658 q145 q659) rfl rfl ydJ3_rangeCheck ⟨Nat.le_of_ble_eq_true rfl, Nat.le_of_ble_eq_true rfl⟩ (As := [.ref a1, .int x2, .int x3]) (rest := [.int x3, .int x2, .ref a1, .ref a0]) rfl hl.1 rfl (Nat.le_of_ble_eq_true rfl) dJ3_init_7 ⟨(by show _ ≤ MC; omega), (by show _ ≤ MS; omega)⟩) (fun o_1 H locs h hw => ?_)
  obtain ⟨q_4, q_5, hq_6, hq_7, h⟩ := h
  refine g_callv hw (g_I X hw (mJ3_init_2 l G _ _ _ _ _ _ _ _ _ h) 4 q670 q145 q668 q669 rfl rfl rfl ydJ3_init_2 ⟨Nat.le_of_ble_eq_true rfl, Nat.le_of_ble_eq_true rfl⟩ (As := [.ref a1, .int x2, .int x3, va_rf o_1]) (rest := []) rfl hl.1 rfl (Nat.le_of_ble_eq_true rfl) dJ3_init_10 ⟨(by show _ ≤ MC; omega), (by show _ ≤ MS; omega)⟩) (fun u_8 H locs h hw => ?_)
  exact g_vret X hw hr h (by omega) (by omega) dJ3_init_13

/-! java/lang/String.length()I -/
theorem ydJ3_length : yJ3_length.cls = "java/lang/String" ∧ yJ3_length.cls ≠ "java/lang/invoke/MethodHandle" ∧ yJ3_length.cls ≠ "java/lang/invoke/VarHandle" ∧ (parseMethodDescriptor yJ3_length.desc).map (fun d => d.parameters.length) = some 0 := by decide +kernel
def rmJ3_length (mc ms : Nat) : Room := { frames := 1, cells := mc, slots := ms, locals := 20 }
set_option maxHeartbeats 4000000 in
theorem mJ3_length (l : Launch) (G : GT) (u : Hp) (a0 : Nat) (K : Int32 → Prop) (h : pJ3_length u a0 K) : Met l yJ3_length (ws_ yJ3_length cJ3_length 1 (some .int)) (rmJ3_length 0 0) (va_Pc [.ref a0] (GB G u)) (va_Qi (fun r v => v = u ∧ K r) (fun u t => GH G u t.heap) (GA G)) 0 0 (GA G) := by
  refine Met.ofW (cc := cJ3_length) (maxL := 1) (ret := (some .int)) (by decide) rfl ?_
  intro p e s m args below meth c s₁ B hml hv
  obtain ⟨rfl, hv⟩ := hv
  have X := Mc_of (own := RJ3) B hml rfl hv
  have hw : GW G u s s.heap [] := ⟨hv.2.1, va_S.rf⟩
  have hr := B.returns
  obtain ⟨hx, hb, hml, hown, hts, -⟩ := id X
  have hl := lv_entry ([.ref a0]) (n := 1) (Nat.le_of_ble_eq_true rfl)
  rw [lg_entry_eq]
  generalize (lg_sl ([.ref a0]) ++ List.replicate (1 - (lg_sl ([.ref a0])).length) Slot.unset).toArray = ls at hl ⊢
  have hl : lv_has ls 1 [(0, .ref a0)] := hl
  change W p l e (rmJ3_length 0 0) s m _ below meth c s.heap [] 0 0 (QI G below (fun r v => v = u ∧ K r) _ s 0 0) (F0 m 0 ls [])
  unfold pJ3_length at h
  refine lv_aload_n hx hb dJ3_length_0 rfl (lv_at hl 0 rfl) ?_
  have hk_1 : kd u a0 = 21 ∨ kd u a0 = 201 := h.1
  have h := h.2
  obtain ⟨b_2, e_3, h⟩ := h
  refine g_getSv X hw hk_1 q717 e_3 dJ3_length_1 ?_
  have hk_4 : kd u b_2 = 102 ∨ kd u b_2 = 202 := h.1
  have h := h.2
  refine g_blen X hw hk_4 dJ3_length_4 ?_
  refine lv_aload_n hx hb dJ3_length_5 rfl (lv_at hl 0 rfl) ?_
  refine g_callio hw (g_V X hw (mJ3_coder l G _ _ _ h) 0 (lw_V q1704 q1705 q1706 q145 q1707) rfl rfl ydJ3_coder ⟨Nat.le_of_ble_eq_true rfl, Nat.le_of_ble_eq_true rfl⟩ (g_recvS X hw hk_1) (As := []) (rest := [.int (nI (ln u b_2))]) rfl hl.1 rfl (Nat.le_of_ble_eq_true rfl) dJ3_length_6 ⟨Nat.le_refl _, Nat.le_refl _⟩) (fun r_5 H locs h hw => ?_)
  refine lv_ishr hx hb dJ3_length_9 ?_
  exact g_iret X hw hr ⟨rfl, h⟩ (Nat.le_refl _) (Nat.le_refl _) dJ3_length_10

/-! java/util/NoSuchElementException.<init>()V -/
theorem ydJ9_init : yJ9_init.cls = "java/util/NoSuchElementException" ∧ yJ9_init.cls ≠ "java/lang/invoke/MethodHandle" ∧ yJ9_init.cls ≠ "java/lang/invoke/VarHandle" ∧ (parseMethodDescriptor yJ9_init.desc).map (fun d => d.parameters.length) = some 0 := by decide +kernel
def rmJ9_init (mc ms : Nat) : Room := { frames := 4, cells := mc, slots := ms, locals := 80 }
set_option maxHeartbeats 4000000 in
theorem mJ9_init (l : Launch) (G : GT) (u : Hp) (a0 : Nat) (K : Hp → Prop) (h : pJ9_init u a0 K) : Met l yJ9_init (ws_ yJ9_init cJ9_init 1 none) (rmJ9_init 0 0) (va_Pc [.ref a0] (GB G u)) (va_Qv K (fun u t => GH G u t.heap) (GA G)) 0 0 (GA G) := by
  refine Met.ofW (cc := cJ9_init) (maxL := 1) (ret := none) (by decide) rfl ?_
  intro p e s m args below meth c s₁ B hml hv
  obtain ⟨rfl, hv⟩ := hv
  have X := Mc_of (own := RJ9) B hml rfl hv
  have hw : GW G u s s.heap [] := ⟨hv.2.1, va_S.rf⟩
  have hr := B.returns
  have hin : meth.name = "<init>" := (name_of_methodNamed B.named B.method).1
  obtain ⟨hx, hb, hml, hown, hts, -⟩ := id X
  have hl := lv_entry ([.ref a0]) (n := 1) (Nat.le_of_ble_eq_true rfl)
  rw [lg_entry_eq]
  generalize (lg_sl ([.ref a0]) ++ List.replicate (1 - (lg_sl ([.ref a0])).length) Slot.unset).toArray = ls at hl ⊢
  have hl : lv_has ls 1 [(0, .ref a0)] := hl
  change W p l e (rmJ9_init 0 0) s m _ below meth c s.heap [] 0 0 (QV G below K _ s 0 0) (F0 m 0 ls [])
  unfold pJ9_init at h
  refine lv_aload_n hx hb dJ9_init_0 rfl (lv_at hl 0 rfl) ?_
  refine g_callv hw (g_I X hw (mJ2_init_2 l G _ _ _ h) 0 q1437 q126 q1435 q1436 rfl rfl rfl ydJ2_init_2 ⟨Nat.le_of_ble_eq_true rfl, Nat.le_of_ble_eq_true rfl⟩ (As := []) (rest := []) rfl hl.1 rfl (Nat.le_of_ble_eq_true rfl) dJ9_init_1 ⟨Nat.le_refl _, Nat.le_refl _⟩) (fun u_1 H locs h hw => ?_)
  exact g_vret X hw hr h (Nat.le_refl _) (Nat.le_refl _) dJ9_init_4

/-! FifthCard$Refused.<init>()V -/
theorem ydX3_init : yX3_init.cls = "FifthCard$Refused" ∧ yX3_init.cls ≠ "java/lang/invoke/MethodHandle" ∧ yX3_init.cls ≠ "java/lang/invoke/VarHandle" ∧ (parseMethodDescriptor yX3_init.desc).map (fun d => d.parameters.length) = some 0 := by decide +kernel
def rmX3_init (mc ms : Nat) : Room := { frames := 4, cells := mc, slots := ms, locals := 92 }
set_option maxHeartbeats 4000000 in
theorem mX3_init (l : Launch) (G : GT) (u : Hp) (a0 : Nat) (K : Hp → Prop) (h : pX3_init u a0 K) : Met l yX3_init (ws_ yX3_init cX3_init 1 none) (rmX3_init 0 0) (va_Pc [.ref a0] (GB G u)) (va_Qv K (fun u t => GH G u t.heap) (GA G)) 0 0 (GA G) := by
  refine Met.ofW (cc := cX3_init) (maxL := 1) (ret := none) (by decide) rfl ?_
  intro p e s m args below meth c s₁ B hml hv
  obtain ⟨rfl, hv⟩ := hv
  have X := Mc_of (own := RX3) B hml rfl hv
  have hw : GW G u s s.heap [] := ⟨hv.2.1, va_S.rf⟩
  have hr := B.returns
  have hin : meth.name = "<init>" := (name_of_methodNamed B.named B.method).1
  obtain ⟨hx, hb, hml, hown, hts, -⟩ := id X
  have hl := lv_entry ([.ref a0]) (n := 1) (Nat.le_of_ble_eq_true rfl)
  rw [lg_entry_eq]
  generalize (lg_sl ([.ref a0]) ++ List.replicate (1 - (lg_sl ([.ref a0])).length) Slot.unset).toArray = ls at hl ⊢
  have hl : lv_has ls 1 [(0, .ref a0)] := hl
  change W p l e (rmX3_init 0 0) s m _ below meth c s.heap [] 0 0 (QV G below K _ s 0 0) (F0 m 0 ls [])
  unfold pX3_init at h
  refine lv_aload_n hx hb dX3_init_0 rfl (lv_at hl 0 rfl) ?_
  refine lv_null hx hb dX3_init_1 ?_
  refine lv_null hx hb dX3_init_2 ?_
  refine lv_iconst (v := 0) hx hb dX3_init_3 (by decide) ?_
  refine lv_iconst (v := 0) hx hb dX3_init_4 (by decide) ?_
  refine g_callv hw (g_I X hw (mJ2_init l G _ _ _ _ _ _ _ h) 4 q215 q126 q213 q214 rfl rfl rfl ydJ2_init ⟨Nat.le_of_ble_eq_true rfl, Nat.le_of_ble_eq_true rfl⟩ (As := [va_rf none, va_rf none, .int 0, .int 0]) (rest := []) rfl hl.1 rfl (Nat.le_of_ble_eq_true rfl) dX3_init_5 ⟨Nat.le_refl _, Nat.le_refl _⟩) (fun u_1 H locs h hw => ?_)
  refine lv_aload_n hx hb dX3_init_8 rfl (lv_at hl 0 rfl) ?_
  refine lv_iconst (v := (-1)) hx hb dX3_init_9 (by decide) ?_
  have hk_2 : kd u_1 a0 = 3 := h.1
  have h := h.2
  refine g_putI (v := (-1)) X hw in_X3 tyX3_ok nmX3 hk_2 rfl 7 rfl (by decide) q224 (fun _ z => z) rfl rfl rfl dX3_init_10 (fun H locs hw => ?_)
  exact g_vret X hw hr h (Nat.le_refl _) (Nat.le_refl _) dX3_init_13

/-! FifthCard$Reader.<init>([B)V -/
theorem ydX2_init : yX2_init.cls = "FifthCard$Reader" ∧ yX2_init.cls ≠ "java/lang/invoke/MethodHandle" ∧ yX2_init.cls ≠ "java/lang/invoke/VarHandle" ∧ (parseMethodDescriptor yX2_init.desc).map (fun d => d.parameters.length) = some 1 := by decide +kernel
def rmX2_init (mc ms : Nat) : Room := { frames := 5, cells := mc, slots := ms, locals := 112 }
set_option maxHeartbeats 4000000 in
theorem mX2_init (l : Launch) (G : GT) (u : Hp) (a0 : Nat) (a1 : Nat) (MC MS : Nat) (K : Hp → Prop) (h : pX2_init u a0 a1 MC MS K) : Met l yX2_init (ws_ yX2_init cX2_init 2 none) (rmX2_init MC MS) (va_Pc [.ref a0, .ref a1] (GB G u)) (va_Qv K (fun u t => GH G u t.heap) (GA G)) MC MS (GA G) := by
  refine Met.ofW (cc := cX2_init) (maxL := 2) (ret := none) (by decide) rfl ?_
  intro p e s m args below meth c s₁ B hml hv
  obtain ⟨rfl, hv⟩ := hv
  have X := Mc_of (own := RX2) B hml rfl hv
  have hw : GW G u s s.heap [] := ⟨hv.2.1, va_S.rf⟩
  have hr := B.returns
  have hin : meth.name = "<init>" := (name_of_methodNamed B.named B.method).1
  obtain ⟨hx, hb, hml, hown, hts, -⟩ := id X
  have hl := lv_entry ([.ref a0, .ref a1]) (n := 2) (Nat.le_of_ble_eq_true rfl)
  rw [lg_entry_eq]
  generalize (lg_sl ([.ref a0, .ref a1]) ++ List.replicate (2 - (lg_sl ([.ref a0, .ref a1])).length) Slot.unset).toArray = ls at hl ⊢
  have hl : lv_has ls 2 [(0, .ref a0), (1, .ref a1)] := hl
  change W p l e (rmX2_init MC MS) s m _ below meth c s.heap [] 0 0 (QV G below K _ s MC MS) (F0 m 0 ls [])
  unfold pX2_init at h
  have hc1 : 0 + MC ≤ MC := by omega
  have hc2 : 0 + MS ≤ MS := by omega
  refine lv_aload_n hx hb dX2_init_0 rfl (lv_at hl 0 rfl) ?_
  refine W.objInit hx hb hown (hts _ q169) (hts _ q162) (hts _ q163) rfl (by rw [hml]; exact hl.1) rfl dX2_init_1 (Nat.le_of_ble_eq_true rfl) (Nat.le_of_ble_eq_true rfl) ?_
  refine lv_aload_n hx hb dX2_init_4 rfl (lv_at hl 0 rfl) ?_
  obtain ⟨hm_3, hm_4, h⟩ := h
  refine g_new X hw (T := TX3) (N := 8) in_X3 tyX3_ok (ci := 2) rfl df_X3 q170 q171 q127 (by show _ ≤ MC; omega) (by show _ ≤ MS; omega) dX2_init_5 (fun q_1 H hq_2 hw => ?_)
  have h := h q_1 hq_2
  have hk_5 : kd (mkC u q_1 3 0) q_1 = 3 := hu1_eq
  refine lv_dup hx hb dX2_init_8 rfl ?_
  refine g_callv hw (g_I X hw (mX3_init l G _ _ _ h) 0 q212 q127 q210 q211 rfl rfl rfl ydX3_init ⟨Nat.le_of_ble_eq_true rfl, Nat.le_of_ble_eq_true rfl⟩ (As := []) (rest := [.ref q_1, .ref a0]) rfl hl.1 rfl (Nat.le_of_ble_eq_true rfl) dX2_init_9 ⟨(by show _ ≤ MC; omega), (by show _ ≤ MS; omega)⟩) (fun u_6 H locs h hw => ?_)
  have hk_7 : kd u_6 a0 = 2 := h.1
  have h := h.2
  refine g_putFO (v := (some q_1)) X hin hw in_X2 tyX2_ok nmX2 hk_7 rfl 0 rfl (by decide) q244 (fun _ z => z) rfl rfl rfl rfl dX2_init_12 (fun H locs hw => ?_)
  refine lv_aload_n hx hb dX2_init_15 rfl (lv_at hl 0 rfl) ?_
  refine lv_bipush (v := 8) hx hb dX2_init_16 (by decide) ?_
  obtain ⟨hm_10, hm_11, h⟩ := h
  refine g_newC X hw q278 (N' := 8) (by decide) (by decide) (by decide) (by show _ ≤ MC; omega) (by show _ ≤ MS; omega) dX2_init_18 (fun q_8 H hq_9 hw => ?_)
  have h := h q_8 hq_9
  have hk_12 : kd (mkC (sFR u_6 200 a0 (some q_1)) q_8 103 8) a0 = 2 := kd_mkC hk_7 hq_9 (by decide)
  have hk_13 : kd (mkC (sFR u_6 200 a0 (some q_1)) q_8 103 8) q_8 = 103 := hu1_eq
  refine g_putFO (v := (some q_8)) X hin hw in_X2 tyX2_ok nmX2 hk_12 rfl 2 rfl (by decide) q246 (fun _ z => z) rfl rfl rfl rfl dX2_init_20 (fun H locs hw => ?_)
  refine lv_aload_n hx hb dX2_init_23 rfl (lv_at hl 0 rfl) ?_
  refine lv_iconst (v := 5) hx hb dX2_init_24 (by decide) ?_
  obtain ⟨u_14, e_15⟩ : ∃ v : Hp, v = (sFR (mkC (sFR u_6 200 a0 (some q_1)) q_8 103 8) 202 a0 (some q_8)) := ⟨_, rfl⟩
  have h := h u_14 e_15
  have hw : GW G u_14 s H locs := by rw [e_15]; exact hw
  have hk_16 : kd u_14 a0 = 2 := by rw [e_15]; exact hk_12
  have hk_17 : kd u_14 q_8 = 103 := by rw [e_15]; exact hk_13
  obtain ⟨hm_20, hm_21, h⟩ := h
  refine g_newI X hw q279 (N' := 5) (by decide) (by decide) (by decide) (by show _ ≤ MC; omega) (by show _ ≤ MS; omega) dX2_init_25 (fun q_18 H hq_19 hw => ?_)
  have h := h q_18 hq_19
  have hk_22 : kd (mkC u_14 q_18 101 5) a0 = 2 := kd_mkC hk_16 hq_19 (by decide)
  have hk_23 : kd (mkC u_14 q_18 101 5) q_8 = 103 := kd_mkC hk_17 hq_19 (by decide)
  have hk_24 : kd (mkC u_14 q_18 101 5) q_18 = 101 := hu1_eq
  refine g_putFO (v := (some q_18)) X hin hw in_X2 tyX2_ok nmX2 hk_22 rfl 3 rfl (by decide) q247 (fun _ z => z) rfl rfl rfl rfl dX2_init_27 (fun H locs hw => ?_)
  refine lv_aload_n hx hb dX2_init_30 rfl (lv_at hl 0 rfl) ?_
  refine lv_aload_n hx hb dX2_init_31 rfl (lv_at hl 1 rfl) ?_
  refine g_putFO (v := (some a1)) X hin hw in_X2 tyX2_ok nmX2 hk_22 rfl 1 rfl (by decide) q245 (fun _ z => z) rfl rfl rfl rfl dX2_init_32 (fun H locs hw => ?_)
  exact g_vret X hw hr h (by omega) (by omega) dX2_init_35

/-! FifthCard$Pairing.<init>()V -/
theorem ydX4_init : yX4_init.cls = "FifthCard$Pairing" ∧ yX4_init.cls ≠ "java/lang/invoke/MethodHandle" ∧ yX4_init.cls ≠ "java/lang/invoke/VarHandle" ∧ (parseMethodDescriptor yX4_init.desc).map (fun d => d.parameters.length) = some 0 := by decide +kernel
def rmX4_init (mc ms : Nat) : Room := { frames := 1, cells := mc, slots := ms, locals := 20 }
set_option maxHeartbeats 4000000 in
theorem mX4_init (l : Launch) (G : GT) (u : Hp) (a0 : Nat) (MC MS : Nat) (K : Hp → Prop) (h : pX4_init u a0 MC MS K) : Met l yX4_init (ws_ yX4_init cX4_init 1 none) (rmX4_init MC MS) (va_Pc [.ref a0] (GB G u)) (va_Qv K (fun u t => GH G u t.heap) (GA G)) MC MS (GA G) := by
  refine Met.ofW (cc := cX4_init) (maxL := 1) (ret := none) (by decide) rfl ?_
  intro p e s m args below meth c s₁ B hml hv
  obtain ⟨rfl, hv⟩ := hv
  have X := Mc_of (own := RX4) B hml rfl hv
  have hw : GW G u s s.heap [] := ⟨hv.2.1, va_S.rf⟩
  have hr := B.returns
  have hin : meth.name = "<init>" := (name_of_methodNamed B.named B.method).1
  obtain ⟨hx, hb, hml, hown, hts, -⟩ := id X
  have hl := lv_entry ([.ref a0]) (n := 1) (Nat.le_of_ble_eq_true rfl)
  rw [lg_entry_eq]
  generalize (lg_sl ([.ref a0]) ++ List.replicate (1 - (lg_sl ([.ref a0])).length) Slot.unset).toArray = ls at hl ⊢
  have hl : lv_has ls 1 [(0, .ref a0)] := hl
  change W p l e (rmX4_init MC MS) s m _ below meth c s.heap [] 0 0 (QV G below K _ s MC MS) (F0 m 0 ls [])
  unfold pX4_init at h
  have hc1 : 0 + MC ≤ MC := by omega
  have hc2 : 0 + MS ≤ MS := by omega
  refine lv_aload_n hx hb dX4_init_0 rfl (lv_at hl 0 rfl) ?_
  refine W.objInit hx hb hown (hts _ q285) (hts _ q162) (hts _ q163) rfl (by rw [hml]; exact hl.1) rfl dX4_init_1 (Nat.le_of_ble_eq_true rfl) (Nat.le_of_ble_eq_true rfl) ?_
  refine lv_aload_n hx hb dX4_init_4 rfl (lv_at hl 0 rfl) ?_
  refine lv_ldc hx hb hown (hts _ q286) dX4_init_5 ?_
  obtain ⟨hm_3, hm_4, h⟩ := h
  refine g_newI X hw q279 (N' := 95040) (by decide) (by decide) (by decide) (by show _ ≤ MC; omega) (by show _ ≤ MS; omega) dX4_init_7 (fun q_1 H hq_2 hw => ?_)
  have h := h q_1 hq_2
  have hk_5 : kd (mkC u q_1 101 95040) q_1 = 101 := hu1_eq
  have hk_6 : kd (mkC u q_1 101 95040) a0 = 4 := h.1
  have h := h.2
  refine g_putFO (v := (some q_1)) X hin hw in_X4 tyX4_ok nmX4 hk_6 rfl 0 rfl (by decide) q288 (fun _ z => z) rfl rfl rfl rfl dX4_init_9 (fun H locs hw => ?_)
  refine lv_aload_n hx hb dX4_init_12 rfl (lv_at hl 0 rfl) ?_
  refine lv_ldc hx hb hown (hts _ q287) dX4_init_13 ?_
  obtain ⟨hm_9, hm_10, h⟩ := h
  refine g_newI X hw q279 (N' := 190080) (by decide) (by decide) (by decide) (by show _ ≤ MC; omega) (by show _ ≤ MS; omega) dX4_init_15 (fun q_7 H hq_8 hw => ?_)
  have h := h q_7 hq_8
  have hk_11 : kd (mkC (sFR (mkC u q_1 101 95040) 400 a0 (some q_1)) q_7 101 190080) q_1 = 101 := kd_mkC hk_5 hq_8 (by decide)
  have hk_12 : kd (mkC (sFR (mkC u q_1 101 95040) 400 a0 (some q_1)) q_7 101 190080) a0 = 4 := kd_mkC hk_6 hq_8 (by decide)
  have hk_13 : kd (mkC (sFR (mkC u q_1 101 95040) 400 a0 (some q_1)) q_7 101 190080) q_7 = 101 := hu1_eq
  obtain ⟨u_14, e_15⟩ : ∃ v : Hp, v = (mkC (sFR (mkC u q_1 101 95040) 400 a0 (some q_1)) q_7 101 190080) := ⟨_, rfl⟩
  have h := h u_14 e_15
  have hw : GW G u_14 s H locs := by rw [e_15]; exact hw
  have hk_16 : kd u_14 q_1 = 101 := by rw [e_15]; exact hk_11
  have hk_17 : kd u_14 a0 = 4 := by rw [e_15]; exact hk_12
  have hk_18 : kd u_14 q_7 = 101 := by rw [e_15]; exact hk_13
  refine g_putFO (v := (some q_7)) X hin hw in_X4 tyX4_ok nmX4 hk_17 rfl 1 rfl (by decide) q289 (fun _ z => z) rfl rfl rfl rfl dX4_init_17 (fun H locs hw => ?_)
  refine lv_aload_n hx hb dX4_init_20 rfl (lv_at hl 0 rfl) ?_
  refine lv_sipush (v := 2000) hx hb dX4_init_21 (by decide) ?_
  obtain ⟨hm_21, hm_22, h⟩ := h
  refine g_newI X hw q279 (N' := 2000) (by decide) (by decide) (by decide) (by show _ ≤ MC; omega) (by show _ ≤ MS; omega) dX4_init_24 (fun q_19 H hq_20 hw => ?_)
  have h := h q_19 hq_20
  have hk_23 : kd (mkC (sFR u_14 401 a0 (some q_7)) q_19 101 2000) q_1 = 101 := kd_mkC hk_16 hq_20 (by decide)
  have hk_24 : kd (mkC (sFR u_14 401 a0 (some q_7)) q_19 101 2000) a0 = 4 := kd_mkC hk_17 hq_20 (by decide)
  have hk_25 : kd (mkC (sFR u_14 401 a0 (some q_7)) q_19 101 2000) q_7 = 101 := kd_mkC hk_18 hq_20 (by decide)
  have hk_26 : kd (mkC (sFR u_14 401 a0 (some q_7)) q_19 101 2000) q_19 = 101 := hu1_eq
  refine g_putFO (v := (some q_19)) X hin hw in_X4 tyX4_ok nmX4 hk_24 rfl 2 rfl (by decide) q290 (fun _ z => z) rfl rfl rfl rfl dX4_init_26 (fun H locs hw => ?_)
  refine lv_aload_n hx hb dX4_init_29 rfl (lv_at hl 0 rfl) ?_
  refine lv_ldc hx hb hown (hts _ q287) dX4_init_30 ?_
  obtain ⟨u_27, e_28⟩ : ∃ v : Hp, v = (sFR (mkC (sFR u_14 401 a0 (some q_7)) q_19 101 2000) 402 a0 (some q_19)) := ⟨_, rfl⟩
  have h := h u_27 e_28
  have hw : GW G u_27 s H locs := by rw [e_28]; exact hw
  have hk_29 : kd u_27 q_1 = 101 := by rw [e_28]; exact hk_23
  have hk_30 : kd u_27 a0 = 4 := by rw [e_28]; exact hk_24
  have hk_31 : kd u_27 q_7 = 101 := by rw [e_28]; exact hk_25
  have hk_32 : kd u_27 q_19 = 101 := by rw [e_28]; exact hk_26
  obtain ⟨hm_35, hm_36, h⟩ := h
  refine g_newI X hw q279 (N' := 190080) (by decide) (by decide) (by decide) (by show _ ≤ MC; omega) (by show _ ≤ MS; omega) dX4_init_32 (fun q_33 H hq_34 hw => ?_)
  have h := h q_33 hq_34
  have hk_37 : kd (mkC u_27 q_33 101 190080) q_1 = 101 := kd_mkC hk_29 hq_34 (by decide)
  have hk_38 : kd (mkC u_27 q_33 101 190080) a0 = 4 := kd_mkC hk_30 hq_34 (by decide)
  have hk_39 : kd (mkC u_27 q_33 101 190080) q_7 = 101 := kd_mkC hk_31 hq_34 (by decide)
  have hk_40 : kd (mkC u_27 q_33 101 190080) q_19 = 101 := kd_mkC hk_32 hq_34 (by decide)
  have hk_41 : kd (mkC u_27 q_33 101 190080) q_33 = 101 := hu1_eq
  refine g_putFO (v := (some q_33)) X hin hw in_X4 tyX4_ok nmX4 hk_38 rfl 3 rfl (by decide) q291 (fun _ z => z) rfl rfl rfl rfl dX4_init_34 (fun H locs hw => ?_)
  refine lv_aload_n hx hb dX4_init_37 rfl (lv_at hl 0 rfl) ?_
  refine lv_ldc hx hb hown (hts _ q287) dX4_init_38 ?_
  obtain ⟨hm_44, hm_45, h⟩ := h
  refine g_newI X hw q279 (N' := 190080) (by decide) (by decide) (by decide) (by show _ ≤ MC; omega) (by show _ ≤ MS; omega) dX4_init_40 (fun q_42 H hq_43 hw => ?_)
  have h := h q_42 hq_43
  have hk_46 : kd (mkC (sFR (mkC u_27 q_33 101 190080) 403 a0 (some q_33)) q_42 101 190080) q_1 = 101 := kd_mkC hk_37 hq_43 (by decide)
  have hk_47 : kd (mkC (sFR (mkC u_27 q_33 101 190080) 403 a0 (some q_33)) q_42 101 190080) a0 = 4 := kd_mkC hk_38 hq_43 (by decide)
  have hk_48 : kd (mkC (sFR (mkC u_27 q_33 101 190080) 403 a0 (some q_33)) q_42 101 190080) q_7 = 101 := kd_mkC hk_39 hq_43 (by decide)
  have hk_49 : kd (mkC (sFR (mkC u_27 q_33 101 190080) 403 a0 (some q_33)) q_42 101 190080) q_19 = 101 := kd_mkC hk_40 hq_43 (by decide)
  have hk_50 : kd (mkC (sFR (mkC u_27 q_33 101 190080) 403 a0 (some q_33)) q_42 101 190080) q_33 = 101 := kd_mkC hk_41 hq_43 (by decide)
  have hk_51 : kd (mkC (sFR (mkC u_27 q_33 101 190080) 403 a0 (some q_33)) q_42 101 190080) q_42 = 101 := hu1_eq
  obtain ⟨u_52, e_53⟩ : ∃ v : Hp, v = (mkC (sFR (mkC u_27 q_33 101 190080) 403 a0 (some q_33)) q_42 101 190080) := ⟨_, rfl⟩
  have h := h u_52 e_53
  have hw : GW G u_52 s H locs := by rw [e_53]; exact hw
  have hk_54 : kd u_52 q_1 = 101 := by rw [e_53]; exact hk_46
  have hk_55 : kd u_52 a0 = 4 := by rw [e_53]; exact hk_47
  have hk_56 : kd u_52 q_7 = 101 := by rw [e_53]; exact hk_48
  have hk_57 : kd u_52 q_19 = 101 := by rw [e_53]; exact hk_49
  have hk_58 : kd u_52 q_33 = 101 := by rw [e_53]; exact hk_50
  have hk_59 : kd u_52 q_42 = 101 := by rw [e_53]; exact hk_51
  refine g_putFO (v := (some q_42)) X hin hw in_X4 tyX4_ok nmX4 hk_55 rfl 4 rfl (by decide) q292 (fun _ z => z) rfl rfl rfl rfl dX4_init_42 (fun H locs hw => ?_)
  refine lv_aload_n hx hb dX4_init_45 rfl (lv_at hl 0 rfl) ?_
  refine lv_sipush (v := 2000) hx hb dX4_init_46 (by decide) ?_
  obtain ⟨hm_62, hm_63, h⟩ := h
  refine g_newI X hw q279 (N' := 2000) (by decide) (by decide) (by decide) (by show _ ≤ MC; omega) (by show _ ≤ MS; omega) dX4_init_49 (fun q_60 H hq_61 hw => ?_)
  have h := h q_60 hq_61
  have hk_64 : kd (mkC (sFR u_52 404 a0 (some q_42)) q_60 101 2000) q_1 = 101 := kd_mkC hk_54 hq_61 (by decide)
  have hk_65 : kd (mkC (sFR u_52 404 a0 (some q_42)) q_60 101 2000) a0 = 4 := kd_mkC hk_55 hq_61 (by decide)
  have hk_66 : kd (mkC (sFR u_52 404 a0 (some q_42)) q_60 101 2000) q_7 = 101 := kd_mkC hk_56 hq_61 (by decide)
  have hk_67 : kd (mkC (sFR u_52 404 a0 (some q_42)) q_60 101 2000) q_19 = 101 := kd_mkC hk_57 hq_61 (by decide)
  have hk_68 : kd (mkC (sFR u_52 404 a0 (some q_42)) q_60 101 2000) q_33 = 101 := kd_mkC hk_58 hq_61 (by decide)
  have hk_69 : kd (mkC (sFR u_52 404 a0 (some q_42)) q_60 101 2000) q_42 = 101 := kd_mkC hk_59 hq_61 (by decide)
  have hk_70 : kd (mkC (sFR u_52 404 a0 (some q_42)) q_60 101 2000) q_60 = 101 := hu1_eq
  refine g_putFO (v := (some q_60)) X hin hw in_X4 tyX4_ok nmX4 hk_65 rfl 5 rfl (by decide) q293 (fun _ z => z) rfl rfl rfl rfl dX4_init_51 (fun H locs hw => ?_)
  refine lv_aload_n hx hb dX4_init_54 rfl (lv_at hl 0 rfl) ?_
  refine lv_iconst (v := 5) hx hb dX4_init_55 (by decide) ?_
  obtain ⟨u_71, e_72⟩ : ∃ v : Hp, v = (sFR (mkC (sFR u_52 404 a0 (some q_42)) q_60 101 2000) 405 a0 (some q_60)) := ⟨_, rfl⟩
  have h := h u_71 e_72
  have hw : GW G u_71 s H locs := by rw [e_72]; exact hw
  have hk_73 : kd u_71 q_1 = 101 := by rw [e_72]; exact hk_64
  have hk_74 : kd u_71 a0 = 4 := by rw [e_72]; exact hk_65
  have hk_75 : kd u_71 q_7 = 101 := by rw [e_72]; exact hk_66
  have hk_76 : kd u_71 q_19 = 101 := by rw [e_72]; exact hk_67
  have hk_77 : kd u_71 q_33 = 101 := by rw [e_72]; exact hk_68
  have hk_78 : kd u_71 q_42 = 101 := by rw [e_72]; exact hk_69
  have hk_79 : kd u_71 q_60 = 101 := by rw [e_72]; exact hk_70
  obtain ⟨hm_82, hm_83, h⟩ := h
  refine g_newI X hw q279 (N' := 5) (by decide) (by decide) (by decide) (by show _ ≤ MC; omega) (by show _ ≤ MS; omega) dX4_init_56 (fun q_80 H hq_81 hw => ?_)
  have h := h q_80 hq_81
  have hk_84 : kd (mkC u_71 q_80 101 5) q_1 = 101 := kd_mkC hk_73 hq_81 (by decide)
  have hk_85 : kd (mkC u_71 q_80 101 5) a0 = 4 := kd_mkC hk_74 hq_81 (by decide)
  have hk_86 : kd (mkC u_71 q_80 101 5) q_7 = 101 := kd_mkC hk_75 hq_81 (by decide)
  have hk_87 : kd (mkC u_71 q_80 101 5) q_19 = 101 := kd_mkC hk_76 hq_81 (by decide)
  have hk_88 : kd (mkC u_71 q_80 101 5) q_33 = 101 := kd_mkC hk_77 hq_81 (by decide)
  have hk_89 : kd (mkC u_71 q_80 101 5) q_42 = 101 := kd_mkC hk_78 hq_81 (by decide)
  have hk_90 : kd (mkC u_71 q_80 101 5) q_60 = 101 := kd_mkC hk_79 hq_81 (by decide)
  have hk_91 : kd (mkC u_71 q_80 101 5) q_80 = 101 := hu1_eq
  refine g_putFO (v := (some q_80)) X hin hw in_X4 tyX4_ok nmX4 hk_85 rfl 6 rfl (by decide) q294 (fun _ z => z) rfl rfl rfl rfl dX4_init_58 (fun H locs hw => ?_)
  refine lv_aload_n hx hb dX4_init_61 rfl (lv_at hl 0 rfl) ?_
  refine lv_iconst (v := 5) hx hb dX4_init_62 (by decide) ?_
  obtain ⟨hm_94, hm_95, h⟩ := h
  refine g_newI X hw q279 (N' := 5) (by decide) (by decide) (by decide) (by show _ ≤ MC; omega) (by show _ ≤ MS; omega) dX4_init_63 (fun q_92 H hq_93 hw => ?_)
  have h := h q_92 hq_93
  have hk_96 : kd (mkC (sFR (mkC u_71 q_80 101 5) 406 a0 (some q_80)) q_92 101 5) q_1 = 101 := kd_mkC hk_84 hq_93 (by decide)
  have hk_97 : kd (mkC (sFR (mkC u_71 q_80 101 5) 406 a0 (some q_80)) q_92 101 5) a0 = 4 := kd_mkC hk_85 hq_93 (by decide)
  have hk_98 : kd (mkC (sFR (mkC u_71 q_80 101 5) 406 a0 (some q_80)) q_92 101 5) q_7 = 101 := kd_mkC hk_86 hq_93 (by decide)
  have hk_99 : kd (mkC (sFR (mkC u_71 q_80 101 5) 406 a0 (some q_80)) q_92 101 5) q_19 = 101 := kd_mkC hk_87 hq_93 (by decide)
  have hk_100 : kd (mkC (sFR (mkC u_71 q_80 101 5) 406 a0 (some q_80)) q_92 101 5) q_33 = 101 := kd_mkC hk_88 hq_93 (by decide)
  have hk_101 : kd (mkC (sFR (mkC u_71 q_80 101 5) 406 a0 (some q_80)) q_92 101 5) q_42 = 101 := kd_mkC hk_89 hq_93 (by decide)
  have hk_102 : kd (mkC (sFR (mkC u_71 q_80 101 5) 406 a0 (some q_80)) q_92 101 5) q_60 = 101 := kd_mkC hk_90 hq_93 (by decide)
  have hk_103 : kd (mkC (sFR (mkC u_71 q_80 101 5) 406 a0 (some q_80)) q_92 101 5) q_80 = 101 := kd_mkC hk_91 hq_93 (by decide)
  have hk_104 : kd (mkC (sFR (mkC u_71 q_80 101 5) 406 a0 (some q_80)) q_92 101 5) q_92 = 101 := hu1_eq
  obtain ⟨u_105, e_106⟩ : ∃ v : Hp, v = (mkC (sFR (mkC u_71 q_80 101 5) 406 a0 (some q_80)) q_92 101 5) := ⟨_, rfl⟩
  have h := h u_105 e_106
  have hw : GW G u_105 s H locs := by rw [e_106]; exact hw
  have hk_107 : kd u_105 q_1 = 101 := by rw [e_106]; exact hk_96
  have hk_108 : kd u_105 a0 = 4 := by rw [e_106]; exact hk_97
  have hk_109 : kd u_105 q_7 = 101 := by rw [e_106]; exact hk_98
  have hk_110 : kd u_105 q_19 = 101 := by rw [e_106]; exact hk_99
  have hk_111 : kd u_105 q_33 = 101 := by rw [e_106]; exact hk_100
  have hk_112 : kd u_105 q_42 = 101 := by rw [e_106]; exact hk_101
  have hk_113 : kd u_105 q_60 = 101 := by rw [e_106]; exact hk_102
  have hk_114 : kd u_105 q_80 = 101 := by rw [e_106]; exact hk_103
  have hk_115 : kd u_105 q_92 = 101 := by rw [e_106]; exact hk_104
  refine g_putFO (v := (some q_92)) X hin hw in_X4 tyX4_ok nmX4 hk_108 rfl 7 rfl (by decide) q295 (fun _ z => z) rfl rfl rfl rfl dX4_init_65 (fun H locs hw => ?_)
  exact g_vret X hw hr h (by omega) (by omega) dX4_init_68

/-! FifthCard$Log.<init>()V -/
theorem ydX5_init : yX5_init.cls = "FifthCard$Log" ∧ yX5_init.cls ≠ "java/lang/invoke/MethodHandle" ∧ yX5_init.cls ≠ "java/lang/invoke/VarHandle" ∧ (parseMethodDescriptor yX5_init.desc).map (fun d => d.parameters.length) = some 0 := by decide +kernel
def rmX5_init (mc ms : Nat) : Room := { frames := 1, cells := mc, slots := ms, locals := 20 }
set_option maxHeartbeats 4000000 in
theorem mX5_init (l : Launch) (G : GT) (u : Hp) (a0 : Nat) (MC MS : Nat) (K : Hp → Prop) (h : pX5_init u a0 MC MS K) : Met l yX5_init (ws_ yX5_init cX5_init 1 none) (rmX5_init MC MS) (va_Pc [.ref a0] (GB G u)) (va_Qv K (fun u t => GH G u t.heap) (GA G)) MC MS (GA G) := by
  refine Met.ofW (cc := cX5_init) (maxL := 1) (ret := none) (by decide) rfl ?_
  intro p e s m args below meth c s₁ B hml hv
  obtain ⟨rfl, hv⟩ := hv
  have X := Mc_of (own := RX5) B hml rfl hv
  have hw : GW G u s s.heap [] := ⟨hv.2.1, va_S.rf⟩
  have hr := B.returns
  have hin : meth.name = "<init>" := (name_of_methodNamed B.named B.method).1
  obtain ⟨hx, hb, hml, hown, hts, -⟩ := id X
  have hl := lv_entry ([.ref a0]) (n := 1) (Nat.le_of_ble_eq_true rfl)
  rw [lg_entry_eq]
  generalize (lg_sl ([.ref a0]) ++ List.replicate (1 - (lg_sl ([.ref a0])).length) Slot.unset).toArray = ls at hl ⊢
  have hl : lv_has ls 1 [(0, .ref a0)] := hl
  change W p l e (rmX5_init MC MS) s m _ below meth c s.heap [] 0 0 (QV G below K _ s MC MS) (F0 m 0 ls [])
  unfold pX5_init at h
  have hc1 : 0 + MC ≤ MC := by omega
  have hc2 : 0 + MS ≤ MS := by omega
  refine lv_aload_n hx hb dX5_init_0 rfl (lv_at hl 0 rfl) ?_
  refine W.objInit hx hb hown (hts _ q339) (hts _ q162) (hts _ q163) rfl (by rw [hml]; exact hl.1) rfl dX5_init_1 (Nat.le_of_ble_eq_true rfl) (Nat.le_of_ble_eq_true rfl) ?_
  refine lv_aload_n hx hb dX5_init_4 rfl (lv_at hl 0 rfl) ?_
  refine lv_bipush (v := 20) hx hb dX5_init_5 (by decide) ?_
  obtain ⟨hm_3, hm_4, h⟩ := h
  refine g_newI X hw q279 (N' := 20) (by decide) (by decide) (by decide) (by show _ ≤ MC; omega) (by show _ ≤ MS; omega) dX5_init_7 (fun q_1 H hq_2 hw => ?_)
  have h := h q_1 hq_2
  have hk_5 : kd (mkC u q_1 101 20) q_1 = 101 := hu1_eq
  have hk_6 : kd (mkC u q_1 101 20) a0 = 5 := h.1
  have h := h.2
  refine g_putFO (v := (some q_1)) X hin hw in_X5 tyX5_ok nmX5 hk_6 rfl 0 rfl (by decide) q340 (fun _ z => z) rfl rfl rfl rfl dX5_init_9 (fun H locs hw => ?_)
  refine lv_aload_n hx hb dX5_init_12 rfl (lv_at hl 0 rfl) ?_
  refine lv_bipush (v := 20) hx hb dX5_init_13 (by decide) ?_
  obtain ⟨hm_9, hm_10, h⟩ := h
  refine g_newI X hw q279 (N' := 20) (by decide) (by decide) (by decide) (by show _ ≤ MC; omega) (by show _ ≤ MS; omega) dX5_init_15 (fun q_7 H hq_8 hw => ?_)
  have h := h q_7 hq_8
  have hk_11 : kd (mkC (sFR (mkC u q_1 101 20) 500 a0 (some q_1)) q_7 101 20) q_1 = 101 := kd_mkC hk_5 hq_8 (by decide)
  have hk_12 : kd (mkC (sFR (mkC u q_1 101 20) 500 a0 (some q_1)) q_7 101 20) a0 = 5 := kd_mkC hk_6 hq_8 (by decide)
  have hk_13 : kd (mkC (sFR (mkC u q_1 101 20) 500 a0 (some q_1)) q_7 101 20) q_7 = 101 := hu1_eq
  obtain ⟨u_14, e_15⟩ : ∃ v : Hp, v = (mkC (sFR (mkC u q_1 101 20) 500 a0 (some q_1)) q_7 101 20) := ⟨_, rfl⟩
  have h := h u_14 e_15
  have hw : GW G u_14 s H locs := by rw [e_15]; exact hw
  have hk_16 : kd u_14 q_1 = 101 := by rw [e_15]; exact hk_11
  have hk_17 : kd u_14 a0 = 5 := by rw [e_15]; exact hk_12
  have hk_18 : kd u_14 q_7 = 101 := by rw [e_15]; exact hk_13
  refine g_putFO (v := (some q_7)) X hin hw in_X5 tyX5_ok nmX5 hk_17 rfl 1 rfl (by decide) q342 (fun _ z => z) rfl rfl rfl rfl dX5_init_17 (fun H locs hw => ?_)
  exact g_vret X hw hr h (by omega) (by omega) dX5_init_20

/-! FifthCard$Keep.<init>()V -/
theorem ydX6_init : yX6_init.cls = "FifthCard$Keep" ∧ yX6_init.cls ≠ "java/lang/invoke/MethodHandle" ∧ yX6_init.cls ≠ "java/lang/invoke/VarHandle" ∧ (parseMethodDescriptor yX6_init.desc).map (fun d => d.parameters.length) = some 0 := by decide +kernel
def rmX6_init (mc ms : Nat) : Room := { frames := 1, cells := mc, slots := ms, locals := 20 }
set_option maxHeartbeats 4000000 in
theorem mX6_init (l : Launch) (G : GT) (u : Hp) (a0 : Nat) (K : Prop) (h : pX6_init a0 K) : Met l yX6_init (ws_ yX6_init cX6_init 1 none) (rmX6_init 0 0) (va_Pc [.ref a0] (GB G u)) (va_Qv (fun v => v = u ∧ K) (fun u t => GH G u t.heap) (GA G)) 0 0 (GA G) := by
  refine Met.ofW (cc := cX6_init) (maxL := 1) (ret := none) (by decide) rfl ?_
  intro p e s m args below meth c s₁ B hml hv
  obtain ⟨rfl, hv⟩ := hv
  have X := Mc_of (own := RX6) B hml rfl hv
  have hw : GW G u s s.heap [] := ⟨hv.2.1, va_S.rf⟩
  have hr := B.returns
  have hin : meth.name = "<init>" := (name_of_methodNamed B.named B.method).1
  obtain ⟨hx, hb, hml, hown, hts, -⟩ := id X
  have hl := lv_entry ([.ref a0]) (n := 1) (Nat.le_of_ble_eq_true rfl)
  rw [lg_entry_eq]
  generalize (lg_sl ([.ref a0]) ++ List.replicate (1 - (lg_sl ([.ref a0])).length) Slot.unset).toArray = ls at hl ⊢
  have hl : lv_has ls 1 [(0, .ref a0)] := hl
  change W p l e (rmX6_init 0 0) s m _ below meth c s.heap [] 0 0 (QV G below (fun v => v = u ∧ K) _ s 0 0) (F0 m 0 ls [])
  unfold pX6_init at h
  refine lv_aload_n hx hb dX6_init_0 rfl (lv_at hl 0 rfl) ?_
  refine W.objInit hx hb hown (hts _ q370) (hts _ q162) (hts _ q163) rfl (by rw [hml]; exact hl.1) rfl dX6_init_1 (Nat.le_of_ble_eq_true rfl) (Nat.le_of_ble_eq_true rfl) ?_
  exact g_vret X hw hr ⟨rfl, h⟩ (Nat.le_refl _) (Nat.le_refl _) dX6_init_4

/-! FifthCard$Low.<init>()V -/
theorem ydX7_init : yX7_init.cls = "FifthCard$Low" ∧ yX7_init.cls ≠ "java/lang/invoke/MethodHandle" ∧ yX7_init.cls ≠ "java/lang/invoke/VarHandle" ∧ (parseMethodDescriptor yX7_init.desc).map (fun d => d.parameters.length) = some 0 := by decide +kernel
def rmX7_init (mc ms : Nat) : Room := { frames := 2, cells := mc, slots := ms, locals := 40 }
set_option maxHeartbeats 4000000 in
theorem mX7_init (l : Launch) (G : GT) (u : Hp) (a0 : Nat) (K : Prop) (h : pX7_init a0 K) : Met l yX7_init (ws_ yX7_init cX7_init 1 none) (rmX7_init 0 0) (va_Pc [.ref a0] (GB G u)) (va_Qv (fun v => v = u ∧ K) (fun u t => GH G u t.heap) (GA G)) 0 0 (GA G) := by
  refine Met.ofW (cc := cX7_init) (maxL := 1) (ret := none) (by decide) rfl ?_
  intro p e s m args below meth c s₁ B hml hv
  obtain ⟨rfl, hv⟩ := hv
  have X := Mc_of (own := RX7) B hml rfl hv
  have hw : GW G u s s.heap [] := ⟨hv.2.1, va_S.rf⟩
  have hr := B.returns
  have hin : meth.name = "<init>" := (name_of_methodNamed B.named B.method).1
  obtain ⟨hx, hb, hml, hown, hts, -⟩ := id X
  have hl := lv_entry ([.ref a0]) (n := 1) (Nat.le_of_ble_eq_true rfl)
  rw [lg_entry_eq]
  generalize (lg_sl ([.ref a0]) ++ List.replicate (1 - (lg_sl ([.ref a0])).length) Slot.unset).toArray = ls at hl ⊢
  have hl : lv_has ls 1 [(0, .ref a0)] := hl
  change W p l e (rmX7_init 0 0) s m _ below meth c s.heap [] 0 0 (QV G below (fun v => v = u ∧ K) _ s 0 0) (F0 m 0 ls [])
  unfold pX7_init at h
  refine lv_aload_n hx hb dX7_init_0 rfl (lv_at hl 0 rfl) ?_
  refine g_callvo hw (g_IN X hw (mX6_init l G _ _ _ h) 0 q369 q130 (List.mem_of_getElem? (i := 18) rfl) q368 rfl rfl rfl ydX6_init ⟨Nat.le_of_ble_eq_true rfl, Nat.le_of_ble_eq_true rfl⟩ (As := []) (rest := []) rfl hl.1 rfl (Nat.le_of_ble_eq_true rfl) dX7_init_1 ⟨Nat.le_refl _, Nat.le_refl _⟩) (fun  H locs h hw => ?_)
  exact g_vret X hw hr ⟨rfl, h⟩ (Nat.le_refl _) (Nat.le_refl _) dX7_init_4

/-! FifthCard$High.<init>()V -/
theorem ydX8_init : yX8_init.cls = "FifthCard$High" ∧ yX8_init.cls ≠ "java/lang/invoke/MethodHandle" ∧ yX8_init.cls ≠ "java/lang/invoke/VarHandle" ∧ (parseMethodDescriptor yX8_init.desc).map (fun d => d.parameters.length) = some 0 := by decide +kernel
def rmX8_init (mc ms : Nat) : Room := { frames := 2, cells := mc, slots := ms, locals := 40 }
set_option maxHeartbeats 4000000 in
theorem mX8_init (l : Launch) (G : GT) (u : Hp) (a0 : Nat) (K : Prop) (h : pX8_init a0 K) : Met l yX8_init (ws_ yX8_init cX8_init 1 none) (rmX8_init 0 0) (va_Pc [.ref a0] (GB G u)) (va_Qv (fun v => v = u ∧ K) (fun u t => GH G u t.heap) (GA G)) 0 0 (GA G) := by
  refine Met.ofW (cc := cX8_init) (maxL := 1) (ret := none) (by decide) rfl ?_
  intro p e s m args below meth c s₁ B hml hv
  obtain ⟨rfl, hv⟩ := hv
  have X := Mc_of (own := RX8) B hml rfl hv
  have hw : GW G u s s.heap [] := ⟨hv.2.1, va_S.rf⟩
  have hr := B.returns
  have hin : meth.name = "<init>" := (name_of_methodNamed B.named B.method).1
  obtain ⟨hx, hb, hml, hown, hts, -⟩ := id X
  have hl := lv_entry ([.ref a0]) (n := 1) (Nat.le_of_ble_eq_true rfl)
  rw [lg_entry_eq]
  generalize (lg_sl ([.ref a0]) ++ List.replicate (1 - (lg_sl ([.ref a0])).length) Slot.unset).toArray = ls at hl ⊢
  have hl : lv_has ls 1 [(0, .ref a0)] := hl
  change W p l e (rmX8_init 0 0) s m _ below meth c s.heap [] 0 0 (QV G below (fun v => v = u ∧ K) _ s 0 0) (F0 m 0 ls [])
  unfold pX8_init at h
  refine lv_aload_n hx hb dX8_init_0 rfl (lv_at hl 0 rfl) ?_
  refine g_callvo hw (g_IN X hw (mX6_init l G _ _ _ h) 0 q369 q130 (List.mem_of_getElem? (i := 15) rfl) q368 rfl rfl rfl ydX6_init ⟨Nat.le_of_ble_eq_true rfl, Nat.le_of_ble_eq_true rfl⟩ (As := []) (rest := []) rfl hl.1 rfl (Nat.le_of_ble_eq_true rfl) dX8_init_1 ⟨Nat.le_refl _, Nat.le_refl _⟩) (fun  H locs h hw => ?_)
  exact g_vret X hw hr ⟨rfl, h⟩ (Nat.le_refl _) (Nat.le_refl _) dX8_init_4

/-! FifthCard$Mid.<init>()V -/
theorem ydX9_init : yX9_init.cls = "FifthCard$Mid" ∧ yX9_init.cls ≠ "java/lang/invoke/MethodHandle" ∧ yX9_init.cls ≠ "java/lang/invoke/VarHandle" ∧ (parseMethodDescriptor yX9_init.desc).map (fun d => d.parameters.length) = some 0 := by decide +kernel
def rmX9_init (mc ms : Nat) : Room := { frames := 2, cells := mc, slots := ms, locals := 40 }
set_option maxHeartbeats 4000000 in
theorem mX9_init (l : Launch) (G : GT) (u : Hp) (a0 : Nat) (K : Prop) (h : pX9_init a0 K) : Met l yX9_init (ws_ yX9_init cX9_init 1 none) (rmX9_init 0 0) (va_Pc [.ref a0] (GB G u)) (va_Qv (fun v => v = u ∧ K) (fun u t => GH G u t.heap) (GA G)) 0 0 (GA G) := by
  refine Met.ofW (cc := cX9_init) (maxL := 1) (ret := none) (by decide) rfl ?_
  intro p e s m args below meth c s₁ B hml hv
  obtain ⟨rfl, hv⟩ := hv
  have X := Mc_of (own := RX9) B hml rfl hv
  have hw : GW G u s s.heap [] := ⟨hv.2.1, va_S.rf⟩
  have hr := B.returns
  have hin : meth.name = "<init>" := (name_of_methodNamed B.named B.method).1
  obtain ⟨hx, hb, hml, hown, hts, -⟩ := id X
  have hl := lv_entry ([.ref a0]) (n := 1) (Nat.le_of_ble_eq_true rfl)
  rw [lg_entry_eq]
  generalize (lg_sl ([.ref a0]) ++ List.replicate (1 - (lg_sl ([.ref a0])).length) Slot.unset).toArray = ls at hl ⊢
  have hl : lv_has ls 1 [(0, .ref a0)] := hl
  change W p l e (rmX9_init 0 0) s m _ below meth c s.heap [] 0 0 (QV G below (fun v => v = u ∧ K) _ s 0 0) (F0 m 0 ls [])
  unfold pX9_init at h
  refine lv_aload_n hx hb dX9_init_0 rfl (lv_at hl 0 rfl) ?_
  refine g_callvo hw (g_IN X hw (mX6_init l G _ _ _ h) 0 q369 q130 (List.mem_of_getElem? (i := 19) rfl) q368 rfl rfl rfl ydX6_init ⟨Nat.le_of_ble_eq_true rfl, Nat.le_of_ble_eq_true rfl⟩ (As := []) (rest := []) rfl hl.1 rfl (Nat.le_of_ble_eq_true rfl) dX9_init_1 ⟨Nat.le_refl _, Nat.le_refl _⟩) (fun  H locs h hw => ?_)
  exact g_vret X hw hr ⟨rfl, h⟩ (Nat.le_refl _) (Nat.le_refl _) dX9_init_4

/-! FifthCard$BySum.<init>()V -/
theorem ydX10_init : yX10_init.cls = "FifthCard$BySum" ∧ yX10_init.cls ≠ "java/lang/invoke/MethodHandle" ∧ yX10_init.cls ≠ "java/lang/invoke/VarHandle" ∧ (parseMethodDescriptor yX10_init.desc).map (fun d => d.parameters.length) = some 0 := by decide +kernel
def rmX10_init (mc ms : Nat) : Room := { frames := 2, cells := mc, slots := ms, locals := 40 }
set_option maxHeartbeats 4000000 in
theorem mX10_init (l : Launch) (G : GT) (u : Hp) (a0 : Nat) (K : Prop) (h : pX10_init a0 K) : Met l yX10_init (ws_ yX10_init cX10_init 1 none) (rmX10_init 0 0) (va_Pc [.ref a0] (GB G u)) (va_Qv (fun v => v = u ∧ K) (fun u t => GH G u t.heap) (GA G)) 0 0 (GA G) := by
  refine Met.ofW (cc := cX10_init) (maxL := 1) (ret := none) (by decide) rfl ?_
  intro p e s m args below meth c s₁ B hml hv
  obtain ⟨rfl, hv⟩ := hv
  have X := Mc_of (own := RX10) B hml rfl hv
  have hw : GW G u s s.heap [] := ⟨hv.2.1, va_S.rf⟩
  have hr := B.returns
  have hin : meth.name = "<init>" := (name_of_methodNamed B.named B.method).1
  obtain ⟨hx, hb, hml, hown, hts, -⟩ := id X
  have hl := lv_entry ([.ref a0]) (n := 1) (Nat.le_of_ble_eq_true rfl)
  rw [lg_entry_eq]
  generalize (lg_sl ([.ref a0]) ++ List.replicate (1 - (lg_sl ([.ref a0])).length) Slot.unset).toArray = ls at hl ⊢
  have hl : lv_has ls 1 [(0, .ref a0)] := hl
  change W p l e (rmX10_init 0 0) s m _ below meth c s.heap [] 0 0 (QV G below (fun v => v = u ∧ K) _ s 0 0) (F0 m 0 ls [])
  unfold pX10_init at h
  refine lv_aload_n hx hb dX10_init_0 rfl (lv_at hl 0 rfl) ?_
  refine g_callvo hw (g_IN X hw (mX6_init l G _ _ _ h) 0 q369 q130 (List.mem_of_getElem? (i := 12) rfl) q368 rfl rfl rfl ydX6_init ⟨Nat.le_of_ble_eq_true rfl, Nat.le_of_ble_eq_true rfl⟩ (As := []) (rest := []) rfl hl.1 rfl (Nat.le_of_ble_eq_true rfl) dX10_init_1 ⟨Nat.le_refl _, Nat.le_refl _⟩) (fun  H locs h hw => ?_)
  exact g_vret X hw hr ⟨rfl, h⟩ (Nat.le_refl _) (Nat.le_refl _) dX10_init_4

/-! FifthCard$Tell.<init>()V -/
theorem ydX11_init : yX11_init.cls = "FifthCard$Tell" ∧ yX11_init.cls ≠ "java/lang/invoke/MethodHandle" ∧ yX11_init.cls ≠ "java/lang/invoke/VarHandle" ∧ (parseMethodDescriptor yX11_init.desc).map (fun d => d.parameters.length) = some 0 := by decide +kernel
def rmX11_init (mc ms : Nat) : Room := { frames := 1, cells := mc, slots := ms, locals := 20 }
set_option maxHeartbeats 4000000 in
theorem mX11_init (l : Launch) (G : GT) (u : Hp) (a0 : Nat) (K : Prop) (h : pX11_init a0 K) : Met l yX11_init (ws_ yX11_init cX11_init 1 none) (rmX11_init 0 0) (va_Pc [.ref a0] (GB G u)) (va_Qv (fun v => v = u ∧ K) (fun u t => GH G u t.heap) (GA G)) 0 0 (GA G) := by
  refine Met.ofW (cc := cX11_init) (maxL := 1) (ret := none) (by decide) rfl ?_
  intro p e s m args below meth c s₁ B hml hv
  obtain ⟨rfl, hv⟩ := hv
  have X := Mc_of (own := RX11) B hml rfl hv
  have hw : GW G u s s.heap [] := ⟨hv.2.1, va_S.rf⟩
  have hr := B.returns
  have hin : meth.name = "<init>" := (name_of_methodNamed B.named B.method).1
  obtain ⟨hx, hb, hml, hown, hts, -⟩ := id X
  have hl := lv_entry ([.ref a0]) (n := 1) (Nat.le_of_ble_eq_true rfl)
  rw [lg_entry_eq]
  generalize (lg_sl ([.ref a0]) ++ List.replicate (1 - (lg_sl ([.ref a0])).length) Slot.unset).toArray = ls at hl ⊢
  have hl : lv_has ls 1 [(0, .ref a0)] := hl
  change W p l e (rmX11_init 0 0) s m _ below meth c s.heap [] 0 0 (QV G below (fun v => v = u ∧ K) _ s 0 0) (F0 m 0 ls [])
  unfold pX11_init at h
  refine lv_aload_n hx hb dX11_init_0 rfl (lv_at hl 0 rfl) ?_
  refine W.objInit hx hb hown (hts _ q401) (hts _ q162) (hts _ q163) rfl (by rw [hml]; exact hl.1) rfl dX11_init_1 (Nat.le_of_ble_eq_true rfl) (Nat.le_of_ble_eq_true rfl) ?_
  exact g_vret X hw hr ⟨rfl, h⟩ (Nat.le_refl _) (Nat.le_refl _) dX11_init_4

/-! FifthCard$Place.<init>()V -/
theorem ydX12_init : yX12_init.cls = "FifthCard$Place" ∧ yX12_init.cls ≠ "java/lang/invoke/MethodHandle" ∧ yX12_init.cls ≠ "java/lang/invoke/VarHandle" ∧ (parseMethodDescriptor yX12_init.desc).map (fun d => d.parameters.length) = some 0 := by decide +kernel
def rmX12_init (mc ms : Nat) : Room := { frames := 2, cells := mc, slots := ms, locals := 40 }
set_option maxHeartbeats 4000000 in
theorem mX12_init (l : Launch) (G : GT) (u : Hp) (a0 : Nat) (K : Prop) (h : pX12_init a0 K) : Met l yX12_init (ws_ yX12_init cX12_init 1 none) (rmX12_init 0 0) (va_Pc [.ref a0] (GB G u)) (va_Qv (fun v => v = u ∧ K) (fun u t => GH G u t.heap) (GA G)) 0 0 (GA G) := by
  refine Met.ofW (cc := cX12_init) (maxL := 1) (ret := none) (by decide) rfl ?_
  intro p e s m args below meth c s₁ B hml hv
  obtain ⟨rfl, hv⟩ := hv
  have X := Mc_of (own := RX12) B hml rfl hv
  have hw : GW G u s s.heap [] := ⟨hv.2.1, va_S.rf⟩
  have hr := B.returns
  have hin : meth.name = "<init>" := (name_of_methodNamed B.named B.method).1
  obtain ⟨hx, hb, hml, hown, hts, -⟩ := id X
  have hl := lv_entry ([.ref a0]) (n := 1) (Nat.le_of_ble_eq_true rfl)
  rw [lg_entry_eq]
  generalize (lg_sl ([.ref a0]) ++ List.replicate (1 - (lg_sl ([.ref a0])).length) Slot.unset).toArray = ls at hl ⊢
  have hl : lv_has ls 1 [(0, .ref a0)] := hl
  change W p l e (rmX12_init 0 0) s m _ below meth c s.heap [] 0 0 (QV G below (fun v => v = u ∧ K) _ s 0 0) (F0 m 0 ls [])
  unfold pX12_init at h
  refine lv_aload_n hx hb dX12_init_0 rfl (lv_at hl 0 rfl) ?_
  refine g_callvo hw (g_IN X hw (mX11_init l G _ _ _ h) 0 q400 q135 (List.mem_of_getElem? (i := 24) rfl) q399 rfl rfl rfl ydX11_init ⟨Nat.le_of_ble_eq_true rfl, Nat.le_of_ble_eq_true rfl⟩ (As := []) (rest := []) rfl hl.1 rfl (Nat.le_of_ble_eq_true rfl) dX12_init_1 ⟨Nat.le_refl _, Nat.le_refl _⟩) (fun  H locs h hw => ?_)
  exact g_vret X hw hr ⟨rfl, h⟩ (Nat.le_refl _) (Nat.le_refl _) dX12_init_4

/-! FifthCard$Rank.<init>()V -/
theorem ydX13_init : yX13_init.cls = "FifthCard$Rank" ∧ yX13_init.cls ≠ "java/lang/invoke/MethodHandle" ∧ yX13_init.cls ≠ "java/lang/invoke/VarHandle" ∧ (parseMethodDescriptor yX13_init.desc).map (fun d => d.parameters.length) = some 0 := by decide +kernel
def rmX13_init (mc ms : Nat) : Room := { frames := 2, cells := mc, slots := ms, locals := 40 }
set_option maxHeartbeats 4000000 in
theorem mX13_init (l : Launch) (G : GT) (u : Hp) (a0 : Nat) (K : Prop) (h : pX13_init a0 K) : Met l yX13_init (ws_ yX13_init cX13_init 1 none) (rmX13_init 0 0) (va_Pc [.ref a0] (GB G u)) (va_Qv (fun v => v = u ∧ K) (fun u t => GH G u t.heap) (GA G)) 0 0 (GA G) := by
  refine Met.ofW (cc := cX13_init) (maxL := 1) (ret := none) (by decide) rfl ?_
  intro p e s m args below meth c s₁ B hml hv
  obtain ⟨rfl, hv⟩ := hv
  have X := Mc_of (own := RX13) B hml rfl hv
  have hw : GW G u s s.heap [] := ⟨hv.2.1, va_S.rf⟩
  have hr := B.returns
  have hin : meth.name = "<init>" := (name_of_methodNamed B.named B.method).1
  obtain ⟨hx, hb, hml, hown, hts, -⟩ := id X
  have hl := lv_entry ([.ref a0]) (n := 1) (Nat.le_of_ble_eq_true rfl)
  rw [lg_entry_eq]
  generalize (lg_sl ([.ref a0]) ++ List.replicate (1 - (lg_sl ([.ref a0])).length) Slot.unset).toArray = ls at hl ⊢
  have hl : lv_has ls 1 [(0, .ref a0)] := hl
  change W p l e (rmX13_init 0 0) s m _ below meth c s.heap [] 0 0 (QV G below (fun v => v = u ∧ K) _ s 0 0) (F0 m 0 ls [])
  unfold pX13_init at h
  refine lv_aload_n hx hb dX13_init_0 rfl (lv_at hl 0 rfl) ?_
  refine g_callvo hw (g_IN X hw (mX11_init l G _ _ _ h) 0 q400 q135 (List.mem_of_getElem? (i := 25) rfl) q399 rfl rfl rfl ydX11_init ⟨Nat.le_of_ble_eq_true rfl, Nat.le_of_ble_eq_true rfl⟩ (As := []) (rest := []) rfl hl.1 rfl (Nat.le_of_ble_eq_true rfl) dX13_init_1 ⟨Nat.le_refl _, Nat.le_refl _⟩) (fun  H locs h hw => ?_)
  exact g_vret X hw hr ⟨rfl, h⟩ (Nat.le_refl _) (Nat.le_refl _) dX13_init_4

/-! FifthCard$Gap.<init>()V -/
theorem ydX14_init : yX14_init.cls = "FifthCard$Gap" ∧ yX14_init.cls ≠ "java/lang/invoke/MethodHandle" ∧ yX14_init.cls ≠ "java/lang/invoke/VarHandle" ∧ (parseMethodDescriptor yX14_init.desc).map (fun d => d.parameters.length) = some 0 := by decide +kernel
def rmX14_init (mc ms : Nat) : Room := { frames := 2, cells := mc, slots := ms, locals := 40 }
set_option maxHeartbeats 4000000 in
theorem mX14_init (l : Launch) (G : GT) (u : Hp) (a0 : Nat) (K : Prop) (h : pX14_init a0 K) : Met l yX14_init (ws_ yX14_init cX14_init 1 none) (rmX14_init 0 0) (va_Pc [.ref a0] (GB G u)) (va_Qv (fun v => v = u ∧ K) (fun u t => GH G u t.heap) (GA G)) 0 0 (GA G) := by
  refine Met.ofW (cc := cX14_init) (maxL := 1) (ret := none) (by decide) rfl ?_
  intro p e s m args below meth c s₁ B hml hv
  obtain ⟨rfl, hv⟩ := hv
  have X := Mc_of (own := RX14) B hml rfl hv
  have hw : GW G u s s.heap [] := ⟨hv.2.1, va_S.rf⟩
  have hr := B.returns
  have hin : meth.name = "<init>" := (name_of_methodNamed B.named B.method).1
  obtain ⟨hx, hb, hml, hown, hts, -⟩ := id X
  have hl := lv_entry ([.ref a0]) (n := 1) (Nat.le_of_ble_eq_true rfl)
  rw [lg_entry_eq]
  generalize (lg_sl ([.ref a0]) ++ List.replicate (1 - (lg_sl ([.ref a0])).length) Slot.unset).toArray = ls at hl ⊢
  have hl : lv_has ls 1 [(0, .ref a0)] := hl
  change W p l e (rmX14_init 0 0) s m _ below meth c s.heap [] 0 0 (QV G below (fun v => v = u ∧ K) _ s 0 0) (F0 m 0 ls [])
  unfold pX14_init at h
  refine lv_aload_n hx hb dX14_init_0 rfl (lv_at hl 0 rfl) ?_
  refine g_callvo hw (g_IN X hw (mX11_init l G _ _ _ h) 0 q400 q135 (List.mem_of_getElem? (i := 13) rfl) q399 rfl rfl rfl ydX11_init ⟨Nat.le_of_ble_eq_true rfl, Nat.le_of_ble_eq_true rfl⟩ (As := []) (rest := []) rfl hl.1 rfl (Nat.le_of_ble_eq_true rfl) dX14_init_1 ⟨Nat.le_refl _, Nat.le_refl _⟩) (fun  H locs h hw => ?_)
  exact g_vret X hw hr ⟨rfl, h⟩ (Nat.le_refl _) (Nat.le_refl _) dX14_init_4

/-! FifthCard$Ring.<init>()V -/
theorem ydX15_init : yX15_init.cls = "FifthCard$Ring" ∧ yX15_init.cls ≠ "java/lang/invoke/MethodHandle" ∧ yX15_init.cls ≠ "java/lang/invoke/VarHandle" ∧ (parseMethodDescriptor yX15_init.desc).map (fun d => d.parameters.length) = some 0 := by decide +kernel
def rmX15_init (mc ms : Nat) : Room := { frames := 2, cells := mc, slots := ms, locals := 40 }
set_option maxHeartbeats 4000000 in
theorem mX15_init (l : Launch) (G : GT) (u : Hp) (a0 : Nat) (K : Prop) (h : pX15_init a0 K) : Met l yX15_init (ws_ yX15_init cX15_init 1 none) (rmX15_init 0 0) (va_Pc [.ref a0] (GB G u)) (va_Qv (fun v => v = u ∧ K) (fun u t => GH G u t.heap) (GA G)) 0 0 (GA G) := by
  refine Met.ofW (cc := cX15_init) (maxL := 1) (ret := none) (by decide) rfl ?_
  intro p e s m args below meth c s₁ B hml hv
  obtain ⟨rfl, hv⟩ := hv
  have X := Mc_of (own := RX15) B hml rfl hv
  have hw : GW G u s s.heap [] := ⟨hv.2.1, va_S.rf⟩
  have hr := B.returns
  have hin : meth.name = "<init>" := (name_of_methodNamed B.named B.method).1
  obtain ⟨hx, hb, hml, hown, hts, -⟩ := id X
  have hl := lv_entry ([.ref a0]) (n := 1) (Nat.le_of_ble_eq_true rfl)
  rw [lg_entry_eq]
  generalize (lg_sl ([.ref a0]) ++ List.replicate (1 - (lg_sl ([.ref a0])).length) Slot.unset).toArray = ls at hl ⊢
  have hl : lv_has ls 1 [(0, .ref a0)] := hl
  change W p l e (rmX15_init 0 0) s m _ below meth c s.heap [] 0 0 (QV G below (fun v => v = u ∧ K) _ s 0 0) (F0 m 0 ls [])
  unfold pX15_init at h
  refine lv_aload_n hx hb dX15_init_0 rfl (lv_at hl 0 rfl) ?_
  refine g_callvo hw (g_IN X hw (mX11_init l G _ _ _ h) 0 q400 q135 (List.mem_of_getElem? (i := 30) rfl) q399 rfl rfl rfl ydX11_init ⟨Nat.le_of_ble_eq_true rfl, Nat.le_of_ble_eq_true rfl⟩ (As := []) (rest := []) rfl hl.1 rfl (Nat.le_of_ble_eq_true rfl) dX15_init_1 ⟨Nat.le_refl _, Nat.le_refl _⟩) (fun  H locs h hw => ?_)
  exact g_vret X hw hr ⟨rfl, h⟩ (Nat.le_refl _) (Nat.le_refl _) dX15_init_4

/-! FifthCard$KeptSum.<init>()V -/
theorem ydX16_init : yX16_init.cls = "FifthCard$KeptSum" ∧ yX16_init.cls ≠ "java/lang/invoke/MethodHandle" ∧ yX16_init.cls ≠ "java/lang/invoke/VarHandle" ∧ (parseMethodDescriptor yX16_init.desc).map (fun d => d.parameters.length) = some 0 := by decide +kernel
def rmX16_init (mc ms : Nat) : Room := { frames := 2, cells := mc, slots := ms, locals := 40 }
set_option maxHeartbeats 4000000 in
theorem mX16_init (l : Launch) (G : GT) (u : Hp) (a0 : Nat) (K : Prop) (h : pX16_init a0 K) : Met l yX16_init (ws_ yX16_init cX16_init 1 none) (rmX16_init 0 0) (va_Pc [.ref a0] (GB G u)) (va_Qv (fun v => v = u ∧ K) (fun u t => GH G u t.heap) (GA G)) 0 0 (GA G) := by
  refine Met.ofW (cc := cX16_init) (maxL := 1) (ret := none) (by decide) rfl ?_
  intro p e s m args below meth c s₁ B hml hv
  obtain ⟨rfl, hv⟩ := hv
  have X := Mc_of (own := RX16) B hml rfl hv
  have hw : GW G u s s.heap [] := ⟨hv.2.1, va_S.rf⟩
  have hr := B.returns
  have hin : meth.name = "<init>" := (name_of_methodNamed B.named B.method).1
  obtain ⟨hx, hb, hml, hown, hts, -⟩ := id X
  have hl := lv_entry ([.ref a0]) (n := 1) (Nat.le_of_ble_eq_true rfl)
  rw [lg_entry_eq]
  generalize (lg_sl ([.ref a0]) ++ List.replicate (1 - (lg_sl ([.ref a0])).length) Slot.unset).toArray = ls at hl ⊢
  have hl : lv_has ls 1 [(0, .ref a0)] := hl
  change W p l e (rmX16_init 0 0) s m _ below meth c s.heap [] 0 0 (QV G below (fun v => v = u ∧ K) _ s 0 0) (F0 m 0 ls [])
  unfold pX16_init at h
  refine lv_aload_n hx hb dX16_init_0 rfl (lv_at hl 0 rfl) ?_
  refine g_callvo hw (g_IN X hw (mX11_init l G _ _ _ h) 0 q400 q135 (List.mem_of_getElem? (i := 16) rfl) q399 rfl rfl rfl ydX11_init ⟨Nat.le_of_ble_eq_true rfl, Nat.le_of_ble_eq_true rfl⟩ (As := []) (rest := []) rfl hl.1 rfl (Nat.le_of_ble_eq_true rfl) dX16_init_1 ⟨Nat.le_refl _, Nat.le_refl _⟩) (fun  H locs h hw => ?_)
  exact g_vret X hw hr ⟨rfl, h⟩ (Nat.le_refl _) (Nat.le_refl _) dX16_init_4

/-! FifthCard$Rule.<init>(Ljava/lang/String;I)V -/
theorem ydX17_init : yX17_init.cls = "FifthCard$Rule" ∧ yX17_init.cls ≠ "java/lang/invoke/MethodHandle" ∧ yX17_init.cls ≠ "java/lang/invoke/VarHandle" ∧ (parseMethodDescriptor yX17_init.desc).map (fun d => d.parameters.length) = some 2 := by decide +kernel
def rmX17_init (mc ms : Nat) : Room := { frames := 1, cells := mc, slots := ms, locals := 20 }
set_option maxHeartbeats 4000000 in
theorem mX17_init (l : Launch) (G : GT) (u : Hp) (a0 : Nat) (a1 : Nat) (x2 : Int32) (MC MS : Nat) (K : Hp → Prop) (h : pX17_init u a0 a1 x2 MC MS K) : Met l yX17_init (ws_ yX17_init cX17_init 3 none) (rmX17_init MC MS) (va_Pc [.ref a0, .ref a1, .int x2] (GB G u)) (va_Qv K (fun u t => GH G u t.heap) (GA G)) MC MS (GA G) := by
  refine Met.ofW (cc := cX17_init) (maxL := 3) (ret := none) (by decide) rfl ?_
  intro p e s m args below meth c s₁ B hml hv
  obtain ⟨rfl, hv⟩ := hv
  have X := Mc_of (own := RX17) B hml rfl hv
  have hw : GW G u s s.heap [] := ⟨hv.2.1, va_S.rf⟩
  have hr := B.returns
  have hin : meth.name = "<init>" := (name_of_methodNamed B.named B.method).1
  obtain ⟨hx, hb, hml, hown, hts, -⟩ := id X
  have hl := lv_entry ([.ref a0, .ref a1, .int x2]) (n := 3) (Nat.le_of_ble_eq_true rfl)
  rw [lg_entry_eq]
  generalize (lg_sl ([.ref a0, .ref a1, .int x2]) ++ List.replicate (3 - (lg_sl ([.ref a0, .ref a1, .int x2])).length) Slot.unset).toArray = ls at hl ⊢
  have hl : lv_has ls 3 [(0, .ref a0), (1, .ref a1), (2, .int x2)] := hl
  change W p l e (rmX17_init MC MS) s m _ below meth c s.heap [] 0 0 (QV G below K _ s MC MS) (F0 m 0 ls [])
  unfold pX17_init at h
  have hc1 : 0 + MC ≤ MC := by omega
  have hc2 : 0 + MS ≤ MS := by omega
  refine lv_aload_n hx hb dX17_init_0 rfl (lv_at hl 0 rfl) ?_
  refine W.objInit hx hb hown (hts _ q439) (hts _ q162) (hts _ q163) rfl (by rw [hml]; exact hl.1) rfl dX17_init_1 (Nat.le_of_ble_eq_true rfl) (Nat.le_of_ble_eq_true rfl) ?_
  refine lv_aload_n hx hb dX17_init_4 rfl (lv_at hl 0 rfl) ?_
  refine lv_sipush (v := 2000) hx hb dX17_init_5 (by decide) ?_
  obtain ⟨hm_3, hm_4, h⟩ := h
  refine g_newI X hw q279 (N' := 2000) (by decide) (by decide) (by decide) (by show _ ≤ MC; omega) (by show _ ≤ MS; omega) dX17_init_8 (fun q_1 H hq_2 hw => ?_)
  have h := h q_1 hq_2
  have hk_5 : kd (mkC u q_1 101 2000) q_1 = 101 := hu1_eq
  have hk_6 : isRu (kd (mkC u q_1 101 2000) a0) := h.1
  have h := h.2
  refine g_putRu2FO X hin hw (v := (some q_1)) hk_6 q449 dX17_init_10 (fun H locs hw => ?_)
  refine lv_aload_n hx hb dX17_init_13 rfl (lv_at hl 0 rfl) ?_
  refine lv_aload_n hx hb dX17_init_14 rfl (lv_at hl 1 rfl) ?_
  refine g_putRu0FO X hin hw (v := (some a1)) hk_6 q446 dX17_init_15 (fun H locs hw => ?_)
  refine lv_aload_n hx hb dX17_init_18 rfl (lv_at hl 0 rfl) ?_
  refine lv_iload_n hx hb dX17_init_19 rfl (lv_at hl 2 rfl) ?_
  obtain ⟨u_7, e_8⟩ : ∃ v : Hp, v = (sFR (sFR (mkC u q_1 101 2000) 1702 a0 (some q_1)) 1700 a0 (some a1)) := ⟨_, rfl⟩
  have h := h u_7 e_8
  have hw : GW G u_7 s H locs := by rw [e_8]; exact hw
  have hk_9 : kd u_7 q_1 = 101 := by rw [e_8]; exact hk_5
  have hk_10 : isRu (kd u_7 a0) := by rw [e_8]; exact hk_6
  refine g_putRu1FI X hin hw hk_10 q448 dX17_init_20 (fun H locs hw => ?_)
  exact g_vret X hw hr h (by omega) (by omega) dX17_init_23

/-! FifthCard$Spoken.<init>(Ljava/lang/String;ILFifthCard$Keep;LFifthCard$Tell;I)V -/
theorem ydX18_init : yX18_init.cls = "FifthCard$Spoken" ∧ yX18_init.cls ≠ "java/lang/invoke/MethodHandle" ∧ yX18_init.cls ≠ "java/lang/invoke/VarHandle" ∧ (parseMethodDescriptor yX18_init.desc).map (fun d => d.parameters.length) = some 5 := by decide +kernel
def rmX18_init (mc ms : Nat) : Room := { frames := 2, cells := mc, slots := ms, locals := 42 }
set_option maxHeartbeats 4000000 in
theorem mX18_init (l : Launch) (G : GT) (u : Hp) (a0 : Nat) (a1 : Nat) (x2 : Int32) (a3 : Nat) (a4 : Nat) (x5 : Int32) (MC MS : Nat) (K : Hp → Prop) (h : pX18_init u a0 a1 x2 a3 a4 x5 MC MS K) : Met l yX18_init (ws_ yX18_init cX18_init 6 none) (rmX18_init MC MS) (va_Pc [.ref a0, .ref a1, .int x2, .ref a3, .ref a4, .int x5] (GB G u)) (va_Qv K (fun u t => GH G u t.heap) (GA G)) MC MS (GA G) := by
  refine Met.ofW (cc := cX18_init) (maxL := 6) (ret := none) (by decide) rfl ?_
  intro p e s m args below meth c s₁ B hml hv
  obtain ⟨rfl, hv⟩ := hv
  have X := Mc_of (own := RX18) B hml rfl hv
  have hw : GW G u s s.heap [] := ⟨hv.2.1, va_S.rf⟩
  have hr := B.returns
  have hin : meth.name = "<init>" := (name_of_methodNamed B.named B.method).1
  obtain ⟨hx, hb, hml, hown, hts, -⟩ := id X
  have hl := lv_entry ([.ref a0, .ref a1, .int x2, .ref a3, .ref a4, .int x5]) (n := 6) (Nat.le_of_ble_eq_true rfl)
  rw [lg_entry_eq]
  generalize (lg_sl ([.ref a0, .ref a1, .int x2, .ref a3, .ref a4, .int x5]) ++ List.replicate (6 - (lg_sl ([.ref a0, .ref a1, .int x2, .ref a3, .ref a4, .int x5])).length) Slot.unset).toArray = ls at hl ⊢
  have hl : lv_has ls 6 [(0, .ref a0), (1, .ref a1), (2, .int x2), (3, .ref a3), (4, .ref a4), (5, .int x5)] := hl
  change W p l e (rmX18_init MC MS) s m _ below meth c s.heap [] 0 0 (QV G below K _ s MC MS) (F0 m 0 ls [])
  unfold pX18_init at h
  have hc1 : 0 + MC ≤ MC := by omega
  have hc2 : 0 + MS ≤ MS := by omega
  refine lv_aload_n hx hb dX18_init_0 rfl (lv_at hl 0 rfl) ?_
  refine lv_aload_n hx hb dX18_init_1 rfl (lv_at hl 1 rfl) ?_
  refine lv_iload_n hx hb dX18_init_2 rfl (lv_at hl 2 rfl) ?_
  obtain ⟨q_1, q_2, hq_3, hq_4, h⟩ := h
  refine g_callv hw (g_I X hw (mX17_init l G _ _ _ _ _ _ _ h) 2 q438 q141 q436 q437 rfl rfl rfl ydX17_init ⟨Nat.le_of_ble_eq_true rfl, Nat.le_of_ble_eq_true rfl⟩ (As := [.ref a1, .int x2]) (rest := []) rfl hl.1 rfl (Nat.le_of_ble_eq_true rfl) dX18_init_3 ⟨(by show _ ≤ MC; omega), (by show _ ≤ MS; omega)⟩) (fun u_5 H locs h hw => ?_)
  refine lv_aload_n hx hb dX18_init_6 rfl (lv_at hl 0 rfl) ?_
  refine lv_iconst (v := 5) hx hb dX18_init_7 (by decide) ?_
  obtain ⟨hm_8, hm_9, h⟩ := h
  refine g_newI X hw q279 (N' := 5) (by decide) (by decide) (by decide) (by show _ ≤ MC; omega) (by show _ ≤ MS; omega) dX18_init_8 (fun q_6 H hq_7 hw => ?_)
  have h := h q_6 hq_7
  have hk_10 : kd (mkC u_5 q_6 101 5) q_6 = 101 := hu1_eq
  have hk_11 : kd (mkC u_5 q_6 101 5) a0 = 15 := h.1
  have h := h.2
  refine g_putFO (v := (some q_6)) X hin hw in_X18 tyX18_ok nmX18 hk_11 rfl 7 rfl (by decide) q443 (fun _ z => z) rfl rfl rfl rfl dX18_init_10 (fun H locs hw => ?_)
  refine lv_aload_n hx hb dX18_init_13 rfl (lv_at hl 0 rfl) ?_
  refine lv_iconst (v := 5) hx hb dX18_init_14 (by decide) ?_
  obtain ⟨hm_14, hm_15, h⟩ := h
  refine g_newI X hw q279 (N' := 5) (by decide) (by decide) (by decide) (by show _ ≤ MC; omega) (by show _ ≤ MS; omega) dX18_init_15 (fun q_12 H hq_13 hw => ?_)
  have h := h q_12 hq_13
  have hk_16 : kd (mkC (sFR (mkC u_5 q_6 101 5) 1807 a0 (some q_6)) q_12 101 5) q_6 = 101 := kd_mkC hk_10 hq_13 (by decide)
  have hk_17 : kd (mkC (sFR (mkC u_5 q_6 101 5) 1807 a0 (some q_6)) q_12 101 5) a0 = 15 := kd_mkC hk_11 hq_13 (by decide)
  have hk_18 : kd (mkC (sFR (mkC u_5 q_6 101 5) 1807 a0 (some q_6)) q_12 101 5) q_12 = 101 := hu1_eq
  obtain ⟨u_19, e_20⟩ : ∃ v : Hp, v = (mkC (sFR (mkC u_5 q_6 101 5) 1807 a0 (some q_6)) q_12 101 5) := ⟨_, rfl⟩
  have h := h u_19 e_20
  have hw : GW G u_19 s H locs := by rw [e_20]; exact hw
  have hk_21 : kd u_19 q_6 = 101 := by rw [e_20]; exact hk_16
  have hk_22 : kd u_19 a0 = 15 := by rw [e_20]; exact hk_17
  have hk_23 : kd u_19 q_12 = 101 := by rw [e_20]; exact hk_18
  refine g_putFO (v := (some q_12)) X hin hw in_X18 tyX18_ok nmX18 hk_22 rfl 8 rfl (by decide) q444 (fun _ z => z) rfl rfl rfl rfl dX18_init_17 (fun H locs hw => ?_)
  refine lv_aload_n hx hb dX18_init_20 rfl (lv_at hl 0 rfl) ?_
  refine lv_iconst (v := 5) hx hb dX18_init_21 (by decide) ?_
  obtain ⟨hm_26, hm_27, h⟩ := h
  refine g_newI X hw q279 (N' := 5) (by decide) (by decide) (by decide) (by show _ ≤ MC; omega) (by show _ ≤ MS; omega) dX18_init_22 (fun q_24 H hq_25 hw => ?_)
  have h := h q_24 hq_25
  have hk_28 : kd (mkC (sFR u_19 1808 a0 (some q_12)) q_24 101 5) q_6 = 101 := kd_mkC hk_21 hq_25 (by decide)
  have hk_29 : kd (mkC (sFR u_19 1808 a0 (some q_12)) q_24 101 5) a0 = 15 := kd_mkC hk_22 hq_25 (by decide)
  have hk_30 : kd (mkC (sFR u_19 1808 a0 (some q_12)) q_24 101 5) q_12 = 101 := kd_mkC hk_23 hq_25 (by decide)
  have hk_31 : kd (mkC (sFR u_19 1808 a0 (some q_12)) q_24 101 5) q_24 = 101 := hu1_eq
  refine g_putFO (v := (some q_24)) X hin hw in_X18 tyX18_ok nmX18 hk_29 rfl 9 rfl (by decide) q445 (fun _ z => z) rfl rfl rfl rfl dX18_init_24 (fun H locs hw => ?_)
  refine lv_aload_n hx hb dX18_init_27 rfl (lv_at hl 0 rfl) ?_
  refine lv_aload_n hx hb dX18_init_28 rfl (lv_at hl 3 rfl) ?_
  obtain ⟨u_32, e_33⟩ : ∃ v : Hp, v = (sFR (mkC (sFR u_19 1808 a0 (some q_12)) q_24 101 5) 1809 a0 (some q_24)) := ⟨_, rfl⟩
  have h := h u_32 e_33
  have hw : GW G u_32 s H locs := by rw [e_33]; exact hw
  have hk_34 : kd u_32 q_6 = 101 := by rw [e_33]; exact hk_28
  have hk_35 : kd u_32 a0 = 15 := by rw [e_33]; exact hk_29
  have hk_36 : kd u_32 q_12 = 101 := by rw [e_33]; exact hk_30
  have hk_37 : kd u_32 q_24 = 101 := by rw [e_33]; exact hk_31
  refine g_putFO (v := (some a3)) X hin hw in_X18 tyX18_ok nmX18 hk_35 rfl 4 rfl (by decide) q440 (fun _ z => z) rfl rfl rfl rfl dX18_init_29 (fun H locs hw => ?_)
  refine lv_aload_n hx hb dX18_init_32 rfl (lv_at hl 0 rfl) ?_
  refine lv_aload hx hb dX18_init_33 (lv_at hl 4 rfl) ?_
  refine g_putFO (v := (some a4)) X hin hw in_X18 tyX18_ok nmX18 hk_35 rfl 5 rfl (by decide) q441 (fun _ z => z) rfl rfl rfl rfl dX18_init_35 (fun H locs hw => ?_)
  refine lv_aload_n hx hb dX18_init_38 rfl (lv_at hl 0 rfl) ?_
  refine lv_iload hx hb dX18_init_39 (lv_at hl 5 rfl) ?_
  refine g_putFI (v := x5) X hin hw in_X18 tyX18_ok nmX18 hk_35 rfl 6 rfl (by decide) q442 (fun _ z => z) rfl rfl rfl rfl dX18_init_41 (fun H locs hw => ?_)
  exact g_vret X hw hr h (by omega) (by omega) dX18_init_44

/-! FifthCard.spoken(Ljava/lang/String;II)LFifthCard$Rule; -/
theorem ydX1_spoken : yX1_spoken.cls = "FifthCard" ∧ yX1_spoken.cls ≠ "java/lang/invoke/MethodHandle" ∧ yX1_spoken.cls ≠ "java/lang/invoke/VarHandle" ∧ (parseMethodDescriptor yX1_spoken.desc).map (fun d => d.parameters.length) = some 3 := by decide +kernel
def rmX1_spoken (mc ms : Nat) : Room := { frames := 3, cells := mc, slots := ms, locals := 67 }
set_option maxHeartbeats 4000000 in
theorem wX1_spoken_132 {G : GT} {p : Program} {l : Launch} {e : Env} {s : State} {m : MethodId} {args : Array Value} {below : List Frame} {meth : Method} {c : Code} {H : Heap} {locs : List Loc} {ls : Array Slot} {cells slots : Nat} {MC MS : Nat} {a0 : Nat} {x1 : Int32} {x2 : Int32} {a3 : Nat} {z0 : Nat} {u : Hp} {mc : Nat} {ms : Nat} {K : Option Nat → Hp → Prop} (X : Mc G p s m args meth c RX1 cX1_spoken 5) (hr : meth.sig.returnType = (some (.object "FifthCard$Rule"))) (hc1 : cells + mc ≤ MC) (hc2 : slots + ms ≤ MS) (h : bX1_spoken_132 K a0 x1 x2 a3 z0 u mc ms) (hw : GW G u s H locs) (hl : lv_has ls 5 [(0, .ref a0), (1, .int x1), (2, .int x2), (3, .ref a3)]) : W p l e (rmX1_spoken MC MS) s m args below meth c H locs cells slots (QR G below K args s MC MS) (F0 m 132 ls [.ref z0]) := by
  obtain ⟨hx, hb, hml, hown, hts, -⟩ := id X
  unfold bX1_spoken_132 at h
  refine lv_astore (lv' := [(4, .ref z0), (0, .ref a0), (1, .int x1), (2, .int x2), (3, .ref a3)]) hx hb dX1_spoken_132 hl (by decide) rfl (fun ls hl => ?_)
  obtain ⟨hm_3, hm_4, h⟩ := h
  refine g_new X hw (T := TX18) (N := 10) in_X18 tyX18_ok (ci := 14) rfl df_X18 q431 q432 q142 (by show _ ≤ MC; omega) (by show _ ≤ MS; omega) dX1_spoken_134 (fun q_1 H hq_2 hw => ?_)
  have h := h q_1 hq_2
  have hk_5 : kd (mkC u q_1 15 0) q_1 = 15 := hu1_eq
  refine lv_dup hx hb dX1_spoken_137 rfl ?_
  refine lv_aload_n hx hb dX1_spoken_138 rfl (lv_at hl 1 rfl) ?_
  refine lv_iload_n hx hb dX1_spoken_139 rfl (lv_at hl 2 rfl) ?_
  refine lv_aload_n hx hb dX1_spoken_140 rfl (lv_at hl 4 rfl) ?_
  refine lv_aload hx hb dX1_spoken_141 (lv_at hl 0 rfl) ?_
  refine lv_iload_n hx hb dX1_spoken_143 rfl (lv_at hl 3 rfl) ?_
  obtain ⟨q_6, q_7, hq_8, hq_9, h⟩ := h
  refine g_callv hw (g_I X hw (mX18_init l G _ _ _ _ _ _ _ _ _ _ h) 5 q435 q142 q433 q434 rfl rfl rfl ydX18_init ⟨Nat.le_of_ble_eq_true rfl, Nat.le_of_ble_eq_true rfl⟩ (As := [.ref a0, .int x1, .ref a3, .ref z0, .int x2]) (rest := [.ref q_1]) rfl hl.1 rfl (Nat.le_of_ble_eq_true rfl) dX1_spoken_144 ⟨(by show _ ≤ MC; omega), (by show _ ≤ MS; omega)⟩) (fun u_10 H locs h hw => ?_)
  exact g_aret X hw (v := (some q_1)) hr (Or.inl ⟨_, rfl⟩) h (by omega) (by omega) dX1_spoken_147
set_option maxHeartbeats 4000000 in
theorem wX1_spoken_57 {G : GT} {p : Program} {l : Launch} {e : Env} {s : State} {m : MethodId} {args : Array Value} {below : List Frame} {meth : Method} {c : Code} {H : Heap} {locs : List Loc} {ls : Array Slot} {cells slots : Nat} {MC MS : Nat} {a0 : Nat} {x1 : Int32} {x2 : Int32} {z0 : Nat} {u : Hp} {mc : Nat} {ms : Nat} {K : Option Nat → Hp → Prop} (X : Mc G p s m args meth c RX1 cX1_spoken 5) (hr : meth.sig.returnType = (some (.object "FifthCard$Rule"))) (hc1 : cells + mc ≤ MC) (hc2 : slots + ms ≤ MS) (h : bX1_spoken_57 K a0 x1 x2 z0 u mc ms) (hw : GW G u s H locs) (hl : lv_has ls 5 [(0, .ref a0), (1, .int x1), (2, .int x2)]) : W p l e (rmX1_spoken MC MS) s m args below meth c H locs cells slots (QR G below K args s MC MS) (F0 m 57 ls [.ref z0]) := by
  obtain ⟨hx, hb, hml, hown, hts, -⟩ := id X
  unfold bX1_spoken_57 at h
  refine lv_astore_n (lv' := [(3, .ref z0), (0, .ref a0), (1, .int x1), (2, .int x2)]) hx hb dX1_spoken_57 rfl hl (by decide) rfl (fun ls hl => ?_)
  refine lv_iload_n hx hb dX1_spoken_58 rfl (lv_at hl 3 rfl) ?_
  refine lv_iconst (v := 5) hx hb dX1_spoken_59 (by decide) ?_
  refine lv_irem hx hb dX1_spoken_60 (by decide) ?_
  refine lv_if_ne (tgt := 74) hx hb dX1_spoken_61 rfl (fun c_39 => ?_) (fun c_39 => ?_)
  · have h := h.2 c_39
    refine lv_iload_n hx hb dX1_spoken_74 rfl (lv_at hl 3 rfl) ?_
    refine lv_iconst (v := 5) hx hb dX1_spoken_75 (by decide) ?_
    refine lv_irem hx hb dX1_spoken_76 (by decide) ?_
    refine lv_iconst (v := 1) hx hb dX1_spoken_77 (by decide) ?_
    refine lv_icmp_ne (tgt := 91) hx hb dX1_spoken_78 rfl (fun c_33 => ?_) (fun c_33 => ?_)
    · have h := h.2 c_33
      refine lv_iload_n hx hb dX1_spoken_91 rfl (lv_at hl 3 rfl) ?_
      refine lv_iconst (v := 5) hx hb dX1_spoken_92 (by decide) ?_
      refine lv_irem hx hb dX1_spoken_93 (by decide) ?_
      refine lv_iconst (v := 2) hx hb dX1_spoken_94 (by decide) ?_
      refine lv_icmp_ne (tgt := 108) hx hb dX1_spoken_95 rfl (fun c_27 => ?_) (fun c_27 => ?_)
      · have h := h.2 c_27
        refine lv_iload_n hx hb dX1_spoken_108 rfl (lv_at hl 3 rfl) ?_
        refine lv_iconst (v := 5) hx hb dX1_spoken_109 (by decide) ?_
        refine lv_irem hx hb dX1_spoken_110 (by decide) ?_
        refine lv_iconst (v := 3) hx hb dX1_spoken_111 (by decide) ?_
        refine lv_icmp_ne (tgt := 125) hx hb dX1_spoken_112 rfl (fun c_21 => ?_) (fun c_21 => ?_)
        · have h := h.2 c_21
          obtain ⟨hm_13, hm_14, h⟩ := h
          refine g_new X hw (ty := fun _ => .int) (T := T0) (N := 0) (fun _ h => by cases h) (fun k h => absurd h (Nat.not_lt_zero k)) (ci := 13) rfl (fun k h => absurd h (Nat.not_lt_zero k)) q424 q425 q140 (by show _ ≤ MC; omega) (by show _ ≤ MS; omega) dX1_spoken_125 (fun q_11 H hq_12 hw => ?_)
          have h := h q_11 hq_12
          have hk_15 : kd (mkC u q_11 14 0) q_11 = 14 := hu1_eq
          refine lv_dup hx hb dX1_spoken_128 rfl ?_
          refine g_callvo hw (g_IN X hw (mX16_init l G _ _ _ h) 0 q428 q140 (List.mem_of_getElem? (i := 8) rfl) q427 rfl rfl rfl ydX16_init ⟨Nat.le_of_ble_eq_true rfl, Nat.le_of_ble_eq_true rfl⟩ (As := []) (rest := [.ref q_11]) rfl hl.1 rfl (Nat.le_of_ble_eq_true rfl) dX1_spoken_129 ⟨(by show _ ≤ MC; omega), (by show _ ≤ MS; omega)⟩) (fun  H locs h hw => ?_)
          exact wX1_spoken_132 X hr (by omega) (by omega) h hw (lv_sub hl [1, 2, 3, 0] rfl)
        · have h := h.1 c_21
          obtain ⟨hm_18, hm_19, h⟩ := h
          refine g_new X hw (ty := fun _ => .int) (T := T0) (N := 0) (fun _ h => by cases h) (fun k h => absurd h (Nat.not_lt_zero k)) (ci := 12) rfl (fun k h => absurd h (Nat.not_lt_zero k)) q417 q418 q139 (by show _ ≤ MC; omega) (by show _ ≤ MS; omega) dX1_spoken_115 (fun q_16 H hq_17 hw => ?_)
          have h := h q_16 hq_17
          have hk_20 : kd (mkC u q_16 13 0) q_16 = 13 := hu1_eq
          refine lv_dup hx hb dX1_spoken_118 rfl ?_
          refine g_callvo hw (g_IN X hw (mX15_init l G _ _ _ h) 0 q421 q139 (List.mem_of_getElem? (i := 7) rfl) q420 rfl rfl rfl ydX15_init ⟨Nat.le_of_ble_eq_true rfl, Nat.le_of_ble_eq_true rfl⟩ (As := []) (rest := [.ref q_16]) rfl hl.1 rfl (Nat.le_of_ble_eq_true rfl) dX1_spoken_119 ⟨(by show _ ≤ MC; omega), (by show _ ≤ MS; omega)⟩) (fun  H locs h hw => ?_)
          refine lv_goto (tgt := 132) hx hb dX1_spoken_122 rfl ?_
          exact wX1_spoken_132 X hr (by omega) (by omega) h hw (lv_sub hl [1, 2, 3, 0] rfl)
      · have h := h.1 c_27
        obtain ⟨hm_24, hm_25, h⟩ := h
        refine g_new X hw (ty := fun _ => .int) (T := T0) (N := 0) (fun _ h => by cases h) (fun k h => absurd h (Nat.not_lt_zero k)) (ci := 11) rfl (fun k h => absurd h (Nat.not_lt_zero k)) q410 q411 q138 (by show _ ≤ MC; omega) (by show _ ≤ MS; omega) dX1_spoken_98 (fun q_22 H hq_23 hw => ?_)
        have h := h q_22 hq_23
        have hk_26 : kd (mkC u q_22 12 0) q_22 = 12 := hu1_eq
        refine lv_dup hx hb dX1_spoken_101 rfl ?_
        refine g_callvo hw (g_IN X hw (mX14_init l G _ _ _ h) 0 q414 q138 (List.mem_of_getElem? (i := 6) rfl) q413 rfl rfl rfl ydX14_init ⟨Nat.le_of_ble_eq_true rfl, Nat.le_of_ble_eq_true rfl⟩ (As := []) (rest := [.ref q_22]) rfl hl.1 rfl (Nat.le_of_ble_eq_true rfl) dX1_spoken_102 ⟨(by show _ ≤ MC; omega), (by show _ ≤ MS; omega)⟩) (fun  H locs h hw => ?_)
        refine lv_goto (tgt := 132) hx hb dX1_spoken_105 rfl ?_
        exact wX1_spoken_132 X hr (by omega) (by omega) h hw (lv_sub hl [1, 2, 3, 0] rfl)
    · have h := h.1 c_33
      obtain ⟨hm_30, hm_31, h⟩ := h
      refine g_new X hw (ty := fun _ => .int) (T := T0) (N := 0) (fun _ h => by cases h) (fun k h => absurd h (Nat.not_lt_zero k)) (ci := 10) rfl (fun k h => absurd h (Nat.not_lt_zero k)) q403 q404 q137 (by show _ ≤ MC; omega) (by show _ ≤ MS; omega) dX1_spoken_81 (fun q_28 H hq_29 hw => ?_)
      have h := h q_28 hq_29
      have hk_32 : kd (mkC u q_28 11 0) q_28 = 11 := hu1_eq
      refine lv_dup hx hb dX1_spoken_84 rfl ?_
      refine g_callvo hw (g_IN X hw (mX13_init l G _ _ _ h) 0 q407 q137 (List.mem_of_getElem? (i := 5) rfl) q406 rfl rfl rfl ydX13_init ⟨Nat.le_of_ble_eq_true rfl, Nat.le_of_ble_eq_true rfl⟩ (As := []) (rest := [.ref q_28]) rfl hl.1 rfl (Nat.le_of_ble_eq_true rfl) dX1_spoken_85 ⟨(by show _ ≤ MC; omega), (by show _ ≤ MS; omega)⟩) (fun  H locs h hw => ?_)
      refine lv_goto (tgt := 132) hx hb dX1_spoken_88 rfl ?_
      exact wX1_spoken_132 X hr (by omega) (by omega) h hw (lv_sub hl [1, 2, 3, 0] rfl)
  · have h := h.1 c_39
    obtain ⟨hm_36, hm_37, h⟩ := h
    refine g_new X hw (ty := fun _ => .int) (T := T0) (N := 0) (fun _ h => by cases h) (fun k h => absurd h (Nat.not_lt_zero k)) (ci := 9) rfl (fun k h => absurd h (Nat.not_lt_zero k)) q393 q394 q136 (by show _ ≤ MC; omega) (by show _ ≤ MS; omega) dX1_spoken_64 (fun q_34 H hq_35 hw => ?_)
    have h := h q_34 hq_35
    have hk_38 : kd (mkC u q_34 10 0) q_34 = 10 := hu1_eq
    refine lv_dup hx hb dX1_spoken_67 rfl ?_
    refine g_callvo hw (g_IN X hw (mX12_init l G _ _ _ h) 0 q397 q136 (List.mem_of_getElem? (i := 4) rfl) q396 rfl rfl rfl ydX12_init ⟨Nat.le_of_ble_eq_true rfl, Nat.le_of_ble_eq_true rfl⟩ (As := []) (rest := [.ref q_34]) rfl hl.1 rfl (Nat.le_of_ble_eq_true rfl) dX1_spoken_68 ⟨(by show _ ≤ MC; omega), (by show _ ≤ MS; omega)⟩) (fun  H locs h hw => ?_)
    refine lv_goto (tgt := 132) hx hb dX1_spoken_71 rfl ?_
    exact wX1_spoken_132 X hr (by omega) (by omega) h hw (lv_sub hl [1, 2, 3, 0] rfl)
set_option maxHeartbeats 4000000 in
theorem mX1_spoken (l : Launch) (G : GT) (u : Hp) (a0 : Nat) (x1 : Int32) (x2 : Int32) (MC MS : Nat) (K : Option Nat → Hp → Prop) (h : pX1_spoken u a0 x1 x2 MC MS K) : Met l yX1_spoken (ws_ yX1_spoken cX1_spoken 5 (some (.object "FifthCard$Rule"))) (rmX1_spoken MC MS) (va_Pc [.ref a0, .int x1, .int x2] (GB G u)) (va_Qq K (fun u t => GH G u t.heap) (GA G)) MC MS (GA G) := by
  refine Met.ofW (cc := cX1_spoken) (maxL := 5) (ret := (some (.object "FifthCard$Rule"))) (by decide) rfl ?_
  intro p e s m args below meth c s₁ B hml hv
  obtain ⟨rfl, hv⟩ := hv
  have X := Mc_of (own := RX1) B hml rfl hv
  have hw : GW G u s s.heap [] := ⟨hv.2.1, va_S.rf⟩
  have hr := B.returns
  obtain ⟨hx, hb, hml, hown, hts, -⟩ := id X
  have hl := lv_entry ([.ref a0, .int x1, .int x2]) (n := 5) (Nat.le_of_ble_eq_true rfl)
  rw [lg_entry_eq]
  generalize (lg_sl ([.ref a0, .int x1, .int x2]) ++ List.replicate (5 - (lg_sl ([.ref a0, .int x1, .int x2])).length) Slot.unset).toArray = ls at hl ⊢
  have hl : lv_has ls 5 [(0, .ref a0), (1, .int x1), (2, .int x2)] := hl
  change W p l e (rmX1_spoken MC MS) s m _ below meth c s.heap [] 0 0 (QR G below K _ s MC MS) (F0 m 0 ls [])
  unfold pX1_spoken at h
  have hc1 : 0 + MC ≤ MC := by omega
  have hc2 : 0 + MS ≤ MS := by omega
  refine lv_iload_n hx hb dX1_spoken_0 rfl (lv_at hl 2 rfl) ?_
  refine lv_iconst (v := 5) hx hb dX1_spoken_1 (by decide) ?_
  refine lv_idiv hx hb dX1_spoken_2 (by decide) ?_
  refine lv_if_ne (tgt := 16) hx hb dX1_spoken_3 rfl (fun c_62 => ?_) (fun c_62 => ?_)
  · have h := h.2 c_62
    refine lv_iload_n hx hb dX1_spoken_16 rfl (lv_at hl 2 rfl) ?_
    refine lv_iconst (v := 5) hx hb dX1_spoken_17 (by decide) ?_
    refine lv_idiv hx hb dX1_spoken_18 (by decide) ?_
    refine lv_iconst (v := 1) hx hb dX1_spoken_19 (by decide) ?_
    refine lv_icmp_ne (tgt := 33) hx hb dX1_spoken_20 rfl (fun c_56 => ?_) (fun c_56 => ?_)
    · have h := h.2 c_56
      refine lv_iload_n hx hb dX1_spoken_33 rfl (lv_at hl 2 rfl) ?_
      refine lv_iconst (v := 5) hx hb dX1_spoken_34 (by decide) ?_
      refine lv_idiv hx hb dX1_spoken_35 (by decide) ?_
      refine lv_iconst (v := 2) hx hb dX1_spoken_36 (by decide) ?_
      refine lv_icmp_ne (tgt := 50) hx hb dX1_spoken_37 rfl (fun c_50 => ?_) (fun c_50 => ?_)
      · have h := h.2 c_50
        obtain ⟨hm_42, hm_43, h⟩ := h
        refine g_new X hw (ty := fun _ => .int) (T := T0) (N := 0) (fun _ h => by cases h) (fun k h => absurd h (Nat.not_lt_zero k)) (ci := 8) rfl (fun k h => absurd h (Nat.not_lt_zero k)) q386 q387 q134 (by show _ ≤ MC; omega) (by show _ ≤ MS; omega) dX1_spoken_50 (fun q_40 H hq_41 hw => ?_)
        have h := h q_40 hq_41
        have hk_44 : kd (mkC u q_40 9 0) q_40 = 9 := hu1_eq
        refine lv_dup hx hb dX1_spoken_53 rfl ?_
        refine g_callvo hw (g_IN X hw (mX10_init l G _ _ _ h) 0 q390 q134 (List.mem_of_getElem? (i := 3) rfl) q389 rfl rfl rfl ydX10_init ⟨Nat.le_of_ble_eq_true rfl, Nat.le_of_ble_eq_true rfl⟩ (As := []) (rest := [.ref q_40]) rfl hl.1 rfl (Nat.le_of_ble_eq_true rfl) dX1_spoken_54 ⟨(by show _ ≤ MC; omega), (by show _ ≤ MS; omega)⟩) (fun  H locs h hw => ?_)
        exact wX1_spoken_57 X hr (by omega) (by omega) h hw (lv_sub hl [0, 1, 2] rfl)
      · have h := h.1 c_50
        obtain ⟨hm_47, hm_48, h⟩ := h
        refine g_new X hw (ty := fun _ => .int) (T := T0) (N := 0) (fun _ h => by cases h) (fun k h => absurd h (Nat.not_lt_zero k)) (ci := 7) rfl (fun k h => absurd h (Nat.not_lt_zero k)) q379 q380 q133 (by show _ ≤ MC; omega) (by show _ ≤ MS; omega) dX1_spoken_40 (fun q_45 H hq_46 hw => ?_)
        have h := h q_45 hq_46
        have hk_49 : kd (mkC u q_45 8 0) q_45 = 8 := hu1_eq
        refine lv_dup hx hb dX1_spoken_43 rfl ?_
        refine g_callvo hw (g_IN X hw (mX9_init l G _ _ _ h) 0 q383 q133 (List.mem_of_getElem? (i := 2) rfl) q382 rfl rfl rfl ydX9_init ⟨Nat.le_of_ble_eq_true rfl, Nat.le_of_ble_eq_true rfl⟩ (As := []) (rest := [.ref q_45]) rfl hl.1 rfl (Nat.le_of_ble_eq_true rfl) dX1_spoken_44 ⟨(by show _ ≤ MC; omega), (by show _ ≤ MS; omega)⟩) (fun  H locs h hw => ?_)
        refine lv_goto (tgt := 57) hx hb dX1_spoken_47 rfl ?_
        exact wX1_spoken_57 X hr (by omega) (by omega) h hw (lv_sub hl [0, 1, 2] rfl)
    · have h := h.1 c_56
      obtain ⟨hm_53, hm_54, h⟩ := h
      refine g_new X hw (ty := fun _ => .int) (T := T0) (N := 0) (fun _ h => by cases h) (fun k h => absurd h (Nat.not_lt_zero k)) (ci := 6) rfl (fun k h => absurd h (Nat.not_lt_zero k)) q372 q373 q132 (by show _ ≤ MC; omega) (by show _ ≤ MS; omega) dX1_spoken_23 (fun q_51 H hq_52 hw => ?_)
      have h := h q_51 hq_52
      have hk_55 : kd (mkC u q_51 7 0) q_51 = 7 := hu1_eq
      refine lv_dup hx hb dX1_spoken_26 rfl ?_
      refine g_callvo hw (g_IN X hw (mX8_init l G _ _ _ h) 0 q376 q132 (List.mem_of_getElem? (i := 1) rfl) q375 rfl rfl rfl ydX8_init ⟨Nat.le_of_ble_eq_true rfl, Nat.le_of_ble_eq_true rfl⟩ (As := []) (rest := [.ref q_51]) rfl hl.1 rfl (Nat.le_of_ble_eq_true rfl) dX1_spoken_27 ⟨(by show _ ≤ MC; omega), (by show _ ≤ MS; omega)⟩) (fun  H locs h hw => ?_)
      refine lv_goto (tgt := 57) hx hb dX1_spoken_30 rfl ?_
      exact wX1_spoken_57 X hr (by omega) (by omega) h hw (lv_sub hl [0, 1, 2] rfl)
  · have h := h.1 c_62
    obtain ⟨hm_59, hm_60, h⟩ := h
    refine g_new X hw (ty := fun _ => .int) (T := T0) (N := 0) (fun _ h => by cases h) (fun k h => absurd h (Nat.not_lt_zero k)) (ci := 5) rfl (fun k h => absurd h (Nat.not_lt_zero k)) q362 q363 q131 (by show _ ≤ MC; omega) (by show _ ≤ MS; omega) dX1_spoken_6 (fun q_57 H hq_58 hw => ?_)
    have h := h q_57 hq_58
    have hk_61 : kd (mkC u q_57 6 0) q_57 = 6 := hu1_eq
    refine lv_dup hx hb dX1_spoken_9 rfl ?_
    refine g_callvo hw (g_IN X hw (mX7_init l G _ _ _ h) 0 q366 q131 (List.mem_of_getElem? (i := 0) rfl) q365 rfl rfl rfl ydX7_init ⟨Nat.le_of_ble_eq_true rfl, Nat.le_of_ble_eq_true rfl⟩ (As := []) (rest := [.ref q_57]) rfl hl.1 rfl (Nat.le_of_ble_eq_true rfl) dX1_spoken_10 ⟨(by show _ ≤ MC; omega), (by show _ ≤ MS; omega)⟩) (fun  H locs h hw => ?_)
    refine lv_goto (tgt := 57) hx hb dX1_spoken_13 rfl ?_
    exact wX1_spoken_57 X hr (by omega) (by omega) h hw (lv_sub hl [0, 1, 2] rfl)

/-! FifthCard.<init>()V -/
theorem ydX1_init : yX1_init.cls = "FifthCard" ∧ yX1_init.cls ≠ "java/lang/invoke/MethodHandle" ∧ yX1_init.cls ≠ "java/lang/invoke/VarHandle" ∧ (parseMethodDescriptor yX1_init.desc).map (fun d => d.parameters.length) = some 0 := by decide +kernel
def rmX1_init (mc ms : Nat) : Room := { frames := 6, cells := mc, slots := ms, locals := 133 }
set_option maxHeartbeats 4000000 in
theorem wX1_init_121 {G : GT} {p : Program} {l : Launch} {e : Env} {s : State} {m : MethodId} {args : Array Value} {below : List Frame} {meth : Method} {c : Code} {H : Heap} {locs : List Loc} {ls : Array Slot} {cells slots : Nat} {MC MS : Nat} {a0 : Nat} {x1 : Int32} {u : Hp} {mc : Nat} {ms : Nat} {K : Hp → Prop} (X : Mc G p s m args meth c RX1 cX1_init 2) (hr : meth.sig.returnType = none) (hin : meth.name = "<init>") (hc1 : cells + mc ≤ MC) (hc2 : slots + ms ≤ MS) (h : jl4 (bX1_init_121 K (Glit G) a0) x1 u mc ms) (hw : GW G u s H locs) (hl : lv_has ls 2 [(0, .ref a0), (1, .int x1)]) : W p l e (rmX1_init MC MS) s m args below meth c H locs cells slots (QV G below K args s MC MS) (F0 m 121 ls []) := by
  obtain ⟨hx, hb, hml, hown, hts, -⟩ := id X
  obtain ⟨I, μ, h0, hs⟩ := h
  have key : ∀ (n : Nat) (x1 : Int32) (u : Hp) (mc : Nat) (ms : Nat) (H : Heap) (locs : List Loc) (ls : Array Slot) (cells slots : Nat) , cells + mc ≤ MC → slots + ms ≤ MS → μ x1 u mc ms < n → I x1 u mc ms → GW G u s H locs → lv_has ls 2 [(0, .ref a0), (1, .int x1)] → W p l e (rmX1_init MC MS) s m args below meth c H locs cells slots (QV G below K args s MC MS) (F0 m 121 ls []) := by
    intro n
    induction n with
    | zero =>
      intro x1 u mc ms H locs ls cells slots hc1 hc2 hn
      exact absurd hn (Nat.not_lt_zero _)
    | succ n ih =>
      intro x1 u mc ms H locs ls cells slots hc1 hc2 hn hI hw hl
      have h := hs x1 u mc ms hI
      unfold bX1_init_121 at h
      have hJ121 : ∀ (x1' : Int32) (u' : Hp) (mc' : Nat) (ms' : Nat) (H : Heap) (locs : List Loc) (ls : Array Slot) (cells slots : Nat) , cells + mc' ≤ MC → slots + ms' ≤ MS → (I x1' u' mc' ms' ∧ μ x1' u' mc' ms' < μ x1 u mc ms) → GW G u' s H locs → lv_has ls 2 [(0, .ref a0), (1, .int x1')] → W p l e (rmX1_init MC MS) s m args below meth c H locs cells slots (QV G below K args s MC MS) (F0 m 121 ls []) := fun x1' u' mc' ms' H locs ls cells slots g1 g2 h hw hl => ih x1' u' mc' ms' H locs ls cells slots g1 g2 (Nat.lt_of_lt_of_le h.2 (Nat.le_of_lt_succ hn)) h.1 hw hl
      refine lv_iload_n hx hb dX1_init_121 rfl (lv_at hl 1 rfl) ?_
      refine lv_bipush (v := 20) hx hb dX1_init_122 (by decide) ?_
      refine lv_icmp_ge (tgt := 146) hx hb dX1_init_124 rfl (fun c_15 => ?_) (fun c_15 => ?_)
      · have h := h.1 c_15
        exact g_vret X hw hr h (by omega) (by omega) dX1_init_146
      · have h := h.2 c_15
        refine lv_aload_n hx hb dX1_init_127 rfl (lv_at hl 0 rfl) ?_
        have hk_1 : kd u a0 = 1 := h.1
        have h := h.2
        obtain ⟨b_2, e_3, h⟩ := h
        refine g_getR X hw in_X1 hk_1 rfl 10 rfl (by decide) q483 (fun _ z => z) e_3 dX1_init_128 ?_
        refine lv_iload_n hx hb dX1_init_131 rfl (lv_at hl 1 rfl) ?_
        refine va_ldcS (tx := "") hx hb hown (X.2.2.2.2.2.2.1.2.2.2.2.2.2.1 0 ("FifthCard", 104, "") rfl) dX1_init_132 ?_
        refine lv_iload_n hx hb dX1_init_134 rfl (lv_at hl 1 rfl) ?_
        refine lv_iload_n hx hb dX1_init_135 rfl (lv_at hl 1 rfl) ?_
        obtain ⟨q_4, q_5, hq_6, hq_7, h⟩ := h
        refine g_callr hw (g_S X hw (mX1_spoken l G _ _ _ _ _ _ _ h) 3 (lw_S q359 q360 q122 q361) rfl rfl ydX1_spoken ⟨Nat.le_of_ble_eq_true rfl, Nat.le_of_ble_eq_true rfl⟩ (As := [.ref (Glit G 0), .int x1, .int x1]) (rest := [.int x1, .ref b_2]) rfl hl.1 rfl (Nat.le_of_ble_eq_true rfl) dX1_init_136 ⟨(by show _ ≤ MC; omega), (by show _ ≤ MS; omega)⟩) (fun o_8 u_9 H locs h hw => ?_)
        obtain ⟨b_10, e_11, h⟩ := h
        rw [e_11]
        show W _ _ _ _ _ _ _ _ _ _ _ _ _ _ _ (F0 _ _ _ (.ref _ :: _))
        have hk_12 : kd u_9 b_2 = 106 := h.1
        have h := h.2
        have hk_14 : isRu (kd u_9 b_10) := h.1
        have h := h.2
        have hi_13 := h.1
        have h := h.2
        refine g_aastRu X hw hk_12 hi_13 hk_14 dX1_init_139 (fun H locs hw => ?_)
        refine lv_iinc (v := x1 + 1) (lv' := [(1, .int (x1 + 1)), (0, .ref a0)]) hx hb dX1_init_140 hl (k := 1) rfl rfl (by decide) rfl (fun ls hl => ?_)
        refine lv_goto (tgt := 121) hx hb dX1_init_143 rfl ?_
        exact hJ121 _ _ _ _ _ _ _ _ _ (by omega) (by omega) h hw (lv_sub hl [1, 0] rfl)
  exact key _ _ _ _ _ _ _ _ _ _ hc1 hc2 (Nat.lt_succ_self _) h0 hw hl
set_option maxHeartbeats 4000000 in
theorem wX1_init_95 {G : GT} {p : Program} {l : Launch} {e : Env} {s : State} {m : MethodId} {args : Array Value} {below : List Frame} {meth : Method} {c : Code} {H : Heap} {locs : List Loc} {ls : Array Slot} {cells slots : Nat} {MC MS : Nat} {a0 : Nat} {x1 : Int32} {u : Hp} {mc : Nat} {ms : Nat} {K : Hp → Prop} (X : Mc G p s m args meth c RX1 cX1_init 2) (hr : meth.sig.returnType = none) (hin : meth.name = "<init>") (hc1 : cells + mc ≤ MC) (hc2 : slots + ms ≤ MS) (h : jl4 (bX1_init_95 K (Glit G) a0) x1 u mc ms) (hw : GW G u s H locs) (hl : lv_has ls 2 [(0, .ref a0), (1, .int x1)]) : W p l e (rmX1_init MC MS) s m args below meth c H locs cells slots (QV G below K args s MC MS) (F0 m 95 ls []) := by
  obtain ⟨hx, hb, hml, hown, hts, -⟩ := id X
  obtain ⟨I, μ, h0, hs⟩ := h
  have key : ∀ (n : Nat) (x1 : Int32) (u : Hp) (mc : Nat) (ms : Nat) (H : Heap) (locs : List Loc) (ls : Array Slot) (cells slots : Nat) , cells + mc ≤ MC → slots + ms ≤ MS → μ x1 u mc ms < n → I x1 u mc ms → GW G u s H locs → lv_has ls 2 [(0, .ref a0), (1, .int x1)] → W p l e (rmX1_init MC MS) s m args below meth c H locs cells slots (QV G below K args s MC MS) (F0 m 95 ls []) := by
    intro n
    induction n with
    | zero =>
      intro x1 u mc ms H locs ls cells slots hc1 hc2 hn
      exact absurd hn (Nat.not_lt_zero _)
    | succ n ih =>
      intro x1 u mc ms H locs ls cells slots hc1 hc2 hn hI hw hl
      have h := hs x1 u mc ms hI
      unfold bX1_init_95 at h
      have hJ95 : ∀ (x1' : Int32) (u' : Hp) (mc' : Nat) (ms' : Nat) (H : Heap) (locs : List Loc) (ls : Array Slot) (cells slots : Nat) , cells + mc' ≤ MC → slots + ms' ≤ MS → (I x1' u' mc' ms' ∧ μ x1' u' mc' ms' < μ x1 u mc ms) → GW G u' s H locs → lv_has ls 2 [(0, .ref a0), (1, .int x1')] → W p l e (rmX1_init MC MS) s m args below meth c H locs cells slots (QV G below K args s MC MS) (F0 m 95 ls []) := fun x1' u' mc' ms' H locs ls cells slots g1 g2 h hw hl => ih x1' u' mc' ms' H locs ls cells slots g1 g2 (Nat.lt_of_lt_of_le h.2 (Nat.le_of_lt_succ hn)) h.1 hw hl
      refine lv_iload_n hx hb dX1_init_95 rfl (lv_at hl 1 rfl) ?_
      refine lv_iconst (v := 3) hx hb dX1_init_96 (by decide) ?_
      refine lv_icmp_ge (tgt := 119) hx hb dX1_init_97 rfl (fun c_33 => ?_) (fun c_33 => ?_)
      · have h := h.1 c_33
        refine lv_iconst (v := 0) hx hb dX1_init_119 (by decide) ?_
        refine lv_istore_n (lv' := [(1, .int 0), (0, .ref a0)]) hx hb dX1_init_120 rfl hl (by decide) rfl (fun ls hl => ?_)
        exact wX1_init_121 X hr hin (by omega) (by omega) h hw (lv_sub hl [1, 0] rfl)
      · have h := h.2 c_33
        refine lv_aload_n hx hb dX1_init_100 rfl (lv_at hl 0 rfl) ?_
        have hk_16 : kd u a0 = 1 := h.1
        have h := h.2
        obtain ⟨b_17, e_18, h⟩ := h
        refine g_getR X hw in_X1 hk_16 rfl 12 rfl (by decide) q485 (fun _ z => z) e_18 dX1_init_101 ?_
        refine lv_iload_n hx hb dX1_init_104 rfl (lv_at hl 1 rfl) ?_
        obtain ⟨hm_21, hm_22, h⟩ := h
        refine g_new X hw (T := TX5) (N := 4) in_X5 tyX5_ok (ci := 4) rfl df_X5 q334 q335 q129 (by show _ ≤ MC; omega) (by show _ ≤ MS; omega) dX1_init_105 (fun q_19 H hq_20 hw => ?_)
        have h := h q_19 hq_20
        have hk_23 : kd (mkC u q_19 5 0) a0 = 1 := kd_mkC hk_16 hq_20 (by decide)
        have hk_24 : kd (mkC u q_19 5 0) q_19 = 5 := hu1_eq
        refine lv_dup hx hb dX1_init_108 rfl ?_
        obtain ⟨q_25, q_26, hq_27, hq_28, h⟩ := h
        refine g_callv hw (g_IN X hw (mX5_init l G _ _ _ _ _ h) 0 q338 q129 (List.mem_of_getElem? (i := 10) rfl) q337 rfl rfl rfl ydX5_init ⟨Nat.le_of_ble_eq_true rfl, Nat.le_of_ble_eq_true rfl⟩ (As := []) (rest := [.ref q_19, .int x1, .ref b_17]) rfl hl.1 rfl (Nat.le_of_ble_eq_true rfl) dX1_init_109 ⟨(by show _ ≤ MC; omega), (by show _ ≤ MS; omega)⟩) (fun u_29 H locs h hw => ?_)
        have hk_30 : kd u_29 b_17 = 107 := h.1
        have h := h.2
        have hk_32 : kd u_29 q_19 = 5 := h.1
        have h := h.2
        have hi_31 := h.1
        have h := h.2
        refine g_aast X hw (Or.inr hk_30) hi_31 (ci := 4) hk_32 rfl (Or.inl ⟨rfl, hk_30⟩) dX1_init_112 (fun H locs hw => ?_)
        refine lv_iinc (v := x1 + 1) (lv' := [(1, .int (x1 + 1)), (0, .ref a0)]) hx hb dX1_init_113 hl (k := 1) rfl rfl (by decide) rfl (fun ls hl => ?_)
        refine lv_goto (tgt := 95) hx hb dX1_init_116 rfl ?_
        exact hJ95 _ _ _ _ _ _ _ _ _ (by omega) (by omega) h hw (lv_sub hl [1, 0] rfl)
  exact key _ _ _ _ _ _ _ _ _ _ hc1 hc2 (Nat.lt_succ_self _) h0 hw hl
set_option maxHeartbeats 4000000 in
theorem mX1_init (l : Launch) (G : GT) (u : Hp) (a0 : Nat) (MC MS : Nat) (K : Hp → Prop) (h : pX1_init (Glit G) u a0 MC MS K) : Met l yX1_init (ws_ yX1_init cX1_init 2 none) (rmX1_init MC MS) (va_Pc [.ref a0] (GB G u)) (va_Qv K (fun u t => GH G u t.heap) (GA G)) MC MS (GA G) := by
  refine Met.ofW (cc := cX1_init) (maxL := 2) (ret := none) (by decide) rfl ?_
  intro p e s m args below meth c s₁ B hml hv
  obtain ⟨rfl, hv⟩ := hv
  have X := Mc_of (own := RX1) B hml rfl hv
  have hw : GW G u s s.heap [] := ⟨hv.2.1, va_S.rf⟩
  have hr := B.returns
  have hin : meth.name = "<init>" := (name_of_methodNamed B.named B.method).1
  obtain ⟨hx, hb, hml, hown, hts, -⟩ := id X
  have hl := lv_entry ([.ref a0]) (n := 2) (Nat.le_of_ble_eq_true rfl)
  rw [lg_entry_eq]
  generalize (lg_sl ([.ref a0]) ++ List.replicate (2 - (lg_sl ([.ref a0])).length) Slot.unset).toArray = ls at hl ⊢
  have hl : lv_has ls 2 [(0, .ref a0)] := hl
  change W p l e (rmX1_init MC MS) s m _ below meth c s.heap [] 0 0 (QV G below K _ s MC MS) (F0 m 0 ls [])
  unfold pX1_init at h
  have hc1 : 0 + MC ≤ MC := by omega
  have hc2 : 0 + MS ≤ MS := by omega
  refine lv_aload_n hx hb dX1_init_0 rfl (lv_at hl 0 rfl) ?_
  refine W.objInit hx hb hown (hts _ q161) (hts _ q162) (hts _ q163) rfl (by rw [hml]; exact hl.1) rfl dX1_init_1 (Nat.le_of_ble_eq_true rfl) (Nat.le_of_ble_eq_true rfl) ?_
  refine lv_aload_n hx hb dX1_init_4 rfl (lv_at hl 0 rfl) ?_
  refine lv_sipush (v := 900) hx hb dX1_init_5 (by decide) ?_
  obtain ⟨hm_36, hm_37, h⟩ := h
  refine g_newB X hw q243 (N' := 900) (by decide) (by decide) (by decide) (by show _ ≤ MC; omega) (by show _ ≤ MS; omega) dX1_init_8 (fun q_34 H hq_35 hw => ?_)
  have h := h q_34 hq_35
  have hk_38 : kd (mkC u q_34 102 900) q_34 = 102 := hu1_eq
  have hk_39 : kd (mkC u q_34 102 900) a0 = 1 := h.1
  have h := h.2
  refine g_putFO (v := (some q_34)) X hin hw in_X1 tyX1_ok nmX1 hk_39 rfl 0 rfl (by decide) q473 (fun _ z => z) rfl rfl rfl rfl dX1_init_10 (fun H locs hw => ?_)
  refine lv_aload_n hx hb dX1_init_13 rfl (lv_at hl 0 rfl) ?_
  obtain ⟨hm_42, hm_43, h⟩ := h
  refine g_new X hw (T := TX2) (N := 11) in_X2 tyX2_ok (ci := 1) rfl df_X2 q164 q165 q123 (by show _ ≤ MC; omega) (by show _ ≤ MS; omega) dX1_init_14 (fun q_40 H hq_41 hw => ?_)
  have h := h q_40 hq_41
  have hk_44 : kd (mkC (sFR (mkC u q_34 102 900) 100 a0 (some q_34)) q_40 2 0) q_34 = 102 := kd_mkC hk_38 hq_41 (by decide)
  have hk_45 : kd (mkC (sFR (mkC u q_34 102 900) 100 a0 (some q_34)) q_40 2 0) a0 = 1 := kd_mkC hk_39 hq_41 (by decide)
  have hk_46 : kd (mkC (sFR (mkC u q_34 102 900) 100 a0 (some q_34)) q_40 2 0) q_40 = 2 := hu1_eq
  refine lv_dup hx hb dX1_init_17 rfl ?_
  refine lv_aload_n hx hb dX1_init_18 rfl (lv_at hl 0 rfl) ?_
  obtain ⟨b_47, e_48, h⟩ := h
  refine g_getR X hw in_X1 hk_45 rfl 0 rfl (by decide) q473 (fun _ z => z) e_48 dX1_init_19 ?_
  obtain ⟨q_49, q_50, hq_51, hq_52, h⟩ := h
  refine g_callv hw (g_I X hw (mX2_init l G _ _ _ _ _ _ h) 1 q168 q123 q166 q167 rfl rfl rfl ydX2_init ⟨Nat.le_of_ble_eq_true rfl, Nat.le_of_ble_eq_true rfl⟩ (As := [.ref b_47]) (rest := [.ref q_40, .ref a0]) rfl hl.1 rfl (Nat.le_of_ble_eq_true rfl) dX1_init_22 ⟨(by show _ ≤ MC; omega), (by show _ ≤ MS; omega)⟩) (fun u_53 H locs h hw => ?_)
  have hk_54 : kd u_53 a0 = 1 := h.1
  have h := h.2
  refine g_putFO (v := (some q_40)) X hin hw in_X1 tyX1_ok nmX1 hk_54 rfl 2 rfl (by decide) q475 (fun _ z => z) rfl rfl rfl rfl dX1_init_25 (fun H locs hw => ?_)
  refine lv_aload_n hx hb dX1_init_28 rfl (lv_at hl 0 rfl) ?_
  refine lv_iconst (v := (-1)) hx hb dX1_init_29 (by decide) ?_
  refine g_putI (v := (-1)) X hw in_X1 tyX1_ok nmX1 hk_54 rfl 6 rfl (by decide) q479 (fun _ z => z) rfl rfl rfl dX1_init_30 (fun H locs hw => ?_)
  refine lv_aload_n hx hb dX1_init_33 rfl (lv_at hl 0 rfl) ?_
  obtain ⟨hm_57, hm_58, h⟩ := h
  refine g_new X hw (T := TX4) (N := 14) in_X4 tyX4_ok (ci := 3) rfl df_X4 q280 q281 q128 (by show _ ≤ MC; omega) (by show _ ≤ MS; omega) dX1_init_34 (fun q_55 H hq_56 hw => ?_)
  have h := h q_55 hq_56
  have hk_59 : kd (mkC (sFI (sFR u_53 102 a0 (some q_40)) 106 a0 (-1)) q_55 4 0) a0 = 1 := kd_mkC hk_54 hq_56 (by decide)
  have hk_60 : kd (mkC (sFI (sFR u_53 102 a0 (some q_40)) 106 a0 (-1)) q_55 4 0) q_55 = 4 := hu1_eq
  refine lv_dup hx hb dX1_init_37 rfl ?_
  obtain ⟨q_61, q_62, hq_63, hq_64, h⟩ := h
  refine g_callv hw (g_IN X hw (mX4_init l G _ _ _ _ _ h) 0 q284 q128 (List.mem_of_getElem? (i := 9) rfl) q283 rfl rfl rfl ydX4_init ⟨Nat.le_of_ble_eq_true rfl, Nat.le_of_ble_eq_true rfl⟩ (As := []) (rest := [.ref q_55, .ref a0]) rfl hl.1 rfl (Nat.le_of_ble_eq_true rfl) dX1_init_38 ⟨(by show _ ≤ MC; omega), (by show _ ≤ MS; omega)⟩) (fun u_65 H locs h hw => ?_)
  have hk_66 : kd u_65 a0 = 1 := h.1
  have h := h.2
  refine g_putFO (v := (some q_55)) X hin hw in_X1 tyX1_ok nmX1 hk_66 rfl 9 rfl (by decide) q482 (fun _ z => z) rfl rfl rfl rfl dX1_init_41 (fun H locs hw => ?_)
  refine lv_aload_n hx hb dX1_init_44 rfl (lv_at hl 0 rfl) ?_
  refine lv_bipush (v := 20) hx hb dX1_init_45 (by decide) ?_
  obtain ⟨hm_69, hm_70, h⟩ := h
  refine g_newR X hw (k := 106) (t0 := 5) rfl (by decide) q332 (X.2.2.2.2.2.2.1.2.2.2.2.2.1.1) (N' := 20) (by decide) (by decide) (by decide) (by show _ ≤ MC; omega) (by show _ ≤ MS; omega) dX1_init_47 (fun q_67 H hq_68 hw => ?_)
  have h := h q_67 hq_68
  have hk_71 : kd (mkC (sFR u_65 109 a0 (some q_55)) q_67 106 20) a0 = 1 := kd_mkC hk_66 hq_68 (by decide)
  have hk_72 : kd (mkC (sFR u_65 109 a0 (some q_55)) q_67 106 20) q_67 = 106 := hu1_eq
  refine g_putFO (v := (some q_67)) X hin hw in_X1 tyX1_ok nmX1 hk_71 rfl 10 rfl (by decide) q483 (fun _ z => z) rfl rfl rfl rfl dX1_init_50 (fun H locs hw => ?_)
  refine lv_aload_n hx hb dX1_init_53 rfl (lv_at hl 0 rfl) ?_
  obtain ⟨u_73, e_74⟩ : ∃ v : Hp, v = (sFR (mkC (sFR u_65 109 a0 (some q_55)) q_67 106 20) 110 a0 (some q_67)) := ⟨_, rfl⟩
  have h := h u_73 e_74
  have hw : GW G u_73 s H locs := by rw [e_74]; exact hw
  have hk_75 : kd u_73 a0 = 1 := by rw [e_74]; exact hk_71
  have hk_76 : kd u_73 q_67 = 106 := by rw [e_74]; exact hk_72
  obtain ⟨hm_79, hm_80, h⟩ := h
  refine g_new X hw (T := TX5) (N := 4) in_X5 tyX5_ok (ci := 4) rfl df_X5 q334 q335 q129 (by show _ ≤ MC; omega) (by show _ ≤ MS; omega) dX1_init_54 (fun q_77 H hq_78 hw => ?_)
  have h := h q_77 hq_78
  have hk_81 : kd (mkC u_73 q_77 5 0) a0 = 1 := kd_mkC hk_75 hq_78 (by decide)
  have hk_82 : kd (mkC u_73 q_77 5 0) q_67 = 106 := kd_mkC hk_76 hq_78 (by decide)
  have hk_83 : kd (mkC u_73 q_77 5 0) q_77 = 5 := hu1_eq
  refine lv_dup hx hb dX1_init_57 rfl ?_
  obtain ⟨q_84, q_85, hq_86, hq_87, h⟩ := h
  refine g_callv hw (g_IN X hw (mX5_init l G _ _ _ _ _ h) 0 q338 q129 (List.mem_of_getElem? (i := 10) rfl) q337 rfl rfl rfl ydX5_init ⟨Nat.le_of_ble_eq_true rfl, Nat.le_of_ble_eq_true rfl⟩ (As := []) (rest := [.ref q_77, .ref a0]) rfl hl.1 rfl (Nat.le_of_ble_eq_true rfl) dX1_init_58 ⟨(by show _ ≤ MC; omega), (by show _ ≤ MS; omega)⟩) (fun u_88 H locs h hw => ?_)
  have hk_89 : kd u_88 a0 = 1 := h.1
  have h := h.2
  refine g_putFO (v := (some q_77)) X hin hw in_X1 tyX1_ok nmX1 hk_89 rfl 11 rfl (by decide) q484 (fun _ z => z) rfl rfl rfl rfl dX1_init_61 (fun H locs hw => ?_)
  refine lv_aload_n hx hb dX1_init_64 rfl (lv_at hl 0 rfl) ?_
  refine lv_iconst (v := 3) hx hb dX1_init_65 (by decide) ?_
  obtain ⟨hm_92, hm_93, h⟩ := h
  refine g_newR X hw (k := 107) (t0 := 6) rfl (by decide) q334 (X.2.2.2.2.2.2.1.2.2.2.2.2.1.2.1) (N' := 3) (by decide) (by decide) (by decide) (by show _ ≤ MC; omega) (by show _ ≤ MS; omega) dX1_init_66 (fun q_90 H hq_91 hw => ?_)
  have h := h q_90 hq_91
  have hk_94 : kd (mkC (sFR u_88 111 a0 (some q_77)) q_90 107 3) a0 = 1 := kd_mkC hk_89 hq_91 (by decide)
  have hk_95 : kd (mkC (sFR u_88 111 a0 (some q_77)) q_90 107 3) q_90 = 107 := hu1_eq
  refine g_putFO (v := (some q_90)) X hin hw in_X1 tyX1_ok nmX1 hk_94 rfl 12 rfl (by decide) q485 (fun _ z => z) rfl rfl rfl rfl dX1_init_69 (fun H locs hw => ?_)
  refine lv_aload_n hx hb dX1_init_72 rfl (lv_at hl 0 rfl) ?_
  refine lv_iconst (v := 5) hx hb dX1_init_73 (by decide) ?_
  obtain ⟨u_96, e_97⟩ : ∃ v : Hp, v = (sFR (mkC (sFR u_88 111 a0 (some q_77)) q_90 107 3) 112 a0 (some q_90)) := ⟨_, rfl⟩
  have h := h u_96 e_97
  have hw : GW G u_96 s H locs := by rw [e_97]; exact hw
  have hk_98 : kd u_96 a0 = 1 := by rw [e_97]; exact hk_94
  have hk_99 : kd u_96 q_90 = 107 := by rw [e_97]; exact hk_95
  obtain ⟨hm_102, hm_103, h⟩ := h
  refine g_newI X hw q279 (N' := 5) (by decide) (by decide) (by decide) (by show _ ≤ MC; omega) (by show _ ≤ MS; omega) dX1_init_74 (fun q_100 H hq_101 hw => ?_)
  have h := h q_100 hq_101
  have hk_104 : kd (mkC u_96 q_100 101 5) a0 = 1 := kd_mkC hk_98 hq_101 (by decide)
  have hk_105 : kd (mkC u_96 q_100 101 5) q_90 = 107 := kd_mkC hk_99 hq_101 (by decide)
  have hk_106 : kd (mkC u_96 q_100 101 5) q_100 = 101 := hu1_eq
  refine g_putFO (v := (some q_100)) X hin hw in_X1 tyX1_ok nmX1 hk_104 rfl 13 rfl (by decide) q486 (fun _ z => z) rfl rfl rfl rfl dX1_init_76 (fun H locs hw => ?_)
  refine lv_aload_n hx hb dX1_init_79 rfl (lv_at hl 0 rfl) ?_
  refine lv_iconst (v := 5) hx hb dX1_init_80 (by decide) ?_
  obtain ⟨hm_109, hm_110, h⟩ := h
  refine g_newI X hw q279 (N' := 5) (by decide) (by decide) (by decide) (by show _ ≤ MC; omega) (by show _ ≤ MS; omega) dX1_init_81 (fun q_107 H hq_108 hw => ?_)
  have h := h q_107 hq_108
  have hk_111 : kd (mkC (sFR (mkC u_96 q_100 101 5) 113 a0 (some q_100)) q_107 101 5) a0 = 1 := kd_mkC hk_104 hq_108 (by decide)
  have hk_112 : kd (mkC (sFR (mkC u_96 q_100 101 5) 113 a0 (some q_100)) q_107 101 5) q_90 = 107 := kd_mkC hk_105 hq_108 (by decide)
  have hk_113 : kd (mkC (sFR (mkC u_96 q_100 101 5) 113 a0 (some q_100)) q_107 101 5) q_100 = 101 := kd_mkC hk_106 hq_108 (by decide)
  have hk_114 : kd (mkC (sFR (mkC u_96 q_100 101 5) 113 a0 (some q_100)) q_107 101 5) q_107 = 101 := hu1_eq
  obtain ⟨u_115, e_116⟩ : ∃ v : Hp, v = (mkC (sFR (mkC u_96 q_100 101 5) 113 a0 (some q_100)) q_107 101 5) := ⟨_, rfl⟩
  have h := h u_115 e_116
  have hw : GW G u_115 s H locs := by rw [e_116]; exact hw
  have hk_117 : kd u_115 a0 = 1 := by rw [e_116]; exact hk_111
  have hk_118 : kd u_115 q_90 = 107 := by rw [e_116]; exact hk_112
  have hk_119 : kd u_115 q_100 = 101 := by rw [e_116]; exact hk_113
  have hk_120 : kd u_115 q_107 = 101 := by rw [e_116]; exact hk_114
  refine g_putFO (v := (some q_107)) X hin hw in_X1 tyX1_ok nmX1 hk_117 rfl 14 rfl (by decide) q487 (fun _ z => z) rfl rfl rfl rfl dX1_init_83 (fun H locs hw => ?_)
  refine lv_aload_n hx hb dX1_init_86 rfl (lv_at hl 0 rfl) ?_
  refine lv_iconst (v := 5) hx hb dX1_init_87 (by decide) ?_
  obtain ⟨hm_123, hm_124, h⟩ := h
  refine g_newI X hw q279 (N' := 5) (by decide) (by decide) (by decide) (by show _ ≤ MC; omega) (by show _ ≤ MS; omega) dX1_init_88 (fun q_121 H hq_122 hw => ?_)
  have h := h q_121 hq_122
  have hk_125 : kd (mkC (sFR u_115 114 a0 (some q_107)) q_121 101 5) a0 = 1 := kd_mkC hk_117 hq_122 (by decide)
  have hk_126 : kd (mkC (sFR u_115 114 a0 (some q_107)) q_121 101 5) q_90 = 107 := kd_mkC hk_118 hq_122 (by decide)
  have hk_127 : kd (mkC (sFR u_115 114 a0 (some q_107)) q_121 101 5) q_100 = 101 := kd_mkC hk_119 hq_122 (by decide)
  have hk_128 : kd (mkC (sFR u_115 114 a0 (some q_107)) q_121 101 5) q_107 = 101 := kd_mkC hk_120 hq_122 (by decide)
  have hk_129 : kd (mkC (sFR u_115 114 a0 (some q_107)) q_121 101 5) q_121 = 101 := hu1_eq
  refine g_putFO (v := (some q_121)) X hin hw in_X1 tyX1_ok nmX1 hk_125 rfl 15 rfl (by decide) q488 (fun _ z => z) rfl rfl rfl rfl dX1_init_90 (fun H locs hw => ?_)
  refine lv_iconst (v := 0) hx hb dX1_init_93 (by decide) ?_
  refine lv_istore_n (lv' := [(1, .int 0), (0, .ref a0)]) hx hb dX1_init_94 rfl hl (by decide) rfl (fun ls hl => ?_)
  exact wX1_init_95 X hr hin (by omega) (by omega) h hw (lv_sub hl [1, 0] rfl)

/-! FifthCardModel.<init>()V -/
theorem ydX19_init : yX19_init.cls = "FifthCardModel" ∧ yX19_init.cls ≠ "java/lang/invoke/MethodHandle" ∧ yX19_init.cls ≠ "java/lang/invoke/VarHandle" ∧ (parseMethodDescriptor yX19_init.desc).map (fun d => d.parameters.length) = some 0 := by decide +kernel
def rmX19_init (mc ms : Nat) : Room := { frames := 1, cells := mc, slots := ms, locals := 20 }
set_option maxHeartbeats 4000000 in
theorem mX19_init (l : Launch) (G : GT) (u : Hp) (a0 : Nat) (MC MS : Nat) (K : Hp → Prop) (h : pX19_init u a0 MC MS K) : Met l yX19_init (ws_ yX19_init cX19_init 1 none) (rmX19_init MC MS) (va_Pc [.ref a0] (GB G u)) (va_Qv K (fun u t => GH G u t.heap) (GA G)) MC MS (GA G) := by
  refine Met.ofW (cc := cX19_init) (maxL := 1) (ret := none) (by decide) rfl ?_
  intro p e s m args below meth c s₁ B hml hv
  obtain ⟨rfl, hv⟩ := hv
  have X := Mc_of (own := RX19) B hml rfl hv
  have hw : GW G u s s.heap [] := ⟨hv.2.1, va_S.rf⟩
  have hr := B.returns
  have hin : meth.name = "<init>" := (name_of_methodNamed B.named B.method).1
  obtain ⟨hx, hb, hml, hown, hts, -⟩ := id X
  have hl := lv_entry ([.ref a0]) (n := 1) (Nat.le_of_ble_eq_true rfl)
  rw [lg_entry_eq]
  generalize (lg_sl ([.ref a0]) ++ List.replicate (1 - (lg_sl ([.ref a0])).length) Slot.unset).toArray = ls at hl ⊢
  have hl : lv_has ls 1 [(0, .ref a0)] := hl
  change W p l e (rmX19_init MC MS) s m _ below meth c s.heap [] 0 0 (QV G below K _ s MC MS) (F0 m 0 ls [])
  unfold pX19_init at h
  have hc1 : 0 + MC ≤ MC := by omega
  have hc2 : 0 + MS ≤ MS := by omega
  refine lv_aload_n hx hb dX19_init_0 rfl (lv_at hl 0 rfl) ?_
  refine W.objInit hx hb hown (hts _ q1449) (hts _ q162) (hts _ q163) rfl (by rw [hml]; exact hl.1) rfl dX19_init_1 (Nat.le_of_ble_eq_true rfl) (Nat.le_of_ble_eq_true rfl) ?_
  refine lv_aload_n hx hb dX19_init_4 rfl (lv_at hl 0 rfl) ?_
  refine lv_iconst (v := (-1)) hx hb dX19_init_5 (by decide) ?_
  have hk_1 : kd u a0 = 16 := h.1
  have h := h.2
  refine g_putI (v := (-1)) X hw in_X19 tyX19_ok nmX19 hk_1 rfl 2 rfl (by decide) q1453 (fun _ z => z) rfl rfl rfl dX19_init_6 (fun H locs hw => ?_)
  refine lv_aload_n hx hb dX19_init_9 rfl (lv_at hl 0 rfl) ?_
  refine lv_sipush (v := 900) hx hb dX19_init_10 (by decide) ?_
  obtain ⟨hm_4, hm_5, h⟩ := h
  refine g_newB X hw q243 (N' := 900) (by decide) (by decide) (by decide) (by show _ ≤ MC; omega) (by show _ ≤ MS; omega) dX19_init_13 (fun q_2 H hq_3 hw => ?_)
  have h := h q_2 hq_3
  have hk_6 : kd (mkC (sFI u 1902 a0 (-1)) q_2 102 900) a0 = 16 := kd_mkC hk_1 hq_3 (by decide)
  have hk_7 : kd (mkC (sFI u 1902 a0 (-1)) q_2 102 900) q_2 = 102 := hu1_eq
  refine g_putFO (v := (some q_2)) X hin hw in_X19 tyX19_ok nmX19 hk_6 rfl 5 rfl (by decide) q1456 (fun _ z => z) rfl rfl rfl rfl dX19_init_15 (fun H locs hw => ?_)
  refine lv_aload_n hx hb dX19_init_18 rfl (lv_at hl 0 rfl) ?_
  refine lv_sipush (v := 10000) hx hb dX19_init_19 (by decide) ?_
  obtain ⟨u_8, e_9⟩ : ∃ v : Hp, v = (sFR (mkC (sFI u 1902 a0 (-1)) q_2 102 900) 1905 a0 (some q_2)) := ⟨_, rfl⟩
  have h := h u_8 e_9
  have hw : GW G u_8 s H locs := by rw [e_9]; exact hw
  have hk_10 : kd u_8 a0 = 16 := by rw [e_9]; exact hk_6
  have hk_11 : kd u_8 q_2 = 102 := by rw [e_9]; exact hk_7
  obtain ⟨hm_14, hm_15, h⟩ := h
  refine g_newB X hw q243 (N' := 10000) (by decide) (by decide) (by decide) (by show _ ≤ MC; omega) (by show _ ≤ MS; omega) dX19_init_22 (fun q_12 H hq_13 hw => ?_)
  have h := h q_12 hq_13
  have hk_16 : kd (mkC u_8 q_12 102 10000) a0 = 16 := kd_mkC hk_10 hq_13 (by decide)
  have hk_17 : kd (mkC u_8 q_12 102 10000) q_2 = 102 := kd_mkC hk_11 hq_13 (by decide)
  have hk_18 : kd (mkC u_8 q_12 102 10000) q_12 = 102 := hu1_eq
  refine g_putFO (v := (some q_12)) X hin hw in_X19 tyX19_ok nmX19 hk_16 rfl 16 rfl (by decide) q1467 (fun _ z => z) rfl rfl rfl rfl dX19_init_24 (fun H locs hw => ?_)
  refine lv_aload_n hx hb dX19_init_27 rfl (lv_at hl 0 rfl) ?_
  refine lv_iconst (v := 5) hx hb dX19_init_28 (by decide) ?_
  obtain ⟨hm_21, hm_22, h⟩ := h
  refine g_newI X hw q279 (N' := 5) (by decide) (by decide) (by decide) (by show _ ≤ MC; omega) (by show _ ≤ MS; omega) dX19_init_29 (fun q_19 H hq_20 hw => ?_)
  have h := h q_19 hq_20
  have hk_23 : kd (mkC (sFR (mkC u_8 q_12 102 10000) 1916 a0 (some q_12)) q_19 101 5) a0 = 16 := kd_mkC hk_16 hq_20 (by decide)
  have hk_24 : kd (mkC (sFR (mkC u_8 q_12 102 10000) 1916 a0 (some q_12)) q_19 101 5) q_2 = 102 := kd_mkC hk_17 hq_20 (by decide)
  have hk_25 : kd (mkC (sFR (mkC u_8 q_12 102 10000) 1916 a0 (some q_12)) q_19 101 5) q_12 = 102 := kd_mkC hk_18 hq_20 (by decide)
  have hk_26 : kd (mkC (sFR (mkC u_8 q_12 102 10000) 1916 a0 (some q_12)) q_19 101 5) q_19 = 101 := hu1_eq
  obtain ⟨u_27, e_28⟩ : ∃ v : Hp, v = (mkC (sFR (mkC u_8 q_12 102 10000) 1916 a0 (some q_12)) q_19 101 5) := ⟨_, rfl⟩
  have h := h u_27 e_28
  have hw : GW G u_27 s H locs := by rw [e_28]; exact hw
  have hk_29 : kd u_27 a0 = 16 := by rw [e_28]; exact hk_23
  have hk_30 : kd u_27 q_2 = 102 := by rw [e_28]; exact hk_24
  have hk_31 : kd u_27 q_12 = 102 := by rw [e_28]; exact hk_25
  have hk_32 : kd u_27 q_19 = 101 := by rw [e_28]; exact hk_26
  refine g_putFO (v := (some q_19)) X hin hw in_X19 tyX19_ok nmX19 hk_29 rfl 18 rfl (by decide) q1469 (fun _ z => z) rfl rfl rfl rfl dX19_init_31 (fun H locs hw => ?_)
  refine lv_aload_n hx hb dX19_init_34 rfl (lv_at hl 0 rfl) ?_
  refine lv_iconst (v := 5) hx hb dX19_init_35 (by decide) ?_
  obtain ⟨hm_35, hm_36, h⟩ := h
  refine g_newI X hw q279 (N' := 5) (by decide) (by decide) (by decide) (by show _ ≤ MC; omega) (by show _ ≤ MS; omega) dX19_init_36 (fun q_33 H hq_34 hw => ?_)
  have h := h q_33 hq_34
  have hk_37 : kd (mkC (sFR u_27 1918 a0 (some q_19)) q_33 101 5) a0 = 16 := kd_mkC hk_29 hq_34 (by decide)
  have hk_38 : kd (mkC (sFR u_27 1918 a0 (some q_19)) q_33 101 5) q_2 = 102 := kd_mkC hk_30 hq_34 (by decide)
  have hk_39 : kd (mkC (sFR u_27 1918 a0 (some q_19)) q_33 101 5) q_12 = 102 := kd_mkC hk_31 hq_34 (by decide)
  have hk_40 : kd (mkC (sFR u_27 1918 a0 (some q_19)) q_33 101 5) q_19 = 101 := kd_mkC hk_32 hq_34 (by decide)
  have hk_41 : kd (mkC (sFR u_27 1918 a0 (some q_19)) q_33 101 5) q_33 = 101 := hu1_eq
  refine g_putFO (v := (some q_33)) X hin hw in_X19 tyX19_ok nmX19 hk_37 rfl 19 rfl (by decide) q1470 (fun _ z => z) rfl rfl rfl rfl dX19_init_38 (fun H locs hw => ?_)
  refine lv_aload_n hx hb dX19_init_41 rfl (lv_at hl 0 rfl) ?_
  refine lv_iconst (v := 5) hx hb dX19_init_42 (by decide) ?_
  obtain ⟨u_42, e_43⟩ : ∃ v : Hp, v = (sFR (mkC (sFR u_27 1918 a0 (some q_19)) q_33 101 5) 1919 a0 (some q_33)) := ⟨_, rfl⟩
  have h := h u_42 e_43
  have hw : GW G u_42 s H locs := by rw [e_43]; exact hw
  have hk_44 : kd u_42 a0 = 16 := by rw [e_43]; exact hk_37
  have hk_45 : kd u_42 q_2 = 102 := by rw [e_43]; exact hk_38
  have hk_46 : kd u_42 q_12 = 102 := by rw [e_43]; exact hk_39
  have hk_47 : kd u_42 q_19 = 101 := by rw [e_43]; exact hk_40
  have hk_48 : kd u_42 q_33 = 101 := by rw [e_43]; exact hk_41
  obtain ⟨hm_51, hm_52, h⟩ := h
  refine g_newI X hw q279 (N' := 5) (by decide) (by decide) (by decide) (by show _ ≤ MC; omega) (by show _ ≤ MS; omega) dX19_init_43 (fun q_49 H hq_50 hw => ?_)
  have h := h q_49 hq_50
  have hk_53 : kd (mkC u_42 q_49 101 5) a0 = 16 := kd_mkC hk_44 hq_50 (by decide)
  have hk_54 : kd (mkC u_42 q_49 101 5) q_2 = 102 := kd_mkC hk_45 hq_50 (by decide)
  have hk_55 : kd (mkC u_42 q_49 101 5) q_12 = 102 := kd_mkC hk_46 hq_50 (by decide)
  have hk_56 : kd (mkC u_42 q_49 101 5) q_19 = 101 := kd_mkC hk_47 hq_50 (by decide)
  have hk_57 : kd (mkC u_42 q_49 101 5) q_33 = 101 := kd_mkC hk_48 hq_50 (by decide)
  have hk_58 : kd (mkC u_42 q_49 101 5) q_49 = 101 := hu1_eq
  refine g_putFO (v := (some q_49)) X hin hw in_X19 tyX19_ok nmX19 hk_53 rfl 20 rfl (by decide) q1471 (fun _ z => z) rfl rfl rfl rfl dX19_init_45 (fun H locs hw => ?_)
  refine lv_aload_n hx hb dX19_init_48 rfl (lv_at hl 0 rfl) ?_
  refine lv_sipush (v := 1920) hx hb dX19_init_49 (by decide) ?_
  obtain ⟨hm_61, hm_62, h⟩ := h
  refine g_newI X hw q279 (N' := 1920) (by decide) (by decide) (by decide) (by show _ ≤ MC; omega) (by show _ ≤ MS; omega) dX19_init_52 (fun q_59 H hq_60 hw => ?_)
  have h := h q_59 hq_60
  have hk_63 : kd (mkC (sFR (mkC u_42 q_49 101 5) 1920 a0 (some q_49)) q_59 101 1920) a0 = 16 := kd_mkC hk_53 hq_60 (by decide)
  have hk_64 : kd (mkC (sFR (mkC u_42 q_49 101 5) 1920 a0 (some q_49)) q_59 101 1920) q_2 = 102 := kd_mkC hk_54 hq_60 (by decide)
  have hk_65 : kd (mkC (sFR (mkC u_42 q_49 101 5) 1920 a0 (some q_49)) q_59 101 1920) q_12 = 102 := kd_mkC hk_55 hq_60 (by decide)
  have hk_66 : kd (mkC (sFR (mkC u_42 q_49 101 5) 1920 a0 (some q_49)) q_59 101 1920) q_19 = 101 := kd_mkC hk_56 hq_60 (by decide)
  have hk_67 : kd (mkC (sFR (mkC u_42 q_49 101 5) 1920 a0 (some q_49)) q_59 101 1920) q_33 = 101 := kd_mkC hk_57 hq_60 (by decide)
  have hk_68 : kd (mkC (sFR (mkC u_42 q_49 101 5) 1920 a0 (some q_49)) q_59 101 1920) q_49 = 101 := kd_mkC hk_58 hq_60 (by decide)
  have hk_69 : kd (mkC (sFR (mkC u_42 q_49 101 5) 1920 a0 (some q_49)) q_59 101 1920) q_59 = 101 := hu1_eq
  obtain ⟨u_70, e_71⟩ : ∃ v : Hp, v = (mkC (sFR (mkC u_42 q_49 101 5) 1920 a0 (some q_49)) q_59 101 1920) := ⟨_, rfl⟩
  have h := h u_70 e_71
  have hw : GW G u_70 s H locs := by rw [e_71]; exact hw
  have hk_72 : kd u_70 a0 = 16 := by rw [e_71]; exact hk_63
  have hk_73 : kd u_70 q_2 = 102 := by rw [e_71]; exact hk_64
  have hk_74 : kd u_70 q_12 = 102 := by rw [e_71]; exact hk_65
  have hk_75 : kd u_70 q_19 = 101 := by rw [e_71]; exact hk_66
  have hk_76 : kd u_70 q_33 = 101 := by rw [e_71]; exact hk_67
  have hk_77 : kd u_70 q_49 = 101 := by rw [e_71]; exact hk_68
  have hk_78 : kd u_70 q_59 = 101 := by rw [e_71]; exact hk_69
  refine g_putFO (v := (some q_59)) X hin hw in_X19 tyX19_ok nmX19 hk_72 rfl 21 rfl (by decide) q1472 (fun _ z => z) rfl rfl rfl rfl dX19_init_54 (fun H locs hw => ?_)
  refine lv_aload_n hx hb dX19_init_57 rfl (lv_at hl 0 rfl) ?_
  refine lv_bipush (v := 120) hx hb dX19_init_58 (by decide) ?_
  obtain ⟨hm_81, hm_82, h⟩ := h
  refine g_newI X hw q279 (N' := 120) (by decide) (by decide) (by decide) (by show _ ≤ MC; omega) (by show _ ≤ MS; omega) dX19_init_60 (fun q_79 H hq_80 hw => ?_)
  have h := h q_79 hq_80
  have hk_83 : kd (mkC (sFR u_70 1921 a0 (some q_59)) q_79 101 120) a0 = 16 := kd_mkC hk_72 hq_80 (by decide)
  have hk_84 : kd (mkC (sFR u_70 1921 a0 (some q_59)) q_79 101 120) q_2 = 102 := kd_mkC hk_73 hq_80 (by decide)
  have hk_85 : kd (mkC (sFR u_70 1921 a0 (some q_59)) q_79 101 120) q_12 = 102 := kd_mkC hk_74 hq_80 (by decide)
  have hk_86 : kd (mkC (sFR u_70 1921 a0 (some q_59)) q_79 101 120) q_19 = 101 := kd_mkC hk_75 hq_80 (by decide)
  have hk_87 : kd (mkC (sFR u_70 1921 a0 (some q_59)) q_79 101 120) q_33 = 101 := kd_mkC hk_76 hq_80 (by decide)
  have hk_88 : kd (mkC (sFR u_70 1921 a0 (some q_59)) q_79 101 120) q_49 = 101 := kd_mkC hk_77 hq_80 (by decide)
  have hk_89 : kd (mkC (sFR u_70 1921 a0 (some q_59)) q_79 101 120) q_59 = 101 := kd_mkC hk_78 hq_80 (by decide)
  have hk_90 : kd (mkC (sFR u_70 1921 a0 (some q_59)) q_79 101 120) q_79 = 101 := hu1_eq
  refine g_putFO (v := (some q_79)) X hin hw in_X19 tyX19_ok nmX19 hk_83 rfl 23 rfl (by decide) q1474 (fun _ z => z) rfl rfl rfl rfl dX19_init_62 (fun H locs hw => ?_)
  refine lv_aload_n hx hb dX19_init_65 rfl (lv_at hl 0 rfl) ?_
  refine lv_sipush (v := 2000) hx hb dX19_init_66 (by decide) ?_
  obtain ⟨u_91, e_92⟩ : ∃ v : Hp, v = (sFR (mkC (sFR u_70 1921 a0 (some q_59)) q_79 101 120) 1923 a0 (some q_79)) := ⟨_, rfl⟩
  have h := h u_91 e_92
  have hw : GW G u_91 s H locs := by rw [e_92]; exact hw
  have hk_93 : kd u_91 a0 = 16 := by rw [e_92]; exact hk_83
  have hk_94 : kd u_91 q_2 = 102 := by rw [e_92]; exact hk_84
  have hk_95 : kd u_91 q_12 = 102 := by rw [e_92]; exact hk_85
  have hk_96 : kd u_91 q_19 = 101 := by rw [e_92]; exact hk_86
  have hk_97 : kd u_91 q_33 = 101 := by rw [e_92]; exact hk_87
  have hk_98 : kd u_91 q_49 = 101 := by rw [e_92]; exact hk_88
  have hk_99 : kd u_91 q_59 = 101 := by rw [e_92]; exact hk_89
  have hk_100 : kd u_91 q_79 = 101 := by rw [e_92]; exact hk_90
  obtain ⟨hm_103, hm_104, h⟩ := h
  refine g_newI X hw q279 (N' := 2000) (by decide) (by decide) (by decide) (by show _ ≤ MC; omega) (by show _ ≤ MS; omega) dX19_init_69 (fun q_101 H hq_102 hw => ?_)
  have h := h q_101 hq_102
  have hk_105 : kd (mkC u_91 q_101 101 2000) a0 = 16 := kd_mkC hk_93 hq_102 (by decide)
  have hk_106 : kd (mkC u_91 q_101 101 2000) q_2 = 102 := kd_mkC hk_94 hq_102 (by decide)
  have hk_107 : kd (mkC u_91 q_101 101 2000) q_12 = 102 := kd_mkC hk_95 hq_102 (by decide)
  have hk_108 : kd (mkC u_91 q_101 101 2000) q_19 = 101 := kd_mkC hk_96 hq_102 (by decide)
  have hk_109 : kd (mkC u_91 q_101 101 2000) q_33 = 101 := kd_mkC hk_97 hq_102 (by decide)
  have hk_110 : kd (mkC u_91 q_101 101 2000) q_49 = 101 := kd_mkC hk_98 hq_102 (by decide)
  have hk_111 : kd (mkC u_91 q_101 101 2000) q_59 = 101 := kd_mkC hk_99 hq_102 (by decide)
  have hk_112 : kd (mkC u_91 q_101 101 2000) q_79 = 101 := kd_mkC hk_100 hq_102 (by decide)
  have hk_113 : kd (mkC u_91 q_101 101 2000) q_101 = 101 := hu1_eq
  refine g_putFO (v := (some q_101)) X hin hw in_X19 tyX19_ok nmX19 hk_105 rfl 25 rfl (by decide) q1476 (fun _ z => z) rfl rfl rfl rfl dX19_init_71 (fun H locs hw => ?_)
  refine lv_aload_n hx hb dX19_init_74 rfl (lv_at hl 0 rfl) ?_
  refine lv_iconst (v := 5) hx hb dX19_init_75 (by decide) ?_
  obtain ⟨hm_116, hm_117, h⟩ := h
  refine g_newI X hw q279 (N' := 5) (by decide) (by decide) (by decide) (by show _ ≤ MC; omega) (by show _ ≤ MS; omega) dX19_init_76 (fun q_114 H hq_115 hw => ?_)
  have h := h q_114 hq_115
  have hk_118 : kd (mkC (sFR (mkC u_91 q_101 101 2000) 1925 a0 (some q_101)) q_114 101 5) a0 = 16 := kd_mkC hk_105 hq_115 (by decide)
  have hk_119 : kd (mkC (sFR (mkC u_91 q_101 101 2000) 1925 a0 (some q_101)) q_114 101 5) q_2 = 102 := kd_mkC hk_106 hq_115 (by decide)
  have hk_120 : kd (mkC (sFR (mkC u_91 q_101 101 2000) 1925 a0 (some q_101)) q_114 101 5) q_12 = 102 := kd_mkC hk_107 hq_115 (by decide)
  have hk_121 : kd (mkC (sFR (mkC u_91 q_101 101 2000) 1925 a0 (some q_101)) q_114 101 5) q_19 = 101 := kd_mkC hk_108 hq_115 (by decide)
  have hk_122 : kd (mkC (sFR (mkC u_91 q_101 101 2000) 1925 a0 (some q_101)) q_114 101 5) q_33 = 101 := kd_mkC hk_109 hq_115 (by decide)
  have hk_123 : kd (mkC (sFR (mkC u_91 q_101 101 2000) 1925 a0 (some q_101)) q_114 101 5) q_49 = 101 := kd_mkC hk_110 hq_115 (by decide)
  have hk_124 : kd (mkC (sFR (mkC u_91 q_101 101 2000) 1925 a0 (some q_101)) q_114 101 5) q_59 = 101 := kd_mkC hk_111 hq_115 (by decide)
  have hk_125 : kd (mkC (sFR (mkC u_91 q_101 101 2000) 1925 a0 (some q_101)) q_114 101 5) q_79 = 101 := kd_mkC hk_112 hq_115 (by decide)
  have hk_126 : kd (mkC (sFR (mkC u_91 q_101 101 2000) 1925 a0 (some q_101)) q_114 101 5) q_101 = 101 := kd_mkC hk_113 hq_115 (by decide)
  have hk_127 : kd (mkC (sFR (mkC u_91 q_101 101 2000) 1925 a0 (some q_101)) q_114 101 5) q_114 = 101 := hu1_eq
  obtain ⟨u_128, e_129⟩ : ∃ v : Hp, v = (mkC (sFR (mkC u_91 q_101 101 2000) 1925 a0 (some q_101)) q_114 101 5) := ⟨_, rfl⟩
  have h := h u_128 e_129
  have hw : GW G u_128 s H locs := by rw [e_129]; exact hw
  have hk_130 : kd u_128 a0 = 16 := by rw [e_129]; exact hk_118
  have hk_131 : kd u_128 q_2 = 102 := by rw [e_129]; exact hk_119
  have hk_132 : kd u_128 q_12 = 102 := by rw [e_129]; exact hk_120
  have hk_133 : kd u_128 q_19 = 101 := by rw [e_129]; exact hk_121
  have hk_134 : kd u_128 q_33 = 101 := by rw [e_129]; exact hk_122
  have hk_135 : kd u_128 q_49 = 101 := by rw [e_129]; exact hk_123
  have hk_136 : kd u_128 q_59 = 101 := by rw [e_129]; exact hk_124
  have hk_137 : kd u_128 q_79 = 101 := by rw [e_129]; exact hk_125
  have hk_138 : kd u_128 q_101 = 101 := by rw [e_129]; exact hk_126
  have hk_139 : kd u_128 q_114 = 101 := by rw [e_129]; exact hk_127
  refine g_putFO (v := (some q_114)) X hin hw in_X19 tyX19_ok nmX19 hk_130 rfl 26 rfl (by decide) q1477 (fun _ z => z) rfl rfl rfl rfl dX19_init_78 (fun H locs hw => ?_)
  refine lv_aload_n hx hb dX19_init_81 rfl (lv_at hl 0 rfl) ?_
  refine lv_ldc hx hb hown (hts _ q1450) dX19_init_82 ?_
  obtain ⟨hm_142, hm_143, h⟩ := h
  refine g_newI X hw q279 (N' := 32768) (by decide) (by decide) (by decide) (by show _ ≤ MC; omega) (by show _ ≤ MS; omega) dX19_init_84 (fun q_140 H hq_141 hw => ?_)
  have h := h q_140 hq_141
  have hk_144 : kd (mkC (sFR u_128 1926 a0 (some q_114)) q_140 101 32768) a0 = 16 := kd_mkC hk_130 hq_141 (by decide)
  have hk_145 : kd (mkC (sFR u_128 1926 a0 (some q_114)) q_140 101 32768) q_2 = 102 := kd_mkC hk_131 hq_141 (by decide)
  have hk_146 : kd (mkC (sFR u_128 1926 a0 (some q_114)) q_140 101 32768) q_12 = 102 := kd_mkC hk_132 hq_141 (by decide)
  have hk_147 : kd (mkC (sFR u_128 1926 a0 (some q_114)) q_140 101 32768) q_19 = 101 := kd_mkC hk_133 hq_141 (by decide)
  have hk_148 : kd (mkC (sFR u_128 1926 a0 (some q_114)) q_140 101 32768) q_33 = 101 := kd_mkC hk_134 hq_141 (by decide)
  have hk_149 : kd (mkC (sFR u_128 1926 a0 (some q_114)) q_140 101 32768) q_49 = 101 := kd_mkC hk_135 hq_141 (by decide)
  have hk_150 : kd (mkC (sFR u_128 1926 a0 (some q_114)) q_140 101 32768) q_59 = 101 := kd_mkC hk_136 hq_141 (by decide)
  have hk_151 : kd (mkC (sFR u_128 1926 a0 (some q_114)) q_140 101 32768) q_79 = 101 := kd_mkC hk_137 hq_141 (by decide)
  have hk_152 : kd (mkC (sFR u_128 1926 a0 (some q_114)) q_140 101 32768) q_101 = 101 := kd_mkC hk_138 hq_141 (by decide)
  have hk_153 : kd (mkC (sFR u_128 1926 a0 (some q_114)) q_140 101 32768) q_114 = 101 := kd_mkC hk_139 hq_141 (by decide)
  have hk_154 : kd (mkC (sFR u_128 1926 a0 (some q_114)) q_140 101 32768) q_140 = 101 := hu1_eq
  refine g_putFO (v := (some q_140)) X hin hw in_X19 tyX19_ok nmX19 hk_144 rfl 27 rfl (by decide) q1478 (fun _ z => z) rfl rfl rfl rfl dX19_init_86 (fun H locs hw => ?_)
  refine lv_aload_n hx hb dX19_init_89 rfl (lv_at hl 0 rfl) ?_
  refine lv_ldc hx hb hown (hts _ q1450) dX19_init_90 ?_
  obtain ⟨u_155, e_156⟩ : ∃ v : Hp, v = (sFR (mkC (sFR u_128 1926 a0 (some q_114)) q_140 101 32768) 1927 a0 (some q_140)) := ⟨_, rfl⟩
  have h := h u_155 e_156
  have hw : GW G u_155 s H locs := by rw [e_156]; exact hw
  have hk_157 : kd u_155 a0 = 16 := by rw [e_156]; exact hk_144
  have hk_158 : kd u_155 q_2 = 102 := by rw [e_156]; exact hk_145
  have hk_159 : kd u_155 q_12 = 102 := by rw [e_156]; exact hk_146
  have hk_160 : kd u_155 q_19 = 101 := by rw [e_156]; exact hk_147
  have hk_161 : kd u_155 q_33 = 101 := by rw [e_156]; exact hk_148
  have hk_162 : kd u_155 q_49 = 101 := by rw [e_156]; exact hk_149
  have hk_163 : kd u_155 q_59 = 101 := by rw [e_156]; exact hk_150
  have hk_164 : kd u_155 q_79 = 101 := by rw [e_156]; exact hk_151
  have hk_165 : kd u_155 q_101 = 101 := by rw [e_156]; exact hk_152
  have hk_166 : kd u_155 q_114 = 101 := by rw [e_156]; exact hk_153
  have hk_167 : kd u_155 q_140 = 101 := by rw [e_156]; exact hk_154
  obtain ⟨hm_170, hm_171, h⟩ := h
  refine g_newI X hw q279 (N' := 32768) (by decide) (by decide) (by decide) (by show _ ≤ MC; omega) (by show _ ≤ MS; omega) dX19_init_92 (fun q_168 H hq_169 hw => ?_)
  have h := h q_168 hq_169
  have hk_172 : kd (mkC u_155 q_168 101 32768) a0 = 16 := kd_mkC hk_157 hq_169 (by decide)
  have hk_173 : kd (mkC u_155 q_168 101 32768) q_2 = 102 := kd_mkC hk_158 hq_169 (by decide)
  have hk_174 : kd (mkC u_155 q_168 101 32768) q_12 = 102 := kd_mkC hk_159 hq_169 (by decide)
  have hk_175 : kd (mkC u_155 q_168 101 32768) q_19 = 101 := kd_mkC hk_160 hq_169 (by decide)
  have hk_176 : kd (mkC u_155 q_168 101 32768) q_33 = 101 := kd_mkC hk_161 hq_169 (by decide)
  have hk_177 : kd (mkC u_155 q_168 101 32768) q_49 = 101 := kd_mkC hk_162 hq_169 (by decide)
  have hk_178 : kd (mkC u_155 q_168 101 32768) q_59 = 101 := kd_mkC hk_163 hq_169 (by decide)
  have hk_179 : kd (mkC u_155 q_168 101 32768) q_79 = 101 := kd_mkC hk_164 hq_169 (by decide)
  have hk_180 : kd (mkC u_155 q_168 101 32768) q_101 = 101 := kd_mkC hk_165 hq_169 (by decide)
  have hk_181 : kd (mkC u_155 q_168 101 32768) q_114 = 101 := kd_mkC hk_166 hq_169 (by decide)
  have hk_182 : kd (mkC u_155 q_168 101 32768) q_140 = 101 := kd_mkC hk_167 hq_169 (by decide)
  have hk_183 : kd (mkC u_155 q_168 101 32768) q_168 = 101 := hu1_eq
  refine g_putFO (v := (some q_168)) X hin hw in_X19 tyX19_ok nmX19 hk_172 rfl 28 rfl (by decide) q1479 (fun _ z => z) rfl rfl rfl rfl dX19_init_94 (fun H locs hw => ?_)
  refine lv_aload_n hx hb dX19_init_97 rfl (lv_at hl 0 rfl) ?_
  refine lv_sipush (v := 2000) hx hb dX19_init_98 (by decide) ?_
  obtain ⟨hm_186, hm_187, h⟩ := h
  refine g_newI X hw q279 (N' := 2000) (by decide) (by decide) (by decide) (by show _ ≤ MC; omega) (by show _ ≤ MS; omega) dX19_init_101 (fun q_184 H hq_185 hw => ?_)
  have h := h q_184 hq_185
  have hk_188 : kd (mkC (sFR (mkC u_155 q_168 101 32768) 1928 a0 (some q_168)) q_184 101 2000) a0 = 16 := kd_mkC hk_172 hq_185 (by decide)
  have hk_189 : kd (mkC (sFR (mkC u_155 q_168 101 32768) 1928 a0 (some q_168)) q_184 101 2000) q_2 = 102 := kd_mkC hk_173 hq_185 (by decide)
  have hk_190 : kd (mkC (sFR (mkC u_155 q_168 101 32768) 1928 a0 (some q_168)) q_184 101 2000) q_12 = 102 := kd_mkC hk_174 hq_185 (by decide)
  have hk_191 : kd (mkC (sFR (mkC u_155 q_168 101 32768) 1928 a0 (some q_168)) q_184 101 2000) q_19 = 101 := kd_mkC hk_175 hq_185 (by decide)
  have hk_192 : kd (mkC (sFR (mkC u_155 q_168 101 32768) 1928 a0 (some q_168)) q_184 101 2000) q_33 = 101 := kd_mkC hk_176 hq_185 (by decide)
  have hk_193 : kd (mkC (sFR (mkC u_155 q_168 101 32768) 1928 a0 (some q_168)) q_184 101 2000) q_49 = 101 := kd_mkC hk_177 hq_185 (by decide)
  have hk_194 : kd (mkC (sFR (mkC u_155 q_168 101 32768) 1928 a0 (some q_168)) q_184 101 2000) q_59 = 101 := kd_mkC hk_178 hq_185 (by decide)
  have hk_195 : kd (mkC (sFR (mkC u_155 q_168 101 32768) 1928 a0 (some q_168)) q_184 101 2000) q_79 = 101 := kd_mkC hk_179 hq_185 (by decide)
  have hk_196 : kd (mkC (sFR (mkC u_155 q_168 101 32768) 1928 a0 (some q_168)) q_184 101 2000) q_101 = 101 := kd_mkC hk_180 hq_185 (by decide)
  have hk_197 : kd (mkC (sFR (mkC u_155 q_168 101 32768) 1928 a0 (some q_168)) q_184 101 2000) q_114 = 101 := kd_mkC hk_181 hq_185 (by decide)
  have hk_198 : kd (mkC (sFR (mkC u_155 q_168 101 32768) 1928 a0 (some q_168)) q_184 101 2000) q_140 = 101 := kd_mkC hk_182 hq_185 (by decide)
  have hk_199 : kd (mkC (sFR (mkC u_155 q_168 101 32768) 1928 a0 (some q_168)) q_184 101 2000) q_168 = 101 := kd_mkC hk_183 hq_185 (by decide)
  have hk_200 : kd (mkC (sFR (mkC u_155 q_168 101 32768) 1928 a0 (some q_168)) q_184 101 2000) q_184 = 101 := hu1_eq
  obtain ⟨u_201, e_202⟩ : ∃ v : Hp, v = (mkC (sFR (mkC u_155 q_168 101 32768) 1928 a0 (some q_168)) q_184 101 2000) := ⟨_, rfl⟩
  have h := h u_201 e_202
  have hw : GW G u_201 s H locs := by rw [e_202]; exact hw
  have hk_203 : kd u_201 a0 = 16 := by rw [e_202]; exact hk_188
  have hk_204 : kd u_201 q_2 = 102 := by rw [e_202]; exact hk_189
  have hk_205 : kd u_201 q_12 = 102 := by rw [e_202]; exact hk_190
  have hk_206 : kd u_201 q_19 = 101 := by rw [e_202]; exact hk_191
  have hk_207 : kd u_201 q_33 = 101 := by rw [e_202]; exact hk_192
  have hk_208 : kd u_201 q_49 = 101 := by rw [e_202]; exact hk_193
  have hk_209 : kd u_201 q_59 = 101 := by rw [e_202]; exact hk_194
  have hk_210 : kd u_201 q_79 = 101 := by rw [e_202]; exact hk_195
  have hk_211 : kd u_201 q_101 = 101 := by rw [e_202]; exact hk_196
  have hk_212 : kd u_201 q_114 = 101 := by rw [e_202]; exact hk_197
  have hk_213 : kd u_201 q_140 = 101 := by rw [e_202]; exact hk_198
  have hk_214 : kd u_201 q_168 = 101 := by rw [e_202]; exact hk_199
  have hk_215 : kd u_201 q_184 = 101 := by rw [e_202]; exact hk_200
  refine g_putFO (v := (some q_184)) X hin hw in_X19 tyX19_ok nmX19 hk_203 rfl 29 rfl (by decide) q1480 (fun _ z => z) rfl rfl rfl rfl dX19_init_103 (fun H locs hw => ?_)
  refine lv_aload_n hx hb dX19_init_106 rfl (lv_at hl 0 rfl) ?_
  refine lv_sipush (v := 2000) hx hb dX19_init_107 (by decide) ?_
  obtain ⟨hm_218, hm_219, h⟩ := h
  refine g_newI X hw q279 (N' := 2000) (by decide) (by decide) (by decide) (by show _ ≤ MC; omega) (by show _ ≤ MS; omega) dX19_init_110 (fun q_216 H hq_217 hw => ?_)
  have h := h q_216 hq_217
  have hk_220 : kd (mkC (sFR u_201 1929 a0 (some q_184)) q_216 101 2000) a0 = 16 := kd_mkC hk_203 hq_217 (by decide)
  have hk_221 : kd (mkC (sFR u_201 1929 a0 (some q_184)) q_216 101 2000) q_2 = 102 := kd_mkC hk_204 hq_217 (by decide)
  have hk_222 : kd (mkC (sFR u_201 1929 a0 (some q_184)) q_216 101 2000) q_12 = 102 := kd_mkC hk_205 hq_217 (by decide)
  have hk_223 : kd (mkC (sFR u_201 1929 a0 (some q_184)) q_216 101 2000) q_19 = 101 := kd_mkC hk_206 hq_217 (by decide)
  have hk_224 : kd (mkC (sFR u_201 1929 a0 (some q_184)) q_216 101 2000) q_33 = 101 := kd_mkC hk_207 hq_217 (by decide)
  have hk_225 : kd (mkC (sFR u_201 1929 a0 (some q_184)) q_216 101 2000) q_49 = 101 := kd_mkC hk_208 hq_217 (by decide)
  have hk_226 : kd (mkC (sFR u_201 1929 a0 (some q_184)) q_216 101 2000) q_59 = 101 := kd_mkC hk_209 hq_217 (by decide)
  have hk_227 : kd (mkC (sFR u_201 1929 a0 (some q_184)) q_216 101 2000) q_79 = 101 := kd_mkC hk_210 hq_217 (by decide)
  have hk_228 : kd (mkC (sFR u_201 1929 a0 (some q_184)) q_216 101 2000) q_101 = 101 := kd_mkC hk_211 hq_217 (by decide)
  have hk_229 : kd (mkC (sFR u_201 1929 a0 (some q_184)) q_216 101 2000) q_114 = 101 := kd_mkC hk_212 hq_217 (by decide)
  have hk_230 : kd (mkC (sFR u_201 1929 a0 (some q_184)) q_216 101 2000) q_140 = 101 := kd_mkC hk_213 hq_217 (by decide)
  have hk_231 : kd (mkC (sFR u_201 1929 a0 (some q_184)) q_216 101 2000) q_168 = 101 := kd_mkC hk_214 hq_217 (by decide)
  have hk_232 : kd (mkC (sFR u_201 1929 a0 (some q_184)) q_216 101 2000) q_184 = 101 := kd_mkC hk_215 hq_217 (by decide)
  have hk_233 : kd (mkC (sFR u_201 1929 a0 (some q_184)) q_216 101 2000) q_216 = 101 := hu1_eq
  refine g_putFO (v := (some q_216)) X hin hw in_X19 tyX19_ok nmX19 hk_220 rfl 30 rfl (by decide) q1481 (fun _ z => z) rfl rfl rfl rfl dX19_init_112 (fun H locs hw => ?_)
  refine lv_aload_n hx hb dX19_init_115 rfl (lv_at hl 0 rfl) ?_
  refine lv_sipush (v := 2000) hx hb dX19_init_116 (by decide) ?_
  obtain ⟨u_234, e_235⟩ : ∃ v : Hp, v = (sFR (mkC (sFR u_201 1929 a0 (some q_184)) q_216 101 2000) 1930 a0 (some q_216)) := ⟨_, rfl⟩
  have h := h u_234 e_235
  have hw : GW G u_234 s H locs := by rw [e_235]; exact hw
  have hk_236 : kd u_234 a0 = 16 := by rw [e_235]; exact hk_220
  have hk_237 : kd u_234 q_2 = 102 := by rw [e_235]; exact hk_221
  have hk_238 : kd u_234 q_12 = 102 := by rw [e_235]; exact hk_222
  have hk_239 : kd u_234 q_19 = 101 := by rw [e_235]; exact hk_223
  have hk_240 : kd u_234 q_33 = 101 := by rw [e_235]; exact hk_224
  have hk_241 : kd u_234 q_49 = 101 := by rw [e_235]; exact hk_225
  have hk_242 : kd u_234 q_59 = 101 := by rw [e_235]; exact hk_226
  have hk_243 : kd u_234 q_79 = 101 := by rw [e_235]; exact hk_227
  have hk_244 : kd u_234 q_101 = 101 := by rw [e_235]; exact hk_228
  have hk_245 : kd u_234 q_114 = 101 := by rw [e_235]; exact hk_229
  have hk_246 : kd u_234 q_140 = 101 := by rw [e_235]; exact hk_230
  have hk_247 : kd u_234 q_168 = 101 := by rw [e_235]; exact hk_231
  have hk_248 : kd u_234 q_184 = 101 := by rw [e_235]; exact hk_232
  have hk_249 : kd u_234 q_216 = 101 := by rw [e_235]; exact hk_233
  obtain ⟨hm_252, hm_253, h⟩ := h
  refine g_newI X hw q279 (N' := 2000) (by decide) (by decide) (by decide) (by show _ ≤ MC; omega) (by show _ ≤ MS; omega) dX19_init_119 (fun q_250 H hq_251 hw => ?_)
  have h := h q_250 hq_251
  have hk_254 : kd (mkC u_234 q_250 101 2000) a0 = 16 := kd_mkC hk_236 hq_251 (by decide)
  have hk_255 : kd (mkC u_234 q_250 101 2000) q_2 = 102 := kd_mkC hk_237 hq_251 (by decide)
  have hk_256 : kd (mkC u_234 q_250 101 2000) q_12 = 102 := kd_mkC hk_238 hq_251 (by decide)
  have hk_257 : kd (mkC u_234 q_250 101 2000) q_19 = 101 := kd_mkC hk_239 hq_251 (by decide)
  have hk_258 : kd (mkC u_234 q_250 101 2000) q_33 = 101 := kd_mkC hk_240 hq_251 (by decide)
  have hk_259 : kd (mkC u_234 q_250 101 2000) q_49 = 101 := kd_mkC hk_241 hq_251 (by decide)
  have hk_260 : kd (mkC u_234 q_250 101 2000) q_59 = 101 := kd_mkC hk_242 hq_251 (by decide)
  have hk_261 : kd (mkC u_234 q_250 101 2000) q_79 = 101 := kd_mkC hk_243 hq_251 (by decide)
  have hk_262 : kd (mkC u_234 q_250 101 2000) q_101 = 101 := kd_mkC hk_244 hq_251 (by decide)
  have hk_263 : kd (mkC u_234 q_250 101 2000) q_114 = 101 := kd_mkC hk_245 hq_251 (by decide)
  have hk_264 : kd (mkC u_234 q_250 101 2000) q_140 = 101 := kd_mkC hk_246 hq_251 (by decide)
  have hk_265 : kd (mkC u_234 q_250 101 2000) q_168 = 101 := kd_mkC hk_247 hq_251 (by decide)
  have hk_266 : kd (mkC u_234 q_250 101 2000) q_184 = 101 := kd_mkC hk_248 hq_251 (by decide)
  have hk_267 : kd (mkC u_234 q_250 101 2000) q_216 = 101 := kd_mkC hk_249 hq_251 (by decide)
  have hk_268 : kd (mkC u_234 q_250 101 2000) q_250 = 101 := hu1_eq
  refine g_putFO (v := (some q_250)) X hin hw in_X19 tyX19_ok nmX19 hk_254 rfl 31 rfl (by decide) q1482 (fun _ z => z) rfl rfl rfl rfl dX19_init_121 (fun H locs hw => ?_)
  refine lv_aload_n hx hb dX19_init_124 rfl (lv_at hl 0 rfl) ?_
  refine lv_sipush (v := 2000) hx hb dX19_init_125 (by decide) ?_
  obtain ⟨hm_271, hm_272, h⟩ := h
  refine g_newZ X hw q1590 (N' := 2000) (by decide) (by decide) (by decide) (by show _ ≤ MC; omega) (by show _ ≤ MS; omega) dX19_init_128 (fun q_269 H hq_270 hw => ?_)
  have h := h q_269 hq_270
  have hk_273 : kd (mkC (sFR (mkC u_234 q_250 101 2000) 1931 a0 (some q_250)) q_269 104 2000) a0 = 16 := kd_mkC hk_254 hq_270 (by decide)
  have hk_274 : kd (mkC (sFR (mkC u_234 q_250 101 2000) 1931 a0 (some q_250)) q_269 104 2000) q_2 = 102 := kd_mkC hk_255 hq_270 (by decide)
  have hk_275 : kd (mkC (sFR (mkC u_234 q_250 101 2000) 1931 a0 (some q_250)) q_269 104 2000) q_12 = 102 := kd_mkC hk_256 hq_270 (by decide)
  have hk_276 : kd (mkC (sFR (mkC u_234 q_250 101 2000) 1931 a0 (some q_250)) q_269 104 2000) q_19 = 101 := kd_mkC hk_257 hq_270 (by decide)
  have hk_277 : kd (mkC (sFR (mkC u_234 q_250 101 2000) 1931 a0 (some q_250)) q_269 104 2000) q_33 = 101 := kd_mkC hk_258 hq_270 (by decide)
  have hk_278 : kd (mkC (sFR (mkC u_234 q_250 101 2000) 1931 a0 (some q_250)) q_269 104 2000) q_49 = 101 := kd_mkC hk_259 hq_270 (by decide)
  have hk_279 : kd (mkC (sFR (mkC u_234 q_250 101 2000) 1931 a0 (some q_250)) q_269 104 2000) q_59 = 101 := kd_mkC hk_260 hq_270 (by decide)
  have hk_280 : kd (mkC (sFR (mkC u_234 q_250 101 2000) 1931 a0 (some q_250)) q_269 104 2000) q_79 = 101 := kd_mkC hk_261 hq_270 (by decide)
  have hk_281 : kd (mkC (sFR (mkC u_234 q_250 101 2000) 1931 a0 (some q_250)) q_269 104 2000) q_101 = 101 := kd_mkC hk_262 hq_270 (by decide)
  have hk_282 : kd (mkC (sFR (mkC u_234 q_250 101 2000) 1931 a0 (some q_250)) q_269 104 2000) q_114 = 101 := kd_mkC hk_263 hq_270 (by decide)
  have hk_283 : kd (mkC (sFR (mkC u_234 q_250 101 2000) 1931 a0 (some q_250)) q_269 104 2000) q_140 = 101 := kd_mkC hk_264 hq_270 (by decide)
  have hk_284 : kd (mkC (sFR (mkC u_234 q_250 101 2000) 1931 a0 (some q_250)) q_269 104 2000) q_168 = 101 := kd_mkC hk_265 hq_270 (by decide)
  have hk_285 : kd (mkC (sFR (mkC u_234 q_250 101 2000) 1931 a0 (some q_250)) q_269 104 2000) q_184 = 101 := kd_mkC hk_266 hq_270 (by decide)
  have hk_286 : kd (mkC (sFR (mkC u_234 q_250 101 2000) 1931 a0 (some q_250)) q_269 104 2000) q_216 = 101 := kd_mkC hk_267 hq_270 (by decide)
  have hk_287 : kd (mkC (sFR (mkC u_234 q_250 101 2000) 1931 a0 (some q_250)) q_269 104 2000) q_250 = 101 := kd_mkC hk_268 hq_270 (by decide)
  have hk_288 : kd (mkC (sFR (mkC u_234 q_250 101 2000) 1931 a0 (some q_250)) q_269 104 2000) q_269 = 104 := hu1_eq
  obtain ⟨u_289, e_290⟩ : ∃ v : Hp, v = (mkC (sFR (mkC u_234 q_250 101 2000) 1931 a0 (some q_250)) q_269 104 2000) := ⟨_, rfl⟩
  have h := h u_289 e_290
  have hw : GW G u_289 s H locs := by rw [e_290]; exact hw
  have hk_291 : kd u_289 a0 = 16 := by rw [e_290]; exact hk_273
  have hk_292 : kd u_289 q_2 = 102 := by rw [e_290]; exact hk_274
  have hk_293 : kd u_289 q_12 = 102 := by rw [e_290]; exact hk_275
  have hk_294 : kd u_289 q_19 = 101 := by rw [e_290]; exact hk_276
  have hk_295 : kd u_289 q_33 = 101 := by rw [e_290]; exact hk_277
  have hk_296 : kd u_289 q_49 = 101 := by rw [e_290]; exact hk_278
  have hk_297 : kd u_289 q_59 = 101 := by rw [e_290]; exact hk_279
  have hk_298 : kd u_289 q_79 = 101 := by rw [e_290]; exact hk_280
  have hk_299 : kd u_289 q_101 = 101 := by rw [e_290]; exact hk_281
  have hk_300 : kd u_289 q_114 = 101 := by rw [e_290]; exact hk_282
  have hk_301 : kd u_289 q_140 = 101 := by rw [e_290]; exact hk_283
  have hk_302 : kd u_289 q_168 = 101 := by rw [e_290]; exact hk_284
  have hk_303 : kd u_289 q_184 = 101 := by rw [e_290]; exact hk_285
  have hk_304 : kd u_289 q_216 = 101 := by rw [e_290]; exact hk_286
  have hk_305 : kd u_289 q_250 = 101 := by rw [e_290]; exact hk_287
  have hk_306 : kd u_289 q_269 = 104 := by rw [e_290]; exact hk_288
  refine g_putFO (v := (some q_269)) X hin hw in_X19 tyX19_ok nmX19 hk_291 rfl 32 rfl (by decide) q1483 (fun _ z => z) rfl rfl rfl rfl dX19_init_130 (fun H locs hw => ?_)
  refine lv_aload_n hx hb dX19_init_133 rfl (lv_at hl 0 rfl) ?_
  refine lv_sipush (v := 300) hx hb dX19_init_134 (by decide) ?_
  obtain ⟨hm_309, hm_310, h⟩ := h
  refine g_newI X hw q279 (N' := 300) (by decide) (by decide) (by decide) (by show _ ≤ MC; omega) (by show _ ≤ MS; omega) dX19_init_137 (fun q_307 H hq_308 hw => ?_)
  have h := h q_307 hq_308
  have hk_311 : kd (mkC (sFR u_289 1932 a0 (some q_269)) q_307 101 300) a0 = 16 := kd_mkC hk_291 hq_308 (by decide)
  have hk_312 : kd (mkC (sFR u_289 1932 a0 (some q_269)) q_307 101 300) q_2 = 102 := kd_mkC hk_292 hq_308 (by decide)
  have hk_313 : kd (mkC (sFR u_289 1932 a0 (some q_269)) q_307 101 300) q_12 = 102 := kd_mkC hk_293 hq_308 (by decide)
  have hk_314 : kd (mkC (sFR u_289 1932 a0 (some q_269)) q_307 101 300) q_19 = 101 := kd_mkC hk_294 hq_308 (by decide)
  have hk_315 : kd (mkC (sFR u_289 1932 a0 (some q_269)) q_307 101 300) q_33 = 101 := kd_mkC hk_295 hq_308 (by decide)
  have hk_316 : kd (mkC (sFR u_289 1932 a0 (some q_269)) q_307 101 300) q_49 = 101 := kd_mkC hk_296 hq_308 (by decide)
  have hk_317 : kd (mkC (sFR u_289 1932 a0 (some q_269)) q_307 101 300) q_59 = 101 := kd_mkC hk_297 hq_308 (by decide)
  have hk_318 : kd (mkC (sFR u_289 1932 a0 (some q_269)) q_307 101 300) q_79 = 101 := kd_mkC hk_298 hq_308 (by decide)
  have hk_319 : kd (mkC (sFR u_289 1932 a0 (some q_269)) q_307 101 300) q_101 = 101 := kd_mkC hk_299 hq_308 (by decide)
  have hk_320 : kd (mkC (sFR u_289 1932 a0 (some q_269)) q_307 101 300) q_114 = 101 := kd_mkC hk_300 hq_308 (by decide)
  have hk_321 : kd (mkC (sFR u_289 1932 a0 (some q_269)) q_307 101 300) q_140 = 101 := kd_mkC hk_301 hq_308 (by decide)
  have hk_322 : kd (mkC (sFR u_289 1932 a0 (some q_269)) q_307 101 300) q_168 = 101 := kd_mkC hk_302 hq_308 (by decide)
  have hk_323 : kd (mkC (sFR u_289 1932 a0 (some q_269)) q_307 101 300) q_184 = 101 := kd_mkC hk_303 hq_308 (by decide)
  have hk_324 : kd (mkC (sFR u_289 1932 a0 (some q_269)) q_307 101 300) q_216 = 101 := kd_mkC hk_304 hq_308 (by decide)
  have hk_325 : kd (mkC (sFR u_289 1932 a0 (some q_269)) q_307 101 300) q_250 = 101 := kd_mkC hk_305 hq_308 (by decide)
  have hk_326 : kd (mkC (sFR u_289 1932 a0 (some q_269)) q_307 101 300) q_269 = 104 := kd_mkC hk_306 hq_308 (by decide)
  have hk_327 : kd (mkC (sFR u_289 1932 a0 (some q_269)) q_307 101 300) q_307 = 101 := hu1_eq
  refine g_putFO (v := (some q_307)) X hin hw in_X19 tyX19_ok nmX19 hk_311 rfl 33 rfl (by decide) q1484 (fun _ z => z) rfl rfl rfl rfl dX19_init_139 (fun H locs hw => ?_)
  refine lv_aload_n hx hb dX19_init_142 rfl (lv_at hl 0 rfl) ?_
  refine lv_sipush (v := 1920) hx hb dX19_init_143 (by decide) ?_
  obtain ⟨u_328, e_329⟩ : ∃ v : Hp, v = (sFR (mkC (sFR u_289 1932 a0 (some q_269)) q_307 101 300) 1933 a0 (some q_307)) := ⟨_, rfl⟩
  have h := h u_328 e_329
  have hw : GW G u_328 s H locs := by rw [e_329]; exact hw
  have hk_330 : kd u_328 a0 = 16 := by rw [e_329]; exact hk_311
  have hk_331 : kd u_328 q_2 = 102 := by rw [e_329]; exact hk_312
  have hk_332 : kd u_328 q_12 = 102 := by rw [e_329]; exact hk_313
  have hk_333 : kd u_328 q_19 = 101 := by rw [e_329]; exact hk_314
  have hk_334 : kd u_328 q_33 = 101 := by rw [e_329]; exact hk_315
  have hk_335 : kd u_328 q_49 = 101 := by rw [e_329]; exact hk_316
  have hk_336 : kd u_328 q_59 = 101 := by rw [e_329]; exact hk_317
  have hk_337 : kd u_328 q_79 = 101 := by rw [e_329]; exact hk_318
  have hk_338 : kd u_328 q_101 = 101 := by rw [e_329]; exact hk_319
  have hk_339 : kd u_328 q_114 = 101 := by rw [e_329]; exact hk_320
  have hk_340 : kd u_328 q_140 = 101 := by rw [e_329]; exact hk_321
  have hk_341 : kd u_328 q_168 = 101 := by rw [e_329]; exact hk_322
  have hk_342 : kd u_328 q_184 = 101 := by rw [e_329]; exact hk_323
  have hk_343 : kd u_328 q_216 = 101 := by rw [e_329]; exact hk_324
  have hk_344 : kd u_328 q_250 = 101 := by rw [e_329]; exact hk_325
  have hk_345 : kd u_328 q_269 = 104 := by rw [e_329]; exact hk_326
  have hk_346 : kd u_328 q_307 = 101 := by rw [e_329]; exact hk_327
  obtain ⟨hm_349, hm_350, h⟩ := h
  refine g_newI X hw q279 (N' := 1920) (by decide) (by decide) (by decide) (by show _ ≤ MC; omega) (by show _ ≤ MS; omega) dX19_init_146 (fun q_347 H hq_348 hw => ?_)
  have h := h q_347 hq_348
  have hk_351 : kd (mkC u_328 q_347 101 1920) a0 = 16 := kd_mkC hk_330 hq_348 (by decide)
  have hk_352 : kd (mkC u_328 q_347 101 1920) q_2 = 102 := kd_mkC hk_331 hq_348 (by decide)
  have hk_353 : kd (mkC u_328 q_347 101 1920) q_12 = 102 := kd_mkC hk_332 hq_348 (by decide)
  have hk_354 : kd (mkC u_328 q_347 101 1920) q_19 = 101 := kd_mkC hk_333 hq_348 (by decide)
  have hk_355 : kd (mkC u_328 q_347 101 1920) q_33 = 101 := kd_mkC hk_334 hq_348 (by decide)
  have hk_356 : kd (mkC u_328 q_347 101 1920) q_49 = 101 := kd_mkC hk_335 hq_348 (by decide)
  have hk_357 : kd (mkC u_328 q_347 101 1920) q_59 = 101 := kd_mkC hk_336 hq_348 (by decide)
  have hk_358 : kd (mkC u_328 q_347 101 1920) q_79 = 101 := kd_mkC hk_337 hq_348 (by decide)
  have hk_359 : kd (mkC u_328 q_347 101 1920) q_101 = 101 := kd_mkC hk_338 hq_348 (by decide)
  have hk_360 : kd (mkC u_328 q_347 101 1920) q_114 = 101 := kd_mkC hk_339 hq_348 (by decide)
  have hk_361 : kd (mkC u_328 q_347 101 1920) q_140 = 101 := kd_mkC hk_340 hq_348 (by decide)
  have hk_362 : kd (mkC u_328 q_347 101 1920) q_168 = 101 := kd_mkC hk_341 hq_348 (by decide)
  have hk_363 : kd (mkC u_328 q_347 101 1920) q_184 = 101 := kd_mkC hk_342 hq_348 (by decide)
  have hk_364 : kd (mkC u_328 q_347 101 1920) q_216 = 101 := kd_mkC hk_343 hq_348 (by decide)
  have hk_365 : kd (mkC u_328 q_347 101 1920) q_250 = 101 := kd_mkC hk_344 hq_348 (by decide)
  have hk_366 : kd (mkC u_328 q_347 101 1920) q_269 = 104 := kd_mkC hk_345 hq_348 (by decide)
  have hk_367 : kd (mkC u_328 q_347 101 1920) q_307 = 101 := kd_mkC hk_346 hq_348 (by decide)
  have hk_368 : kd (mkC u_328 q_347 101 1920) q_347 = 101 := hu1_eq
  refine g_putFO (v := (some q_347)) X hin hw in_X19 tyX19_ok nmX19 hk_351 rfl 34 rfl (by decide) q1485 (fun _ z => z) rfl rfl rfl rfl dX19_init_148 (fun H locs hw => ?_)
  refine lv_aload_n hx hb dX19_init_151 rfl (lv_at hl 0 rfl) ?_
  refine lv_bipush (v := 20) hx hb dX19_init_152 (by decide) ?_
  obtain ⟨hm_371, hm_372, h⟩ := h
  refine g_newI X hw q279 (N' := 20) (by decide) (by decide) (by decide) (by show _ ≤ MC; omega) (by show _ ≤ MS; omega) dX19_init_154 (fun q_369 H hq_370 hw => ?_)
  have h := h q_369 hq_370
  have hk_373 : kd (mkC (sFR (mkC u_328 q_347 101 1920) 1934 a0 (some q_347)) q_369 101 20) a0 = 16 := kd_mkC hk_351 hq_370 (by decide)
  have hk_374 : kd (mkC (sFR (mkC u_328 q_347 101 1920) 1934 a0 (some q_347)) q_369 101 20) q_2 = 102 := kd_mkC hk_352 hq_370 (by decide)
  have hk_375 : kd (mkC (sFR (mkC u_328 q_347 101 1920) 1934 a0 (some q_347)) q_369 101 20) q_12 = 102 := kd_mkC hk_353 hq_370 (by decide)
  have hk_376 : kd (mkC (sFR (mkC u_328 q_347 101 1920) 1934 a0 (some q_347)) q_369 101 20) q_19 = 101 := kd_mkC hk_354 hq_370 (by decide)
  have hk_377 : kd (mkC (sFR (mkC u_328 q_347 101 1920) 1934 a0 (some q_347)) q_369 101 20) q_33 = 101 := kd_mkC hk_355 hq_370 (by decide)
  have hk_378 : kd (mkC (sFR (mkC u_328 q_347 101 1920) 1934 a0 (some q_347)) q_369 101 20) q_49 = 101 := kd_mkC hk_356 hq_370 (by decide)
  have hk_379 : kd (mkC (sFR (mkC u_328 q_347 101 1920) 1934 a0 (some q_347)) q_369 101 20) q_59 = 101 := kd_mkC hk_357 hq_370 (by decide)
  have hk_380 : kd (mkC (sFR (mkC u_328 q_347 101 1920) 1934 a0 (some q_347)) q_369 101 20) q_79 = 101 := kd_mkC hk_358 hq_370 (by decide)
  have hk_381 : kd (mkC (sFR (mkC u_328 q_347 101 1920) 1934 a0 (some q_347)) q_369 101 20) q_101 = 101 := kd_mkC hk_359 hq_370 (by decide)
  have hk_382 : kd (mkC (sFR (mkC u_328 q_347 101 1920) 1934 a0 (some q_347)) q_369 101 20) q_114 = 101 := kd_mkC hk_360 hq_370 (by decide)
  have hk_383 : kd (mkC (sFR (mkC u_328 q_347 101 1920) 1934 a0 (some q_347)) q_369 101 20) q_140 = 101 := kd_mkC hk_361 hq_370 (by decide)
  have hk_384 : kd (mkC (sFR (mkC u_328 q_347 101 1920) 1934 a0 (some q_347)) q_369 101 20) q_168 = 101 := kd_mkC hk_362 hq_370 (by decide)
  have hk_385 : kd (mkC (sFR (mkC u_328 q_347 101 1920) 1934 a0 (some q_347)) q_369 101 20) q_184 = 101 := kd_mkC hk_363 hq_370 (by decide)
  have hk_386 : kd (mkC (sFR (mkC u_328 q_347 101 1920) 1934 a0 (some q_347)) q_369 101 20) q_216 = 101 := kd_mkC hk_364 hq_370 (by decide)
  have hk_387 : kd (mkC (sFR (mkC u_328 q_347 101 1920) 1934 a0 (some q_347)) q_369 101 20) q_250 = 101 := kd_mkC hk_365 hq_370 (by decide)
  have hk_388 : kd (mkC (sFR (mkC u_328 q_347 101 1920) 1934 a0 (some q_347)) q_369 101 20) q_269 = 104 := kd_mkC hk_366 hq_370 (by decide)
  have hk_389 : kd (mkC (sFR (mkC u_328 q_347 101 1920) 1934 a0 (some q_347)) q_369 101 20) q_307 = 101 := kd_mkC hk_367 hq_370 (by decide)
  have hk_390 : kd (mkC (sFR (mkC u_328 q_347 101 1920) 1934 a0 (some q_347)) q_369 101 20) q_347 = 101 := kd_mkC hk_368 hq_370 (by decide)
  have hk_391 : kd (mkC (sFR (mkC u_328 q_347 101 1920) 1934 a0 (some q_347)) q_369 101 20) q_369 = 101 := hu1_eq
  obtain ⟨u_392, e_393⟩ : ∃ v : Hp, v = (mkC (sFR (mkC u_328 q_347 101 1920) 1934 a0 (some q_347)) q_369 101 20) := ⟨_, rfl⟩
  have h := h u_392 e_393
  have hw : GW G u_392 s H locs := by rw [e_393]; exact hw
  have hk_394 : kd u_392 a0 = 16 := by rw [e_393]; exact hk_373
  have hk_395 : kd u_392 q_2 = 102 := by rw [e_393]; exact hk_374
  have hk_396 : kd u_392 q_12 = 102 := by rw [e_393]; exact hk_375
  have hk_397 : kd u_392 q_19 = 101 := by rw [e_393]; exact hk_376
  have hk_398 : kd u_392 q_33 = 101 := by rw [e_393]; exact hk_377
  have hk_399 : kd u_392 q_49 = 101 := by rw [e_393]; exact hk_378
  have hk_400 : kd u_392 q_59 = 101 := by rw [e_393]; exact hk_379
  have hk_401 : kd u_392 q_79 = 101 := by rw [e_393]; exact hk_380
  have hk_402 : kd u_392 q_101 = 101 := by rw [e_393]; exact hk_381
  have hk_403 : kd u_392 q_114 = 101 := by rw [e_393]; exact hk_382
  have hk_404 : kd u_392 q_140 = 101 := by rw [e_393]; exact hk_383
  have hk_405 : kd u_392 q_168 = 101 := by rw [e_393]; exact hk_384
  have hk_406 : kd u_392 q_184 = 101 := by rw [e_393]; exact hk_385
  have hk_407 : kd u_392 q_216 = 101 := by rw [e_393]; exact hk_386
  have hk_408 : kd u_392 q_250 = 101 := by rw [e_393]; exact hk_387
  have hk_409 : kd u_392 q_269 = 104 := by rw [e_393]; exact hk_388
  have hk_410 : kd u_392 q_307 = 101 := by rw [e_393]; exact hk_389
  have hk_411 : kd u_392 q_347 = 101 := by rw [e_393]; exact hk_390
  have hk_412 : kd u_392 q_369 = 101 := by rw [e_393]; exact hk_391
  refine g_putFO (v := (some q_369)) X hin hw in_X19 tyX19_ok nmX19 hk_394 rfl 37 rfl (by decide) q1488 (fun _ z => z) rfl rfl rfl rfl dX19_init_156 (fun H locs hw => ?_)
  refine lv_aload_n hx hb dX19_init_159 rfl (lv_at hl 0 rfl) ?_
  refine lv_bipush (v := 20) hx hb dX19_init_160 (by decide) ?_
  obtain ⟨hm_415, hm_416, h⟩ := h
  refine g_newI X hw q279 (N' := 20) (by decide) (by decide) (by decide) (by show _ ≤ MC; omega) (by show _ ≤ MS; omega) dX19_init_162 (fun q_413 H hq_414 hw => ?_)
  have h := h q_413 hq_414
  have hk_417 : kd (mkC (sFR u_392 1937 a0 (some q_369)) q_413 101 20) a0 = 16 := kd_mkC hk_394 hq_414 (by decide)
  have hk_418 : kd (mkC (sFR u_392 1937 a0 (some q_369)) q_413 101 20) q_2 = 102 := kd_mkC hk_395 hq_414 (by decide)
  have hk_419 : kd (mkC (sFR u_392 1937 a0 (some q_369)) q_413 101 20) q_12 = 102 := kd_mkC hk_396 hq_414 (by decide)
  have hk_420 : kd (mkC (sFR u_392 1937 a0 (some q_369)) q_413 101 20) q_19 = 101 := kd_mkC hk_397 hq_414 (by decide)
  have hk_421 : kd (mkC (sFR u_392 1937 a0 (some q_369)) q_413 101 20) q_33 = 101 := kd_mkC hk_398 hq_414 (by decide)
  have hk_422 : kd (mkC (sFR u_392 1937 a0 (some q_369)) q_413 101 20) q_49 = 101 := kd_mkC hk_399 hq_414 (by decide)
  have hk_423 : kd (mkC (sFR u_392 1937 a0 (some q_369)) q_413 101 20) q_59 = 101 := kd_mkC hk_400 hq_414 (by decide)
  have hk_424 : kd (mkC (sFR u_392 1937 a0 (some q_369)) q_413 101 20) q_79 = 101 := kd_mkC hk_401 hq_414 (by decide)
  have hk_425 : kd (mkC (sFR u_392 1937 a0 (some q_369)) q_413 101 20) q_101 = 101 := kd_mkC hk_402 hq_414 (by decide)
  have hk_426 : kd (mkC (sFR u_392 1937 a0 (some q_369)) q_413 101 20) q_114 = 101 := kd_mkC hk_403 hq_414 (by decide)
  have hk_427 : kd (mkC (sFR u_392 1937 a0 (some q_369)) q_413 101 20) q_140 = 101 := kd_mkC hk_404 hq_414 (by decide)
  have hk_428 : kd (mkC (sFR u_392 1937 a0 (some q_369)) q_413 101 20) q_168 = 101 := kd_mkC hk_405 hq_414 (by decide)
  have hk_429 : kd (mkC (sFR u_392 1937 a0 (some q_369)) q_413 101 20) q_184 = 101 := kd_mkC hk_406 hq_414 (by decide)
  have hk_430 : kd (mkC (sFR u_392 1937 a0 (some q_369)) q_413 101 20) q_216 = 101 := kd_mkC hk_407 hq_414 (by decide)
  have hk_431 : kd (mkC (sFR u_392 1937 a0 (some q_369)) q_413 101 20) q_250 = 101 := kd_mkC hk_408 hq_414 (by decide)
  have hk_432 : kd (mkC (sFR u_392 1937 a0 (some q_369)) q_413 101 20) q_269 = 104 := kd_mkC hk_409 hq_414 (by decide)
  have hk_433 : kd (mkC (sFR u_392 1937 a0 (some q_369)) q_413 101 20) q_307 = 101 := kd_mkC hk_410 hq_414 (by decide)
  have hk_434 : kd (mkC (sFR u_392 1937 a0 (some q_369)) q_413 101 20) q_347 = 101 := kd_mkC hk_411 hq_414 (by decide)
  have hk_435 : kd (mkC (sFR u_392 1937 a0 (some q_369)) q_413 101 20) q_369 = 101 := kd_mkC hk_412 hq_414 (by decide)
  have hk_436 : kd (mkC (sFR u_392 1937 a0 (some q_369)) q_413 101 20) q_413 = 101 := hu1_eq
  refine g_putFO (v := (some q_413)) X hin hw in_X19 tyX19_ok nmX19 hk_417 rfl 38 rfl (by decide) q1489 (fun _ z => z) rfl rfl rfl rfl dX19_init_164 (fun H locs hw => ?_)
  refine lv_aload_n hx hb dX19_init_167 rfl (lv_at hl 0 rfl) ?_
  refine lv_bipush (v := 60) hx hb dX19_init_168 (by decide) ?_
  obtain ⟨u_437, e_438⟩ : ∃ v : Hp, v = (sFR (mkC (sFR u_392 1937 a0 (some q_369)) q_413 101 20) 1938 a0 (some q_413)) := ⟨_, rfl⟩
  have h := h u_437 e_438
  have hw : GW G u_437 s H locs := by rw [e_438]; exact hw
  have hk_439 : kd u_437 a0 = 16 := by rw [e_438]; exact hk_417
  have hk_440 : kd u_437 q_2 = 102 := by rw [e_438]; exact hk_418
  have hk_441 : kd u_437 q_12 = 102 := by rw [e_438]; exact hk_419
  have hk_442 : kd u_437 q_19 = 101 := by rw [e_438]; exact hk_420
  have hk_443 : kd u_437 q_33 = 101 := by rw [e_438]; exact hk_421
  have hk_444 : kd u_437 q_49 = 101 := by rw [e_438]; exact hk_422
  have hk_445 : kd u_437 q_59 = 101 := by rw [e_438]; exact hk_423
  have hk_446 : kd u_437 q_79 = 101 := by rw [e_438]; exact hk_424
  have hk_447 : kd u_437 q_101 = 101 := by rw [e_438]; exact hk_425
  have hk_448 : kd u_437 q_114 = 101 := by rw [e_438]; exact hk_426
  have hk_449 : kd u_437 q_140 = 101 := by rw [e_438]; exact hk_427
  have hk_450 : kd u_437 q_168 = 101 := by rw [e_438]; exact hk_428
  have hk_451 : kd u_437 q_184 = 101 := by rw [e_438]; exact hk_429
  have hk_452 : kd u_437 q_216 = 101 := by rw [e_438]; exact hk_430
  have hk_453 : kd u_437 q_250 = 101 := by rw [e_438]; exact hk_431
  have hk_454 : kd u_437 q_269 = 104 := by rw [e_438]; exact hk_432
  have hk_455 : kd u_437 q_307 = 101 := by rw [e_438]; exact hk_433
  have hk_456 : kd u_437 q_347 = 101 := by rw [e_438]; exact hk_434
  have hk_457 : kd u_437 q_369 = 101 := by rw [e_438]; exact hk_435
  have hk_458 : kd u_437 q_413 = 101 := by rw [e_438]; exact hk_436
  obtain ⟨hm_461, hm_462, h⟩ := h
  refine g_newI X hw q279 (N' := 60) (by decide) (by decide) (by decide) (by show _ ≤ MC; omega) (by show _ ≤ MS; omega) dX19_init_170 (fun q_459 H hq_460 hw => ?_)
  have h := h q_459 hq_460
  have hk_463 : kd (mkC u_437 q_459 101 60) a0 = 16 := kd_mkC hk_439 hq_460 (by decide)
  have hk_464 : kd (mkC u_437 q_459 101 60) q_2 = 102 := kd_mkC hk_440 hq_460 (by decide)
  have hk_465 : kd (mkC u_437 q_459 101 60) q_12 = 102 := kd_mkC hk_441 hq_460 (by decide)
  have hk_466 : kd (mkC u_437 q_459 101 60) q_19 = 101 := kd_mkC hk_442 hq_460 (by decide)
  have hk_467 : kd (mkC u_437 q_459 101 60) q_33 = 101 := kd_mkC hk_443 hq_460 (by decide)
  have hk_468 : kd (mkC u_437 q_459 101 60) q_49 = 101 := kd_mkC hk_444 hq_460 (by decide)
  have hk_469 : kd (mkC u_437 q_459 101 60) q_59 = 101 := kd_mkC hk_445 hq_460 (by decide)
  have hk_470 : kd (mkC u_437 q_459 101 60) q_79 = 101 := kd_mkC hk_446 hq_460 (by decide)
  have hk_471 : kd (mkC u_437 q_459 101 60) q_101 = 101 := kd_mkC hk_447 hq_460 (by decide)
  have hk_472 : kd (mkC u_437 q_459 101 60) q_114 = 101 := kd_mkC hk_448 hq_460 (by decide)
  have hk_473 : kd (mkC u_437 q_459 101 60) q_140 = 101 := kd_mkC hk_449 hq_460 (by decide)
  have hk_474 : kd (mkC u_437 q_459 101 60) q_168 = 101 := kd_mkC hk_450 hq_460 (by decide)
  have hk_475 : kd (mkC u_437 q_459 101 60) q_184 = 101 := kd_mkC hk_451 hq_460 (by decide)
  have hk_476 : kd (mkC u_437 q_459 101 60) q_216 = 101 := kd_mkC hk_452 hq_460 (by decide)
  have hk_477 : kd (mkC u_437 q_459 101 60) q_250 = 101 := kd_mkC hk_453 hq_460 (by decide)
  have hk_478 : kd (mkC u_437 q_459 101 60) q_269 = 104 := kd_mkC hk_454 hq_460 (by decide)
  have hk_479 : kd (mkC u_437 q_459 101 60) q_307 = 101 := kd_mkC hk_455 hq_460 (by decide)
  have hk_480 : kd (mkC u_437 q_459 101 60) q_347 = 101 := kd_mkC hk_456 hq_460 (by decide)
  have hk_481 : kd (mkC u_437 q_459 101 60) q_369 = 101 := kd_mkC hk_457 hq_460 (by decide)
  have hk_482 : kd (mkC u_437 q_459 101 60) q_413 = 101 := kd_mkC hk_458 hq_460 (by decide)
  have hk_483 : kd (mkC u_437 q_459 101 60) q_459 = 101 := hu1_eq
  refine g_putFO (v := (some q_459)) X hin hw in_X19 tyX19_ok nmX19 hk_463 rfl 39 rfl (by decide) q1490 (fun _ z => z) rfl rfl rfl rfl dX19_init_172 (fun H locs hw => ?_)
  refine lv_aload_n hx hb dX19_init_175 rfl (lv_at hl 0 rfl) ?_
  refine lv_bipush (v := 60) hx hb dX19_init_176 (by decide) ?_
  obtain ⟨hm_486, hm_487, h⟩ := h
  refine g_newI X hw q279 (N' := 60) (by decide) (by decide) (by decide) (by show _ ≤ MC; omega) (by show _ ≤ MS; omega) dX19_init_178 (fun q_484 H hq_485 hw => ?_)
  have h := h q_484 hq_485
  have hk_488 : kd (mkC (sFR (mkC u_437 q_459 101 60) 1939 a0 (some q_459)) q_484 101 60) a0 = 16 := kd_mkC hk_463 hq_485 (by decide)
  have hk_489 : kd (mkC (sFR (mkC u_437 q_459 101 60) 1939 a0 (some q_459)) q_484 101 60) q_2 = 102 := kd_mkC hk_464 hq_485 (by decide)
  have hk_490 : kd (mkC (sFR (mkC u_437 q_459 101 60) 1939 a0 (some q_459)) q_484 101 60) q_12 = 102 := kd_mkC hk_465 hq_485 (by decide)
  have hk_491 : kd (mkC (sFR (mkC u_437 q_459 101 60) 1939 a0 (some q_459)) q_484 101 60) q_19 = 101 := kd_mkC hk_466 hq_485 (by decide)
  have hk_492 : kd (mkC (sFR (mkC u_437 q_459 101 60) 1939 a0 (some q_459)) q_484 101 60) q_33 = 101 := kd_mkC hk_467 hq_485 (by decide)
  have hk_493 : kd (mkC (sFR (mkC u_437 q_459 101 60) 1939 a0 (some q_459)) q_484 101 60) q_49 = 101 := kd_mkC hk_468 hq_485 (by decide)
  have hk_494 : kd (mkC (sFR (mkC u_437 q_459 101 60) 1939 a0 (some q_459)) q_484 101 60) q_59 = 101 := kd_mkC hk_469 hq_485 (by decide)
  have hk_495 : kd (mkC (sFR (mkC u_437 q_459 101 60) 1939 a0 (some q_459)) q_484 101 60) q_79 = 101 := kd_mkC hk_470 hq_485 (by decide)
  have hk_496 : kd (mkC (sFR (mkC u_437 q_459 101 60) 1939 a0 (some q_459)) q_484 101 60) q_101 = 101 := kd_mkC hk_471 hq_485 (by decide)
  have hk_497 : kd (mkC (sFR (mkC u_437 q_459 101 60) 1939 a0 (some q_459)) q_484 101 60) q_114 = 101 := kd_mkC hk_472 hq_485 (by decide)
  have hk_498 : kd (mkC (sFR (mkC u_437 q_459 101 60) 1939 a0 (some q_459)) q_484 101 60) q_140 = 101 := kd_mkC hk_473 hq_485 (by decide)
  have hk_499 : kd (mkC (sFR (mkC u_437 q_459 101 60) 1939 a0 (some q_459)) q_484 101 60) q_168 = 101 := kd_mkC hk_474 hq_485 (by decide)
  have hk_500 : kd (mkC (sFR (mkC u_437 q_459 101 60) 1939 a0 (some q_459)) q_484 101 60) q_184 = 101 := kd_mkC hk_475 hq_485 (by decide)
  have hk_501 : kd (mkC (sFR (mkC u_437 q_459 101 60) 1939 a0 (some q_459)) q_484 101 60) q_216 = 101 := kd_mkC hk_476 hq_485 (by decide)
  have hk_502 : kd (mkC (sFR (mkC u_437 q_459 101 60) 1939 a0 (some q_459)) q_484 101 60) q_250 = 101 := kd_mkC hk_477 hq_485 (by decide)
  have hk_503 : kd (mkC (sFR (mkC u_437 q_459 101 60) 1939 a0 (some q_459)) q_484 101 60) q_269 = 104 := kd_mkC hk_478 hq_485 (by decide)
  have hk_504 : kd (mkC (sFR (mkC u_437 q_459 101 60) 1939 a0 (some q_459)) q_484 101 60) q_307 = 101 := kd_mkC hk_479 hq_485 (by decide)
  have hk_505 : kd (mkC (sFR (mkC u_437 q_459 101 60) 1939 a0 (some q_459)) q_484 101 60) q_347 = 101 := kd_mkC hk_480 hq_485 (by decide)
  have hk_506 : kd (mkC (sFR (mkC u_437 q_459 101 60) 1939 a0 (some q_459)) q_484 101 60) q_369 = 101 := kd_mkC hk_481 hq_485 (by decide)
  have hk_507 : kd (mkC (sFR (mkC u_437 q_459 101 60) 1939 a0 (some q_459)) q_484 101 60) q_413 = 101 := kd_mkC hk_482 hq_485 (by decide)
  have hk_508 : kd (mkC (sFR (mkC u_437 q_459 101 60) 1939 a0 (some q_459)) q_484 101 60) q_459 = 101 := kd_mkC hk_483 hq_485 (by decide)
  have hk_509 : kd (mkC (sFR (mkC u_437 q_459 101 60) 1939 a0 (some q_459)) q_484 101 60) q_484 = 101 := hu1_eq
  obtain ⟨u_510, e_511⟩ : ∃ v : Hp, v = (mkC (sFR (mkC u_437 q_459 101 60) 1939 a0 (some q_459)) q_484 101 60) := ⟨_, rfl⟩
  have h := h u_510 e_511
  have hw : GW G u_510 s H locs := by rw [e_511]; exact hw
  have hk_512 : kd u_510 a0 = 16 := by rw [e_511]; exact hk_488
  have hk_513 : kd u_510 q_2 = 102 := by rw [e_511]; exact hk_489
  have hk_514 : kd u_510 q_12 = 102 := by rw [e_511]; exact hk_490
  have hk_515 : kd u_510 q_19 = 101 := by rw [e_511]; exact hk_491
  have hk_516 : kd u_510 q_33 = 101 := by rw [e_511]; exact hk_492
  have hk_517 : kd u_510 q_49 = 101 := by rw [e_511]; exact hk_493
  have hk_518 : kd u_510 q_59 = 101 := by rw [e_511]; exact hk_494
  have hk_519 : kd u_510 q_79 = 101 := by rw [e_511]; exact hk_495
  have hk_520 : kd u_510 q_101 = 101 := by rw [e_511]; exact hk_496
  have hk_521 : kd u_510 q_114 = 101 := by rw [e_511]; exact hk_497
  have hk_522 : kd u_510 q_140 = 101 := by rw [e_511]; exact hk_498
  have hk_523 : kd u_510 q_168 = 101 := by rw [e_511]; exact hk_499
  have hk_524 : kd u_510 q_184 = 101 := by rw [e_511]; exact hk_500
  have hk_525 : kd u_510 q_216 = 101 := by rw [e_511]; exact hk_501
  have hk_526 : kd u_510 q_250 = 101 := by rw [e_511]; exact hk_502
  have hk_527 : kd u_510 q_269 = 104 := by rw [e_511]; exact hk_503
  have hk_528 : kd u_510 q_307 = 101 := by rw [e_511]; exact hk_504
  have hk_529 : kd u_510 q_347 = 101 := by rw [e_511]; exact hk_505
  have hk_530 : kd u_510 q_369 = 101 := by rw [e_511]; exact hk_506
  have hk_531 : kd u_510 q_413 = 101 := by rw [e_511]; exact hk_507
  have hk_532 : kd u_510 q_459 = 101 := by rw [e_511]; exact hk_508
  have hk_533 : kd u_510 q_484 = 101 := by rw [e_511]; exact hk_509
  refine g_putFO (v := (some q_484)) X hin hw in_X19 tyX19_ok nmX19 hk_512 rfl 40 rfl (by decide) q1491 (fun _ z => z) rfl rfl rfl rfl dX19_init_180 (fun H locs hw => ?_)
  refine lv_aload_n hx hb dX19_init_183 rfl (lv_at hl 0 rfl) ?_
  refine lv_iconst (v := 3) hx hb dX19_init_184 (by decide) ?_
  obtain ⟨hm_536, hm_537, h⟩ := h
  refine g_newI X hw q279 (N' := 3) (by decide) (by decide) (by decide) (by show _ ≤ MC; omega) (by show _ ≤ MS; omega) dX19_init_185 (fun q_534 H hq_535 hw => ?_)
  have h := h q_534 hq_535
  have hk_538 : kd (mkC (sFR u_510 1940 a0 (some q_484)) q_534 101 3) a0 = 16 := kd_mkC hk_512 hq_535 (by decide)
  have hk_539 : kd (mkC (sFR u_510 1940 a0 (some q_484)) q_534 101 3) q_2 = 102 := kd_mkC hk_513 hq_535 (by decide)
  have hk_540 : kd (mkC (sFR u_510 1940 a0 (some q_484)) q_534 101 3) q_12 = 102 := kd_mkC hk_514 hq_535 (by decide)
  have hk_541 : kd (mkC (sFR u_510 1940 a0 (some q_484)) q_534 101 3) q_19 = 101 := kd_mkC hk_515 hq_535 (by decide)
  have hk_542 : kd (mkC (sFR u_510 1940 a0 (some q_484)) q_534 101 3) q_33 = 101 := kd_mkC hk_516 hq_535 (by decide)
  have hk_543 : kd (mkC (sFR u_510 1940 a0 (some q_484)) q_534 101 3) q_49 = 101 := kd_mkC hk_517 hq_535 (by decide)
  have hk_544 : kd (mkC (sFR u_510 1940 a0 (some q_484)) q_534 101 3) q_59 = 101 := kd_mkC hk_518 hq_535 (by decide)
  have hk_545 : kd (mkC (sFR u_510 1940 a0 (some q_484)) q_534 101 3) q_79 = 101 := kd_mkC hk_519 hq_535 (by decide)
  have hk_546 : kd (mkC (sFR u_510 1940 a0 (some q_484)) q_534 101 3) q_101 = 101 := kd_mkC hk_520 hq_535 (by decide)
  have hk_547 : kd (mkC (sFR u_510 1940 a0 (some q_484)) q_534 101 3) q_114 = 101 := kd_mkC hk_521 hq_535 (by decide)
  have hk_548 : kd (mkC (sFR u_510 1940 a0 (some q_484)) q_534 101 3) q_140 = 101 := kd_mkC hk_522 hq_535 (by decide)
  have hk_549 : kd (mkC (sFR u_510 1940 a0 (some q_484)) q_534 101 3) q_168 = 101 := kd_mkC hk_523 hq_535 (by decide)
  have hk_550 : kd (mkC (sFR u_510 1940 a0 (some q_484)) q_534 101 3) q_184 = 101 := kd_mkC hk_524 hq_535 (by decide)
  have hk_551 : kd (mkC (sFR u_510 1940 a0 (some q_484)) q_534 101 3) q_216 = 101 := kd_mkC hk_525 hq_535 (by decide)
  have hk_552 : kd (mkC (sFR u_510 1940 a0 (some q_484)) q_534 101 3) q_250 = 101 := kd_mkC hk_526 hq_535 (by decide)
  have hk_553 : kd (mkC (sFR u_510 1940 a0 (some q_484)) q_534 101 3) q_269 = 104 := kd_mkC hk_527 hq_535 (by decide)
  have hk_554 : kd (mkC (sFR u_510 1940 a0 (some q_484)) q_534 101 3) q_307 = 101 := kd_mkC hk_528 hq_535 (by decide)
  have hk_555 : kd (mkC (sFR u_510 1940 a0 (some q_484)) q_534 101 3) q_347 = 101 := kd_mkC hk_529 hq_535 (by decide)
  have hk_556 : kd (mkC (sFR u_510 1940 a0 (some q_484)) q_534 101 3) q_369 = 101 := kd_mkC hk_530 hq_535 (by decide)
  have hk_557 : kd (mkC (sFR u_510 1940 a0 (some q_484)) q_534 101 3) q_413 = 101 := kd_mkC hk_531 hq_535 (by decide)
  have hk_558 : kd (mkC (sFR u_510 1940 a0 (some q_484)) q_534 101 3) q_459 = 101 := kd_mkC hk_532 hq_535 (by decide)
  have hk_559 : kd (mkC (sFR u_510 1940 a0 (some q_484)) q_534 101 3) q_484 = 101 := kd_mkC hk_533 hq_535 (by decide)
  have hk_560 : kd (mkC (sFR u_510 1940 a0 (some q_484)) q_534 101 3) q_534 = 101 := hu1_eq
  refine g_putFO (v := (some q_534)) X hin hw in_X19 tyX19_ok nmX19 hk_538 rfl 41 rfl (by decide) q1492 (fun _ z => z) rfl rfl rfl rfl dX19_init_187 (fun H locs hw => ?_)
  refine lv_aload_n hx hb dX19_init_190 rfl (lv_at hl 0 rfl) ?_
  refine lv_iconst (v := 3) hx hb dX19_init_191 (by decide) ?_
  obtain ⟨u_561, e_562⟩ : ∃ v : Hp, v = (sFR (mkC (sFR u_510 1940 a0 (some q_484)) q_534 101 3) 1941 a0 (some q_534)) := ⟨_, rfl⟩
  have h := h u_561 e_562
  have hw : GW G u_561 s H locs := by rw [e_562]; exact hw
  have hk_563 : kd u_561 a0 = 16 := by rw [e_562]; exact hk_538
  have hk_564 : kd u_561 q_2 = 102 := by rw [e_562]; exact hk_539
  have hk_565 : kd u_561 q_12 = 102 := by rw [e_562]; exact hk_540
  have hk_566 : kd u_561 q_19 = 101 := by rw [e_562]; exact hk_541
  have hk_567 : kd u_561 q_33 = 101 := by rw [e_562]; exact hk_542
  have hk_568 : kd u_561 q_49 = 101 := by rw [e_562]; exact hk_543
  have hk_569 : kd u_561 q_59 = 101 := by rw [e_562]; exact hk_544
  have hk_570 : kd u_561 q_79 = 101 := by rw [e_562]; exact hk_545
  have hk_571 : kd u_561 q_101 = 101 := by rw [e_562]; exact hk_546
  have hk_572 : kd u_561 q_114 = 101 := by rw [e_562]; exact hk_547
  have hk_573 : kd u_561 q_140 = 101 := by rw [e_562]; exact hk_548
  have hk_574 : kd u_561 q_168 = 101 := by rw [e_562]; exact hk_549
  have hk_575 : kd u_561 q_184 = 101 := by rw [e_562]; exact hk_550
  have hk_576 : kd u_561 q_216 = 101 := by rw [e_562]; exact hk_551
  have hk_577 : kd u_561 q_250 = 101 := by rw [e_562]; exact hk_552
  have hk_578 : kd u_561 q_269 = 104 := by rw [e_562]; exact hk_553
  have hk_579 : kd u_561 q_307 = 101 := by rw [e_562]; exact hk_554
  have hk_580 : kd u_561 q_347 = 101 := by rw [e_562]; exact hk_555
  have hk_581 : kd u_561 q_369 = 101 := by rw [e_562]; exact hk_556
  have hk_582 : kd u_561 q_413 = 101 := by rw [e_562]; exact hk_557
  have hk_583 : kd u_561 q_459 = 101 := by rw [e_562]; exact hk_558
  have hk_584 : kd u_561 q_484 = 101 := by rw [e_562]; exact hk_559
  have hk_585 : kd u_561 q_534 = 101 := by rw [e_562]; exact hk_560
  obtain ⟨hm_588, hm_589, h⟩ := h
  refine g_newI X hw q279 (N' := 3) (by decide) (by decide) (by decide) (by show _ ≤ MC; omega) (by show _ ≤ MS; omega) dX19_init_192 (fun q_586 H hq_587 hw => ?_)
  have h := h q_586 hq_587
  have hk_590 : kd (mkC u_561 q_586 101 3) a0 = 16 := kd_mkC hk_563 hq_587 (by decide)
  have hk_591 : kd (mkC u_561 q_586 101 3) q_2 = 102 := kd_mkC hk_564 hq_587 (by decide)
  have hk_592 : kd (mkC u_561 q_586 101 3) q_12 = 102 := kd_mkC hk_565 hq_587 (by decide)
  have hk_593 : kd (mkC u_561 q_586 101 3) q_19 = 101 := kd_mkC hk_566 hq_587 (by decide)
  have hk_594 : kd (mkC u_561 q_586 101 3) q_33 = 101 := kd_mkC hk_567 hq_587 (by decide)
  have hk_595 : kd (mkC u_561 q_586 101 3) q_49 = 101 := kd_mkC hk_568 hq_587 (by decide)
  have hk_596 : kd (mkC u_561 q_586 101 3) q_59 = 101 := kd_mkC hk_569 hq_587 (by decide)
  have hk_597 : kd (mkC u_561 q_586 101 3) q_79 = 101 := kd_mkC hk_570 hq_587 (by decide)
  have hk_598 : kd (mkC u_561 q_586 101 3) q_101 = 101 := kd_mkC hk_571 hq_587 (by decide)
  have hk_599 : kd (mkC u_561 q_586 101 3) q_114 = 101 := kd_mkC hk_572 hq_587 (by decide)
  have hk_600 : kd (mkC u_561 q_586 101 3) q_140 = 101 := kd_mkC hk_573 hq_587 (by decide)
  have hk_601 : kd (mkC u_561 q_586 101 3) q_168 = 101 := kd_mkC hk_574 hq_587 (by decide)
  have hk_602 : kd (mkC u_561 q_586 101 3) q_184 = 101 := kd_mkC hk_575 hq_587 (by decide)
  have hk_603 : kd (mkC u_561 q_586 101 3) q_216 = 101 := kd_mkC hk_576 hq_587 (by decide)
  have hk_604 : kd (mkC u_561 q_586 101 3) q_250 = 101 := kd_mkC hk_577 hq_587 (by decide)
  have hk_605 : kd (mkC u_561 q_586 101 3) q_269 = 104 := kd_mkC hk_578 hq_587 (by decide)
  have hk_606 : kd (mkC u_561 q_586 101 3) q_307 = 101 := kd_mkC hk_579 hq_587 (by decide)
  have hk_607 : kd (mkC u_561 q_586 101 3) q_347 = 101 := kd_mkC hk_580 hq_587 (by decide)
  have hk_608 : kd (mkC u_561 q_586 101 3) q_369 = 101 := kd_mkC hk_581 hq_587 (by decide)
  have hk_609 : kd (mkC u_561 q_586 101 3) q_413 = 101 := kd_mkC hk_582 hq_587 (by decide)
  have hk_610 : kd (mkC u_561 q_586 101 3) q_459 = 101 := kd_mkC hk_583 hq_587 (by decide)
  have hk_611 : kd (mkC u_561 q_586 101 3) q_484 = 101 := kd_mkC hk_584 hq_587 (by decide)
  have hk_612 : kd (mkC u_561 q_586 101 3) q_534 = 101 := kd_mkC hk_585 hq_587 (by decide)
  have hk_613 : kd (mkC u_561 q_586 101 3) q_586 = 101 := hu1_eq
  refine g_putFO (v := (some q_586)) X hin hw in_X19 tyX19_ok nmX19 hk_590 rfl 42 rfl (by decide) q1493 (fun _ z => z) rfl rfl rfl rfl dX19_init_194 (fun H locs hw => ?_)
  exact g_vret X hw hr h (by omega) (by omega) dX19_init_197

/-! FifthCard.bytes(I)V -/
theorem ydX1_bytes : yX1_bytes.cls = "FifthCard" ∧ yX1_bytes.cls ≠ "java/lang/invoke/MethodHandle" ∧ yX1_bytes.cls ≠ "java/lang/invoke/VarHandle" ∧ (parseMethodDescriptor yX1_bytes.desc).map (fun d => d.parameters.length) = some 1 := by decide +kernel
def rmX1_bytes (mc ms : Nat) : Room := { frames := 0, cells := mc, slots := ms, locals := 0 }
set_option maxHeartbeats 4000000 in
theorem wX1_bytes_3 {G : GT} {p : Program} {l : Launch} {e : Env} {s : State} {m : MethodId} {args : Array Value} {below : List Frame} {meth : Method} {c : Code} {H : Heap} {locs : List Loc} {ls : Array Slot} {a0 : Nat} {x1 : Int32} {x2 : Int32} {u : Hp} {K : Hp → Prop} (X : Mc G p s m args meth c RX1 cX1_bytes 3) (hr : meth.sig.returnType = none) (h : jl2 (bX1_bytes_3 K a0 x1) x2 u) (hw : GW G u s H locs) (hl : lv_has ls 3 [(0, .ref a0), (1, .int x1), (2, .int x2)]) : W p l e (rmX1_bytes 0 0) s m args below meth c H locs 0 0 (QV G below K args s 0 0) (F0 m 3 ls []) := by
  obtain ⟨hx, hb, hml, hown, hts, -⟩ := id X
  obtain ⟨I, μ, h0, hs⟩ := h
  have key : ∀ (n : Nat) (x2 : Int32) (u : Hp) (H : Heap) (locs : List Loc) (ls : Array Slot) , μ x2 u < n → I x2 u → GW G u s H locs → lv_has ls 3 [(0, .ref a0), (1, .int x1), (2, .int x2)] → W p l e (rmX1_bytes 0 0) s m args below meth c H locs 0 0 (QV G below K args s 0 0) (F0 m 3 ls []) := by
    intro n
    induction n with
    | zero =>
      intro x2 u H locs ls hn
      exact absurd hn (Nat.not_lt_zero _)
    | succ n ih =>
      intro x2 u H locs ls hn hI hw hl
      have h := hs x2 u hI
      unfold bX1_bytes_3 at h
      have hJ3 : ∀ (x2' : Int32) (u' : Hp) (H : Heap) (locs : List Loc) (ls : Array Slot) , (I x2' u' ∧ μ x2' u' < μ x2 u) → GW G u' s H locs → lv_has ls 3 [(0, .ref a0), (1, .int x1), (2, .int x2')] → W p l e (rmX1_bytes 0 0) s m args below meth c H locs 0 0 (QV G below K args s 0 0) (F0 m 3 ls []) := fun x2' u' H locs ls h hw hl => ih x2' u' H locs ls (Nat.lt_of_lt_of_le h.2 (Nat.le_of_lt_succ hn)) h.1 hw hl
      refine lv_iload_n hx hb dX1_bytes_3 rfl (lv_at hl 2 rfl) ?_
      refine lv_if_lt (tgt := 36) hx hb dX1_bytes_4 rfl (fun c_5 => ?_) (fun c_5 => ?_)
      · have h := h.1 c_5
        exact g_vret X hw hr h (Nat.le_refl _) (Nat.le_refl _) dX1_bytes_36
      · have h := h.2 c_5
        refine lv_aload_n hx hb dX1_bytes_7 rfl (lv_at hl 0 rfl) ?_
        have hk_1 : kd u a0 = 1 := h.1
        have h := h.2
        obtain ⟨b_2, e_3, h⟩ := h
        refine g_getR X hw in_X1 hk_1 rfl 0 rfl (by decide) q473 (fun _ z => z) e_3 dX1_bytes_8 ?_
        refine lv_aload_n hx hb dX1_bytes_11 rfl (lv_at hl 0 rfl) ?_
        refine g_getI X hw in_X1 hk_1 rfl 1 rfl (by decide) q474 (fun _ z => z) dX1_bytes_12 ?_
        refine lv_iload_n hx hb dX1_bytes_15 rfl (lv_at hl 1 rfl) ?_
        refine lv_iload_n hx hb dX1_bytes_16 rfl (lv_at hl 2 rfl) ?_
        refine lv_ishr hx hb dX1_bytes_17 ?_
        refine lv_i2b hx hb dX1_bytes_18 rfl ?_
        have hk_4 : kd u b_2 = 102 := h.1
        have h := h.2
        refine g_bast X hw hk_4 h.1 dX1_bytes_19 (fun H locs hw => ?_)
        have h := h.2
        refine lv_aload_n hx hb dX1_bytes_20 rfl (lv_at hl 0 rfl) ?_
        refine lv_dup hx hb dX1_bytes_21 rfl ?_
        refine g_getI X hw in_X1 hk_1 rfl 1 rfl (by decide) q474 (fun _ z => z) dX1_bytes_22 ?_
        refine lv_iconst (v := 1) hx hb dX1_bytes_25 (by decide) ?_
        refine lv_iadd hx hb dX1_bytes_26 ?_
        refine g_putI (v := (FI u 101 a0) + 1) X hw in_X1 tyX1_ok nmX1 hk_1 rfl 1 rfl (by decide) q474 (fun _ z => z) rfl rfl rfl dX1_bytes_27 (fun H locs hw => ?_)
        refine lv_iinc (v := x2 + (-8)) (lv' := [(2, .int (x2 + (-8))), (0, .ref a0), (1, .int x1)]) hx hb dX1_bytes_30 hl (k := 2) rfl rfl (by decide) rfl (fun ls hl => ?_)
        refine lv_goto (tgt := 3) hx hb dX1_bytes_33 rfl ?_
        exact hJ3 _ _ _ _ _ h hw (lv_sub hl [1, 2, 0] rfl)
  exact key _ _ _ _ _ _ (Nat.lt_succ_self _) h0 hw hl
set_option maxHeartbeats 4000000 in
theorem mX1_bytes (l : Launch) (G : GT) (u : Hp) (a0 : Nat) (x1 : Int32) (K : Hp → Prop) (h : pX1_bytes u a0 x1 K) : Met l yX1_bytes (ws_ yX1_bytes cX1_bytes 3 none) (rmX1_bytes 0 0) (va_Pc [.ref a0, .int x1] (GB G u)) (va_Qv K (fun u t => GH G u t.heap) (GA G)) 0 0 (GA G) := by
  refine Met.ofW (cc := cX1_bytes) (maxL := 3) (ret := none) (by decide) rfl ?_
  intro p e s m args below meth c s₁ B hml hv
  obtain ⟨rfl, hv⟩ := hv
  have X := Mc_of (own := RX1) B hml rfl hv
  have hw : GW G u s s.heap [] := ⟨hv.2.1, va_S.rf⟩
  have hr := B.returns
  obtain ⟨hx, hb, hml, hown, hts, -⟩ := id X
  have hl := lv_entry ([.ref a0, .int x1]) (n := 3) (Nat.le_of_ble_eq_true rfl)
  rw [lg_entry_eq]
  generalize (lg_sl ([.ref a0, .int x1]) ++ List.replicate (3 - (lg_sl ([.ref a0, .int x1])).length) Slot.unset).toArray = ls at hl ⊢
  have hl : lv_has ls 3 [(0, .ref a0), (1, .int x1)] := hl
  change W p l e (rmX1_bytes 0 0) s m _ below meth c s.heap [] 0 0 (QV G below K _ s 0 0) (F0 m 0 ls [])
  unfold pX1_bytes at h
  refine lv_bipush (v := 24) hx hb dX1_bytes_0 (by decide) ?_
  refine lv_istore_n (lv' := [(2, .int 24), (0, .ref a0), (1, .int x1)]) hx hb dX1_bytes_2 rfl hl (by decide) rfl (fun ls hl => ?_)
  exact wX1_bytes_3 X hr  h hw (lv_sub hl [1, 2, 0] rfl)

/-! FifthCard.feed(IIIII)I -/
theorem ydX1_feed : yX1_feed.cls = "FifthCard" ∧ yX1_feed.cls ≠ "java/lang/invoke/MethodHandle" ∧ yX1_feed.cls ≠ "java/lang/invoke/VarHandle" ∧ (parseMethodDescriptor yX1_feed.desc).map (fun d => d.parameters.length) = some 5 := by decide +kernel
def rmX1_feed (mc ms : Nat) : Room := { frames := 1, cells := mc, slots := ms, locals := 22 }
set_option maxHeartbeats 4000000 in
theorem mX1_feed (l : Launch) (G : GT) (u : Hp) (a0 : Nat) (x1 : Int32) (x2 : Int32) (x3 : Int32) (x4 : Int32) (x5 : Int32) (K : Int32 → Hp → Prop) (h : pX1_feed u a0 x1 x2 x3 x4 x5 K) : Met l yX1_feed (ws_ yX1_feed cX1_feed 6 (some .int)) (rmX1_feed 0 0) (va_Pc [.ref a0, .int x1, .int x2, .int x3, .int x4, .int x5] (GB G u)) (va_Qi K (fun u t => GH G u t.heap) (GA G)) 0 0 (GA G) := by
  refine Met.ofW (cc := cX1_feed) (maxL := 6) (ret := (some .int)) (by decide) rfl ?_
  intro p e s m args below meth c s₁ B hml hv
  obtain ⟨rfl, hv⟩ := hv
  have X := Mc_of (own := RX1) B hml rfl hv
  have hw : GW G u s s.heap [] := ⟨hv.2.1, va_S.rf⟩
  have hr := B.returns
  obtain ⟨hx, hb, hml, hown, hts, -⟩ := id X
  have hl := lv_entry ([.ref a0, .int x1, .int x2, .int x3, .int x4, .int x5]) (n := 6) (Nat.le_of_ble_eq_true rfl)
  rw [lg_entry_eq]
  generalize (lg_sl ([.ref a0, .int x1, .int x2, .int x3, .int x4, .int x5]) ++ List.replicate (6 - (lg_sl ([.ref a0, .int x1, .int x2, .int x3, .int x4, .int x5])).length) Slot.unset).toArray = ls at hl ⊢
  have hl : lv_has ls 6 [(0, .ref a0), (1, .int x1), (2, .int x2), (3, .int x3), (4, .int x4), (5, .int x5)] := hl
  change W p l e (rmX1_feed 0 0) s m _ below meth c s.heap [] 0 0 (QI G below K _ s 0 0) (F0 m 0 ls [])
  unfold pX1_feed at h
  refine lv_aload_n hx hb dX1_feed_0 rfl (lv_at hl 0 rfl) ?_
  have hk_1 : kd u a0 = 1 := h.1
  have h := h.2
  refine g_getI X hw in_X1 hk_1 rfl 1 rfl (by decide) q474 (fun _ z => z) dX1_feed_1 ?_
  refine lv_bipush (v := 20) hx hb dX1_feed_4 (by decide) ?_
  refine lv_iadd hx hb dX1_feed_6 ?_
  refine lv_sipush (v := 900) hx hb dX1_feed_7 (by decide) ?_
  refine lv_icmp_le (tgt := 15) hx hb dX1_feed_10 rfl (fun c_12 => ?_) (fun c_12 => ?_)
  · have h := h.1 c_12
    refine lv_aload_n hx hb dX1_feed_15 rfl (lv_at hl 0 rfl) ?_
    refine lv_iload_n hx hb dX1_feed_16 rfl (lv_at hl 1 rfl) ?_
    refine g_callv hw (g_V X hw (mX1_bytes l G _ _ _ _ h) 1 (lw_V q526 q528 qs1 q122 q529) rfl rfl ydX1_bytes ⟨Nat.le_of_ble_eq_true rfl, Nat.le_of_ble_eq_true rfl⟩ (g_recv X hw (ci := 0) (q := (RX1, TX1, 16)) hk_1 rfl) (As := [.int x1]) (rest := []) rfl hl.1 rfl (Nat.le_of_ble_eq_true rfl) dX1_feed_17 ⟨Nat.le_refl _, Nat.le_refl _⟩) (fun u_2 H locs h hw => ?_)
    refine lv_aload_n hx hb dX1_feed_20 rfl (lv_at hl 0 rfl) ?_
    refine lv_iload_n hx hb dX1_feed_21 rfl (lv_at hl 2 rfl) ?_
    have hk_3 : kd u_2 a0 = 1 := h.1
    have h := h.2
    refine g_callv hw (g_V X hw (mX1_bytes l G _ _ _ _ h) 1 (lw_V q526 q528 qs1 q122 q529) rfl rfl ydX1_bytes ⟨Nat.le_of_ble_eq_true rfl, Nat.le_of_ble_eq_true rfl⟩ (g_recv X hw (ci := 0) (q := (RX1, TX1, 16)) hk_3 rfl) (As := [.int x2]) (rest := []) rfl hl.1 rfl (Nat.le_of_ble_eq_true rfl) dX1_feed_22 ⟨Nat.le_refl _, Nat.le_refl _⟩) (fun u_4 H locs h hw => ?_)
    refine lv_aload_n hx hb dX1_feed_25 rfl (lv_at hl 0 rfl) ?_
    refine lv_iload_n hx hb dX1_feed_26 rfl (lv_at hl 3 rfl) ?_
    have hk_5 : kd u_4 a0 = 1 := h.1
    have h := h.2
    refine g_callv hw (g_V X hw (mX1_bytes l G _ _ _ _ h) 1 (lw_V q526 q528 qs1 q122 q529) rfl rfl ydX1_bytes ⟨Nat.le_of_ble_eq_true rfl, Nat.le_of_ble_eq_true rfl⟩ (g_recv X hw (ci := 0) (q := (RX1, TX1, 16)) hk_5 rfl) (As := [.int x3]) (rest := []) rfl hl.1 rfl (Nat.le_of_ble_eq_true rfl) dX1_feed_27 ⟨Nat.le_refl _, Nat.le_refl _⟩) (fun u_6 H locs h hw => ?_)
    refine lv_aload_n hx hb dX1_feed_30 rfl (lv_at hl 0 rfl) ?_
    refine lv_iload hx hb dX1_feed_31 (lv_at hl 4 rfl) ?_
    have hk_7 : kd u_6 a0 = 1 := h.1
    have h := h.2
    refine g_callv hw (g_V X hw (mX1_bytes l G _ _ _ _ h) 1 (lw_V q526 q528 qs1 q122 q529) rfl rfl ydX1_bytes ⟨Nat.le_of_ble_eq_true rfl, Nat.le_of_ble_eq_true rfl⟩ (g_recv X hw (ci := 0) (q := (RX1, TX1, 16)) hk_7 rfl) (As := [.int x4]) (rest := []) rfl hl.1 rfl (Nat.le_of_ble_eq_true rfl) dX1_feed_33 ⟨Nat.le_refl _, Nat.le_refl _⟩) (fun u_8 H locs h hw => ?_)
    refine lv_aload_n hx hb dX1_feed_36 rfl (lv_at hl 0 rfl) ?_
    refine lv_iload hx hb dX1_feed_37 (lv_at hl 5 rfl) ?_
    have hk_9 : kd u_8 a0 = 1 := h.1
    have h := h.2
    refine g_callv hw (g_V X hw (mX1_bytes l G _ _ _ _ h) 1 (lw_V q526 q528 qs1 q122 q529) rfl rfl ydX1_bytes ⟨Nat.le_of_ble_eq_true rfl, Nat.le_of_ble_eq_true rfl⟩ (g_recv X hw (ci := 0) (q := (RX1, TX1, 16)) hk_9 rfl) (As := [.int x5]) (rest := []) rfl hl.1 rfl (Nat.le_of_ble_eq_true rfl) dX1_feed_39 ⟨Nat.le_refl _, Nat.le_refl _⟩) (fun u_10 H locs h hw => ?_)
    refine lv_aload_n hx hb dX1_feed_42 rfl (lv_at hl 0 rfl) ?_
    have hk_11 : kd u_10 a0 = 1 := h.1
    have h := h.2
    refine g_getI X hw in_X1 hk_11 rfl 1 rfl (by decide) q474 (fun _ z => z) dX1_feed_43 ?_
    exact g_iret X hw hr h (Nat.le_refl _) (Nat.le_refl _) dX1_feed_46
  · have h := h.2 c_12
    refine lv_iconst (v := (-1)) hx hb dX1_feed_13 (by decide) ?_
    exact g_iret X hw hr h (Nat.le_refl _) (Nat.le_refl _) dX1_feed_14

/-! FifthCardModel.feed(IIIII)I -/
theorem ydX19_feed : yX19_feed.cls = "FifthCardModel" ∧ yX19_feed.cls ≠ "java/lang/invoke/MethodHandle" ∧ yX19_feed.cls ≠ "java/lang/invoke/VarHandle" ∧ (parseMethodDescriptor yX19_feed.desc).map (fun d => d.parameters.length) = some 5 := by decide +kernel
def rmX19_feed (mc ms : Nat) : Room := { frames := 0, cells := mc, slots := ms, locals := 0 }
set_option maxHeartbeats 4000000 in
theorem wX19_feed_76 {G : GT} {p : Program} {l : Launch} {e : Env} {s : State} {m : MethodId} {args : Array Value} {below : List Frame} {meth : Method} {c : Code} {H : Heap} {locs : List Loc} {ls : Array Slot} {a0 : Nat} {x1 : Int32} {x2 : Int32} {x3 : Int32} {x4 : Int32} {x5 : Int32} {x6 : Int32} {z0 : Int32} {u : Hp} {K : Int32 → Hp → Prop} {J23 : Int32 → Hp → Prop} (X : Mc G p s m args meth c RX19 cX19_feed 8) (hr : meth.sig.returnType = (some .int)) (hJ23 : ∀ (x6 : Int32) (u : Hp) (H : Heap) (locs : List Loc) (ls : Array Slot) , J23 x6 u → GW G u s H locs → lv_has ls 8 [(0, .ref a0), (1, .int x1), (2, .int x2), (3, .int x3), (4, .int x4), (5, .int x5), (6, .int x6)] → W p l e (rmX19_feed 0 0) s m args below meth c H locs 0 0 (QI G below K args s 0 0) (F0 m 23 ls [])) (h : bX19_feed_76 K J23 a0 x1 x2 x3 x4 x5 x6 z0 u) (hw : GW G u s H locs) (hl : lv_has ls 8 [(0, .ref a0), (1, .int x1), (2, .int x2), (3, .int x3), (4, .int x4), (5, .int x5), (6, .int x6)]) : W p l e (rmX19_feed 0 0) s m args below meth c H locs 0 0 (QI G below K args s 0 0) (F0 m 76 ls [.int z0]) := by
  obtain ⟨hx, hb, hml, hown, hts, -⟩ := id X
  unfold bX19_feed_76 at h
  refine lv_istore (lv' := [(7, .int z0), (0, .ref a0), (1, .int x1), (2, .int x2), (3, .int x3), (4, .int x4), (5, .int x5), (6, .int x6)]) hx hb dX19_feed_76 hl (by decide) rfl (fun ls hl => ?_)
  refine lv_aload_n hx hb dX19_feed_78 rfl (lv_at hl 1 rfl) ?_
  have hk_1 : kd u a0 = 16 := h.1
  have h := h.2
  obtain ⟨b_2, e_3, h⟩ := h
  refine g_getR X hw in_X19 hk_1 rfl 5 rfl (by decide) q1456 (fun _ z => z) e_3 dX19_feed_79 ?_
  refine lv_aload_n hx hb dX19_feed_82 rfl (lv_at hl 1 rfl) ?_
  refine g_getI X hw in_X19 hk_1 rfl 6 rfl (by decide) q1457 (fun _ z => z) dX19_feed_83 ?_
  refine lv_iload hx hb dX19_feed_86 (lv_at hl 0 rfl) ?_
  refine lv_bipush (v := 24) hx hb dX19_feed_88 (by decide) ?_
  refine lv_bipush (v := 8) hx hb dX19_feed_90 (by decide) ?_
  refine lv_iload hx hb dX19_feed_92 (lv_at hl 7 rfl) ?_
  refine lv_iconst (v := 4) hx hb dX19_feed_94 (by decide) ?_
  refine lv_irem hx hb dX19_feed_95 (by decide) ?_
  refine lv_imul hx hb dX19_feed_96 ?_
  refine lv_isub hx hb dX19_feed_97 ?_
  refine lv_ishr hx hb dX19_feed_98 ?_
  refine lv_i2b hx hb dX19_feed_99 rfl ?_
  have hk_4 : kd u b_2 = 102 := h.1
  have h := h.2
  refine g_bast X hw hk_4 h.1 dX19_feed_100 (fun H locs hw => ?_)
  have h := h.2
  refine lv_aload_n hx hb dX19_feed_101 rfl (lv_at hl 1 rfl) ?_
  refine lv_dup hx hb dX19_feed_102 rfl ?_
  refine g_getI X hw in_X19 hk_1 rfl 6 rfl (by decide) q1457 (fun _ z => z) dX19_feed_103 ?_
  refine lv_iconst (v := 1) hx hb dX19_feed_106 (by decide) ?_
  refine lv_iadd hx hb dX19_feed_107 ?_
  refine g_putI (v := (FI u 1906 a0) + 1) X hw in_X19 tyX19_ok nmX19 hk_1 rfl 6 rfl (by decide) q1457 (fun _ z => z) rfl rfl rfl dX19_feed_108 (fun H locs hw => ?_)
  refine lv_iinc (v := x6 + 1) (lv' := [(6, .int (x6 + 1)), (7, .int z0), (0, .ref a0), (1, .int x1), (2, .int x2), (3, .int x3), (4, .int x4), (5, .int x5)]) hx hb dX19_feed_111 hl (k := 7) rfl rfl (by decide) rfl (fun ls hl => ?_)
  refine lv_goto (tgt := 23) hx hb dX19_feed_114 rfl ?_
  exact hJ23 _ _ _ _ _ h hw (lv_sub hl [2, 3, 4, 5, 6, 7, 0] rfl)
set_option maxHeartbeats 4000000 in
theorem wX19_feed_23 {G : GT} {p : Program} {l : Launch} {e : Env} {s : State} {m : MethodId} {args : Array Value} {below : List Frame} {meth : Method} {c : Code} {H : Heap} {locs : List Loc} {ls : Array Slot} {a0 : Nat} {x1 : Int32} {x2 : Int32} {x3 : Int32} {x4 : Int32} {x5 : Int32} {x6 : Int32} {u : Hp} {K : Int32 → Hp → Prop} (X : Mc G p s m args meth c RX19 cX19_feed 8) (hr : meth.sig.returnType = (some .int)) (h : jl2 (bX19_feed_23 K a0 x1 x2 x3 x4 x5) x6 u) (hw : GW G u s H locs) (hl : lv_has ls 8 [(0, .ref a0), (1, .int x1), (2, .int x2), (3, .int x3), (4, .int x4), (5, .int x5), (6, .int x6)]) : W p l e (rmX19_feed 0 0) s m args below meth c H locs 0 0 (QI G below K args s 0 0) (F0 m 23 ls []) := by
  obtain ⟨hx, hb, hml, hown, hts, -⟩ := id X
  obtain ⟨I, μ, h0, hs⟩ := h
  have key : ∀ (n : Nat) (x6 : Int32) (u : Hp) (H : Heap) (locs : List Loc) (ls : Array Slot) , μ x6 u < n → I x6 u → GW G u s H locs → lv_has ls 8 [(0, .ref a0), (1, .int x1), (2, .int x2), (3, .int x3), (4, .int x4), (5, .int x5), (6, .int x6)] → W p l e (rmX19_feed 0 0) s m args below meth c H locs 0 0 (QI G below K args s 0 0) (F0 m 23 ls []) := by
    intro n
    induction n with
    | zero =>
      intro x6 u H locs ls hn
      exact absurd hn (Nat.not_lt_zero _)
    | succ n ih =>
      intro x6 u H locs ls hn hI hw hl
      have h := hs x6 u hI
      unfold bX19_feed_23 at h
      have hJ23 : ∀ (x6' : Int32) (u' : Hp) (H : Heap) (locs : List Loc) (ls : Array Slot) , (I x6' u' ∧ μ x6' u' < μ x6 u) → GW G u' s H locs → lv_has ls 8 [(0, .ref a0), (1, .int x1), (2, .int x2), (3, .int x3), (4, .int x4), (5, .int x5), (6, .int x6')] → W p l e (rmX19_feed 0 0) s m args below meth c H locs 0 0 (QI G below K args s 0 0) (F0 m 23 ls []) := fun x6' u' H locs ls h hw hl => ih x6' u' H locs ls (Nat.lt_of_lt_of_le h.2 (Nat.le_of_lt_succ hn)) h.1 hw hl
      refine lv_iload hx hb dX19_feed_23 (lv_at hl 6 rfl) ?_
      refine lv_bipush (v := 20) hx hb dX19_feed_25 (by decide) ?_
      refine lv_icmp_ge (tgt := 117) hx hb dX19_feed_27 rfl (fun c_10 => ?_) (fun c_10 => ?_)
      · have h := h.1 c_10
        refine lv_aload_n hx hb dX19_feed_117 rfl (lv_at hl 0 rfl) ?_
        have hk_5 : kd u a0 = 16 := h.1
        have h := h.2
        refine g_getI X hw in_X19 hk_5 rfl 6 rfl (by decide) q1457 (fun _ z => z) dX19_feed_118 ?_
        exact g_iret X hw hr h (Nat.le_refl _) (Nat.le_refl _) dX19_feed_121
      · have h := h.2 c_10
        refine lv_iload hx hb dX19_feed_30 (lv_at hl 6 rfl) ?_
        refine lv_iconst (v := 4) hx hb dX19_feed_32 (by decide) ?_
        refine lv_icmp_ge (tgt := 40) hx hb dX19_feed_33 rfl (fun c_9 => ?_) (fun c_9 => ?_)
        · have h := h.1 c_9
          refine lv_iload hx hb dX19_feed_40 (lv_at hl 6 rfl) ?_
          refine lv_bipush (v := 8) hx hb dX19_feed_42 (by decide) ?_
          refine lv_icmp_ge (tgt := 51) hx hb dX19_feed_44 rfl (fun c_8 => ?_) (fun c_8 => ?_)
          · have h := h.1 c_8
            refine lv_iload hx hb dX19_feed_51 (lv_at hl 6 rfl) ?_
            refine lv_bipush (v := 12) hx hb dX19_feed_53 (by decide) ?_
            refine lv_icmp_ge (tgt := 62) hx hb dX19_feed_55 rfl (fun c_7 => ?_) (fun c_7 => ?_)
            · have h := h.1 c_7
              refine lv_iload hx hb dX19_feed_62 (lv_at hl 6 rfl) ?_
              refine lv_bipush (v := 16) hx hb dX19_feed_64 (by decide) ?_
              refine lv_icmp_ge (tgt := 74) hx hb dX19_feed_66 rfl (fun c_6 => ?_) (fun c_6 => ?_)
              · have h := h.1 c_6
                refine lv_iload hx hb dX19_feed_74 (lv_at hl 5 rfl) ?_
                exact wX19_feed_76 X hr hJ23  h hw (lv_sub hl [0, 1, 2, 3, 4, 5, 6] rfl)
              · have h := h.2 c_6
                refine lv_iload hx hb dX19_feed_69 (lv_at hl 4 rfl) ?_
                refine lv_goto (tgt := 76) hx hb dX19_feed_71 rfl ?_
                exact wX19_feed_76 X hr hJ23  h hw (lv_sub hl [0, 1, 2, 3, 4, 5, 6] rfl)
            · have h := h.2 c_7
              refine lv_iload_n hx hb dX19_feed_58 rfl (lv_at hl 3 rfl) ?_
              refine lv_goto (tgt := 76) hx hb dX19_feed_59 rfl ?_
              exact wX19_feed_76 X hr hJ23  h hw (lv_sub hl [0, 1, 2, 3, 4, 5, 6] rfl)
          · have h := h.2 c_8
            refine lv_iload_n hx hb dX19_feed_47 rfl (lv_at hl 2 rfl) ?_
            refine lv_goto (tgt := 76) hx hb dX19_feed_48 rfl ?_
            exact wX19_feed_76 X hr hJ23  h hw (lv_sub hl [0, 1, 2, 3, 4, 5, 6] rfl)
        · have h := h.2 c_9
          refine lv_iload_n hx hb dX19_feed_36 rfl (lv_at hl 1 rfl) ?_
          refine lv_goto (tgt := 76) hx hb dX19_feed_37 rfl ?_
          exact wX19_feed_76 X hr hJ23  h hw (lv_sub hl [0, 1, 2, 3, 4, 5, 6] rfl)
  exact key _ _ _ _ _ _ (Nat.lt_succ_self _) h0 hw hl
set_option maxHeartbeats 4000000 in
theorem mX19_feed (l : Launch) (G : GT) (u : Hp) (a0 : Nat) (x1 : Int32) (x2 : Int32) (x3 : Int32) (x4 : Int32) (x5 : Int32) (K : Int32 → Hp → Prop) (h : pX19_feed u a0 x1 x2 x3 x4 x5 K) : Met l yX19_feed (ws_ yX19_feed cX19_feed 8 (some .int)) (rmX19_feed 0 0) (va_Pc [.ref a0, .int x1, .int x2, .int x3, .int x4, .int x5] (GB G u)) (va_Qi K (fun u t => GH G u t.heap) (GA G)) 0 0 (GA G) := by
  refine Met.ofW (cc := cX19_feed) (maxL := 8) (ret := (some .int)) (by decide) rfl ?_
  intro p e s m args below meth c s₁ B hml hv
  obtain ⟨rfl, hv⟩ := hv
  have X := Mc_of (own := RX19) B hml rfl hv
  have hw : GW G u s s.heap [] := ⟨hv.2.1, va_S.rf⟩
  have hr := B.returns
  obtain ⟨hx, hb, hml, hown, hts, -⟩ := id X
  have hl := lv_entry ([.ref a0, .int x1, .int x2, .int x3, .int x4, .int x5]) (n := 8) (Nat.le_of_ble_eq_true rfl)
  rw [lg_entry_eq]
  generalize (lg_sl ([.ref a0, .int x1, .int x2, .int x3, .int x4, .int x5]) ++ List.replicate (8 - (lg_sl ([.ref a0, .int x1, .int x2, .int x3, .int x4, .int x5])).length) Slot.unset).toArray = ls at hl ⊢
  have hl : lv_has ls 8 [(0, .ref a0), (1, .int x1), (2, .int x2), (3, .int x3), (4, .int x4), (5, .int x5)] := hl
  change W p l e (rmX19_feed 0 0) s m _ below meth c s.heap [] 0 0 (QI G below K _ s 0 0) (F0 m 0 ls [])
  unfold pX19_feed at h
  refine lv_aload_n hx hb dX19_feed_0 rfl (lv_at hl 0 rfl) ?_
  refine lv_iconst (v := 0) hx hb dX19_feed_1 (by decide) ?_
  have hk_11 : kd u a0 = 16 := h.1
  have h := h.2
  refine g_putI (v := 0) X hw in_X19 tyX19_ok nmX19 hk_11 rfl 0 rfl (by decide) q1451 (fun _ z => z) rfl rfl rfl dX19_feed_2 (fun H locs hw => ?_)
  refine lv_aload_n hx hb dX19_feed_5 rfl (lv_at hl 0 rfl) ?_
  refine g_getI X hw in_X19 hk_11 rfl 6 rfl (by decide) q1457 (fun _ z => z) dX19_feed_6 ?_
  refine lv_bipush (v := 20) hx hb dX19_feed_9 (by decide) ?_
  refine lv_iadd hx hb dX19_feed_11 ?_
  refine lv_sipush (v := 900) hx hb dX19_feed_12 (by decide) ?_
  refine lv_icmp_le (tgt := 20) hx hb dX19_feed_15 rfl (fun c_12 => ?_) (fun c_12 => ?_)
  · have h := h.1 c_12
    refine lv_iconst (v := 0) hx hb dX19_feed_20 (by decide) ?_
    refine lv_istore (lv' := [(6, .int 0), (0, .ref a0), (1, .int x1), (2, .int x2), (3, .int x3), (4, .int x4), (5, .int x5)]) hx hb dX19_feed_21 hl (by decide) rfl (fun ls hl => ?_)
    exact wX19_feed_23 X hr  h hw (lv_sub hl [1, 2, 3, 4, 5, 6, 0] rfl)
  · have h := h.2 c_12
    refine lv_iconst (v := (-1)) hx hb dX19_feed_18 (by decide) ?_
    exact g_iret X hw hr h (Nat.le_refl _) (Nat.le_refl _) dX19_feed_19

/-! FifthCard.anew()V -/
theorem ydX1_anew : yX1_anew.cls = "FifthCard" ∧ yX1_anew.cls ≠ "java/lang/invoke/MethodHandle" ∧ yX1_anew.cls ≠ "java/lang/invoke/VarHandle" ∧ (parseMethodDescriptor yX1_anew.desc).map (fun d => d.parameters.length) = some 0 := by decide +kernel
def rmX1_anew (mc ms : Nat) : Room := { frames := 0, cells := mc, slots := ms, locals := 0 }
set_option maxHeartbeats 4000000 in
theorem mX1_anew (l : Launch) (G : GT) (u : Hp) (a0 : Nat) (K : Hp → Prop) (h : pX1_anew u a0 K) : Met l yX1_anew (ws_ yX1_anew cX1_anew 1 none) (rmX1_anew 0 0) (va_Pc [.ref a0] (GB G u)) (va_Qv K (fun u t => GH G u t.heap) (GA G)) 0 0 (GA G) := by
  refine Met.ofW (cc := cX1_anew) (maxL := 1) (ret := none) (by decide) rfl ?_
  intro p e s m args below meth c s₁ B hml hv
  obtain ⟨rfl, hv⟩ := hv
  have X := Mc_of (own := RX1) B hml rfl hv
  have hw : GW G u s s.heap [] := ⟨hv.2.1, va_S.rf⟩
  have hr := B.returns
  obtain ⟨hx, hb, hml, hown, hts, -⟩ := id X
  have hl := lv_entry ([.ref a0]) (n := 1) (Nat.le_of_ble_eq_true rfl)
  rw [lg_entry_eq]
  generalize (lg_sl ([.ref a0]) ++ List.replicate (1 - (lg_sl ([.ref a0])).length) Slot.unset).toArray = ls at hl ⊢
  have hl : lv_has ls 1 [(0, .ref a0)] := hl
  change W p l e (rmX1_anew 0 0) s m _ below meth c s.heap [] 0 0 (QV G below K _ s 0 0) (F0 m 0 ls [])
  unfold pX1_anew at h
  refine lv_aload_n hx hb dX1_anew_0 rfl (lv_at hl 0 rfl) ?_
  refine lv_iconst (v := 0) hx hb dX1_anew_1 (by decide) ?_
  have hk_1 : kd u a0 = 1 := h.1
  have h := h.2
  refine g_putI (v := 0) X hw in_X1 tyX1_ok nmX1 hk_1 rfl 4 rfl (by decide) q477 (fun _ z => z) rfl rfl rfl dX1_anew_2 (fun H locs hw => ?_)
  refine lv_aload_n hx hb dX1_anew_5 rfl (lv_at hl 0 rfl) ?_
  refine lv_iconst (v := (-1)) hx hb dX1_anew_6 (by decide) ?_
  refine g_putI (v := (-1)) X hw in_X1 tyX1_ok nmX1 hk_1 rfl 6 rfl (by decide) q479 (fun _ z => z) rfl rfl rfl dX1_anew_7 (fun H locs hw => ?_)
  exact g_vret X hw hr h (Nat.le_refl _) (Nat.le_refl _) dX1_anew_10

/-! FifthCard.in(III)Z -/
theorem ydX1_in : yX1_in.cls = "FifthCard" ∧ yX1_in.cls ≠ "java/lang/invoke/MethodHandle" ∧ yX1_in.cls ≠ "java/lang/invoke/VarHandle" ∧ (parseMethodDescriptor yX1_in.desc).map (fun d => d.parameters.length) = some 3 := by decide +kernel
def rmX1_in (mc ms : Nat) : Room := { frames := 0, cells := mc, slots := ms, locals := 0 }
set_option maxHeartbeats 4000000 in
theorem mX1_in (l : Launch) (G : GT) (u : Hp) (x0 : Int32) (x1 : Int32) (x2 : Int32) (K : Int32 → Prop) (h : pX1_in x0 x1 x2 K) : Met l yX1_in (ws_ yX1_in cX1_in 3 (some .boolean)) (rmX1_in 0 0) (va_Pc [.int x0, .int x1, .int x2] (GB G u)) (va_Qi (fun r v => v = u ∧ K r) (fun u t => GH G u t.heap) (GA G)) 0 0 (GA G) := by
  refine Met.ofW (cc := cX1_in) (maxL := 3) (ret := (some .boolean)) (by decide) rfl ?_
  intro p e s m args below meth c s₁ B hml hv
  obtain ⟨rfl, hv⟩ := hv
  have X := Mc_of (own := RX1) B hml rfl hv
  have hw : GW G u s s.heap [] := ⟨hv.2.1, va_S.rf⟩
  have hr := B.returns
  obtain ⟨hx, hb, hml, hown, hts, -⟩ := id X
  have hl := lv_entry ([.int x0, .int x1, .int x2]) (n := 3) (Nat.le_of_ble_eq_true rfl)
  rw [lg_entry_eq]
  generalize (lg_sl ([.int x0, .int x1, .int x2]) ++ List.replicate (3 - (lg_sl ([.int x0, .int x1, .int x2])).length) Slot.unset).toArray = ls at hl ⊢
  have hl : lv_has ls 3 [(0, .int x0), (1, .int x1), (2, .int x2)] := hl
  change W p l e (rmX1_in 0 0) s m _ below meth c s.heap [] 0 0 (QI G below (fun r v => v = u ∧ K r) _ s 0 0) (F0 m 0 ls [])
  unfold pX1_in at h
  refine lv_iload_n hx hb dX1_in_0 rfl (lv_at hl 0 rfl) ?_
  refine lv_iload_n hx hb dX1_in_1 rfl (lv_at hl 1 rfl) ?_
  refine lv_icmp_lt (tgt := 14) hx hb dX1_in_2 rfl (fun c_2 => ?_) (fun c_2 => ?_)
  · have h := h.1 c_2
    refine lv_iconst (v := 0) hx hb dX1_in_14 (by decide) ?_
    exact g_zret X hw hr rfl ⟨rfl, h⟩ (Nat.le_refl _) (Nat.le_refl _) dX1_in_15
  · have h := h.2 c_2
    refine lv_iload_n hx hb dX1_in_5 rfl (lv_at hl 0 rfl) ?_
    refine lv_iload_n hx hb dX1_in_6 rfl (lv_at hl 2 rfl) ?_
    refine lv_icmp_gt (tgt := 14) hx hb dX1_in_7 rfl (fun c_1 => ?_) (fun c_1 => ?_)
    · have h := h.1 c_1
      refine lv_iconst (v := 0) hx hb dX1_in_14 (by decide) ?_
      exact g_zret X hw hr rfl ⟨rfl, h⟩ (Nat.le_refl _) (Nat.le_refl _) dX1_in_15
    · have h := h.2 c_1
      refine lv_iconst (v := 1) hx hb dX1_in_10 (by decide) ?_
      refine lv_goto (tgt := 15) hx hb dX1_in_11 rfl ?_
      exact g_zret X hw hr rfl ⟨rfl, h⟩ (Nat.le_refl _) (Nat.le_refl _) dX1_in_15

/-! FifthCard.no(I)I -/
theorem ydX1_no : yX1_no.cls = "FifthCard" ∧ yX1_no.cls ≠ "java/lang/invoke/MethodHandle" ∧ yX1_no.cls ≠ "java/lang/invoke/VarHandle" ∧ (parseMethodDescriptor yX1_no.desc).map (fun d => d.parameters.length) = some 1 := by decide +kernel
def rmX1_no (mc ms : Nat) : Room := { frames := 0, cells := mc, slots := ms, locals := 0 }
set_option maxHeartbeats 4000000 in
theorem mX1_no (l : Launch) (G : GT) (u : Hp) (a0 : Nat) (x1 : Int32) (K : Int32 → Hp → Prop) (h : pX1_no u a0 x1 K) : Met l yX1_no (ws_ yX1_no cX1_no 2 (some .int)) (rmX1_no 0 0) (va_Pc [.ref a0, .int x1] (GB G u)) (va_Qi K (fun u t => GH G u t.heap) (GA G)) 0 0 (GA G) := by
  refine Met.ofW (cc := cX1_no) (maxL := 2) (ret := (some .int)) (by decide) rfl ?_
  intro p e s m args below meth c s₁ B hml hv
  obtain ⟨rfl, hv⟩ := hv
  have X := Mc_of (own := RX1) B hml rfl hv
  have hw : GW G u s s.heap [] := ⟨hv.2.1, va_S.rf⟩
  have hr := B.returns
  obtain ⟨hx, hb, hml, hown, hts, -⟩ := id X
  have hl := lv_entry ([.ref a0, .int x1]) (n := 2) (Nat.le_of_ble_eq_true rfl)
  rw [lg_entry_eq]
  generalize (lg_sl ([.ref a0, .int x1]) ++ List.replicate (2 - (lg_sl ([.ref a0, .int x1])).length) Slot.unset).toArray = ls at hl ⊢
  have hl : lv_has ls 2 [(0, .ref a0), (1, .int x1)] := hl
  change W p l e (rmX1_no 0 0) s m _ below meth c s.heap [] 0 0 (QI G below K _ s 0 0) (F0 m 0 ls [])
  unfold pX1_no at h
  refine lv_aload_n hx hb dX1_no_0 rfl (lv_at hl 0 rfl) ?_
  refine lv_iload_n hx hb dX1_no_1 rfl (lv_at hl 1 rfl) ?_
  have hk_1 : kd u a0 = 1 := h.1
  have h := h.2
  refine g_putI (v := x1) X hw in_X1 tyX1_ok nmX1 hk_1 rfl 4 rfl (by decide) q477 (fun _ z => z) rfl rfl rfl dX1_no_2 (fun H locs hw => ?_)
  refine lv_iconst (v := (-1)) hx hb dX1_no_5 (by decide) ?_
  exact g_iret X hw hr h (Nat.le_refl _) (Nat.le_refl _) dX1_no_6

/-! FifthCard$Trick.<init>()V -/
theorem ydX20_init : yX20_init.cls = "FifthCard$Trick" ∧ yX20_init.cls ≠ "java/lang/invoke/MethodHandle" ∧ yX20_init.cls ≠ "java/lang/invoke/VarHandle" ∧ (parseMethodDescriptor yX20_init.desc).map (fun d => d.parameters.length) = some 0 := by decide +kernel
def rmX20_init (mc ms : Nat) : Room := { frames := 1, cells := mc, slots := ms, locals := 20 }
set_option maxHeartbeats 4000000 in
theorem mX20_init (l : Launch) (G : GT) (u : Hp) (a0 : Nat) (MC MS : Nat) (K : Hp → Prop) (h : pX20_init u a0 MC MS K) : Met l yX20_init (ws_ yX20_init cX20_init 1 none) (rmX20_init MC MS) (va_Pc [.ref a0] (GB G u)) (va_Qv K (fun u t => GH G u t.heap) (GA G)) MC MS (GA G) := by
  refine Met.ofW (cc := cX20_init) (maxL := 1) (ret := none) (by decide) rfl ?_
  intro p e s m args below meth c s₁ B hml hv
  obtain ⟨rfl, hv⟩ := hv
  have X := Mc_of (own := RX20) B hml rfl hv
  have hw : GW G u s s.heap [] := ⟨hv.2.1, va_S.rf⟩
  have hr := B.returns
  have hin : meth.name = "<init>" := (name_of_methodNamed B.named B.method).1
  obtain ⟨hx, hb, hml, hown, hts, -⟩ := id X
  have hl := lv_entry ([.ref a0]) (n := 1) (Nat.le_of_ble_eq_true rfl)
  rw [lg_entry_eq]
  generalize (lg_sl ([.ref a0]) ++ List.replicate (1 - (lg_sl ([.ref a0])).length) Slot.unset).toArray = ls at hl ⊢
  have hl : lv_has ls 1 [(0, .ref a0)] := hl
  change W p l e (rmX20_init MC MS) s m _ below meth c s.heap [] 0 0 (QV G below K _ s MC MS) (F0 m 0 ls [])
  unfold pX20_init at h
  have hc1 : 0 + MC ≤ MC := by omega
  have hc2 : 0 + MS ≤ MS := by omega
  refine lv_aload_n hx hb dX20_init_0 rfl (lv_at hl 0 rfl) ?_
  refine W.objInit hx hb hown (hts _ q555) (hts _ q162) (hts _ q163) rfl (by rw [hml]; exact hl.1) rfl dX20_init_1 (Nat.le_of_ble_eq_true rfl) (Nat.le_of_ble_eq_true rfl) ?_
  refine lv_aload_n hx hb dX20_init_4 rfl (lv_at hl 0 rfl) ?_
  refine lv_iconst (v := 4) hx hb dX20_init_5 (by decide) ?_
  obtain ⟨hm_3, hm_4, h⟩ := h
  refine g_newR X hw (k := 106) (t0 := 5) rfl (by decide) q556 (X.2.2.2.2.2.2.1.2.2.2.2.2.1.1) (N' := 4) (by decide) (by decide) (by decide) (by show _ ≤ MC; omega) (by show _ ≤ MS; omega) dX20_init_6 (fun q_1 H hq_2 hw => ?_)
  have h := h q_1 hq_2
  have hk_5 : kd (mkC u q_1 106 4) q_1 = 106 := hu1_eq
  have hk_6 : kd (mkC u q_1 106 4) a0 = 17 := h.1
  have h := h.2
  refine g_putFO (v := (some q_1)) X hin hw in_X20 tyX20_ok nmX20 hk_6 rfl 0 rfl (by decide) q557 (fun _ z => z) rfl rfl rfl rfl dX20_init_9 (fun H locs hw => ?_)
  refine lv_aload_n hx hb dX20_init_12 rfl (lv_at hl 0 rfl) ?_
  refine lv_bipush (v := 9) hx hb dX20_init_13 (by decide) ?_
  obtain ⟨hm_9, hm_10, h⟩ := h
  refine g_newI X hw q279 (N' := 9) (by decide) (by decide) (by decide) (by show _ ≤ MC; omega) (by show _ ≤ MS; omega) dX20_init_15 (fun q_7 H hq_8 hw => ?_)
  have h := h q_7 hq_8
  have hk_11 : kd (mkC (sFR (mkC u q_1 106 4) 2000 a0 (some q_1)) q_7 101 9) q_1 = 106 := kd_mkC hk_5 hq_8 (by decide)
  have hk_12 : kd (mkC (sFR (mkC u q_1 106 4) 2000 a0 (some q_1)) q_7 101 9) a0 = 17 := kd_mkC hk_6 hq_8 (by decide)
  have hk_13 : kd (mkC (sFR (mkC u q_1 106 4) 2000 a0 (some q_1)) q_7 101 9) q_7 = 101 := hu1_eq
  obtain ⟨u_14, e_15⟩ : ∃ v : Hp, v = (mkC (sFR (mkC u q_1 106 4) 2000 a0 (some q_1)) q_7 101 9) := ⟨_, rfl⟩
  have h := h u_14 e_15
  have hw : GW G u_14 s H locs := by rw [e_15]; exact hw
  have hk_16 : kd u_14 q_1 = 106 := by rw [e_15]; exact hk_11
  have hk_17 : kd u_14 a0 = 17 := by rw [e_15]; exact hk_12
  have hk_18 : kd u_14 q_7 = 101 := by rw [e_15]; exact hk_13
  refine g_putFO (v := (some q_7)) X hin hw in_X20 tyX20_ok nmX20 hk_17 rfl 1 rfl (by decide) q560 (fun _ z => z) rfl rfl rfl rfl dX20_init_17 (fun H locs hw => ?_)
  refine lv_aload_n hx hb dX20_init_20 rfl (lv_at hl 0 rfl) ?_
  refine lv_bipush (v := 9) hx hb dX20_init_21 (by decide) ?_
  obtain ⟨hm_21, hm_22, h⟩ := h
  refine g_newI X hw q279 (N' := 9) (by decide) (by decide) (by decide) (by show _ ≤ MC; omega) (by show _ ≤ MS; omega) dX20_init_23 (fun q_19 H hq_20 hw => ?_)
  have h := h q_19 hq_20
  have hk_23 : kd (mkC (sFR u_14 2001 a0 (some q_7)) q_19 101 9) q_1 = 106 := kd_mkC hk_16 hq_20 (by decide)
  have hk_24 : kd (mkC (sFR u_14 2001 a0 (some q_7)) q_19 101 9) a0 = 17 := kd_mkC hk_17 hq_20 (by decide)
  have hk_25 : kd (mkC (sFR u_14 2001 a0 (some q_7)) q_19 101 9) q_7 = 101 := kd_mkC hk_18 hq_20 (by decide)
  have hk_26 : kd (mkC (sFR u_14 2001 a0 (some q_7)) q_19 101 9) q_19 = 101 := hu1_eq
  refine g_putFO (v := (some q_19)) X hin hw in_X20 tyX20_ok nmX20 hk_24 rfl 2 rfl (by decide) q563 (fun _ z => z) rfl rfl rfl rfl dX20_init_25 (fun H locs hw => ?_)
  refine lv_aload_n hx hb dX20_init_28 rfl (lv_at hl 0 rfl) ?_
  refine lv_iconst (v := 5) hx hb dX20_init_29 (by decide) ?_
  obtain ⟨u_27, e_28⟩ : ∃ v : Hp, v = (sFR (mkC (sFR u_14 2001 a0 (some q_7)) q_19 101 9) 2002 a0 (some q_19)) := ⟨_, rfl⟩
  have h := h u_27 e_28
  have hw : GW G u_27 s H locs := by rw [e_28]; exact hw
  have hk_29 : kd u_27 q_1 = 106 := by rw [e_28]; exact hk_23
  have hk_30 : kd u_27 a0 = 17 := by rw [e_28]; exact hk_24
  have hk_31 : kd u_27 q_7 = 101 := by rw [e_28]; exact hk_25
  have hk_32 : kd u_27 q_19 = 101 := by rw [e_28]; exact hk_26
  obtain ⟨hm_35, hm_36, h⟩ := h
  refine g_newI X hw q279 (N' := 5) (by decide) (by decide) (by decide) (by show _ ≤ MC; omega) (by show _ ≤ MS; omega) dX20_init_30 (fun q_33 H hq_34 hw => ?_)
  have h := h q_33 hq_34
  have hk_37 : kd (mkC u_27 q_33 101 5) q_1 = 106 := kd_mkC hk_29 hq_34 (by decide)
  have hk_38 : kd (mkC u_27 q_33 101 5) a0 = 17 := kd_mkC hk_30 hq_34 (by decide)
  have hk_39 : kd (mkC u_27 q_33 101 5) q_7 = 101 := kd_mkC hk_31 hq_34 (by decide)
  have hk_40 : kd (mkC u_27 q_33 101 5) q_19 = 101 := kd_mkC hk_32 hq_34 (by decide)
  have hk_41 : kd (mkC u_27 q_33 101 5) q_33 = 101 := hu1_eq
  refine g_putFO (v := (some q_33)) X hin hw in_X20 tyX20_ok nmX20 hk_38 rfl 12 rfl (by decide) q612 (fun _ z => z) rfl rfl rfl rfl dX20_init_32 (fun H locs hw => ?_)
  exact g_vret X hw hr h (by omega) (by omega) dX20_init_35

/-! FifthCard$Reader.see(I)I -/
theorem ydX2_see : yX2_see.cls = "FifthCard$Reader" ∧ yX2_see.cls ≠ "java/lang/invoke/MethodHandle" ∧ yX2_see.cls ≠ "java/lang/invoke/VarHandle" ∧ (parseMethodDescriptor yX2_see.desc).map (fun d => d.parameters.length) = some 1 := by decide +kernel
def rmX2_see (mc ms : Nat) : Room := { frames := 0, cells := mc, slots := ms, locals := 0 }
set_option maxHeartbeats 4000000 in
theorem mX2_see (l : Launch) (G : GT) (u : Hp) (a0 : Nat) (x1 : Int32) (K : Int32 → Prop) (h : pX2_see u a0 x1 K) : Met l yX2_see (ws_ yX2_see cX2_see 2 (some .int)) (rmX2_see 0 0) (va_Pc [.ref a0, .int x1] (GB G u)) (va_Qi (fun r v => v = u ∧ K r) (fun u t => GH G u t.heap) (GA G)) 0 0 (GA G) := by
  refine Met.ofW (cc := cX2_see) (maxL := 2) (ret := (some .int)) (by decide) rfl ?_
  intro p e s m args below meth c s₁ B hml hv
  obtain ⟨rfl, hv⟩ := hv
  have X := Mc_of (own := RX2) B hml rfl hv
  have hw : GW G u s s.heap [] := ⟨hv.2.1, va_S.rf⟩
  have hr := B.returns
  obtain ⟨hx, hb, hml, hown, hts, -⟩ := id X
  have hl := lv_entry ([.ref a0, .int x1]) (n := 2) (Nat.le_of_ble_eq_true rfl)
  rw [lg_entry_eq]
  generalize (lg_sl ([.ref a0, .int x1]) ++ List.replicate (2 - (lg_sl ([.ref a0, .int x1])).length) Slot.unset).toArray = ls at hl ⊢
  have hl : lv_has ls 2 [(0, .ref a0), (1, .int x1)] := hl
  change W p l e (rmX2_see 0 0) s m _ below meth c s.heap [] 0 0 (QI G below (fun r v => v = u ∧ K r) _ s 0 0) (F0 m 0 ls [])
  unfold pX2_see at h
  refine lv_iload_n hx hb dX2_see_0 rfl (lv_at hl 1 rfl) ?_
  refine lv_aload_n hx hb dX2_see_1 rfl (lv_at hl 0 rfl) ?_
  have hk_1 : kd u a0 = 2 := h.1
  have h := h.2
  refine g_getI X hw in_X2 hk_1 rfl 4 rfl (by decide) q248 (fun _ z => z) dX2_see_2 ?_
  refine lv_icmp_ge (tgt := 21) hx hb dX2_see_5 rfl (fun c_5 => ?_) (fun c_5 => ?_)
  · have h := h.1 c_5
    refine lv_iconst (v := (-1)) hx hb dX2_see_21 (by decide) ?_
    exact g_iret X hw hr ⟨rfl, h⟩ (Nat.le_refl _) (Nat.le_refl _) dX2_see_22
  · have h := h.2 c_5
    refine lv_aload_n hx hb dX2_see_8 rfl (lv_at hl 0 rfl) ?_
    obtain ⟨b_2, e_3, h⟩ := h
    refine g_getR X hw in_X2 hk_1 rfl 1 rfl (by decide) q245 (fun _ z => z) e_3 dX2_see_9 ?_
    refine lv_iload_n hx hb dX2_see_12 rfl (lv_at hl 1 rfl) ?_
    have hk_4 : kd u b_2 = 102 ∨ kd u b_2 = 202 := h.1
    have h := h.2
    refine g_bald X hw hk_4 h.1 dX2_see_13 ?_
    have h := h.2
    refine lv_sipush (v := 255) hx hb dX2_see_14 (by decide) ?_
    refine lv_iand hx hb dX2_see_17 ?_
    refine lv_goto (tgt := 22) hx hb dX2_see_18 rfl ?_
    exact g_iret X hw hr ⟨rfl, h⟩ (Nat.le_refl _) (Nat.le_refl _) dX2_see_22

/-! FifthCard$Reader.isSmall(I)Z -/
theorem ydX2_isSmall : yX2_isSmall.cls = "FifthCard$Reader" ∧ yX2_isSmall.cls ≠ "java/lang/invoke/MethodHandle" ∧ yX2_isSmall.cls ≠ "java/lang/invoke/VarHandle" ∧ (parseMethodDescriptor yX2_isSmall.desc).map (fun d => d.parameters.length) = some 1 := by decide +kernel
def rmX2_isSmall (mc ms : Nat) : Room := { frames := 1, cells := mc, slots := ms, locals := 22 }
set_option maxHeartbeats 4000000 in
theorem mX2_isSmall (l : Launch) (G : GT) (u : Hp) (x0 : Int32) (K : Int32 → Prop) (h : pX2_isSmall x0 K) : Met l yX2_isSmall (ws_ yX2_isSmall cX2_isSmall 1 (some .boolean)) (rmX2_isSmall 0 0) (va_Pc [.int x0] (GB G u)) (va_Qi (fun r v => v = u ∧ K r) (fun u t => GH G u t.heap) (GA G)) 0 0 (GA G) := by
  refine Met.ofW (cc := cX2_isSmall) (maxL := 1) (ret := (some .boolean)) (by decide) rfl ?_
  intro p e s m args below meth c s₁ B hml hv
  obtain ⟨rfl, hv⟩ := hv
  have X := Mc_of (own := RX2) B hml rfl hv
  have hw : GW G u s s.heap [] := ⟨hv.2.1, va_S.rf⟩
  have hr := B.returns
  obtain ⟨hx, hb, hml, hown, hts, -⟩ := id X
  have hl := lv_entry ([.int x0]) (n := 1) (Nat.le_of_ble_eq_true rfl)
  rw [lg_entry_eq]
  generalize (lg_sl ([.int x0]) ++ List.replicate (1 - (lg_sl ([.int x0])).length) Slot.unset).toArray = ls at hl ⊢
  have hl : lv_has ls 1 [(0, .int x0)] := hl
  change W p l e (rmX2_isSmall 0 0) s m _ below meth c s.heap [] 0 0 (QI G below (fun r v => v = u ∧ K r) _ s 0 0) (F0 m 0 ls [])
  unfold pX2_isSmall at h
  refine lv_iload_n hx hb dX2_isSmall_0 rfl (lv_at hl 0 rfl) ?_
  refine lv_bipush (v := 97) hx hb dX2_isSmall_1 (by decide) ?_
  refine lv_bipush (v := 122) hx hb dX2_isSmall_3 (by decide) ?_
  refine g_callio hw (g_SN X hw (mX1_in l G _ _ _ _ _ h) 3 q541 q122 (List.mem_of_getElem? (i := 26) rfl) q540 rfl rfl ydX1_in ⟨Nat.le_of_ble_eq_true rfl, Nat.le_of_ble_eq_true rfl⟩ (As := [.int x0, .int 97, .int 122]) (rest := []) rfl hl.1 rfl (Nat.le_of_ble_eq_true rfl) dX2_isSmall_5 ⟨Nat.le_refl _, Nat.le_refl _⟩) (fun r_1 H locs h hw => ?_)
  exact g_zret X hw hr h.1 ⟨rfl, h.2⟩ (Nat.le_refl _) (Nat.le_refl _) dX2_isSmall_8

/-! FifthCard$Reader.isDigit(I)Z -/
theorem ydX2_isDigit : yX2_isDigit.cls = "FifthCard$Reader" ∧ yX2_isDigit.cls ≠ "java/lang/invoke/MethodHandle" ∧ yX2_isDigit.cls ≠ "java/lang/invoke/VarHandle" ∧ (parseMethodDescriptor yX2_isDigit.desc).map (fun d => d.parameters.length) = some 1 := by decide +kernel
def rmX2_isDigit (mc ms : Nat) : Room := { frames := 1, cells := mc, slots := ms, locals := 22 }
set_option maxHeartbeats 4000000 in
theorem mX2_isDigit (l : Launch) (G : GT) (u : Hp) (x0 : Int32) (K : Int32 → Prop) (h : pX2_isDigit x0 K) : Met l yX2_isDigit (ws_ yX2_isDigit cX2_isDigit 1 (some .boolean)) (rmX2_isDigit 0 0) (va_Pc [.int x0] (GB G u)) (va_Qi (fun r v => v = u ∧ K r) (fun u t => GH G u t.heap) (GA G)) 0 0 (GA G) := by
  refine Met.ofW (cc := cX2_isDigit) (maxL := 1) (ret := (some .boolean)) (by decide) rfl ?_
  intro p e s m args below meth c s₁ B hml hv
  obtain ⟨rfl, hv⟩ := hv
  have X := Mc_of (own := RX2) B hml rfl hv
  have hw : GW G u s s.heap [] := ⟨hv.2.1, va_S.rf⟩
  have hr := B.returns
  obtain ⟨hx, hb, hml, hown, hts, -⟩ := id X
  have hl := lv_entry ([.int x0]) (n := 1) (Nat.le_of_ble_eq_true rfl)
  rw [lg_entry_eq]
  generalize (lg_sl ([.int x0]) ++ List.replicate (1 - (lg_sl ([.int x0])).length) Slot.unset).toArray = ls at hl ⊢
  have hl : lv_has ls 1 [(0, .int x0)] := hl
  change W p l e (rmX2_isDigit 0 0) s m _ below meth c s.heap [] 0 0 (QI G below (fun r v => v = u ∧ K r) _ s 0 0) (F0 m 0 ls [])
  unfold pX2_isDigit at h
  refine lv_iload_n hx hb dX2_isDigit_0 rfl (lv_at hl 0 rfl) ?_
  refine lv_bipush (v := 48) hx hb dX2_isDigit_1 (by decide) ?_
  refine lv_bipush (v := 57) hx hb dX2_isDigit_3 (by decide) ?_
  refine g_callio hw (g_SN X hw (mX1_in l G _ _ _ _ _ h) 3 q541 q122 (List.mem_of_getElem? (i := 26) rfl) q540 rfl rfl ydX1_in ⟨Nat.le_of_ble_eq_true rfl, Nat.le_of_ble_eq_true rfl⟩ (As := [.int x0, .int 48, .int 57]) (rest := []) rfl hl.1 rfl (Nat.le_of_ble_eq_true rfl) dX2_isDigit_5 ⟨Nat.le_refl _, Nat.le_refl _⟩) (fun r_1 H locs h hw => ?_)
  exact g_zret X hw hr h.1 ⟨rfl, h.2⟩ (Nat.le_refl _) (Nat.le_refl _) dX2_isDigit_8

/-! FifthCard$Reader.next()V -/
theorem ydX2_next : yX2_next.cls = "FifthCard$Reader" ∧ yX2_next.cls ≠ "java/lang/invoke/MethodHandle" ∧ yX2_next.cls ≠ "java/lang/invoke/VarHandle" ∧ (parseMethodDescriptor yX2_next.desc).map (fun d => d.parameters.length) = some 0 := by decide +kernel
def rmX2_next (mc ms : Nat) : Room := { frames := 4, cells := mc, slots := ms, locals := 99 }
set_option maxHeartbeats 4000000 in
theorem wX2_next_202 {G : GT} {p : Program} {l : Launch} {e : Env} {s : State} {m : MethodId} {args : Array Value} {below : List Frame} {meth : Method} {c : Code} {H : Heap} {locs : List Loc} {ls : Array Slot} {cells slots : Nat} {MC MS : Nat} {a0 : Nat} {x1 : Int32} {mc : Nat} {ms : Nat} {u : Hp} {K : Hp → Prop} (X : Mc G p s m args meth c RX2 cX2_next 3) (hr : meth.sig.returnType = none) (hc1 : cells + mc ≤ MC) (hc2 : slots + ms ≤ MS) (h : jl1 (bX2_next_202 K (Glit G) a0 x1 mc ms) u) (hw : GW G u s H locs) (hl : lv_has ls 3 [(0, .ref a0), (1, .int x1)]) : W p l e (rmX2_next MC MS) s m args below meth c H locs cells slots (QV G below K args s MC MS) (F0 m 202 ls []) := by
  obtain ⟨hx, hb, hml, hown, hts, -⟩ := id X
  obtain ⟨I, μ, h0, hs⟩ := h
  have key : ∀ (n : Nat) (u : Hp) (H : Heap) (locs : List Loc) (ls : Array Slot) (cells slots : Nat) , cells + mc ≤ MC → slots + ms ≤ MS → μ u < n → I u → GW G u s H locs → lv_has ls 3 [(0, .ref a0), (1, .int x1)] → W p l e (rmX2_next MC MS) s m args below meth c H locs cells slots (QV G below K args s MC MS) (F0 m 202 ls []) := by
    intro n
    induction n with
    | zero =>
      intro u H locs ls cells slots hc1 hc2 hn
      exact absurd hn (Nat.not_lt_zero _)
    | succ n ih =>
      intro u H locs ls cells slots hc1 hc2 hn hI hw hl
      have h := hs u hI
      unfold bX2_next_202 at h
      have hJ202 : ∀ (u' : Hp) (H : Heap) (locs : List Loc) (ls : Array Slot) (cells slots : Nat) , cells + mc ≤ MC → slots + ms ≤ MS → (I u' ∧ μ u' < μ u) → GW G u' s H locs → lv_has ls 3 [(0, .ref a0), (1, .int x1)] → W p l e (rmX2_next MC MS) s m args below meth c H locs cells slots (QV G below K args s MC MS) (F0 m 202 ls []) := fun u' H locs ls cells slots g1 g2 h hw hl => ih u' H locs ls cells slots g1 g2 (Nat.lt_of_lt_of_le h.2 (Nat.le_of_lt_succ hn)) h.1 hw hl
      refine lv_aload_n hx hb dX2_next_202 rfl (lv_at hl 0 rfl) ?_
      refine lv_aload_n hx hb dX2_next_203 rfl (lv_at hl 0 rfl) ?_
      have hk_1 : kd u a0 = 2 := h.1
      have h := h.2
      refine g_getI X hw in_X2 hk_1 rfl 5 rfl (by decide) q249 (fun _ z => z) dX2_next_204 ?_
      refine g_callio hw (g_V X hw (mX2_see l G _ _ _ _ h) 1 (lw_V q644 q646 qs5 q123 q647) rfl rfl ydX2_see ⟨Nat.le_of_ble_eq_true rfl, Nat.le_of_ble_eq_true rfl⟩ (g_recv X hw (ci := 1) (q := (RX2, TX2, 11)) hk_1 rfl) (As := [.int (FI u 205 a0)]) (rest := []) rfl hl.1 rfl (Nat.le_of_ble_eq_true rfl) dX2_next_207 ⟨(by show _ ≤ MC; omega), (by show _ ≤ MS; omega)⟩) (fun r_2 H locs h hw => ?_)
      refine g_callio hw (g_S X hw (mX2_isDigit l G _ _ _ h) 1 (lw_S q731 q732 q123 q733) rfl rfl ydX2_isDigit ⟨Nat.le_of_ble_eq_true rfl, Nat.le_of_ble_eq_true rfl⟩ (As := [.int r_2]) (rest := []) rfl hl.1 rfl (Nat.le_of_ble_eq_true rfl) dX2_next_210 ⟨(by show _ ≤ MC; omega), (by show _ ≤ MS; omega)⟩) (fun r_3 H locs h hw => ?_)
      refine lv_if_eq (tgt := 262) hx hb dX2_next_213 rfl (fun c_7 => ?_) (fun c_7 => ?_)
      · have h := h.1 c_7
        refine lv_aload_n hx hb dX2_next_262 rfl (lv_at hl 0 rfl) ?_
        refine lv_aload_n hx hb dX2_next_263 rfl (lv_at hl 0 rfl) ?_
        refine g_getI X hw in_X2 hk_1 rfl 5 rfl (by decide) q249 (fun _ z => z) dX2_next_264 ?_
        refine lv_iload_n hx hb dX2_next_267 rfl (lv_at hl 1 rfl) ?_
        refine lv_isub hx hb dX2_next_268 ?_
        refine lv_iconst (v := 3) hx hb dX2_next_269 (by decide) ?_
        refine lv_icmp_le (tgt := 277) hx hb dX2_next_270 rfl (fun c_4 => ?_) (fun c_4 => ?_)
        · have h := h.1 c_4
          refine lv_iconst (v := 3) hx hb dX2_next_277 (by decide) ?_
          refine g_putI (v := 3) X hw in_X2 tyX2_ok nmX2 hk_1 rfl 6 rfl (by decide) q250 (fun _ z => z) rfl rfl rfl dX2_next_278 (fun H locs hw => ?_)
          refine lv_goto (tgt := 305) hx hb dX2_next_281 rfl ?_
          exact g_vret X hw hr h (by omega) (by omega) dX2_next_305
        · have h := h.2 c_4
          refine lv_iconst (v := 1) hx hb dX2_next_273 (by decide) ?_
          refine lv_goto (tgt := 278) hx hb dX2_next_274 rfl ?_
          refine g_putI (v := 1) X hw in_X2 tyX2_ok nmX2 hk_1 rfl 6 rfl (by decide) q250 (fun _ z => z) rfl rfl rfl dX2_next_278 (fun H locs hw => ?_)
          refine lv_goto (tgt := 305) hx hb dX2_next_281 rfl ?_
          exact g_vret X hw hr h (by omega) (by omega) dX2_next_305
      · have h := h.2 c_7
        refine lv_aload_n hx hb dX2_next_216 rfl (lv_at hl 0 rfl) ?_
        refine g_getI X hw in_X2 hk_1 rfl 5 rfl (by decide) q249 (fun _ z => z) dX2_next_217 ?_
        refine lv_iload_n hx hb dX2_next_220 rfl (lv_at hl 1 rfl) ?_
        refine lv_isub hx hb dX2_next_221 ?_
        refine lv_iconst (v := 3) hx hb dX2_next_222 (by decide) ?_
        refine lv_icmp_ge (tgt := 249) hx hb dX2_next_223 rfl (fun c_6 => ?_) (fun c_6 => ?_)
        · have h := h.1 c_6
          refine lv_aload_n hx hb dX2_next_249 rfl (lv_at hl 0 rfl) ?_
          refine lv_dup hx hb dX2_next_250 rfl ?_
          refine g_getI X hw in_X2 hk_1 rfl 5 rfl (by decide) q249 (fun _ z => z) dX2_next_251 ?_
          refine lv_iconst (v := 1) hx hb dX2_next_254 (by decide) ?_
          refine lv_iadd hx hb dX2_next_255 ?_
          refine g_putI (v := (FI u 205 a0) + 1) X hw in_X2 tyX2_ok nmX2 hk_1 rfl 5 rfl (by decide) q249 (fun _ z => z) rfl rfl rfl dX2_next_256 (fun H locs hw => ?_)
          refine lv_goto (tgt := 202) hx hb dX2_next_259 rfl ?_
          exact hJ202 _ _ _ _ _ _ (by omega) (by omega) h hw (lv_sub hl [0, 1] rfl)
        · have h := h.2 c_6
          refine lv_aload_n hx hb dX2_next_226 rfl (lv_at hl 0 rfl) ?_
          refine lv_bipush (v := 10) hx hb dX2_next_227 (by decide) ?_
          refine lv_aload_n hx hb dX2_next_229 rfl (lv_at hl 0 rfl) ?_
          refine g_getI X hw in_X2 hk_1 rfl 8 rfl (by decide) q252 (fun _ z => z) dX2_next_230 ?_
          refine lv_imul hx hb dX2_next_233 ?_
          refine lv_aload_n hx hb dX2_next_234 rfl (lv_at hl 0 rfl) ?_
          refine lv_aload_n hx hb dX2_next_235 rfl (lv_at hl 0 rfl) ?_
          refine g_getI X hw in_X2 hk_1 rfl 5 rfl (by decide) q249 (fun _ z => z) dX2_next_236 ?_
          refine g_callio hw (g_V X hw (mX2_see l G _ _ _ _ h) 1 (lw_V q644 q646 qs5 q123 q647) rfl rfl ydX2_see ⟨Nat.le_of_ble_eq_true rfl, Nat.le_of_ble_eq_true rfl⟩ (g_recv X hw (ci := 1) (q := (RX2, TX2, 11)) hk_1 rfl) (As := [.int (FI u 205 a0)]) (rest := [.int (10 * (FI u 208 a0)), .ref a0]) rfl hl.1 rfl (Nat.le_of_ble_eq_true rfl) dX2_next_239 ⟨(by show _ ≤ MC; omega), (by show _ ≤ MS; omega)⟩) (fun r_5 H locs h hw => ?_)
          refine lv_iadd hx hb dX2_next_242 ?_
          refine lv_bipush (v := 48) hx hb dX2_next_243 (by decide) ?_
          refine lv_isub hx hb dX2_next_245 ?_
          refine g_putI (v := ((10 * (FI u 208 a0)) + r_5) - 48) X hw in_X2 tyX2_ok nmX2 hk_1 rfl 8 rfl (by decide) q252 (fun _ z => z) rfl rfl rfl dX2_next_246 (fun H locs hw => ?_)
          refine lv_aload_n hx hb dX2_next_249 rfl (lv_at hl 0 rfl) ?_
          refine lv_dup hx hb dX2_next_250 rfl ?_
          refine g_getI X hw in_X2 hk_1 rfl 5 rfl (by decide) q249 (fun _ z => z) dX2_next_251 ?_
          refine lv_iconst (v := 1) hx hb dX2_next_254 (by decide) ?_
          refine lv_iadd hx hb dX2_next_255 ?_
          refine g_putI (v := (FI (sFI u 208 a0 (((10 * (FI u 208 a0)) + r_5) - 48)) 205 a0) + 1) X hw in_X2 tyX2_ok nmX2 hk_1 rfl 5 rfl (by decide) q249 (fun _ z => z) rfl rfl rfl dX2_next_256 (fun H locs hw => ?_)
          refine lv_goto (tgt := 202) hx hb dX2_next_259 rfl ?_
          exact hJ202 _ _ _ _ _ _ (by omega) (by omega) h hw (lv_sub hl [0, 1] rfl)
  exact key _ _ _ _ _ _ _ hc1 hc2 (Nat.lt_succ_self _) h0 hw hl
set_option maxHeartbeats 4000000 in
theorem wX2_next_144 {G : GT} {p : Program} {l : Launch} {e : Env} {s : State} {m : MethodId} {args : Array Value} {below : List Frame} {meth : Method} {c : Code} {H : Heap} {locs : List Loc} {ls : Array Slot} {cells slots : Nat} {MC MS : Nat} {a0 : Nat} {x1 : Int32} {z0 : Int32} {z1 : Nat} {u : Hp} {mc : Nat} {ms : Nat} {K : Hp → Prop} (X : Mc G p s m args meth c RX2 cX2_next 3) (hr : meth.sig.returnType = none) (hc1 : cells + mc ≤ MC) (hc2 : slots + ms ≤ MS) (h : bX2_next_144 K (Glit G) a0 x1 z0 z1 u mc ms) (hw : GW G u s H locs) (hl : lv_has ls 3 [(0, .ref a0), (1, .int x1)]) : W p l e (rmX2_next MC MS) s m args below meth c H locs cells slots (QV G below K args s MC MS) (F0 m 144 ls [.int z0, .ref z1]) := by
  obtain ⟨hx, hb, hml, hown, hts, -⟩ := id X
  unfold bX2_next_144 at h
  have hk_8 : kd u z1 = 2 := h.1
  have h := h.2
  refine g_putI (v := z0) X hw in_X2 tyX2_ok nmX2 hk_8 rfl 6 rfl (by decide) q250 (fun _ z => z) rfl rfl rfl dX2_next_144 (fun H locs hw => ?_)
  refine lv_aload_n hx hb dX2_next_147 rfl (lv_at hl 0 rfl) ?_
  refine lv_aload_n hx hb dX2_next_148 rfl (lv_at hl 0 rfl) ?_
  have hk_9 : kd u a0 = 2 := h.1
  have h := h.2
  refine g_getI X hw in_X2 hk_9 rfl 6 rfl (by decide) q250 (fun _ z => z) dX2_next_149 ?_
  refine lv_iconst (v := 2) hx hb dX2_next_152 (by decide) ?_
  refine lv_icmp_ne (tgt := 177) hx hb dX2_next_153 rfl (fun c_25 => ?_) (fun c_25 => ?_)
  · have h := h.2 c_25
    refine va_ldcS (tx := "") hx hb hown (X.2.2.2.2.2.2.1.2.2.2.2.2.2.1 1 ("FifthCard$Reader", 63, "") rfl) dX2_next_177 ?_
    refine g_putO (v := (some (Glit G 1))) X hw in_X2 tyX2_ok nmX2 hk_9 rfl 9 rfl (by decide) q253 (fun _ z => z) rfl rfl rfl dX2_next_179 (fun H locs hw => ?_)
    refine lv_goto (tgt := 305) hx hb dX2_next_182 rfl ?_
    exact g_vret X hw hr h (by omega) (by omega) dX2_next_305
  · have h := h.1 c_25
    obtain ⟨hm_12, hm_13, h⟩ := h
    refine g_new X hw (T := TJ3) (N := 4) in_J3 tyJ3_ok (ci := 20) rfl df_J3 q652 q653 q145 (by show _ ≤ MC; omega) (by show _ ≤ MS; omega) dX2_next_156 (fun q_10 H hq_11 hw => ?_)
    have h := h q_10 hq_11
    have hk_14 : kd (mkC (sFI u 206 z1 z0) q_10 21 0) z1 = 2 := kd_mkC hk_8 hq_11 (by decide)
    have hk_15 : kd (mkC (sFI u 206 z1 z0) q_10 21 0) a0 = 2 := kd_mkC hk_9 hq_11 (by decide)
    have hk_16 : kd (mkC (sFI u 206 z1 z0) q_10 21 0) q_10 = 21 := hu1_eq
    refine lv_dup hx hb dX2_next_159 rfl ?_
    refine lv_aload_n hx hb dX2_next_160 rfl (lv_at hl 0 rfl) ?_
    obtain ⟨b_17, e_18, h⟩ := h
    refine g_getR X hw in_X2 hk_15 rfl 2 rfl (by decide) q246 (fun _ z => z) e_18 dX2_next_161 ?_
    refine lv_iconst (v := 0) hx hb dX2_next_164 (by decide) ?_
    refine lv_aload_n hx hb dX2_next_165 rfl (lv_at hl 0 rfl) ?_
    refine g_getI X hw in_X2 hk_15 rfl 5 rfl (by decide) q249 (fun _ z => z) dX2_next_166 ?_
    refine lv_iload_n hx hb dX2_next_169 rfl (lv_at hl 1 rfl) ?_
    refine lv_isub hx hb dX2_next_170 ?_
    obtain ⟨q_19, q_20, hq_21, hq_22, h⟩ := h
    refine g_callv hw (g_I X hw (mJ3_init l G _ _ _ _ _ _ _ _ h) 3 q656 q145 q654 q655 rfl rfl rfl ydJ3_init ⟨Nat.le_of_ble_eq_true rfl, Nat.le_of_ble_eq_true rfl⟩ (As := [.ref b_17, .int 0, .int ((FI (mkC (sFI u 206 z1 z0) q_10 21 0) 205 a0) - x1)]) (rest := [.ref q_10, .ref a0]) rfl hl.1 rfl (Nat.le_of_ble_eq_true rfl) dX2_next_171 ⟨(by show _ ≤ MC; omega), (by show _ ≤ MS; omega)⟩) (fun u_23 H locs h hw => ?_)
    refine lv_goto (tgt := 179) hx hb dX2_next_174 rfl ?_
    have hk_24 : kd u_23 a0 = 2 := h.1
    have h := h.2
    refine g_putO (v := (some q_10)) X hw in_X2 tyX2_ok nmX2 hk_24 rfl 9 rfl (by decide) q253 (fun _ z => z) rfl rfl rfl dX2_next_179 (fun H locs hw => ?_)
    refine lv_goto (tgt := 305) hx hb dX2_next_182 rfl ?_
    exact g_vret X hw hr h (by omega) (by omega) dX2_next_305
set_option maxHeartbeats 4000000 in
theorem wX2_next_69 {G : GT} {p : Program} {l : Launch} {e : Env} {s : State} {m : MethodId} {args : Array Value} {below : List Frame} {meth : Method} {c : Code} {H : Heap} {locs : List Loc} {ls : Array Slot} {cells slots : Nat} {MC MS : Nat} {a0 : Nat} {x1 : Int32} {mc : Nat} {ms : Nat} {u : Hp} {K : Hp → Prop} (X : Mc G p s m args meth c RX2 cX2_next 3) (hr : meth.sig.returnType = none) (hc1 : cells + mc ≤ MC) (hc2 : slots + ms ≤ MS) (h : jl1 (bX2_next_69 K (Glit G) a0 x1 mc ms) u) (hw : GW G u s H locs) (hl : lv_has ls 3 [(0, .ref a0), (1, .int x1)]) : W p l e (rmX2_next MC MS) s m args below meth c H locs cells slots (QV G below K args s MC MS) (F0 m 69 ls []) := by
  obtain ⟨hx, hb, hml, hown, hts, -⟩ := id X
  obtain ⟨I, μ, h0, hs⟩ := h
  have key : ∀ (n : Nat) (u : Hp) (H : Heap) (locs : List Loc) (ls : Array Slot) (cells slots : Nat) , cells + mc ≤ MC → slots + ms ≤ MS → μ u < n → I u → GW G u s H locs → lv_has ls 3 [(0, .ref a0), (1, .int x1)] → W p l e (rmX2_next MC MS) s m args below meth c H locs cells slots (QV G below K args s MC MS) (F0 m 69 ls []) := by
    intro n
    induction n with
    | zero =>
      intro u H locs ls cells slots hc1 hc2 hn
      exact absurd hn (Nat.not_lt_zero _)
    | succ n ih =>
      intro u H locs ls cells slots hc1 hc2 hn hI hw hl
      have h := hs u hI
      unfold bX2_next_69 at h
      have hJ69 : ∀ (u' : Hp) (H : Heap) (locs : List Loc) (ls : Array Slot) (cells slots : Nat) , cells + mc ≤ MC → slots + ms ≤ MS → (I u' ∧ μ u' < μ u) → GW G u' s H locs → lv_has ls 3 [(0, .ref a0), (1, .int x1)] → W p l e (rmX2_next MC MS) s m args below meth c H locs cells slots (QV G below K args s MC MS) (F0 m 69 ls []) := fun u' H locs ls cells slots g1 g2 h hw hl => ih u' H locs ls cells slots g1 g2 (Nat.lt_of_lt_of_le h.2 (Nat.le_of_lt_succ hn)) h.1 hw hl
      refine lv_aload_n hx hb dX2_next_69 rfl (lv_at hl 0 rfl) ?_
      refine lv_aload_n hx hb dX2_next_70 rfl (lv_at hl 0 rfl) ?_
      have hk_26 : kd u a0 = 2 := h.1
      have h := h.2
      refine g_getI X hw in_X2 hk_26 rfl 5 rfl (by decide) q249 (fun _ z => z) dX2_next_71 ?_
      refine g_callio hw (g_V X hw (mX2_see l G _ _ _ _ h) 1 (lw_V q644 q646 qs5 q123 q647) rfl rfl ydX2_see ⟨Nat.le_of_ble_eq_true rfl, Nat.le_of_ble_eq_true rfl⟩ (g_recv X hw (ci := 1) (q := (RX2, TX2, 11)) hk_26 rfl) (As := [.int (FI u 205 a0)]) (rest := []) rfl hl.1 rfl (Nat.le_of_ble_eq_true rfl) dX2_next_74 ⟨(by show _ ≤ MC; omega), (by show _ ≤ MS; omega)⟩) (fun r_27 H locs h hw => ?_)
      refine g_callio hw (g_S X hw (mX2_isSmall l G _ _ _ h) 1 (lw_S q648 q649 q123 q650) rfl rfl ydX2_isSmall ⟨Nat.le_of_ble_eq_true rfl, Nat.le_of_ble_eq_true rfl⟩ (As := [.int r_27]) (rest := []) rfl hl.1 rfl (Nat.le_of_ble_eq_true rfl) dX2_next_77 ⟨(by show _ ≤ MC; omega), (by show _ ≤ MS; omega)⟩) (fun r_28 H locs h hw => ?_)
      refine lv_if_eq (tgt := 127) hx hb dX2_next_80 rfl (fun c_35 => ?_) (fun c_35 => ?_)
      · have h := h.1 c_35
        refine lv_aload_n hx hb dX2_next_127 rfl (lv_at hl 0 rfl) ?_
        refine lv_aload_n hx hb dX2_next_128 rfl (lv_at hl 0 rfl) ?_
        refine g_getI X hw in_X2 hk_26 rfl 5 rfl (by decide) q249 (fun _ z => z) dX2_next_129 ?_
        refine lv_iload_n hx hb dX2_next_132 rfl (lv_at hl 1 rfl) ?_
        refine lv_isub hx hb dX2_next_133 ?_
        refine lv_bipush (v := 8) hx hb dX2_next_134 (by decide) ?_
        refine lv_icmp_le (tgt := 143) hx hb dX2_next_136 rfl (fun c_29 => ?_) (fun c_29 => ?_)
        · have h := h.1 c_29
          refine lv_iconst (v := 2) hx hb dX2_next_143 (by decide) ?_
          exact wX2_next_144 X hr (by omega) (by omega) h hw (lv_sub hl [0, 1] rfl)
        · have h := h.2 c_29
          refine lv_iconst (v := 1) hx hb dX2_next_139 (by decide) ?_
          refine lv_goto (tgt := 144) hx hb dX2_next_140 rfl ?_
          exact wX2_next_144 X hr (by omega) (by omega) h hw (lv_sub hl [0, 1] rfl)
      · have h := h.2 c_35
        refine lv_aload_n hx hb dX2_next_83 rfl (lv_at hl 0 rfl) ?_
        refine g_getI X hw in_X2 hk_26 rfl 5 rfl (by decide) q249 (fun _ z => z) dX2_next_84 ?_
        refine lv_iload_n hx hb dX2_next_87 rfl (lv_at hl 1 rfl) ?_
        refine lv_isub hx hb dX2_next_88 ?_
        refine lv_bipush (v := 8) hx hb dX2_next_89 (by decide) ?_
        refine lv_icmp_ge (tgt := 114) hx hb dX2_next_91 rfl (fun c_34 => ?_) (fun c_34 => ?_)
        · have h := h.1 c_34
          refine lv_aload_n hx hb dX2_next_114 rfl (lv_at hl 0 rfl) ?_
          refine lv_dup hx hb dX2_next_115 rfl ?_
          refine g_getI X hw in_X2 hk_26 rfl 5 rfl (by decide) q249 (fun _ z => z) dX2_next_116 ?_
          refine lv_iconst (v := 1) hx hb dX2_next_119 (by decide) ?_
          refine lv_iadd hx hb dX2_next_120 ?_
          refine g_putI (v := (FI u 205 a0) + 1) X hw in_X2 tyX2_ok nmX2 hk_26 rfl 5 rfl (by decide) q249 (fun _ z => z) rfl rfl rfl dX2_next_121 (fun H locs hw => ?_)
          refine lv_goto (tgt := 69) hx hb dX2_next_124 rfl ?_
          exact hJ69 _ _ _ _ _ _ (by omega) (by omega) h hw (lv_sub hl [0, 1] rfl)
        · have h := h.2 c_34
          refine lv_aload_n hx hb dX2_next_94 rfl (lv_at hl 0 rfl) ?_
          obtain ⟨b_30, e_31, h⟩ := h
          refine g_getR X hw in_X2 hk_26 rfl 2 rfl (by decide) q246 (fun _ z => z) e_31 dX2_next_95 ?_
          refine lv_aload_n hx hb dX2_next_98 rfl (lv_at hl 0 rfl) ?_
          refine g_getI X hw in_X2 hk_26 rfl 5 rfl (by decide) q249 (fun _ z => z) dX2_next_99 ?_
          refine lv_iload_n hx hb dX2_next_102 rfl (lv_at hl 1 rfl) ?_
          refine lv_isub hx hb dX2_next_103 ?_
          refine lv_aload_n hx hb dX2_next_104 rfl (lv_at hl 0 rfl) ?_
          refine lv_aload_n hx hb dX2_next_105 rfl (lv_at hl 0 rfl) ?_
          refine g_getI X hw in_X2 hk_26 rfl 5 rfl (by decide) q249 (fun _ z => z) dX2_next_106 ?_
          refine g_callio hw (g_V X hw (mX2_see l G _ _ _ _ h) 1 (lw_V q644 q646 qs5 q123 q647) rfl rfl ydX2_see ⟨Nat.le_of_ble_eq_true rfl, Nat.le_of_ble_eq_true rfl⟩ (g_recv X hw (ci := 1) (q := (RX2, TX2, 11)) hk_26 rfl) (As := [.int (FI u 205 a0)]) (rest := [.int ((FI u 205 a0) - x1), .ref b_30]) rfl hl.1 rfl (Nat.le_of_ble_eq_true rfl) dX2_next_109 ⟨(by show _ ≤ MC; omega), (by show _ ≤ MS; omega)⟩) (fun r_32 H locs h hw => ?_)
          refine lv_i2c hx hb dX2_next_112 rfl ?_
          have hk_33 : kd u b_30 = 103 := h.1
          have h := h.2
          refine g_cast X hw hk_33 h.1 dX2_next_113 (fun H locs hw => ?_)
          have h := h.2
          refine lv_aload_n hx hb dX2_next_114 rfl (lv_at hl 0 rfl) ?_
          refine lv_dup hx hb dX2_next_115 rfl ?_
          refine g_getI X hw in_X2 hk_26 rfl 5 rfl (by decide) q249 (fun _ z => z) dX2_next_116 ?_
          refine lv_iconst (v := 1) hx hb dX2_next_119 (by decide) ?_
          refine lv_iadd hx hb dX2_next_120 ?_
          refine g_putI (v := (FI u 205 a0) + 1) X hw in_X2 tyX2_ok nmX2 hk_26 rfl 5 rfl (by decide) q249 (fun _ z => z) rfl rfl rfl dX2_next_121 (fun H locs hw => ?_)
          refine lv_goto (tgt := 69) hx hb dX2_next_124 rfl ?_
          exact hJ69 _ _ _ _ _ _ (by omega) (by omega) h hw (lv_sub hl [0, 1] rfl)
  exact key _ _ _ _ _ _ _ hc1 hc2 (Nat.lt_succ_self _) h0 hw hl
set_option maxHeartbeats 4000000 in
theorem wX2_next_5 {G : GT} {p : Program} {l : Launch} {e : Env} {s : State} {m : MethodId} {args : Array Value} {below : List Frame} {meth : Method} {c : Code} {H : Heap} {locs : List Loc} {ls : Array Slot} {cells slots : Nat} {MC MS : Nat} {a0 : Nat} {u : Hp} {mc : Nat} {ms : Nat} {x1 : Int32} {K : Hp → Prop} (X : Mc G p s m args meth c RX2 cX2_next 3) (hr : meth.sig.returnType = none) (hc1 : cells + mc ≤ MC) (hc2 : slots + ms ≤ MS) (h : jl1 (bX2_next_5 K (Glit G) a0 u mc ms) x1) (hw : GW G u s H locs) (hl : lv_has ls 3 [(0, .ref a0), (1, .int x1)]) : W p l e (rmX2_next MC MS) s m args below meth c H locs cells slots (QV G below K args s MC MS) (F0 m 5 ls []) := by
  obtain ⟨hx, hb, hml, hown, hts, -⟩ := id X
  obtain ⟨I, μ, h0, hs⟩ := h
  have key : ∀ (n : Nat) (x1 : Int32) (H : Heap) (locs : List Loc) (ls : Array Slot) (cells slots : Nat) , cells + mc ≤ MC → slots + ms ≤ MS → μ x1 < n → I x1 → GW G u s H locs → lv_has ls 3 [(0, .ref a0), (1, .int x1)] → W p l e (rmX2_next MC MS) s m args below meth c H locs cells slots (QV G below K args s MC MS) (F0 m 5 ls []) := by
    intro n
    induction n with
    | zero =>
      intro x1 H locs ls cells slots hc1 hc2 hn
      exact absurd hn (Nat.not_lt_zero _)
    | succ n ih =>
      intro x1 H locs ls cells slots hc1 hc2 hn hI hw hl
      have h := hs x1 hI
      unfold bX2_next_5 at h
      have hJ5 : ∀ (x1' : Int32) (H : Heap) (locs : List Loc) (ls : Array Slot) (cells slots : Nat) , cells + mc ≤ MC → slots + ms ≤ MS → (I x1' ∧ μ x1' < μ x1) → GW G u s H locs → lv_has ls 3 [(0, .ref a0), (1, .int x1')] → W p l e (rmX2_next MC MS) s m args below meth c H locs cells slots (QV G below K args s MC MS) (F0 m 5 ls []) := fun x1' H locs ls cells slots g1 g2 h hw hl => ih x1' H locs ls cells slots g1 g2 (Nat.lt_of_lt_of_le h.2 (Nat.le_of_lt_succ hn)) h.1 hw hl
      refine lv_aload_n hx hb dX2_next_5 rfl (lv_at hl 0 rfl) ?_
      refine lv_iload_n hx hb dX2_next_6 rfl (lv_at hl 1 rfl) ?_
      have hk_36 : kd u a0 = 2 := h.1
      have h := h.2
      refine g_callio hw (g_V X hw (mX2_see l G _ _ _ _ h) 1 (lw_V q644 q646 qs5 q123 q647) rfl rfl ydX2_see ⟨Nat.le_of_ble_eq_true rfl, Nat.le_of_ble_eq_true rfl⟩ (g_recv X hw (ci := 1) (q := (RX2, TX2, 11)) hk_36 rfl) (As := [.int x1]) (rest := []) rfl hl.1 rfl (Nat.le_of_ble_eq_true rfl) dX2_next_7 ⟨(by show _ ≤ MC; omega), (by show _ ≤ MS; omega)⟩) (fun r_37 H locs h hw => ?_)
      refine lv_bipush (v := 32) hx hb dX2_next_10 (by decide) ?_
      refine lv_icmp_ne (tgt := 21) hx hb dX2_next_12 rfl (fun c_52 => ?_) (fun c_52 => ?_)
      · have h := h.2 c_52
        refine lv_aload_n hx hb dX2_next_21 rfl (lv_at hl 0 rfl) ?_
        refine lv_iload_n hx hb dX2_next_22 rfl (lv_at hl 1 rfl) ?_
        refine g_putI (v := x1) X hw in_X2 tyX2_ok nmX2 hk_36 rfl 7 rfl (by decide) q251 (fun _ z => z) rfl rfl rfl dX2_next_23 (fun H locs hw => ?_)
        refine lv_aload_n hx hb dX2_next_26 rfl (lv_at hl 0 rfl) ?_
        refine lv_iload_n hx hb dX2_next_27 rfl (lv_at hl 1 rfl) ?_
        refine lv_iconst (v := 1) hx hb dX2_next_28 (by decide) ?_
        refine lv_iadd hx hb dX2_next_29 ?_
        refine g_putI (v := x1 + 1) X hw in_X2 tyX2_ok nmX2 hk_36 rfl 5 rfl (by decide) q249 (fun _ z => z) rfl rfl rfl dX2_next_30 (fun H locs hw => ?_)
        refine lv_aload_n hx hb dX2_next_33 rfl (lv_at hl 0 rfl) ?_
        refine lv_iload_n hx hb dX2_next_34 rfl (lv_at hl 1 rfl) ?_
        refine g_callio hw (g_V X hw (mX2_see l G _ _ _ _ h) 1 (lw_V q644 q646 qs5 q123 q647) rfl rfl ydX2_see ⟨Nat.le_of_ble_eq_true rfl, Nat.le_of_ble_eq_true rfl⟩ (g_recv X hw (ci := 1) (q := (RX2, TX2, 11)) hk_36 rfl) (As := [.int x1]) (rest := []) rfl hl.1 rfl (Nat.le_of_ble_eq_true rfl) dX2_next_35 ⟨(by show _ ≤ MC; omega), (by show _ ≤ MS; omega)⟩) (fun r_38 H locs h hw => ?_)
        refine lv_istore_n (lv' := [(2, .int r_38), (0, .ref a0), (1, .int x1)]) hx hb dX2_next_38 rfl hl (by decide) rfl (fun ls hl => ?_)
        refine lv_iload_n hx hb dX2_next_39 rfl (lv_at hl 0 rfl) ?_
        refine lv_iconst (v := (-1)) hx hb dX2_next_40 (by decide) ?_
        refine lv_icmp_ne (tgt := 57) hx hb dX2_next_41 rfl (fun c_51 => ?_) (fun c_51 => ?_)
        · have h := h.2 c_51
          refine lv_iload_n hx hb dX2_next_57 rfl (lv_at hl 0 rfl) ?_
          refine g_callio hw (g_S X hw (mX2_isSmall l G _ _ _ h) 1 (lw_S q648 q649 q123 q650) rfl rfl ydX2_isSmall ⟨Nat.le_of_ble_eq_true rfl, Nat.le_of_ble_eq_true rfl⟩ (As := [.int r_38]) (rest := []) rfl hl.1 rfl (Nat.le_of_ble_eq_true rfl) dX2_next_58 ⟨(by show _ ≤ MC; omega), (by show _ ≤ MS; omega)⟩) (fun r_39 H locs h hw => ?_)
          refine lv_if_eq (tgt := 185) hx hb dX2_next_61 rfl (fun c_47 => ?_) (fun c_47 => ?_)
          · have h := h.1 c_47
            refine lv_iload_n hx hb dX2_next_185 rfl (lv_at hl 0 rfl) ?_
            refine g_callio hw (g_S X hw (mX2_isDigit l G _ _ _ h) 1 (lw_S q731 q732 q123 q733) rfl rfl ydX2_isDigit ⟨Nat.le_of_ble_eq_true rfl, Nat.le_of_ble_eq_true rfl⟩ (As := [.int r_38]) (rest := []) rfl hl.1 rfl (Nat.le_of_ble_eq_true rfl) dX2_next_186 ⟨(by show _ ≤ MC; omega), (by show _ ≤ MS; omega)⟩) (fun r_40 H locs h hw => ?_)
            refine lv_if_eq (tgt := 284) hx hb dX2_next_189 rfl (fun c_46 => ?_) (fun c_46 => ?_)
            · have h := h.1 c_46
              refine lv_aload_n hx hb dX2_next_284 rfl (lv_at hl 1 rfl) ?_
              refine lv_iload_n hx hb dX2_next_285 rfl (lv_at hl 0 rfl) ?_
              refine lv_bipush (v := 59) hx hb dX2_next_286 (by decide) ?_
              refine lv_icmp_eq (tgt := 297) hx hb dX2_next_288 rfl (fun c_42 => ?_) (fun c_42 => ?_)
              · have h := h.1 c_42
                refine lv_iload_n hx hb dX2_next_297 rfl (lv_at hl 0 rfl) ?_
                refine lv_goto (tgt := 302) hx hb dX2_next_298 rfl ?_
                refine g_putI (v := r_38) X hw in_X2 tyX2_ok nmX2 hk_36 rfl 6 rfl (by decide) q250 (fun _ z => z) rfl rfl rfl dX2_next_302 (fun H locs hw => ?_)
                exact g_vret X hw hr h (by omega) (by omega) dX2_next_305
              · have h := h.2 c_42
                refine lv_iload_n hx hb dX2_next_291 rfl (lv_at hl 0 rfl) ?_
                refine lv_bipush (v := 44) hx hb dX2_next_292 (by decide) ?_
                refine lv_icmp_ne (tgt := 301) hx hb dX2_next_294 rfl (fun c_41 => ?_) (fun c_41 => ?_)
                · have h := h.2 c_41
                  refine lv_iconst (v := 1) hx hb dX2_next_301 (by decide) ?_
                  refine g_putI (v := 1) X hw in_X2 tyX2_ok nmX2 hk_36 rfl 6 rfl (by decide) q250 (fun _ z => z) rfl rfl rfl dX2_next_302 (fun H locs hw => ?_)
                  exact g_vret X hw hr h (by omega) (by omega) dX2_next_305
                · have h := h.1 c_41
                  refine lv_iload_n hx hb dX2_next_297 rfl (lv_at hl 0 rfl) ?_
                  refine lv_goto (tgt := 302) hx hb dX2_next_298 rfl ?_
                  refine g_putI (v := r_38) X hw in_X2 tyX2_ok nmX2 hk_36 rfl 6 rfl (by decide) q250 (fun _ z => z) rfl rfl rfl dX2_next_302 (fun H locs hw => ?_)
                  exact g_vret X hw hr h (by omega) (by omega) dX2_next_305
            · have h := h.2 c_46
              refine lv_aload_n hx hb dX2_next_192 rfl (lv_at hl 1 rfl) ?_
              refine lv_iconst (v := 0) hx hb dX2_next_193 (by decide) ?_
              refine g_putI (v := 0) X hw in_X2 tyX2_ok nmX2 hk_36 rfl 8 rfl (by decide) q252 (fun _ z => z) rfl rfl rfl dX2_next_194 (fun H locs hw => ?_)
              refine lv_aload_n hx hb dX2_next_197 rfl (lv_at hl 1 rfl) ?_
              refine lv_iload_n hx hb dX2_next_198 rfl (lv_at hl 2 rfl) ?_
              obtain ⟨u_43, e_44⟩ : ∃ v : Hp, v = (sFI (sFI (sFI u 207 a0 x1) 205 a0 (x1 + 1)) 208 a0 0) := ⟨_, rfl⟩
              have h := h u_43 e_44
              have hw : GW G u_43 s H locs := by rw [e_44]; exact hw
              have hk_45 : kd u_43 a0 = 2 := by rw [e_44]; exact hk_36
              refine g_putI (v := x1) X hw in_X2 tyX2_ok nmX2 hk_45 rfl 5 rfl (by decide) q249 (fun _ z => z) rfl rfl rfl dX2_next_199 (fun H locs hw => ?_)
              exact wX2_next_202 X hr (by omega) (by omega) h hw (lv_sub hl [1, 2] rfl)
          · have h := h.2 c_47
            refine lv_aload_n hx hb dX2_next_64 rfl (lv_at hl 1 rfl) ?_
            refine lv_iload_n hx hb dX2_next_65 rfl (lv_at hl 2 rfl) ?_
            refine g_putI (v := x1) X hw in_X2 tyX2_ok nmX2 hk_36 rfl 5 rfl (by decide) q249 (fun _ z => z) rfl rfl rfl dX2_next_66 (fun H locs hw => ?_)
            exact wX2_next_69 X hr (by omega) (by omega) h hw (lv_sub hl [1, 2] rfl)
        · have h := h.1 c_51
          refine lv_aload_n hx hb dX2_next_44 rfl (lv_at hl 1 rfl) ?_
          refine lv_iconst (v := 0) hx hb dX2_next_45 (by decide) ?_
          refine g_putI (v := 0) X hw in_X2 tyX2_ok nmX2 hk_36 rfl 6 rfl (by decide) q250 (fun _ z => z) rfl rfl rfl dX2_next_46 (fun H locs hw => ?_)
          refine lv_aload_n hx hb dX2_next_49 rfl (lv_at hl 1 rfl) ?_
          refine lv_iload_n hx hb dX2_next_50 rfl (lv_at hl 2 rfl) ?_
          obtain ⟨u_48, e_49⟩ : ∃ v : Hp, v = (sFI (sFI (sFI u 207 a0 x1) 205 a0 (x1 + 1)) 206 a0 0) := ⟨_, rfl⟩
          have h := h u_48 e_49
          have hw : GW G u_48 s H locs := by rw [e_49]; exact hw
          have hk_50 : kd u_48 a0 = 2 := by rw [e_49]; exact hk_36
          refine g_putI (v := x1) X hw in_X2 tyX2_ok nmX2 hk_50 rfl 5 rfl (by decide) q249 (fun _ z => z) rfl rfl rfl dX2_next_51 (fun H locs hw => ?_)
          refine lv_goto (tgt := 305) hx hb dX2_next_54 rfl ?_
          exact g_vret X hw hr h (by omega) (by omega) dX2_next_305
      · have h := h.1 c_52
        refine lv_iinc (v := x1 + 1) (lv' := [(1, .int (x1 + 1)), (0, .ref a0)]) hx hb dX2_next_15 hl (k := 1) rfl rfl (by decide) rfl (fun ls hl => ?_)
        refine lv_goto (tgt := 5) hx hb dX2_next_18 rfl ?_
        exact hJ5 _ _ _ _ _ _ (by omega) (by omega) h hw (lv_sub hl [1, 0] rfl)
  exact key _ _ _ _ _ _ _ hc1 hc2 (Nat.lt_succ_self _) h0 hw hl
set_option maxHeartbeats 4000000 in
theorem mX2_next (l : Launch) (G : GT) (u : Hp) (a0 : Nat) (MC MS : Nat) (K : Hp → Prop) (h : pX2_next (Glit G) u a0 MC MS K) : Met l yX2_next (ws_ yX2_next cX2_next 3 none) (rmX2_next MC MS) (va_Pc [.ref a0] (GB G u)) (va_Qv K (fun u t => GH G u t.heap) (GA G)) MC MS (GA G) := by
  refine Met.ofW (cc := cX2_next) (maxL := 3) (ret := none) (by decide) rfl ?_
  intro p e s m args below meth c s₁ B hml hv
  obtain ⟨rfl, hv⟩ := hv
  have X := Mc_of (own := RX2) B hml rfl hv
  have hw : GW G u s s.heap [] := ⟨hv.2.1, va_S.rf⟩
  have hr := B.returns
  obtain ⟨hx, hb, hml, hown, hts, -⟩ := id X
  have hl := lv_entry ([.ref a0]) (n := 3) (Nat.le_of_ble_eq_true rfl)
  rw [lg_entry_eq]
  generalize (lg_sl ([.ref a0]) ++ List.replicate (3 - (lg_sl ([.ref a0])).length) Slot.unset).toArray = ls at hl ⊢
  have hl : lv_has ls 3 [(0, .ref a0)] := hl
  change W p l e (rmX2_next MC MS) s m _ below meth c s.heap [] 0 0 (QV G below K _ s MC MS) (F0 m 0 ls [])
  unfold pX2_next at h
  have hc1 : 0 + MC ≤ MC := by omega
  have hc2 : 0 + MS ≤ MS := by omega
  refine lv_aload_n hx hb dX2_next_0 rfl (lv_at hl 0 rfl) ?_
  have hk_53 : kd u a0 = 2 := h.1
  have h := h.2
  refine g_getI X hw in_X2 hk_53 rfl 5 rfl (by decide) q249 (fun _ z => z) dX2_next_1 ?_
  refine lv_istore_n (lv' := [(1, .int (FI u 205 a0)), (0, .ref a0)]) hx hb dX2_next_4 rfl hl (by decide) rfl (fun ls hl => ?_)
  exact wX2_next_5 X hr (by omega) (by omega) h hw (lv_sub hl [1, 0] rfl)

