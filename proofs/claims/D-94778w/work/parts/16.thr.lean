/-! METHODS THAT THROW, over the pure heap (own work) -/
def XE (G : GT) (C : String) (E : Nat → Hp → Prop) : String → Addr → State → State → Prop := vx_X E (fun X u t => X = C ∧ GH G u t.heap) (GA G)
def TI (G : GT) (C : String) (below : List Frame) (K : Int32 → Hp → Prop) (E : Nat → Hp → Prop) (args : Array Value) (s : State) (mc ms : Nat) : State → Prop := vx_MQ below (va_Qi K (fun u t => GH G u t.heap) (GA G)) (XE G C E) args s mc ms (GA G)
def TV (G : GT) (C : String) (below : List Frame) (K : Hp → Prop) (E : Nat → Hp → Prop) (args : Array Value) (s : State) (mc ms : Nat) : State → Prop := vx_MQ below (va_Qv K (fun u t => GH G u t.heap) (GA G)) (XE G C E) args s mc ms (GA G)
def TR (G : GT) (C : String) (below : List Frame) (K : Option Nat → Hp → Prop) (E : Nat → Hp → Prop) (args : Array Value) (s : State) (mc ms : Nat) : State → Prop := vx_MQ below (va_Qq K (fun u t => GH G u t.heap) (GA G)) (XE G C E) args s mc ms (GA G)
section GX
variable {p : Program} {l : Launch} {e : Env} {R : Room} {s : State} {m : MethodId} {args : Array Value} {below : List Frame} {meth : Method} {c : Code} {H : Heap} {locs : List Loc} {cells slots : Nat} {Q : State → Prop}
variable {cc bytes : ByteArray} {pc nL maxL mc ms index MC MS : Nat} {ls : Array Slot} {As rest st : List Value} {G : GT} {u : Hp} {a b : Nat} {own C C2 host : String} {x y : MethodName} {ret : Option FieldType} {rm : Room} {Qc : Array Value → State → Outcome → State → Prop} {E : Nat → Hp → Prop}
theorem g_cell (X : Mc G p s m args meth c own cc nL) (hw : GW G u s H locs) {ci : Nat} {q : vw_C} (hk : kd u a = ci + 1) (hc : clG[ci]? = some q) : ∃ ce : Cell, H[a]? = some ce ∧ ce.vm = .none ∧ s.vm.findClass q.1 = some ce.cls := by
  have hci := ci_lt hc
  obtain ⟨ws, k0, hP, hD, hL, h0⟩ := GH.at (u := u) (a := a) (by omega) (by omega) hw.1
  rw [cellOf_obj hk hci] at h0
  obtain ⟨q', h1, cell, g1, g2, g3, -⟩ := hP k0 _ h0
  exact ⟨cell, g1, g3, by rw [g2]; exact (X.2.2.2.2.2.2.1.1.1 ci q hc).2.1⟩
theorem g_out (X : Mc G p s m args meth c own cc nL) (ht : ∀ x ∈ c.exceptionTable.toList, False) (hw : GW G u s H locs) {ci : Nat} {q : vw_C} (hk : kd u a = ci + 1) (hc : clG[ci]? = some q) (h : E a u) (h1 : cells ≤ MC) (h2 : slots ≤ MS) : vx_W p l e R s m args below meth c H locs cells slots (vx_MQ below Qc (XE G q.1 E) args s MC MS (GA G)) (F0 m pc ls rest) a := by
  obtain ⟨ce, e1, e2, e3⟩ := g_cell X hw hk hc
  exact vx_out (fun x hx => absurd hx (fun z => ht x z)) X.2.2.2.2.2.1 e1 e2 e3 (fun t hh hvm => ⟨u, h, ⟨rfl, by rw [hh]; exact hw.1⟩, hw.2.F hh⟩) hw.2.2.2 h1 h2
theorem g_throw (X : Mc G p s m args meth c own cc nL) (ht : ∀ x ∈ c.exceptionTable.toList, False) (hw : GW G u s H locs) (hk : kd u a = 3) (h : E a u) (h1 : cells ≤ MC) (h2 : slots ≤ MS) (hdg : decode cc pc = .ok (.athrow, 1)) : W p l e R s m args below meth c H locs cells slots (vx_MQ below Qc (XE G "FifthCard$Refused" E) args s MC MS (GA G)) (F0 m pc ls (.ref a :: rest)) :=
  vx_athrow X.1 X.2.1 hdg (g_out X ht hw (ci := 2) (q := (RX3, TX3, 8)) hk rfl h h1 h2)
theorem g_tcalli {mc ms : Nat} {a0 : Array Value} {K : Int32 → Hp → Prop} (X : Mc G p s m args meth c own cc nL) (ht : ∀ x ∈ c.exceptionTable.toList, False) (hw : GW G u s H locs) (hr : vx_Run p l e R s m args below meth c H locs cells slots mc ms (F0 m pc ls st) rest (va_Qi K (fun u t => GH G u t.heap) (GA G) a0) (XE G C E) (GA G)) (h1 : cells + mc ≤ MC) (h2 : slots + ms ≤ MS)
    (kk : ∀ (r : Int32) (u1 : Hp) (H1 : Heap) (locs1 : List Loc), K r u1 → GW G u1 s H1 locs1 → W p l e R s m args below meth c H1 locs1 (cells + mc) (slots + ms) (vx_MQ below Qc (XE G C E) args s MC MS (GA G)) (F0 m (pc + 3) ls (.int r :: rest))) : W p l e R s m args below meth c H locs cells slots (vx_MQ below Qc (XE G C E) args s MC MS (GA G)) (F0 m pc ls st) :=
  vx_calli hr hw.2 (fun q _ h => h) (fun q h => h) (fun q _ h => h)
    (fun X9 ce q9 u1 t H1 locs1 hh hvm hp hb hz hk hS hce hcv hcl => vx_out (fun x hx => absurd hx (fun z => ht x z)) X.2.2.2.2.2.1 hce hcv hcl (fun t2 hh2 hvm2 => ⟨u1, hp, ⟨hb.1, by rw [hh2, ← hh]; exact hb.2⟩, hS.F hh2⟩) hS.2.2 h1 h2)
    (fun r u1 t H1 locs1 hh hvm hp hb hz hk hS => kk r u1 H1 locs1 hp ⟨by rw [← hh]; exact hb, hS⟩)
theorem g_tcallv {mc ms : Nat} {a0 : Array Value} {K : Hp → Prop} (X : Mc G p s m args meth c own cc nL) (ht : ∀ x ∈ c.exceptionTable.toList, False) (hw : GW G u s H locs) (hr : vx_Run p l e R s m args below meth c H locs cells slots mc ms (F0 m pc ls st) rest (va_Qv K (fun u t => GH G u t.heap) (GA G) a0) (XE G C E) (GA G)) (h1 : cells + mc ≤ MC) (h2 : slots + ms ≤ MS)
    (kk : ∀ (u1 : Hp) (H1 : Heap) (locs1 : List Loc), K u1 → GW G u1 s H1 locs1 → W p l e R s m args below meth c H1 locs1 (cells + mc) (slots + ms) (vx_MQ below Qc (XE G C E) args s MC MS (GA G)) (F0 m (pc + 3) ls rest)) : W p l e R s m args below meth c H locs cells slots (vx_MQ below Qc (XE G C E) args s MC MS (GA G)) (F0 m pc ls st) :=
  vx_callv hr hw.2 (fun q _ h => h) (fun q h => h) (fun q _ h => h)
    (fun X9 ce q9 u1 t H1 locs1 hh hvm hp hb hz hk hS hce hcv hcl => vx_out (fun x hx => absurd hx (fun z => ht x z)) X.2.2.2.2.2.1 hce hcv hcl (fun t2 hh2 hvm2 => ⟨u1, hp, ⟨hb.1, by rw [hh2, ← hh]; exact hb.2⟩, hS.F hh2⟩) hS.2.2 h1 h2)
    (fun u1 t H1 locs1 hh hvm hp hb hz hk hS => kk u1 H1 locs1 hp ⟨by rw [← hh]; exact hb, hS⟩)
theorem g_tcallr {mc ms : Nat} {a0 : Array Value} {K : Option Nat → Hp → Prop} (X : Mc G p s m args meth c own cc nL) (ht : ∀ x ∈ c.exceptionTable.toList, False) (hw : GW G u s H locs) (hr : vx_Run p l e R s m args below meth c H locs cells slots mc ms (F0 m pc ls st) rest (va_Qq K (fun u t => GH G u t.heap) (GA G) a0) (XE G C E) (GA G)) (h1 : cells + mc ≤ MC) (h2 : slots + ms ≤ MS)
    (kk : ∀ (r : Option Nat) (u1 : Hp) (H1 : Heap) (locs1 : List Loc), K r u1 → GW G u1 s H1 locs1 → W p l e R s m args below meth c H1 locs1 (cells + mc) (slots + ms) (vx_MQ below Qc (XE G C E) args s MC MS (GA G)) (F0 m (pc + 3) ls (va_rf r :: rest))) : W p l e R s m args below meth c H locs cells slots (vx_MQ below Qc (XE G C E) args s MC MS (GA G)) (F0 m pc ls st) :=
  vx_callq hr hw.2 (fun q _ h => h) (fun q h => h) (fun q _ h => h)
    (fun X9 ce q9 u1 t H1 locs1 hh hvm hp hb hz hk hS hce hcv hcl => vx_out (fun x hx => absurd hx (fun z => ht x z)) X.2.2.2.2.2.1 hce hcv hcl (fun t2 hh2 hvm2 => ⟨u1, hp, ⟨hb.1, by rw [hh2, ← hh]; exact hb.2⟩, hS.F hh2⟩) hS.2.2 h1 h2)
    (fun r u1 t H1 locs1 hh hvm hp hb hz hk hS => kk r u1 H1 locs1 hp ⟨by rw [← hh]; exact hb, hS⟩)
theorem g_TV (X : Mc G p s m args meth c own cc nL) (hw : GW G u s H locs) {XC : String → Addr → State → State → Prop} (hM : vx_Met l y (ws_ y bytes maxL ret) rm (va_Pc (.ref b :: As) (GB G u)) Qc XC mc ms (GA G)) (n : Nat) (hG : GoodIn lw_all (wsV own index C2 y (ws_ y bytes maxL ret))) (hrc : rm.cells = mc) (hrs : rm.slots = ms) (hd : y.cls = C2 ∧ y.cls ≠ "java/lang/invoke/MethodHandle" ∧ y.cls ≠ "java/lang/invoke/VarHandle" ∧ (parseMethodDescriptor y.desc).map (fun d => d.parameters.length) = some n) (hR : rm.frames + 1 ≤ R.frames ∧ 8 + (maxL + 11) + rm.locals ≤ R.locals)
    (hrv : ∃ cell : Cell, H[b]? = some cell ∧ cell.vm.isStatics = false ∧ s.vm.findClass C2 = some cell.cls) (hn : As.length = n) (hsz : ls.size = nL) (hst : st = As.reverse ++ .ref b :: rest) (hro : (rest.map fun v => v.category).sum ≤ 8) (hdg : decode cc pc = .ok (.invokevirtual index, 3)) (hf : cells + mc ≤ R.cells ∧ slots + ms ≤ R.slots) : vx_Run p l e R s m args below meth c H locs cells slots mc ms (F0 m pc ls st) rest (Qc (Value.ref b :: As).toArray) XC (GA G) :=
  vx_runV ⟨X.1, X.2.1, X.2.2.1, X.2.2.2.1, X.2.2.2.2.1⟩ hM (cwV n X.2.2.2.2.1 hG rfl hrc hrs hd hR) ⟨GB.blind, hrv, g_pre X hw⟩ rfl hn hsz hst (lv_room hro) hdg hf
/-- caught by the one row of the table -/
theorem g_ccallr {mc ms h0 h1 h2 ct : Nat} {a0 : Array Value} {K : Option Nat → Hp → Prop} (X : Mc G p s m args meth c own cc nL) (htab : c.exceptionTable.toList = tableOf [(h0, h1, h2, ct)]) (hcov : ∀ x ∈ tableOf [(h0, h1, h2, ct)], covers x pc = true ∧ x.catchType = ct ∧ x.handlerPc = h2) (hct : ct ≠ 0) (hlink : (Cond.classLink own ct C) ∈ lw_all) (hcast : (C, C) ∈ castY) (hw : GW G u s H locs) (hr : vx_Run p l e R s m args below meth c H locs cells slots mc ms (F0 m pc ls st) rest (va_Qq K (fun u t => GH G u t.heap) (GA G) a0) (XE G C E) (GA G))
    (kx : ∀ (q : Nat) (u1 : Hp) (H1 : Heap) (locs1 : List Loc), E q u1 → GW G u1 s H1 locs1 → W p l e R s m args below meth c H1 locs1 (cells + mc) (slots + ms) Q (F0 m h2 ls [.ref q]))
    (kk : ∀ (r : Option Nat) (u1 : Hp) (H1 : Heap) (locs1 : List Loc), K r u1 → GW G u1 s H1 locs1 → W p l e R s m args below meth c H1 locs1 (cells + mc) (slots + ms) Q (F0 m (pc + 3) ls (va_rf r :: rest))) : W p l e R s m args below meth c H locs cells slots Q (F0 m pc ls st) := by
  obtain ⟨x0, hx0⟩ : ∃ x0, tableOf [(h0, h1, h2, ct)] = [] ++ x0 :: [] := ⟨_, rfl⟩
  obtain ⟨c1, c2, c3⟩ := hcov x0 (by rw [hx0]; exact List.mem_cons_self)
  refine vx_callq hr hw.2 (fun q _ h => h) (fun q h => h) (fun q _ h => h)
    (fun X9 ce q9 u1 t H1 locs1 hh hvm hp hb hz hk hS hce hcv hcl => ?_)
    (fun r u1 t H1 locs1 hh hvm hp hb hz hk hS => kk r u1 H1 locs1 hp ⟨by rw [← hh]; exact hb, hS⟩)
  obtain ⟨rfl, hb⟩ := hb
  refine vx_catch (name := X9) X.2.2.2.1 [] x0 [] (htab.trans hx0) (fun z hz => nomatch hz) c1 (by rw [c2]; exact hct) (by rw [c2]; exact X.2.2.2.2.1 _ hlink) (va_Nw.use rfl (X.2.2.2.2.2.2.1.2.2.2.1 _ hcast)) hce hcv hcl ?_
  rw [c3]
  exact kx q9 u1 H1 locs1 hp ⟨by rw [← hh]; exact hb, hS⟩
theorem g_ccalli {mc ms h0 h1 h2 ct : Nat} {a0 : Array Value} {K : Int32 → Hp → Prop} (X : Mc G p s m args meth c own cc nL) (htab : c.exceptionTable.toList = tableOf [(h0, h1, h2, ct)]) (hcov : ∀ x ∈ tableOf [(h0, h1, h2, ct)], covers x pc = true ∧ x.catchType = ct ∧ x.handlerPc = h2) (hct : ct ≠ 0) (hlink : (Cond.classLink own ct C) ∈ lw_all) (hcast : (C, C) ∈ castY) (hw : GW G u s H locs) (hr : vx_Run p l e R s m args below meth c H locs cells slots mc ms (F0 m pc ls st) rest (va_Qi K (fun u t => GH G u t.heap) (GA G) a0) (XE G C E) (GA G))
    (kx : ∀ (q : Nat) (u1 : Hp) (H1 : Heap) (locs1 : List Loc), E q u1 → GW G u1 s H1 locs1 → W p l e R s m args below meth c H1 locs1 (cells + mc) (slots + ms) Q (F0 m h2 ls [.ref q]))
    (kk : ∀ (r : Int32) (u1 : Hp) (H1 : Heap) (locs1 : List Loc), K r u1 → GW G u1 s H1 locs1 → W p l e R s m args below meth c H1 locs1 (cells + mc) (slots + ms) Q (F0 m (pc + 3) ls (.int r :: rest))) : W p l e R s m args below meth c H locs cells slots Q (F0 m pc ls st) := by
  obtain ⟨x0, hx0⟩ : ∃ x0, tableOf [(h0, h1, h2, ct)] = [] ++ x0 :: [] := ⟨_, rfl⟩
  obtain ⟨c1, c2, c3⟩ := hcov x0 (by rw [hx0]; exact List.mem_cons_self)
  refine vx_calli hr hw.2 (fun q _ h => h) (fun q h => h) (fun q _ h => h)
    (fun X9 ce q9 u1 t H1 locs1 hh hvm hp hb hz hk hS hce hcv hcl => ?_)
    (fun r u1 t H1 locs1 hh hvm hp hb hz hk hS => kk r u1 H1 locs1 hp ⟨by rw [← hh]; exact hb, hS⟩)
  obtain ⟨rfl, hb⟩ := hb
  refine vx_catch (name := X9) X.2.2.2.1 [] x0 [] (htab.trans hx0) (fun z hz => nomatch hz) c1 (by rw [c2]; exact hct) (by rw [c2]; exact X.2.2.2.2.1 _ hlink) (va_Nw.use rfl (X.2.2.2.2.2.2.1.2.2.2.1 _ hcast)) hce hcv hcl ?_
  rw [c3]
  exact kx q9 u1 H1 locs1 hp ⟨by rw [← hh]; exact hb, hS⟩
/-- a method with a table, that throws nothing itself -/
theorem Met_ofWH {l : Launch} {y : MethodName} {ws ws' : List Cond} {rm : Room} {Pc : Array Value → State → Prop} {Qc : Array Value → State → Outcome → State → Prop} {mc ms : Nat} {free : Addr → Prop} {cc : ByteArray} {maxL : Nat} {ret : Option FieldType} {hh : List (Nat × Nat × Nat × Nat)}
    (hy : plainName y.cls = true) (hw : ws = Cond.codeWith y cc maxL ret hh :: ws')
    (body : ∀ p e s m args below meth c s₁, BodyLoose p l y (headSpec ws rm) cc maxL ret e s m args below meth c s₁ → c.maxLocals = maxL → Pc args s →
      W p l e (headSpec ws rm).room s m args below meth c s.heap [] 0 0 (MQ below Qc args s mc ms free) (entryFrame m args maxL)) : Met l y ws rm Pc Qc mc ms free := by
  have h := vx_ofWH (XC := fun _ _ _ _ => False) (Qc := Qc) (Pc := Pc) (mc := mc) (ms := ms) (free := free) hy hw (fun p e s m args below meth c s₁ B hml hP => vx_ret (body p e s m args below meth c s₁ B hml hP))
  exact MetFree.mono h (fun _ _ h => h) (fun _ _ _ _ _ h => h) (fun a s o s' _ hq => hq.elim id (fun ⟨q, _, E, ce, L, hf, _⟩ => hf.elim))
end GX
