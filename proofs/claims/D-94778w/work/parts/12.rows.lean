/-! ROWS OVER THE PURE HEAP (own work): one instruction each, out of the kit's rows -/
def Mc (G : GT) (p : Program) (s : State) (m : MethodId) (args : Array Value) (meth : Method) (c : Code) (own : String) (cc : ByteArray) (nL : Nat) : Prop :=
  p.tables.exec = Jvm.exec ∧ c.code = cc ∧ c.maxLocals = nL ∧ s.vm.findClass own = some m.cls ∧ (∀ w ∈ lw_all, w.before args s = true) ∧ meth.locks = false ∧ GK G s ∧ G.2.2.1 ≤ s.heap.size
theorem ci_lt {ci : Nat} {q : vw_C} (h : clG[ci]? = some q) : ci < 100 := Nat.lt_of_lt_of_le (List.getElem?_eq_some_iff.mp h).1 (Nat.le_of_ble_eq_true rfl)
theorem va_RA_inj {U : State} {c1 c2 : ClassId} {ty : FieldType} (h1 : va_RA U c1 ty) (h2 : va_RA U c2 ty) : c1 = c2 := by
  cases ty with
  | object C =>
    obtain ⟨-, -, -, -, -, e1⟩ := h1
    obtain ⟨-, -, -, -, -, e2⟩ := h2
    exact Option.some.inj (e1.symm.trans e2)
  | _ => exact Option.some.inj (Eq.trans (Eq.symm h1) h2)
theorem GW.fresh {G : GT} {u : Hp} {ws : va_W} {q : Nat} {e : va_E} (hL : GL G u ws) (hD : va_D (GA G) (ws ++ [(q, e)])) : kd u q = 0 := by
  have hq : (ws ++ [(q, e)])[ws.length]? = some (q, e) := by rw [List.getElem?_append_right (Nat.le_refl _), Nat.sub_self]; rfl
  rcases Nat.eq_zero_or_pos (kd u q) with h | h
  · exact h
  · rcases hL q (by omega) with ⟨-, k, hk⟩ | ⟨-, h7, -⟩
    · have hlt := (List.getElem?_eq_some_iff.mp hk).1
      have := hD.1 k ws.length (q, cellOf G u q) (q, e) (by rw [List.getElem?_append_left hlt]; exact hk) hq rfl
      omega
    · exact absurd (hD.2 _ _ hq) h7
def dflt (q : Nat × Nat) : Value := match q.1 with
  | 0 => .int 0
  | 1 => .null
  | _ => .long 0
def fs0 (ci : Nat) : List Value := (lay ci).map dflt
theorem flds_mkC {u : Hp} {ci q k n : Nat} : flds (mkC u q k n) ci q = fs0 ci := by
  unfold flds fs0
  refine List.map_congr_left fun x _ => ?_
  obtain ⟨t, f⟩ := x
  match t with
  | 0 => exact congrArg Value.int (if_pos rfl)
  | 1 => exact congrArg va_rf (if_pos rfl)
  | t + 2 => exact congrArg Value.long (if_pos rfl)
theorem cell_sAI {G : GT} {u : Hp} {a k : Nat} {f : Nat → Int32} (hk : kd u a = k) (h1 : 100 < k) (h5 : k ≠ 105) (h6 : k ≠ 106) (h7 : k ≠ 107) : cellOf G (sAI u a f) a = .inl (G.2.1 k, ln u a, .inl f) := by
  rw [cellOf_I (show kd (sAI u a f) a = k from hk) h1 h5 h6 h7, show AI (sAI u a f) a = f from hu1_eq]
  rfl
theorem cell_sAJ {G : GT} {u : Hp} {a : Nat} {f : Nat → Int64} (hk : kd u a = 105) : cellOf G (sAJ u a f) a = .inl (G.2.1 105, ln u a, .inr (.inl f)) := by
  rw [cellOf_J (show kd (sAJ u a f) a = 105 from hk), show AJ (sAJ u a f) a = f from hu1_eq]
  rfl
theorem cell_sAR {G : GT} {u : Hp} {a k : Nat} {f : Nat → Option Nat} (he : kd u a = k) (hk : k = 106 ∨ k = 107) : cellOf G (sAR u a f) a = .inl (G.2.1 k, ln u a, .inr (.inr (.inr (.inr f)))) := by
  rw [cellOf_R (show kd (sAR u a f) a = k from he) hk, show AR (sAR u a f) a = f from hu1_eq]
  rfl
section GR
variable {p : Program} {l : Launch} {e : Env} {R : Room} {s : State} {m : MethodId} {args : Array Value} {below : List Frame} {meth : Method} {c : Code} {H : Heap} {locs : List Loc} {cells slots : Nat} {Q : State → Prop}
variable {cc : ByteArray} {pc nL : Nat} {ls : Array Slot} {rest : List Value} {G : GT} {u w : Hp} {a : Nat} {own : String}
theorem g_core {P0 : Prop} {P1 : Heap → List Loc → Prop} {e1 : va_E} (hw : GW G u s H locs) (h0 : kd u a ≠ 0) (h2 : kd u a ≤ 200) (he : cellOf G w a = e1) (hka : kd w a = kd u a) (hag : ∀ b, b ≠ a → agr u w b)
    (step : ∀ (ws : va_W) (k : Nat), va_P G.1 clG ws H → va_D (GA G) ws → ws[k]? = some (a, cellOf G u a) → (∀ (H1 : Heap) (locs1 : List Loc), va_P G.1 clG (ws.set k (a, e1)) H1 → va_D (GA G) (ws.set k (a, e1)) → va_S (GA G) s.heap H1 locs1 → P1 H1 locs1) → P0) (kk : ∀ (H1 : Heap) (locs1 : List Loc), GW G w s H1 locs1 → P1 H1 locs1) : P0 := by
  obtain ⟨⟨ws, hP, hD, hL⟩, hS⟩ := hw
  rcases hL a h0 with ⟨-, k, hk⟩ | ⟨h, -⟩
  · exact step ws k hP hD hk fun H1 l1 q1 q2 q3 => kk H1 l1 ⟨⟨_, q1, q2, GL_set hL hk (hD.one hk) h2 he hka hag⟩, q3⟩
  · omega
theorem g_get0 (X : Mc G p s m args meth c own cc nL) (hw : GW G u s H locs) {C ref : String} {T : u_T} {N ci index : Nat} (hin : ∀ w ∈ u_ws C T N, w ∈ lw_all) (hk : kd u a = ci + 1) (hc : clG[ci]? = some (C, T, N)) (k : Nat) {q : Nat × Nat} (hl : (lay ci)[k]? = some q) (hkN : k < N) (hlink : (Cond.fieldLink own index ref (T k).2.1 (T k).2.2.1) ∈ lw_all) (hsame : ∀ x, s.fieldFound? (T k).1 (T k).2.1 (T k).2.2.1 = some x → s.fieldFound? ref (T k).2.1 (T k).2.2.1 = some x) (hdg : decode cc pc = .ok (.getfield index, 3))
    (kk : W p l e R s m args below meth c H locs cells slots Q (F0 m (pc + 3) ls (fval u a q :: rest))) : W p l e R s m args below meth c H locs cells slots Q (F0 m pc ls (.ref a :: rest)) := by
  have hci := ci_lt hc
  obtain ⟨ws, k0, hP, hD, hL, h0⟩ := GH.at (u := u) (a := a) (by omega) (by omega) hw.1
  rw [cellOf_obj hk hci] at h0
  exact va_get X.1 X.2.1 X.2.2.2.2.1 hin X.2.2.2.1 X.2.2.2.2.2.2.1.1 hP k0 h0 hc k hkN (X.2.2.2.2.1 _ hlink) hsame (flds_at hl) hdg kk
theorem g_getI (X : Mc G p s m args meth c own cc nL) (hw : GW G u s H locs) {C ref : String} {T : u_T} {N ci index n : Nat} (hin : ∀ w ∈ u_ws C T N, w ∈ lw_all) (hk : kd u a = ci + 1) (hc : clG[ci]? = some (C, T, N)) (k : Nat) (hl : (lay ci)[k]? = some (0, n)) (hkN : k < N) (hlink : (Cond.fieldLink own index ref (T k).2.1 (T k).2.2.1) ∈ lw_all) (hsame : ∀ x, s.fieldFound? (T k).1 (T k).2.1 (T k).2.2.1 = some x → s.fieldFound? ref (T k).2.1 (T k).2.2.1 = some x) (hdg : decode cc pc = .ok (.getfield index, 3))
    (kk : W p l e R s m args below meth c H locs cells slots Q (F0 m (pc + 3) ls (.int (FI u n a) :: rest))) : W p l e R s m args below meth c H locs cells slots Q (F0 m pc ls (.ref a :: rest)) := g_get0 X hw hin hk hc k hl hkN hlink hsame hdg kk
theorem g_getO (X : Mc G p s m args meth c own cc nL) (hw : GW G u s H locs) {C ref : String} {T : u_T} {N ci index n : Nat} (hin : ∀ w ∈ u_ws C T N, w ∈ lw_all) (hk : kd u a = ci + 1) (hc : clG[ci]? = some (C, T, N)) (k : Nat) (hl : (lay ci)[k]? = some (1, n)) (hkN : k < N) (hlink : (Cond.fieldLink own index ref (T k).2.1 (T k).2.2.1) ∈ lw_all) (hsame : ∀ x, s.fieldFound? (T k).1 (T k).2.1 (T k).2.2.1 = some x → s.fieldFound? ref (T k).2.1 (T k).2.2.1 = some x) (hdg : decode cc pc = .ok (.getfield index, 3))
    (kk : W p l e R s m args below meth c H locs cells slots Q (F0 m (pc + 3) ls (va_rf (FR u n a) :: rest))) : W p l e R s m args below meth c H locs cells slots Q (F0 m pc ls (.ref a :: rest)) := g_get0 X hw hin hk hc k hl hkN hlink hsame hdg kk
theorem g_getR (X : Mc G p s m args meth c own cc nL) (hw : GW G u s H locs) {C ref : String} {T : u_T} {N ci index n b : Nat} (hin : ∀ w ∈ u_ws C T N, w ∈ lw_all) (hk : kd u a = ci + 1) (hc : clG[ci]? = some (C, T, N)) (k : Nat) (hl : (lay ci)[k]? = some (1, n)) (hkN : k < N) (hlink : (Cond.fieldLink own index ref (T k).2.1 (T k).2.2.1) ∈ lw_all) (hsame : ∀ x, s.fieldFound? (T k).1 (T k).2.1 (T k).2.2.1 = some x → s.fieldFound? ref (T k).2.1 (T k).2.2.1 = some x) (hb : FR u n a = some b) (hdg : decode cc pc = .ok (.getfield index, 3))
    (kk : W p l e R s m args below meth c H locs cells slots Q (F0 m (pc + 3) ls (.ref b :: rest))) : W p l e R s m args below meth c H locs cells slots Q (F0 m pc ls (.ref a :: rest)) := g_getO X hw hin hk hc k hl hkN hlink hsame hdg (by rw [hb]; exact kk)
theorem g_getJ (X : Mc G p s m args meth c own cc nL) (hw : GW G u s H locs) {C ref : String} {T : u_T} {N ci index n : Nat} (hin : ∀ w ∈ u_ws C T N, w ∈ lw_all) (hk : kd u a = ci + 1) (hc : clG[ci]? = some (C, T, N)) (k : Nat) (hl : (lay ci)[k]? = some (2, n)) (hkN : k < N) (hlink : (Cond.fieldLink own index ref (T k).2.1 (T k).2.2.1) ∈ lw_all) (hsame : ∀ x, s.fieldFound? (T k).1 (T k).2.1 (T k).2.2.1 = some x → s.fieldFound? ref (T k).2.1 (T k).2.2.1 = some x) (hdg : decode cc pc = .ok (.getfield index, 3))
    (kk : W p l e R s m args below meth c H locs cells slots Q (F0 m (pc + 3) ls (.long (FJ u n a) :: rest))) : W p l e R s m args below meth c H locs cells slots Q (F0 m pc ls (.ref a :: rest)) := g_get0 X hw hin hk hc k hl hkN hlink hsame hdg kk
theorem g_getN0 (X : Mc G p s m args meth c own cc nL) (hw : GW G u s H locs) {C ref host : String} {T : u_T} {N ci index : Nat} (hin : ∀ w ∈ u_ws C T N, w ∈ lw_all) (hk : kd u a = ci + 1) (hc : clG[ci]? = some (C, T, N)) (k : Nat) {q : Nat × Nat} (hl : (lay ci)[k]? = some q) (hkN : k < N) (hlink : (own, index, ref, (T k).2.1, (T k).2.2.1, host) ∈ nestF) (hsame : ∀ x, s.fieldFound? (T k).1 (T k).2.1 (T k).2.2.1 = some x → s.fieldFound? ref (T k).2.1 (T k).2.2.1 = some x) (hdg : decode cc pc = .ok (.getfield index, 3))
    (kk : W p l e R s m args below meth c H locs cells slots Q (F0 m (pc + 3) ls (fval u a q :: rest))) : W p l e R s m args below meth c H locs cells slots Q (F0 m pc ls (.ref a :: rest)) := by
  have hci := ci_lt hc
  obtain ⟨ws, k0, hP, hD, hL, h0⟩ := GH.at (u := u) (a := a) (by omega) (by omega) hw.1
  rw [cellOf_obj hk hci] at h0
  have hnw : va_Nw (.fieldLinkNest own index ref (T k).2.1 (T k).2.2.1 host) s := X.2.2.2.2.2.2.1.2.1 (own, index, ref, (T k).2.1, (T k).2.2.1, host) hlink
  exact va_getN X.1 X.2.1 X.2.2.2.2.1 hin X.2.2.2.1 X.2.2.2.2.2.2.1.1 hP k0 h0 hc k hkN (va_Nw.use rfl hnw) hsame (flds_at hl) hdg kk
theorem g_getNI (X : Mc G p s m args meth c own cc nL) (hw : GW G u s H locs) {C ref host : String} {T : u_T} {N ci index n : Nat} (hin : ∀ w ∈ u_ws C T N, w ∈ lw_all) (hk : kd u a = ci + 1) (hc : clG[ci]? = some (C, T, N)) (k : Nat) (hl : (lay ci)[k]? = some (0, n)) (hkN : k < N) (hlink : (own, index, ref, (T k).2.1, (T k).2.2.1, host) ∈ nestF) (hsame : ∀ x, s.fieldFound? (T k).1 (T k).2.1 (T k).2.2.1 = some x → s.fieldFound? ref (T k).2.1 (T k).2.2.1 = some x) (hdg : decode cc pc = .ok (.getfield index, 3))
    (kk : W p l e R s m args below meth c H locs cells slots Q (F0 m (pc + 3) ls (.int (FI u n a) :: rest))) : W p l e R s m args below meth c H locs cells slots Q (F0 m pc ls (.ref a :: rest)) := g_getN0 X hw hin hk hc k hl hkN hlink hsame hdg kk
theorem g_getNO (X : Mc G p s m args meth c own cc nL) (hw : GW G u s H locs) {C ref host : String} {T : u_T} {N ci index n : Nat} (hin : ∀ w ∈ u_ws C T N, w ∈ lw_all) (hk : kd u a = ci + 1) (hc : clG[ci]? = some (C, T, N)) (k : Nat) (hl : (lay ci)[k]? = some (1, n)) (hkN : k < N) (hlink : (own, index, ref, (T k).2.1, (T k).2.2.1, host) ∈ nestF) (hsame : ∀ x, s.fieldFound? (T k).1 (T k).2.1 (T k).2.2.1 = some x → s.fieldFound? ref (T k).2.1 (T k).2.2.1 = some x) (hdg : decode cc pc = .ok (.getfield index, 3))
    (kk : W p l e R s m args below meth c H locs cells slots Q (F0 m (pc + 3) ls (va_rf (FR u n a) :: rest))) : W p l e R s m args below meth c H locs cells slots Q (F0 m pc ls (.ref a :: rest)) := g_getN0 X hw hin hk hc k hl hkN hlink hsame hdg kk
theorem g_getNR (X : Mc G p s m args meth c own cc nL) (hw : GW G u s H locs) {C ref host : String} {T : u_T} {N ci index n b : Nat} (hin : ∀ w ∈ u_ws C T N, w ∈ lw_all) (hk : kd u a = ci + 1) (hc : clG[ci]? = some (C, T, N)) (k : Nat) (hl : (lay ci)[k]? = some (1, n)) (hkN : k < N) (hlink : (own, index, ref, (T k).2.1, (T k).2.2.1, host) ∈ nestF) (hsame : ∀ x, s.fieldFound? (T k).1 (T k).2.1 (T k).2.2.1 = some x → s.fieldFound? ref (T k).2.1 (T k).2.2.1 = some x) (hb : FR u n a = some b) (hdg : decode cc pc = .ok (.getfield index, 3))
    (kk : W p l e R s m args below meth c H locs cells slots Q (F0 m (pc + 3) ls (.ref b :: rest))) : W p l e R s m args below meth c H locs cells slots Q (F0 m pc ls (.ref a :: rest)) := g_getNO X hw hin hk hc k hl hkN hlink hsame hdg (by rw [hb]; exact kk)
theorem g_putX {P0 : Prop} {P1 : Heap → List Loc → Prop} (hw : GW G u s H locs) {C : String} {T : u_T} {N ci t n k : Nat} (hk : kd u a = ci + 1) (hc : clG[ci]? = some (C, T, N)) (hl : (lay ci)[k]? = some (t, n)) {v : Value} (hwv : fval w a (t, n) = v) (hoff : ∀ q : Nat × Nat, q.2 ≠ n → fval w a q = fval u a q) (hka : kd w a = kd u a) (hag : ∀ b, b ≠ a → agr u w b)
    (step : ∀ (ws : va_W) (q0 : Nat), va_P G.1 clG ws H → va_D (GA G) ws → ws[q0]? = some (a, .inr (ci, flds u ci a)) → k < (flds u ci a).length → (∀ (H1 : Heap) (locs1 : List Loc), va_P G.1 clG (ws.set q0 (a, .inr (ci, (flds u ci a).set k v))) H1 → va_D (GA G) (ws.set q0 (a, .inr (ci, (flds u ci a).set k v))) → va_S (GA G) s.heap H1 locs1 → P1 H1 locs1) → P0) (kk : ∀ (H1 : Heap) (locs1 : List Loc), GW G w s H1 locs1 → P1 H1 locs1) : P0 := by
  have hci := ci_lt hc
  refine g_core (a := a) (w := w) (e1 := .inr (ci, (flds u ci a).set k v)) hw (by omega) (by omega) ?_ hka hag (fun ws q0 hP hD h0 h1 => step ws q0 hP hD (by rw [cellOf_obj hk hci] at h0; exact h0) (flds_len hl) h1) kk
  rw [cellOf_obj (hka.trans hk) hci, flds_set hl hwv hoff]
theorem fval_sFI {n a : Nat} {v : Int32} : ∀ q : Nat × Nat, q.2 ≠ n → fval (sFI u n a v) a q = fval u a q := fun q hq => by
  obtain ⟨t, f⟩ := q
  match t with
  | 0 => exact congrArg Value.int (hu2_nm hq)
  | 1 => rfl
  | t + 2 => rfl
theorem fval_sFR {n a : Nat} {v : Option Nat} : ∀ q : Nat × Nat, q.2 ≠ n → fval (sFR u n a v) a q = fval u a q := fun q hq => by
  obtain ⟨t, f⟩ := q
  match t with
  | 0 => rfl
  | 1 => exact congrArg va_rf (hu2_nm hq)
  | t + 2 => rfl
theorem fval_sFJ {n a : Nat} {v : Int64} : ∀ q : Nat × Nat, q.2 ≠ n → fval (sFJ u n a v) a q = fval u a q := fun q hq => by
  obtain ⟨t, f⟩ := q
  match t with
  | 0 => rfl
  | 1 => rfl
  | t + 2 => exact congrArg Value.long (hu2_nm hq)
theorem g_putI (X : Mc G p s m args meth c own cc nL) (hw : GW G u s H locs) {C ref : String} {T : u_T} {N ci index n : Nat} {ty0 : Nat → FieldType} (hin : ∀ w ∈ u_ws C T N, w ∈ lw_all) (hty : ∀ k, k < N → parseFieldDescriptor (T k).2.2.1 = some (ty0 k)) (hnm : ∀ a, a < N → ∀ b, b < N → a ≠ b → (T a).2.1 ≠ (T b).2.1) (hk : kd u a = ci + 1) (hc : clG[ci]? = some (C, T, N)) (k : Nat) (hl : (lay ci)[k]? = some (0, n)) (hkN : k < N) (hlink : (Cond.fieldLink own index ref (T k).2.1 (T k).2.2.1) ∈ lw_all) (hsame : ∀ x, s.fieldFound? (T k).1 (T k).2.1 (T k).2.2.1 = some x → s.fieldFound? ref (T k).2.1 (T k).2.2.1 = some x) (hfin : (T k).2.2.2 = false) {v : Int32} (hn : narrow (ty0 k) (.int v) = .int v) (hfit : fits (ty0 k) (.int v) = true) (hdg : decode cc pc = .ok (.putfield index, 3))
    (kk : ∀ (H1 : Heap) (locs1 : List Loc), GW G (sFI u n a v) s H1 locs1 → W p l e R s m args below meth c H1 locs1 cells slots Q (F0 m (pc + 3) ls rest)) : W p l e R s m args below meth c H locs cells slots Q (F0 m pc ls (.int v :: .ref a :: rest)) :=
  g_putX (w := sFI u n a v) hw hk hc hl (v := .int v) (congrArg Value.int hu2_eq) fval_sFI rfl (fun _ => agr_sFI) (fun ws q0 hP hD h0 hlen h1 => va_put X.1 X.2.1 X.2.2.2.2.1 hin ty0 hty hnm X.2.2.2.1 X.2.2.2.2.2.2.1.1 hP hD hw.2 q0 h0 hc k hkN (X.2.2.2.2.1 _ hlink) hsame hfin (hty k hkN) hn hfit hlen hdg h1) kk
theorem g_putO (X : Mc G p s m args meth c own cc nL) (hw : GW G u s H locs) {C ref : String} {T : u_T} {N ci index n : Nat} {ty0 : Nat → FieldType} (hin : ∀ w ∈ u_ws C T N, w ∈ lw_all) (hty : ∀ k, k < N → parseFieldDescriptor (T k).2.2.1 = some (ty0 k)) (hnm : ∀ a, a < N → ∀ b, b < N → a ≠ b → (T a).2.1 ≠ (T b).2.1) (hk : kd u a = ci + 1) (hc : clG[ci]? = some (C, T, N)) (k : Nat) (hl : (lay ci)[k]? = some (1, n)) (hkN : k < N) (hlink : (Cond.fieldLink own index ref (T k).2.1 (T k).2.2.1) ∈ lw_all) (hsame : ∀ x, s.fieldFound? (T k).1 (T k).2.1 (T k).2.2.1 = some x → s.fieldFound? ref (T k).2.1 (T k).2.2.1 = some x) (hfin : (T k).2.2.2 = false) {v : Option Nat} (hn : narrow (ty0 k) (va_rf v) = va_rf v) (hfit : fits (ty0 k) (va_rf v) = true) (hdg : decode cc pc = .ok (.putfield index, 3))
    (kk : ∀ (H1 : Heap) (locs1 : List Loc), GW G (sFR u n a v) s H1 locs1 → W p l e R s m args below meth c H1 locs1 cells slots Q (F0 m (pc + 3) ls rest)) : W p l e R s m args below meth c H locs cells slots Q (F0 m pc ls (va_rf v :: .ref a :: rest)) :=
  g_putX (w := sFR u n a v) hw hk hc hl (v := va_rf v) (congrArg va_rf hu2_eq) fval_sFR rfl (fun _ => agr_sFR) (fun ws q0 hP hD h0 hlen h1 => va_put X.1 X.2.1 X.2.2.2.2.1 hin ty0 hty hnm X.2.2.2.1 X.2.2.2.2.2.2.1.1 hP hD hw.2 q0 h0 hc k hkN (X.2.2.2.2.1 _ hlink) hsame hfin (hty k hkN) hn hfit hlen hdg h1) kk
theorem g_putJ (X : Mc G p s m args meth c own cc nL) (hw : GW G u s H locs) {C ref : String} {T : u_T} {N ci index n : Nat} {ty0 : Nat → FieldType} (hin : ∀ w ∈ u_ws C T N, w ∈ lw_all) (hty : ∀ k, k < N → parseFieldDescriptor (T k).2.2.1 = some (ty0 k)) (hnm : ∀ a, a < N → ∀ b, b < N → a ≠ b → (T a).2.1 ≠ (T b).2.1) (hk : kd u a = ci + 1) (hc : clG[ci]? = some (C, T, N)) (k : Nat) (hl : (lay ci)[k]? = some (2, n)) (hkN : k < N) (hlink : (Cond.fieldLink own index ref (T k).2.1 (T k).2.2.1) ∈ lw_all) (hsame : ∀ x, s.fieldFound? (T k).1 (T k).2.1 (T k).2.2.1 = some x → s.fieldFound? ref (T k).2.1 (T k).2.2.1 = some x) (hfin : (T k).2.2.2 = false) {v : Int64} (hn : narrow (ty0 k) (.long v) = .long v) (hfit : fits (ty0 k) (.long v) = true) (hdg : decode cc pc = .ok (.putfield index, 3))
    (kk : ∀ (H1 : Heap) (locs1 : List Loc), GW G (sFJ u n a v) s H1 locs1 → W p l e R s m args below meth c H1 locs1 cells slots Q (F0 m (pc + 3) ls rest)) : W p l e R s m args below meth c H locs cells slots Q (F0 m pc ls (.long v :: .ref a :: rest)) :=
  g_putX (w := sFJ u n a v) hw hk hc hl (v := .long v) (congrArg Value.long hu2_eq) fval_sFJ rfl (fun _ => agr_sFJ) (fun ws q0 hP hD h0 hlen h1 => va_put X.1 X.2.1 X.2.2.2.2.1 hin ty0 hty hnm X.2.2.2.1 X.2.2.2.2.2.2.1.1 hP hD hw.2 q0 h0 hc k hkN (X.2.2.2.2.1 _ hlink) hsame hfin (hty k hkN) hn hfit hlen hdg h1) kk
theorem g_putFI (X : Mc G p s m args meth c own cc nL) (hini : meth.name = "<init>") (hw : GW G u s H locs) {C ref : String} {T : u_T} {N ci index n : Nat} {ty0 : Nat → FieldType} (hin : ∀ w ∈ u_ws C T N, w ∈ lw_all) (hty : ∀ k, k < N → parseFieldDescriptor (T k).2.2.1 = some (ty0 k)) (hnm : ∀ a, a < N → ∀ b, b < N → a ≠ b → (T a).2.1 ≠ (T b).2.1) (hk : kd u a = ci + 1) (hc : clG[ci]? = some (C, T, N)) (k : Nat) (hl : (lay ci)[k]? = some (0, n)) (hkN : k < N) (hlink : (Cond.fieldLink own index ref (T k).2.1 (T k).2.2.1) ∈ lw_all) (hsame : ∀ x, s.fieldFound? (T k).1 (T k).2.1 (T k).2.2.1 = some x → s.fieldFound? ref (T k).2.1 (T k).2.2.1 = some x) (hfin : (T k).2.2.2 = true) (hdecl : (T k).1 = own) {v : Int32} (hn : narrow (ty0 k) (.int v) = .int v) (hfit : fits (ty0 k) (.int v) = true) (hdg : decode cc pc = .ok (.putfield index, 3))
    (kk : ∀ (H1 : Heap) (locs1 : List Loc), GW G (sFI u n a v) s H1 locs1 → W p l e R s m args below meth c H1 locs1 cells slots Q (F0 m (pc + 3) ls rest)) : W p l e R s m args below meth c H locs cells slots Q (F0 m pc ls (.int v :: .ref a :: rest)) :=
  g_putX (w := sFI u n a v) hw hk hc hl (v := .int v) (congrArg Value.int hu2_eq) fval_sFI rfl (fun _ => agr_sFI) (fun ws q0 hP hD h0 hlen h1 => va_putF X.1 X.2.1 X.2.2.2.2.1 hin ty0 hty hnm X.2.2.2.1 X.2.2.2.2.2.2.1.1 hP hD hw.2 q0 h0 hc k hkN (X.2.2.2.2.1 _ hlink) hsame hfin hini hdecl (hty k hkN) hn hfit hlen hdg h1) kk
theorem g_putFO (X : Mc G p s m args meth c own cc nL) (hini : meth.name = "<init>") (hw : GW G u s H locs) {C ref : String} {T : u_T} {N ci index n : Nat} {ty0 : Nat → FieldType} (hin : ∀ w ∈ u_ws C T N, w ∈ lw_all) (hty : ∀ k, k < N → parseFieldDescriptor (T k).2.2.1 = some (ty0 k)) (hnm : ∀ a, a < N → ∀ b, b < N → a ≠ b → (T a).2.1 ≠ (T b).2.1) (hk : kd u a = ci + 1) (hc : clG[ci]? = some (C, T, N)) (k : Nat) (hl : (lay ci)[k]? = some (1, n)) (hkN : k < N) (hlink : (Cond.fieldLink own index ref (T k).2.1 (T k).2.2.1) ∈ lw_all) (hsame : ∀ x, s.fieldFound? (T k).1 (T k).2.1 (T k).2.2.1 = some x → s.fieldFound? ref (T k).2.1 (T k).2.2.1 = some x) (hfin : (T k).2.2.2 = true) (hdecl : (T k).1 = own) {v : Option Nat} (hn : narrow (ty0 k) (va_rf v) = va_rf v) (hfit : fits (ty0 k) (va_rf v) = true) (hdg : decode cc pc = .ok (.putfield index, 3))
    (kk : ∀ (H1 : Heap) (locs1 : List Loc), GW G (sFR u n a v) s H1 locs1 → W p l e R s m args below meth c H1 locs1 cells slots Q (F0 m (pc + 3) ls rest)) : W p l e R s m args below meth c H locs cells slots Q (F0 m pc ls (va_rf v :: .ref a :: rest)) :=
  g_putX (w := sFR u n a v) hw hk hc hl (v := va_rf v) (congrArg va_rf hu2_eq) fval_sFR rfl (fun _ => agr_sFR) (fun ws q0 hP hD h0 hlen h1 => va_putF X.1 X.2.1 X.2.2.2.2.1 hin ty0 hty hnm X.2.2.2.1 X.2.2.2.2.2.2.1.1 hP hD hw.2 q0 h0 hc k hkN (X.2.2.2.2.1 _ hlink) hsame hfin hini hdecl (hty k hkN) hn hfit hlen hdg h1) kk
theorem g_putNI (X : Mc G p s m args meth c own cc nL) (hw : GW G u s H locs) {C ref host : String} {T : u_T} {N ci index n : Nat} {ty0 : Nat → FieldType} (hin : ∀ w ∈ u_ws C T N, w ∈ lw_all) (hty : ∀ k, k < N → parseFieldDescriptor (T k).2.2.1 = some (ty0 k)) (hnm : ∀ a, a < N → ∀ b, b < N → a ≠ b → (T a).2.1 ≠ (T b).2.1) (hk : kd u a = ci + 1) (hc : clG[ci]? = some (C, T, N)) (k : Nat) (hl : (lay ci)[k]? = some (0, n)) (hkN : k < N) (hlink : (own, index, ref, (T k).2.1, (T k).2.2.1, host) ∈ nestF) (hsame : ∀ x, s.fieldFound? (T k).1 (T k).2.1 (T k).2.2.1 = some x → s.fieldFound? ref (T k).2.1 (T k).2.2.1 = some x) (hfin : (T k).2.2.2 = false) {v : Int32} (hn : narrow (ty0 k) (.int v) = .int v) (hfit : fits (ty0 k) (.int v) = true) (hdg : decode cc pc = .ok (.putfield index, 3))
    (kk : ∀ (H1 : Heap) (locs1 : List Loc), GW G (sFI u n a v) s H1 locs1 → W p l e R s m args below meth c H1 locs1 cells slots Q (F0 m (pc + 3) ls rest)) : W p l e R s m args below meth c H locs cells slots Q (F0 m pc ls (.int v :: .ref a :: rest)) := by
  have hnw : va_Nw (.fieldLinkNest own index ref (T k).2.1 (T k).2.2.1 host) s := X.2.2.2.2.2.2.1.2.1 (own, index, ref, (T k).2.1, (T k).2.2.1, host) hlink
  exact g_putX (w := sFI u n a v) hw hk hc hl (v := .int v) (congrArg Value.int hu2_eq) fval_sFI rfl (fun _ => agr_sFI) (fun ws q0 hP hD h0 hlen h1 => va_putN X.1 X.2.1 X.2.2.2.2.1 hin ty0 hty hnm X.2.2.2.1 X.2.2.2.2.2.2.1.1 hP hD hw.2 q0 h0 hc k hkN (va_Nw.use rfl hnw) hsame hfin (hty k hkN) hn hfit hlen hdg h1) kk
/-! arrays -/
theorem g_iald (X : Mc G p s m args meth c own cc nL) (hw : GW G u s H locs) (hk : kd u a = 101) {i : Int32} (hi : vp_in i (ln u a)) (hdg : decode cc pc = .ok (.iaload, 1))
    (kk : W p l e R s m args below meth c H locs cells slots Q (F0 m (pc + 1) ls (.int (AI u a i.toNatClampNeg) :: rest))) : W p l e R s m args below meth c H locs cells slots Q (F0 m pc ls (.int i :: .ref a :: rest)) := by
  obtain ⟨ws, k0, hP, hD, hL, h0⟩ := GH.at (u := u) (a := a) (by omega) (by omega) hw.1
  rw [cellOf_I hk (by decide) (by decide) (by decide) (by decide)] at h0
  exact va_iald X.1 X.2.1 X.2.2.2.2.2.2.1.1 hP k0 0 h0 rfl hi hdg kk
theorem g_cald (X : Mc G p s m args meth c own cc nL) (hw : GW G u s H locs) (hk : kd u a = 103) {i : Int32} (hi : vp_in i (ln u a)) (hdg : decode cc pc = .ok (.caload, 1))
    (kk : W p l e R s m args below meth c H locs cells slots Q (F0 m (pc + 1) ls (.int (AI u a i.toNatClampNeg) :: rest))) : W p l e R s m args below meth c H locs cells slots Q (F0 m pc ls (.int i :: .ref a :: rest)) := by
  obtain ⟨ws, k0, hP, hD, hL, h0⟩ := GH.at (u := u) (a := a) (by omega) (by omega) hw.1
  rw [cellOf_I hk (by decide) (by decide) (by decide) (by decide)] at h0
  exact va_cald X.1 X.2.1 X.2.2.2.2.2.2.1.1 hP k0 2 h0 rfl hi hdg kk
theorem g_zald (X : Mc G p s m args meth c own cc nL) (hw : GW G u s H locs) (hk : kd u a = 104) {i : Int32} (hi : vp_in i (ln u a)) (hdg : decode cc pc = .ok (.baload, 1))
    (kk : W p l e R s m args below meth c H locs cells slots Q (F0 m (pc + 1) ls (.int (AI u a i.toNatClampNeg) :: rest))) : W p l e R s m args below meth c H locs cells slots Q (F0 m pc ls (.int i :: .ref a :: rest)) := by
  obtain ⟨ws, k0, hP, hD, hL, h0⟩ := GH.at (u := u) (a := a) (by omega) (by omega) hw.1
  rw [cellOf_I hk (by decide) (by decide) (by decide) (by decide)] at h0
  exact va_zald X.1 X.2.1 X.2.2.2.2.2.2.1.1 hP k0 3 h0 rfl hi hdg kk
theorem g_bald (X : Mc G p s m args meth c own cc nL) (hw : GW G u s H locs) (hk : kd u a = 102 ∨ kd u a = 202) {i : Int32} (hi : vp_in i (ln u a)) (hdg : decode cc pc = .ok (.baload, 1))
    (kk : W p l e R s m args below meth c H locs cells slots Q (F0 m (pc + 1) ls (.int (AI u a i.toNatClampNeg) :: rest))) : W p l e R s m args below meth c H locs cells slots Q (F0 m pc ls (.int i :: .ref a :: rest)) := by
  obtain ⟨⟨ws, hP, hD, hL⟩, hS⟩ := hw
  rcases hL a (by omega) with ⟨h2, k0, h0⟩ | ⟨h1, h7, h2, h3, h4, h5, h6⟩
  · have hk1 : kd u a = 102 := by omega
    rw [cellOf_I hk1 (by decide) (by decide) (by decide) (by decide)] at h0
    exact va_bald X.1 X.2.1 X.2.2.2.2.2.2.1.1 hP k0 1 h0 rfl hi hdg kk
  · have hk1 : kd (Gf G) a = 202 := by omega
    rw [h5] at hi
    rw [h6] at kk
    exact va_tb X.1 X.2.1 ((X.2.2.2.2.2.2.1.2.2.2.2.2.2.2.2.2.1 a).2.1 hk1) hS hi rfl hdg kk
/-- the script -/
theorem g_sald (X : Mc G p s m args meth c own cc nL) (hw : GW G u s H locs) (hk : kd u a = 203) {i : Int32} (hi : vp_in i (ln u a)) (hdg : decode cc pc = .ok (.iaload, 1))
    (kk : W p l e R s m args below meth c H locs cells slots Q (F0 m (pc + 1) ls (.int (AI u a i.toNatClampNeg) :: rest))) : W p l e R s m args below meth c H locs cells slots Q (F0 m pc ls (.int i :: .ref a :: rest)) := by
  obtain ⟨⟨ws, hP, hD, hL⟩, hS⟩ := hw
  rcases hL a (by omega) with ⟨h2, k0, h0⟩ | ⟨h1, h7, h2, h3, h4, h5, h6⟩
  · omega
  · have hk1 : kd (Gf G) a = 203 := by omega
    rw [h5] at hi
    rw [h6] at kk
    exact va_ti X.1 X.2.1 ((X.2.2.2.2.2.2.1.2.2.2.2.2.2.2.2.2.1 a).2.2 hk1) hS hi rfl hdg kk
theorem g_slen (X : Mc G p s m args meth c own cc nL) (hw : GW G u s H locs) (hk : kd u a = 203) (hdg : decode cc pc = .ok (.arraylength, 1))
    (kk : W p l e R s m args below meth c H locs cells slots Q (F0 m (pc + 1) ls (.int (nI (ln u a)) :: rest))) : W p l e R s m args below meth c H locs cells slots Q (F0 m pc ls (.ref a :: rest)) := by
  obtain ⟨⟨ws, hP, hD, hL⟩, hS⟩ := hw
  rcases hL a (by omega) with ⟨h2, k0, h0⟩ | ⟨h1, h7, h2, h3, h4, h5, h6⟩
  · omega
  · have hk1 : kd (Gf G) a = 203 := by omega
    rw [h5] at kk
    exact va_tlen X.1 X.2.1 ((X.2.2.2.2.2.2.1.2.2.2.2.2.2.2.2.2.1 a).2.2 hk1) hS rfl hdg kk
theorem g_blen (X : Mc G p s m args meth c own cc nL) (hw : GW G u s H locs) (hk : kd u a = 102 ∨ kd u a = 202) (hdg : decode cc pc = .ok (.arraylength, 1))
    (kk : W p l e R s m args below meth c H locs cells slots Q (F0 m (pc + 1) ls (.int (nI (ln u a)) :: rest))) : W p l e R s m args below meth c H locs cells slots Q (F0 m pc ls (.ref a :: rest)) := by
  obtain ⟨⟨ws, hP, hD, hL⟩, hS⟩ := hw
  rcases hL a (by omega) with ⟨h2, k0, h0⟩ | ⟨h1, h7, h2, h3, h4, h5, h6⟩
  · have hk1 : kd u a = 102 := by omega
    rw [cellOf_I hk1 (by decide) (by decide) (by decide) (by decide)] at h0
    exact va_alen X.1 X.2.1 X.2.2.2.2.2.2.1.1 hP k0 1 h0 rfl rfl hdg kk
  · have hk1 : kd (Gf G) a = 202 := by omega
    rw [h5] at kk
    exact va_tlen X.1 X.2.1 ((X.2.2.2.2.2.2.1.2.2.2.2.2.2.2.2.2.1 a).2.1 hk1) hS rfl hdg kk
theorem g_clen (X : Mc G p s m args meth c own cc nL) (hw : GW G u s H locs) (hk : kd u a = 103) (hdg : decode cc pc = .ok (.arraylength, 1))
    (kk : W p l e R s m args below meth c H locs cells slots Q (F0 m (pc + 1) ls (.int (nI (ln u a)) :: rest))) : W p l e R s m args below meth c H locs cells slots Q (F0 m pc ls (.ref a :: rest)) := by
  obtain ⟨ws, k0, hP, hD, hL, h0⟩ := GH.at (u := u) (a := a) (by omega) (by omega) hw.1
  rw [cellOf_I hk (by decide) (by decide) (by decide) (by decide)] at h0
  exact va_alen X.1 X.2.1 X.2.2.2.2.2.2.1.1 hP k0 2 h0 rfl rfl hdg kk
theorem g_lald (X : Mc G p s m args meth c own cc nL) (hw : GW G u s H locs) (hk : kd u a = 105) {i : Int32} (hi : vp_in i (ln u a)) (hdg : decode cc pc = .ok (.laload, 1))
    (kk : W p l e R s m args below meth c H locs cells slots Q (F0 m (pc + 1) ls (.long (AJ u a i.toNatClampNeg) :: rest))) : W p l e R s m args below meth c H locs cells slots Q (F0 m pc ls (.int i :: .ref a :: rest)) := by
  obtain ⟨ws, k0, hP, hD, hL, h0⟩ := GH.at (u := u) (a := a) (by omega) (by omega) hw.1
  rw [cellOf_J hk] at h0
  exact va_lald X.1 X.2.1 X.2.2.2.2.2.2.1.1 hP k0 4 h0 rfl hi hdg kk
theorem g_aald (X : Mc G p s m args meth c own cc nL) (hw : GW G u s H locs) (hk : kd u a = 106 ∨ kd u a = 107) {i : Int32} {b : Nat} (hi : vp_in i (ln u a)) (hb : AR u a i.toNatClampNeg = some b) (hdg : decode cc pc = .ok (.aaload, 1))
    (kk : W p l e R s m args below meth c H locs cells slots Q (F0 m (pc + 1) ls (.ref b :: rest))) : W p l e R s m args below meth c H locs cells slots Q (F0 m pc ls (.int i :: .ref a :: rest)) := by
  obtain ⟨ws, k0, hP, hD, hL, h0⟩ := GH.at (u := u) (a := a) (by omega) (by omega) hw.1
  rw [cellOf_R rfl hk] at h0
  have kk2 : W p l e R s m args below meth c H locs cells slots Q (F0 m (pc + 1) ls (va_rf (AR u a i.toNatClampNeg) :: rest)) := by rw [hb]; exact kk
  rcases hk with hk | hk
  · rw [hk] at h0
    exact va_aldq X.1 X.2.1 X.2.2.2.2.2.2.1.1 hP k0 5 h0 rfl hi hdg kk2
  · rw [hk] at h0
    exact va_aldq X.1 X.2.1 X.2.2.2.2.2.2.1.1 hP k0 6 h0 rfl hi hdg kk2
theorem g_iast (X : Mc G p s m args meth c own cc nL) (hw : GW G u s H locs) (hk : kd u a = 101) {i x : Int32} (hi : vp_in i (ln u a)) (hdg : decode cc pc = .ok (.iastore, 1))
    (kk : ∀ (H1 : Heap) (locs1 : List Loc), GW G (sAI u a (upd (AI u a) i.toNatClampNeg x)) s H1 locs1 → W p l e R s m args below meth c H1 locs1 cells slots Q (F0 m (pc + 1) ls rest)) : W p l e R s m args below meth c H locs cells slots Q (F0 m pc ls (.int x :: .int i :: .ref a :: rest)) := by
  refine g_core (a := a) (w := sAI u a (upd (AI u a) i.toNatClampNeg x)) hw (by omega) (by omega) (cell_sAI (k := 101) hk (by decide) (by decide) (by decide) (by decide)) rfl (fun _ => agr_sAI) (fun ws k0 hP hD h0 h1 => ?_) kk
  rw [cellOf_I hk (by decide) (by decide) (by decide) (by decide)] at h0
  exact va_iast X.1 X.2.1 X.2.2.2.2.2.2.1.1 hP hD hw.2 k0 0 h0 rfl hi hdg h1
theorem g_bast (X : Mc G p s m args meth c own cc nL) (hw : GW G u s H locs) (hk : kd u a = 102) {i x : Int32} (hi : vp_in i (ln u a)) (hdg : decode cc pc = .ok (.bastore, 1))
    (kk : ∀ (H1 : Heap) (locs1 : List Loc), GW G (sAI u a (upd (AI u a) i.toNatClampNeg (vp_nar .byte x))) s H1 locs1 → W p l e R s m args below meth c H1 locs1 cells slots Q (F0 m (pc + 1) ls rest)) : W p l e R s m args below meth c H locs cells slots Q (F0 m pc ls (.int x :: .int i :: .ref a :: rest)) := by
  refine g_core (a := a) (w := sAI u a (upd (AI u a) i.toNatClampNeg (vp_nar .byte x))) hw (by omega) (by omega) (cell_sAI (k := 102) hk (by decide) (by decide) (by decide) (by decide)) rfl (fun _ => agr_sAI) (fun ws k0 hP hD h0 h1 => ?_) kk
  rw [cellOf_I hk (by decide) (by decide) (by decide) (by decide)] at h0
  exact va_bast X.1 X.2.1 X.2.2.2.2.2.2.1.1 hP hD hw.2 k0 1 h0 rfl hi hdg h1
theorem g_cast (X : Mc G p s m args meth c own cc nL) (hw : GW G u s H locs) (hk : kd u a = 103) {i x : Int32} (hi : vp_in i (ln u a)) (hdg : decode cc pc = .ok (.castore, 1))
    (kk : ∀ (H1 : Heap) (locs1 : List Loc), GW G (sAI u a (upd (AI u a) i.toNatClampNeg (vp_nar .char x))) s H1 locs1 → W p l e R s m args below meth c H1 locs1 cells slots Q (F0 m (pc + 1) ls rest)) : W p l e R s m args below meth c H locs cells slots Q (F0 m pc ls (.int x :: .int i :: .ref a :: rest)) := by
  refine g_core (a := a) (w := sAI u a (upd (AI u a) i.toNatClampNeg (vp_nar .char x))) hw (by omega) (by omega) (cell_sAI (k := 103) hk (by decide) (by decide) (by decide) (by decide)) rfl (fun _ => agr_sAI) (fun ws k0 hP hD h0 h1 => ?_) kk
  rw [cellOf_I hk (by decide) (by decide) (by decide) (by decide)] at h0
  exact va_cast X.1 X.2.1 X.2.2.2.2.2.2.1.1 hP hD hw.2 k0 2 h0 rfl hi hdg h1
theorem g_zast (X : Mc G p s m args meth c own cc nL) (hw : GW G u s H locs) (hk : kd u a = 104) {i x : Int32} (hi : vp_in i (ln u a)) (hdg : decode cc pc = .ok (.bastore, 1))
    (kk : ∀ (H1 : Heap) (locs1 : List Loc), GW G (sAI u a (upd (AI u a) i.toNatClampNeg (vp_nar .boolean x))) s H1 locs1 → W p l e R s m args below meth c H1 locs1 cells slots Q (F0 m (pc + 1) ls rest)) : W p l e R s m args below meth c H locs cells slots Q (F0 m pc ls (.int x :: .int i :: .ref a :: rest)) := by
  refine g_core (a := a) (w := sAI u a (upd (AI u a) i.toNatClampNeg (vp_nar .boolean x))) hw (by omega) (by omega) (cell_sAI (k := 104) hk (by decide) (by decide) (by decide) (by decide)) rfl (fun _ => agr_sAI) (fun ws k0 hP hD h0 h1 => ?_) kk
  rw [cellOf_I hk (by decide) (by decide) (by decide) (by decide)] at h0
  exact va_zast X.1 X.2.1 X.2.2.2.2.2.2.1.1 hP hD hw.2 k0 3 h0 rfl hi hdg h1
theorem g_last (X : Mc G p s m args meth c own cc nL) (hw : GW G u s H locs) (hk : kd u a = 105) {i : Int32} {x : Int64} (hi : vp_in i (ln u a)) (hdg : decode cc pc = .ok (.lastore, 1))
    (kk : ∀ (H1 : Heap) (locs1 : List Loc), GW G (sAJ u a (vp_updL (AJ u a) i.toNatClampNeg x)) s H1 locs1 → W p l e R s m args below meth c H1 locs1 cells slots Q (F0 m (pc + 1) ls rest)) : W p l e R s m args below meth c H locs cells slots Q (F0 m pc ls (.long x :: .int i :: .ref a :: rest)) := by
  refine g_core (a := a) (w := sAJ u a (vp_updL (AJ u a) i.toNatClampNeg x)) hw (by omega) (by omega) (cell_sAJ hk) rfl (fun _ => agr_sAJ) (fun ws k0 hP hD h0 h1 => ?_) kk
  rw [cellOf_J hk] at h0
  exact va_last X.1 X.2.1 X.2.2.2.2.2.2.1.1 hP hD hw.2 k0 4 h0 rfl hi hdg h1
/-- an own object of a kind that may lie there, into an array of references -/
theorem g_aast (X : Mc G p s m args meth c own cc nL) (hw : GW G u s H locs) (hk : kd u a = 106 ∨ kd u a = 107) {i : Int32} {b ci : Nat} {r : vw_C} (hi : vp_in i (ln u a)) (hkb : kd u b = ci + 1) (hc : clG[ci]? = some r) (hty : (r.1 = "FifthCard$Log" ∧ kd u a = 107) ∨ ((r.1, "FifthCard$Rule") ∈ castY ∧ kd u a = 106)) (hdg : decode cc pc = .ok (.aastore, 1))
    (kk : ∀ (H1 : Heap) (locs1 : List Loc), GW G (sAR u a (va_up (AR u a) i.toNatClampNeg (some b))) s H1 locs1 → W p l e R s m args below meth c H1 locs1 cells slots Q (F0 m (pc + 1) ls rest)) : W p l e R s m args below meth c H locs cells slots Q (F0 m pc ls (.ref b :: .int i :: .ref a :: rest)) := by
  have hci := ci_lt hc
  obtain ⟨⟨ws, hP, hD, hL⟩, hS⟩ := hw
  rcases hL a (by omega) with ⟨-, k0, h0⟩ | ⟨h1, -⟩
  · rcases hL b (by omega) with ⟨-, kb, hb⟩ | ⟨h1, -⟩
    · rw [cellOf_obj hkb hci] at hb
      rw [cellOf_R rfl hk] at h0
      have fin : ∀ (H1 : Heap) (locs1 : List Loc), va_P G.1 clG (ws.set k0 (a, .inl (G.2.1 (kd u a), ln u a, .inr (.inr (.inr (.inr (va_up (AR u a) i.toNatClampNeg (some b)))))))) H1 → va_D (GA G) (ws.set k0 (a, .inl (G.2.1 (kd u a), ln u a, .inr (.inr (.inr (.inr (va_up (AR u a) i.toNatClampNeg (some b)))))))) → va_S (GA G) s.heap H1 locs1 → W p l e R s m args below meth c H1 locs1 cells slots Q (F0 m (pc + 1) ls rest) := by
        intro H1 locs1 q1 q2 q3
        refine kk H1 locs1 ⟨⟨_, q1, q2, GL_set hL h0 (hD.one h0) (by omega) (cell_sAR rfl hk) rfl (fun _ => agr_sAR)⟩, q3⟩
      rcases hty with ⟨e1, e2⟩ | ⟨e1, e2⟩
      · rw [e2] at h0 fin
        exact va_astq X.1 X.2.1 X.2.2.2.2.2.2.1.1 hP hD hS k0 6 kb ci h0 (by rw [e1]; rfl) hb hc hi hdg fin
      · rw [e2] at h0 fin
        exact va_astqO X.1 X.2.1 X.2.2.2.2.2.2.1.1 hP hD hS k0 5 kb ci h0 rfl (X.2.2.2.2.2.2.1.2.2.2.1 _ e1) hb hc hi hdg fin
    · omega
  · omega
/-! new cells -/
theorem g_new (X : Mc G p s m args meth c own cc nL) (hw : GW G u s H locs) {C : String} {T : u_T} {N ci index : Nat} {ty : Nat → FieldType} (hin : ∀ w ∈ u_ws C T N, w ∈ lw_all) (hty : ∀ k, k < N → parseFieldDescriptor (T k).2.2.1 = some (ty k)) (hc : clG[ci]? = some (C, T, N)) (hdf : ∀ j, j < N → defaultValue (ty j) = vp_V (fs0 ci) j) (hcl : (Cond.classLink own index C) ∈ lw_all) (hinst : (Cond.instantiable C N) ∈ lw_all) (hini : (Cond.initialized C) ∈ lw_all) (hcells : cells + 1 ≤ R.cells) (hslots : slots + N ≤ R.slots) (hdg : decode cc pc = .ok (.new index, 3))
    (kk : ∀ (q : Nat) (H1 : Heap), kd u q = 0 → GW G (mkC u q (ci + 1) 0) s H1 locs → W p l e R s m args below meth c H1 locs (cells + 1) (slots + N) Q (F0 m (pc + 3) ls (.ref q :: rest))) : W p l e R s m args below meth c H locs cells slots Q (F0 m pc ls rest) := by
  have hci := ci_lt hc
  obtain ⟨⟨ws, hP, hD, hL⟩, hS⟩ := hw
  refine va_new X.1 X.2.1 X.2.2.2.2.1 hin ty hty X.2.2.2.1 (X.2.2.2.2.1 _ hcl) (X.2.2.2.2.1 _ hinst) (X.2.2.2.2.1 _ hini) X.2.2.2.2.2.2.1.1 hP hD hS (fun q hq => Nat.le_trans X.2.2.2.2.2.2.2 hq) hc (fs := fs0 ci) hdf hcells hslots hdg (fun q H1 q1 q2 q3 => kk q H1 (GW.fresh hL q2) ⟨⟨_, q1, q2, GL_push hL ?_ ?_ (fun _ => agr_mkC)⟩, q3⟩)
  · rw [show kd (mkC u q (ci + 1) 0) q = ci + 1 from hu1_eq]; omega
  · rw [cellOf_obj (ci := ci) (show kd (mkC u q (ci + 1) 0) q = ci + 1 from hu1_eq) hci, flds_mkC]
theorem g_newaX (X : Mc G p s m args meth c own cc nL) (hw : GW G u s H locs) {atype : ArrayType} {ty : FieldType} (hty : newarray.typeOf atype = ty) (harr : (Cond.arrayClass (newarray.typeOf atype)) ∈ lw_all) {n : Int32} {N' k t0 : Nat} (ht : (tysG G)[t0]? = some (G.2.1 k, ty)) (hk0 : 100 < k) (hk2 : k ≤ 200) (a0 : vp_A) (ha : ∀ cA : ClassId, vp_cell cA a0 = arrV cA N' (fun _ => defaultValue ty)) (hcell : ∀ q : Nat, cellOf G (mkC u q k N') q = .inl (G.2.1 k, a0)) (hn : ¬ n < 0) (hN : n.toNatClampNeg = N') (hbytes : N' * componentBytes ty ≤ 536870912) (hcells : cells + 1 ≤ R.cells) (hslots : slots + N' ≤ R.slots) (hdg : decode cc pc = .ok (.newarray atype, 2))
    (kk : ∀ (q : Nat) (H1 : Heap), kd u q = 0 → GW G (mkC u q k N') s H1 locs → W p l e R s m args below meth c H1 locs (cells + 1) (slots + N') Q (F0 m (pc + 2) ls (.ref q :: rest))) : W p l e R s m args below meth c H locs cells slots Q (F0 m pc ls (.int n :: rest)) := by
  obtain ⟨⟨ws, hP, hD, hL⟩, hS⟩ := hw
  refine va_newa X.1 X.2.1 (X.2.2.2.2.1 _ harr) hty X.2.2.2.2.2.2.1.1 hP hD hS (fun q hq => Nat.le_trans X.2.2.2.2.2.2.2 hq) ha hn hN hbytes hcells hslots hdg (fun q cA H1 qK q1 q2 q3 => kk q H1 (GW.fresh hL q2) ⟨⟨_, q1, q2, GL_push hL ?_ ?_ (fun _ => agr_mkC)⟩, q3⟩)
  · rw [show kd (mkC u q k N') q = k from hu1_eq]; exact hk2
  · have h1 := (qK.2 (tysG G).length (cA, ty) (by rw [List.getElem?_append_right (Nat.le_refl _), Nat.sub_self]; rfl)).2
    have h2 := (X.2.2.2.2.2.2.1.1.2 t0 _ ht).2
    rw [show cA = G.2.1 k from va_RA_inj h1 h2]
    exact hcell q
theorem cell_mkI {q k N' : Nat} (h1 : 100 < k) (h5 : k ≠ 105) (h6 : k ≠ 106) (h7 : k ≠ 107) : cellOf G (mkC u q k N') q = .inl (G.2.1 k, N', .inl (fun _ => 0)) := by
  rw [cellOf_I (show kd (mkC u q k N') q = k from hu1_eq) h1 h5 h6 h7, show ln (mkC u q k N') q = N' from hu1_eq, show AI (mkC u q k N') q = fun _ => 0 from hu1_eq]
theorem cell_mkJ {q N' : Nat} : cellOf G (mkC u q 105 N') q = .inl (G.2.1 105, N', .inr (.inl (fun _ => 0))) := by
  rw [cellOf_J (show kd (mkC u q 105 N') q = 105 from hu1_eq), show ln (mkC u q 105 N') q = N' from hu1_eq, show AJ (mkC u q 105 N') q = fun _ => 0 from hu1_eq]
theorem cell_mkR {q k N' : Nat} (hk : k = 106 ∨ k = 107) : cellOf G (mkC u q k N') q = .inl (G.2.1 k, N', .inr (.inr (.inr (.inr (fun _ => none))))) := by
  rw [cellOf_R (show kd (mkC u q k N') q = k from hu1_eq) hk, show ln (mkC u q k N') q = N' from hu1_eq, show AR (mkC u q k N') q = fun _ => none from hu1_eq]
theorem g_newI (X : Mc G p s m args meth c own cc nL) (hw : GW G u s H locs) (harr : (Cond.arrayClass .int) ∈ lw_all) {n : Int32} {N' : Nat} (hn : ¬ n < 0) (hN : n.toNatClampNeg = N') (hbytes : N' * 8 ≤ 536870912) (hcells : cells + 1 ≤ R.cells) (hslots : slots + N' ≤ R.slots) (hdg : decode cc pc = .ok (.newarray .int, 2))
    (kk : ∀ (q : Nat) (H1 : Heap), kd u q = 0 → GW G (mkC u q 101 N') s H1 locs → W p l e R s m args below meth c H1 locs (cells + 1) (slots + N') Q (F0 m (pc + 2) ls (.ref q :: rest))) : W p l e R s m args below meth c H locs cells slots Q (F0 m pc ls (.int n :: rest)) :=
  g_newaX X hw (atype := .int) (ty := .int) rfl harr (k := 101) (t0 := 0) rfl (by decide) (by decide) (N', .inl (fun _ => 0)) (fun _ => rfl) (fun _ => cell_mkI (by decide) (by decide) (by decide) (by decide)) hn hN (by show N' * 4 ≤ _; omega) hcells hslots hdg kk
theorem g_newB (X : Mc G p s m args meth c own cc nL) (hw : GW G u s H locs) (harr : (Cond.arrayClass .byte) ∈ lw_all) {n : Int32} {N' : Nat} (hn : ¬ n < 0) (hN : n.toNatClampNeg = N') (hbytes : N' * 8 ≤ 536870912) (hcells : cells + 1 ≤ R.cells) (hslots : slots + N' ≤ R.slots) (hdg : decode cc pc = .ok (.newarray .byte, 2))
    (kk : ∀ (q : Nat) (H1 : Heap), kd u q = 0 → GW G (mkC u q 102 N') s H1 locs → W p l e R s m args below meth c H1 locs (cells + 1) (slots + N') Q (F0 m (pc + 2) ls (.ref q :: rest))) : W p l e R s m args below meth c H locs cells slots Q (F0 m pc ls (.int n :: rest)) :=
  g_newaX X hw (atype := .byte) (ty := .byte) rfl harr (k := 102) (t0 := 1) rfl (by decide) (by decide) (N', .inl (fun _ => 0)) (fun _ => rfl) (fun _ => cell_mkI (by decide) (by decide) (by decide) (by decide)) hn hN (by show N' * 1 ≤ _; omega) hcells hslots hdg kk
theorem g_newC (X : Mc G p s m args meth c own cc nL) (hw : GW G u s H locs) (harr : (Cond.arrayClass .char) ∈ lw_all) {n : Int32} {N' : Nat} (hn : ¬ n < 0) (hN : n.toNatClampNeg = N') (hbytes : N' * 8 ≤ 536870912) (hcells : cells + 1 ≤ R.cells) (hslots : slots + N' ≤ R.slots) (hdg : decode cc pc = .ok (.newarray .char, 2))
    (kk : ∀ (q : Nat) (H1 : Heap), kd u q = 0 → GW G (mkC u q 103 N') s H1 locs → W p l e R s m args below meth c H1 locs (cells + 1) (slots + N') Q (F0 m (pc + 2) ls (.ref q :: rest))) : W p l e R s m args below meth c H locs cells slots Q (F0 m pc ls (.int n :: rest)) :=
  g_newaX X hw (atype := .char) (ty := .char) rfl harr (k := 103) (t0 := 2) rfl (by decide) (by decide) (N', .inl (fun _ => 0)) (fun _ => rfl) (fun _ => cell_mkI (by decide) (by decide) (by decide) (by decide)) hn hN (by show N' * 2 ≤ _; omega) hcells hslots hdg kk
theorem g_newZ (X : Mc G p s m args meth c own cc nL) (hw : GW G u s H locs) (harr : (Cond.arrayClass .boolean) ∈ lw_all) {n : Int32} {N' : Nat} (hn : ¬ n < 0) (hN : n.toNatClampNeg = N') (hbytes : N' * 8 ≤ 536870912) (hcells : cells + 1 ≤ R.cells) (hslots : slots + N' ≤ R.slots) (hdg : decode cc pc = .ok (.newarray .boolean, 2))
    (kk : ∀ (q : Nat) (H1 : Heap), kd u q = 0 → GW G (mkC u q 104 N') s H1 locs → W p l e R s m args below meth c H1 locs (cells + 1) (slots + N') Q (F0 m (pc + 2) ls (.ref q :: rest))) : W p l e R s m args below meth c H locs cells slots Q (F0 m pc ls (.int n :: rest)) :=
  g_newaX X hw (atype := .boolean) (ty := .boolean) rfl harr (k := 104) (t0 := 3) rfl (by decide) (by decide) (N', .inl (fun _ => 0)) (fun _ => rfl) (fun _ => cell_mkI (by decide) (by decide) (by decide) (by decide)) hn hN (by show N' * 1 ≤ _; omega) hcells hslots hdg kk
theorem g_newJ (X : Mc G p s m args meth c own cc nL) (hw : GW G u s H locs) (harr : (Cond.arrayClass .long) ∈ lw_all) {n : Int32} {N' : Nat} (hn : ¬ n < 0) (hN : n.toNatClampNeg = N') (hbytes : N' * 8 ≤ 536870912) (hcells : cells + 1 ≤ R.cells) (hslots : slots + N' ≤ R.slots) (hdg : decode cc pc = .ok (.newarray .long, 2))
    (kk : ∀ (q : Nat) (H1 : Heap), kd u q = 0 → GW G (mkC u q 105 N') s H1 locs → W p l e R s m args below meth c H1 locs (cells + 1) (slots + N') Q (F0 m (pc + 2) ls (.ref q :: rest))) : W p l e R s m args below meth c H locs cells slots Q (F0 m pc ls (.int n :: rest)) :=
  g_newaX X hw (atype := .long) (ty := .long) rfl harr (k := 105) (t0 := 4) rfl (by decide) (by decide) (N', .inr (.inl (fun _ => 0))) (fun _ => rfl) (fun _ => cell_mkJ) hn hN (by show N' * 8 ≤ _; omega) hcells hslots hdg kk
theorem g_newR (X : Mc G p s m args meth c own cc nL) (hw : GW G u s H locs) {C : String} {index k t0 : Nat} (ht : (tysG G)[t0]? = some (G.2.1 k, .object C)) (hk : k = 106 ∨ k = 107) (hcl : (Cond.classLink own index C) ∈ lw_all) (hover : va_AO C s) {n : Int32} {N' : Nat} (hn : ¬ n < 0) (hN : n.toNatClampNeg = N') (hbytes : N' * 8 ≤ 536870912) (hcells : cells + 1 ≤ R.cells) (hslots : slots + N' ≤ R.slots) (hdg : decode cc pc = .ok (.anewarray index, 3))
    (kk : ∀ (q : Nat) (H1 : Heap), kd u q = 0 → GW G (mkC u q k N') s H1 locs → W p l e R s m args below meth c H1 locs (cells + 1) (slots + N') Q (F0 m (pc + 3) ls (.ref q :: rest))) : W p l e R s m args below meth c H locs cells slots Q (F0 m pc ls (.int n :: rest)) := by
  obtain ⟨⟨ws, hP, hD, hL⟩, hS⟩ := hw
  refine va_newq X.1 X.2.1 X.2.2.2.1 (X.2.2.2.2.1 _ hcl) hover X.2.2.2.2.2.2.1.1 hP hD hS (fun q hq => Nat.le_trans X.2.2.2.2.2.2.2 hq) hn hN (by omega) hcells hslots hdg (fun q cA H1 qK q1 q2 q3 => kk q H1 (GW.fresh hL q2) ⟨⟨_, q1, q2, GL_push hL ?_ ?_ (fun _ => agr_mkC)⟩, q3⟩)
  · rw [show kd (mkC u q k N') q = k from hu1_eq]; omega
  · have h1 := (qK.2 (tysG G).length (cA, .object C) (by rw [List.getElem?_append_right (Nat.le_refl _), Nat.sub_self]; rfl)).2
    have h2 := (X.2.2.2.2.2.2.1.1.2 t0 _ ht).2
    rw [show cA = G.2.1 k from va_RA_inj h1 h2]
    exact cell_mkR hk
/-! returns -/
def QI (G : GT) (below : List Frame) (K : Int32 → Hp → Prop) (args : Array Value) (s : State) (mc ms : Nat) : State → Prop := MQ below (va_Qi K (fun u t => GH G u t.heap) (GA G)) args s mc ms (GA G)
def QJ (G : GT) (below : List Frame) (K : Int64 → Hp → Prop) (args : Array Value) (s : State) (mc ms : Nat) : State → Prop := MQ below (va_Ql K (fun u t => GH G u t.heap) (GA G)) args s mc ms (GA G)
def QV (G : GT) (below : List Frame) (K : Hp → Prop) (args : Array Value) (s : State) (mc ms : Nat) : State → Prop := MQ below (va_Qv K (fun u t => GH G u t.heap) (GA G)) args s mc ms (GA G)
def QR (G : GT) (below : List Frame) (K : Option Nat → Hp → Prop) (args : Array Value) (s : State) (mc ms : Nat) : State → Prop := MQ below (va_Qq K (fun u t => GH G u t.heap) (GA G)) args s mc ms (GA G)
theorem g_iret (X : Mc G p s m args meth c own cc nL) (hw : GW G u s H locs) {K : Int32 → Hp → Prop} {v : Int32} {MC MS : Nat} (hr : meth.sig.returnType = some .int) (h : K v u) (hb1 : cells ≤ MC) (hb2 : slots ≤ MS) (hdg : decode cc pc = .ok (.ireturn, 1)) : W p l e R s m args below meth c H locs cells slots (QI G below K args s MC MS) (F0 m pc ls [.int v]) :=
  W.widen hb1 hb2 (W.iret X.1 X.2.1 hr (fun t ht hW => ⟨⟨v, u, rfl, h, by show GH G u t.heap; rw [ht]; exact hw.1⟩, hw.2.F ht⟩) hw.2.2.2 hdg X.2.2.2.2.2.1)
theorem g_zret (X : Mc G p s m args meth c own cc nL) (hw : GW G u s H locs) {K : Int32 → Hp → Prop} {v : Int32} {MC MS : Nat} {ty : FieldType} (hr : meth.sig.returnType = some ty) (hn : narrow ty (.int v) = .int v) (h : K v u) (hb1 : cells ≤ MC) (hb2 : slots ≤ MS) (hdg : decode cc pc = .ok (.ireturn, 1)) : W p l e R s m args below meth c H locs cells slots (QI G below K args s MC MS) (F0 m pc ls [.int v]) :=
  W.widen hb1 hb2 (W.zret X.1 X.2.1 hr hn (fun t ht hW => ⟨⟨v, u, rfl, h, by show GH G u t.heap; rw [ht]; exact hw.1⟩, hw.2.F ht⟩) hw.2.2.2 hdg X.2.2.2.2.2.1)
theorem g_lret (X : Mc G p s m args meth c own cc nL) (hw : GW G u s H locs) {K : Int64 → Hp → Prop} {v : Int64} {MC MS : Nat} (hr : meth.sig.returnType = some .long) (h : K v u) (hb1 : cells ≤ MC) (hb2 : slots ≤ MS) (hdg : decode cc pc = .ok (.lreturn, 1)) : W p l e R s m args below meth c H locs cells slots (QJ G below K args s MC MS) (F0 m pc ls [.long v]) :=
  W.widen hb1 hb2 (W.lret X.1 X.2.1 hr (fun t ht hW => ⟨⟨v, u, rfl, h, by show GH G u t.heap; rw [ht]; exact hw.1⟩, hw.2.F ht⟩) hw.2.2.2 hdg X.2.2.2.2.2.1)
theorem g_vret (X : Mc G p s m args meth c own cc nL) (hw : GW G u s H locs) {K : Hp → Prop} {MC MS : Nat} (hr : meth.sig.returnType = none) (h : K u) (hb1 : cells ≤ MC) (hb2 : slots ≤ MS) (hdg : decode cc pc = .ok (.return_, 1)) : W p l e R s m args below meth c H locs cells slots (QV G below K args s MC MS) (F0 m pc ls []) :=
  W.widen hb1 hb2 (W.vret X.1 X.2.1 hr (fun t ht hW => ⟨⟨u, rfl, h, by show GH G u t.heap; rw [ht]; exact hw.1⟩, hw.2.F ht⟩) hw.2.2.2 hdg X.2.2.2.2.2.1)
theorem g_aret (X : Mc G p s m args meth c own cc nL) (hw : GW G u s H locs) {K : Option Nat → Hp → Prop} {v : Option Nat} {MC MS : Nat} {rt : FieldType} (hr : meth.sig.returnType = some rt) (hrt : (∃ n, rt = .object n) ∨ ∃ t, rt = .array t) (h : K v u) (hb1 : cells ≤ MC) (hb2 : slots ≤ MS) (hdg : decode cc pc = .ok (.areturn, 1)) : W p l e R s m args below meth c H locs cells slots (QR G below K args s MC MS) (F0 m pc ls [va_rf v]) :=
  W.widen hb1 hb2 (W.aret X.1 X.2.1 hr hrt (by cases v with | none => exact Or.inl rfl | some b => exact Or.inr ⟨b, rfl⟩) (fun t ht hW => ⟨⟨v, u, rfl, h, by show GH G u t.heap; rw [ht]; exact hw.1⟩, hw.2.F ht⟩) hw.2.2.2 hdg X.2.2.2.2.2.1)
/-! calls -/
theorem g_pre (X : Mc G p s m args meth c own cc nL) (hw : GW G u s H locs) {As : List Value} : ∀ U : State, U.heap = H → s.WarmedH U.vm → va_Pc As (GB G u) As.toArray U := fun U hU hW =>
  ⟨rfl, by rw [hU]; exact Nat.le_trans X.2.2.2.2.2.2.2 hw.2.1, by rw [hU]; exact hw.1, X.2.2.2.2.2.2.1.warm hW (fun q h1 h2 => by rw [hU]; exact hw.2.2.1 q h1 h2)⟩
theorem g_recv (X : Mc G p s m args meth c own cc nL) (hw : GW G u s H locs) {ci : Nat} {q : vw_C} (hk : kd u a = ci + 1) (hc : clG[ci]? = some q) : ∃ cell : Cell, H[a]? = some cell ∧ cell.vm.isStatics = false ∧ s.vm.findClass q.1 = some cell.cls := by
  have hci := ci_lt hc
  obtain ⟨ws, k0, hP, hD, hL, h0⟩ := GH.at (u := u) (a := a) (by omega) (by omega) hw.1
  rw [cellOf_obj hk hci] at h0
  exact va_recv X.2.2.2.2.2.2.1.1 hP hc h0
/-- a String, made or frozen -/
theorem g_recvS (X : Mc G p s m args meth c own cc nL) (hw : GW G u s H locs) (hk : kd u a = 21 ∨ kd u a = 201) : ∃ cell : Cell, H[a]? = some cell ∧ cell.vm.isStatics = false ∧ s.vm.findClass "java/lang/String" = some cell.cls := by
  rcases hk with hk | hk
  · exact g_recv X hw (ci := 20) (q := (RJ3, TJ3, 4)) hk rfl
  · obtain ⟨⟨ws, hP, hD, hL⟩, hS⟩ := hw
    rcases hL a (by omega) with ⟨h2, -⟩ | ⟨h1, h7, h2, -⟩
    · omega
    · have hk1 : kd (Gf G) a = 201 := by omega
      obtain ⟨cell, e1, e2, e3, -⟩ := ((X.2.2.2.2.2.2.1.2.2.2.2.2.2.2.2.2.1 a).1 hk1).1.kept hS.2.1
      exact ⟨cell, e1, e2, e3⟩
theorem g_calli {st0 : List Value} {mc ms : Nat} {a0 : Array Value} {K : Int32 → Hp → Prop} (hw : GW G u s H locs) (hr : va_Run p l e R s m args below meth c H locs cells slots mc ms (F0 m pc ls st0) rest (va_Qi K (fun u t => GH G u t.heap) (GA G) a0) (GA G)) (kk : ∀ (r : Int32) (u1 : Hp) (H1 : Heap) (locs1 : List Loc), K r u1 → GW G u1 s H1 locs1 → W p l e R s m args below meth c H1 locs1 (cells + mc) (slots + ms) Q (F0 m (pc + 3) ls (.int r :: rest))) : W p l e R s m args below meth c H locs cells slots Q (F0 m pc ls st0) :=
  va_calli hr hw.2 (fun q _ h => h) (fun q h => h) (fun r u1 t H1 locs1 ht hvm hp hb hz hk hS => kk r u1 H1 locs1 hp ⟨by rw [← ht]; exact hb, hS⟩)
theorem g_calll {st0 : List Value} {mc ms : Nat} {a0 : Array Value} {K : Int64 → Hp → Prop} (hw : GW G u s H locs) (hr : va_Run p l e R s m args below meth c H locs cells slots mc ms (F0 m pc ls st0) rest (va_Ql K (fun u t => GH G u t.heap) (GA G) a0) (GA G)) (kk : ∀ (r : Int64) (u1 : Hp) (H1 : Heap) (locs1 : List Loc), K r u1 → GW G u1 s H1 locs1 → W p l e R s m args below meth c H1 locs1 (cells + mc) (slots + ms) Q (F0 m (pc + 3) ls (.long r :: rest))) : W p l e R s m args below meth c H locs cells slots Q (F0 m pc ls st0) :=
  va_calll hr hw.2 (fun q _ h => h) (fun q h => h) (fun r u1 t H1 locs1 ht hvm hp hb hz hk hS => kk r u1 H1 locs1 hp ⟨by rw [← ht]; exact hb, hS⟩)
theorem g_callv {st0 : List Value} {mc ms : Nat} {a0 : Array Value} {K : Hp → Prop} (hw : GW G u s H locs) (hr : va_Run p l e R s m args below meth c H locs cells slots mc ms (F0 m pc ls st0) rest (va_Qv K (fun u t => GH G u t.heap) (GA G) a0) (GA G)) (kk : ∀ (u1 : Hp) (H1 : Heap) (locs1 : List Loc), K u1 → GW G u1 s H1 locs1 → W p l e R s m args below meth c H1 locs1 (cells + mc) (slots + ms) Q (F0 m (pc + 3) ls rest)) : W p l e R s m args below meth c H locs cells slots Q (F0 m pc ls st0) :=
  va_callv hr hw.2 (fun q _ h => h) (fun q h => h) (fun u1 t H1 locs1 ht hvm hp hb hz hk hS => kk u1 H1 locs1 hp ⟨by rw [← ht]; exact hb, hS⟩)
theorem g_callr {st0 : List Value} {mc ms : Nat} {a0 : Array Value} {K : Option Nat → Hp → Prop} (hw : GW G u s H locs) (hr : va_Run p l e R s m args below meth c H locs cells slots mc ms (F0 m pc ls st0) rest (va_Qq K (fun u t => GH G u t.heap) (GA G) a0) (GA G)) (kk : ∀ (r : Option Nat) (u1 : Hp) (H1 : Heap) (locs1 : List Loc), K r u1 → GW G u1 s H1 locs1 → W p l e R s m args below meth c H1 locs1 (cells + mc) (slots + ms) Q (F0 m (pc + 3) ls (va_rf r :: rest))) : W p l e R s m args below meth c H locs cells slots Q (F0 m pc ls st0) :=
  va_callq hr hw.2 (fun q _ h => h) (fun q h => h) (fun r u1 t H1 locs1 ht hvm hp hb hz hk hS => kk r u1 H1 locs1 hp ⟨by rw [← ht]; exact hb, hS⟩)
/-- an unknown reference: null or not -/
theorem g_ifnull (X : Mc G p s m args meth c own cc nL) {o : Option Nat} {off : Int} {tgt : Nat} (hdg : decode cc pc = .ok (.ifnull off, 3)) (ht : (pc : Int) + off = (tgt : Int)) (kt : o = none → W p l e R s m args below meth c H locs cells slots Q (F0 m tgt ls rest)) (kf : ∀ b, o = some b → W p l e R s m args below meth c H locs cells slots Q (F0 m (pc + 3) ls rest)) : W p l e R s m args below meth c H locs cells slots Q (F0 m pc ls (va_rf o :: rest)) := by
  cases o with
  | none => exact lv_ifnullN X.1 X.2.1 hdg ht (kt rfl)
  | some b => exact lv_ifnull X.1 X.2.1 hdg (kf b rfl)
theorem g_ifnonnull (X : Mc G p s m args meth c own cc nL) {o : Option Nat} {off : Int} {tgt : Nat} (hdg : decode cc pc = .ok (.ifnonnull off, 3)) (ht : (pc : Int) + off = (tgt : Int)) (kt : ∀ b, o = some b → W p l e R s m args below meth c H locs cells slots Q (F0 m tgt ls rest)) (kf : o = none → W p l e R s m args below meth c H locs cells slots Q (F0 m (pc + 3) ls rest)) : W p l e R s m args below meth c H locs cells slots Q (F0 m pc ls (va_rf o :: rest)) := by
  cases o with
  | none => exact lv_ifnonnullN X.1 X.2.1 hdg (kf rfl)
  | some b => exact lv_ifnonnull X.1 X.2.1 hdg ht (kt b rfl)
end GR
