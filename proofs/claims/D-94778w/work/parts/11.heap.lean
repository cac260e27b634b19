/-! THE PURE HEAP (own work): one total picture of all cells, its changes, and its tie to the machine's heap -/
abbrev Hp : Type := (Nat → Nat) × (Nat → Nat) × (Nat → Nat → Int32) × (Nat → Nat → Option Nat) × (Nat → Nat → Int64) × (Nat → Nat → Int32) × (Nat → Nat → Int64) × (Nat → Nat → Option Nat)
/-- kind of a cell: 0 none, 1.. objects by place in clG, 101.. arrays, 201.. frozen -/
def kd (u : Hp) : Nat → Nat := u.1
/-- length of an array -/
def ln (u : Hp) : Nat → Nat := u.2.1
/-- int field n of a -/
def FI (u : Hp) : Nat → Nat → Int32 := u.2.2.1
/-- reference field n of a -/
def FR (u : Hp) : Nat → Nat → Option Nat := u.2.2.2.1
/-- long field n of a -/
def FJ (u : Hp) : Nat → Nat → Int64 := u.2.2.2.2.1
/-- contents of an array of ints (bytes, chars, booleans) -/
def AI (u : Hp) : Nat → Nat → Int32 := u.2.2.2.2.2.1
def AJ (u : Hp) : Nat → Nat → Int64 := u.2.2.2.2.2.2.1
def AR (u : Hp) : Nat → Nat → Option Nat := u.2.2.2.2.2.2.2
def hu1 {α : Type} (f : Nat → α) (a : Nat) (v : α) : Nat → α := fun x => if x = a then v else f x
def hu2 {α : Type} (f : Nat → Nat → α) (n a : Nat) (v : α) : Nat → Nat → α := fun x y => if x = n ∧ y = a then v else f x y
def sFI (u : Hp) (n a : Nat) (v : Int32) : Hp := (kd u, ln u, hu2 (FI u) n a v, FR u, FJ u, AI u, AJ u, AR u)
def sFR (u : Hp) (n a : Nat) (v : Option Nat) : Hp := (kd u, ln u, FI u, hu2 (FR u) n a v, FJ u, AI u, AJ u, AR u)
def sFJ (u : Hp) (n a : Nat) (v : Int64) : Hp := (kd u, ln u, FI u, FR u, hu2 (FJ u) n a v, AI u, AJ u, AR u)
def sAI (u : Hp) (a : Nat) (f : Nat → Int32) : Hp := (kd u, ln u, FI u, FR u, FJ u, hu1 (AI u) a f, AJ u, AR u)
def sAJ (u : Hp) (a : Nat) (f : Nat → Int64) : Hp := (kd u, ln u, FI u, FR u, FJ u, AI u, hu1 (AJ u) a f, AR u)
def sAR (u : Hp) (a : Nat) (f : Nat → Option Nat) : Hp := (kd u, ln u, FI u, FR u, FJ u, AI u, AJ u, hu1 (AR u) a f)
/-- a new cell q of kind k (an array of length n) with default contents -/
def mkC (u : Hp) (q k n : Nat) : Hp := (hu1 (kd u) q k, hu1 (ln u) q n, fun x y => if y = q then 0 else FI u x y, fun x y => if y = q then none else FR u x y, fun x y => if y = q then 0 else FJ u x y, hu1 (AI u) q (fun _ => 0), hu1 (AJ u) q (fun _ => 0), hu1 (AR u) q (fun _ => none))
/-- two pictures agree at a cell -/
def agr (u w : Hp) (b : Nat) : Prop := kd w b = kd u b ∧ ln w b = ln u b ∧ (∀ n, FI w n b = FI u n b) ∧ (∀ n, FR w n b = FR u n b) ∧ (∀ n, FJ w n b = FJ u n b) ∧ AI w b = AI u b ∧ AJ w b = AJ u b ∧ AR w b = AR u b
theorem hu1_ne {α : Type} {f : Nat → α} {a b : Nat} {v : α} (h : b ≠ a) : hu1 f a v b = f b := if_neg h
theorem hu1_eq {α : Type} {f : Nat → α} {a : Nat} {v : α} : hu1 f a v a = v := if_pos rfl
theorem hu2_ne {α : Type} {f : Nat → Nat → α} {n a m b : Nat} {v : α} (h : b ≠ a) : hu2 f n a v m b = f m b := if_neg (fun z => h z.2)
theorem hu2_nm {α : Type} {f : Nat → Nat → α} {n a m b : Nat} {v : α} (h : m ≠ n) : hu2 f n a v m b = f m b := if_neg (fun z => h z.1)
theorem hu2_eq {α : Type} {f : Nat → Nat → α} {n a : Nat} {v : α} : hu2 f n a v n a = v := if_pos ⟨rfl, rfl⟩
theorem agr_sFI {u : Hp} {n a b : Nat} {v : Int32} (h : b ≠ a) : agr u (sFI u n a v) b := ⟨rfl, rfl, fun _ => hu2_ne h, fun _ => rfl, fun _ => rfl, rfl, rfl, rfl⟩
theorem agr_sFR {u : Hp} {n a b : Nat} {v : Option Nat} (h : b ≠ a) : agr u (sFR u n a v) b := ⟨rfl, rfl, fun _ => rfl, fun _ => hu2_ne h, fun _ => rfl, rfl, rfl, rfl⟩
theorem agr_sFJ {u : Hp} {n a b : Nat} {v : Int64} (h : b ≠ a) : agr u (sFJ u n a v) b := ⟨rfl, rfl, fun _ => rfl, fun _ => rfl, fun _ => hu2_ne h, rfl, rfl, rfl⟩
theorem agr_sAI {u : Hp} {a b : Nat} {f : Nat → Int32} (h : b ≠ a) : agr u (sAI u a f) b := ⟨rfl, rfl, fun _ => rfl, fun _ => rfl, fun _ => rfl, hu1_ne h, rfl, rfl⟩
theorem agr_sAJ {u : Hp} {a b : Nat} {f : Nat → Int64} (h : b ≠ a) : agr u (sAJ u a f) b := ⟨rfl, rfl, fun _ => rfl, fun _ => rfl, fun _ => rfl, rfl, hu1_ne h, rfl⟩
theorem agr_sAR {u : Hp} {a b : Nat} {f : Nat → Option Nat} (h : b ≠ a) : agr u (sAR u a f) b := ⟨rfl, rfl, fun _ => rfl, fun _ => rfl, fun _ => rfl, rfl, rfl, hu1_ne h⟩
theorem agr_mkC {u : Hp} {q k n b : Nat} (h : b ≠ q) : agr u (mkC u q k n) b := ⟨hu1_ne h, hu1_ne h, fun _ => if_neg h, fun _ => if_neg h, fun _ => if_neg h, hu1_ne h, hu1_ne h, hu1_ne h⟩
/-- the fields of an object: their sorts (0 int, 1 reference, 2 long) and numbers -/
def lay (ci : Nat) : List (Nat × Nat) := layT.getD ci []
def fval (u : Hp) (a : Nat) (q : Nat × Nat) : Value := match q.1 with
  | 0 => .int (FI u q.2 a)
  | 1 => va_rf (FR u q.2 a)
  | _ => .long (FJ u q.2 a)
def flds (u : Hp) (ci a : Nat) : List Value := (lay ci).map (fval u a)
theorem lay_nd (ci : Nat) : ((lay ci).map (·.2)).Nodup := by
  have key : ∀ l ∈ layT, (l.map (·.2)).Nodup := by decide +kernel
  unfold lay
  rcases Nat.lt_or_ge ci layT.length with h | h
  · rw [List.getD_eq_getElem?_getD, List.getElem?_eq_getElem h]
    exact key _ (List.getElem_mem h)
  · rw [List.getD_eq_getElem?_getD, List.getElem?_eq_none h]
    exact List.nodup_nil
theorem flds_at {u : Hp} {ci a k : Nat} {q : Nat × Nat} (h : (lay ci)[k]? = some q) : (flds u ci a)[k]? = some (fval u a q) := by
  simp [flds, h]
theorem flds_len {u : Hp} {ci a k : Nat} {q : Nat × Nat} (h : (lay ci)[k]? = some q) : k < (flds u ci a).length := by
  have := (List.getElem?_eq_some_iff.mp h).1
  simpa [flds] using this
theorem flds_set {u w : Hp} {ci a k t n : Nat} {v : Value} (hl : (lay ci)[k]? = some (t, n)) (hv : fval w a (t, n) = v) (hoff : ∀ q : Nat × Nat, q.2 ≠ n → fval w a q = fval u a q) : flds w ci a = (flds u ci a).set k v := by
  apply List.ext_getElem?
  intro i
  rw [List.getElem?_set]
  by_cases hi : k = i
  · subst hi
    rw [if_pos rfl, if_pos (flds_len hl), flds_at hl, hv]
  · rw [if_neg hi]
    simp only [flds, List.getElem?_map]
    cases hq : (lay ci)[i]? with
    | none => rfl
    | some q =>
      refine congrArg some (hoff q fun e => hi ?_)
      have h1 : ((lay ci).map (·.2))[k]? = some n := by simp [hl]
      have h2 : ((lay ci).map (·.2))[i]? = some n := by simp [hq, e]
      have hk : k < ((lay ci).map (·.2)).length := (List.getElem?_eq_some_iff.mp h1).1
      exact (List.getElem?_inj hk (lay_nd ci)).mp (h1.trans h2.symm)
def acont (u : Hp) (a : Nat) : (Nat → Int32) ⊕ (Nat → Int64) ⊕ (Nat → UInt32) ⊕ (Nat → UInt64) ⊕ (Nat → Option Nat) :=
  if kd u a = 105 then .inr (.inl (AJ u a)) else if kd u a = 106 ∨ kd u a = 107 then .inr (.inr (.inr (.inr (AR u a)))) else .inl (AI u a)
/-- the fixed things: slots, classes of arrays by kind, the first own address, the frozen picture, the constants' addresses, static references -/
abbrev GT : Type := va_G × (Nat → ClassId) × Nat × Hp × (Nat → Nat) × (Nat → Option Nat)
def GA (G : GT) : Nat → Prop := fun q => G.2.2.1 ≤ q
def Gf (G : GT) : Hp := G.2.2.2.1
def Glit (G : GT) : Nat → Nat := G.2.2.2.2.1
def Gst (G : GT) : Nat → Option Nat := G.2.2.2.2.2
def cellOf (G : GT) (u : Hp) (a : Nat) : va_E := if kd u a ≤ 100 then .inr (kd u a - 1, flds u (kd u a - 1) a) else .inl (G.2.1 (kd u a), ln u a, acont u a)
theorem flds_congr {u w : Hp} {ci b : Nat} (h : agr u w b) : flds w ci b = flds u ci b := by
  unfold flds
  refine List.map_congr_left fun q _ => ?_
  obtain ⟨t, n⟩ := q
  obtain ⟨-, -, h1, h2, h3, -⟩ := h
  match t with
  | 0 => exact congrArg Value.int (h1 n)
  | 1 => exact congrArg va_rf (h2 n)
  | t + 2 => exact congrArg Value.long (h3 n)
theorem cellOf_congr {G : GT} {u w : Hp} {b : Nat} (h : agr u w b) : cellOf G w b = cellOf G u b := by
  have hf := flds_congr (ci := kd u b - 1) h
  obtain ⟨h1, h2, -, -, -, h6, h7, h8⟩ := h
  unfold cellOf acont
  rw [h1, h2, h6, h7, h8, hf]
theorem cellOf_obj {G : GT} {u : Hp} {a ci : Nat} (h : kd u a = ci + 1) (hc : ci < 100) : cellOf G u a = .inr (ci, flds u ci a) := by
  unfold cellOf
  rw [if_pos (by omega), h]
  rfl
theorem cellOf_I {G : GT} {u : Hp} {a k : Nat} (h : kd u a = k) (h1 : 100 < k) (h5 : k ≠ 105) (h6 : k ≠ 106) (h7 : k ≠ 107) : cellOf G u a = .inl (G.2.1 k, ln u a, .inl (AI u a)) := by
  unfold cellOf acont
  rw [if_neg (by omega), if_neg (by omega), if_neg (by omega), h]
theorem cellOf_J {G : GT} {u : Hp} {a : Nat} (h : kd u a = 105) : cellOf G u a = .inl (G.2.1 105, ln u a, .inr (.inl (AJ u a))) := by
  unfold cellOf acont
  rw [if_neg (by omega), if_pos h, h]
theorem cellOf_R {G : GT} {u : Hp} {a k : Nat} (h : kd u a = k) (hk : k = 106 ∨ k = 107) : cellOf G u a = .inl (G.2.1 k, ln u a, .inr (.inr (.inr (.inr (AR u a))))) := by
  unfold cellOf acont
  rw [if_neg (by omega), if_neg (by omega), if_pos (by omega), h]
/-- the list of cells is the picture; what is frozen is as it was -/
def GL (G : GT) (u : Hp) (ws : va_W) : Prop := ∀ a : Nat, kd u a ≠ 0 → (kd u a ≤ 200 ∧ ∃ k : Nat, ws[k]? = some (a, cellOf G u a)) ∨ (200 < kd u a ∧ ¬ GA G a ∧ kd u a = kd (Gf G) a ∧ (∀ n, FR u n a = FR (Gf G) n a) ∧ (∀ n, FI u n a = FI (Gf G) n a) ∧ ln u a = ln (Gf G) a ∧ AI u a = AI (Gf G) a)
def GH (G : GT) (u : Hp) (H : Heap) : Prop := ∃ ws : va_W, va_P G.1 clG ws H ∧ va_D (GA G) ws ∧ GL G u ws
def GW (G : GT) (u : Hp) (s : State) (H : Heap) (locs : List Loc) : Prop := GH G u H ∧ va_S (GA G) s.heap H locs
/-- what holds of the frozen cells -/
def frzK (G : GT) (U : State) : Prop := ∀ a : Nat, (kd (Gf G) a = 201 → va_O "java/lang/String" a (GA G) U U.heap ∧ va_OF "java/lang/String" "value" "[B" (va_rf (FR (Gf G) 2400 a)) a (GA G) U U.heap ∧ va_OF "java/lang/String" "coder" "B" (.int (FI (Gf G) 2401 a)) a (GA G) U U.heap) ∧
  (kd (Gf G) a = 202 → va_T .byte a (ln (Gf G) a) (fun j => .int (AI (Gf G) a j)) (GA G) U U.heap) ∧ (kd (Gf G) a = 203 → va_T .int a (ln (Gf G) a) (fun j => .int (AI (Gf G) a j)) (GA G) U U.heap)
def tysG (G : GT) : List (ClassId × FieldType) := [(G.2.1 101, .int), (G.2.1 102, .byte), (G.2.1 103, .char), (G.2.1 104, .boolean), (G.2.1 105, .long), (G.2.1 106, .object "FifthCard$Rule"), (G.2.1 107, .object "FifthCard$Log")]
/-- where a static field lies, its class's statics cell in H (as the exceptions' rows want it) -/
def g_zL (C n d : String) (A : Nat → Prop) (U : State) (H : Heap) : Prop := ∃ (c : ClassId) (k : Class) (i : Nat) (f : Field) (a : Nat) (cell : Cell), U.vm.findClass C = some c ∧ U.fieldFound? C n d = some (c, k, i, f) ∧ f.isStatic = true ∧ k.statics = some a ∧ H[a]? = some cell ∧ cell.vm.isStatics = true ∧ cell.cls = c ∧ f.slot < cell.slots.size ∧ k.staticTypes[f.slot]? = some f.type ∧ ¬ A a
theorem g_zL.moved {C n d : String} {A : Nat → Prop} {u U : State} {H : Heap} (hvm : u.vm.Alike U.vm) (h : g_zL C n d A u H) : g_zL C n d A U H := by
  obtain ⟨c, k, i, f, a, cell, h1, h2, h3, h4, h5, h6, h7, h8, h9, h10⟩ := h
  obtain ⟨k', hi', he⟩ := State.fieldFound?_setVm hvm h2
  exact ⟨c, k', i, f, a, cell, by rw [hvm.findClass]; exact h1, hi', h3, by rw [he]; exact h4, h5, h6, h7, h8, by rw [he]; exact h9, h10⟩
theorem g_zL.kept {C n d : String} {A : Nat → Prop} {U : State} {H H1 : Heap} (h : g_zL C n d A U H) (hq : ∀ a : Nat, a < H.size → ¬ A a → H1[a]? = H[a]?) : g_zL C n d A U H1 := by
  obtain ⟨c, k, i, f, a, cell, h1, h2, h3, h4, h5, h6, h7, h8, h9, h10⟩ := h
  exact ⟨c, k, i, f, a, cell, h1, h2, h3, h4, by rw [hq a (Array.getElem?_eq_some_iff.mp h5).1 h10]; exact h5, h6, h7, h8, h9, h10⟩
def g_zT (G : GT) (U : State) : Prop := g_zL "java/lang/Throwable" "UNASSIGNED_STACK" "[Ljava/lang/StackTraceElement;" (GA G) U U.heap ∧ g_zL "java/lang/Throwable" "SUPPRESSED_SENTINEL" "Ljava/util/List;" (GA G) U U.heap
/-- what holds of the tables all along -/
def GK (G : GT) (U : State) : Prop := va_K G.1 clG (tysG G) U ∧ (∀ q ∈ nestF, va_Nw (.fieldLinkNest q.1 q.2.1 q.2.2.1 q.2.2.2.1 q.2.2.2.2.1 q.2.2.2.2.2) U) ∧ (∀ q ∈ nestM, va_Nw (.methodLinkNest q.1 q.2.1 q.2.2.1 q.2.2.2) U) ∧ (∀ q ∈ castY, va_Nw (.castable q.1 q.2) U) ∧ (∀ q ∈ castN, va_Nc q.1 q.2 U) ∧ (va_AO "FifthCard$Rule" U ∧ va_AO "FifthCard$Log" U ∧ ∀ x ∈ declG, va_Nw (.declares x) U) ∧
  (∀ (j : Nat) (q : String × Nat × String), litTab[j]? = some q → vk_R q.1 q.2.1 q.2.2 (Glit G j) U) ∧ (∀ q ∈ statI, va_Z q.1 q.2.1 q.2.2.1 (.int q.2.2.2) (GA G) U U.heap) ∧ (∀ (j : Nat) (q : String × String × String), statR[j]? = some q → va_Z q.1 q.2.1 q.2.2 (va_rf (Gst G j)) (GA G) U U.heap) ∧ frzK G U ∧ g_zT G U
def GB (G : GT) (u : Hp) (U : State) : Prop := G.2.2.1 ≤ U.heap.size ∧ GH G u U.heap ∧ GK G U
theorem GL_set {G : GT} {u w : Hp} {ws : va_W} {a k0 : Nat} {e0 e1 : va_E} (hL : GL G u ws) (h0 : ws[k0]? = some (a, e0)) (hd : ∀ k : Nat, ∀ e : va_E, ws[k]? = some (a, e) → k = k0) (hk : kd u a ≤ 200) (he : cellOf G w a = e1) (hka : kd w a = kd u a) (hoff : ∀ b, b ≠ a → agr u w b) : GL G w (ws.set k0 (a, e1)) := by
  intro b hb
  have hlt : k0 < ws.length := (List.getElem?_eq_some_iff.mp h0).1
  by_cases hab : b = a
  · subst hab
    refine Or.inl ⟨by rw [hka]; exact hk, k0, ?_⟩
    rw [List.getElem?_set, if_pos rfl, if_pos hlt, he]
  · have ha := hoff b hab
    have hb' : kd u b ≠ 0 := by rw [← ha.1]; exact hb
    rcases hL b hb' with ⟨h1, k, h2⟩ | ⟨h1, h7, h2, h3, h4, h5, h6⟩
    · refine Or.inl ⟨by rw [ha.1]; exact h1, k, ?_⟩
      have hne : k0 ≠ k := by
        intro e
        subst e
        rw [h0] at h2
        cases h2
        exact hab rfl
      rw [List.getElem?_set, if_neg hne, h2, cellOf_congr ha]
    · exact Or.inr ⟨by rw [ha.1]; exact h1, h7, by rw [ha.1]; exact h2, fun n => by rw [ha.2.2.2.1]; exact h3 n, fun n => by rw [ha.2.2.1]; exact h4 n, by rw [ha.2.1]; exact h5, by rw [ha.2.2.2.2.2.1]; exact h6⟩
theorem GL_push {G : GT} {u w : Hp} {ws : va_W} {q : Nat} {e1 : va_E} (hL : GL G u ws) (hk : kd w q ≤ 200) (he : cellOf G w q = e1) (hoff : ∀ b, b ≠ q → agr u w b) : GL G w (ws ++ [(q, e1)]) := by
  intro b hb
  by_cases hab : b = q
  · subst hab
    refine Or.inl ⟨hk, ws.length, ?_⟩
    rw [List.getElem?_append_right (Nat.le_refl _), Nat.sub_self, he]
    rfl
  · have ha := hoff b hab
    have hb' : kd u b ≠ 0 := by rw [← ha.1]; exact hb
    rcases hL b hb' with ⟨h1, k, h2⟩ | ⟨h1, h7, h2, h3, h4, h5, h6⟩
    · refine Or.inl ⟨by rw [ha.1]; exact h1, k, ?_⟩
      rw [List.getElem?_append_left (List.getElem?_eq_some_iff.mp h2).1, h2, cellOf_congr ha]
    · exact Or.inr ⟨by rw [ha.1]; exact h1, h7, by rw [ha.1]; exact h2, fun n => by rw [ha.2.2.2.1]; exact h3 n, fun n => by rw [ha.2.2.1]; exact h4 n, by rw [ha.2.1]; exact h5, by rw [ha.2.2.2.2.2.1]; exact h6⟩
theorem va_D.one {A : Nat → Prop} {ws : va_W} {a k0 : Nat} {e0 : va_E} (hD : va_D A ws) (h0 : ws[k0]? = some (a, e0)) : ∀ k : Nat, ∀ e : va_E, ws[k]? = some (a, e) → k = k0 := fun k e h => hD.1 k k0 (a, e) (a, e0) h h0 rfl
theorem GH.at {G : GT} {u : Hp} {H : Heap} {a : Nat} (h0 : kd u a ≠ 0) (h2 : kd u a ≤ 200) (h : GH G u H) : ∃ (ws : va_W) (k : Nat), va_P G.1 clG ws H ∧ va_D (GA G) ws ∧ GL G u ws ∧ ws[k]? = some (a, cellOf G u a) := by
  obtain ⟨ws, hP, hD, hL⟩ := h
  rcases hL a h0 with ⟨-, k, hk⟩ | ⟨h3, -⟩
  · exact ⟨ws, k, hP, hD, hL, hk⟩
  · omega
theorem GK.warm {G : GT} {s U : State} (h : GK G s) (hW : s.WarmedH U.vm) (hq : ∀ a : Nat, a < s.heap.size → ¬ GA G a → U.heap[a]? = s.heap[a]?) : GK G U := by
  obtain ⟨h1, h2, h3, h4, h5, h6, h7, h8, h9, h10, h11⟩ := h
  refine ⟨va_K.moved hW.alike h1, fun q hq => va_Nw.warmF hW (h2 q hq), fun q hq => va_Nw.warmM hW (h3 q hq), fun q hq => va_Nw.warmC hW (h4 q hq), fun q hq => va_Nc.moved hW.alike (h5 q hq), ⟨h6.1.moved hW.alike, h6.2.1.moved hW.alike, fun x hx => va_Nw.warmD hW (h6.2.2 x hx)⟩, fun j q hq => vk_R.warm hW (h7 j q hq), fun q hm => (va_Z.moved hW.alike (h8 q hm)).kept hq, fun j q hm => (va_Z.moved hW.alike (h9 j q hm)).kept hq, fun a => ?_, (h11.1.moved hW.alike).kept hq, (h11.2.moved hW.alike).kept hq⟩
  obtain ⟨g1, g2, g3⟩ := h10 a
  exact ⟨fun e => ⟨(va_O.moved hW.alike (g1 e).1).kept hq, (va_OF.moved hW.alike (g1 e).2.1).kept hq, (va_OF.moved hW.alike (g1 e).2.2).kept hq⟩, fun e => (va_T.moved hW.alike (g2 e)).kept hq, fun e => (va_T.moved hW.alike (g3 e)).kept hq⟩
theorem GK.same {G : GT} {s U : State} (h : GK G s) (hv : s.vm = U.vm) (hh : U.heap = s.heap) : GK G U := by
  have hA : s.vm.Alike U.vm := by rw [hv]; exact Vm.Alike.refl _
  obtain ⟨h1, h2, h3, h4, h5, h6, h7, h8, h9, h10, h11⟩ := h
  refine ⟨va_K.moved hA h1, fun q hq => va_Nw.same rfl hv (h2 q hq), fun q hq => va_Nw.same rfl hv (h3 q hq), fun q hq => va_Nw.same rfl hv (h4 q hq), fun q hq => va_Nc.moved hA (h5 q hq), ⟨h6.1.moved hA, h6.2.1.moved hA, fun x hx => va_Nw.same rfl hv (h6.2.2 x hx)⟩, fun j q hq => vk_R.same hv.symm (h7 j q hq), fun q hm => (by rw [hh]; exact va_Z.moved hA (h8 q hm)), fun j q hm => (by rw [hh]; exact va_Z.moved hA (h9 j q hm)), fun a => ?_, (by rw [hh]; exact h11.1.moved hA), (by rw [hh]; exact h11.2.moved hA)⟩
  obtain ⟨g1, g2, g3⟩ := h10 a
  rw [hh]
  exact ⟨fun e => ⟨va_O.moved hA (g1 e).1, va_OF.moved hA (g1 e).2.1, va_OF.moved hA (g1 e).2.2⟩, fun e => va_T.moved hA (g2 e), fun e => va_T.moved hA (g3 e)⟩
theorem GB.blind {G : GT} {u : Hp} {As : List Value} : FrameBlind (va_Pc As (GB G u)) := fun a U g mk q => ⟨q.1, q.2.1, q.2.2.1, q.2.2.2.same rfl rfl⟩
